/-! DECODE ROWS BY BYTES: one lemma an opcode; a method's code is cut into short pieces once, and a row reads its own piece alone. -/
set_option maxRecDepth 100000
/-- the code has just these bytes from pc on -/
def DkAt (code : ByteArray) (pc : Nat) (bs : List UInt8) : Prop := ∀ (j : Nat) (b : UInt8), bs[j]? = some b → code.data.toList[pc + j]? = some b
/-- the piece W has the bytes bs from its place j on -/
def dkIn (W : List UInt8) (j : Nat) (bs : List UInt8) : Bool := decide ((W.drop j).take bs.length = bs)
theorem dk_seg {l W T : List UInt8} {o o2 : Nat} (h : l.drop o = W ++ T) (n : Nat) (hn : W.length = n) (ho : o + n = o2) : l.drop o2 = T := by
  subst ho
  rw [← List.drop_drop, h, List.drop_left' hn]
theorem dk_at {code : ByteArray} {W T bs : List UInt8} {o pc : Nat} (h : code.data.toList.drop o = W ++ T) (j : Nat) (hp : o + j = pc) (hw : dkIn W j bs = true) : DkAt code pc bs := by
  subst hp
  intro i b e
  have h1 := of_decide_eq_true hw
  have h2 : i < bs.length := (List.getElem?_eq_some_iff.mp e).1
  have h3 : W[j + i]? = some b := by
    rw [← h1, List.getElem?_take, if_pos h2, List.getElem?_drop] at e
    exact e
  have h4 : j + i < W.length := (List.getElem?_eq_some_iff.mp h3).1
  have h5 : (code.data.toList.drop o)[j + i]? = some b := by
    rw [h, List.getElem?_append_left h4]
    exact h3
  rw [List.getElem?_drop, ← Nat.add_assoc] at h5
  exact h5
theorem dk_u1 {A : ByteArray} {p : Nat} {b : UInt8} (h : A.data.toList[p]? = some b) : (Reader.u1 : Reader DecodeError Nat) A p = .ok (b.toNat, p + 1) := by
  obtain ⟨h1, h2⟩ := List.getElem?_eq_some_iff.mp h
  have h3 : p < A.size := by simpa using h1
  have h4 : A[p]'h3 = b := h2
  have e : (Reader.u1 : Reader DecodeError Nat) A p = (if h : p < A.size then .ok (A[p].toNat, p + 1) else .error (HasTruncated.truncated p)) := by
    show (do if h : p < A.size then do set (p + 1); Pure.pure A[p].toNat else MonadExcept.throw (HasTruncated.truncated p) : Reader DecodeError Nat) A p = _
    by_cases hi : p < A.size
    · rw [dif_pos hi, dif_pos hi]; rfl
    · rw [dif_neg hi, dif_neg hi]; rfl
  rw [e, dif_pos h3, h4]
theorem dk_bind {α β : Type} {r : Reader DecodeError α} {f : α → Reader DecodeError β} {A : ByteArray} {p s : Nat} {a : α} (h : r A p = .ok (a, s)) : (r >>= f) A p = f a A s := by
  show (do let (a, s) ← r A p; f a A s : Except DecodeError (β × Nat)) = _
  rw [h]
  rfl
theorem dk_map {α β : Type} {r : Reader DecodeError α} {g : α → β} {A : ByteArray} {p s : Nat} {a : α} (h : r A p = .ok (a, s)) : (g <$> r) A p = .ok (g a, s) := by
  show (do let (a, s) ← r A p; .ok (g a, s) : Except DecodeError (β × Nat)) = _
  rw [h]
  rfl
theorem dk_u2 {A : ByteArray} {p : Nat} {a b : UInt8} (h : A.data.toList[p]? = some a) (h2 : A.data.toList[p + 1]? = some b) : (Reader.u2 : Reader DecodeError Nat) A p = .ok (a.toNat * 256 + b.toNat, p + 2) := by
  show (Reader.u1 >>= fun hi => Reader.u1 >>= fun lo => Pure.pure (hi * 256 + lo) : Reader DecodeError Nat) A p = _
  rw [dk_bind (dk_u1 h), dk_bind (dk_u1 h2)]
  rfl
theorem dk_of {code : ByteArray} {pc n : Nat} {i : Instr} (h : Decoder.instr pc code pc = .ok (i, pc + n)) : decode code pc = .ok (i, n) := by
  have e : decode code pc = (match Decoder.instr pc code pc with | .error x => .error x | .ok (j, s) => .ok (j, s - pc)) := by
    show (do let (j, s) ← Decoder.instr pc code pc; Pure.pure (j, s - pc) : Except DecodeError (Instr × Nat)) = _
    cases Decoder.instr pc code pc <;> rfl
  rw [e, h]
  show Except.ok (i, pc + n - pc) = _
  rw [Nat.add_sub_cancel_left]
theorem dk_1 {code : ByteArray} {pc : Nat} (h : DkAt code pc [1]) : decode code pc = .ok (.aconst_null, 1) := dk_of ((dk_bind (dk_u1 (h 0 _ rfl))).trans rfl)
theorem dk_2 {code : ByteArray} {pc : Nat} (h : DkAt code pc [2]) : decode code pc = .ok (.iconst (-1), 1) := dk_of ((dk_bind (dk_u1 (h 0 _ rfl))).trans rfl)
theorem dk_3 {code : ByteArray} {pc : Nat} (h : DkAt code pc [3]) : decode code pc = .ok (.iconst 0, 1) := dk_of ((dk_bind (dk_u1 (h 0 _ rfl))).trans rfl)
theorem dk_4 {code : ByteArray} {pc : Nat} (h : DkAt code pc [4]) : decode code pc = .ok (.iconst 1, 1) := dk_of ((dk_bind (dk_u1 (h 0 _ rfl))).trans rfl)
theorem dk_5 {code : ByteArray} {pc : Nat} (h : DkAt code pc [5]) : decode code pc = .ok (.iconst 2, 1) := dk_of ((dk_bind (dk_u1 (h 0 _ rfl))).trans rfl)
theorem dk_6 {code : ByteArray} {pc : Nat} (h : DkAt code pc [6]) : decode code pc = .ok (.iconst 3, 1) := dk_of ((dk_bind (dk_u1 (h 0 _ rfl))).trans rfl)
theorem dk_7 {code : ByteArray} {pc : Nat} (h : DkAt code pc [7]) : decode code pc = .ok (.iconst 4, 1) := dk_of ((dk_bind (dk_u1 (h 0 _ rfl))).trans rfl)
theorem dk_8 {code : ByteArray} {pc : Nat} (h : DkAt code pc [8]) : decode code pc = .ok (.iconst 5, 1) := dk_of ((dk_bind (dk_u1 (h 0 _ rfl))).trans rfl)
theorem dk_16 {code : ByteArray} {pc : Nat} (a : UInt8) (h : DkAt code pc [16, a]) : decode code pc = .ok (.bipush (Reader.signed 8 a.toNat), 2) := dk_of ((dk_bind (dk_u1 (h 0 _ rfl))).trans ((dk_bind (dk_map (dk_u1 (h 1 _ rfl)))).trans rfl))
theorem dk_17 {code : ByteArray} {pc : Nat} (a b : UInt8) (h : DkAt code pc [17, a, b]) : decode code pc = .ok (.sipush (Reader.signed 16 (a.toNat * 256 + b.toNat)), 3) := dk_of ((dk_bind (dk_u1 (h 0 _ rfl))).trans ((dk_bind (dk_map (dk_u2 (h 1 _ rfl) (h 2 _ rfl)))).trans rfl))
theorem dk_18 {code : ByteArray} {pc : Nat} (a : UInt8) (h : DkAt code pc [18, a]) : decode code pc = .ok (.ldc a.toNat, 2) := dk_of ((dk_bind (dk_u1 (h 0 _ rfl))).trans ((dk_bind (dk_u1 (h 1 _ rfl))).trans rfl))
theorem dk_19 {code : ByteArray} {pc : Nat} (a b : UInt8) (h : DkAt code pc [19, a, b]) : decode code pc = .ok (.ldc_w (a.toNat * 256 + b.toNat), 3) := dk_of ((dk_bind (dk_u1 (h 0 _ rfl))).trans ((dk_bind (dk_u2 (h 1 _ rfl) (h 2 _ rfl))).trans rfl))
theorem dk_21 {code : ByteArray} {pc : Nat} (a : UInt8) (h : DkAt code pc [21, a]) : decode code pc = .ok (.iload a.toNat, 2) := dk_of ((dk_bind (dk_u1 (h 0 _ rfl))).trans ((dk_bind (dk_u1 (h 1 _ rfl))).trans rfl))
theorem dk_25 {code : ByteArray} {pc : Nat} (a : UInt8) (h : DkAt code pc [25, a]) : decode code pc = .ok (.aload a.toNat, 2) := dk_of ((dk_bind (dk_u1 (h 0 _ rfl))).trans ((dk_bind (dk_u1 (h 1 _ rfl))).trans rfl))
theorem dk_26 {code : ByteArray} {pc : Nat} (h : DkAt code pc [26]) : decode code pc = .ok (.iload_n 0, 1) := dk_of ((dk_bind (dk_u1 (h 0 _ rfl))).trans rfl)
theorem dk_27 {code : ByteArray} {pc : Nat} (h : DkAt code pc [27]) : decode code pc = .ok (.iload_n 1, 1) := dk_of ((dk_bind (dk_u1 (h 0 _ rfl))).trans rfl)
theorem dk_28 {code : ByteArray} {pc : Nat} (h : DkAt code pc [28]) : decode code pc = .ok (.iload_n 2, 1) := dk_of ((dk_bind (dk_u1 (h 0 _ rfl))).trans rfl)
theorem dk_29 {code : ByteArray} {pc : Nat} (h : DkAt code pc [29]) : decode code pc = .ok (.iload_n 3, 1) := dk_of ((dk_bind (dk_u1 (h 0 _ rfl))).trans rfl)
theorem dk_42 {code : ByteArray} {pc : Nat} (h : DkAt code pc [42]) : decode code pc = .ok (.aload_n 0, 1) := dk_of ((dk_bind (dk_u1 (h 0 _ rfl))).trans rfl)
theorem dk_43 {code : ByteArray} {pc : Nat} (h : DkAt code pc [43]) : decode code pc = .ok (.aload_n 1, 1) := dk_of ((dk_bind (dk_u1 (h 0 _ rfl))).trans rfl)
theorem dk_44 {code : ByteArray} {pc : Nat} (h : DkAt code pc [44]) : decode code pc = .ok (.aload_n 2, 1) := dk_of ((dk_bind (dk_u1 (h 0 _ rfl))).trans rfl)
theorem dk_45 {code : ByteArray} {pc : Nat} (h : DkAt code pc [45]) : decode code pc = .ok (.aload_n 3, 1) := dk_of ((dk_bind (dk_u1 (h 0 _ rfl))).trans rfl)
theorem dk_46 {code : ByteArray} {pc : Nat} (h : DkAt code pc [46]) : decode code pc = .ok (.iaload, 1) := dk_of ((dk_bind (dk_u1 (h 0 _ rfl))).trans rfl)
theorem dk_47 {code : ByteArray} {pc : Nat} (h : DkAt code pc [47]) : decode code pc = .ok (.laload, 1) := dk_of ((dk_bind (dk_u1 (h 0 _ rfl))).trans rfl)
theorem dk_50 {code : ByteArray} {pc : Nat} (h : DkAt code pc [50]) : decode code pc = .ok (.aaload, 1) := dk_of ((dk_bind (dk_u1 (h 0 _ rfl))).trans rfl)
theorem dk_51 {code : ByteArray} {pc : Nat} (h : DkAt code pc [51]) : decode code pc = .ok (.baload, 1) := dk_of ((dk_bind (dk_u1 (h 0 _ rfl))).trans rfl)
theorem dk_52 {code : ByteArray} {pc : Nat} (h : DkAt code pc [52]) : decode code pc = .ok (.caload, 1) := dk_of ((dk_bind (dk_u1 (h 0 _ rfl))).trans rfl)
theorem dk_54 {code : ByteArray} {pc : Nat} (a : UInt8) (h : DkAt code pc [54, a]) : decode code pc = .ok (.istore a.toNat, 2) := dk_of ((dk_bind (dk_u1 (h 0 _ rfl))).trans ((dk_bind (dk_u1 (h 1 _ rfl))).trans rfl))
theorem dk_58 {code : ByteArray} {pc : Nat} (a : UInt8) (h : DkAt code pc [58, a]) : decode code pc = .ok (.astore a.toNat, 2) := dk_of ((dk_bind (dk_u1 (h 0 _ rfl))).trans ((dk_bind (dk_u1 (h 1 _ rfl))).trans rfl))
theorem dk_59 {code : ByteArray} {pc : Nat} (h : DkAt code pc [59]) : decode code pc = .ok (.istore_n 0, 1) := dk_of ((dk_bind (dk_u1 (h 0 _ rfl))).trans rfl)
theorem dk_60 {code : ByteArray} {pc : Nat} (h : DkAt code pc [60]) : decode code pc = .ok (.istore_n 1, 1) := dk_of ((dk_bind (dk_u1 (h 0 _ rfl))).trans rfl)
theorem dk_61 {code : ByteArray} {pc : Nat} (h : DkAt code pc [61]) : decode code pc = .ok (.istore_n 2, 1) := dk_of ((dk_bind (dk_u1 (h 0 _ rfl))).trans rfl)
theorem dk_62 {code : ByteArray} {pc : Nat} (h : DkAt code pc [62]) : decode code pc = .ok (.istore_n 3, 1) := dk_of ((dk_bind (dk_u1 (h 0 _ rfl))).trans rfl)
theorem dk_76 {code : ByteArray} {pc : Nat} (h : DkAt code pc [76]) : decode code pc = .ok (.astore_n 1, 1) := dk_of ((dk_bind (dk_u1 (h 0 _ rfl))).trans rfl)
theorem dk_77 {code : ByteArray} {pc : Nat} (h : DkAt code pc [77]) : decode code pc = .ok (.astore_n 2, 1) := dk_of ((dk_bind (dk_u1 (h 0 _ rfl))).trans rfl)
theorem dk_78 {code : ByteArray} {pc : Nat} (h : DkAt code pc [78]) : decode code pc = .ok (.astore_n 3, 1) := dk_of ((dk_bind (dk_u1 (h 0 _ rfl))).trans rfl)
theorem dk_79 {code : ByteArray} {pc : Nat} (h : DkAt code pc [79]) : decode code pc = .ok (.iastore, 1) := dk_of ((dk_bind (dk_u1 (h 0 _ rfl))).trans rfl)
theorem dk_80 {code : ByteArray} {pc : Nat} (h : DkAt code pc [80]) : decode code pc = .ok (.lastore, 1) := dk_of ((dk_bind (dk_u1 (h 0 _ rfl))).trans rfl)
theorem dk_83 {code : ByteArray} {pc : Nat} (h : DkAt code pc [83]) : decode code pc = .ok (.aastore, 1) := dk_of ((dk_bind (dk_u1 (h 0 _ rfl))).trans rfl)
theorem dk_84 {code : ByteArray} {pc : Nat} (h : DkAt code pc [84]) : decode code pc = .ok (.bastore, 1) := dk_of ((dk_bind (dk_u1 (h 0 _ rfl))).trans rfl)
theorem dk_85 {code : ByteArray} {pc : Nat} (h : DkAt code pc [85]) : decode code pc = .ok (.castore, 1) := dk_of ((dk_bind (dk_u1 (h 0 _ rfl))).trans rfl)
theorem dk_87 {code : ByteArray} {pc : Nat} (h : DkAt code pc [87]) : decode code pc = .ok (.pop, 1) := dk_of ((dk_bind (dk_u1 (h 0 _ rfl))).trans rfl)
theorem dk_89 {code : ByteArray} {pc : Nat} (h : DkAt code pc [89]) : decode code pc = .ok (.dup, 1) := dk_of ((dk_bind (dk_u1 (h 0 _ rfl))).trans rfl)
theorem dk_90 {code : ByteArray} {pc : Nat} (h : DkAt code pc [90]) : decode code pc = .ok (.dup_x1, 1) := dk_of ((dk_bind (dk_u1 (h 0 _ rfl))).trans rfl)
theorem dk_92 {code : ByteArray} {pc : Nat} (h : DkAt code pc [92]) : decode code pc = .ok (.dup2, 1) := dk_of ((dk_bind (dk_u1 (h 0 _ rfl))).trans rfl)
theorem dk_96 {code : ByteArray} {pc : Nat} (h : DkAt code pc [96]) : decode code pc = .ok (.iadd, 1) := dk_of ((dk_bind (dk_u1 (h 0 _ rfl))).trans rfl)
theorem dk_100 {code : ByteArray} {pc : Nat} (h : DkAt code pc [100]) : decode code pc = .ok (.isub, 1) := dk_of ((dk_bind (dk_u1 (h 0 _ rfl))).trans rfl)
theorem dk_104 {code : ByteArray} {pc : Nat} (h : DkAt code pc [104]) : decode code pc = .ok (.imul, 1) := dk_of ((dk_bind (dk_u1 (h 0 _ rfl))).trans rfl)
theorem dk_108 {code : ByteArray} {pc : Nat} (h : DkAt code pc [108]) : decode code pc = .ok (.idiv, 1) := dk_of ((dk_bind (dk_u1 (h 0 _ rfl))).trans rfl)
theorem dk_112 {code : ByteArray} {pc : Nat} (h : DkAt code pc [112]) : decode code pc = .ok (.irem, 1) := dk_of ((dk_bind (dk_u1 (h 0 _ rfl))).trans rfl)
theorem dk_116 {code : ByteArray} {pc : Nat} (h : DkAt code pc [116]) : decode code pc = .ok (.ineg, 1) := dk_of ((dk_bind (dk_u1 (h 0 _ rfl))).trans rfl)
theorem dk_120 {code : ByteArray} {pc : Nat} (h : DkAt code pc [120]) : decode code pc = .ok (.ishl, 1) := dk_of ((dk_bind (dk_u1 (h 0 _ rfl))).trans rfl)
theorem dk_122 {code : ByteArray} {pc : Nat} (h : DkAt code pc [122]) : decode code pc = .ok (.ishr, 1) := dk_of ((dk_bind (dk_u1 (h 0 _ rfl))).trans rfl)
theorem dk_124 {code : ByteArray} {pc : Nat} (h : DkAt code pc [124]) : decode code pc = .ok (.iushr, 1) := dk_of ((dk_bind (dk_u1 (h 0 _ rfl))).trans rfl)
theorem dk_126 {code : ByteArray} {pc : Nat} (h : DkAt code pc [126]) : decode code pc = .ok (.iand, 1) := dk_of ((dk_bind (dk_u1 (h 0 _ rfl))).trans rfl)
theorem dk_128 {code : ByteArray} {pc : Nat} (h : DkAt code pc [128]) : decode code pc = .ok (.ior, 1) := dk_of ((dk_bind (dk_u1 (h 0 _ rfl))).trans rfl)
theorem dk_132 {code : ByteArray} {pc : Nat} (a b : UInt8) (h : DkAt code pc [132, a, b]) : decode code pc = .ok (.iinc a.toNat (Reader.signed 8 b.toNat), 3) := dk_of ((dk_bind (dk_u1 (h 0 _ rfl))).trans ((dk_bind (dk_u1 (h 1 _ rfl))).trans ((dk_bind (dk_map (dk_u1 (h 2 _ rfl)))).trans rfl)))
theorem dk_133 {code : ByteArray} {pc : Nat} (h : DkAt code pc [133]) : decode code pc = .ok (.i2l, 1) := dk_of ((dk_bind (dk_u1 (h 0 _ rfl))).trans rfl)
theorem dk_145 {code : ByteArray} {pc : Nat} (h : DkAt code pc [145]) : decode code pc = .ok (.i2b, 1) := dk_of ((dk_bind (dk_u1 (h 0 _ rfl))).trans rfl)
theorem dk_146 {code : ByteArray} {pc : Nat} (h : DkAt code pc [146]) : decode code pc = .ok (.i2c, 1) := dk_of ((dk_bind (dk_u1 (h 0 _ rfl))).trans rfl)
theorem dk_148 {code : ByteArray} {pc : Nat} (h : DkAt code pc [148]) : decode code pc = .ok (.lcmp, 1) := dk_of ((dk_bind (dk_u1 (h 0 _ rfl))).trans rfl)
theorem dk_153 {code : ByteArray} {pc : Nat} (a b : UInt8) (h : DkAt code pc [153, a, b]) : decode code pc = .ok (.ifCond .eq (Reader.signed 16 (a.toNat * 256 + b.toNat)), 3) := dk_of ((dk_bind (dk_u1 (h 0 _ rfl))).trans ((dk_bind (dk_map (dk_u2 (h 1 _ rfl) (h 2 _ rfl)))).trans rfl))
theorem dk_154 {code : ByteArray} {pc : Nat} (a b : UInt8) (h : DkAt code pc [154, a, b]) : decode code pc = .ok (.ifCond .ne (Reader.signed 16 (a.toNat * 256 + b.toNat)), 3) := dk_of ((dk_bind (dk_u1 (h 0 _ rfl))).trans ((dk_bind (dk_map (dk_u2 (h 1 _ rfl) (h 2 _ rfl)))).trans rfl))
theorem dk_155 {code : ByteArray} {pc : Nat} (a b : UInt8) (h : DkAt code pc [155, a, b]) : decode code pc = .ok (.ifCond .lt (Reader.signed 16 (a.toNat * 256 + b.toNat)), 3) := dk_of ((dk_bind (dk_u1 (h 0 _ rfl))).trans ((dk_bind (dk_map (dk_u2 (h 1 _ rfl) (h 2 _ rfl)))).trans rfl))
theorem dk_156 {code : ByteArray} {pc : Nat} (a b : UInt8) (h : DkAt code pc [156, a, b]) : decode code pc = .ok (.ifCond .ge (Reader.signed 16 (a.toNat * 256 + b.toNat)), 3) := dk_of ((dk_bind (dk_u1 (h 0 _ rfl))).trans ((dk_bind (dk_map (dk_u2 (h 1 _ rfl) (h 2 _ rfl)))).trans rfl))
theorem dk_157 {code : ByteArray} {pc : Nat} (a b : UInt8) (h : DkAt code pc [157, a, b]) : decode code pc = .ok (.ifCond .gt (Reader.signed 16 (a.toNat * 256 + b.toNat)), 3) := dk_of ((dk_bind (dk_u1 (h 0 _ rfl))).trans ((dk_bind (dk_map (dk_u2 (h 1 _ rfl) (h 2 _ rfl)))).trans rfl))
theorem dk_158 {code : ByteArray} {pc : Nat} (a b : UInt8) (h : DkAt code pc [158, a, b]) : decode code pc = .ok (.ifCond .le (Reader.signed 16 (a.toNat * 256 + b.toNat)), 3) := dk_of ((dk_bind (dk_u1 (h 0 _ rfl))).trans ((dk_bind (dk_map (dk_u2 (h 1 _ rfl) (h 2 _ rfl)))).trans rfl))
theorem dk_159 {code : ByteArray} {pc : Nat} (a b : UInt8) (h : DkAt code pc [159, a, b]) : decode code pc = .ok (.if_icmp .eq (Reader.signed 16 (a.toNat * 256 + b.toNat)), 3) := dk_of ((dk_bind (dk_u1 (h 0 _ rfl))).trans ((dk_bind (dk_map (dk_u2 (h 1 _ rfl) (h 2 _ rfl)))).trans rfl))
theorem dk_160 {code : ByteArray} {pc : Nat} (a b : UInt8) (h : DkAt code pc [160, a, b]) : decode code pc = .ok (.if_icmp .ne (Reader.signed 16 (a.toNat * 256 + b.toNat)), 3) := dk_of ((dk_bind (dk_u1 (h 0 _ rfl))).trans ((dk_bind (dk_map (dk_u2 (h 1 _ rfl) (h 2 _ rfl)))).trans rfl))
theorem dk_161 {code : ByteArray} {pc : Nat} (a b : UInt8) (h : DkAt code pc [161, a, b]) : decode code pc = .ok (.if_icmp .lt (Reader.signed 16 (a.toNat * 256 + b.toNat)), 3) := dk_of ((dk_bind (dk_u1 (h 0 _ rfl))).trans ((dk_bind (dk_map (dk_u2 (h 1 _ rfl) (h 2 _ rfl)))).trans rfl))
theorem dk_162 {code : ByteArray} {pc : Nat} (a b : UInt8) (h : DkAt code pc [162, a, b]) : decode code pc = .ok (.if_icmp .ge (Reader.signed 16 (a.toNat * 256 + b.toNat)), 3) := dk_of ((dk_bind (dk_u1 (h 0 _ rfl))).trans ((dk_bind (dk_map (dk_u2 (h 1 _ rfl) (h 2 _ rfl)))).trans rfl))
theorem dk_163 {code : ByteArray} {pc : Nat} (a b : UInt8) (h : DkAt code pc [163, a, b]) : decode code pc = .ok (.if_icmp .gt (Reader.signed 16 (a.toNat * 256 + b.toNat)), 3) := dk_of ((dk_bind (dk_u1 (h 0 _ rfl))).trans ((dk_bind (dk_map (dk_u2 (h 1 _ rfl) (h 2 _ rfl)))).trans rfl))
theorem dk_164 {code : ByteArray} {pc : Nat} (a b : UInt8) (h : DkAt code pc [164, a, b]) : decode code pc = .ok (.if_icmp .le (Reader.signed 16 (a.toNat * 256 + b.toNat)), 3) := dk_of ((dk_bind (dk_u1 (h 0 _ rfl))).trans ((dk_bind (dk_map (dk_u2 (h 1 _ rfl) (h 2 _ rfl)))).trans rfl))
theorem dk_165 {code : ByteArray} {pc : Nat} (a b : UInt8) (h : DkAt code pc [165, a, b]) : decode code pc = .ok (.if_acmp .eq (Reader.signed 16 (a.toNat * 256 + b.toNat)), 3) := dk_of ((dk_bind (dk_u1 (h 0 _ rfl))).trans ((dk_bind (dk_map (dk_u2 (h 1 _ rfl) (h 2 _ rfl)))).trans rfl))
theorem dk_166 {code : ByteArray} {pc : Nat} (a b : UInt8) (h : DkAt code pc [166, a, b]) : decode code pc = .ok (.if_acmp .ne (Reader.signed 16 (a.toNat * 256 + b.toNat)), 3) := dk_of ((dk_bind (dk_u1 (h 0 _ rfl))).trans ((dk_bind (dk_map (dk_u2 (h 1 _ rfl) (h 2 _ rfl)))).trans rfl))
theorem dk_167 {code : ByteArray} {pc : Nat} (a b : UInt8) (h : DkAt code pc [167, a, b]) : decode code pc = .ok (.goto (Reader.signed 16 (a.toNat * 256 + b.toNat)), 3) := dk_of ((dk_bind (dk_u1 (h 0 _ rfl))).trans ((dk_bind (dk_map (dk_u2 (h 1 _ rfl) (h 2 _ rfl)))).trans rfl))
theorem dk_172 {code : ByteArray} {pc : Nat} (h : DkAt code pc [172]) : decode code pc = .ok (.ireturn, 1) := dk_of ((dk_bind (dk_u1 (h 0 _ rfl))).trans rfl)
theorem dk_176 {code : ByteArray} {pc : Nat} (h : DkAt code pc [176]) : decode code pc = .ok (.areturn, 1) := dk_of ((dk_bind (dk_u1 (h 0 _ rfl))).trans rfl)
theorem dk_177 {code : ByteArray} {pc : Nat} (h : DkAt code pc [177]) : decode code pc = .ok (.return_, 1) := dk_of ((dk_bind (dk_u1 (h 0 _ rfl))).trans rfl)
theorem dk_178 {code : ByteArray} {pc : Nat} (a b : UInt8) (h : DkAt code pc [178, a, b]) : decode code pc = .ok (.getstatic (a.toNat * 256 + b.toNat), 3) := dk_of ((dk_bind (dk_u1 (h 0 _ rfl))).trans ((dk_bind (dk_u2 (h 1 _ rfl) (h 2 _ rfl))).trans rfl))
theorem dk_180 {code : ByteArray} {pc : Nat} (a b : UInt8) (h : DkAt code pc [180, a, b]) : decode code pc = .ok (.getfield (a.toNat * 256 + b.toNat), 3) := dk_of ((dk_bind (dk_u1 (h 0 _ rfl))).trans ((dk_bind (dk_u2 (h 1 _ rfl) (h 2 _ rfl))).trans rfl))
theorem dk_181 {code : ByteArray} {pc : Nat} (a b : UInt8) (h : DkAt code pc [181, a, b]) : decode code pc = .ok (.putfield (a.toNat * 256 + b.toNat), 3) := dk_of ((dk_bind (dk_u1 (h 0 _ rfl))).trans ((dk_bind (dk_u2 (h 1 _ rfl) (h 2 _ rfl))).trans rfl))
theorem dk_182 {code : ByteArray} {pc : Nat} (a b : UInt8) (h : DkAt code pc [182, a, b]) : decode code pc = .ok (.invokevirtual (a.toNat * 256 + b.toNat), 3) := dk_of ((dk_bind (dk_u1 (h 0 _ rfl))).trans ((dk_bind (dk_u2 (h 1 _ rfl) (h 2 _ rfl))).trans rfl))
theorem dk_183 {code : ByteArray} {pc : Nat} (a b : UInt8) (h : DkAt code pc [183, a, b]) : decode code pc = .ok (.invokespecial (a.toNat * 256 + b.toNat), 3) := dk_of ((dk_bind (dk_u1 (h 0 _ rfl))).trans ((dk_bind (dk_u2 (h 1 _ rfl) (h 2 _ rfl))).trans rfl))
theorem dk_184 {code : ByteArray} {pc : Nat} (a b : UInt8) (h : DkAt code pc [184, a, b]) : decode code pc = .ok (.invokestatic (a.toNat * 256 + b.toNat), 3) := dk_of ((dk_bind (dk_u1 (h 0 _ rfl))).trans ((dk_bind (dk_u2 (h 1 _ rfl) (h 2 _ rfl))).trans rfl))
theorem dk_187 {code : ByteArray} {pc : Nat} (a b : UInt8) (h : DkAt code pc [187, a, b]) : decode code pc = .ok (.new (a.toNat * 256 + b.toNat), 3) := dk_of ((dk_bind (dk_u1 (h 0 _ rfl))).trans ((dk_bind (dk_u2 (h 1 _ rfl) (h 2 _ rfl))).trans rfl))
theorem dk_188_4 {code : ByteArray} {pc : Nat} (h : DkAt code pc [188, 4]) : decode code pc = .ok (.newarray .boolean, 2) := dk_of ((dk_bind (dk_u1 (h 0 _ rfl))).trans ((dk_bind (dk_u1 (h 1 _ rfl))).trans rfl))
theorem dk_188_5 {code : ByteArray} {pc : Nat} (h : DkAt code pc [188, 5]) : decode code pc = .ok (.newarray .char, 2) := dk_of ((dk_bind (dk_u1 (h 0 _ rfl))).trans ((dk_bind (dk_u1 (h 1 _ rfl))).trans rfl))
theorem dk_188_8 {code : ByteArray} {pc : Nat} (h : DkAt code pc [188, 8]) : decode code pc = .ok (.newarray .byte, 2) := dk_of ((dk_bind (dk_u1 (h 0 _ rfl))).trans ((dk_bind (dk_u1 (h 1 _ rfl))).trans rfl))
theorem dk_188_10 {code : ByteArray} {pc : Nat} (h : DkAt code pc [188, 10]) : decode code pc = .ok (.newarray .int, 2) := dk_of ((dk_bind (dk_u1 (h 0 _ rfl))).trans ((dk_bind (dk_u1 (h 1 _ rfl))).trans rfl))
theorem dk_188_11 {code : ByteArray} {pc : Nat} (h : DkAt code pc [188, 11]) : decode code pc = .ok (.newarray .long, 2) := dk_of ((dk_bind (dk_u1 (h 0 _ rfl))).trans ((dk_bind (dk_u1 (h 1 _ rfl))).trans rfl))
theorem dk_189 {code : ByteArray} {pc : Nat} (a b : UInt8) (h : DkAt code pc [189, a, b]) : decode code pc = .ok (.anewarray (a.toNat * 256 + b.toNat), 3) := dk_of ((dk_bind (dk_u1 (h 0 _ rfl))).trans ((dk_bind (dk_u2 (h 1 _ rfl) (h 2 _ rfl))).trans rfl))
theorem dk_190 {code : ByteArray} {pc : Nat} (h : DkAt code pc [190]) : decode code pc = .ok (.arraylength, 1) := dk_of ((dk_bind (dk_u1 (h 0 _ rfl))).trans rfl)
theorem dk_191 {code : ByteArray} {pc : Nat} (h : DkAt code pc [191]) : decode code pc = .ok (.athrow, 1) := dk_of ((dk_bind (dk_u1 (h 0 _ rfl))).trans rfl)
theorem dk_192 {code : ByteArray} {pc : Nat} (a b : UInt8) (h : DkAt code pc [192, a, b]) : decode code pc = .ok (.checkcast (a.toNat * 256 + b.toNat), 3) := dk_of ((dk_bind (dk_u1 (h 0 _ rfl))).trans ((dk_bind (dk_u2 (h 1 _ rfl) (h 2 _ rfl))).trans rfl))
theorem dk_193 {code : ByteArray} {pc : Nat} (a b : UInt8) (h : DkAt code pc [193, a, b]) : decode code pc = .ok (.instanceof (a.toNat * 256 + b.toNat), 3) := dk_of ((dk_bind (dk_u1 (h 0 _ rfl))).trans ((dk_bind (dk_u2 (h 1 _ rfl) (h 2 _ rfl))).trans rfl))
theorem dk_198 {code : ByteArray} {pc : Nat} (a b : UInt8) (h : DkAt code pc [198, a, b]) : decode code pc = .ok (.ifnull (Reader.signed 16 (a.toNat * 256 + b.toNat)), 3) := dk_of ((dk_bind (dk_u1 (h 0 _ rfl))).trans ((dk_bind (dk_map (dk_u2 (h 1 _ rfl) (h 2 _ rfl)))).trans rfl))
theorem dk_199 {code : ByteArray} {pc : Nat} (a b : UInt8) (h : DkAt code pc [199, a, b]) : decode code pc = .ok (.ifnonnull (Reader.signed 16 (a.toNat * 256 + b.toNat)), 3) := dk_of ((dk_bind (dk_u1 (h 0 _ rfl))).trans ((dk_bind (dk_map (dk_u2 (h 1 _ rfl) (h 2 _ rfl)))).trans rfl))
/-! PageServerModel -/
set_option maxRecDepth 100000
def RX6 : String := "PageServerModel"
def TX6 : u_T := fun k => match k with
  | 0 => ("PageServerModel", "thrown", "I", false)
  | 1 => ("PageServerModel", "pages", "I", false)
  | 2 => ("PageServerModel", "pathSize", "[I", true)
  | 3 => ("PageServerModel", "path", "[C", true)
  | 4 => ("PageServerModel", "bodySize", "[I", true)
  | 5 => ("PageServerModel", "bodyByte", "[I", true)
  | 6 => ("PageServerModel", "came", "I", false)
  | 7 => ("PageServerModel", "size", "I", false)
  | 8 => ("PageServerModel", "nameSize", "[I", true)
  | 9 => ("PageServerModel", "name", "[C", true)
  | 10 => ("PageServerModel", "valueSize", "[I", true)
  | 11 => ("PageServerModel", "value", "[C", true)
  | 12 => ("PageServerModel", "stream", "[I", true)
  | 13 => ("PageServerModel", "streamWindow", "[I", true)
  | 14 => ("PageServerModel", "counted", "[I", true)
  | 15 => ("PageServerModel", "said", "[I", true)
  | 16 => ("PageServerModel", "left", "[I", true)
  | 17 => ("PageServerModel", "sends", "[I", true)
  | 18 => ("PageServerModel", "closed", "[Z", true)
  | 19 => ("PageServerModel", "method", "[I", true)
  | 20 => ("PageServerModel", "wantedSize", "[I", true)
  | 21 => ("PageServerModel", "wanted", "[C", true)
  | 22 => ("PageServerModel", "preface", "I", false)
  | 23 => ("PageServerModel", "bytes", "I", false)
  | 24 => ("PageServerModel", "frame", "[I", true)
  | 25 => ("PageServerModel", "type", "I", false)
  | 26 => ("PageServerModel", "flags", "I", false)
  | 27 => ("PageServerModel", "number", "I", false)
  | 28 => ("PageServerModel", "length", "I", false)
  | 29 => ("PageServerModel", "from", "I", false)
  | 30 => ("PageServerModel", "to", "I", false)
  | 31 => ("PageServerModel", "first", "Z", false)
  | 32 => ("PageServerModel", "blockOf", "I", false)
  | 33 => ("PageServerModel", "blockEnds", "Z", false)
  | 34 => ("PageServerModel", "blockSize", "I", false)
  | 35 => ("PageServerModel", "block", "[I", true)
  | 36 => ("PageServerModel", "at", "I", false)
  | 37 => ("PageServerModel", "good", "Z", false)
  | 38 => ("PageServerModel", "fields", "I", false)
  | 39 => ("PageServerModel", "bad", "Z", false)
  | 40 => ("PageServerModel", "colon", "Z", false)
  | 41 => ("PageServerModel", "others", "Z", false)
  | 42 => ("PageServerModel", "methodFound", "I", false)
  | 43 => ("PageServerModel", "pathFound", "Z", false)
  | 44 => ("PageServerModel", "lengthFound", "I", false)
  | 45 => ("PageServerModel", "pathLength", "I", false)
  | 46 => ("PageServerModel", "pathText", "[C", true)
  | 47 => ("PageServerModel", "highest", "I", false)
  | 48 => ("PageServerModel", "away", "I", false)
  | 49 => ("PageServerModel", "last", "I", false)
  | 50 => ("PageServerModel", "window", "I", false)
  | 51 => ("PageServerModel", "initial", "I", false)
  | 52 => ("PageServerModel", "longest", "I", false)
  | 53 => ("PageServerModel", "waits", "I", false)
  | _ => ("PageServerModel", "output", "[I", true)
def tyX6 : Nat → FieldType := fun k => match k with
  | 0 => .int
  | 1 => .int
  | 2 => .array .int
  | 3 => .array .char
  | 4 => .array .int
  | 5 => .array .int
  | 6 => .int
  | 7 => .int
  | 8 => .array .int
  | 9 => .array .char
  | 10 => .array .int
  | 11 => .array .char
  | 12 => .array .int
  | 13 => .array .int
  | 14 => .array .int
  | 15 => .array .int
  | 16 => .array .int
  | 17 => .array .int
  | 18 => .array .boolean
  | 19 => .array .int
  | 20 => .array .int
  | 21 => .array .char
  | 22 => .int
  | 23 => .int
  | 24 => .array .int
  | 25 => .int
  | 26 => .int
  | 27 => .int
  | 28 => .int
  | 29 => .int
  | 30 => .int
  | 31 => .boolean
  | 32 => .int
  | 33 => .boolean
  | 34 => .int
  | 35 => .array .int
  | 36 => .int
  | 37 => .boolean
  | 38 => .int
  | 39 => .boolean
  | 40 => .boolean
  | 41 => .boolean
  | 42 => .int
  | 43 => .boolean
  | 44 => .int
  | 45 => .int
  | 46 => .array .char
  | 47 => .int
  | 48 => .int
  | 49 => .int
  | 50 => .int
  | 51 => .int
  | 52 => .int
  | 53 => .int
  | _ => .array .int
abbrev wsX60 : List Cond := u_ws RX6 TX6 55
set_option maxRecDepth 100000 in
theorem nmX6 : ∀ a, a < 55 → ∀ b, b < 55 → a ≠ b → (TX6 a).2.1 ≠ (TX6 b).2.1 := by decide +kernel
set_option maxRecDepth 100000 in
theorem tyX6_ok : ∀ k, k < 55 → parseFieldDescriptor (TX6 k).2.2.1 = some (tyX6 k) := by decide +kernel
abbrev cX6_init : ByteArray := prog_8_method_1_code
def yX6_init : MethodName := ⟨RX6, "<init>", "()V"⟩
def dkwX6_init_12 : List UInt8 := [182, 0, 78, 42, 180, 0, 23, 6, 7, 79, 42, 180, 0, 23, 7, 16, 6, 79, 42, 182, 0, 82, 177]
abbrev dktX6_init_12 : List UInt8 := dkwX6_init_12 ++ []
def dkwX6_init_11 : List UInt8 := [3, 16, 50, 16, 48, 16, 48, 3, 182, 0, 78, 42, 16, 6, 16, 115, 3, 16, 52, 16, 48, 16, 52, 3]
abbrev dktX6_init_11 : List UInt8 := dkwX6_init_11 ++ dktX6_init_12
def dkwX6_init_10 : List UInt8 := [182, 0, 78, 42, 7, 16, 108, 16, 101, 16, 110, 16, 103, 16, 116, 16, 104, 182, 0, 78, 42, 8, 16, 115]
abbrev dktX6_init_10 : List UInt8 := dkwX6_init_10 ++ dktX6_init_11
def dkwX6_init_9 : List UInt8 := [16, 112, 3, 16, 47, 3, 3, 3, 182, 0, 78, 42, 6, 16, 104, 16, 111, 16, 115, 16, 116, 3, 3]
abbrev dktX6_init_9 : List UInt8 := dkwX6_init_9 ++ dktX6_init_10
def dkwX6_init_8 : List UInt8 := [16, 84, 3, 182, 0, 78, 42, 4, 16, 109, 3, 16, 72, 16, 69, 16, 65, 16, 68, 182, 0, 78, 42, 5]
abbrev dktX6_init_8 : List UInt8 := dkwX6_init_8 ++ dktX6_init_9
def dkwX6_init_7 : List UInt8 := [188, 5, 181, 0, 72, 42, 17, 4, 176, 188, 10, 181, 0, 75, 42, 3, 16, 109, 3, 16, 71, 16, 69]
abbrev dktX6_init_7 : List UInt8 := dkwX6_init_7 ++ dktX6_init_8
def dkwX6_init_6 : List UInt8 := [181, 0, 63, 42, 17, 0, 204, 188, 10, 181, 0, 66, 42, 16, 100, 188, 10, 181, 0, 69, 42, 16, 20]
abbrev dktX6_init_6 : List UInt8 := dkwX6_init_6 ++ dktX6_init_7
def dkwX6_init_5 : List UInt8 := [188, 4, 181, 0, 53, 42, 7, 188, 10, 181, 0, 57, 42, 7, 188, 10, 181, 0, 60, 42, 16, 80, 188, 5]
abbrev dktX6_init_5 : List UInt8 := dkwX6_init_5 ++ dktX6_init_6
def dkwX6_init_4 : List UInt8 := [42, 7, 188, 10, 181, 0, 44, 42, 7, 188, 10, 181, 0, 47, 42, 7, 188, 10, 181, 0, 50, 42, 7]
abbrev dktX6_init_4 : List UInt8 := dkwX6_init_4 ++ dktX6_init_5
def dkwX6_init_3 : List UInt8 := [181, 0, 32, 42, 7, 188, 10, 181, 0, 35, 42, 7, 188, 10, 181, 0, 38, 42, 7, 188, 10, 181, 0, 41]
abbrev dktX6_init_3 : List UInt8 := dkwX6_init_3 ++ dktX6_init_4
def dkwX6_init_2 : List UInt8 := [17, 1, 84, 188, 5, 181, 0, 26, 42, 16, 17, 188, 10, 181, 0, 29, 42, 17, 1, 84, 188, 5]
abbrev dktX6_init_2 : List UInt8 := dkwX6_init_2 ++ dktX6_init_3
def dkwX6_init_1 : List UInt8 := [188, 10, 181, 0, 17, 42, 16, 8, 188, 10, 181, 0, 20, 42, 16, 17, 188, 10, 181, 0, 23, 42]
abbrev dktX6_init_1 : List UInt8 := dkwX6_init_1 ++ dktX6_init_2
def dkwX6_init_0 : List UInt8 := [42, 183, 0, 1, 42, 16, 8, 188, 10, 181, 0, 7, 42, 16, 64, 188, 5, 181, 0, 13, 42, 16, 8]
abbrev dktX6_init_0 : List UInt8 := dkwX6_init_0 ++ dktX6_init_1
theorem dksX6_init_0 : cX6_init.data.toList.drop 0 = dktX6_init_0 := by decide +kernel
theorem dksX6_init_1 : cX6_init.data.toList.drop 23 = dktX6_init_1 := dk_seg dksX6_init_0 23 rfl rfl
theorem dksX6_init_2 : cX6_init.data.toList.drop 45 = dktX6_init_2 := dk_seg dksX6_init_1 22 rfl rfl
theorem dksX6_init_3 : cX6_init.data.toList.drop 67 = dktX6_init_3 := dk_seg dksX6_init_2 22 rfl rfl
theorem dksX6_init_4 : cX6_init.data.toList.drop 91 = dktX6_init_4 := dk_seg dksX6_init_3 24 rfl rfl
theorem dksX6_init_5 : cX6_init.data.toList.drop 114 = dktX6_init_5 := dk_seg dksX6_init_4 23 rfl rfl
theorem dksX6_init_6 : cX6_init.data.toList.drop 138 = dktX6_init_6 := dk_seg dksX6_init_5 24 rfl rfl
theorem dksX6_init_7 : cX6_init.data.toList.drop 161 = dktX6_init_7 := dk_seg dksX6_init_6 23 rfl rfl
theorem dksX6_init_8 : cX6_init.data.toList.drop 184 = dktX6_init_8 := dk_seg dksX6_init_7 23 rfl rfl
theorem dksX6_init_9 : cX6_init.data.toList.drop 208 = dktX6_init_9 := dk_seg dksX6_init_8 24 rfl rfl
theorem dksX6_init_10 : cX6_init.data.toList.drop 231 = dktX6_init_10 := dk_seg dksX6_init_9 23 rfl rfl
theorem dksX6_init_11 : cX6_init.data.toList.drop 255 = dktX6_init_11 := dk_seg dksX6_init_10 24 rfl rfl
theorem dksX6_init_12 : cX6_init.data.toList.drop 279 = dktX6_init_12 := dk_seg dksX6_init_11 24 rfl rfl
theorem dX6_init_0 : decode cX6_init 0 = .ok (.aload_n 0, 1) := dk_42 (dk_at dksX6_init_0 0 rfl rfl)
theorem dX6_init_1 : decode cX6_init 1 = .ok (.invokespecial 1, 3) := dk_183 0 1 (dk_at dksX6_init_0 1 rfl rfl)
theorem dX6_init_4 : decode cX6_init 4 = .ok (.aload_n 0, 1) := dk_42 (dk_at dksX6_init_0 4 rfl rfl)
theorem dX6_init_5 : decode cX6_init 5 = .ok (.bipush 8, 2) := dk_16 8 (dk_at dksX6_init_0 5 rfl rfl)
theorem dX6_init_7 : decode cX6_init 7 = .ok (.newarray .int, 2) := dk_188_10 (dk_at dksX6_init_0 7 rfl rfl)
theorem dX6_init_9 : decode cX6_init 9 = .ok (.putfield 7, 3) := dk_181 0 7 (dk_at dksX6_init_0 9 rfl rfl)
theorem dX6_init_12 : decode cX6_init 12 = .ok (.aload_n 0, 1) := dk_42 (dk_at dksX6_init_0 12 rfl rfl)
theorem dX6_init_13 : decode cX6_init 13 = .ok (.bipush 64, 2) := dk_16 64 (dk_at dksX6_init_0 13 rfl rfl)
theorem dX6_init_15 : decode cX6_init 15 = .ok (.newarray .char, 2) := dk_188_5 (dk_at dksX6_init_0 15 rfl rfl)
theorem dX6_init_17 : decode cX6_init 17 = .ok (.putfield 13, 3) := dk_181 0 13 (dk_at dksX6_init_0 17 rfl rfl)
theorem dX6_init_20 : decode cX6_init 20 = .ok (.aload_n 0, 1) := dk_42 (dk_at dksX6_init_0 20 rfl rfl)
theorem dX6_init_21 : decode cX6_init 21 = .ok (.bipush 8, 2) := dk_16 8 (dk_at dksX6_init_0 21 rfl rfl)
theorem dX6_init_23 : decode cX6_init 23 = .ok (.newarray .int, 2) := dk_188_10 (dk_at dksX6_init_1 0 rfl rfl)
theorem dX6_init_25 : decode cX6_init 25 = .ok (.putfield 17, 3) := dk_181 0 17 (dk_at dksX6_init_1 2 rfl rfl)
theorem dX6_init_28 : decode cX6_init 28 = .ok (.aload_n 0, 1) := dk_42 (dk_at dksX6_init_1 5 rfl rfl)
theorem dX6_init_29 : decode cX6_init 29 = .ok (.bipush 8, 2) := dk_16 8 (dk_at dksX6_init_1 6 rfl rfl)
theorem dX6_init_31 : decode cX6_init 31 = .ok (.newarray .int, 2) := dk_188_10 (dk_at dksX6_init_1 8 rfl rfl)
theorem dX6_init_33 : decode cX6_init 33 = .ok (.putfield 20, 3) := dk_181 0 20 (dk_at dksX6_init_1 10 rfl rfl)
theorem dX6_init_36 : decode cX6_init 36 = .ok (.aload_n 0, 1) := dk_42 (dk_at dksX6_init_1 13 rfl rfl)
theorem dX6_init_37 : decode cX6_init 37 = .ok (.bipush 17, 2) := dk_16 17 (dk_at dksX6_init_1 14 rfl rfl)
theorem dX6_init_39 : decode cX6_init 39 = .ok (.newarray .int, 2) := dk_188_10 (dk_at dksX6_init_1 16 rfl rfl)
theorem dX6_init_41 : decode cX6_init 41 = .ok (.putfield 23, 3) := dk_181 0 23 (dk_at dksX6_init_1 18 rfl rfl)
theorem dX6_init_44 : decode cX6_init 44 = .ok (.aload_n 0, 1) := dk_42 (dk_at dksX6_init_1 21 rfl rfl)
theorem dX6_init_45 : decode cX6_init 45 = .ok (.sipush 340, 3) := dk_17 1 84 (dk_at dksX6_init_2 0 rfl rfl)
theorem dX6_init_48 : decode cX6_init 48 = .ok (.newarray .char, 2) := dk_188_5 (dk_at dksX6_init_2 3 rfl rfl)
theorem dX6_init_50 : decode cX6_init 50 = .ok (.putfield 26, 3) := dk_181 0 26 (dk_at dksX6_init_2 5 rfl rfl)
theorem dX6_init_53 : decode cX6_init 53 = .ok (.aload_n 0, 1) := dk_42 (dk_at dksX6_init_2 8 rfl rfl)
theorem dX6_init_54 : decode cX6_init 54 = .ok (.bipush 17, 2) := dk_16 17 (dk_at dksX6_init_2 9 rfl rfl)
theorem dX6_init_56 : decode cX6_init 56 = .ok (.newarray .int, 2) := dk_188_10 (dk_at dksX6_init_2 11 rfl rfl)
theorem dX6_init_58 : decode cX6_init 58 = .ok (.putfield 29, 3) := dk_181 0 29 (dk_at dksX6_init_2 13 rfl rfl)
theorem dX6_init_61 : decode cX6_init 61 = .ok (.aload_n 0, 1) := dk_42 (dk_at dksX6_init_2 16 rfl rfl)
theorem dX6_init_62 : decode cX6_init 62 = .ok (.sipush 340, 3) := dk_17 1 84 (dk_at dksX6_init_2 17 rfl rfl)
theorem dX6_init_65 : decode cX6_init 65 = .ok (.newarray .char, 2) := dk_188_5 (dk_at dksX6_init_2 20 rfl rfl)
theorem dX6_init_67 : decode cX6_init 67 = .ok (.putfield 32, 3) := dk_181 0 32 (dk_at dksX6_init_3 0 rfl rfl)
theorem dX6_init_70 : decode cX6_init 70 = .ok (.aload_n 0, 1) := dk_42 (dk_at dksX6_init_3 3 rfl rfl)
theorem dX6_init_71 : decode cX6_init 71 = .ok (.iconst 4, 1) := dk_7 (dk_at dksX6_init_3 4 rfl rfl)
theorem dX6_init_72 : decode cX6_init 72 = .ok (.newarray .int, 2) := dk_188_10 (dk_at dksX6_init_3 5 rfl rfl)
theorem dX6_init_74 : decode cX6_init 74 = .ok (.putfield 35, 3) := dk_181 0 35 (dk_at dksX6_init_3 7 rfl rfl)
theorem dX6_init_77 : decode cX6_init 77 = .ok (.aload_n 0, 1) := dk_42 (dk_at dksX6_init_3 10 rfl rfl)
theorem dX6_init_78 : decode cX6_init 78 = .ok (.iconst 4, 1) := dk_7 (dk_at dksX6_init_3 11 rfl rfl)
theorem dX6_init_79 : decode cX6_init 79 = .ok (.newarray .int, 2) := dk_188_10 (dk_at dksX6_init_3 12 rfl rfl)
theorem dX6_init_81 : decode cX6_init 81 = .ok (.putfield 38, 3) := dk_181 0 38 (dk_at dksX6_init_3 14 rfl rfl)
theorem dX6_init_84 : decode cX6_init 84 = .ok (.aload_n 0, 1) := dk_42 (dk_at dksX6_init_3 17 rfl rfl)
theorem dX6_init_85 : decode cX6_init 85 = .ok (.iconst 4, 1) := dk_7 (dk_at dksX6_init_3 18 rfl rfl)
theorem dX6_init_86 : decode cX6_init 86 = .ok (.newarray .int, 2) := dk_188_10 (dk_at dksX6_init_3 19 rfl rfl)
theorem dX6_init_88 : decode cX6_init 88 = .ok (.putfield 41, 3) := dk_181 0 41 (dk_at dksX6_init_3 21 rfl rfl)
theorem dX6_init_91 : decode cX6_init 91 = .ok (.aload_n 0, 1) := dk_42 (dk_at dksX6_init_4 0 rfl rfl)
theorem dX6_init_92 : decode cX6_init 92 = .ok (.iconst 4, 1) := dk_7 (dk_at dksX6_init_4 1 rfl rfl)
theorem dX6_init_93 : decode cX6_init 93 = .ok (.newarray .int, 2) := dk_188_10 (dk_at dksX6_init_4 2 rfl rfl)
theorem dX6_init_95 : decode cX6_init 95 = .ok (.putfield 44, 3) := dk_181 0 44 (dk_at dksX6_init_4 4 rfl rfl)
theorem dX6_init_98 : decode cX6_init 98 = .ok (.aload_n 0, 1) := dk_42 (dk_at dksX6_init_4 7 rfl rfl)
theorem dX6_init_99 : decode cX6_init 99 = .ok (.iconst 4, 1) := dk_7 (dk_at dksX6_init_4 8 rfl rfl)
theorem dX6_init_100 : decode cX6_init 100 = .ok (.newarray .int, 2) := dk_188_10 (dk_at dksX6_init_4 9 rfl rfl)
theorem dX6_init_102 : decode cX6_init 102 = .ok (.putfield 47, 3) := dk_181 0 47 (dk_at dksX6_init_4 11 rfl rfl)
theorem dX6_init_105 : decode cX6_init 105 = .ok (.aload_n 0, 1) := dk_42 (dk_at dksX6_init_4 14 rfl rfl)
theorem dX6_init_106 : decode cX6_init 106 = .ok (.iconst 4, 1) := dk_7 (dk_at dksX6_init_4 15 rfl rfl)
theorem dX6_init_107 : decode cX6_init 107 = .ok (.newarray .int, 2) := dk_188_10 (dk_at dksX6_init_4 16 rfl rfl)
theorem dX6_init_109 : decode cX6_init 109 = .ok (.putfield 50, 3) := dk_181 0 50 (dk_at dksX6_init_4 18 rfl rfl)
theorem dX6_init_112 : decode cX6_init 112 = .ok (.aload_n 0, 1) := dk_42 (dk_at dksX6_init_4 21 rfl rfl)
theorem dX6_init_113 : decode cX6_init 113 = .ok (.iconst 4, 1) := dk_7 (dk_at dksX6_init_4 22 rfl rfl)
theorem dX6_init_114 : decode cX6_init 114 = .ok (.newarray .boolean, 2) := dk_188_4 (dk_at dksX6_init_5 0 rfl rfl)
theorem dX6_init_116 : decode cX6_init 116 = .ok (.putfield 53, 3) := dk_181 0 53 (dk_at dksX6_init_5 2 rfl rfl)
theorem dX6_init_119 : decode cX6_init 119 = .ok (.aload_n 0, 1) := dk_42 (dk_at dksX6_init_5 5 rfl rfl)
theorem dX6_init_120 : decode cX6_init 120 = .ok (.iconst 4, 1) := dk_7 (dk_at dksX6_init_5 6 rfl rfl)
theorem dX6_init_121 : decode cX6_init 121 = .ok (.newarray .int, 2) := dk_188_10 (dk_at dksX6_init_5 7 rfl rfl)
theorem dX6_init_123 : decode cX6_init 123 = .ok (.putfield 57, 3) := dk_181 0 57 (dk_at dksX6_init_5 9 rfl rfl)
theorem dX6_init_126 : decode cX6_init 126 = .ok (.aload_n 0, 1) := dk_42 (dk_at dksX6_init_5 12 rfl rfl)
theorem dX6_init_127 : decode cX6_init 127 = .ok (.iconst 4, 1) := dk_7 (dk_at dksX6_init_5 13 rfl rfl)
theorem dX6_init_128 : decode cX6_init 128 = .ok (.newarray .int, 2) := dk_188_10 (dk_at dksX6_init_5 14 rfl rfl)
theorem dX6_init_130 : decode cX6_init 130 = .ok (.putfield 60, 3) := dk_181 0 60 (dk_at dksX6_init_5 16 rfl rfl)
theorem dX6_init_133 : decode cX6_init 133 = .ok (.aload_n 0, 1) := dk_42 (dk_at dksX6_init_5 19 rfl rfl)
theorem dX6_init_134 : decode cX6_init 134 = .ok (.bipush 80, 2) := dk_16 80 (dk_at dksX6_init_5 20 rfl rfl)
theorem dX6_init_136 : decode cX6_init 136 = .ok (.newarray .char, 2) := dk_188_5 (dk_at dksX6_init_5 22 rfl rfl)
theorem dX6_init_138 : decode cX6_init 138 = .ok (.putfield 63, 3) := dk_181 0 63 (dk_at dksX6_init_6 0 rfl rfl)
theorem dX6_init_141 : decode cX6_init 141 = .ok (.aload_n 0, 1) := dk_42 (dk_at dksX6_init_6 3 rfl rfl)
theorem dX6_init_142 : decode cX6_init 142 = .ok (.sipush 204, 3) := dk_17 0 204 (dk_at dksX6_init_6 4 rfl rfl)
theorem dX6_init_145 : decode cX6_init 145 = .ok (.newarray .int, 2) := dk_188_10 (dk_at dksX6_init_6 7 rfl rfl)
theorem dX6_init_147 : decode cX6_init 147 = .ok (.putfield 66, 3) := dk_181 0 66 (dk_at dksX6_init_6 9 rfl rfl)
theorem dX6_init_150 : decode cX6_init 150 = .ok (.aload_n 0, 1) := dk_42 (dk_at dksX6_init_6 12 rfl rfl)
theorem dX6_init_151 : decode cX6_init 151 = .ok (.bipush 100, 2) := dk_16 100 (dk_at dksX6_init_6 13 rfl rfl)
theorem dX6_init_153 : decode cX6_init 153 = .ok (.newarray .int, 2) := dk_188_10 (dk_at dksX6_init_6 15 rfl rfl)
theorem dX6_init_155 : decode cX6_init 155 = .ok (.putfield 69, 3) := dk_181 0 69 (dk_at dksX6_init_6 17 rfl rfl)
theorem dX6_init_158 : decode cX6_init 158 = .ok (.aload_n 0, 1) := dk_42 (dk_at dksX6_init_6 20 rfl rfl)
theorem dX6_init_159 : decode cX6_init 159 = .ok (.bipush 20, 2) := dk_16 20 (dk_at dksX6_init_6 21 rfl rfl)
theorem dX6_init_161 : decode cX6_init 161 = .ok (.newarray .char, 2) := dk_188_5 (dk_at dksX6_init_7 0 rfl rfl)
theorem dX6_init_163 : decode cX6_init 163 = .ok (.putfield 72, 3) := dk_181 0 72 (dk_at dksX6_init_7 2 rfl rfl)
theorem dX6_init_166 : decode cX6_init 166 = .ok (.aload_n 0, 1) := dk_42 (dk_at dksX6_init_7 5 rfl rfl)
theorem dX6_init_167 : decode cX6_init 167 = .ok (.sipush 1200, 3) := dk_17 4 176 (dk_at dksX6_init_7 6 rfl rfl)
theorem dX6_init_170 : decode cX6_init 170 = .ok (.newarray .int, 2) := dk_188_10 (dk_at dksX6_init_7 9 rfl rfl)
theorem dX6_init_172 : decode cX6_init 172 = .ok (.putfield 75, 3) := dk_181 0 75 (dk_at dksX6_init_7 11 rfl rfl)
theorem dX6_init_175 : decode cX6_init 175 = .ok (.aload_n 0, 1) := dk_42 (dk_at dksX6_init_7 14 rfl rfl)
theorem dX6_init_176 : decode cX6_init 176 = .ok (.iconst 0, 1) := dk_3 (dk_at dksX6_init_7 15 rfl rfl)
theorem dX6_init_177 : decode cX6_init 177 = .ok (.bipush 109, 2) := dk_16 109 (dk_at dksX6_init_7 16 rfl rfl)
theorem dX6_init_179 : decode cX6_init 179 = .ok (.iconst 0, 1) := dk_3 (dk_at dksX6_init_7 18 rfl rfl)
theorem dX6_init_180 : decode cX6_init 180 = .ok (.bipush 71, 2) := dk_16 71 (dk_at dksX6_init_7 19 rfl rfl)
theorem dX6_init_182 : decode cX6_init 182 = .ok (.bipush 69, 2) := dk_16 69 (dk_at dksX6_init_7 21 rfl rfl)
theorem dX6_init_184 : decode cX6_init 184 = .ok (.bipush 84, 2) := dk_16 84 (dk_at dksX6_init_8 0 rfl rfl)
theorem dX6_init_186 : decode cX6_init 186 = .ok (.iconst 0, 1) := dk_3 (dk_at dksX6_init_8 2 rfl rfl)
theorem dX6_init_187 : decode cX6_init 187 = .ok (.invokevirtual 78, 3) := dk_182 0 78 (dk_at dksX6_init_8 3 rfl rfl)
theorem dX6_init_190 : decode cX6_init 190 = .ok (.aload_n 0, 1) := dk_42 (dk_at dksX6_init_8 6 rfl rfl)
theorem dX6_init_191 : decode cX6_init 191 = .ok (.iconst 1, 1) := dk_4 (dk_at dksX6_init_8 7 rfl rfl)
theorem dX6_init_192 : decode cX6_init 192 = .ok (.bipush 109, 2) := dk_16 109 (dk_at dksX6_init_8 8 rfl rfl)
theorem dX6_init_194 : decode cX6_init 194 = .ok (.iconst 0, 1) := dk_3 (dk_at dksX6_init_8 10 rfl rfl)
theorem dX6_init_195 : decode cX6_init 195 = .ok (.bipush 72, 2) := dk_16 72 (dk_at dksX6_init_8 11 rfl rfl)
theorem dX6_init_197 : decode cX6_init 197 = .ok (.bipush 69, 2) := dk_16 69 (dk_at dksX6_init_8 13 rfl rfl)
theorem dX6_init_199 : decode cX6_init 199 = .ok (.bipush 65, 2) := dk_16 65 (dk_at dksX6_init_8 15 rfl rfl)
theorem dX6_init_201 : decode cX6_init 201 = .ok (.bipush 68, 2) := dk_16 68 (dk_at dksX6_init_8 17 rfl rfl)
theorem dX6_init_203 : decode cX6_init 203 = .ok (.invokevirtual 78, 3) := dk_182 0 78 (dk_at dksX6_init_8 19 rfl rfl)
theorem dX6_init_206 : decode cX6_init 206 = .ok (.aload_n 0, 1) := dk_42 (dk_at dksX6_init_8 22 rfl rfl)
theorem dX6_init_207 : decode cX6_init 207 = .ok (.iconst 2, 1) := dk_5 (dk_at dksX6_init_8 23 rfl rfl)
theorem dX6_init_208 : decode cX6_init 208 = .ok (.bipush 112, 2) := dk_16 112 (dk_at dksX6_init_9 0 rfl rfl)
theorem dX6_init_210 : decode cX6_init 210 = .ok (.iconst 0, 1) := dk_3 (dk_at dksX6_init_9 2 rfl rfl)
theorem dX6_init_211 : decode cX6_init 211 = .ok (.bipush 47, 2) := dk_16 47 (dk_at dksX6_init_9 3 rfl rfl)
theorem dX6_init_213 : decode cX6_init 213 = .ok (.iconst 0, 1) := dk_3 (dk_at dksX6_init_9 5 rfl rfl)
theorem dX6_init_214 : decode cX6_init 214 = .ok (.iconst 0, 1) := dk_3 (dk_at dksX6_init_9 6 rfl rfl)
theorem dX6_init_215 : decode cX6_init 215 = .ok (.iconst 0, 1) := dk_3 (dk_at dksX6_init_9 7 rfl rfl)
theorem dX6_init_216 : decode cX6_init 216 = .ok (.invokevirtual 78, 3) := dk_182 0 78 (dk_at dksX6_init_9 8 rfl rfl)
theorem dX6_init_219 : decode cX6_init 219 = .ok (.aload_n 0, 1) := dk_42 (dk_at dksX6_init_9 11 rfl rfl)
theorem dX6_init_220 : decode cX6_init 220 = .ok (.iconst 3, 1) := dk_6 (dk_at dksX6_init_9 12 rfl rfl)
theorem dX6_init_221 : decode cX6_init 221 = .ok (.bipush 104, 2) := dk_16 104 (dk_at dksX6_init_9 13 rfl rfl)
theorem dX6_init_223 : decode cX6_init 223 = .ok (.bipush 111, 2) := dk_16 111 (dk_at dksX6_init_9 15 rfl rfl)
theorem dX6_init_225 : decode cX6_init 225 = .ok (.bipush 115, 2) := dk_16 115 (dk_at dksX6_init_9 17 rfl rfl)
theorem dX6_init_227 : decode cX6_init 227 = .ok (.bipush 116, 2) := dk_16 116 (dk_at dksX6_init_9 19 rfl rfl)
theorem dX6_init_229 : decode cX6_init 229 = .ok (.iconst 0, 1) := dk_3 (dk_at dksX6_init_9 21 rfl rfl)
theorem dX6_init_230 : decode cX6_init 230 = .ok (.iconst 0, 1) := dk_3 (dk_at dksX6_init_9 22 rfl rfl)
theorem dX6_init_231 : decode cX6_init 231 = .ok (.invokevirtual 78, 3) := dk_182 0 78 (dk_at dksX6_init_10 0 rfl rfl)
theorem dX6_init_234 : decode cX6_init 234 = .ok (.aload_n 0, 1) := dk_42 (dk_at dksX6_init_10 3 rfl rfl)
theorem dX6_init_235 : decode cX6_init 235 = .ok (.iconst 4, 1) := dk_7 (dk_at dksX6_init_10 4 rfl rfl)
theorem dX6_init_236 : decode cX6_init 236 = .ok (.bipush 108, 2) := dk_16 108 (dk_at dksX6_init_10 5 rfl rfl)
theorem dX6_init_238 : decode cX6_init 238 = .ok (.bipush 101, 2) := dk_16 101 (dk_at dksX6_init_10 7 rfl rfl)
theorem dX6_init_240 : decode cX6_init 240 = .ok (.bipush 110, 2) := dk_16 110 (dk_at dksX6_init_10 9 rfl rfl)
theorem dX6_init_242 : decode cX6_init 242 = .ok (.bipush 103, 2) := dk_16 103 (dk_at dksX6_init_10 11 rfl rfl)
theorem dX6_init_244 : decode cX6_init 244 = .ok (.bipush 116, 2) := dk_16 116 (dk_at dksX6_init_10 13 rfl rfl)
theorem dX6_init_246 : decode cX6_init 246 = .ok (.bipush 104, 2) := dk_16 104 (dk_at dksX6_init_10 15 rfl rfl)
theorem dX6_init_248 : decode cX6_init 248 = .ok (.invokevirtual 78, 3) := dk_182 0 78 (dk_at dksX6_init_10 17 rfl rfl)
theorem dX6_init_251 : decode cX6_init 251 = .ok (.aload_n 0, 1) := dk_42 (dk_at dksX6_init_10 20 rfl rfl)
theorem dX6_init_252 : decode cX6_init 252 = .ok (.iconst 5, 1) := dk_8 (dk_at dksX6_init_10 21 rfl rfl)
theorem dX6_init_253 : decode cX6_init 253 = .ok (.bipush 115, 2) := dk_16 115 (dk_at dksX6_init_10 22 rfl rfl)
theorem dX6_init_255 : decode cX6_init 255 = .ok (.iconst 0, 1) := dk_3 (dk_at dksX6_init_11 0 rfl rfl)
theorem dX6_init_256 : decode cX6_init 256 = .ok (.bipush 50, 2) := dk_16 50 (dk_at dksX6_init_11 1 rfl rfl)
theorem dX6_init_258 : decode cX6_init 258 = .ok (.bipush 48, 2) := dk_16 48 (dk_at dksX6_init_11 3 rfl rfl)
theorem dX6_init_260 : decode cX6_init 260 = .ok (.bipush 48, 2) := dk_16 48 (dk_at dksX6_init_11 5 rfl rfl)
theorem dX6_init_262 : decode cX6_init 262 = .ok (.iconst 0, 1) := dk_3 (dk_at dksX6_init_11 7 rfl rfl)
theorem dX6_init_263 : decode cX6_init 263 = .ok (.invokevirtual 78, 3) := dk_182 0 78 (dk_at dksX6_init_11 8 rfl rfl)
theorem dX6_init_266 : decode cX6_init 266 = .ok (.aload_n 0, 1) := dk_42 (dk_at dksX6_init_11 11 rfl rfl)
theorem dX6_init_267 : decode cX6_init 267 = .ok (.bipush 6, 2) := dk_16 6 (dk_at dksX6_init_11 12 rfl rfl)
theorem dX6_init_269 : decode cX6_init 269 = .ok (.bipush 115, 2) := dk_16 115 (dk_at dksX6_init_11 14 rfl rfl)
theorem dX6_init_271 : decode cX6_init 271 = .ok (.iconst 0, 1) := dk_3 (dk_at dksX6_init_11 16 rfl rfl)
theorem dX6_init_272 : decode cX6_init 272 = .ok (.bipush 52, 2) := dk_16 52 (dk_at dksX6_init_11 17 rfl rfl)
theorem dX6_init_274 : decode cX6_init 274 = .ok (.bipush 48, 2) := dk_16 48 (dk_at dksX6_init_11 19 rfl rfl)
theorem dX6_init_276 : decode cX6_init 276 = .ok (.bipush 52, 2) := dk_16 52 (dk_at dksX6_init_11 21 rfl rfl)
theorem dX6_init_278 : decode cX6_init 278 = .ok (.iconst 0, 1) := dk_3 (dk_at dksX6_init_11 23 rfl rfl)
theorem dX6_init_279 : decode cX6_init 279 = .ok (.invokevirtual 78, 3) := dk_182 0 78 (dk_at dksX6_init_12 0 rfl rfl)
theorem dX6_init_282 : decode cX6_init 282 = .ok (.aload_n 0, 1) := dk_42 (dk_at dksX6_init_12 3 rfl rfl)
theorem dX6_init_283 : decode cX6_init 283 = .ok (.getfield 23, 3) := dk_180 0 23 (dk_at dksX6_init_12 4 rfl rfl)
theorem dX6_init_286 : decode cX6_init 286 = .ok (.iconst 3, 1) := dk_6 (dk_at dksX6_init_12 7 rfl rfl)
theorem dX6_init_287 : decode cX6_init 287 = .ok (.iconst 4, 1) := dk_7 (dk_at dksX6_init_12 8 rfl rfl)
theorem dX6_init_288 : decode cX6_init 288 = .ok (.iastore, 1) := dk_79 (dk_at dksX6_init_12 9 rfl rfl)
theorem dX6_init_289 : decode cX6_init 289 = .ok (.aload_n 0, 1) := dk_42 (dk_at dksX6_init_12 10 rfl rfl)
theorem dX6_init_290 : decode cX6_init 290 = .ok (.getfield 23, 3) := dk_180 0 23 (dk_at dksX6_init_12 11 rfl rfl)
theorem dX6_init_293 : decode cX6_init 293 = .ok (.iconst 4, 1) := dk_7 (dk_at dksX6_init_12 14 rfl rfl)
theorem dX6_init_294 : decode cX6_init 294 = .ok (.bipush 6, 2) := dk_16 6 (dk_at dksX6_init_12 15 rfl rfl)
theorem dX6_init_296 : decode cX6_init 296 = .ok (.iastore, 1) := dk_79 (dk_at dksX6_init_12 17 rfl rfl)
theorem dX6_init_297 : decode cX6_init 297 = .ok (.aload_n 0, 1) := dk_42 (dk_at dksX6_init_12 18 rfl rfl)
theorem dX6_init_298 : decode cX6_init 298 = .ok (.invokevirtual 82, 3) := dk_182 0 82 (dk_at dksX6_init_12 19 rfl rfl)
theorem dX6_init_301 : decode cX6_init 301 = .ok (.return_, 1) := dk_177 (dk_at dksX6_init_12 22 rfl rfl)
abbrev cX6_fixed : ByteArray := prog_8_method_2_code
def yX6_fixed : MethodName := ⟨RX6, "fixed", "(IIIIIII)V"⟩
def dkwX6_fixed_9 : List UInt8 := [167, 0, 13, 21, 6, 158, 0, 7, 6, 167, 0, 4, 4, 79, 177]
abbrev dktX6_fixed_9 : List UInt8 := dkwX6_fixed_9 ++ []
def dkwX6_fixed_8 : List UInt8 := [21, 7, 146, 85, 42, 180, 0, 29, 27, 21, 8, 153, 0, 7, 3, 167, 0, 22, 21, 7, 158, 0, 7, 7]
abbrev dktX6_fixed_8 : List UInt8 := dkwX6_fixed_8 ++ dktX6_fixed_9
def dkwX6_fixed_7 : List UInt8 := [21, 5, 146, 85, 42, 180, 0, 32, 21, 9, 5, 96, 21, 6, 146, 85, 42, 180, 0, 32, 21, 9, 6, 96]
abbrev dktX6_fixed_7 : List UInt8 := dkwX6_fixed_7 ++ dktX6_fixed_8
def dkwX6_fixed_6 : List UInt8 := [180, 0, 23, 27, 5, 79, 42, 180, 0, 32, 21, 9, 21, 4, 146, 85, 42, 180, 0, 32, 21, 9, 4, 96]
abbrev dktX6_fixed_6 : List UInt8 := dkwX6_fixed_6 ++ dktX6_fixed_7
def dkwX6_fixed_5 : List UInt8 := [3, 85, 42, 180, 0, 26, 21, 9, 8, 96, 21, 8, 153, 0, 9, 21, 7, 146, 167, 0, 4, 3, 85, 42]
abbrev dktX6_fixed_5 : List UInt8 := dkwX6_fixed_5 ++ dktX6_fixed_6
def dkwX6_fixed_4 : List UInt8 := [167, 0, 4, 3, 85, 42, 180, 0, 26, 21, 9, 7, 96, 21, 8, 153, 0, 9, 21, 6, 146, 167, 0, 4]
abbrev dktX6_fixed_4 : List UInt8 := dkwX6_fixed_4 ++ dktX6_fixed_5
def dkwX6_fixed_3 : List UInt8 := [21, 4, 146, 167, 0, 4, 3, 85, 42, 180, 0, 26, 21, 9, 6, 96, 21, 8, 153, 0, 9, 21, 5, 146]
abbrev dktX6_fixed_3 : List UInt8 := dkwX6_fixed_3 ++ dktX6_fixed_4
def dkwX6_fixed_2 : List UInt8 := [153, 0, 8, 29, 146, 167, 0, 5, 28, 146, 85, 42, 180, 0, 26, 21, 9, 5, 96, 21, 8, 153, 0, 9]
abbrev dktX6_fixed_2 : List UInt8 := dkwX6_fixed_2 ++ dktX6_fixed_3
def dkwX6_fixed_1 : List UInt8 := [21, 8, 153, 0, 8, 28, 146, 167, 0, 5, 16, 58, 85, 42, 180, 0, 26, 21, 9, 4, 96, 21, 8]
abbrev dktX6_fixed_1 : List UInt8 := dkwX6_fixed_1 ++ dktX6_fixed_2
def dkwX6_fixed_0 : List UInt8 := [29, 158, 0, 7, 4, 167, 0, 4, 3, 54, 8, 16, 20, 27, 104, 54, 9, 42, 180, 0, 26, 21, 9]
abbrev dktX6_fixed_0 : List UInt8 := dkwX6_fixed_0 ++ dktX6_fixed_1
theorem dksX6_fixed_0 : cX6_fixed.data.toList.drop 0 = dktX6_fixed_0 := by decide +kernel
theorem dksX6_fixed_1 : cX6_fixed.data.toList.drop 23 = dktX6_fixed_1 := dk_seg dksX6_fixed_0 23 rfl rfl
theorem dksX6_fixed_2 : cX6_fixed.data.toList.drop 46 = dktX6_fixed_2 := dk_seg dksX6_fixed_1 23 rfl rfl
theorem dksX6_fixed_3 : cX6_fixed.data.toList.drop 70 = dktX6_fixed_3 := dk_seg dksX6_fixed_2 24 rfl rfl
theorem dksX6_fixed_4 : cX6_fixed.data.toList.drop 94 = dktX6_fixed_4 := dk_seg dksX6_fixed_3 24 rfl rfl
theorem dksX6_fixed_5 : cX6_fixed.data.toList.drop 118 = dktX6_fixed_5 := dk_seg dksX6_fixed_4 24 rfl rfl
theorem dksX6_fixed_6 : cX6_fixed.data.toList.drop 142 = dktX6_fixed_6 := dk_seg dksX6_fixed_5 24 rfl rfl
theorem dksX6_fixed_7 : cX6_fixed.data.toList.drop 166 = dktX6_fixed_7 := dk_seg dksX6_fixed_6 24 rfl rfl
theorem dksX6_fixed_8 : cX6_fixed.data.toList.drop 190 = dktX6_fixed_8 := dk_seg dksX6_fixed_7 24 rfl rfl
theorem dksX6_fixed_9 : cX6_fixed.data.toList.drop 214 = dktX6_fixed_9 := dk_seg dksX6_fixed_8 24 rfl rfl
theorem dX6_fixed_0 : decode cX6_fixed 0 = .ok (.iload_n 3, 1) := dk_29 (dk_at dksX6_fixed_0 0 rfl rfl)
theorem dX6_fixed_1 : decode cX6_fixed 1 = .ok (.ifCond .le 7, 3) := dk_158 0 7 (dk_at dksX6_fixed_0 1 rfl rfl)
theorem dX6_fixed_4 : decode cX6_fixed 4 = .ok (.iconst 1, 1) := dk_4 (dk_at dksX6_fixed_0 4 rfl rfl)
theorem dX6_fixed_5 : decode cX6_fixed 5 = .ok (.goto 4, 3) := dk_167 0 4 (dk_at dksX6_fixed_0 5 rfl rfl)
theorem dX6_fixed_8 : decode cX6_fixed 8 = .ok (.iconst 0, 1) := dk_3 (dk_at dksX6_fixed_0 8 rfl rfl)
theorem dX6_fixed_9 : decode cX6_fixed 9 = .ok (.istore 8, 2) := dk_54 8 (dk_at dksX6_fixed_0 9 rfl rfl)
theorem dX6_fixed_11 : decode cX6_fixed 11 = .ok (.bipush 20, 2) := dk_16 20 (dk_at dksX6_fixed_0 11 rfl rfl)
theorem dX6_fixed_13 : decode cX6_fixed 13 = .ok (.iload_n 1, 1) := dk_27 (dk_at dksX6_fixed_0 13 rfl rfl)
theorem dX6_fixed_14 : decode cX6_fixed 14 = .ok (.imul, 1) := dk_104 (dk_at dksX6_fixed_0 14 rfl rfl)
theorem dX6_fixed_15 : decode cX6_fixed 15 = .ok (.istore 9, 2) := dk_54 9 (dk_at dksX6_fixed_0 15 rfl rfl)
theorem dX6_fixed_17 : decode cX6_fixed 17 = .ok (.aload_n 0, 1) := dk_42 (dk_at dksX6_fixed_0 17 rfl rfl)
theorem dX6_fixed_18 : decode cX6_fixed 18 = .ok (.getfield 26, 3) := dk_180 0 26 (dk_at dksX6_fixed_0 18 rfl rfl)
theorem dX6_fixed_21 : decode cX6_fixed 21 = .ok (.iload 9, 2) := dk_21 9 (dk_at dksX6_fixed_0 21 rfl rfl)
theorem dX6_fixed_23 : decode cX6_fixed 23 = .ok (.iload 8, 2) := dk_21 8 (dk_at dksX6_fixed_1 0 rfl rfl)
theorem dX6_fixed_25 : decode cX6_fixed 25 = .ok (.ifCond .eq 8, 3) := dk_153 0 8 (dk_at dksX6_fixed_1 2 rfl rfl)
theorem dX6_fixed_28 : decode cX6_fixed 28 = .ok (.iload_n 2, 1) := dk_28 (dk_at dksX6_fixed_1 5 rfl rfl)
theorem dX6_fixed_29 : decode cX6_fixed 29 = .ok (.i2c, 1) := dk_146 (dk_at dksX6_fixed_1 6 rfl rfl)
theorem dX6_fixed_30 : decode cX6_fixed 30 = .ok (.goto 5, 3) := dk_167 0 5 (dk_at dksX6_fixed_1 7 rfl rfl)
theorem dX6_fixed_33 : decode cX6_fixed 33 = .ok (.bipush 58, 2) := dk_16 58 (dk_at dksX6_fixed_1 10 rfl rfl)
theorem dX6_fixed_35 : decode cX6_fixed 35 = .ok (.castore, 1) := dk_85 (dk_at dksX6_fixed_1 12 rfl rfl)
theorem dX6_fixed_36 : decode cX6_fixed 36 = .ok (.aload_n 0, 1) := dk_42 (dk_at dksX6_fixed_1 13 rfl rfl)
theorem dX6_fixed_37 : decode cX6_fixed 37 = .ok (.getfield 26, 3) := dk_180 0 26 (dk_at dksX6_fixed_1 14 rfl rfl)
theorem dX6_fixed_40 : decode cX6_fixed 40 = .ok (.iload 9, 2) := dk_21 9 (dk_at dksX6_fixed_1 17 rfl rfl)
theorem dX6_fixed_42 : decode cX6_fixed 42 = .ok (.iconst 1, 1) := dk_4 (dk_at dksX6_fixed_1 19 rfl rfl)
theorem dX6_fixed_43 : decode cX6_fixed 43 = .ok (.iadd, 1) := dk_96 (dk_at dksX6_fixed_1 20 rfl rfl)
theorem dX6_fixed_44 : decode cX6_fixed 44 = .ok (.iload 8, 2) := dk_21 8 (dk_at dksX6_fixed_1 21 rfl rfl)
theorem dX6_fixed_46 : decode cX6_fixed 46 = .ok (.ifCond .eq 8, 3) := dk_153 0 8 (dk_at dksX6_fixed_2 0 rfl rfl)
theorem dX6_fixed_49 : decode cX6_fixed 49 = .ok (.iload_n 3, 1) := dk_29 (dk_at dksX6_fixed_2 3 rfl rfl)
theorem dX6_fixed_50 : decode cX6_fixed 50 = .ok (.i2c, 1) := dk_146 (dk_at dksX6_fixed_2 4 rfl rfl)
theorem dX6_fixed_51 : decode cX6_fixed 51 = .ok (.goto 5, 3) := dk_167 0 5 (dk_at dksX6_fixed_2 5 rfl rfl)
theorem dX6_fixed_54 : decode cX6_fixed 54 = .ok (.iload_n 2, 1) := dk_28 (dk_at dksX6_fixed_2 8 rfl rfl)
theorem dX6_fixed_55 : decode cX6_fixed 55 = .ok (.i2c, 1) := dk_146 (dk_at dksX6_fixed_2 9 rfl rfl)
theorem dX6_fixed_56 : decode cX6_fixed 56 = .ok (.castore, 1) := dk_85 (dk_at dksX6_fixed_2 10 rfl rfl)
theorem dX6_fixed_57 : decode cX6_fixed 57 = .ok (.aload_n 0, 1) := dk_42 (dk_at dksX6_fixed_2 11 rfl rfl)
theorem dX6_fixed_58 : decode cX6_fixed 58 = .ok (.getfield 26, 3) := dk_180 0 26 (dk_at dksX6_fixed_2 12 rfl rfl)
theorem dX6_fixed_61 : decode cX6_fixed 61 = .ok (.iload 9, 2) := dk_21 9 (dk_at dksX6_fixed_2 15 rfl rfl)
theorem dX6_fixed_63 : decode cX6_fixed 63 = .ok (.iconst 2, 1) := dk_5 (dk_at dksX6_fixed_2 17 rfl rfl)
theorem dX6_fixed_64 : decode cX6_fixed 64 = .ok (.iadd, 1) := dk_96 (dk_at dksX6_fixed_2 18 rfl rfl)
theorem dX6_fixed_65 : decode cX6_fixed 65 = .ok (.iload 8, 2) := dk_21 8 (dk_at dksX6_fixed_2 19 rfl rfl)
theorem dX6_fixed_67 : decode cX6_fixed 67 = .ok (.ifCond .eq 9, 3) := dk_153 0 9 (dk_at dksX6_fixed_2 21 rfl rfl)
theorem dX6_fixed_70 : decode cX6_fixed 70 = .ok (.iload 4, 2) := dk_21 4 (dk_at dksX6_fixed_3 0 rfl rfl)
theorem dX6_fixed_72 : decode cX6_fixed 72 = .ok (.i2c, 1) := dk_146 (dk_at dksX6_fixed_3 2 rfl rfl)
theorem dX6_fixed_73 : decode cX6_fixed 73 = .ok (.goto 4, 3) := dk_167 0 4 (dk_at dksX6_fixed_3 3 rfl rfl)
theorem dX6_fixed_76 : decode cX6_fixed 76 = .ok (.iconst 0, 1) := dk_3 (dk_at dksX6_fixed_3 6 rfl rfl)
theorem dX6_fixed_77 : decode cX6_fixed 77 = .ok (.castore, 1) := dk_85 (dk_at dksX6_fixed_3 7 rfl rfl)
theorem dX6_fixed_78 : decode cX6_fixed 78 = .ok (.aload_n 0, 1) := dk_42 (dk_at dksX6_fixed_3 8 rfl rfl)
theorem dX6_fixed_79 : decode cX6_fixed 79 = .ok (.getfield 26, 3) := dk_180 0 26 (dk_at dksX6_fixed_3 9 rfl rfl)
theorem dX6_fixed_82 : decode cX6_fixed 82 = .ok (.iload 9, 2) := dk_21 9 (dk_at dksX6_fixed_3 12 rfl rfl)
theorem dX6_fixed_84 : decode cX6_fixed 84 = .ok (.iconst 3, 1) := dk_6 (dk_at dksX6_fixed_3 14 rfl rfl)
theorem dX6_fixed_85 : decode cX6_fixed 85 = .ok (.iadd, 1) := dk_96 (dk_at dksX6_fixed_3 15 rfl rfl)
theorem dX6_fixed_86 : decode cX6_fixed 86 = .ok (.iload 8, 2) := dk_21 8 (dk_at dksX6_fixed_3 16 rfl rfl)
theorem dX6_fixed_88 : decode cX6_fixed 88 = .ok (.ifCond .eq 9, 3) := dk_153 0 9 (dk_at dksX6_fixed_3 18 rfl rfl)
theorem dX6_fixed_91 : decode cX6_fixed 91 = .ok (.iload 5, 2) := dk_21 5 (dk_at dksX6_fixed_3 21 rfl rfl)
theorem dX6_fixed_93 : decode cX6_fixed 93 = .ok (.i2c, 1) := dk_146 (dk_at dksX6_fixed_3 23 rfl rfl)
theorem dX6_fixed_94 : decode cX6_fixed 94 = .ok (.goto 4, 3) := dk_167 0 4 (dk_at dksX6_fixed_4 0 rfl rfl)
theorem dX6_fixed_97 : decode cX6_fixed 97 = .ok (.iconst 0, 1) := dk_3 (dk_at dksX6_fixed_4 3 rfl rfl)
theorem dX6_fixed_98 : decode cX6_fixed 98 = .ok (.castore, 1) := dk_85 (dk_at dksX6_fixed_4 4 rfl rfl)
theorem dX6_fixed_99 : decode cX6_fixed 99 = .ok (.aload_n 0, 1) := dk_42 (dk_at dksX6_fixed_4 5 rfl rfl)
theorem dX6_fixed_100 : decode cX6_fixed 100 = .ok (.getfield 26, 3) := dk_180 0 26 (dk_at dksX6_fixed_4 6 rfl rfl)
theorem dX6_fixed_103 : decode cX6_fixed 103 = .ok (.iload 9, 2) := dk_21 9 (dk_at dksX6_fixed_4 9 rfl rfl)
theorem dX6_fixed_105 : decode cX6_fixed 105 = .ok (.iconst 4, 1) := dk_7 (dk_at dksX6_fixed_4 11 rfl rfl)
theorem dX6_fixed_106 : decode cX6_fixed 106 = .ok (.iadd, 1) := dk_96 (dk_at dksX6_fixed_4 12 rfl rfl)
theorem dX6_fixed_107 : decode cX6_fixed 107 = .ok (.iload 8, 2) := dk_21 8 (dk_at dksX6_fixed_4 13 rfl rfl)
theorem dX6_fixed_109 : decode cX6_fixed 109 = .ok (.ifCond .eq 9, 3) := dk_153 0 9 (dk_at dksX6_fixed_4 15 rfl rfl)
theorem dX6_fixed_112 : decode cX6_fixed 112 = .ok (.iload 6, 2) := dk_21 6 (dk_at dksX6_fixed_4 18 rfl rfl)
theorem dX6_fixed_114 : decode cX6_fixed 114 = .ok (.i2c, 1) := dk_146 (dk_at dksX6_fixed_4 20 rfl rfl)
theorem dX6_fixed_115 : decode cX6_fixed 115 = .ok (.goto 4, 3) := dk_167 0 4 (dk_at dksX6_fixed_4 21 rfl rfl)
theorem dX6_fixed_118 : decode cX6_fixed 118 = .ok (.iconst 0, 1) := dk_3 (dk_at dksX6_fixed_5 0 rfl rfl)
theorem dX6_fixed_119 : decode cX6_fixed 119 = .ok (.castore, 1) := dk_85 (dk_at dksX6_fixed_5 1 rfl rfl)
theorem dX6_fixed_120 : decode cX6_fixed 120 = .ok (.aload_n 0, 1) := dk_42 (dk_at dksX6_fixed_5 2 rfl rfl)
theorem dX6_fixed_121 : decode cX6_fixed 121 = .ok (.getfield 26, 3) := dk_180 0 26 (dk_at dksX6_fixed_5 3 rfl rfl)
theorem dX6_fixed_124 : decode cX6_fixed 124 = .ok (.iload 9, 2) := dk_21 9 (dk_at dksX6_fixed_5 6 rfl rfl)
theorem dX6_fixed_126 : decode cX6_fixed 126 = .ok (.iconst 5, 1) := dk_8 (dk_at dksX6_fixed_5 8 rfl rfl)
theorem dX6_fixed_127 : decode cX6_fixed 127 = .ok (.iadd, 1) := dk_96 (dk_at dksX6_fixed_5 9 rfl rfl)
theorem dX6_fixed_128 : decode cX6_fixed 128 = .ok (.iload 8, 2) := dk_21 8 (dk_at dksX6_fixed_5 10 rfl rfl)
theorem dX6_fixed_130 : decode cX6_fixed 130 = .ok (.ifCond .eq 9, 3) := dk_153 0 9 (dk_at dksX6_fixed_5 12 rfl rfl)
theorem dX6_fixed_133 : decode cX6_fixed 133 = .ok (.iload 7, 2) := dk_21 7 (dk_at dksX6_fixed_5 15 rfl rfl)
theorem dX6_fixed_135 : decode cX6_fixed 135 = .ok (.i2c, 1) := dk_146 (dk_at dksX6_fixed_5 17 rfl rfl)
theorem dX6_fixed_136 : decode cX6_fixed 136 = .ok (.goto 4, 3) := dk_167 0 4 (dk_at dksX6_fixed_5 18 rfl rfl)
theorem dX6_fixed_139 : decode cX6_fixed 139 = .ok (.iconst 0, 1) := dk_3 (dk_at dksX6_fixed_5 21 rfl rfl)
theorem dX6_fixed_140 : decode cX6_fixed 140 = .ok (.castore, 1) := dk_85 (dk_at dksX6_fixed_5 22 rfl rfl)
theorem dX6_fixed_141 : decode cX6_fixed 141 = .ok (.aload_n 0, 1) := dk_42 (dk_at dksX6_fixed_5 23 rfl rfl)
theorem dX6_fixed_142 : decode cX6_fixed 142 = .ok (.getfield 23, 3) := dk_180 0 23 (dk_at dksX6_fixed_6 0 rfl rfl)
theorem dX6_fixed_145 : decode cX6_fixed 145 = .ok (.iload_n 1, 1) := dk_27 (dk_at dksX6_fixed_6 3 rfl rfl)
theorem dX6_fixed_146 : decode cX6_fixed 146 = .ok (.iconst 2, 1) := dk_5 (dk_at dksX6_fixed_6 4 rfl rfl)
theorem dX6_fixed_147 : decode cX6_fixed 147 = .ok (.iastore, 1) := dk_79 (dk_at dksX6_fixed_6 5 rfl rfl)
theorem dX6_fixed_148 : decode cX6_fixed 148 = .ok (.aload_n 0, 1) := dk_42 (dk_at dksX6_fixed_6 6 rfl rfl)
theorem dX6_fixed_149 : decode cX6_fixed 149 = .ok (.getfield 32, 3) := dk_180 0 32 (dk_at dksX6_fixed_6 7 rfl rfl)
theorem dX6_fixed_152 : decode cX6_fixed 152 = .ok (.iload 9, 2) := dk_21 9 (dk_at dksX6_fixed_6 10 rfl rfl)
theorem dX6_fixed_154 : decode cX6_fixed 154 = .ok (.iload 4, 2) := dk_21 4 (dk_at dksX6_fixed_6 12 rfl rfl)
theorem dX6_fixed_156 : decode cX6_fixed 156 = .ok (.i2c, 1) := dk_146 (dk_at dksX6_fixed_6 14 rfl rfl)
theorem dX6_fixed_157 : decode cX6_fixed 157 = .ok (.castore, 1) := dk_85 (dk_at dksX6_fixed_6 15 rfl rfl)
theorem dX6_fixed_158 : decode cX6_fixed 158 = .ok (.aload_n 0, 1) := dk_42 (dk_at dksX6_fixed_6 16 rfl rfl)
theorem dX6_fixed_159 : decode cX6_fixed 159 = .ok (.getfield 32, 3) := dk_180 0 32 (dk_at dksX6_fixed_6 17 rfl rfl)
theorem dX6_fixed_162 : decode cX6_fixed 162 = .ok (.iload 9, 2) := dk_21 9 (dk_at dksX6_fixed_6 20 rfl rfl)
theorem dX6_fixed_164 : decode cX6_fixed 164 = .ok (.iconst 1, 1) := dk_4 (dk_at dksX6_fixed_6 22 rfl rfl)
theorem dX6_fixed_165 : decode cX6_fixed 165 = .ok (.iadd, 1) := dk_96 (dk_at dksX6_fixed_6 23 rfl rfl)
theorem dX6_fixed_166 : decode cX6_fixed 166 = .ok (.iload 5, 2) := dk_21 5 (dk_at dksX6_fixed_7 0 rfl rfl)
theorem dX6_fixed_168 : decode cX6_fixed 168 = .ok (.i2c, 1) := dk_146 (dk_at dksX6_fixed_7 2 rfl rfl)
theorem dX6_fixed_169 : decode cX6_fixed 169 = .ok (.castore, 1) := dk_85 (dk_at dksX6_fixed_7 3 rfl rfl)
theorem dX6_fixed_170 : decode cX6_fixed 170 = .ok (.aload_n 0, 1) := dk_42 (dk_at dksX6_fixed_7 4 rfl rfl)
theorem dX6_fixed_171 : decode cX6_fixed 171 = .ok (.getfield 32, 3) := dk_180 0 32 (dk_at dksX6_fixed_7 5 rfl rfl)
theorem dX6_fixed_174 : decode cX6_fixed 174 = .ok (.iload 9, 2) := dk_21 9 (dk_at dksX6_fixed_7 8 rfl rfl)
theorem dX6_fixed_176 : decode cX6_fixed 176 = .ok (.iconst 2, 1) := dk_5 (dk_at dksX6_fixed_7 10 rfl rfl)
theorem dX6_fixed_177 : decode cX6_fixed 177 = .ok (.iadd, 1) := dk_96 (dk_at dksX6_fixed_7 11 rfl rfl)
theorem dX6_fixed_178 : decode cX6_fixed 178 = .ok (.iload 6, 2) := dk_21 6 (dk_at dksX6_fixed_7 12 rfl rfl)
theorem dX6_fixed_180 : decode cX6_fixed 180 = .ok (.i2c, 1) := dk_146 (dk_at dksX6_fixed_7 14 rfl rfl)
theorem dX6_fixed_181 : decode cX6_fixed 181 = .ok (.castore, 1) := dk_85 (dk_at dksX6_fixed_7 15 rfl rfl)
theorem dX6_fixed_182 : decode cX6_fixed 182 = .ok (.aload_n 0, 1) := dk_42 (dk_at dksX6_fixed_7 16 rfl rfl)
theorem dX6_fixed_183 : decode cX6_fixed 183 = .ok (.getfield 32, 3) := dk_180 0 32 (dk_at dksX6_fixed_7 17 rfl rfl)
theorem dX6_fixed_186 : decode cX6_fixed 186 = .ok (.iload 9, 2) := dk_21 9 (dk_at dksX6_fixed_7 20 rfl rfl)
theorem dX6_fixed_188 : decode cX6_fixed 188 = .ok (.iconst 3, 1) := dk_6 (dk_at dksX6_fixed_7 22 rfl rfl)
theorem dX6_fixed_189 : decode cX6_fixed 189 = .ok (.iadd, 1) := dk_96 (dk_at dksX6_fixed_7 23 rfl rfl)
theorem dX6_fixed_190 : decode cX6_fixed 190 = .ok (.iload 7, 2) := dk_21 7 (dk_at dksX6_fixed_8 0 rfl rfl)
theorem dX6_fixed_192 : decode cX6_fixed 192 = .ok (.i2c, 1) := dk_146 (dk_at dksX6_fixed_8 2 rfl rfl)
theorem dX6_fixed_193 : decode cX6_fixed 193 = .ok (.castore, 1) := dk_85 (dk_at dksX6_fixed_8 3 rfl rfl)
theorem dX6_fixed_194 : decode cX6_fixed 194 = .ok (.aload_n 0, 1) := dk_42 (dk_at dksX6_fixed_8 4 rfl rfl)
theorem dX6_fixed_195 : decode cX6_fixed 195 = .ok (.getfield 29, 3) := dk_180 0 29 (dk_at dksX6_fixed_8 5 rfl rfl)
theorem dX6_fixed_198 : decode cX6_fixed 198 = .ok (.iload_n 1, 1) := dk_27 (dk_at dksX6_fixed_8 8 rfl rfl)
theorem dX6_fixed_199 : decode cX6_fixed 199 = .ok (.iload 8, 2) := dk_21 8 (dk_at dksX6_fixed_8 9 rfl rfl)
theorem dX6_fixed_201 : decode cX6_fixed 201 = .ok (.ifCond .eq 7, 3) := dk_153 0 7 (dk_at dksX6_fixed_8 11 rfl rfl)
theorem dX6_fixed_204 : decode cX6_fixed 204 = .ok (.iconst 0, 1) := dk_3 (dk_at dksX6_fixed_8 14 rfl rfl)
theorem dX6_fixed_205 : decode cX6_fixed 205 = .ok (.goto 22, 3) := dk_167 0 22 (dk_at dksX6_fixed_8 15 rfl rfl)
theorem dX6_fixed_208 : decode cX6_fixed 208 = .ok (.iload 7, 2) := dk_21 7 (dk_at dksX6_fixed_8 18 rfl rfl)
theorem dX6_fixed_210 : decode cX6_fixed 210 = .ok (.ifCond .le 7, 3) := dk_158 0 7 (dk_at dksX6_fixed_8 20 rfl rfl)
theorem dX6_fixed_213 : decode cX6_fixed 213 = .ok (.iconst 4, 1) := dk_7 (dk_at dksX6_fixed_8 23 rfl rfl)
theorem dX6_fixed_214 : decode cX6_fixed 214 = .ok (.goto 13, 3) := dk_167 0 13 (dk_at dksX6_fixed_9 0 rfl rfl)
theorem dX6_fixed_217 : decode cX6_fixed 217 = .ok (.iload 6, 2) := dk_21 6 (dk_at dksX6_fixed_9 3 rfl rfl)
theorem dX6_fixed_219 : decode cX6_fixed 219 = .ok (.ifCond .le 7, 3) := dk_158 0 7 (dk_at dksX6_fixed_9 5 rfl rfl)
theorem dX6_fixed_222 : decode cX6_fixed 222 = .ok (.iconst 3, 1) := dk_6 (dk_at dksX6_fixed_9 8 rfl rfl)
theorem dX6_fixed_223 : decode cX6_fixed 223 = .ok (.goto 4, 3) := dk_167 0 4 (dk_at dksX6_fixed_9 9 rfl rfl)
theorem dX6_fixed_226 : decode cX6_fixed 226 = .ok (.iconst 1, 1) := dk_4 (dk_at dksX6_fixed_9 12 rfl rfl)
theorem dX6_fixed_227 : decode cX6_fixed 227 = .ok (.iastore, 1) := dk_79 (dk_at dksX6_fixed_9 13 rfl rfl)
theorem dX6_fixed_228 : decode cX6_fixed 228 = .ok (.return_, 1) := dk_177 (dk_at dksX6_fixed_9 14 rfl rfl)
abbrev cX6_begin : ByteArray := prog_8_method_6_code
def yX6_begin : MethodName := ⟨RX6, "begin", "()V"⟩
def dkwX6_begin_4 : List UInt8 := [181, 0, 129, 42, 5, 7, 3, 3, 182, 0, 132, 42, 6, 182, 0, 136, 42, 7, 182, 0, 136, 177]
abbrev dktX6_begin_4 : List UInt8 := dkwX6_begin_4 ++ []
def dkwX6_begin_3 : List UInt8 := [181, 0, 117, 42, 16, 100, 181, 0, 120, 42, 16, 40, 181, 0, 123, 42, 16, 64, 181, 0, 126, 42, 3]
abbrev dktX6_begin_3 : List UInt8 := dkwX6_begin_3 ++ dktX6_begin_4
def dkwX6_begin_2 : List UInt8 := [42, 2, 181, 0, 105, 42, 3, 181, 0, 108, 42, 3, 181, 0, 111, 42, 3, 181, 0, 114, 42, 3]
abbrev dktX6_begin_2 : List UInt8 := dkwX6_begin_2 ++ dktX6_begin_3
def dkwX6_begin_1 : List UInt8 := [181, 0, 89, 42, 16, 24, 181, 0, 92, 42, 3, 181, 0, 95, 42, 3, 181, 0, 98, 42, 4, 181, 0, 101]
abbrev dktX6_begin_1 : List UInt8 := dkwX6_begin_1 ++ dktX6_begin_2
def dkwX6_begin_0 : List UInt8 := [3, 60, 27, 7, 162, 0, 16, 42, 180, 0, 35, 27, 3, 79, 132, 1, 1, 167, 255, 241, 42, 3]
abbrev dktX6_begin_0 : List UInt8 := dkwX6_begin_0 ++ dktX6_begin_1
theorem dksX6_begin_0 : cX6_begin.data.toList.drop 0 = dktX6_begin_0 := by decide +kernel
theorem dksX6_begin_1 : cX6_begin.data.toList.drop 22 = dktX6_begin_1 := dk_seg dksX6_begin_0 22 rfl rfl
theorem dksX6_begin_2 : cX6_begin.data.toList.drop 46 = dktX6_begin_2 := dk_seg dksX6_begin_1 24 rfl rfl
theorem dksX6_begin_3 : cX6_begin.data.toList.drop 68 = dktX6_begin_3 := dk_seg dksX6_begin_2 22 rfl rfl
theorem dksX6_begin_4 : cX6_begin.data.toList.drop 91 = dktX6_begin_4 := dk_seg dksX6_begin_3 23 rfl rfl
theorem dX6_begin_0 : decode cX6_begin 0 = .ok (.iconst 0, 1) := dk_3 (dk_at dksX6_begin_0 0 rfl rfl)
theorem dX6_begin_1 : decode cX6_begin 1 = .ok (.istore_n 1, 1) := dk_60 (dk_at dksX6_begin_0 1 rfl rfl)
theorem dX6_begin_2 : decode cX6_begin 2 = .ok (.iload_n 1, 1) := dk_27 (dk_at dksX6_begin_0 2 rfl rfl)
theorem dX6_begin_3 : decode cX6_begin 3 = .ok (.iconst 4, 1) := dk_7 (dk_at dksX6_begin_0 3 rfl rfl)
theorem dX6_begin_4 : decode cX6_begin 4 = .ok (.if_icmp .ge 16, 3) := dk_162 0 16 (dk_at dksX6_begin_0 4 rfl rfl)
theorem dX6_begin_7 : decode cX6_begin 7 = .ok (.aload_n 0, 1) := dk_42 (dk_at dksX6_begin_0 7 rfl rfl)
theorem dX6_begin_8 : decode cX6_begin 8 = .ok (.getfield 35, 3) := dk_180 0 35 (dk_at dksX6_begin_0 8 rfl rfl)
theorem dX6_begin_11 : decode cX6_begin 11 = .ok (.iload_n 1, 1) := dk_27 (dk_at dksX6_begin_0 11 rfl rfl)
theorem dX6_begin_12 : decode cX6_begin 12 = .ok (.iconst 0, 1) := dk_3 (dk_at dksX6_begin_0 12 rfl rfl)
theorem dX6_begin_13 : decode cX6_begin 13 = .ok (.iastore, 1) := dk_79 (dk_at dksX6_begin_0 13 rfl rfl)
theorem dX6_begin_14 : decode cX6_begin 14 = .ok (.iinc 1 1, 3) := dk_132 1 1 (dk_at dksX6_begin_0 14 rfl rfl)
theorem dX6_begin_17 : decode cX6_begin 17 = .ok (.goto (-15), 3) := dk_167 255 241 (dk_at dksX6_begin_0 17 rfl rfl)
theorem dX6_begin_20 : decode cX6_begin 20 = .ok (.aload_n 0, 1) := dk_42 (dk_at dksX6_begin_0 20 rfl rfl)
theorem dX6_begin_21 : decode cX6_begin 21 = .ok (.iconst 0, 1) := dk_3 (dk_at dksX6_begin_0 21 rfl rfl)
theorem dX6_begin_22 : decode cX6_begin 22 = .ok (.putfield 89, 3) := dk_181 0 89 (dk_at dksX6_begin_1 0 rfl rfl)
theorem dX6_begin_25 : decode cX6_begin 25 = .ok (.aload_n 0, 1) := dk_42 (dk_at dksX6_begin_1 3 rfl rfl)
theorem dX6_begin_26 : decode cX6_begin 26 = .ok (.bipush 24, 2) := dk_16 24 (dk_at dksX6_begin_1 4 rfl rfl)
theorem dX6_begin_28 : decode cX6_begin 28 = .ok (.putfield 92, 3) := dk_181 0 92 (dk_at dksX6_begin_1 6 rfl rfl)
theorem dX6_begin_31 : decode cX6_begin 31 = .ok (.aload_n 0, 1) := dk_42 (dk_at dksX6_begin_1 9 rfl rfl)
theorem dX6_begin_32 : decode cX6_begin 32 = .ok (.iconst 0, 1) := dk_3 (dk_at dksX6_begin_1 10 rfl rfl)
theorem dX6_begin_33 : decode cX6_begin 33 = .ok (.putfield 95, 3) := dk_181 0 95 (dk_at dksX6_begin_1 11 rfl rfl)
theorem dX6_begin_36 : decode cX6_begin 36 = .ok (.aload_n 0, 1) := dk_42 (dk_at dksX6_begin_1 14 rfl rfl)
theorem dX6_begin_37 : decode cX6_begin 37 = .ok (.iconst 0, 1) := dk_3 (dk_at dksX6_begin_1 15 rfl rfl)
theorem dX6_begin_38 : decode cX6_begin 38 = .ok (.putfield 98, 3) := dk_181 0 98 (dk_at dksX6_begin_1 16 rfl rfl)
theorem dX6_begin_41 : decode cX6_begin 41 = .ok (.aload_n 0, 1) := dk_42 (dk_at dksX6_begin_1 19 rfl rfl)
theorem dX6_begin_42 : decode cX6_begin 42 = .ok (.iconst 1, 1) := dk_4 (dk_at dksX6_begin_1 20 rfl rfl)
theorem dX6_begin_43 : decode cX6_begin 43 = .ok (.putfield 101, 3) := dk_181 0 101 (dk_at dksX6_begin_1 21 rfl rfl)
theorem dX6_begin_46 : decode cX6_begin 46 = .ok (.aload_n 0, 1) := dk_42 (dk_at dksX6_begin_2 0 rfl rfl)
theorem dX6_begin_47 : decode cX6_begin 47 = .ok (.iconst (-1), 1) := dk_2 (dk_at dksX6_begin_2 1 rfl rfl)
theorem dX6_begin_48 : decode cX6_begin 48 = .ok (.putfield 105, 3) := dk_181 0 105 (dk_at dksX6_begin_2 2 rfl rfl)
theorem dX6_begin_51 : decode cX6_begin 51 = .ok (.aload_n 0, 1) := dk_42 (dk_at dksX6_begin_2 5 rfl rfl)
theorem dX6_begin_52 : decode cX6_begin 52 = .ok (.iconst 0, 1) := dk_3 (dk_at dksX6_begin_2 6 rfl rfl)
theorem dX6_begin_53 : decode cX6_begin 53 = .ok (.putfield 108, 3) := dk_181 0 108 (dk_at dksX6_begin_2 7 rfl rfl)
theorem dX6_begin_56 : decode cX6_begin 56 = .ok (.aload_n 0, 1) := dk_42 (dk_at dksX6_begin_2 10 rfl rfl)
theorem dX6_begin_57 : decode cX6_begin 57 = .ok (.iconst 0, 1) := dk_3 (dk_at dksX6_begin_2 11 rfl rfl)
theorem dX6_begin_58 : decode cX6_begin 58 = .ok (.putfield 111, 3) := dk_181 0 111 (dk_at dksX6_begin_2 12 rfl rfl)
theorem dX6_begin_61 : decode cX6_begin 61 = .ok (.aload_n 0, 1) := dk_42 (dk_at dksX6_begin_2 15 rfl rfl)
theorem dX6_begin_62 : decode cX6_begin 62 = .ok (.iconst 0, 1) := dk_3 (dk_at dksX6_begin_2 16 rfl rfl)
theorem dX6_begin_63 : decode cX6_begin 63 = .ok (.putfield 114, 3) := dk_181 0 114 (dk_at dksX6_begin_2 17 rfl rfl)
theorem dX6_begin_66 : decode cX6_begin 66 = .ok (.aload_n 0, 1) := dk_42 (dk_at dksX6_begin_2 20 rfl rfl)
theorem dX6_begin_67 : decode cX6_begin 67 = .ok (.iconst 0, 1) := dk_3 (dk_at dksX6_begin_2 21 rfl rfl)
theorem dX6_begin_68 : decode cX6_begin 68 = .ok (.putfield 117, 3) := dk_181 0 117 (dk_at dksX6_begin_3 0 rfl rfl)
theorem dX6_begin_71 : decode cX6_begin 71 = .ok (.aload_n 0, 1) := dk_42 (dk_at dksX6_begin_3 3 rfl rfl)
theorem dX6_begin_72 : decode cX6_begin 72 = .ok (.bipush 100, 2) := dk_16 100 (dk_at dksX6_begin_3 4 rfl rfl)
theorem dX6_begin_74 : decode cX6_begin 74 = .ok (.putfield 120, 3) := dk_181 0 120 (dk_at dksX6_begin_3 6 rfl rfl)
theorem dX6_begin_77 : decode cX6_begin 77 = .ok (.aload_n 0, 1) := dk_42 (dk_at dksX6_begin_3 9 rfl rfl)
theorem dX6_begin_78 : decode cX6_begin 78 = .ok (.bipush 40, 2) := dk_16 40 (dk_at dksX6_begin_3 10 rfl rfl)
theorem dX6_begin_80 : decode cX6_begin 80 = .ok (.putfield 123, 3) := dk_181 0 123 (dk_at dksX6_begin_3 12 rfl rfl)
theorem dX6_begin_83 : decode cX6_begin 83 = .ok (.aload_n 0, 1) := dk_42 (dk_at dksX6_begin_3 15 rfl rfl)
theorem dX6_begin_84 : decode cX6_begin 84 = .ok (.bipush 64, 2) := dk_16 64 (dk_at dksX6_begin_3 16 rfl rfl)
theorem dX6_begin_86 : decode cX6_begin 86 = .ok (.putfield 126, 3) := dk_181 0 126 (dk_at dksX6_begin_3 18 rfl rfl)
theorem dX6_begin_89 : decode cX6_begin 89 = .ok (.aload_n 0, 1) := dk_42 (dk_at dksX6_begin_3 21 rfl rfl)
theorem dX6_begin_90 : decode cX6_begin 90 = .ok (.iconst 0, 1) := dk_3 (dk_at dksX6_begin_3 22 rfl rfl)
theorem dX6_begin_91 : decode cX6_begin 91 = .ok (.putfield 129, 3) := dk_181 0 129 (dk_at dksX6_begin_4 0 rfl rfl)
theorem dX6_begin_94 : decode cX6_begin 94 = .ok (.aload_n 0, 1) := dk_42 (dk_at dksX6_begin_4 3 rfl rfl)
theorem dX6_begin_95 : decode cX6_begin 95 = .ok (.iconst 2, 1) := dk_5 (dk_at dksX6_begin_4 4 rfl rfl)
theorem dX6_begin_96 : decode cX6_begin 96 = .ok (.iconst 4, 1) := dk_7 (dk_at dksX6_begin_4 5 rfl rfl)
theorem dX6_begin_97 : decode cX6_begin 97 = .ok (.iconst 0, 1) := dk_3 (dk_at dksX6_begin_4 6 rfl rfl)
theorem dX6_begin_98 : decode cX6_begin 98 = .ok (.iconst 0, 1) := dk_3 (dk_at dksX6_begin_4 7 rfl rfl)
theorem dX6_begin_99 : decode cX6_begin 99 = .ok (.invokevirtual 132, 3) := dk_182 0 132 (dk_at dksX6_begin_4 8 rfl rfl)
theorem dX6_begin_102 : decode cX6_begin 102 = .ok (.aload_n 0, 1) := dk_42 (dk_at dksX6_begin_4 11 rfl rfl)
theorem dX6_begin_103 : decode cX6_begin 103 = .ok (.iconst 3, 1) := dk_6 (dk_at dksX6_begin_4 12 rfl rfl)
theorem dX6_begin_104 : decode cX6_begin 104 = .ok (.invokevirtual 136, 3) := dk_182 0 136 (dk_at dksX6_begin_4 13 rfl rfl)
theorem dX6_begin_107 : decode cX6_begin 107 = .ok (.aload_n 0, 1) := dk_42 (dk_at dksX6_begin_4 16 rfl rfl)
theorem dX6_begin_108 : decode cX6_begin 108 = .ok (.iconst 4, 1) := dk_7 (dk_at dksX6_begin_4 17 rfl rfl)
theorem dX6_begin_109 : decode cX6_begin 109 = .ok (.invokevirtual 136, 3) := dk_182 0 136 (dk_at dksX6_begin_4 18 rfl rfl)
theorem dX6_begin_112 : decode cX6_begin 112 = .ok (.return_, 1) := dk_177 (dk_at dksX6_begin_4 21 rfl rfl)
abbrev cX6_head : ByteArray := prog_8_method_15_code
def yX6_head : MethodName := ⟨RX6, "head", "(IIII)V"⟩
def dkwX6_head_0 : List UInt8 := [42, 27, 182, 0, 136, 42, 28, 182, 0, 136, 42, 29, 182, 0, 136, 42, 21, 4, 182, 0, 136, 177]
abbrev dktX6_head_0 : List UInt8 := dkwX6_head_0 ++ []
theorem dksX6_head_0 : cX6_head.data.toList.drop 0 = dktX6_head_0 := by decide +kernel
theorem dX6_head_0 : decode cX6_head 0 = .ok (.aload_n 0, 1) := dk_42 (dk_at dksX6_head_0 0 rfl rfl)
theorem dX6_head_1 : decode cX6_head 1 = .ok (.iload_n 1, 1) := dk_27 (dk_at dksX6_head_0 1 rfl rfl)
theorem dX6_head_2 : decode cX6_head 2 = .ok (.invokevirtual 136, 3) := dk_182 0 136 (dk_at dksX6_head_0 2 rfl rfl)
theorem dX6_head_5 : decode cX6_head 5 = .ok (.aload_n 0, 1) := dk_42 (dk_at dksX6_head_0 5 rfl rfl)
theorem dX6_head_6 : decode cX6_head 6 = .ok (.iload_n 2, 1) := dk_28 (dk_at dksX6_head_0 6 rfl rfl)
theorem dX6_head_7 : decode cX6_head 7 = .ok (.invokevirtual 136, 3) := dk_182 0 136 (dk_at dksX6_head_0 7 rfl rfl)
theorem dX6_head_10 : decode cX6_head 10 = .ok (.aload_n 0, 1) := dk_42 (dk_at dksX6_head_0 10 rfl rfl)
theorem dX6_head_11 : decode cX6_head 11 = .ok (.iload_n 3, 1) := dk_29 (dk_at dksX6_head_0 11 rfl rfl)
theorem dX6_head_12 : decode cX6_head 12 = .ok (.invokevirtual 136, 3) := dk_182 0 136 (dk_at dksX6_head_0 12 rfl rfl)
theorem dX6_head_15 : decode cX6_head 15 = .ok (.aload_n 0, 1) := dk_42 (dk_at dksX6_head_0 15 rfl rfl)
theorem dX6_head_16 : decode cX6_head 16 = .ok (.iload 4, 2) := dk_21 4 (dk_at dksX6_head_0 16 rfl rfl)
theorem dX6_head_18 : decode cX6_head 18 = .ok (.invokevirtual 136, 3) := dk_182 0 136 (dk_at dksX6_head_0 18 rfl rfl)
theorem dX6_head_21 : decode cX6_head 21 = .ok (.return_, 1) := dk_177 (dk_at dksX6_head_0 21 rfl rfl)
abbrev cX6_say : ByteArray := prog_8_method_14_code
def yX6_say : MethodName := ⟨RX6, "say", "(I)V"⟩
def dkwX6_say_1 : List UInt8 := [177]
abbrev dktX6_say_1 : List UInt8 := dkwX6_say_1 ++ []
def dkwX6_say_0 : List UInt8 := [42, 180, 0, 75, 42, 180, 0, 129, 27, 17, 0, 255, 126, 79, 42, 89, 180, 0, 129, 4, 96, 181, 0, 129]
abbrev dktX6_say_0 : List UInt8 := dkwX6_say_0 ++ dktX6_say_1
theorem dksX6_say_0 : cX6_say.data.toList.drop 0 = dktX6_say_0 := by decide +kernel
theorem dksX6_say_1 : cX6_say.data.toList.drop 24 = dktX6_say_1 := dk_seg dksX6_say_0 24 rfl rfl
theorem dX6_say_0 : decode cX6_say 0 = .ok (.aload_n 0, 1) := dk_42 (dk_at dksX6_say_0 0 rfl rfl)
theorem dX6_say_1 : decode cX6_say 1 = .ok (.getfield 75, 3) := dk_180 0 75 (dk_at dksX6_say_0 1 rfl rfl)
theorem dX6_say_4 : decode cX6_say 4 = .ok (.aload_n 0, 1) := dk_42 (dk_at dksX6_say_0 4 rfl rfl)
theorem dX6_say_5 : decode cX6_say 5 = .ok (.getfield 129, 3) := dk_180 0 129 (dk_at dksX6_say_0 5 rfl rfl)
theorem dX6_say_8 : decode cX6_say 8 = .ok (.iload_n 1, 1) := dk_27 (dk_at dksX6_say_0 8 rfl rfl)
theorem dX6_say_9 : decode cX6_say 9 = .ok (.sipush 255, 3) := dk_17 0 255 (dk_at dksX6_say_0 9 rfl rfl)
theorem dX6_say_12 : decode cX6_say 12 = .ok (.iand, 1) := dk_126 (dk_at dksX6_say_0 12 rfl rfl)
theorem dX6_say_13 : decode cX6_say 13 = .ok (.iastore, 1) := dk_79 (dk_at dksX6_say_0 13 rfl rfl)
theorem dX6_say_14 : decode cX6_say 14 = .ok (.aload_n 0, 1) := dk_42 (dk_at dksX6_say_0 14 rfl rfl)
theorem dX6_say_15 : decode cX6_say 15 = .ok (.dup, 1) := dk_89 (dk_at dksX6_say_0 15 rfl rfl)
theorem dX6_say_16 : decode cX6_say 16 = .ok (.getfield 129, 3) := dk_180 0 129 (dk_at dksX6_say_0 16 rfl rfl)
theorem dX6_say_19 : decode cX6_say 19 = .ok (.iconst 1, 1) := dk_4 (dk_at dksX6_say_0 19 rfl rfl)
theorem dX6_say_20 : decode cX6_say 20 = .ok (.iadd, 1) := dk_96 (dk_at dksX6_say_0 20 rfl rfl)
theorem dX6_say_21 : decode cX6_say 21 = .ok (.putfield 129, 3) := dk_181 0 129 (dk_at dksX6_say_0 21 rfl rfl)
theorem dX6_say_24 : decode cX6_say 24 = .ok (.return_, 1) := dk_177 (dk_at dksX6_say_1 0 rfl rfl)
abbrev cX6_thrown : ByteArray := prog_8_method_3_code
def yX6_thrown : MethodName := ⟨RX6, "thrown", "()I"⟩
theorem dX6_thrown_0 : decode cX6_thrown 0 = .ok (.aload_n 0, 1) := by decide +kernel
theorem dX6_thrown_1 : decode cX6_thrown 1 = .ok (.getfield 85, 3) := by decide +kernel
theorem dX6_thrown_4 : decode cX6_thrown 4 = .ok (.ireturn, 1) := by decide +kernel
abbrev cX6_page : ByteArray := prog_8_method_13_code
def yX6_page : MethodName := ⟨RX6, "page", "(IIII)I"⟩
def dkwX6_page_10 : List UInt8 := [181, 0, 148, 42, 180, 0, 148, 4, 100, 172]
abbrev dktX6_page_10 : List UInt8 := dkwX6_page_10 ++ []
def dkwX6_page_9 : List UInt8 := [180, 0, 148, 29, 79, 42, 180, 0, 20, 42, 180, 0, 148, 21, 4, 79, 42, 89, 180, 0, 148, 4, 96]
abbrev dktX6_page_9 : List UInt8 := dkwX6_page_9 ++ dktX6_page_10
def dkwX6_page_8 : List UInt8 := [21, 7, 96, 42, 180, 0, 72, 21, 7, 52, 85, 132, 7, 1, 167, 255, 224, 42, 180, 0, 17, 42]
abbrev dktX6_page_8 : List UInt8 := dkwX6_page_8 ++ dktX6_page_9
def dkwX6_page_7 : List UInt8 := [21, 6, 79, 3, 54, 7, 21, 7, 21, 6, 162, 0, 31, 42, 180, 0, 13, 16, 8, 42, 180, 0, 148, 104]
abbrev dktX6_page_7 : List UInt8 := dkwX6_page_7 ++ dktX6_page_8
def dkwX6_page_6 : List UInt8 := [167, 0, 4, 3, 181, 0, 85, 42, 180, 0, 85, 158, 0, 5, 3, 172, 42, 180, 0, 7, 42, 180, 0, 148]
abbrev dktX6_page_6 : List UInt8 := dkwX6_page_6 ++ dktX6_page_7
def dkwX6_page_5 : List UInt8 := [3, 21, 6, 182, 0, 169, 2, 159, 0, 7, 4, 167, 0, 17, 42, 180, 0, 148, 16, 8, 160, 0, 7, 5]
abbrev dktX6_page_5 : List UInt8 := dkwX6_page_5 ++ dktX6_page_6
def dkwX6_page_4 : List UInt8 := [96, 28, 182, 0, 165, 4, 27, 184, 0, 151, 96, 28, 184, 0, 151, 96, 54, 6, 42, 42, 42, 180, 0, 72]
abbrev dktX6_page_4 : List UInt8 := dkwX6_page_4 ++ dktX6_page_5
def dkwX6_page_3 : List UInt8 := [182, 0, 162, 172, 42, 180, 0, 72, 3, 16, 47, 85, 42, 4, 27, 182, 0, 165, 42, 4, 27, 184, 0, 151]
abbrev dktX6_page_3 : List UInt8 := dkwX6_page_3 ++ dktX6_page_4
def dkwX6_page_2 : List UInt8 := [17, 0, 255, 184, 0, 158, 154, 0, 7, 4, 167, 0, 4, 3, 54, 5, 21, 5, 154, 0, 9, 42, 4]
abbrev dktX6_page_2 : List UInt8 := dkwX6_page_2 ++ dktX6_page_3
def dkwX6_page_1 : List UInt8 := [153, 0, 11, 27, 184, 0, 151, 7, 160, 0, 29, 29, 3, 16, 60, 184, 0, 158, 154, 0, 19, 21, 4, 3]
abbrev dktX6_page_1 : List UInt8 := dkwX6_page_1 ++ dktX6_page_2
def dkwX6_page_0 : List UInt8 := [27, 184, 0, 155, 153, 0, 56, 28, 184, 0, 155, 153, 0, 49, 28, 184, 0, 151, 7, 162, 0, 41, 28]
abbrev dktX6_page_0 : List UInt8 := dkwX6_page_0 ++ dktX6_page_1
theorem dksX6_page_0 : cX6_page.data.toList.drop 0 = dktX6_page_0 := by decide +kernel
theorem dksX6_page_1 : cX6_page.data.toList.drop 23 = dktX6_page_1 := dk_seg dksX6_page_0 23 rfl rfl
theorem dksX6_page_2 : cX6_page.data.toList.drop 47 = dktX6_page_2 := dk_seg dksX6_page_1 24 rfl rfl
theorem dksX6_page_3 : cX6_page.data.toList.drop 70 = dktX6_page_3 := dk_seg dksX6_page_2 23 rfl rfl
theorem dksX6_page_4 : cX6_page.data.toList.drop 94 = dktX6_page_4 := dk_seg dksX6_page_3 24 rfl rfl
theorem dksX6_page_5 : cX6_page.data.toList.drop 118 = dktX6_page_5 := dk_seg dksX6_page_4 24 rfl rfl
theorem dksX6_page_6 : cX6_page.data.toList.drop 142 = dktX6_page_6 := dk_seg dksX6_page_5 24 rfl rfl
theorem dksX6_page_7 : cX6_page.data.toList.drop 166 = dktX6_page_7 := dk_seg dksX6_page_6 24 rfl rfl
theorem dksX6_page_8 : cX6_page.data.toList.drop 190 = dktX6_page_8 := dk_seg dksX6_page_7 24 rfl rfl
theorem dksX6_page_9 : cX6_page.data.toList.drop 212 = dktX6_page_9 := dk_seg dksX6_page_8 22 rfl rfl
theorem dksX6_page_10 : cX6_page.data.toList.drop 235 = dktX6_page_10 := dk_seg dksX6_page_9 23 rfl rfl
theorem dX6_page_0 : decode cX6_page 0 = .ok (.iload_n 1, 1) := dk_27 (dk_at dksX6_page_0 0 rfl rfl)
theorem dX6_page_1 : decode cX6_page 1 = .ok (.invokestatic 155, 3) := dk_184 0 155 (dk_at dksX6_page_0 1 rfl rfl)
theorem dX6_page_4 : decode cX6_page 4 = .ok (.ifCond .eq 56, 3) := dk_153 0 56 (dk_at dksX6_page_0 4 rfl rfl)
theorem dX6_page_7 : decode cX6_page 7 = .ok (.iload_n 2, 1) := dk_28 (dk_at dksX6_page_0 7 rfl rfl)
theorem dX6_page_8 : decode cX6_page 8 = .ok (.invokestatic 155, 3) := dk_184 0 155 (dk_at dksX6_page_0 8 rfl rfl)
theorem dX6_page_11 : decode cX6_page 11 = .ok (.ifCond .eq 49, 3) := dk_153 0 49 (dk_at dksX6_page_0 11 rfl rfl)
theorem dX6_page_14 : decode cX6_page 14 = .ok (.iload_n 2, 1) := dk_28 (dk_at dksX6_page_0 14 rfl rfl)
theorem dX6_page_15 : decode cX6_page 15 = .ok (.invokestatic 151, 3) := dk_184 0 151 (dk_at dksX6_page_0 15 rfl rfl)
theorem dX6_page_18 : decode cX6_page 18 = .ok (.iconst 4, 1) := dk_7 (dk_at dksX6_page_0 18 rfl rfl)
theorem dX6_page_19 : decode cX6_page 19 = .ok (.if_icmp .ge 41, 3) := dk_162 0 41 (dk_at dksX6_page_0 19 rfl rfl)
theorem dX6_page_22 : decode cX6_page 22 = .ok (.iload_n 2, 1) := dk_28 (dk_at dksX6_page_0 22 rfl rfl)
theorem dX6_page_23 : decode cX6_page 23 = .ok (.ifCond .eq 11, 3) := dk_153 0 11 (dk_at dksX6_page_1 0 rfl rfl)
theorem dX6_page_26 : decode cX6_page 26 = .ok (.iload_n 1, 1) := dk_27 (dk_at dksX6_page_1 3 rfl rfl)
theorem dX6_page_27 : decode cX6_page 27 = .ok (.invokestatic 151, 3) := dk_184 0 151 (dk_at dksX6_page_1 4 rfl rfl)
theorem dX6_page_30 : decode cX6_page 30 = .ok (.iconst 4, 1) := dk_7 (dk_at dksX6_page_1 7 rfl rfl)
theorem dX6_page_31 : decode cX6_page 31 = .ok (.if_icmp .ne 29, 3) := dk_160 0 29 (dk_at dksX6_page_1 8 rfl rfl)
theorem dX6_page_34 : decode cX6_page 34 = .ok (.iload_n 3, 1) := dk_29 (dk_at dksX6_page_1 11 rfl rfl)
theorem dX6_page_35 : decode cX6_page 35 = .ok (.iconst 0, 1) := dk_3 (dk_at dksX6_page_1 12 rfl rfl)
theorem dX6_page_36 : decode cX6_page 36 = .ok (.bipush 60, 2) := dk_16 60 (dk_at dksX6_page_1 13 rfl rfl)
theorem dX6_page_38 : decode cX6_page 38 = .ok (.invokestatic 158, 3) := dk_184 0 158 (dk_at dksX6_page_1 15 rfl rfl)
theorem dX6_page_41 : decode cX6_page 41 = .ok (.ifCond .ne 19, 3) := dk_154 0 19 (dk_at dksX6_page_1 18 rfl rfl)
theorem dX6_page_44 : decode cX6_page 44 = .ok (.iload 4, 2) := dk_21 4 (dk_at dksX6_page_1 21 rfl rfl)
theorem dX6_page_46 : decode cX6_page 46 = .ok (.iconst 0, 1) := dk_3 (dk_at dksX6_page_1 23 rfl rfl)
theorem dX6_page_47 : decode cX6_page 47 = .ok (.sipush 255, 3) := dk_17 0 255 (dk_at dksX6_page_2 0 rfl rfl)
theorem dX6_page_50 : decode cX6_page 50 = .ok (.invokestatic 158, 3) := dk_184 0 158 (dk_at dksX6_page_2 3 rfl rfl)
theorem dX6_page_53 : decode cX6_page 53 = .ok (.ifCond .ne 7, 3) := dk_154 0 7 (dk_at dksX6_page_2 6 rfl rfl)
theorem dX6_page_56 : decode cX6_page 56 = .ok (.iconst 1, 1) := dk_4 (dk_at dksX6_page_2 9 rfl rfl)
theorem dX6_page_57 : decode cX6_page 57 = .ok (.goto 4, 3) := dk_167 0 4 (dk_at dksX6_page_2 10 rfl rfl)
theorem dX6_page_60 : decode cX6_page 60 = .ok (.iconst 0, 1) := dk_3 (dk_at dksX6_page_2 13 rfl rfl)
theorem dX6_page_61 : decode cX6_page 61 = .ok (.istore 5, 2) := dk_54 5 (dk_at dksX6_page_2 14 rfl rfl)
theorem dX6_page_63 : decode cX6_page 63 = .ok (.iload 5, 2) := dk_21 5 (dk_at dksX6_page_2 16 rfl rfl)
theorem dX6_page_65 : decode cX6_page 65 = .ok (.ifCond .ne 9, 3) := dk_154 0 9 (dk_at dksX6_page_2 18 rfl rfl)
theorem dX6_page_68 : decode cX6_page 68 = .ok (.aload_n 0, 1) := dk_42 (dk_at dksX6_page_2 21 rfl rfl)
theorem dX6_page_69 : decode cX6_page 69 = .ok (.iconst 1, 1) := dk_4 (dk_at dksX6_page_2 22 rfl rfl)
theorem dX6_page_70 : decode cX6_page 70 = .ok (.invokevirtual 162, 3) := dk_182 0 162 (dk_at dksX6_page_3 0 rfl rfl)
theorem dX6_page_73 : decode cX6_page 73 = .ok (.ireturn, 1) := dk_172 (dk_at dksX6_page_3 3 rfl rfl)
theorem dX6_page_74 : decode cX6_page 74 = .ok (.aload_n 0, 1) := dk_42 (dk_at dksX6_page_3 4 rfl rfl)
theorem dX6_page_75 : decode cX6_page 75 = .ok (.getfield 72, 3) := dk_180 0 72 (dk_at dksX6_page_3 5 rfl rfl)
theorem dX6_page_78 : decode cX6_page 78 = .ok (.iconst 0, 1) := dk_3 (dk_at dksX6_page_3 8 rfl rfl)
theorem dX6_page_79 : decode cX6_page 79 = .ok (.bipush 47, 2) := dk_16 47 (dk_at dksX6_page_3 9 rfl rfl)
theorem dX6_page_81 : decode cX6_page 81 = .ok (.castore, 1) := dk_85 (dk_at dksX6_page_3 11 rfl rfl)
theorem dX6_page_82 : decode cX6_page 82 = .ok (.aload_n 0, 1) := dk_42 (dk_at dksX6_page_3 12 rfl rfl)
theorem dX6_page_83 : decode cX6_page 83 = .ok (.iconst 1, 1) := dk_4 (dk_at dksX6_page_3 13 rfl rfl)
theorem dX6_page_84 : decode cX6_page 84 = .ok (.iload_n 1, 1) := dk_27 (dk_at dksX6_page_3 14 rfl rfl)
theorem dX6_page_85 : decode cX6_page 85 = .ok (.invokevirtual 165, 3) := dk_182 0 165 (dk_at dksX6_page_3 15 rfl rfl)
theorem dX6_page_88 : decode cX6_page 88 = .ok (.aload_n 0, 1) := dk_42 (dk_at dksX6_page_3 18 rfl rfl)
theorem dX6_page_89 : decode cX6_page 89 = .ok (.iconst 1, 1) := dk_4 (dk_at dksX6_page_3 19 rfl rfl)
theorem dX6_page_90 : decode cX6_page 90 = .ok (.iload_n 1, 1) := dk_27 (dk_at dksX6_page_3 20 rfl rfl)
theorem dX6_page_91 : decode cX6_page 91 = .ok (.invokestatic 151, 3) := dk_184 0 151 (dk_at dksX6_page_3 21 rfl rfl)
theorem dX6_page_94 : decode cX6_page 94 = .ok (.iadd, 1) := dk_96 (dk_at dksX6_page_4 0 rfl rfl)
theorem dX6_page_95 : decode cX6_page 95 = .ok (.iload_n 2, 1) := dk_28 (dk_at dksX6_page_4 1 rfl rfl)
theorem dX6_page_96 : decode cX6_page 96 = .ok (.invokevirtual 165, 3) := dk_182 0 165 (dk_at dksX6_page_4 2 rfl rfl)
theorem dX6_page_99 : decode cX6_page 99 = .ok (.iconst 1, 1) := dk_4 (dk_at dksX6_page_4 5 rfl rfl)
theorem dX6_page_100 : decode cX6_page 100 = .ok (.iload_n 1, 1) := dk_27 (dk_at dksX6_page_4 6 rfl rfl)
theorem dX6_page_101 : decode cX6_page 101 = .ok (.invokestatic 151, 3) := dk_184 0 151 (dk_at dksX6_page_4 7 rfl rfl)
theorem dX6_page_104 : decode cX6_page 104 = .ok (.iadd, 1) := dk_96 (dk_at dksX6_page_4 10 rfl rfl)
theorem dX6_page_105 : decode cX6_page 105 = .ok (.iload_n 2, 1) := dk_28 (dk_at dksX6_page_4 11 rfl rfl)
theorem dX6_page_106 : decode cX6_page 106 = .ok (.invokestatic 151, 3) := dk_184 0 151 (dk_at dksX6_page_4 12 rfl rfl)
theorem dX6_page_109 : decode cX6_page 109 = .ok (.iadd, 1) := dk_96 (dk_at dksX6_page_4 15 rfl rfl)
theorem dX6_page_110 : decode cX6_page 110 = .ok (.istore 6, 2) := dk_54 6 (dk_at dksX6_page_4 16 rfl rfl)
theorem dX6_page_112 : decode cX6_page 112 = .ok (.aload_n 0, 1) := dk_42 (dk_at dksX6_page_4 18 rfl rfl)
theorem dX6_page_113 : decode cX6_page 113 = .ok (.aload_n 0, 1) := dk_42 (dk_at dksX6_page_4 19 rfl rfl)
theorem dX6_page_114 : decode cX6_page 114 = .ok (.aload_n 0, 1) := dk_42 (dk_at dksX6_page_4 20 rfl rfl)
theorem dX6_page_115 : decode cX6_page 115 = .ok (.getfield 72, 3) := dk_180 0 72 (dk_at dksX6_page_4 21 rfl rfl)
theorem dX6_page_118 : decode cX6_page 118 = .ok (.iconst 0, 1) := dk_3 (dk_at dksX6_page_5 0 rfl rfl)
theorem dX6_page_119 : decode cX6_page 119 = .ok (.iload 6, 2) := dk_21 6 (dk_at dksX6_page_5 1 rfl rfl)
theorem dX6_page_121 : decode cX6_page 121 = .ok (.invokevirtual 169, 3) := dk_182 0 169 (dk_at dksX6_page_5 3 rfl rfl)
theorem dX6_page_124 : decode cX6_page 124 = .ok (.iconst (-1), 1) := dk_2 (dk_at dksX6_page_5 6 rfl rfl)
theorem dX6_page_125 : decode cX6_page 125 = .ok (.if_icmp .eq 7, 3) := dk_159 0 7 (dk_at dksX6_page_5 7 rfl rfl)
theorem dX6_page_128 : decode cX6_page 128 = .ok (.iconst 1, 1) := dk_4 (dk_at dksX6_page_5 10 rfl rfl)
theorem dX6_page_129 : decode cX6_page 129 = .ok (.goto 17, 3) := dk_167 0 17 (dk_at dksX6_page_5 11 rfl rfl)
theorem dX6_page_132 : decode cX6_page 132 = .ok (.aload_n 0, 1) := dk_42 (dk_at dksX6_page_5 14 rfl rfl)
theorem dX6_page_133 : decode cX6_page 133 = .ok (.getfield 148, 3) := dk_180 0 148 (dk_at dksX6_page_5 15 rfl rfl)
theorem dX6_page_136 : decode cX6_page 136 = .ok (.bipush 8, 2) := dk_16 8 (dk_at dksX6_page_5 18 rfl rfl)
theorem dX6_page_138 : decode cX6_page 138 = .ok (.if_icmp .ne 7, 3) := dk_160 0 7 (dk_at dksX6_page_5 20 rfl rfl)
theorem dX6_page_141 : decode cX6_page 141 = .ok (.iconst 2, 1) := dk_5 (dk_at dksX6_page_5 23 rfl rfl)
theorem dX6_page_142 : decode cX6_page 142 = .ok (.goto 4, 3) := dk_167 0 4 (dk_at dksX6_page_6 0 rfl rfl)
theorem dX6_page_145 : decode cX6_page 145 = .ok (.iconst 0, 1) := dk_3 (dk_at dksX6_page_6 3 rfl rfl)
theorem dX6_page_146 : decode cX6_page 146 = .ok (.putfield 85, 3) := dk_181 0 85 (dk_at dksX6_page_6 4 rfl rfl)
theorem dX6_page_149 : decode cX6_page 149 = .ok (.aload_n 0, 1) := dk_42 (dk_at dksX6_page_6 7 rfl rfl)
theorem dX6_page_150 : decode cX6_page 150 = .ok (.getfield 85, 3) := dk_180 0 85 (dk_at dksX6_page_6 8 rfl rfl)
theorem dX6_page_153 : decode cX6_page 153 = .ok (.ifCond .le 5, 3) := dk_158 0 5 (dk_at dksX6_page_6 11 rfl rfl)
theorem dX6_page_156 : decode cX6_page 156 = .ok (.iconst 0, 1) := dk_3 (dk_at dksX6_page_6 14 rfl rfl)
theorem dX6_page_157 : decode cX6_page 157 = .ok (.ireturn, 1) := dk_172 (dk_at dksX6_page_6 15 rfl rfl)
theorem dX6_page_158 : decode cX6_page 158 = .ok (.aload_n 0, 1) := dk_42 (dk_at dksX6_page_6 16 rfl rfl)
theorem dX6_page_159 : decode cX6_page 159 = .ok (.getfield 7, 3) := dk_180 0 7 (dk_at dksX6_page_6 17 rfl rfl)
theorem dX6_page_162 : decode cX6_page 162 = .ok (.aload_n 0, 1) := dk_42 (dk_at dksX6_page_6 20 rfl rfl)
theorem dX6_page_163 : decode cX6_page 163 = .ok (.getfield 148, 3) := dk_180 0 148 (dk_at dksX6_page_6 21 rfl rfl)
theorem dX6_page_166 : decode cX6_page 166 = .ok (.iload 6, 2) := dk_21 6 (dk_at dksX6_page_7 0 rfl rfl)
theorem dX6_page_168 : decode cX6_page 168 = .ok (.iastore, 1) := dk_79 (dk_at dksX6_page_7 2 rfl rfl)
theorem dX6_page_169 : decode cX6_page 169 = .ok (.iconst 0, 1) := dk_3 (dk_at dksX6_page_7 3 rfl rfl)
theorem dX6_page_170 : decode cX6_page 170 = .ok (.istore 7, 2) := dk_54 7 (dk_at dksX6_page_7 4 rfl rfl)
theorem dX6_page_172 : decode cX6_page 172 = .ok (.iload 7, 2) := dk_21 7 (dk_at dksX6_page_7 6 rfl rfl)
theorem dX6_page_174 : decode cX6_page 174 = .ok (.iload 6, 2) := dk_21 6 (dk_at dksX6_page_7 8 rfl rfl)
theorem dX6_page_176 : decode cX6_page 176 = .ok (.if_icmp .ge 31, 3) := dk_162 0 31 (dk_at dksX6_page_7 10 rfl rfl)
theorem dX6_page_179 : decode cX6_page 179 = .ok (.aload_n 0, 1) := dk_42 (dk_at dksX6_page_7 13 rfl rfl)
theorem dX6_page_180 : decode cX6_page 180 = .ok (.getfield 13, 3) := dk_180 0 13 (dk_at dksX6_page_7 14 rfl rfl)
theorem dX6_page_183 : decode cX6_page 183 = .ok (.bipush 8, 2) := dk_16 8 (dk_at dksX6_page_7 17 rfl rfl)
theorem dX6_page_185 : decode cX6_page 185 = .ok (.aload_n 0, 1) := dk_42 (dk_at dksX6_page_7 19 rfl rfl)
theorem dX6_page_186 : decode cX6_page 186 = .ok (.getfield 148, 3) := dk_180 0 148 (dk_at dksX6_page_7 20 rfl rfl)
theorem dX6_page_189 : decode cX6_page 189 = .ok (.imul, 1) := dk_104 (dk_at dksX6_page_7 23 rfl rfl)
theorem dX6_page_190 : decode cX6_page 190 = .ok (.iload 7, 2) := dk_21 7 (dk_at dksX6_page_8 0 rfl rfl)
theorem dX6_page_192 : decode cX6_page 192 = .ok (.iadd, 1) := dk_96 (dk_at dksX6_page_8 2 rfl rfl)
theorem dX6_page_193 : decode cX6_page 193 = .ok (.aload_n 0, 1) := dk_42 (dk_at dksX6_page_8 3 rfl rfl)
theorem dX6_page_194 : decode cX6_page 194 = .ok (.getfield 72, 3) := dk_180 0 72 (dk_at dksX6_page_8 4 rfl rfl)
theorem dX6_page_197 : decode cX6_page 197 = .ok (.iload 7, 2) := dk_21 7 (dk_at dksX6_page_8 7 rfl rfl)
theorem dX6_page_199 : decode cX6_page 199 = .ok (.caload, 1) := dk_52 (dk_at dksX6_page_8 9 rfl rfl)
theorem dX6_page_200 : decode cX6_page 200 = .ok (.castore, 1) := dk_85 (dk_at dksX6_page_8 10 rfl rfl)
theorem dX6_page_201 : decode cX6_page 201 = .ok (.iinc 7 1, 3) := dk_132 7 1 (dk_at dksX6_page_8 11 rfl rfl)
theorem dX6_page_204 : decode cX6_page 204 = .ok (.goto (-32), 3) := dk_167 255 224 (dk_at dksX6_page_8 14 rfl rfl)
theorem dX6_page_207 : decode cX6_page 207 = .ok (.aload_n 0, 1) := dk_42 (dk_at dksX6_page_8 17 rfl rfl)
theorem dX6_page_208 : decode cX6_page 208 = .ok (.getfield 17, 3) := dk_180 0 17 (dk_at dksX6_page_8 18 rfl rfl)
theorem dX6_page_211 : decode cX6_page 211 = .ok (.aload_n 0, 1) := dk_42 (dk_at dksX6_page_8 21 rfl rfl)
theorem dX6_page_212 : decode cX6_page 212 = .ok (.getfield 148, 3) := dk_180 0 148 (dk_at dksX6_page_9 0 rfl rfl)
theorem dX6_page_215 : decode cX6_page 215 = .ok (.iload_n 3, 1) := dk_29 (dk_at dksX6_page_9 3 rfl rfl)
theorem dX6_page_216 : decode cX6_page 216 = .ok (.iastore, 1) := dk_79 (dk_at dksX6_page_9 4 rfl rfl)
theorem dX6_page_217 : decode cX6_page 217 = .ok (.aload_n 0, 1) := dk_42 (dk_at dksX6_page_9 5 rfl rfl)
theorem dX6_page_218 : decode cX6_page 218 = .ok (.getfield 20, 3) := dk_180 0 20 (dk_at dksX6_page_9 6 rfl rfl)
theorem dX6_page_221 : decode cX6_page 221 = .ok (.aload_n 0, 1) := dk_42 (dk_at dksX6_page_9 9 rfl rfl)
theorem dX6_page_222 : decode cX6_page 222 = .ok (.getfield 148, 3) := dk_180 0 148 (dk_at dksX6_page_9 10 rfl rfl)
theorem dX6_page_225 : decode cX6_page 225 = .ok (.iload 4, 2) := dk_21 4 (dk_at dksX6_page_9 13 rfl rfl)
theorem dX6_page_227 : decode cX6_page 227 = .ok (.iastore, 1) := dk_79 (dk_at dksX6_page_9 15 rfl rfl)
theorem dX6_page_228 : decode cX6_page 228 = .ok (.aload_n 0, 1) := dk_42 (dk_at dksX6_page_9 16 rfl rfl)
theorem dX6_page_229 : decode cX6_page 229 = .ok (.dup, 1) := dk_89 (dk_at dksX6_page_9 17 rfl rfl)
theorem dX6_page_230 : decode cX6_page 230 = .ok (.getfield 148, 3) := dk_180 0 148 (dk_at dksX6_page_9 18 rfl rfl)
theorem dX6_page_233 : decode cX6_page 233 = .ok (.iconst 1, 1) := dk_4 (dk_at dksX6_page_9 21 rfl rfl)
theorem dX6_page_234 : decode cX6_page 234 = .ok (.iadd, 1) := dk_96 (dk_at dksX6_page_9 22 rfl rfl)
theorem dX6_page_235 : decode cX6_page 235 = .ok (.putfield 148, 3) := dk_181 0 148 (dk_at dksX6_page_10 0 rfl rfl)
theorem dX6_page_238 : decode cX6_page 238 = .ok (.aload_n 0, 1) := dk_42 (dk_at dksX6_page_10 3 rfl rfl)
theorem dX6_page_239 : decode cX6_page 239 = .ok (.getfield 148, 3) := dk_180 0 148 (dk_at dksX6_page_10 4 rfl rfl)
theorem dX6_page_242 : decode cX6_page 242 = .ok (.iconst 1, 1) := dk_4 (dk_at dksX6_page_10 7 rfl rfl)
theorem dX6_page_243 : decode cX6_page 243 = .ok (.isub, 1) := dk_100 (dk_at dksX6_page_10 8 rfl rfl)
theorem dX6_page_244 : decode cX6_page 244 = .ok (.ireturn, 1) := dk_172 (dk_at dksX6_page_10 9 rfl rfl)
abbrev cX6_isText : ByteArray := prog_8_method_9_code
def yX6_isText : MethodName := ⟨RX6, "isText", "(I)Z"⟩
def dkwX6_isText_2 : List UInt8 := [167, 0, 4, 3, 60, 132, 2, 1, 167, 255, 206, 27, 172]
abbrev dktX6_isText_2 : List UInt8 := dkwX6_isText_2 ++ []
def dkwX6_isText_1 : List UInt8 := [154, 0, 22, 29, 154, 0, 22, 28, 6, 159, 0, 13, 26, 28, 4, 96, 184, 0, 140, 154, 0, 7, 4]
abbrev dktX6_isText_1 : List UInt8 := dkwX6_isText_1 ++ dktX6_isText_2
def dkwX6_isText_0 : List UInt8 := [4, 60, 3, 61, 28, 7, 162, 0, 51, 26, 28, 184, 0, 140, 62, 27, 153, 0, 33, 29, 184, 0, 144]
abbrev dktX6_isText_0 : List UInt8 := dkwX6_isText_0 ++ dktX6_isText_1
theorem dksX6_isText_0 : cX6_isText.data.toList.drop 0 = dktX6_isText_0 := by decide +kernel
theorem dksX6_isText_1 : cX6_isText.data.toList.drop 23 = dktX6_isText_1 := dk_seg dksX6_isText_0 23 rfl rfl
theorem dksX6_isText_2 : cX6_isText.data.toList.drop 46 = dktX6_isText_2 := dk_seg dksX6_isText_1 23 rfl rfl
theorem dX6_isText_0 : decode cX6_isText 0 = .ok (.iconst 1, 1) := dk_4 (dk_at dksX6_isText_0 0 rfl rfl)
theorem dX6_isText_1 : decode cX6_isText 1 = .ok (.istore_n 1, 1) := dk_60 (dk_at dksX6_isText_0 1 rfl rfl)
theorem dX6_isText_2 : decode cX6_isText 2 = .ok (.iconst 0, 1) := dk_3 (dk_at dksX6_isText_0 2 rfl rfl)
theorem dX6_isText_3 : decode cX6_isText 3 = .ok (.istore_n 2, 1) := dk_61 (dk_at dksX6_isText_0 3 rfl rfl)
theorem dX6_isText_4 : decode cX6_isText 4 = .ok (.iload_n 2, 1) := dk_28 (dk_at dksX6_isText_0 4 rfl rfl)
theorem dX6_isText_5 : decode cX6_isText 5 = .ok (.iconst 4, 1) := dk_7 (dk_at dksX6_isText_0 5 rfl rfl)
theorem dX6_isText_6 : decode cX6_isText 6 = .ok (.if_icmp .ge 51, 3) := dk_162 0 51 (dk_at dksX6_isText_0 6 rfl rfl)
theorem dX6_isText_9 : decode cX6_isText 9 = .ok (.iload_n 0, 1) := dk_26 (dk_at dksX6_isText_0 9 rfl rfl)
theorem dX6_isText_10 : decode cX6_isText 10 = .ok (.iload_n 2, 1) := dk_28 (dk_at dksX6_isText_0 10 rfl rfl)
theorem dX6_isText_11 : decode cX6_isText 11 = .ok (.invokestatic 140, 3) := dk_184 0 140 (dk_at dksX6_isText_0 11 rfl rfl)
theorem dX6_isText_14 : decode cX6_isText 14 = .ok (.istore_n 3, 1) := dk_62 (dk_at dksX6_isText_0 14 rfl rfl)
theorem dX6_isText_15 : decode cX6_isText 15 = .ok (.iload_n 1, 1) := dk_27 (dk_at dksX6_isText_0 15 rfl rfl)
theorem dX6_isText_16 : decode cX6_isText 16 = .ok (.ifCond .eq 33, 3) := dk_153 0 33 (dk_at dksX6_isText_0 16 rfl rfl)
theorem dX6_isText_19 : decode cX6_isText 19 = .ok (.iload_n 3, 1) := dk_29 (dk_at dksX6_isText_0 19 rfl rfl)
theorem dX6_isText_20 : decode cX6_isText 20 = .ok (.invokestatic 144, 3) := dk_184 0 144 (dk_at dksX6_isText_0 20 rfl rfl)
theorem dX6_isText_23 : decode cX6_isText 23 = .ok (.ifCond .ne 22, 3) := dk_154 0 22 (dk_at dksX6_isText_1 0 rfl rfl)
theorem dX6_isText_26 : decode cX6_isText 26 = .ok (.iload_n 3, 1) := dk_29 (dk_at dksX6_isText_1 3 rfl rfl)
theorem dX6_isText_27 : decode cX6_isText 27 = .ok (.ifCond .ne 22, 3) := dk_154 0 22 (dk_at dksX6_isText_1 4 rfl rfl)
theorem dX6_isText_30 : decode cX6_isText 30 = .ok (.iload_n 2, 1) := dk_28 (dk_at dksX6_isText_1 7 rfl rfl)
theorem dX6_isText_31 : decode cX6_isText 31 = .ok (.iconst 3, 1) := dk_6 (dk_at dksX6_isText_1 8 rfl rfl)
theorem dX6_isText_32 : decode cX6_isText 32 = .ok (.if_icmp .eq 13, 3) := dk_159 0 13 (dk_at dksX6_isText_1 9 rfl rfl)
theorem dX6_isText_35 : decode cX6_isText 35 = .ok (.iload_n 0, 1) := dk_26 (dk_at dksX6_isText_1 12 rfl rfl)
theorem dX6_isText_36 : decode cX6_isText 36 = .ok (.iload_n 2, 1) := dk_28 (dk_at dksX6_isText_1 13 rfl rfl)
theorem dX6_isText_37 : decode cX6_isText 37 = .ok (.iconst 1, 1) := dk_4 (dk_at dksX6_isText_1 14 rfl rfl)
theorem dX6_isText_38 : decode cX6_isText 38 = .ok (.iadd, 1) := dk_96 (dk_at dksX6_isText_1 15 rfl rfl)
theorem dX6_isText_39 : decode cX6_isText 39 = .ok (.invokestatic 140, 3) := dk_184 0 140 (dk_at dksX6_isText_1 16 rfl rfl)
theorem dX6_isText_42 : decode cX6_isText 42 = .ok (.ifCond .ne 7, 3) := dk_154 0 7 (dk_at dksX6_isText_1 19 rfl rfl)
theorem dX6_isText_45 : decode cX6_isText 45 = .ok (.iconst 1, 1) := dk_4 (dk_at dksX6_isText_1 22 rfl rfl)
theorem dX6_isText_46 : decode cX6_isText 46 = .ok (.goto 4, 3) := dk_167 0 4 (dk_at dksX6_isText_2 0 rfl rfl)
theorem dX6_isText_49 : decode cX6_isText 49 = .ok (.iconst 0, 1) := dk_3 (dk_at dksX6_isText_2 3 rfl rfl)
theorem dX6_isText_50 : decode cX6_isText 50 = .ok (.istore_n 1, 1) := dk_60 (dk_at dksX6_isText_2 4 rfl rfl)
theorem dX6_isText_51 : decode cX6_isText 51 = .ok (.iinc 2 1, 3) := dk_132 2 1 (dk_at dksX6_isText_2 5 rfl rfl)
theorem dX6_isText_54 : decode cX6_isText 54 = .ok (.goto (-50), 3) := dk_167 255 206 (dk_at dksX6_isText_2 8 rfl rfl)
theorem dX6_isText_57 : decode cX6_isText 57 = .ok (.iload_n 1, 1) := dk_27 (dk_at dksX6_isText_2 11 rfl rfl)
theorem dX6_isText_58 : decode cX6_isText 58 = .ok (.ireturn, 1) := dk_172 (dk_at dksX6_isText_2 12 rfl rfl)
abbrev cX6_byteOf : ByteArray := prog_8_method_7_code
def yX6_byteOf : MethodName := ⟨RX6, "byteOf", "(II)I"⟩
def dkwX6_byteOf_0 : List UInt8 := [26, 16, 8, 27, 104, 122, 17, 0, 255, 126, 172]
abbrev dktX6_byteOf_0 : List UInt8 := dkwX6_byteOf_0 ++ []
theorem dksX6_byteOf_0 : cX6_byteOf.data.toList.drop 0 = dktX6_byteOf_0 := by decide +kernel
theorem dX6_byteOf_0 : decode cX6_byteOf 0 = .ok (.iload_n 0, 1) := dk_26 (dk_at dksX6_byteOf_0 0 rfl rfl)
theorem dX6_byteOf_1 : decode cX6_byteOf 1 = .ok (.bipush 8, 2) := dk_16 8 (dk_at dksX6_byteOf_0 1 rfl rfl)
theorem dX6_byteOf_3 : decode cX6_byteOf 3 = .ok (.iload_n 1, 1) := dk_27 (dk_at dksX6_byteOf_0 3 rfl rfl)
theorem dX6_byteOf_4 : decode cX6_byteOf 4 = .ok (.imul, 1) := dk_104 (dk_at dksX6_byteOf_0 4 rfl rfl)
theorem dX6_byteOf_5 : decode cX6_byteOf 5 = .ok (.ishr, 1) := dk_122 (dk_at dksX6_byteOf_0 5 rfl rfl)
theorem dX6_byteOf_6 : decode cX6_byteOf 6 = .ok (.sipush 255, 3) := dk_17 0 255 (dk_at dksX6_byteOf_0 6 rfl rfl)
theorem dX6_byteOf_9 : decode cX6_byteOf 9 = .ok (.iand, 1) := dk_126 (dk_at dksX6_byteOf_0 9 rfl rfl)
theorem dX6_byteOf_10 : decode cX6_byteOf 10 = .ok (.ireturn, 1) := dk_172 (dk_at dksX6_byteOf_0 10 rfl rfl)
abbrev cX6_isLetter : ByteArray := prog_8_method_8_code
def yX6_isLetter : MethodName := ⟨RX6, "isLetter", "(I)Z"⟩
def dkwX6_isLetter_0 : List UInt8 := [26, 16, 97, 161, 0, 13, 26, 16, 122, 163, 0, 7, 4, 167, 0, 4, 3, 172]
abbrev dktX6_isLetter_0 : List UInt8 := dkwX6_isLetter_0 ++ []
theorem dksX6_isLetter_0 : cX6_isLetter.data.toList.drop 0 = dktX6_isLetter_0 := by decide +kernel
theorem dX6_isLetter_0 : decode cX6_isLetter 0 = .ok (.iload_n 0, 1) := dk_26 (dk_at dksX6_isLetter_0 0 rfl rfl)
theorem dX6_isLetter_1 : decode cX6_isLetter 1 = .ok (.bipush 97, 2) := dk_16 97 (dk_at dksX6_isLetter_0 1 rfl rfl)
theorem dX6_isLetter_3 : decode cX6_isLetter 3 = .ok (.if_icmp .lt 13, 3) := dk_161 0 13 (dk_at dksX6_isLetter_0 3 rfl rfl)
theorem dX6_isLetter_6 : decode cX6_isLetter 6 = .ok (.iload_n 0, 1) := dk_26 (dk_at dksX6_isLetter_0 6 rfl rfl)
theorem dX6_isLetter_7 : decode cX6_isLetter 7 = .ok (.bipush 122, 2) := dk_16 122 (dk_at dksX6_isLetter_0 7 rfl rfl)
theorem dX6_isLetter_9 : decode cX6_isLetter 9 = .ok (.if_icmp .gt 7, 3) := dk_163 0 7 (dk_at dksX6_isLetter_0 9 rfl rfl)
theorem dX6_isLetter_12 : decode cX6_isLetter 12 = .ok (.iconst 1, 1) := dk_4 (dk_at dksX6_isLetter_0 12 rfl rfl)
theorem dX6_isLetter_13 : decode cX6_isLetter 13 = .ok (.goto 4, 3) := dk_167 0 4 (dk_at dksX6_isLetter_0 13 rfl rfl)
theorem dX6_isLetter_16 : decode cX6_isLetter 16 = .ok (.iconst 0, 1) := dk_3 (dk_at dksX6_isLetter_0 16 rfl rfl)
theorem dX6_isLetter_17 : decode cX6_isLetter 17 = .ok (.ireturn, 1) := dk_172 (dk_at dksX6_isLetter_0 17 rfl rfl)
abbrev cX6_letters : ByteArray := prog_8_method_10_code
def yX6_letters : MethodName := ⟨RX6, "letters", "(I)I"⟩
def dkwX6_letters_0 : List UInt8 := [3, 60, 27, 7, 162, 0, 17, 26, 27, 184, 0, 140, 153, 0, 9, 132, 1, 1, 167, 255, 240, 27, 172]
abbrev dktX6_letters_0 : List UInt8 := dkwX6_letters_0 ++ []
theorem dksX6_letters_0 : cX6_letters.data.toList.drop 0 = dktX6_letters_0 := by decide +kernel
theorem dX6_letters_0 : decode cX6_letters 0 = .ok (.iconst 0, 1) := dk_3 (dk_at dksX6_letters_0 0 rfl rfl)
theorem dX6_letters_1 : decode cX6_letters 1 = .ok (.istore_n 1, 1) := dk_60 (dk_at dksX6_letters_0 1 rfl rfl)
theorem dX6_letters_2 : decode cX6_letters 2 = .ok (.iload_n 1, 1) := dk_27 (dk_at dksX6_letters_0 2 rfl rfl)
theorem dX6_letters_3 : decode cX6_letters 3 = .ok (.iconst 4, 1) := dk_7 (dk_at dksX6_letters_0 3 rfl rfl)
theorem dX6_letters_4 : decode cX6_letters 4 = .ok (.if_icmp .ge 17, 3) := dk_162 0 17 (dk_at dksX6_letters_0 4 rfl rfl)
theorem dX6_letters_7 : decode cX6_letters 7 = .ok (.iload_n 0, 1) := dk_26 (dk_at dksX6_letters_0 7 rfl rfl)
theorem dX6_letters_8 : decode cX6_letters 8 = .ok (.iload_n 1, 1) := dk_27 (dk_at dksX6_letters_0 8 rfl rfl)
theorem dX6_letters_9 : decode cX6_letters 9 = .ok (.invokestatic 140, 3) := dk_184 0 140 (dk_at dksX6_letters_0 9 rfl rfl)
theorem dX6_letters_12 : decode cX6_letters 12 = .ok (.ifCond .eq 9, 3) := dk_153 0 9 (dk_at dksX6_letters_0 12 rfl rfl)
theorem dX6_letters_15 : decode cX6_letters 15 = .ok (.iinc 1 1, 3) := dk_132 1 1 (dk_at dksX6_letters_0 15 rfl rfl)
theorem dX6_letters_18 : decode cX6_letters 18 = .ok (.goto (-16), 3) := dk_167 255 240 (dk_at dksX6_letters_0 18 rfl rfl)
theorem dX6_letters_21 : decode cX6_letters 21 = .ok (.iload_n 1, 1) := dk_27 (dk_at dksX6_letters_0 21 rfl rfl)
theorem dX6_letters_22 : decode cX6_letters 22 = .ok (.ireturn, 1) := dk_172 (dk_at dksX6_letters_0 22 rfl rfl)
abbrev cX6_outside : ByteArray := prog_8_method_5_code
def yX6_outside : MethodName := ⟨RX6, "outside", "(III)Z"⟩
def dkwX6_outside_0 : List UInt8 := [26, 27, 161, 0, 8, 26, 28, 164, 0, 7, 4, 167, 0, 4, 3, 172]
abbrev dktX6_outside_0 : List UInt8 := dkwX6_outside_0 ++ []
theorem dksX6_outside_0 : cX6_outside.data.toList.drop 0 = dktX6_outside_0 := by decide +kernel
theorem dX6_outside_0 : decode cX6_outside 0 = .ok (.iload_n 0, 1) := dk_26 (dk_at dksX6_outside_0 0 rfl rfl)
theorem dX6_outside_1 : decode cX6_outside 1 = .ok (.iload_n 1, 1) := dk_27 (dk_at dksX6_outside_0 1 rfl rfl)
theorem dX6_outside_2 : decode cX6_outside 2 = .ok (.if_icmp .lt 8, 3) := dk_161 0 8 (dk_at dksX6_outside_0 2 rfl rfl)
theorem dX6_outside_5 : decode cX6_outside 5 = .ok (.iload_n 0, 1) := dk_26 (dk_at dksX6_outside_0 5 rfl rfl)
theorem dX6_outside_6 : decode cX6_outside 6 = .ok (.iload_n 2, 1) := dk_28 (dk_at dksX6_outside_0 6 rfl rfl)
theorem dX6_outside_7 : decode cX6_outside 7 = .ok (.if_icmp .le 7, 3) := dk_164 0 7 (dk_at dksX6_outside_0 7 rfl rfl)
theorem dX6_outside_10 : decode cX6_outside 10 = .ok (.iconst 1, 1) := dk_4 (dk_at dksX6_outside_0 10 rfl rfl)
theorem dX6_outside_11 : decode cX6_outside 11 = .ok (.goto 4, 3) := dk_167 0 4 (dk_at dksX6_outside_0 11 rfl rfl)
theorem dX6_outside_14 : decode cX6_outside 14 = .ok (.iconst 0, 1) := dk_3 (dk_at dksX6_outside_0 14 rfl rfl)
theorem dX6_outside_15 : decode cX6_outside 15 = .ok (.ireturn, 1) := dk_172 (dk_at dksX6_outside_0 15 rfl rfl)
abbrev cX6_refuse : ByteArray := prog_8_method_4_code
def yX6_refuse : MethodName := ⟨RX6, "refuse", "(I)I"⟩
def dkwX6_refuse_0 : List UInt8 := [42, 27, 181, 0, 85, 3, 172]
abbrev dktX6_refuse_0 : List UInt8 := dkwX6_refuse_0 ++ []
theorem dksX6_refuse_0 : cX6_refuse.data.toList.drop 0 = dktX6_refuse_0 := by decide +kernel
theorem dX6_refuse_0 : decode cX6_refuse 0 = .ok (.aload_n 0, 1) := dk_42 (dk_at dksX6_refuse_0 0 rfl rfl)
theorem dX6_refuse_1 : decode cX6_refuse 1 = .ok (.iload_n 1, 1) := dk_27 (dk_at dksX6_refuse_0 1 rfl rfl)
theorem dX6_refuse_2 : decode cX6_refuse 2 = .ok (.putfield 85, 3) := dk_181 0 85 (dk_at dksX6_refuse_0 2 rfl rfl)
theorem dX6_refuse_5 : decode cX6_refuse 5 = .ok (.iconst 0, 1) := dk_3 (dk_at dksX6_refuse_0 5 rfl rfl)
theorem dX6_refuse_6 : decode cX6_refuse 6 = .ok (.ireturn, 1) := dk_172 (dk_at dksX6_refuse_0 6 rfl rfl)
abbrev cX6_lay : ByteArray := prog_8_method_12_code
def yX6_lay : MethodName := ⟨RX6, "lay", "(II)V"⟩
def dkwX6_lay_1 : List UInt8 := [4, 100, 21, 4, 100, 184, 0, 140, 146, 85, 132, 4, 1, 167, 255, 227, 177]
abbrev dktX6_lay_1 : List UInt8 := dkwX6_lay_1 ++ []
def dkwX6_lay_0 : List UInt8 := [28, 184, 0, 151, 62, 3, 54, 4, 21, 4, 29, 162, 0, 29, 42, 180, 0, 72, 27, 21, 4, 96, 28, 29]
abbrev dktX6_lay_0 : List UInt8 := dkwX6_lay_0 ++ dktX6_lay_1
theorem dksX6_lay_0 : cX6_lay.data.toList.drop 0 = dktX6_lay_0 := by decide +kernel
theorem dksX6_lay_1 : cX6_lay.data.toList.drop 24 = dktX6_lay_1 := dk_seg dksX6_lay_0 24 rfl rfl
theorem dX6_lay_0 : decode cX6_lay 0 = .ok (.iload_n 2, 1) := dk_28 (dk_at dksX6_lay_0 0 rfl rfl)
theorem dX6_lay_1 : decode cX6_lay 1 = .ok (.invokestatic 151, 3) := dk_184 0 151 (dk_at dksX6_lay_0 1 rfl rfl)
theorem dX6_lay_4 : decode cX6_lay 4 = .ok (.istore_n 3, 1) := dk_62 (dk_at dksX6_lay_0 4 rfl rfl)
theorem dX6_lay_5 : decode cX6_lay 5 = .ok (.iconst 0, 1) := dk_3 (dk_at dksX6_lay_0 5 rfl rfl)
theorem dX6_lay_6 : decode cX6_lay 6 = .ok (.istore 4, 2) := dk_54 4 (dk_at dksX6_lay_0 6 rfl rfl)
theorem dX6_lay_8 : decode cX6_lay 8 = .ok (.iload 4, 2) := dk_21 4 (dk_at dksX6_lay_0 8 rfl rfl)
theorem dX6_lay_10 : decode cX6_lay 10 = .ok (.iload_n 3, 1) := dk_29 (dk_at dksX6_lay_0 10 rfl rfl)
theorem dX6_lay_11 : decode cX6_lay 11 = .ok (.if_icmp .ge 29, 3) := dk_162 0 29 (dk_at dksX6_lay_0 11 rfl rfl)
theorem dX6_lay_14 : decode cX6_lay 14 = .ok (.aload_n 0, 1) := dk_42 (dk_at dksX6_lay_0 14 rfl rfl)
theorem dX6_lay_15 : decode cX6_lay 15 = .ok (.getfield 72, 3) := dk_180 0 72 (dk_at dksX6_lay_0 15 rfl rfl)
theorem dX6_lay_18 : decode cX6_lay 18 = .ok (.iload_n 1, 1) := dk_27 (dk_at dksX6_lay_0 18 rfl rfl)
theorem dX6_lay_19 : decode cX6_lay 19 = .ok (.iload 4, 2) := dk_21 4 (dk_at dksX6_lay_0 19 rfl rfl)
theorem dX6_lay_21 : decode cX6_lay 21 = .ok (.iadd, 1) := dk_96 (dk_at dksX6_lay_0 21 rfl rfl)
theorem dX6_lay_22 : decode cX6_lay 22 = .ok (.iload_n 2, 1) := dk_28 (dk_at dksX6_lay_0 22 rfl rfl)
theorem dX6_lay_23 : decode cX6_lay 23 = .ok (.iload_n 3, 1) := dk_29 (dk_at dksX6_lay_0 23 rfl rfl)
theorem dX6_lay_24 : decode cX6_lay 24 = .ok (.iconst 1, 1) := dk_4 (dk_at dksX6_lay_1 0 rfl rfl)
theorem dX6_lay_25 : decode cX6_lay 25 = .ok (.isub, 1) := dk_100 (dk_at dksX6_lay_1 1 rfl rfl)
theorem dX6_lay_26 : decode cX6_lay 26 = .ok (.iload 4, 2) := dk_21 4 (dk_at dksX6_lay_1 2 rfl rfl)
theorem dX6_lay_28 : decode cX6_lay 28 = .ok (.isub, 1) := dk_100 (dk_at dksX6_lay_1 4 rfl rfl)
theorem dX6_lay_29 : decode cX6_lay 29 = .ok (.invokestatic 140, 3) := dk_184 0 140 (dk_at dksX6_lay_1 5 rfl rfl)
theorem dX6_lay_32 : decode cX6_lay 32 = .ok (.i2c, 1) := dk_146 (dk_at dksX6_lay_1 8 rfl rfl)
theorem dX6_lay_33 : decode cX6_lay 33 = .ok (.castore, 1) := dk_85 (dk_at dksX6_lay_1 9 rfl rfl)
theorem dX6_lay_34 : decode cX6_lay 34 = .ok (.iinc 4 1, 3) := dk_132 4 1 (dk_at dksX6_lay_1 10 rfl rfl)
theorem dX6_lay_37 : decode cX6_lay 37 = .ok (.goto (-29), 3) := dk_167 255 227 (dk_at dksX6_lay_1 13 rfl rfl)
theorem dX6_lay_40 : decode cX6_lay 40 = .ok (.return_, 1) := dk_177 (dk_at dksX6_lay_1 16 rfl rfl)
abbrev cX6_pageOf : ByteArray := prog_8_method_11_code
def yX6_pageOf : MethodName := ⟨RX6, "pageOf", "([CII)I"⟩
def dkwX6_pageOf_4 : List UInt8 := [54, 4, 132, 5, 1, 167, 255, 163, 21, 4, 172]
abbrev dktX6_pageOf_4 : List UInt8 := dkwX6_pageOf_4 ++ []
def dkwX6_pageOf_3 : List UInt8 := [167, 0, 4, 3, 54, 6, 132, 7, 1, 167, 255, 213, 21, 6, 153, 0, 8, 21, 5, 167, 0, 5, 21, 4]
abbrev dktX6_pageOf_3 : List UInt8 := dkwX6_pageOf_3 ++ dktX6_pageOf_4
def dkwX6_pageOf_2 : List UInt8 := [42, 180, 0, 13, 16, 8, 21, 5, 104, 21, 7, 96, 52, 43, 28, 21, 7, 96, 52, 160, 0, 7, 4]
abbrev dktX6_pageOf_2 : List UInt8 := dkwX6_pageOf_2 ++ dktX6_pageOf_3
def dkwX6_pageOf_1 : List UInt8 := [160, 0, 7, 4, 167, 0, 4, 3, 54, 6, 3, 54, 7, 21, 7, 29, 162, 0, 43, 21, 6, 153, 0, 38]
abbrev dktX6_pageOf_1 : List UInt8 := dkwX6_pageOf_1 ++ dktX6_pageOf_2
def dkwX6_pageOf_0 : List UInt8 := [2, 54, 4, 3, 54, 5, 21, 5, 42, 180, 0, 148, 162, 0, 90, 42, 180, 0, 7, 21, 5, 46, 29]
abbrev dktX6_pageOf_0 : List UInt8 := dkwX6_pageOf_0 ++ dktX6_pageOf_1
theorem dksX6_pageOf_0 : cX6_pageOf.data.toList.drop 0 = dktX6_pageOf_0 := by decide +kernel
theorem dksX6_pageOf_1 : cX6_pageOf.data.toList.drop 23 = dktX6_pageOf_1 := dk_seg dksX6_pageOf_0 23 rfl rfl
theorem dksX6_pageOf_2 : cX6_pageOf.data.toList.drop 47 = dktX6_pageOf_2 := dk_seg dksX6_pageOf_1 24 rfl rfl
theorem dksX6_pageOf_3 : cX6_pageOf.data.toList.drop 70 = dktX6_pageOf_3 := dk_seg dksX6_pageOf_2 23 rfl rfl
theorem dksX6_pageOf_4 : cX6_pageOf.data.toList.drop 94 = dktX6_pageOf_4 := dk_seg dksX6_pageOf_3 24 rfl rfl
theorem dX6_pageOf_0 : decode cX6_pageOf 0 = .ok (.iconst (-1), 1) := dk_2 (dk_at dksX6_pageOf_0 0 rfl rfl)
theorem dX6_pageOf_1 : decode cX6_pageOf 1 = .ok (.istore 4, 2) := dk_54 4 (dk_at dksX6_pageOf_0 1 rfl rfl)
theorem dX6_pageOf_3 : decode cX6_pageOf 3 = .ok (.iconst 0, 1) := dk_3 (dk_at dksX6_pageOf_0 3 rfl rfl)
theorem dX6_pageOf_4 : decode cX6_pageOf 4 = .ok (.istore 5, 2) := dk_54 5 (dk_at dksX6_pageOf_0 4 rfl rfl)
theorem dX6_pageOf_6 : decode cX6_pageOf 6 = .ok (.iload 5, 2) := dk_21 5 (dk_at dksX6_pageOf_0 6 rfl rfl)
theorem dX6_pageOf_8 : decode cX6_pageOf 8 = .ok (.aload_n 0, 1) := dk_42 (dk_at dksX6_pageOf_0 8 rfl rfl)
theorem dX6_pageOf_9 : decode cX6_pageOf 9 = .ok (.getfield 148, 3) := dk_180 0 148 (dk_at dksX6_pageOf_0 9 rfl rfl)
theorem dX6_pageOf_12 : decode cX6_pageOf 12 = .ok (.if_icmp .ge 90, 3) := dk_162 0 90 (dk_at dksX6_pageOf_0 12 rfl rfl)
theorem dX6_pageOf_15 : decode cX6_pageOf 15 = .ok (.aload_n 0, 1) := dk_42 (dk_at dksX6_pageOf_0 15 rfl rfl)
theorem dX6_pageOf_16 : decode cX6_pageOf 16 = .ok (.getfield 7, 3) := dk_180 0 7 (dk_at dksX6_pageOf_0 16 rfl rfl)
theorem dX6_pageOf_19 : decode cX6_pageOf 19 = .ok (.iload 5, 2) := dk_21 5 (dk_at dksX6_pageOf_0 19 rfl rfl)
theorem dX6_pageOf_21 : decode cX6_pageOf 21 = .ok (.iaload, 1) := dk_46 (dk_at dksX6_pageOf_0 21 rfl rfl)
theorem dX6_pageOf_22 : decode cX6_pageOf 22 = .ok (.iload_n 3, 1) := dk_29 (dk_at dksX6_pageOf_0 22 rfl rfl)
theorem dX6_pageOf_23 : decode cX6_pageOf 23 = .ok (.if_icmp .ne 7, 3) := dk_160 0 7 (dk_at dksX6_pageOf_1 0 rfl rfl)
theorem dX6_pageOf_26 : decode cX6_pageOf 26 = .ok (.iconst 1, 1) := dk_4 (dk_at dksX6_pageOf_1 3 rfl rfl)
theorem dX6_pageOf_27 : decode cX6_pageOf 27 = .ok (.goto 4, 3) := dk_167 0 4 (dk_at dksX6_pageOf_1 4 rfl rfl)
theorem dX6_pageOf_30 : decode cX6_pageOf 30 = .ok (.iconst 0, 1) := dk_3 (dk_at dksX6_pageOf_1 7 rfl rfl)
theorem dX6_pageOf_31 : decode cX6_pageOf 31 = .ok (.istore 6, 2) := dk_54 6 (dk_at dksX6_pageOf_1 8 rfl rfl)
theorem dX6_pageOf_33 : decode cX6_pageOf 33 = .ok (.iconst 0, 1) := dk_3 (dk_at dksX6_pageOf_1 10 rfl rfl)
theorem dX6_pageOf_34 : decode cX6_pageOf 34 = .ok (.istore 7, 2) := dk_54 7 (dk_at dksX6_pageOf_1 11 rfl rfl)
theorem dX6_pageOf_36 : decode cX6_pageOf 36 = .ok (.iload 7, 2) := dk_21 7 (dk_at dksX6_pageOf_1 13 rfl rfl)
theorem dX6_pageOf_38 : decode cX6_pageOf 38 = .ok (.iload_n 3, 1) := dk_29 (dk_at dksX6_pageOf_1 15 rfl rfl)
theorem dX6_pageOf_39 : decode cX6_pageOf 39 = .ok (.if_icmp .ge 43, 3) := dk_162 0 43 (dk_at dksX6_pageOf_1 16 rfl rfl)
theorem dX6_pageOf_42 : decode cX6_pageOf 42 = .ok (.iload 6, 2) := dk_21 6 (dk_at dksX6_pageOf_1 19 rfl rfl)
theorem dX6_pageOf_44 : decode cX6_pageOf 44 = .ok (.ifCond .eq 38, 3) := dk_153 0 38 (dk_at dksX6_pageOf_1 21 rfl rfl)
theorem dX6_pageOf_47 : decode cX6_pageOf 47 = .ok (.aload_n 0, 1) := dk_42 (dk_at dksX6_pageOf_2 0 rfl rfl)
theorem dX6_pageOf_48 : decode cX6_pageOf 48 = .ok (.getfield 13, 3) := dk_180 0 13 (dk_at dksX6_pageOf_2 1 rfl rfl)
theorem dX6_pageOf_51 : decode cX6_pageOf 51 = .ok (.bipush 8, 2) := dk_16 8 (dk_at dksX6_pageOf_2 4 rfl rfl)
theorem dX6_pageOf_53 : decode cX6_pageOf 53 = .ok (.iload 5, 2) := dk_21 5 (dk_at dksX6_pageOf_2 6 rfl rfl)
theorem dX6_pageOf_55 : decode cX6_pageOf 55 = .ok (.imul, 1) := dk_104 (dk_at dksX6_pageOf_2 8 rfl rfl)
theorem dX6_pageOf_56 : decode cX6_pageOf 56 = .ok (.iload 7, 2) := dk_21 7 (dk_at dksX6_pageOf_2 9 rfl rfl)
theorem dX6_pageOf_58 : decode cX6_pageOf 58 = .ok (.iadd, 1) := dk_96 (dk_at dksX6_pageOf_2 11 rfl rfl)
theorem dX6_pageOf_59 : decode cX6_pageOf 59 = .ok (.caload, 1) := dk_52 (dk_at dksX6_pageOf_2 12 rfl rfl)
theorem dX6_pageOf_60 : decode cX6_pageOf 60 = .ok (.aload_n 1, 1) := dk_43 (dk_at dksX6_pageOf_2 13 rfl rfl)
theorem dX6_pageOf_61 : decode cX6_pageOf 61 = .ok (.iload_n 2, 1) := dk_28 (dk_at dksX6_pageOf_2 14 rfl rfl)
theorem dX6_pageOf_62 : decode cX6_pageOf 62 = .ok (.iload 7, 2) := dk_21 7 (dk_at dksX6_pageOf_2 15 rfl rfl)
theorem dX6_pageOf_64 : decode cX6_pageOf 64 = .ok (.iadd, 1) := dk_96 (dk_at dksX6_pageOf_2 17 rfl rfl)
theorem dX6_pageOf_65 : decode cX6_pageOf 65 = .ok (.caload, 1) := dk_52 (dk_at dksX6_pageOf_2 18 rfl rfl)
theorem dX6_pageOf_66 : decode cX6_pageOf 66 = .ok (.if_icmp .ne 7, 3) := dk_160 0 7 (dk_at dksX6_pageOf_2 19 rfl rfl)
theorem dX6_pageOf_69 : decode cX6_pageOf 69 = .ok (.iconst 1, 1) := dk_4 (dk_at dksX6_pageOf_2 22 rfl rfl)
theorem dX6_pageOf_70 : decode cX6_pageOf 70 = .ok (.goto 4, 3) := dk_167 0 4 (dk_at dksX6_pageOf_3 0 rfl rfl)
theorem dX6_pageOf_73 : decode cX6_pageOf 73 = .ok (.iconst 0, 1) := dk_3 (dk_at dksX6_pageOf_3 3 rfl rfl)
theorem dX6_pageOf_74 : decode cX6_pageOf 74 = .ok (.istore 6, 2) := dk_54 6 (dk_at dksX6_pageOf_3 4 rfl rfl)
theorem dX6_pageOf_76 : decode cX6_pageOf 76 = .ok (.iinc 7 1, 3) := dk_132 7 1 (dk_at dksX6_pageOf_3 6 rfl rfl)
theorem dX6_pageOf_79 : decode cX6_pageOf 79 = .ok (.goto (-43), 3) := dk_167 255 213 (dk_at dksX6_pageOf_3 9 rfl rfl)
theorem dX6_pageOf_82 : decode cX6_pageOf 82 = .ok (.iload 6, 2) := dk_21 6 (dk_at dksX6_pageOf_3 12 rfl rfl)
theorem dX6_pageOf_84 : decode cX6_pageOf 84 = .ok (.ifCond .eq 8, 3) := dk_153 0 8 (dk_at dksX6_pageOf_3 14 rfl rfl)
theorem dX6_pageOf_87 : decode cX6_pageOf 87 = .ok (.iload 5, 2) := dk_21 5 (dk_at dksX6_pageOf_3 17 rfl rfl)
theorem dX6_pageOf_89 : decode cX6_pageOf 89 = .ok (.goto 5, 3) := dk_167 0 5 (dk_at dksX6_pageOf_3 19 rfl rfl)
theorem dX6_pageOf_92 : decode cX6_pageOf 92 = .ok (.iload 4, 2) := dk_21 4 (dk_at dksX6_pageOf_3 22 rfl rfl)
theorem dX6_pageOf_94 : decode cX6_pageOf 94 = .ok (.istore 4, 2) := dk_54 4 (dk_at dksX6_pageOf_4 0 rfl rfl)
theorem dX6_pageOf_96 : decode cX6_pageOf 96 = .ok (.iinc 5 1, 3) := dk_132 5 1 (dk_at dksX6_pageOf_4 2 rfl rfl)
theorem dX6_pageOf_99 : decode cX6_pageOf 99 = .ok (.goto (-93), 3) := dk_167 255 163 (dk_at dksX6_pageOf_4 5 rfl rfl)
theorem dX6_pageOf_102 : decode cX6_pageOf 102 = .ok (.iload 4, 2) := dk_21 4 (dk_at dksX6_pageOf_4 8 rfl rfl)
theorem dX6_pageOf_104 : decode cX6_pageOf 104 = .ok (.ireturn, 1) := dk_172 (dk_at dksX6_pageOf_4 10 rfl rfl)
abbrev cX6_feed : ByteArray := prog_8_method_56_code
def yX6_feed : MethodName := ⟨RX6, "feed", "(II)Z"⟩
def dkwX6_feed_2 : List UInt8 := [182, 1, 90, 132, 3, 255, 167, 255, 233, 4, 172]
abbrev dktX6_feed_2 : List UInt8 := dkwX6_feed_2 ++ []
def dkwX6_feed_1 : List UInt8 := [3, 172, 28, 4, 100, 62, 29, 155, 0, 25, 42, 180, 0, 114, 154, 0, 12, 42, 27, 29, 184, 0, 140]
abbrev dktX6_feed_1 : List UInt8 := dkwX6_feed_1 ++ dktX6_feed_2
def dkwX6_feed_0 : List UInt8 := [42, 3, 181, 0, 85, 28, 4, 7, 184, 0, 158, 154, 0, 13, 42, 180, 0, 129, 17, 1, 44, 164, 0, 5]
abbrev dktX6_feed_0 : List UInt8 := dkwX6_feed_0 ++ dktX6_feed_1
theorem dksX6_feed_0 : cX6_feed.data.toList.drop 0 = dktX6_feed_0 := by decide +kernel
theorem dksX6_feed_1 : cX6_feed.data.toList.drop 24 = dktX6_feed_1 := dk_seg dksX6_feed_0 24 rfl rfl
theorem dksX6_feed_2 : cX6_feed.data.toList.drop 47 = dktX6_feed_2 := dk_seg dksX6_feed_1 23 rfl rfl
theorem dX6_feed_0 : decode cX6_feed 0 = .ok (.aload_n 0, 1) := dk_42 (dk_at dksX6_feed_0 0 rfl rfl)
theorem dX6_feed_1 : decode cX6_feed 1 = .ok (.iconst 0, 1) := dk_3 (dk_at dksX6_feed_0 1 rfl rfl)
theorem dX6_feed_2 : decode cX6_feed 2 = .ok (.putfield 85, 3) := dk_181 0 85 (dk_at dksX6_feed_0 2 rfl rfl)
theorem dX6_feed_5 : decode cX6_feed 5 = .ok (.iload_n 2, 1) := dk_28 (dk_at dksX6_feed_0 5 rfl rfl)
theorem dX6_feed_6 : decode cX6_feed 6 = .ok (.iconst 1, 1) := dk_4 (dk_at dksX6_feed_0 6 rfl rfl)
theorem dX6_feed_7 : decode cX6_feed 7 = .ok (.iconst 4, 1) := dk_7 (dk_at dksX6_feed_0 7 rfl rfl)
theorem dX6_feed_8 : decode cX6_feed 8 = .ok (.invokestatic 158, 3) := dk_184 0 158 (dk_at dksX6_feed_0 8 rfl rfl)
theorem dX6_feed_11 : decode cX6_feed 11 = .ok (.ifCond .ne 13, 3) := dk_154 0 13 (dk_at dksX6_feed_0 11 rfl rfl)
theorem dX6_feed_14 : decode cX6_feed 14 = .ok (.aload_n 0, 1) := dk_42 (dk_at dksX6_feed_0 14 rfl rfl)
theorem dX6_feed_15 : decode cX6_feed 15 = .ok (.getfield 129, 3) := dk_180 0 129 (dk_at dksX6_feed_0 15 rfl rfl)
theorem dX6_feed_18 : decode cX6_feed 18 = .ok (.sipush 300, 3) := dk_17 1 44 (dk_at dksX6_feed_0 18 rfl rfl)
theorem dX6_feed_21 : decode cX6_feed 21 = .ok (.if_icmp .le 5, 3) := dk_164 0 5 (dk_at dksX6_feed_0 21 rfl rfl)
theorem dX6_feed_24 : decode cX6_feed 24 = .ok (.iconst 0, 1) := dk_3 (dk_at dksX6_feed_1 0 rfl rfl)
theorem dX6_feed_25 : decode cX6_feed 25 = .ok (.ireturn, 1) := dk_172 (dk_at dksX6_feed_1 1 rfl rfl)
theorem dX6_feed_26 : decode cX6_feed 26 = .ok (.iload_n 2, 1) := dk_28 (dk_at dksX6_feed_1 2 rfl rfl)
theorem dX6_feed_27 : decode cX6_feed 27 = .ok (.iconst 1, 1) := dk_4 (dk_at dksX6_feed_1 3 rfl rfl)
theorem dX6_feed_28 : decode cX6_feed 28 = .ok (.isub, 1) := dk_100 (dk_at dksX6_feed_1 4 rfl rfl)
theorem dX6_feed_29 : decode cX6_feed 29 = .ok (.istore_n 3, 1) := dk_62 (dk_at dksX6_feed_1 5 rfl rfl)
theorem dX6_feed_30 : decode cX6_feed 30 = .ok (.iload_n 3, 1) := dk_29 (dk_at dksX6_feed_1 6 rfl rfl)
theorem dX6_feed_31 : decode cX6_feed 31 = .ok (.ifCond .lt 25, 3) := dk_155 0 25 (dk_at dksX6_feed_1 7 rfl rfl)
theorem dX6_feed_34 : decode cX6_feed 34 = .ok (.aload_n 0, 1) := dk_42 (dk_at dksX6_feed_1 10 rfl rfl)
theorem dX6_feed_35 : decode cX6_feed 35 = .ok (.getfield 114, 3) := dk_180 0 114 (dk_at dksX6_feed_1 11 rfl rfl)
theorem dX6_feed_38 : decode cX6_feed 38 = .ok (.ifCond .ne 12, 3) := dk_154 0 12 (dk_at dksX6_feed_1 14 rfl rfl)
theorem dX6_feed_41 : decode cX6_feed 41 = .ok (.aload_n 0, 1) := dk_42 (dk_at dksX6_feed_1 17 rfl rfl)
theorem dX6_feed_42 : decode cX6_feed 42 = .ok (.iload_n 1, 1) := dk_27 (dk_at dksX6_feed_1 18 rfl rfl)
theorem dX6_feed_43 : decode cX6_feed 43 = .ok (.iload_n 3, 1) := dk_29 (dk_at dksX6_feed_1 19 rfl rfl)
theorem dX6_feed_44 : decode cX6_feed 44 = .ok (.invokestatic 140, 3) := dk_184 0 140 (dk_at dksX6_feed_1 20 rfl rfl)
theorem dX6_feed_47 : decode cX6_feed 47 = .ok (.invokevirtual 346, 3) := dk_182 1 90 (dk_at dksX6_feed_2 0 rfl rfl)
theorem dX6_feed_50 : decode cX6_feed 50 = .ok (.iinc 3 (-1), 3) := dk_132 3 255 (dk_at dksX6_feed_2 3 rfl rfl)
theorem dX6_feed_53 : decode cX6_feed 53 = .ok (.goto (-23), 3) := dk_167 255 233 (dk_at dksX6_feed_2 6 rfl rfl)
theorem dX6_feed_56 : decode cX6_feed 56 = .ok (.iconst 1, 1) := dk_4 (dk_at dksX6_feed_2 9 rfl rfl)
theorem dX6_feed_57 : decode cX6_feed 57 = .ok (.ireturn, 1) := dk_172 (dk_at dksX6_feed_2 10 rfl rfl)
abbrev cX6_take1 : ByteArray := prog_8_method_55_code
def yX6_take1 : MethodName := ⟨RX6, "take1", "(I)V"⟩
def dkwX6_take1_6 : List UInt8 := [181, 1, 12, 42, 3, 181, 0, 98, 42, 182, 1, 87, 177]
abbrev dktX6_take1_6 : List UInt8 := dkwX6_take1_6 ++ []
def dkwX6_take1_5 : List UInt8 := [4, 46, 181, 1, 48, 42, 42, 180, 0, 66, 5, 46, 181, 0, 176, 42, 42, 180, 0, 66, 6, 46]
abbrev dktX6_take1_5 : List UInt8 := dkwX6_take1_5 ++ dktX6_take1_6
def dkwX6_take1_4 : List UInt8 := [182, 1, 72, 167, 0, 55, 42, 180, 0, 98, 7, 42, 180, 1, 3, 96, 160, 0, 42, 42, 42, 180, 0, 66]
abbrev dktX6_take1_4 : List UInt8 := dkwX6_take1_4 ++ dktX6_take1_5
def dkwX6_take1_3 : List UInt8 := [42, 42, 180, 0, 66, 3, 46, 181, 1, 3, 42, 180, 1, 3, 17, 0, 200, 164, 0, 12, 42, 16, 6]
abbrev dktX6_take1_3 : List UInt8 := dkwX6_take1_3 ++ dktX6_take1_4
def dkwX6_take1_2 : List UInt8 := [180, 0, 98, 27, 79, 42, 89, 180, 0, 98, 4, 96, 181, 0, 98, 42, 180, 0, 98, 7, 162, 0, 4, 177]
abbrev dktX6_take1_2 : List UInt8 := dkwX6_take1_2 ++ dktX6_take1_3
def dkwX6_take1_1 : List UInt8 := [180, 0, 95, 4, 96, 181, 0, 95, 28, 154, 0, 8, 42, 4, 182, 1, 72, 177, 42, 180, 0, 66, 42]
abbrev dktX6_take1_1 : List UInt8 := dkwX6_take1_1 ++ dktX6_take1_2
def dkwX6_take1_0 : List UInt8 := [42, 180, 0, 95, 7, 162, 0, 37, 27, 42, 182, 1, 84, 160, 0, 7, 4, 167, 0, 4, 3, 61, 42, 89]
abbrev dktX6_take1_0 : List UInt8 := dkwX6_take1_0 ++ dktX6_take1_1
theorem dksX6_take1_0 : cX6_take1.data.toList.drop 0 = dktX6_take1_0 := by decide +kernel
theorem dksX6_take1_1 : cX6_take1.data.toList.drop 24 = dktX6_take1_1 := dk_seg dksX6_take1_0 24 rfl rfl
theorem dksX6_take1_2 : cX6_take1.data.toList.drop 47 = dktX6_take1_2 := dk_seg dksX6_take1_1 23 rfl rfl
theorem dksX6_take1_3 : cX6_take1.data.toList.drop 71 = dktX6_take1_3 := dk_seg dksX6_take1_2 24 rfl rfl
theorem dksX6_take1_4 : cX6_take1.data.toList.drop 94 = dktX6_take1_4 := dk_seg dksX6_take1_3 23 rfl rfl
theorem dksX6_take1_5 : cX6_take1.data.toList.drop 118 = dktX6_take1_5 := dk_seg dksX6_take1_4 24 rfl rfl
theorem dksX6_take1_6 : cX6_take1.data.toList.drop 140 = dktX6_take1_6 := dk_seg dksX6_take1_5 22 rfl rfl
theorem dX6_take1_0 : decode cX6_take1 0 = .ok (.aload_n 0, 1) := dk_42 (dk_at dksX6_take1_0 0 rfl rfl)
theorem dX6_take1_1 : decode cX6_take1 1 = .ok (.getfield 95, 3) := dk_180 0 95 (dk_at dksX6_take1_0 1 rfl rfl)
theorem dX6_take1_4 : decode cX6_take1 4 = .ok (.iconst 4, 1) := dk_7 (dk_at dksX6_take1_0 4 rfl rfl)
theorem dX6_take1_5 : decode cX6_take1 5 = .ok (.if_icmp .ge 37, 3) := dk_162 0 37 (dk_at dksX6_take1_0 5 rfl rfl)
theorem dX6_take1_8 : decode cX6_take1 8 = .ok (.iload_n 1, 1) := dk_27 (dk_at dksX6_take1_0 8 rfl rfl)
theorem dX6_take1_9 : decode cX6_take1 9 = .ok (.aload_n 0, 1) := dk_42 (dk_at dksX6_take1_0 9 rfl rfl)
theorem dX6_take1_10 : decode cX6_take1 10 = .ok (.invokevirtual 340, 3) := dk_182 1 84 (dk_at dksX6_take1_0 10 rfl rfl)
theorem dX6_take1_13 : decode cX6_take1 13 = .ok (.if_icmp .ne 7, 3) := dk_160 0 7 (dk_at dksX6_take1_0 13 rfl rfl)
theorem dX6_take1_16 : decode cX6_take1 16 = .ok (.iconst 1, 1) := dk_4 (dk_at dksX6_take1_0 16 rfl rfl)
theorem dX6_take1_17 : decode cX6_take1 17 = .ok (.goto 4, 3) := dk_167 0 4 (dk_at dksX6_take1_0 17 rfl rfl)
theorem dX6_take1_20 : decode cX6_take1 20 = .ok (.iconst 0, 1) := dk_3 (dk_at dksX6_take1_0 20 rfl rfl)
theorem dX6_take1_21 : decode cX6_take1 21 = .ok (.istore_n 2, 1) := dk_61 (dk_at dksX6_take1_0 21 rfl rfl)
theorem dX6_take1_22 : decode cX6_take1 22 = .ok (.aload_n 0, 1) := dk_42 (dk_at dksX6_take1_0 22 rfl rfl)
theorem dX6_take1_23 : decode cX6_take1 23 = .ok (.dup, 1) := dk_89 (dk_at dksX6_take1_0 23 rfl rfl)
theorem dX6_take1_24 : decode cX6_take1 24 = .ok (.getfield 95, 3) := dk_180 0 95 (dk_at dksX6_take1_1 0 rfl rfl)
theorem dX6_take1_27 : decode cX6_take1 27 = .ok (.iconst 1, 1) := dk_4 (dk_at dksX6_take1_1 3 rfl rfl)
theorem dX6_take1_28 : decode cX6_take1 28 = .ok (.iadd, 1) := dk_96 (dk_at dksX6_take1_1 4 rfl rfl)
theorem dX6_take1_29 : decode cX6_take1 29 = .ok (.putfield 95, 3) := dk_181 0 95 (dk_at dksX6_take1_1 5 rfl rfl)
theorem dX6_take1_32 : decode cX6_take1 32 = .ok (.iload_n 2, 1) := dk_28 (dk_at dksX6_take1_1 8 rfl rfl)
theorem dX6_take1_33 : decode cX6_take1 33 = .ok (.ifCond .ne 8, 3) := dk_154 0 8 (dk_at dksX6_take1_1 9 rfl rfl)
theorem dX6_take1_36 : decode cX6_take1 36 = .ok (.aload_n 0, 1) := dk_42 (dk_at dksX6_take1_1 12 rfl rfl)
theorem dX6_take1_37 : decode cX6_take1 37 = .ok (.iconst 1, 1) := dk_4 (dk_at dksX6_take1_1 13 rfl rfl)
theorem dX6_take1_38 : decode cX6_take1 38 = .ok (.invokevirtual 328, 3) := dk_182 1 72 (dk_at dksX6_take1_1 14 rfl rfl)
theorem dX6_take1_41 : decode cX6_take1 41 = .ok (.return_, 1) := dk_177 (dk_at dksX6_take1_1 17 rfl rfl)
theorem dX6_take1_42 : decode cX6_take1 42 = .ok (.aload_n 0, 1) := dk_42 (dk_at dksX6_take1_1 18 rfl rfl)
theorem dX6_take1_43 : decode cX6_take1 43 = .ok (.getfield 66, 3) := dk_180 0 66 (dk_at dksX6_take1_1 19 rfl rfl)
theorem dX6_take1_46 : decode cX6_take1 46 = .ok (.aload_n 0, 1) := dk_42 (dk_at dksX6_take1_1 22 rfl rfl)
theorem dX6_take1_47 : decode cX6_take1 47 = .ok (.getfield 98, 3) := dk_180 0 98 (dk_at dksX6_take1_2 0 rfl rfl)
theorem dX6_take1_50 : decode cX6_take1 50 = .ok (.iload_n 1, 1) := dk_27 (dk_at dksX6_take1_2 3 rfl rfl)
theorem dX6_take1_51 : decode cX6_take1 51 = .ok (.iastore, 1) := dk_79 (dk_at dksX6_take1_2 4 rfl rfl)
theorem dX6_take1_52 : decode cX6_take1 52 = .ok (.aload_n 0, 1) := dk_42 (dk_at dksX6_take1_2 5 rfl rfl)
theorem dX6_take1_53 : decode cX6_take1 53 = .ok (.dup, 1) := dk_89 (dk_at dksX6_take1_2 6 rfl rfl)
theorem dX6_take1_54 : decode cX6_take1 54 = .ok (.getfield 98, 3) := dk_180 0 98 (dk_at dksX6_take1_2 7 rfl rfl)
theorem dX6_take1_57 : decode cX6_take1 57 = .ok (.iconst 1, 1) := dk_4 (dk_at dksX6_take1_2 10 rfl rfl)
theorem dX6_take1_58 : decode cX6_take1 58 = .ok (.iadd, 1) := dk_96 (dk_at dksX6_take1_2 11 rfl rfl)
theorem dX6_take1_59 : decode cX6_take1 59 = .ok (.putfield 98, 3) := dk_181 0 98 (dk_at dksX6_take1_2 12 rfl rfl)
theorem dX6_take1_62 : decode cX6_take1 62 = .ok (.aload_n 0, 1) := dk_42 (dk_at dksX6_take1_2 15 rfl rfl)
theorem dX6_take1_63 : decode cX6_take1 63 = .ok (.getfield 98, 3) := dk_180 0 98 (dk_at dksX6_take1_2 16 rfl rfl)
theorem dX6_take1_66 : decode cX6_take1 66 = .ok (.iconst 4, 1) := dk_7 (dk_at dksX6_take1_2 19 rfl rfl)
theorem dX6_take1_67 : decode cX6_take1 67 = .ok (.if_icmp .ge 4, 3) := dk_162 0 4 (dk_at dksX6_take1_2 20 rfl rfl)
theorem dX6_take1_70 : decode cX6_take1 70 = .ok (.return_, 1) := dk_177 (dk_at dksX6_take1_2 23 rfl rfl)
theorem dX6_take1_71 : decode cX6_take1 71 = .ok (.aload_n 0, 1) := dk_42 (dk_at dksX6_take1_3 0 rfl rfl)
theorem dX6_take1_72 : decode cX6_take1 72 = .ok (.aload_n 0, 1) := dk_42 (dk_at dksX6_take1_3 1 rfl rfl)
theorem dX6_take1_73 : decode cX6_take1 73 = .ok (.getfield 66, 3) := dk_180 0 66 (dk_at dksX6_take1_3 2 rfl rfl)
theorem dX6_take1_76 : decode cX6_take1 76 = .ok (.iconst 0, 1) := dk_3 (dk_at dksX6_take1_3 5 rfl rfl)
theorem dX6_take1_77 : decode cX6_take1 77 = .ok (.iaload, 1) := dk_46 (dk_at dksX6_take1_3 6 rfl rfl)
theorem dX6_take1_78 : decode cX6_take1 78 = .ok (.putfield 259, 3) := dk_181 1 3 (dk_at dksX6_take1_3 7 rfl rfl)
theorem dX6_take1_81 : decode cX6_take1 81 = .ok (.aload_n 0, 1) := dk_42 (dk_at dksX6_take1_3 10 rfl rfl)
theorem dX6_take1_82 : decode cX6_take1 82 = .ok (.getfield 259, 3) := dk_180 1 3 (dk_at dksX6_take1_3 11 rfl rfl)
theorem dX6_take1_85 : decode cX6_take1 85 = .ok (.sipush 200, 3) := dk_17 0 200 (dk_at dksX6_take1_3 14 rfl rfl)
theorem dX6_take1_88 : decode cX6_take1 88 = .ok (.if_icmp .le 12, 3) := dk_164 0 12 (dk_at dksX6_take1_3 17 rfl rfl)
theorem dX6_take1_91 : decode cX6_take1 91 = .ok (.aload_n 0, 1) := dk_42 (dk_at dksX6_take1_3 20 rfl rfl)
theorem dX6_take1_92 : decode cX6_take1 92 = .ok (.bipush 6, 2) := dk_16 6 (dk_at dksX6_take1_3 21 rfl rfl)
theorem dX6_take1_94 : decode cX6_take1 94 = .ok (.invokevirtual 328, 3) := dk_182 1 72 (dk_at dksX6_take1_4 0 rfl rfl)
theorem dX6_take1_97 : decode cX6_take1 97 = .ok (.goto 55, 3) := dk_167 0 55 (dk_at dksX6_take1_4 3 rfl rfl)
theorem dX6_take1_100 : decode cX6_take1 100 = .ok (.aload_n 0, 1) := dk_42 (dk_at dksX6_take1_4 6 rfl rfl)
theorem dX6_take1_101 : decode cX6_take1 101 = .ok (.getfield 98, 3) := dk_180 0 98 (dk_at dksX6_take1_4 7 rfl rfl)
theorem dX6_take1_104 : decode cX6_take1 104 = .ok (.iconst 4, 1) := dk_7 (dk_at dksX6_take1_4 10 rfl rfl)
theorem dX6_take1_105 : decode cX6_take1 105 = .ok (.aload_n 0, 1) := dk_42 (dk_at dksX6_take1_4 11 rfl rfl)
theorem dX6_take1_106 : decode cX6_take1 106 = .ok (.getfield 259, 3) := dk_180 1 3 (dk_at dksX6_take1_4 12 rfl rfl)
theorem dX6_take1_109 : decode cX6_take1 109 = .ok (.iadd, 1) := dk_96 (dk_at dksX6_take1_4 15 rfl rfl)
theorem dX6_take1_110 : decode cX6_take1 110 = .ok (.if_icmp .ne 42, 3) := dk_160 0 42 (dk_at dksX6_take1_4 16 rfl rfl)
theorem dX6_take1_113 : decode cX6_take1 113 = .ok (.aload_n 0, 1) := dk_42 (dk_at dksX6_take1_4 19 rfl rfl)
theorem dX6_take1_114 : decode cX6_take1 114 = .ok (.aload_n 0, 1) := dk_42 (dk_at dksX6_take1_4 20 rfl rfl)
theorem dX6_take1_115 : decode cX6_take1 115 = .ok (.getfield 66, 3) := dk_180 0 66 (dk_at dksX6_take1_4 21 rfl rfl)
theorem dX6_take1_118 : decode cX6_take1 118 = .ok (.iconst 1, 1) := dk_4 (dk_at dksX6_take1_5 0 rfl rfl)
theorem dX6_take1_119 : decode cX6_take1 119 = .ok (.iaload, 1) := dk_46 (dk_at dksX6_take1_5 1 rfl rfl)
theorem dX6_take1_120 : decode cX6_take1 120 = .ok (.putfield 304, 3) := dk_181 1 48 (dk_at dksX6_take1_5 2 rfl rfl)
theorem dX6_take1_123 : decode cX6_take1 123 = .ok (.aload_n 0, 1) := dk_42 (dk_at dksX6_take1_5 5 rfl rfl)
theorem dX6_take1_124 : decode cX6_take1 124 = .ok (.aload_n 0, 1) := dk_42 (dk_at dksX6_take1_5 6 rfl rfl)
theorem dX6_take1_125 : decode cX6_take1 125 = .ok (.getfield 66, 3) := dk_180 0 66 (dk_at dksX6_take1_5 7 rfl rfl)
theorem dX6_take1_128 : decode cX6_take1 128 = .ok (.iconst 2, 1) := dk_5 (dk_at dksX6_take1_5 10 rfl rfl)
theorem dX6_take1_129 : decode cX6_take1 129 = .ok (.iaload, 1) := dk_46 (dk_at dksX6_take1_5 11 rfl rfl)
theorem dX6_take1_130 : decode cX6_take1 130 = .ok (.putfield 176, 3) := dk_181 0 176 (dk_at dksX6_take1_5 12 rfl rfl)
theorem dX6_take1_133 : decode cX6_take1 133 = .ok (.aload_n 0, 1) := dk_42 (dk_at dksX6_take1_5 15 rfl rfl)
theorem dX6_take1_134 : decode cX6_take1 134 = .ok (.aload_n 0, 1) := dk_42 (dk_at dksX6_take1_5 16 rfl rfl)
theorem dX6_take1_135 : decode cX6_take1 135 = .ok (.getfield 66, 3) := dk_180 0 66 (dk_at dksX6_take1_5 17 rfl rfl)
theorem dX6_take1_138 : decode cX6_take1 138 = .ok (.iconst 3, 1) := dk_6 (dk_at dksX6_take1_5 20 rfl rfl)
theorem dX6_take1_139 : decode cX6_take1 139 = .ok (.iaload, 1) := dk_46 (dk_at dksX6_take1_5 21 rfl rfl)
theorem dX6_take1_140 : decode cX6_take1 140 = .ok (.putfield 268, 3) := dk_181 1 12 (dk_at dksX6_take1_6 0 rfl rfl)
theorem dX6_take1_143 : decode cX6_take1 143 = .ok (.aload_n 0, 1) := dk_42 (dk_at dksX6_take1_6 3 rfl rfl)
theorem dX6_take1_144 : decode cX6_take1 144 = .ok (.iconst 0, 1) := dk_3 (dk_at dksX6_take1_6 4 rfl rfl)
theorem dX6_take1_145 : decode cX6_take1 145 = .ok (.putfield 98, 3) := dk_181 0 98 (dk_at dksX6_take1_6 5 rfl rfl)
theorem dX6_take1_148 : decode cX6_take1 148 = .ok (.aload_n 0, 1) := dk_42 (dk_at dksX6_take1_6 8 rfl rfl)
theorem dX6_take1_149 : decode cX6_take1 149 = .ok (.invokevirtual 343, 3) := dk_182 1 87 (dk_at dksX6_take1_6 9 rfl rfl)
theorem dX6_take1_152 : decode cX6_take1 152 = .ok (.return_, 1) := dk_177 (dk_at dksX6_take1_6 12 rfl rfl)
abbrev cX6_prefaceByte : ByteArray := prog_8_method_54_code
def yX6_prefaceByte : MethodName := ⟨RX6, "prefaceByte", "()I"⟩
def dkwX6_prefaceByte_1 : List UInt8 := [167, 0, 18, 42, 180, 0, 95, 5, 160, 0, 8, 16, 73, 167, 0, 5, 16, 10, 172]
abbrev dktX6_prefaceByte_1 : List UInt8 := dkwX6_prefaceByte_1 ++ []
def dkwX6_prefaceByte_0 : List UInt8 := [42, 180, 0, 95, 154, 0, 8, 16, 80, 167, 0, 31, 42, 180, 0, 95, 4, 160, 0, 8, 16, 82]
abbrev dktX6_prefaceByte_0 : List UInt8 := dkwX6_prefaceByte_0 ++ dktX6_prefaceByte_1
theorem dksX6_prefaceByte_0 : cX6_prefaceByte.data.toList.drop 0 = dktX6_prefaceByte_0 := by decide +kernel
theorem dksX6_prefaceByte_1 : cX6_prefaceByte.data.toList.drop 22 = dktX6_prefaceByte_1 := dk_seg dksX6_prefaceByte_0 22 rfl rfl
theorem dX6_prefaceByte_0 : decode cX6_prefaceByte 0 = .ok (.aload_n 0, 1) := dk_42 (dk_at dksX6_prefaceByte_0 0 rfl rfl)
theorem dX6_prefaceByte_1 : decode cX6_prefaceByte 1 = .ok (.getfield 95, 3) := dk_180 0 95 (dk_at dksX6_prefaceByte_0 1 rfl rfl)
theorem dX6_prefaceByte_4 : decode cX6_prefaceByte 4 = .ok (.ifCond .ne 8, 3) := dk_154 0 8 (dk_at dksX6_prefaceByte_0 4 rfl rfl)
theorem dX6_prefaceByte_7 : decode cX6_prefaceByte 7 = .ok (.bipush 80, 2) := dk_16 80 (dk_at dksX6_prefaceByte_0 7 rfl rfl)
theorem dX6_prefaceByte_9 : decode cX6_prefaceByte 9 = .ok (.goto 31, 3) := dk_167 0 31 (dk_at dksX6_prefaceByte_0 9 rfl rfl)
theorem dX6_prefaceByte_12 : decode cX6_prefaceByte 12 = .ok (.aload_n 0, 1) := dk_42 (dk_at dksX6_prefaceByte_0 12 rfl rfl)
theorem dX6_prefaceByte_13 : decode cX6_prefaceByte 13 = .ok (.getfield 95, 3) := dk_180 0 95 (dk_at dksX6_prefaceByte_0 13 rfl rfl)
theorem dX6_prefaceByte_16 : decode cX6_prefaceByte 16 = .ok (.iconst 1, 1) := dk_4 (dk_at dksX6_prefaceByte_0 16 rfl rfl)
theorem dX6_prefaceByte_17 : decode cX6_prefaceByte 17 = .ok (.if_icmp .ne 8, 3) := dk_160 0 8 (dk_at dksX6_prefaceByte_0 17 rfl rfl)
theorem dX6_prefaceByte_20 : decode cX6_prefaceByte 20 = .ok (.bipush 82, 2) := dk_16 82 (dk_at dksX6_prefaceByte_0 20 rfl rfl)
theorem dX6_prefaceByte_22 : decode cX6_prefaceByte 22 = .ok (.goto 18, 3) := dk_167 0 18 (dk_at dksX6_prefaceByte_1 0 rfl rfl)
theorem dX6_prefaceByte_25 : decode cX6_prefaceByte 25 = .ok (.aload_n 0, 1) := dk_42 (dk_at dksX6_prefaceByte_1 3 rfl rfl)
theorem dX6_prefaceByte_26 : decode cX6_prefaceByte 26 = .ok (.getfield 95, 3) := dk_180 0 95 (dk_at dksX6_prefaceByte_1 4 rfl rfl)
theorem dX6_prefaceByte_29 : decode cX6_prefaceByte 29 = .ok (.iconst 2, 1) := dk_5 (dk_at dksX6_prefaceByte_1 7 rfl rfl)
theorem dX6_prefaceByte_30 : decode cX6_prefaceByte 30 = .ok (.if_icmp .ne 8, 3) := dk_160 0 8 (dk_at dksX6_prefaceByte_1 8 rfl rfl)
theorem dX6_prefaceByte_33 : decode cX6_prefaceByte 33 = .ok (.bipush 73, 2) := dk_16 73 (dk_at dksX6_prefaceByte_1 11 rfl rfl)
theorem dX6_prefaceByte_35 : decode cX6_prefaceByte 35 = .ok (.goto 5, 3) := dk_167 0 5 (dk_at dksX6_prefaceByte_1 13 rfl rfl)
theorem dX6_prefaceByte_38 : decode cX6_prefaceByte 38 = .ok (.bipush 10, 2) := dk_16 10 (dk_at dksX6_prefaceByte_1 16 rfl rfl)
theorem dX6_prefaceByte_40 : decode cX6_prefaceByte 40 = .ok (.ireturn, 1) := dk_172 (dk_at dksX6_prefaceByte_1 18 rfl rfl)
abbrev cX6_goAway : ByteArray := prog_8_method_49_code
def yX6_goAway : MethodName := ⟨RX6, "goAway", "(I)V"⟩
def dkwX6_goAway_1 : List UInt8 := [181, 0, 114, 177]
abbrev dktX6_goAway_1 : List UInt8 := dkwX6_goAway_1 ++ []
def dkwX6_goAway_0 : List UInt8 := [42, 5, 16, 7, 3, 3, 182, 0, 132, 42, 42, 180, 0, 111, 182, 0, 136, 42, 27, 182, 0, 136, 42, 27]
abbrev dktX6_goAway_0 : List UInt8 := dkwX6_goAway_0 ++ dktX6_goAway_1
theorem dksX6_goAway_0 : cX6_goAway.data.toList.drop 0 = dktX6_goAway_0 := by decide +kernel
theorem dksX6_goAway_1 : cX6_goAway.data.toList.drop 24 = dktX6_goAway_1 := dk_seg dksX6_goAway_0 24 rfl rfl
theorem dX6_goAway_0 : decode cX6_goAway 0 = .ok (.aload_n 0, 1) := dk_42 (dk_at dksX6_goAway_0 0 rfl rfl)
theorem dX6_goAway_1 : decode cX6_goAway 1 = .ok (.iconst 2, 1) := dk_5 (dk_at dksX6_goAway_0 1 rfl rfl)
theorem dX6_goAway_2 : decode cX6_goAway 2 = .ok (.bipush 7, 2) := dk_16 7 (dk_at dksX6_goAway_0 2 rfl rfl)
theorem dX6_goAway_4 : decode cX6_goAway 4 = .ok (.iconst 0, 1) := dk_3 (dk_at dksX6_goAway_0 4 rfl rfl)
theorem dX6_goAway_5 : decode cX6_goAway 5 = .ok (.iconst 0, 1) := dk_3 (dk_at dksX6_goAway_0 5 rfl rfl)
theorem dX6_goAway_6 : decode cX6_goAway 6 = .ok (.invokevirtual 132, 3) := dk_182 0 132 (dk_at dksX6_goAway_0 6 rfl rfl)
theorem dX6_goAway_9 : decode cX6_goAway 9 = .ok (.aload_n 0, 1) := dk_42 (dk_at dksX6_goAway_0 9 rfl rfl)
theorem dX6_goAway_10 : decode cX6_goAway 10 = .ok (.aload_n 0, 1) := dk_42 (dk_at dksX6_goAway_0 10 rfl rfl)
theorem dX6_goAway_11 : decode cX6_goAway 11 = .ok (.getfield 111, 3) := dk_180 0 111 (dk_at dksX6_goAway_0 11 rfl rfl)
theorem dX6_goAway_14 : decode cX6_goAway 14 = .ok (.invokevirtual 136, 3) := dk_182 0 136 (dk_at dksX6_goAway_0 14 rfl rfl)
theorem dX6_goAway_17 : decode cX6_goAway 17 = .ok (.aload_n 0, 1) := dk_42 (dk_at dksX6_goAway_0 17 rfl rfl)
theorem dX6_goAway_18 : decode cX6_goAway 18 = .ok (.iload_n 1, 1) := dk_27 (dk_at dksX6_goAway_0 18 rfl rfl)
theorem dX6_goAway_19 : decode cX6_goAway 19 = .ok (.invokevirtual 136, 3) := dk_182 0 136 (dk_at dksX6_goAway_0 19 rfl rfl)
theorem dX6_goAway_22 : decode cX6_goAway 22 = .ok (.aload_n 0, 1) := dk_42 (dk_at dksX6_goAway_0 22 rfl rfl)
theorem dX6_goAway_23 : decode cX6_goAway 23 = .ok (.iload_n 1, 1) := dk_27 (dk_at dksX6_goAway_0 23 rfl rfl)
theorem dX6_goAway_24 : decode cX6_goAway 24 = .ok (.putfield 114, 3) := dk_181 0 114 (dk_at dksX6_goAway_1 0 rfl rfl)
theorem dX6_goAway_27 : decode cX6_goAway 27 = .ok (.return_, 1) := dk_177 (dk_at dksX6_goAway_1 3 rfl rfl)
abbrev cX6_whole : ByteArray := prog_8_method_50_code
def yX6_whole : MethodName := ⟨RX6, "whole", "()V"⟩
def dkwX6_whole_2 : List UInt8 := [182, 1, 72, 42, 180, 0, 114, 154, 0, 7, 42, 182, 1, 75, 177]
abbrev dktX6_whole_2 : List UInt8 := dkwX6_whole_2 ++ []
def dkwX6_whole_1 : List UInt8 := [16, 100, 100, 182, 0, 136, 42, 42, 180, 1, 12, 182, 1, 45, 167, 0, 12, 27, 158, 0, 8, 42, 27]
abbrev dktX6_whole_1 : List UInt8 := dkwX6_whole_1 ++ dktX6_whole_2
def dkwX6_whole_0 : List UInt8 := [42, 182, 1, 69, 60, 27, 16, 100, 164, 0, 33, 42, 4, 6, 3, 42, 180, 1, 12, 182, 0, 132, 42, 27]
abbrev dktX6_whole_0 : List UInt8 := dkwX6_whole_0 ++ dktX6_whole_1
theorem dksX6_whole_0 : cX6_whole.data.toList.drop 0 = dktX6_whole_0 := by decide +kernel
theorem dksX6_whole_1 : cX6_whole.data.toList.drop 24 = dktX6_whole_1 := dk_seg dksX6_whole_0 24 rfl rfl
theorem dksX6_whole_2 : cX6_whole.data.toList.drop 47 = dktX6_whole_2 := dk_seg dksX6_whole_1 23 rfl rfl
theorem dX6_whole_0 : decode cX6_whole 0 = .ok (.aload_n 0, 1) := dk_42 (dk_at dksX6_whole_0 0 rfl rfl)
theorem dX6_whole_1 : decode cX6_whole 1 = .ok (.invokevirtual 325, 3) := dk_182 1 69 (dk_at dksX6_whole_0 1 rfl rfl)
theorem dX6_whole_4 : decode cX6_whole 4 = .ok (.istore_n 1, 1) := dk_60 (dk_at dksX6_whole_0 4 rfl rfl)
theorem dX6_whole_5 : decode cX6_whole 5 = .ok (.iload_n 1, 1) := dk_27 (dk_at dksX6_whole_0 5 rfl rfl)
theorem dX6_whole_6 : decode cX6_whole 6 = .ok (.bipush 100, 2) := dk_16 100 (dk_at dksX6_whole_0 6 rfl rfl)
theorem dX6_whole_8 : decode cX6_whole 8 = .ok (.if_icmp .le 33, 3) := dk_164 0 33 (dk_at dksX6_whole_0 8 rfl rfl)
theorem dX6_whole_11 : decode cX6_whole 11 = .ok (.aload_n 0, 1) := dk_42 (dk_at dksX6_whole_0 11 rfl rfl)
theorem dX6_whole_12 : decode cX6_whole 12 = .ok (.iconst 1, 1) := dk_4 (dk_at dksX6_whole_0 12 rfl rfl)
theorem dX6_whole_13 : decode cX6_whole 13 = .ok (.iconst 3, 1) := dk_6 (dk_at dksX6_whole_0 13 rfl rfl)
theorem dX6_whole_14 : decode cX6_whole 14 = .ok (.iconst 0, 1) := dk_3 (dk_at dksX6_whole_0 14 rfl rfl)
theorem dX6_whole_15 : decode cX6_whole 15 = .ok (.aload_n 0, 1) := dk_42 (dk_at dksX6_whole_0 15 rfl rfl)
theorem dX6_whole_16 : decode cX6_whole 16 = .ok (.getfield 268, 3) := dk_180 1 12 (dk_at dksX6_whole_0 16 rfl rfl)
theorem dX6_whole_19 : decode cX6_whole 19 = .ok (.invokevirtual 132, 3) := dk_182 0 132 (dk_at dksX6_whole_0 19 rfl rfl)
theorem dX6_whole_22 : decode cX6_whole 22 = .ok (.aload_n 0, 1) := dk_42 (dk_at dksX6_whole_0 22 rfl rfl)
theorem dX6_whole_23 : decode cX6_whole 23 = .ok (.iload_n 1, 1) := dk_27 (dk_at dksX6_whole_0 23 rfl rfl)
theorem dX6_whole_24 : decode cX6_whole 24 = .ok (.bipush 100, 2) := dk_16 100 (dk_at dksX6_whole_1 0 rfl rfl)
theorem dX6_whole_26 : decode cX6_whole 26 = .ok (.isub, 1) := dk_100 (dk_at dksX6_whole_1 2 rfl rfl)
theorem dX6_whole_27 : decode cX6_whole 27 = .ok (.invokevirtual 136, 3) := dk_182 0 136 (dk_at dksX6_whole_1 3 rfl rfl)
theorem dX6_whole_30 : decode cX6_whole 30 = .ok (.aload_n 0, 1) := dk_42 (dk_at dksX6_whole_1 6 rfl rfl)
theorem dX6_whole_31 : decode cX6_whole 31 = .ok (.aload_n 0, 1) := dk_42 (dk_at dksX6_whole_1 7 rfl rfl)
theorem dX6_whole_32 : decode cX6_whole 32 = .ok (.getfield 268, 3) := dk_180 1 12 (dk_at dksX6_whole_1 8 rfl rfl)
theorem dX6_whole_35 : decode cX6_whole 35 = .ok (.invokevirtual 301, 3) := dk_182 1 45 (dk_at dksX6_whole_1 11 rfl rfl)
theorem dX6_whole_38 : decode cX6_whole 38 = .ok (.goto 12, 3) := dk_167 0 12 (dk_at dksX6_whole_1 14 rfl rfl)
theorem dX6_whole_41 : decode cX6_whole 41 = .ok (.iload_n 1, 1) := dk_27 (dk_at dksX6_whole_1 17 rfl rfl)
theorem dX6_whole_42 : decode cX6_whole 42 = .ok (.ifCond .le 8, 3) := dk_158 0 8 (dk_at dksX6_whole_1 18 rfl rfl)
theorem dX6_whole_45 : decode cX6_whole 45 = .ok (.aload_n 0, 1) := dk_42 (dk_at dksX6_whole_1 21 rfl rfl)
theorem dX6_whole_46 : decode cX6_whole 46 = .ok (.iload_n 1, 1) := dk_27 (dk_at dksX6_whole_1 22 rfl rfl)
theorem dX6_whole_47 : decode cX6_whole 47 = .ok (.invokevirtual 328, 3) := dk_182 1 72 (dk_at dksX6_whole_2 0 rfl rfl)
theorem dX6_whole_50 : decode cX6_whole 50 = .ok (.aload_n 0, 1) := dk_42 (dk_at dksX6_whole_2 3 rfl rfl)
theorem dX6_whole_51 : decode cX6_whole 51 = .ok (.getfield 114, 3) := dk_180 0 114 (dk_at dksX6_whole_2 4 rfl rfl)
theorem dX6_whole_54 : decode cX6_whole 54 = .ok (.ifCond .ne 7, 3) := dk_154 0 7 (dk_at dksX6_whole_2 7 rfl rfl)
theorem dX6_whole_57 : decode cX6_whole 57 = .ok (.aload_n 0, 1) := dk_42 (dk_at dksX6_whole_2 10 rfl rfl)
theorem dX6_whole_58 : decode cX6_whole 58 = .ok (.invokevirtual 331, 3) := dk_182 1 75 (dk_at dksX6_whole_2 11 rfl rfl)
theorem dX6_whole_61 : decode cX6_whole 61 = .ok (.return_, 1) := dk_177 (dk_at dksX6_whole_2 14 rfl rfl)
abbrev cX6_look : ByteArray := prog_8_method_48_code
def yX6_look : MethodName := ⟨RX6, "look", "()I"⟩
def dkwX6_look_8 : List UInt8 := [16, 6, 172, 42, 182, 1, 66, 172, 42, 182, 1, 33, 172, 3, 172]
abbrev dktX6_look_8 : List UInt8 := dkwX6_look_8 ++ []
def dkwX6_look_7 : List UInt8 := [172, 42, 180, 1, 12, 158, 0, 7, 4, 167, 0, 17, 42, 180, 1, 3, 5, 160, 0, 7, 3, 167, 0, 5]
abbrev dktX6_look_7 : List UInt8 := dkwX6_look_7 ++ dktX6_look_8
def dkwX6_look_6 : List UInt8 := [42, 182, 1, 51, 172, 42, 182, 1, 54, 172, 42, 182, 1, 57, 172, 42, 182, 1, 60, 172, 42, 182, 1, 63]
abbrev dktX6_look_6 : List UInt8 := dkwX6_look_6 ++ dktX6_look_7
def dkwX6_look_5 : List UInt8 := [170, 0, 0, 0, 0, 0, 0, 117, 0, 0, 0, 0, 0, 0, 0, 9, 0, 0, 0, 56, 0, 0, 0, 61, 0, 0, 0, 117, 0, 0, 0, 66, 0, 0, 0, 71, 0, 0, 0, 117, 0, 0, 0, 76, 0, 0, 0, 81, 0, 0, 0, 107, 0, 0, 0, 112]
abbrev dktX6_look_5 : List UInt8 := dkwX6_look_5 ++ dktX6_look_6
def dkwX6_look_4 : List UInt8 := [180, 1, 3, 181, 1, 9, 42, 180, 1, 48]
abbrev dktX6_look_4 : List UInt8 := dkwX6_look_4 ++ dktX6_look_5
def dkwX6_look_3 : List UInt8 := [160, 0, 7, 4, 167, 0, 4, 3, 60, 27, 154, 0, 5, 4, 172, 42, 3, 181, 1, 6, 42, 42]
abbrev dktX6_look_3 : List UInt8 := dkwX6_look_3 ++ dktX6_look_4
def dkwX6_look_2 : List UInt8 := [167, 0, 32, 3, 167, 0, 28, 42, 180, 1, 48, 16, 9, 160, 0, 18, 42, 180, 1, 12, 42, 180, 0, 105]
abbrev dktX6_look_2 : List UInt8 := dkwX6_look_2 ++ dktX6_look_3
def dkwX6_look_1 : List UInt8 := [172, 42, 3, 181, 0, 101, 42, 180, 0, 105, 2, 160, 0, 20, 42, 180, 1, 48, 16, 9, 159, 0, 7, 4]
abbrev dktX6_look_1 : List UInt8 := dkwX6_look_1 ++ dktX6_look_2
def dkwX6_look_0 : List UInt8 := [42, 180, 0, 101, 153, 0, 21, 42, 180, 1, 48, 7, 160, 0, 11, 42, 4, 182, 1, 0, 153, 0, 5, 4]
abbrev dktX6_look_0 : List UInt8 := dkwX6_look_0 ++ dktX6_look_1
theorem dksX6_look_0 : cX6_look.data.toList.drop 0 = dktX6_look_0 := by decide +kernel
theorem dksX6_look_1 : cX6_look.data.toList.drop 24 = dktX6_look_1 := dk_seg dksX6_look_0 24 rfl rfl
theorem dksX6_look_2 : cX6_look.data.toList.drop 48 = dktX6_look_2 := dk_seg dksX6_look_1 24 rfl rfl
theorem dksX6_look_3 : cX6_look.data.toList.drop 72 = dktX6_look_3 := dk_seg dksX6_look_2 24 rfl rfl
theorem dksX6_look_4 : cX6_look.data.toList.drop 94 = dktX6_look_4 := dk_seg dksX6_look_3 22 rfl rfl
theorem dksX6_look_5 : cX6_look.data.toList.drop 104 = dktX6_look_5 := dk_seg dksX6_look_4 10 rfl rfl
theorem dksX6_look_6 : cX6_look.data.toList.drop 160 = dktX6_look_6 := dk_seg dksX6_look_5 56 rfl rfl
theorem dksX6_look_7 : cX6_look.data.toList.drop 184 = dktX6_look_7 := dk_seg dksX6_look_6 24 rfl rfl
theorem dksX6_look_8 : cX6_look.data.toList.drop 208 = dktX6_look_8 := dk_seg dksX6_look_7 24 rfl rfl
theorem dX6_look_0 : decode cX6_look 0 = .ok (.aload_n 0, 1) := dk_42 (dk_at dksX6_look_0 0 rfl rfl)
theorem dX6_look_1 : decode cX6_look 1 = .ok (.getfield 101, 3) := dk_180 0 101 (dk_at dksX6_look_0 1 rfl rfl)
theorem dX6_look_4 : decode cX6_look 4 = .ok (.ifCond .eq 21, 3) := dk_153 0 21 (dk_at dksX6_look_0 4 rfl rfl)
theorem dX6_look_7 : decode cX6_look 7 = .ok (.aload_n 0, 1) := dk_42 (dk_at dksX6_look_0 7 rfl rfl)
theorem dX6_look_8 : decode cX6_look 8 = .ok (.getfield 304, 3) := dk_180 1 48 (dk_at dksX6_look_0 8 rfl rfl)
theorem dX6_look_11 : decode cX6_look 11 = .ok (.iconst 4, 1) := dk_7 (dk_at dksX6_look_0 11 rfl rfl)
theorem dX6_look_12 : decode cX6_look 12 = .ok (.if_icmp .ne 11, 3) := dk_160 0 11 (dk_at dksX6_look_0 12 rfl rfl)
theorem dX6_look_15 : decode cX6_look 15 = .ok (.aload_n 0, 1) := dk_42 (dk_at dksX6_look_0 15 rfl rfl)
theorem dX6_look_16 : decode cX6_look 16 = .ok (.iconst 1, 1) := dk_4 (dk_at dksX6_look_0 16 rfl rfl)
theorem dX6_look_17 : decode cX6_look 17 = .ok (.invokevirtual 256, 3) := dk_182 1 0 (dk_at dksX6_look_0 17 rfl rfl)
theorem dX6_look_20 : decode cX6_look 20 = .ok (.ifCond .eq 5, 3) := dk_153 0 5 (dk_at dksX6_look_0 20 rfl rfl)
theorem dX6_look_23 : decode cX6_look 23 = .ok (.iconst 1, 1) := dk_4 (dk_at dksX6_look_0 23 rfl rfl)
theorem dX6_look_24 : decode cX6_look 24 = .ok (.ireturn, 1) := dk_172 (dk_at dksX6_look_1 0 rfl rfl)
theorem dX6_look_25 : decode cX6_look 25 = .ok (.aload_n 0, 1) := dk_42 (dk_at dksX6_look_1 1 rfl rfl)
theorem dX6_look_26 : decode cX6_look 26 = .ok (.iconst 0, 1) := dk_3 (dk_at dksX6_look_1 2 rfl rfl)
theorem dX6_look_27 : decode cX6_look 27 = .ok (.putfield 101, 3) := dk_181 0 101 (dk_at dksX6_look_1 3 rfl rfl)
theorem dX6_look_30 : decode cX6_look 30 = .ok (.aload_n 0, 1) := dk_42 (dk_at dksX6_look_1 6 rfl rfl)
theorem dX6_look_31 : decode cX6_look 31 = .ok (.getfield 105, 3) := dk_180 0 105 (dk_at dksX6_look_1 7 rfl rfl)
theorem dX6_look_34 : decode cX6_look 34 = .ok (.iconst (-1), 1) := dk_2 (dk_at dksX6_look_1 10 rfl rfl)
theorem dX6_look_35 : decode cX6_look 35 = .ok (.if_icmp .ne 20, 3) := dk_160 0 20 (dk_at dksX6_look_1 11 rfl rfl)
theorem dX6_look_38 : decode cX6_look 38 = .ok (.aload_n 0, 1) := dk_42 (dk_at dksX6_look_1 14 rfl rfl)
theorem dX6_look_39 : decode cX6_look 39 = .ok (.getfield 304, 3) := dk_180 1 48 (dk_at dksX6_look_1 15 rfl rfl)
theorem dX6_look_42 : decode cX6_look 42 = .ok (.bipush 9, 2) := dk_16 9 (dk_at dksX6_look_1 18 rfl rfl)
theorem dX6_look_44 : decode cX6_look 44 = .ok (.if_icmp .eq 7, 3) := dk_159 0 7 (dk_at dksX6_look_1 20 rfl rfl)
theorem dX6_look_47 : decode cX6_look 47 = .ok (.iconst 1, 1) := dk_4 (dk_at dksX6_look_1 23 rfl rfl)
theorem dX6_look_48 : decode cX6_look 48 = .ok (.goto 32, 3) := dk_167 0 32 (dk_at dksX6_look_2 0 rfl rfl)
theorem dX6_look_51 : decode cX6_look 51 = .ok (.iconst 0, 1) := dk_3 (dk_at dksX6_look_2 3 rfl rfl)
theorem dX6_look_52 : decode cX6_look 52 = .ok (.goto 28, 3) := dk_167 0 28 (dk_at dksX6_look_2 4 rfl rfl)
theorem dX6_look_55 : decode cX6_look 55 = .ok (.aload_n 0, 1) := dk_42 (dk_at dksX6_look_2 7 rfl rfl)
theorem dX6_look_56 : decode cX6_look 56 = .ok (.getfield 304, 3) := dk_180 1 48 (dk_at dksX6_look_2 8 rfl rfl)
theorem dX6_look_59 : decode cX6_look 59 = .ok (.bipush 9, 2) := dk_16 9 (dk_at dksX6_look_2 11 rfl rfl)
theorem dX6_look_61 : decode cX6_look 61 = .ok (.if_icmp .ne 18, 3) := dk_160 0 18 (dk_at dksX6_look_2 13 rfl rfl)
theorem dX6_look_64 : decode cX6_look 64 = .ok (.aload_n 0, 1) := dk_42 (dk_at dksX6_look_2 16 rfl rfl)
theorem dX6_look_65 : decode cX6_look 65 = .ok (.getfield 268, 3) := dk_180 1 12 (dk_at dksX6_look_2 17 rfl rfl)
theorem dX6_look_68 : decode cX6_look 68 = .ok (.aload_n 0, 1) := dk_42 (dk_at dksX6_look_2 20 rfl rfl)
theorem dX6_look_69 : decode cX6_look 69 = .ok (.getfield 105, 3) := dk_180 0 105 (dk_at dksX6_look_2 21 rfl rfl)
theorem dX6_look_72 : decode cX6_look 72 = .ok (.if_icmp .ne 7, 3) := dk_160 0 7 (dk_at dksX6_look_3 0 rfl rfl)
theorem dX6_look_75 : decode cX6_look 75 = .ok (.iconst 1, 1) := dk_4 (dk_at dksX6_look_3 3 rfl rfl)
theorem dX6_look_76 : decode cX6_look 76 = .ok (.goto 4, 3) := dk_167 0 4 (dk_at dksX6_look_3 4 rfl rfl)
theorem dX6_look_79 : decode cX6_look 79 = .ok (.iconst 0, 1) := dk_3 (dk_at dksX6_look_3 7 rfl rfl)
theorem dX6_look_80 : decode cX6_look 80 = .ok (.istore_n 1, 1) := dk_60 (dk_at dksX6_look_3 8 rfl rfl)
theorem dX6_look_81 : decode cX6_look 81 = .ok (.iload_n 1, 1) := dk_27 (dk_at dksX6_look_3 9 rfl rfl)
theorem dX6_look_82 : decode cX6_look 82 = .ok (.ifCond .ne 5, 3) := dk_154 0 5 (dk_at dksX6_look_3 10 rfl rfl)
theorem dX6_look_85 : decode cX6_look 85 = .ok (.iconst 1, 1) := dk_4 (dk_at dksX6_look_3 13 rfl rfl)
theorem dX6_look_86 : decode cX6_look 86 = .ok (.ireturn, 1) := dk_172 (dk_at dksX6_look_3 14 rfl rfl)
theorem dX6_look_87 : decode cX6_look 87 = .ok (.aload_n 0, 1) := dk_42 (dk_at dksX6_look_3 15 rfl rfl)
theorem dX6_look_88 : decode cX6_look 88 = .ok (.iconst 0, 1) := dk_3 (dk_at dksX6_look_3 16 rfl rfl)
theorem dX6_look_89 : decode cX6_look 89 = .ok (.putfield 262, 3) := dk_181 1 6 (dk_at dksX6_look_3 17 rfl rfl)
theorem dX6_look_92 : decode cX6_look 92 = .ok (.aload_n 0, 1) := dk_42 (dk_at dksX6_look_3 20 rfl rfl)
theorem dX6_look_93 : decode cX6_look 93 = .ok (.aload_n 0, 1) := dk_42 (dk_at dksX6_look_3 21 rfl rfl)
theorem dX6_look_94 : decode cX6_look 94 = .ok (.getfield 259, 3) := dk_180 1 3 (dk_at dksX6_look_4 0 rfl rfl)
theorem dX6_look_97 : decode cX6_look 97 = .ok (.putfield 265, 3) := dk_181 1 9 (dk_at dksX6_look_4 3 rfl rfl)
theorem dX6_look_100 : decode cX6_look 100 = .ok (.aload_n 0, 1) := dk_42 (dk_at dksX6_look_4 6 rfl rfl)
theorem dX6_look_101 : decode cX6_look 101 = .ok (.getfield 304, 3) := dk_180 1 48 (dk_at dksX6_look_4 7 rfl rfl)
theorem dX6_look_104 : decode cX6_look 104 = .ok (.tableswitch 117 0 9 #[56, 61, 117, 66, 71, 117, 76, 81, 107, 112], 56) := by decide +kernel
theorem dX6_look_160 : decode cX6_look 160 = .ok (.aload_n 0, 1) := dk_42 (dk_at dksX6_look_6 0 rfl rfl)
theorem dX6_look_161 : decode cX6_look 161 = .ok (.invokevirtual 307, 3) := dk_182 1 51 (dk_at dksX6_look_6 1 rfl rfl)
theorem dX6_look_164 : decode cX6_look 164 = .ok (.ireturn, 1) := dk_172 (dk_at dksX6_look_6 4 rfl rfl)
theorem dX6_look_165 : decode cX6_look 165 = .ok (.aload_n 0, 1) := dk_42 (dk_at dksX6_look_6 5 rfl rfl)
theorem dX6_look_166 : decode cX6_look 166 = .ok (.invokevirtual 310, 3) := dk_182 1 54 (dk_at dksX6_look_6 6 rfl rfl)
theorem dX6_look_169 : decode cX6_look 169 = .ok (.ireturn, 1) := dk_172 (dk_at dksX6_look_6 9 rfl rfl)
theorem dX6_look_170 : decode cX6_look 170 = .ok (.aload_n 0, 1) := dk_42 (dk_at dksX6_look_6 10 rfl rfl)
theorem dX6_look_171 : decode cX6_look 171 = .ok (.invokevirtual 313, 3) := dk_182 1 57 (dk_at dksX6_look_6 11 rfl rfl)
theorem dX6_look_174 : decode cX6_look 174 = .ok (.ireturn, 1) := dk_172 (dk_at dksX6_look_6 14 rfl rfl)
theorem dX6_look_175 : decode cX6_look 175 = .ok (.aload_n 0, 1) := dk_42 (dk_at dksX6_look_6 15 rfl rfl)
theorem dX6_look_176 : decode cX6_look 176 = .ok (.invokevirtual 316, 3) := dk_182 1 60 (dk_at dksX6_look_6 16 rfl rfl)
theorem dX6_look_179 : decode cX6_look 179 = .ok (.ireturn, 1) := dk_172 (dk_at dksX6_look_6 19 rfl rfl)
theorem dX6_look_180 : decode cX6_look 180 = .ok (.aload_n 0, 1) := dk_42 (dk_at dksX6_look_6 20 rfl rfl)
theorem dX6_look_181 : decode cX6_look 181 = .ok (.invokevirtual 319, 3) := dk_182 1 63 (dk_at dksX6_look_6 21 rfl rfl)
theorem dX6_look_184 : decode cX6_look 184 = .ok (.ireturn, 1) := dk_172 (dk_at dksX6_look_7 0 rfl rfl)
theorem dX6_look_185 : decode cX6_look 185 = .ok (.aload_n 0, 1) := dk_42 (dk_at dksX6_look_7 1 rfl rfl)
theorem dX6_look_186 : decode cX6_look 186 = .ok (.getfield 268, 3) := dk_180 1 12 (dk_at dksX6_look_7 2 rfl rfl)
theorem dX6_look_189 : decode cX6_look 189 = .ok (.ifCond .le 7, 3) := dk_158 0 7 (dk_at dksX6_look_7 5 rfl rfl)
theorem dX6_look_192 : decode cX6_look 192 = .ok (.iconst 1, 1) := dk_4 (dk_at dksX6_look_7 8 rfl rfl)
theorem dX6_look_193 : decode cX6_look 193 = .ok (.goto 17, 3) := dk_167 0 17 (dk_at dksX6_look_7 9 rfl rfl)
theorem dX6_look_196 : decode cX6_look 196 = .ok (.aload_n 0, 1) := dk_42 (dk_at dksX6_look_7 12 rfl rfl)
theorem dX6_look_197 : decode cX6_look 197 = .ok (.getfield 259, 3) := dk_180 1 3 (dk_at dksX6_look_7 13 rfl rfl)
theorem dX6_look_200 : decode cX6_look 200 = .ok (.iconst 2, 1) := dk_5 (dk_at dksX6_look_7 16 rfl rfl)
theorem dX6_look_201 : decode cX6_look 201 = .ok (.if_icmp .ne 7, 3) := dk_160 0 7 (dk_at dksX6_look_7 17 rfl rfl)
theorem dX6_look_204 : decode cX6_look 204 = .ok (.iconst 0, 1) := dk_3 (dk_at dksX6_look_7 20 rfl rfl)
theorem dX6_look_205 : decode cX6_look 205 = .ok (.goto 5, 3) := dk_167 0 5 (dk_at dksX6_look_7 21 rfl rfl)
theorem dX6_look_208 : decode cX6_look 208 = .ok (.bipush 6, 2) := dk_16 6 (dk_at dksX6_look_8 0 rfl rfl)
theorem dX6_look_210 : decode cX6_look 210 = .ok (.ireturn, 1) := dk_172 (dk_at dksX6_look_8 2 rfl rfl)
theorem dX6_look_211 : decode cX6_look 211 = .ok (.aload_n 0, 1) := dk_42 (dk_at dksX6_look_8 3 rfl rfl)
theorem dX6_look_212 : decode cX6_look 212 = .ok (.invokevirtual 322, 3) := dk_182 1 66 (dk_at dksX6_look_8 4 rfl rfl)
theorem dX6_look_215 : decode cX6_look 215 = .ok (.ireturn, 1) := dk_172 (dk_at dksX6_look_8 7 rfl rfl)
theorem dX6_look_216 : decode cX6_look 216 = .ok (.aload_n 0, 1) := dk_42 (dk_at dksX6_look_8 8 rfl rfl)
theorem dX6_look_217 : decode cX6_look 217 = .ok (.invokevirtual 289, 3) := dk_182 1 33 (dk_at dksX6_look_8 9 rfl rfl)
theorem dX6_look_220 : decode cX6_look 220 = .ok (.ireturn, 1) := dk_172 (dk_at dksX6_look_8 12 rfl rfl)
theorem dX6_look_221 : decode cX6_look 221 = .ok (.iconst 0, 1) := dk_3 (dk_at dksX6_look_8 13 rfl rfl)
theorem dX6_look_222 : decode cX6_look 222 = .ok (.ireturn, 1) := dk_172 (dk_at dksX6_look_8 14 rfl rfl)
abbrev cX6_has : ByteArray := prog_8_method_21_code
def yX6_has : MethodName := ⟨RX6, "has", "(I)Z"⟩
def dkwX6_has_0 : List UInt8 := [42, 180, 0, 176, 27, 126, 158, 0, 7, 4, 167, 0, 4, 3, 172]
abbrev dktX6_has_0 : List UInt8 := dkwX6_has_0 ++ []
theorem dksX6_has_0 : cX6_has.data.toList.drop 0 = dktX6_has_0 := by decide +kernel
theorem dX6_has_0 : decode cX6_has 0 = .ok (.aload_n 0, 1) := dk_42 (dk_at dksX6_has_0 0 rfl rfl)
theorem dX6_has_1 : decode cX6_has 1 = .ok (.getfield 176, 3) := dk_180 0 176 (dk_at dksX6_has_0 1 rfl rfl)
theorem dX6_has_4 : decode cX6_has 4 = .ok (.iload_n 1, 1) := dk_27 (dk_at dksX6_has_0 4 rfl rfl)
theorem dX6_has_5 : decode cX6_has 5 = .ok (.iand, 1) := dk_126 (dk_at dksX6_has_0 5 rfl rfl)
theorem dX6_has_6 : decode cX6_has 6 = .ok (.ifCond .le 7, 3) := dk_158 0 7 (dk_at dksX6_has_0 6 rfl rfl)
theorem dX6_has_9 : decode cX6_has 9 = .ok (.iconst 1, 1) := dk_4 (dk_at dksX6_has_0 9 rfl rfl)
theorem dX6_has_10 : decode cX6_has 10 = .ok (.goto 4, 3) := dk_167 0 4 (dk_at dksX6_has_0 10 rfl rfl)
theorem dX6_has_13 : decode cX6_has 13 = .ok (.iconst 0, 1) := dk_3 (dk_at dksX6_has_0 13 rfl rfl)
theorem dX6_has_14 : decode cX6_has 14 = .ok (.ireturn, 1) := dk_172 (dk_at dksX6_has_0 14 rfl rfl)
abbrev cX6_data : ByteArray := prog_8_method_38_code
def yX6_data : MethodName := ⟨RX6, "data", "()I"⟩
def dkwX6_data_6 : List UInt8 := [180, 1, 3, 182, 1, 21, 3, 172]
abbrev dktX6_data_6 : List UInt8 := dkwX6_data_6 ++ []
def dkwX6_data_5 : List UInt8 := [153, 0, 9, 42, 27, 182, 1, 24, 172, 42, 180, 1, 3, 158, 0, 15, 42, 42, 180, 1, 12, 42]
abbrev dktX6_data_5 : List UInt8 := dkwX6_data_5 ++ dktX6_data_6
def dkwX6_data_4 : List UInt8 := [180, 0, 41, 27, 92, 46, 42, 180, 1, 9, 42, 180, 1, 6, 100, 96, 79, 42, 4, 182, 1, 0]
abbrev dktX6_data_4 : List UInt8 := dkwX6_data_4 ++ dktX6_data_5
def dkwX6_data_3 : List UInt8 := [180, 0, 53, 27, 51, 153, 0, 6, 16, 105, 172, 42, 180, 1, 3, 16, 50, 164, 0, 6, 16, 103, 172, 42]
abbrev dktX6_data_3 : List UInt8 := dkwX6_data_3 ++ dktX6_data_4
def dkwX6_data_2 : List UInt8 := [3, 42, 180, 1, 3, 182, 1, 21, 42, 42, 180, 1, 12, 182, 0, 173, 60, 27, 2, 159, 0, 12, 42]
abbrev dktX6_data_2 : List UInt8 := dkwX6_data_2 ++ dktX6_data_3
def dkwX6_data_1 : List UInt8 := [154, 0, 5, 4, 172, 42, 180, 1, 3, 16, 80, 164, 0, 5, 6, 172, 42, 180, 1, 3, 158, 0, 12, 42]
abbrev dktX6_data_1 : List UInt8 := dkwX6_data_1 ++ dktX6_data_2
def dkwX6_data_0 : List UInt8 := [42, 180, 1, 12, 153, 0, 21, 42, 42, 180, 1, 12, 182, 1, 15, 154, 0, 10, 42, 182, 1, 18]
abbrev dktX6_data_0 : List UInt8 := dkwX6_data_0 ++ dktX6_data_1
theorem dksX6_data_0 : cX6_data.data.toList.drop 0 = dktX6_data_0 := by decide +kernel
theorem dksX6_data_1 : cX6_data.data.toList.drop 22 = dktX6_data_1 := dk_seg dksX6_data_0 22 rfl rfl
theorem dksX6_data_2 : cX6_data.data.toList.drop 46 = dktX6_data_2 := dk_seg dksX6_data_1 24 rfl rfl
theorem dksX6_data_3 : cX6_data.data.toList.drop 69 = dktX6_data_3 := dk_seg dksX6_data_2 23 rfl rfl
theorem dksX6_data_4 : cX6_data.data.toList.drop 93 = dktX6_data_4 := dk_seg dksX6_data_3 24 rfl rfl
theorem dksX6_data_5 : cX6_data.data.toList.drop 115 = dktX6_data_5 := dk_seg dksX6_data_4 22 rfl rfl
theorem dksX6_data_6 : cX6_data.data.toList.drop 137 = dktX6_data_6 := dk_seg dksX6_data_5 22 rfl rfl
theorem dX6_data_0 : decode cX6_data 0 = .ok (.aload_n 0, 1) := dk_42 (dk_at dksX6_data_0 0 rfl rfl)
theorem dX6_data_1 : decode cX6_data 1 = .ok (.getfield 268, 3) := dk_180 1 12 (dk_at dksX6_data_0 1 rfl rfl)
theorem dX6_data_4 : decode cX6_data 4 = .ok (.ifCond .eq 21, 3) := dk_153 0 21 (dk_at dksX6_data_0 4 rfl rfl)
theorem dX6_data_7 : decode cX6_data 7 = .ok (.aload_n 0, 1) := dk_42 (dk_at dksX6_data_0 7 rfl rfl)
theorem dX6_data_8 : decode cX6_data 8 = .ok (.aload_n 0, 1) := dk_42 (dk_at dksX6_data_0 8 rfl rfl)
theorem dX6_data_9 : decode cX6_data 9 = .ok (.getfield 268, 3) := dk_180 1 12 (dk_at dksX6_data_0 9 rfl rfl)
theorem dX6_data_12 : decode cX6_data 12 = .ok (.invokevirtual 271, 3) := dk_182 1 15 (dk_at dksX6_data_0 12 rfl rfl)
theorem dX6_data_15 : decode cX6_data 15 = .ok (.ifCond .ne 10, 3) := dk_154 0 10 (dk_at dksX6_data_0 15 rfl rfl)
theorem dX6_data_18 : decode cX6_data 18 = .ok (.aload_n 0, 1) := dk_42 (dk_at dksX6_data_0 18 rfl rfl)
theorem dX6_data_19 : decode cX6_data 19 = .ok (.invokevirtual 274, 3) := dk_182 1 18 (dk_at dksX6_data_0 19 rfl rfl)
theorem dX6_data_22 : decode cX6_data 22 = .ok (.ifCond .ne 5, 3) := dk_154 0 5 (dk_at dksX6_data_1 0 rfl rfl)
theorem dX6_data_25 : decode cX6_data 25 = .ok (.iconst 1, 1) := dk_4 (dk_at dksX6_data_1 3 rfl rfl)
theorem dX6_data_26 : decode cX6_data 26 = .ok (.ireturn, 1) := dk_172 (dk_at dksX6_data_1 4 rfl rfl)
theorem dX6_data_27 : decode cX6_data 27 = .ok (.aload_n 0, 1) := dk_42 (dk_at dksX6_data_1 5 rfl rfl)
theorem dX6_data_28 : decode cX6_data 28 = .ok (.getfield 259, 3) := dk_180 1 3 (dk_at dksX6_data_1 6 rfl rfl)
theorem dX6_data_31 : decode cX6_data 31 = .ok (.bipush 80, 2) := dk_16 80 (dk_at dksX6_data_1 9 rfl rfl)
theorem dX6_data_33 : decode cX6_data 33 = .ok (.if_icmp .le 5, 3) := dk_164 0 5 (dk_at dksX6_data_1 11 rfl rfl)
theorem dX6_data_36 : decode cX6_data 36 = .ok (.iconst 3, 1) := dk_6 (dk_at dksX6_data_1 14 rfl rfl)
theorem dX6_data_37 : decode cX6_data 37 = .ok (.ireturn, 1) := dk_172 (dk_at dksX6_data_1 15 rfl rfl)
theorem dX6_data_38 : decode cX6_data 38 = .ok (.aload_n 0, 1) := dk_42 (dk_at dksX6_data_1 16 rfl rfl)
theorem dX6_data_39 : decode cX6_data 39 = .ok (.getfield 259, 3) := dk_180 1 3 (dk_at dksX6_data_1 17 rfl rfl)
theorem dX6_data_42 : decode cX6_data 42 = .ok (.ifCond .le 12, 3) := dk_158 0 12 (dk_at dksX6_data_1 20 rfl rfl)
theorem dX6_data_45 : decode cX6_data 45 = .ok (.aload_n 0, 1) := dk_42 (dk_at dksX6_data_1 23 rfl rfl)
theorem dX6_data_46 : decode cX6_data 46 = .ok (.iconst 0, 1) := dk_3 (dk_at dksX6_data_2 0 rfl rfl)
theorem dX6_data_47 : decode cX6_data 47 = .ok (.aload_n 0, 1) := dk_42 (dk_at dksX6_data_2 1 rfl rfl)
theorem dX6_data_48 : decode cX6_data 48 = .ok (.getfield 259, 3) := dk_180 1 3 (dk_at dksX6_data_2 2 rfl rfl)
theorem dX6_data_51 : decode cX6_data 51 = .ok (.invokevirtual 277, 3) := dk_182 1 21 (dk_at dksX6_data_2 5 rfl rfl)
theorem dX6_data_54 : decode cX6_data 54 = .ok (.aload_n 0, 1) := dk_42 (dk_at dksX6_data_2 8 rfl rfl)
theorem dX6_data_55 : decode cX6_data 55 = .ok (.aload_n 0, 1) := dk_42 (dk_at dksX6_data_2 9 rfl rfl)
theorem dX6_data_56 : decode cX6_data 56 = .ok (.getfield 268, 3) := dk_180 1 12 (dk_at dksX6_data_2 10 rfl rfl)
theorem dX6_data_59 : decode cX6_data 59 = .ok (.invokevirtual 173, 3) := dk_182 0 173 (dk_at dksX6_data_2 13 rfl rfl)
theorem dX6_data_62 : decode cX6_data 62 = .ok (.istore_n 1, 1) := dk_60 (dk_at dksX6_data_2 16 rfl rfl)
theorem dX6_data_63 : decode cX6_data 63 = .ok (.iload_n 1, 1) := dk_27 (dk_at dksX6_data_2 17 rfl rfl)
theorem dX6_data_64 : decode cX6_data 64 = .ok (.iconst (-1), 1) := dk_2 (dk_at dksX6_data_2 18 rfl rfl)
theorem dX6_data_65 : decode cX6_data 65 = .ok (.if_icmp .eq 12, 3) := dk_159 0 12 (dk_at dksX6_data_2 19 rfl rfl)
theorem dX6_data_68 : decode cX6_data 68 = .ok (.aload_n 0, 1) := dk_42 (dk_at dksX6_data_2 22 rfl rfl)
theorem dX6_data_69 : decode cX6_data 69 = .ok (.getfield 53, 3) := dk_180 0 53 (dk_at dksX6_data_3 0 rfl rfl)
theorem dX6_data_72 : decode cX6_data 72 = .ok (.iload_n 1, 1) := dk_27 (dk_at dksX6_data_3 3 rfl rfl)
theorem dX6_data_73 : decode cX6_data 73 = .ok (.baload, 1) := dk_51 (dk_at dksX6_data_3 4 rfl rfl)
theorem dX6_data_74 : decode cX6_data 74 = .ok (.ifCond .eq 6, 3) := dk_153 0 6 (dk_at dksX6_data_3 5 rfl rfl)
theorem dX6_data_77 : decode cX6_data 77 = .ok (.bipush 105, 2) := dk_16 105 (dk_at dksX6_data_3 8 rfl rfl)
theorem dX6_data_79 : decode cX6_data 79 = .ok (.ireturn, 1) := dk_172 (dk_at dksX6_data_3 10 rfl rfl)
theorem dX6_data_80 : decode cX6_data 80 = .ok (.aload_n 0, 1) := dk_42 (dk_at dksX6_data_3 11 rfl rfl)
theorem dX6_data_81 : decode cX6_data 81 = .ok (.getfield 259, 3) := dk_180 1 3 (dk_at dksX6_data_3 12 rfl rfl)
theorem dX6_data_84 : decode cX6_data 84 = .ok (.bipush 50, 2) := dk_16 50 (dk_at dksX6_data_3 15 rfl rfl)
theorem dX6_data_86 : decode cX6_data 86 = .ok (.if_icmp .le 6, 3) := dk_164 0 6 (dk_at dksX6_data_3 17 rfl rfl)
theorem dX6_data_89 : decode cX6_data 89 = .ok (.bipush 103, 2) := dk_16 103 (dk_at dksX6_data_3 20 rfl rfl)
theorem dX6_data_91 : decode cX6_data 91 = .ok (.ireturn, 1) := dk_172 (dk_at dksX6_data_3 22 rfl rfl)
theorem dX6_data_92 : decode cX6_data 92 = .ok (.aload_n 0, 1) := dk_42 (dk_at dksX6_data_3 23 rfl rfl)
theorem dX6_data_93 : decode cX6_data 93 = .ok (.getfield 41, 3) := dk_180 0 41 (dk_at dksX6_data_4 0 rfl rfl)
theorem dX6_data_96 : decode cX6_data 96 = .ok (.iload_n 1, 1) := dk_27 (dk_at dksX6_data_4 3 rfl rfl)
theorem dX6_data_97 : decode cX6_data 97 = .ok (.dup2, 1) := dk_92 (dk_at dksX6_data_4 4 rfl rfl)
theorem dX6_data_98 : decode cX6_data 98 = .ok (.iaload, 1) := dk_46 (dk_at dksX6_data_4 5 rfl rfl)
theorem dX6_data_99 : decode cX6_data 99 = .ok (.aload_n 0, 1) := dk_42 (dk_at dksX6_data_4 6 rfl rfl)
theorem dX6_data_100 : decode cX6_data 100 = .ok (.getfield 265, 3) := dk_180 1 9 (dk_at dksX6_data_4 7 rfl rfl)
theorem dX6_data_103 : decode cX6_data 103 = .ok (.aload_n 0, 1) := dk_42 (dk_at dksX6_data_4 10 rfl rfl)
theorem dX6_data_104 : decode cX6_data 104 = .ok (.getfield 262, 3) := dk_180 1 6 (dk_at dksX6_data_4 11 rfl rfl)
theorem dX6_data_107 : decode cX6_data 107 = .ok (.isub, 1) := dk_100 (dk_at dksX6_data_4 14 rfl rfl)
theorem dX6_data_108 : decode cX6_data 108 = .ok (.iadd, 1) := dk_96 (dk_at dksX6_data_4 15 rfl rfl)
theorem dX6_data_109 : decode cX6_data 109 = .ok (.iastore, 1) := dk_79 (dk_at dksX6_data_4 16 rfl rfl)
theorem dX6_data_110 : decode cX6_data 110 = .ok (.aload_n 0, 1) := dk_42 (dk_at dksX6_data_4 17 rfl rfl)
theorem dX6_data_111 : decode cX6_data 111 = .ok (.iconst 1, 1) := dk_4 (dk_at dksX6_data_4 18 rfl rfl)
theorem dX6_data_112 : decode cX6_data 112 = .ok (.invokevirtual 256, 3) := dk_182 1 0 (dk_at dksX6_data_4 19 rfl rfl)
theorem dX6_data_115 : decode cX6_data 115 = .ok (.ifCond .eq 9, 3) := dk_153 0 9 (dk_at dksX6_data_5 0 rfl rfl)
theorem dX6_data_118 : decode cX6_data 118 = .ok (.aload_n 0, 1) := dk_42 (dk_at dksX6_data_5 3 rfl rfl)
theorem dX6_data_119 : decode cX6_data 119 = .ok (.iload_n 1, 1) := dk_27 (dk_at dksX6_data_5 4 rfl rfl)
theorem dX6_data_120 : decode cX6_data 120 = .ok (.invokevirtual 280, 3) := dk_182 1 24 (dk_at dksX6_data_5 5 rfl rfl)
theorem dX6_data_123 : decode cX6_data 123 = .ok (.ireturn, 1) := dk_172 (dk_at dksX6_data_5 8 rfl rfl)
theorem dX6_data_124 : decode cX6_data 124 = .ok (.aload_n 0, 1) := dk_42 (dk_at dksX6_data_5 9 rfl rfl)
theorem dX6_data_125 : decode cX6_data 125 = .ok (.getfield 259, 3) := dk_180 1 3 (dk_at dksX6_data_5 10 rfl rfl)
theorem dX6_data_128 : decode cX6_data 128 = .ok (.ifCond .le 15, 3) := dk_158 0 15 (dk_at dksX6_data_5 13 rfl rfl)
theorem dX6_data_131 : decode cX6_data 131 = .ok (.aload_n 0, 1) := dk_42 (dk_at dksX6_data_5 16 rfl rfl)
theorem dX6_data_132 : decode cX6_data 132 = .ok (.aload_n 0, 1) := dk_42 (dk_at dksX6_data_5 17 rfl rfl)
theorem dX6_data_133 : decode cX6_data 133 = .ok (.getfield 268, 3) := dk_180 1 12 (dk_at dksX6_data_5 18 rfl rfl)
theorem dX6_data_136 : decode cX6_data 136 = .ok (.aload_n 0, 1) := dk_42 (dk_at dksX6_data_5 21 rfl rfl)
theorem dX6_data_137 : decode cX6_data 137 = .ok (.getfield 259, 3) := dk_180 1 3 (dk_at dksX6_data_6 0 rfl rfl)
theorem dX6_data_140 : decode cX6_data 140 = .ok (.invokevirtual 277, 3) := dk_182 1 21 (dk_at dksX6_data_6 3 rfl rfl)
theorem dX6_data_143 : decode cX6_data 143 = .ok (.iconst 0, 1) := dk_3 (dk_at dksX6_data_6 6 rfl rfl)
theorem dX6_data_144 : decode cX6_data 144 = .ok (.ireturn, 1) := dk_172 (dk_at dksX6_data_6 7 rfl rfl)
abbrev cX6_idle : ByteArray := prog_8_method_20_code
def yX6_idle : MethodName := ⟨RX6, "idle", "(I)Z"⟩
def dkwX6_idle_0 : List UInt8 := [27, 42, 180, 0, 111, 163, 0, 13, 27, 158, 0, 13, 27, 5, 112, 154, 0, 7, 4, 167, 0, 4, 3, 172]
abbrev dktX6_idle_0 : List UInt8 := dkwX6_idle_0 ++ []
theorem dksX6_idle_0 : cX6_idle.data.toList.drop 0 = dktX6_idle_0 := by decide +kernel
theorem dX6_idle_0 : decode cX6_idle 0 = .ok (.iload_n 1, 1) := dk_27 (dk_at dksX6_idle_0 0 rfl rfl)
theorem dX6_idle_1 : decode cX6_idle 1 = .ok (.aload_n 0, 1) := dk_42 (dk_at dksX6_idle_0 1 rfl rfl)
theorem dX6_idle_2 : decode cX6_idle 2 = .ok (.getfield 111, 3) := dk_180 0 111 (dk_at dksX6_idle_0 2 rfl rfl)
theorem dX6_idle_5 : decode cX6_idle 5 = .ok (.if_icmp .gt 13, 3) := dk_163 0 13 (dk_at dksX6_idle_0 5 rfl rfl)
theorem dX6_idle_8 : decode cX6_idle 8 = .ok (.iload_n 1, 1) := dk_27 (dk_at dksX6_idle_0 8 rfl rfl)
theorem dX6_idle_9 : decode cX6_idle 9 = .ok (.ifCond .le 13, 3) := dk_158 0 13 (dk_at dksX6_idle_0 9 rfl rfl)
theorem dX6_idle_12 : decode cX6_idle 12 = .ok (.iload_n 1, 1) := dk_27 (dk_at dksX6_idle_0 12 rfl rfl)
theorem dX6_idle_13 : decode cX6_idle 13 = .ok (.iconst 2, 1) := dk_5 (dk_at dksX6_idle_0 13 rfl rfl)
theorem dX6_idle_14 : decode cX6_idle 14 = .ok (.irem, 1) := dk_112 (dk_at dksX6_idle_0 14 rfl rfl)
theorem dX6_idle_15 : decode cX6_idle 15 = .ok (.ifCond .ne 7, 3) := dk_154 0 7 (dk_at dksX6_idle_0 15 rfl rfl)
theorem dX6_idle_18 : decode cX6_idle 18 = .ok (.iconst 1, 1) := dk_4 (dk_at dksX6_idle_0 18 rfl rfl)
theorem dX6_idle_19 : decode cX6_idle 19 = .ok (.goto 4, 3) := dk_167 0 4 (dk_at dksX6_idle_0 19 rfl rfl)
theorem dX6_idle_22 : decode cX6_idle 22 = .ok (.iconst 0, 1) := dk_3 (dk_at dksX6_idle_0 22 rfl rfl)
theorem dX6_idle_23 : decode cX6_idle 23 = .ok (.ireturn, 1) := dk_172 (dk_at dksX6_idle_0 23 rfl rfl)
abbrev cX6_unpad : ByteArray := prog_8_method_37_code
def yX6_unpad : MethodName := ⟨RX6, "unpad", "()Z"⟩
def dkwX6_unpad_3 : List UInt8 := [167, 0, 7, 42, 180, 1, 3, 181, 1, 9, 28, 172]
abbrev dktX6_unpad_3 : List UInt8 := dkwX6_unpad_3 ++ []
def dkwX6_unpad_2 : List UInt8 := [181, 1, 6, 42, 27, 153, 0, 21, 28, 153, 0, 17, 42, 180, 1, 3, 42, 180, 0, 66, 7, 46, 100]
abbrev dktX6_unpad_2 : List UInt8 := dkwX6_unpad_2 ++ dktX6_unpad_3
def dkwX6_unpad_1 : List UInt8 := [42, 180, 1, 3, 162, 0, 7, 4, 167, 0, 4, 3, 61, 42, 27, 153, 0, 7, 4, 167, 0, 4, 3]
abbrev dktX6_unpad_1 : List UInt8 := dkwX6_unpad_1 ++ dktX6_unpad_2
def dkwX6_unpad_0 : List UInt8 := [42, 16, 8, 182, 1, 0, 60, 27, 153, 0, 23, 42, 180, 1, 3, 158, 0, 20, 42, 180, 0, 66, 7, 46]
abbrev dktX6_unpad_0 : List UInt8 := dkwX6_unpad_0 ++ dktX6_unpad_1
theorem dksX6_unpad_0 : cX6_unpad.data.toList.drop 0 = dktX6_unpad_0 := by decide +kernel
theorem dksX6_unpad_1 : cX6_unpad.data.toList.drop 24 = dktX6_unpad_1 := dk_seg dksX6_unpad_0 24 rfl rfl
theorem dksX6_unpad_2 : cX6_unpad.data.toList.drop 47 = dktX6_unpad_2 := dk_seg dksX6_unpad_1 23 rfl rfl
theorem dksX6_unpad_3 : cX6_unpad.data.toList.drop 70 = dktX6_unpad_3 := dk_seg dksX6_unpad_2 23 rfl rfl
theorem dX6_unpad_0 : decode cX6_unpad 0 = .ok (.aload_n 0, 1) := dk_42 (dk_at dksX6_unpad_0 0 rfl rfl)
theorem dX6_unpad_1 : decode cX6_unpad 1 = .ok (.bipush 8, 2) := dk_16 8 (dk_at dksX6_unpad_0 1 rfl rfl)
theorem dX6_unpad_3 : decode cX6_unpad 3 = .ok (.invokevirtual 256, 3) := dk_182 1 0 (dk_at dksX6_unpad_0 3 rfl rfl)
theorem dX6_unpad_6 : decode cX6_unpad 6 = .ok (.istore_n 1, 1) := dk_60 (dk_at dksX6_unpad_0 6 rfl rfl)
theorem dX6_unpad_7 : decode cX6_unpad 7 = .ok (.iload_n 1, 1) := dk_27 (dk_at dksX6_unpad_0 7 rfl rfl)
theorem dX6_unpad_8 : decode cX6_unpad 8 = .ok (.ifCond .eq 23, 3) := dk_153 0 23 (dk_at dksX6_unpad_0 8 rfl rfl)
theorem dX6_unpad_11 : decode cX6_unpad 11 = .ok (.aload_n 0, 1) := dk_42 (dk_at dksX6_unpad_0 11 rfl rfl)
theorem dX6_unpad_12 : decode cX6_unpad 12 = .ok (.getfield 259, 3) := dk_180 1 3 (dk_at dksX6_unpad_0 12 rfl rfl)
theorem dX6_unpad_15 : decode cX6_unpad 15 = .ok (.ifCond .le 20, 3) := dk_158 0 20 (dk_at dksX6_unpad_0 15 rfl rfl)
theorem dX6_unpad_18 : decode cX6_unpad 18 = .ok (.aload_n 0, 1) := dk_42 (dk_at dksX6_unpad_0 18 rfl rfl)
theorem dX6_unpad_19 : decode cX6_unpad 19 = .ok (.getfield 66, 3) := dk_180 0 66 (dk_at dksX6_unpad_0 19 rfl rfl)
theorem dX6_unpad_22 : decode cX6_unpad 22 = .ok (.iconst 4, 1) := dk_7 (dk_at dksX6_unpad_0 22 rfl rfl)
theorem dX6_unpad_23 : decode cX6_unpad 23 = .ok (.iaload, 1) := dk_46 (dk_at dksX6_unpad_0 23 rfl rfl)
theorem dX6_unpad_24 : decode cX6_unpad 24 = .ok (.aload_n 0, 1) := dk_42 (dk_at dksX6_unpad_1 0 rfl rfl)
theorem dX6_unpad_25 : decode cX6_unpad 25 = .ok (.getfield 259, 3) := dk_180 1 3 (dk_at dksX6_unpad_1 1 rfl rfl)
theorem dX6_unpad_28 : decode cX6_unpad 28 = .ok (.if_icmp .ge 7, 3) := dk_162 0 7 (dk_at dksX6_unpad_1 4 rfl rfl)
theorem dX6_unpad_31 : decode cX6_unpad 31 = .ok (.iconst 1, 1) := dk_4 (dk_at dksX6_unpad_1 7 rfl rfl)
theorem dX6_unpad_32 : decode cX6_unpad 32 = .ok (.goto 4, 3) := dk_167 0 4 (dk_at dksX6_unpad_1 8 rfl rfl)
theorem dX6_unpad_35 : decode cX6_unpad 35 = .ok (.iconst 0, 1) := dk_3 (dk_at dksX6_unpad_1 11 rfl rfl)
theorem dX6_unpad_36 : decode cX6_unpad 36 = .ok (.istore_n 2, 1) := dk_61 (dk_at dksX6_unpad_1 12 rfl rfl)
theorem dX6_unpad_37 : decode cX6_unpad 37 = .ok (.aload_n 0, 1) := dk_42 (dk_at dksX6_unpad_1 13 rfl rfl)
theorem dX6_unpad_38 : decode cX6_unpad 38 = .ok (.iload_n 1, 1) := dk_27 (dk_at dksX6_unpad_1 14 rfl rfl)
theorem dX6_unpad_39 : decode cX6_unpad 39 = .ok (.ifCond .eq 7, 3) := dk_153 0 7 (dk_at dksX6_unpad_1 15 rfl rfl)
theorem dX6_unpad_42 : decode cX6_unpad 42 = .ok (.iconst 1, 1) := dk_4 (dk_at dksX6_unpad_1 18 rfl rfl)
theorem dX6_unpad_43 : decode cX6_unpad 43 = .ok (.goto 4, 3) := dk_167 0 4 (dk_at dksX6_unpad_1 19 rfl rfl)
theorem dX6_unpad_46 : decode cX6_unpad 46 = .ok (.iconst 0, 1) := dk_3 (dk_at dksX6_unpad_1 22 rfl rfl)
theorem dX6_unpad_47 : decode cX6_unpad 47 = .ok (.putfield 262, 3) := dk_181 1 6 (dk_at dksX6_unpad_2 0 rfl rfl)
theorem dX6_unpad_50 : decode cX6_unpad 50 = .ok (.aload_n 0, 1) := dk_42 (dk_at dksX6_unpad_2 3 rfl rfl)
theorem dX6_unpad_51 : decode cX6_unpad 51 = .ok (.iload_n 1, 1) := dk_27 (dk_at dksX6_unpad_2 4 rfl rfl)
theorem dX6_unpad_52 : decode cX6_unpad 52 = .ok (.ifCond .eq 21, 3) := dk_153 0 21 (dk_at dksX6_unpad_2 5 rfl rfl)
theorem dX6_unpad_55 : decode cX6_unpad 55 = .ok (.iload_n 2, 1) := dk_28 (dk_at dksX6_unpad_2 8 rfl rfl)
theorem dX6_unpad_56 : decode cX6_unpad 56 = .ok (.ifCond .eq 17, 3) := dk_153 0 17 (dk_at dksX6_unpad_2 9 rfl rfl)
theorem dX6_unpad_59 : decode cX6_unpad 59 = .ok (.aload_n 0, 1) := dk_42 (dk_at dksX6_unpad_2 12 rfl rfl)
theorem dX6_unpad_60 : decode cX6_unpad 60 = .ok (.getfield 259, 3) := dk_180 1 3 (dk_at dksX6_unpad_2 13 rfl rfl)
theorem dX6_unpad_63 : decode cX6_unpad 63 = .ok (.aload_n 0, 1) := dk_42 (dk_at dksX6_unpad_2 16 rfl rfl)
theorem dX6_unpad_64 : decode cX6_unpad 64 = .ok (.getfield 66, 3) := dk_180 0 66 (dk_at dksX6_unpad_2 17 rfl rfl)
theorem dX6_unpad_67 : decode cX6_unpad 67 = .ok (.iconst 4, 1) := dk_7 (dk_at dksX6_unpad_2 20 rfl rfl)
theorem dX6_unpad_68 : decode cX6_unpad 68 = .ok (.iaload, 1) := dk_46 (dk_at dksX6_unpad_2 21 rfl rfl)
theorem dX6_unpad_69 : decode cX6_unpad 69 = .ok (.isub, 1) := dk_100 (dk_at dksX6_unpad_2 22 rfl rfl)
theorem dX6_unpad_70 : decode cX6_unpad 70 = .ok (.goto 7, 3) := dk_167 0 7 (dk_at dksX6_unpad_3 0 rfl rfl)
theorem dX6_unpad_73 : decode cX6_unpad 73 = .ok (.aload_n 0, 1) := dk_42 (dk_at dksX6_unpad_3 3 rfl rfl)
theorem dX6_unpad_74 : decode cX6_unpad 74 = .ok (.getfield 259, 3) := dk_180 1 3 (dk_at dksX6_unpad_3 4 rfl rfl)
theorem dX6_unpad_77 : decode cX6_unpad 77 = .ok (.putfield 265, 3) := dk_181 1 9 (dk_at dksX6_unpad_3 7 rfl rfl)
theorem dX6_unpad_80 : decode cX6_unpad 80 = .ok (.iload_n 2, 1) := dk_28 (dk_at dksX6_unpad_3 10 rfl rfl)
theorem dX6_unpad_81 : decode cX6_unpad 81 = .ok (.ireturn, 1) := dk_172 (dk_at dksX6_unpad_3 11 rfl rfl)
abbrev cX6_credit : ByteArray := prog_8_method_16_code
def yX6_credit : MethodName := ⟨RX6, "credit", "(II)V"⟩
def dkwX6_credit_1 : List UInt8 := [182, 0, 136, 177]
abbrev dktX6_credit_1 : List UInt8 := dkwX6_credit_1 ++ []
def dkwX6_credit_0 : List UInt8 := [42, 5, 16, 8, 3, 27, 182, 0, 132, 42, 28, 17, 1, 0, 108, 182, 0, 136, 42, 28, 17, 1, 0, 112]
abbrev dktX6_credit_0 : List UInt8 := dkwX6_credit_0 ++ dktX6_credit_1
theorem dksX6_credit_0 : cX6_credit.data.toList.drop 0 = dktX6_credit_0 := by decide +kernel
theorem dksX6_credit_1 : cX6_credit.data.toList.drop 24 = dktX6_credit_1 := dk_seg dksX6_credit_0 24 rfl rfl
theorem dX6_credit_0 : decode cX6_credit 0 = .ok (.aload_n 0, 1) := dk_42 (dk_at dksX6_credit_0 0 rfl rfl)
theorem dX6_credit_1 : decode cX6_credit 1 = .ok (.iconst 2, 1) := dk_5 (dk_at dksX6_credit_0 1 rfl rfl)
theorem dX6_credit_2 : decode cX6_credit 2 = .ok (.bipush 8, 2) := dk_16 8 (dk_at dksX6_credit_0 2 rfl rfl)
theorem dX6_credit_4 : decode cX6_credit 4 = .ok (.iconst 0, 1) := dk_3 (dk_at dksX6_credit_0 4 rfl rfl)
theorem dX6_credit_5 : decode cX6_credit 5 = .ok (.iload_n 1, 1) := dk_27 (dk_at dksX6_credit_0 5 rfl rfl)
theorem dX6_credit_6 : decode cX6_credit 6 = .ok (.invokevirtual 132, 3) := dk_182 0 132 (dk_at dksX6_credit_0 6 rfl rfl)
theorem dX6_credit_9 : decode cX6_credit 9 = .ok (.aload_n 0, 1) := dk_42 (dk_at dksX6_credit_0 9 rfl rfl)
theorem dX6_credit_10 : decode cX6_credit 10 = .ok (.iload_n 2, 1) := dk_28 (dk_at dksX6_credit_0 10 rfl rfl)
theorem dX6_credit_11 : decode cX6_credit 11 = .ok (.sipush 256, 3) := dk_17 1 0 (dk_at dksX6_credit_0 11 rfl rfl)
theorem dX6_credit_14 : decode cX6_credit 14 = .ok (.idiv, 1) := dk_108 (dk_at dksX6_credit_0 14 rfl rfl)
theorem dX6_credit_15 : decode cX6_credit 15 = .ok (.invokevirtual 136, 3) := dk_182 0 136 (dk_at dksX6_credit_0 15 rfl rfl)
theorem dX6_credit_18 : decode cX6_credit 18 = .ok (.aload_n 0, 1) := dk_42 (dk_at dksX6_credit_0 18 rfl rfl)
theorem dX6_credit_19 : decode cX6_credit 19 = .ok (.iload_n 2, 1) := dk_28 (dk_at dksX6_credit_0 19 rfl rfl)
theorem dX6_credit_20 : decode cX6_credit 20 = .ok (.sipush 256, 3) := dk_17 1 0 (dk_at dksX6_credit_0 20 rfl rfl)
theorem dX6_credit_23 : decode cX6_credit 23 = .ok (.irem, 1) := dk_112 (dk_at dksX6_credit_0 23 rfl rfl)
theorem dX6_credit_24 : decode cX6_credit 24 = .ok (.invokevirtual 136, 3) := dk_182 0 136 (dk_at dksX6_credit_1 0 rfl rfl)
theorem dX6_credit_27 : decode cX6_credit 27 = .ok (.return_, 1) := dk_177 (dk_at dksX6_credit_1 3 rfl rfl)
abbrev cX6_slotOf : ByteArray := prog_8_method_17_code
def yX6_slotOf : MethodName := ⟨RX6, "slotOf", "(I)I"⟩
def dkwX6_slotOf_1 : List UInt8 := [167, 0, 4, 28, 61, 132, 3, 1, 167, 255, 228, 28, 172]
abbrev dktX6_slotOf_1 : List UInt8 := dkwX6_slotOf_1 ++ []
def dkwX6_slotOf_0 : List UInt8 := [2, 61, 3, 62, 29, 7, 162, 0, 29, 27, 158, 0, 17, 42, 180, 0, 35, 29, 46, 27, 160, 0, 7, 29]
abbrev dktX6_slotOf_0 : List UInt8 := dkwX6_slotOf_0 ++ dktX6_slotOf_1
theorem dksX6_slotOf_0 : cX6_slotOf.data.toList.drop 0 = dktX6_slotOf_0 := by decide +kernel
theorem dksX6_slotOf_1 : cX6_slotOf.data.toList.drop 24 = dktX6_slotOf_1 := dk_seg dksX6_slotOf_0 24 rfl rfl
theorem dX6_slotOf_0 : decode cX6_slotOf 0 = .ok (.iconst (-1), 1) := dk_2 (dk_at dksX6_slotOf_0 0 rfl rfl)
theorem dX6_slotOf_1 : decode cX6_slotOf 1 = .ok (.istore_n 2, 1) := dk_61 (dk_at dksX6_slotOf_0 1 rfl rfl)
theorem dX6_slotOf_2 : decode cX6_slotOf 2 = .ok (.iconst 0, 1) := dk_3 (dk_at dksX6_slotOf_0 2 rfl rfl)
theorem dX6_slotOf_3 : decode cX6_slotOf 3 = .ok (.istore_n 3, 1) := dk_62 (dk_at dksX6_slotOf_0 3 rfl rfl)
theorem dX6_slotOf_4 : decode cX6_slotOf 4 = .ok (.iload_n 3, 1) := dk_29 (dk_at dksX6_slotOf_0 4 rfl rfl)
theorem dX6_slotOf_5 : decode cX6_slotOf 5 = .ok (.iconst 4, 1) := dk_7 (dk_at dksX6_slotOf_0 5 rfl rfl)
theorem dX6_slotOf_6 : decode cX6_slotOf 6 = .ok (.if_icmp .ge 29, 3) := dk_162 0 29 (dk_at dksX6_slotOf_0 6 rfl rfl)
theorem dX6_slotOf_9 : decode cX6_slotOf 9 = .ok (.iload_n 1, 1) := dk_27 (dk_at dksX6_slotOf_0 9 rfl rfl)
theorem dX6_slotOf_10 : decode cX6_slotOf 10 = .ok (.ifCond .le 17, 3) := dk_158 0 17 (dk_at dksX6_slotOf_0 10 rfl rfl)
theorem dX6_slotOf_13 : decode cX6_slotOf 13 = .ok (.aload_n 0, 1) := dk_42 (dk_at dksX6_slotOf_0 13 rfl rfl)
theorem dX6_slotOf_14 : decode cX6_slotOf 14 = .ok (.getfield 35, 3) := dk_180 0 35 (dk_at dksX6_slotOf_0 14 rfl rfl)
theorem dX6_slotOf_17 : decode cX6_slotOf 17 = .ok (.iload_n 3, 1) := dk_29 (dk_at dksX6_slotOf_0 17 rfl rfl)
theorem dX6_slotOf_18 : decode cX6_slotOf 18 = .ok (.iaload, 1) := dk_46 (dk_at dksX6_slotOf_0 18 rfl rfl)
theorem dX6_slotOf_19 : decode cX6_slotOf 19 = .ok (.iload_n 1, 1) := dk_27 (dk_at dksX6_slotOf_0 19 rfl rfl)
theorem dX6_slotOf_20 : decode cX6_slotOf 20 = .ok (.if_icmp .ne 7, 3) := dk_160 0 7 (dk_at dksX6_slotOf_0 20 rfl rfl)
theorem dX6_slotOf_23 : decode cX6_slotOf 23 = .ok (.iload_n 3, 1) := dk_29 (dk_at dksX6_slotOf_0 23 rfl rfl)
theorem dX6_slotOf_24 : decode cX6_slotOf 24 = .ok (.goto 4, 3) := dk_167 0 4 (dk_at dksX6_slotOf_1 0 rfl rfl)
theorem dX6_slotOf_27 : decode cX6_slotOf 27 = .ok (.iload_n 2, 1) := dk_28 (dk_at dksX6_slotOf_1 3 rfl rfl)
theorem dX6_slotOf_28 : decode cX6_slotOf 28 = .ok (.istore_n 2, 1) := dk_61 (dk_at dksX6_slotOf_1 4 rfl rfl)
theorem dX6_slotOf_29 : decode cX6_slotOf 29 = .ok (.iinc 3 1, 3) := dk_132 3 1 (dk_at dksX6_slotOf_1 5 rfl rfl)
theorem dX6_slotOf_32 : decode cX6_slotOf 32 = .ok (.goto (-28), 3) := dk_167 255 228 (dk_at dksX6_slotOf_1 8 rfl rfl)
theorem dX6_slotOf_35 : decode cX6_slotOf 35 = .ok (.iload_n 2, 1) := dk_28 (dk_at dksX6_slotOf_1 11 rfl rfl)
theorem dX6_slotOf_36 : decode cX6_slotOf 36 = .ok (.ireturn, 1) := dk_172 (dk_at dksX6_slotOf_1 12 rfl rfl)
abbrev cX6_close : ByteArray := prog_8_method_39_code
def yX6_close : MethodName := ⟨RX6, "close", "(I)I"⟩
def dkwX6_close_1 : List UInt8 := [180, 0, 41, 27, 46, 159, 0, 6, 16, 101, 172, 42, 27, 182, 1, 27, 3, 172]
abbrev dktX6_close_1 : List UInt8 := dkwX6_close_1 ++ []
def dkwX6_close_0 : List UInt8 := [42, 180, 0, 53, 27, 4, 84, 42, 180, 0, 44, 27, 46, 2, 159, 0, 21, 42, 180, 0, 44, 27, 46, 42]
abbrev dktX6_close_0 : List UInt8 := dkwX6_close_0 ++ dktX6_close_1
theorem dksX6_close_0 : cX6_close.data.toList.drop 0 = dktX6_close_0 := by decide +kernel
theorem dksX6_close_1 : cX6_close.data.toList.drop 24 = dktX6_close_1 := dk_seg dksX6_close_0 24 rfl rfl
theorem dX6_close_0 : decode cX6_close 0 = .ok (.aload_n 0, 1) := dk_42 (dk_at dksX6_close_0 0 rfl rfl)
theorem dX6_close_1 : decode cX6_close 1 = .ok (.getfield 53, 3) := dk_180 0 53 (dk_at dksX6_close_0 1 rfl rfl)
theorem dX6_close_4 : decode cX6_close 4 = .ok (.iload_n 1, 1) := dk_27 (dk_at dksX6_close_0 4 rfl rfl)
theorem dX6_close_5 : decode cX6_close 5 = .ok (.iconst 1, 1) := dk_4 (dk_at dksX6_close_0 5 rfl rfl)
theorem dX6_close_6 : decode cX6_close 6 = .ok (.bastore, 1) := dk_84 (dk_at dksX6_close_0 6 rfl rfl)
theorem dX6_close_7 : decode cX6_close 7 = .ok (.aload_n 0, 1) := dk_42 (dk_at dksX6_close_0 7 rfl rfl)
theorem dX6_close_8 : decode cX6_close 8 = .ok (.getfield 44, 3) := dk_180 0 44 (dk_at dksX6_close_0 8 rfl rfl)
theorem dX6_close_11 : decode cX6_close 11 = .ok (.iload_n 1, 1) := dk_27 (dk_at dksX6_close_0 11 rfl rfl)
theorem dX6_close_12 : decode cX6_close 12 = .ok (.iaload, 1) := dk_46 (dk_at dksX6_close_0 12 rfl rfl)
theorem dX6_close_13 : decode cX6_close 13 = .ok (.iconst (-1), 1) := dk_2 (dk_at dksX6_close_0 13 rfl rfl)
theorem dX6_close_14 : decode cX6_close 14 = .ok (.if_icmp .eq 21, 3) := dk_159 0 21 (dk_at dksX6_close_0 14 rfl rfl)
theorem dX6_close_17 : decode cX6_close 17 = .ok (.aload_n 0, 1) := dk_42 (dk_at dksX6_close_0 17 rfl rfl)
theorem dX6_close_18 : decode cX6_close 18 = .ok (.getfield 44, 3) := dk_180 0 44 (dk_at dksX6_close_0 18 rfl rfl)
theorem dX6_close_21 : decode cX6_close 21 = .ok (.iload_n 1, 1) := dk_27 (dk_at dksX6_close_0 21 rfl rfl)
theorem dX6_close_22 : decode cX6_close 22 = .ok (.iaload, 1) := dk_46 (dk_at dksX6_close_0 22 rfl rfl)
theorem dX6_close_23 : decode cX6_close 23 = .ok (.aload_n 0, 1) := dk_42 (dk_at dksX6_close_0 23 rfl rfl)
theorem dX6_close_24 : decode cX6_close 24 = .ok (.getfield 41, 3) := dk_180 0 41 (dk_at dksX6_close_1 0 rfl rfl)
theorem dX6_close_27 : decode cX6_close 27 = .ok (.iload_n 1, 1) := dk_27 (dk_at dksX6_close_1 3 rfl rfl)
theorem dX6_close_28 : decode cX6_close 28 = .ok (.iaload, 1) := dk_46 (dk_at dksX6_close_1 4 rfl rfl)
theorem dX6_close_29 : decode cX6_close 29 = .ok (.if_icmp .eq 6, 3) := dk_159 0 6 (dk_at dksX6_close_1 5 rfl rfl)
theorem dX6_close_32 : decode cX6_close 32 = .ok (.bipush 101, 2) := dk_16 101 (dk_at dksX6_close_1 8 rfl rfl)
theorem dX6_close_34 : decode cX6_close 34 = .ok (.ireturn, 1) := dk_172 (dk_at dksX6_close_1 10 rfl rfl)
theorem dX6_close_35 : decode cX6_close 35 = .ok (.aload_n 0, 1) := dk_42 (dk_at dksX6_close_1 11 rfl rfl)
theorem dX6_close_36 : decode cX6_close 36 = .ok (.iload_n 1, 1) := dk_27 (dk_at dksX6_close_1 12 rfl rfl)
theorem dX6_close_37 : decode cX6_close 37 = .ok (.invokevirtual 283, 3) := dk_182 1 27 (dk_at dksX6_close_1 13 rfl rfl)
theorem dX6_close_40 : decode cX6_close 40 = .ok (.iconst 0, 1) := dk_3 (dk_at dksX6_close_1 16 rfl rfl)
theorem dX6_close_41 : decode cX6_close 41 = .ok (.ireturn, 1) := dk_172 (dk_at dksX6_close_1 17 rfl rfl)
abbrev cX6_answer : ByteArray := prog_8_method_40_code
def yX6_answer : MethodName := ⟨RX6, "answer", "(I)V"⟩
def dkwX6_answer_8 : List UInt8 := [79, 177]
abbrev dktX6_answer_8 : List UInt8 := dkwX6_answer_8 ++ []
def dkwX6_answer_7 : List UInt8 := [154, 0, 7, 3, 167, 0, 9, 42, 180, 0, 20, 28, 46, 79, 29, 154, 0, 10, 42, 180, 0, 35, 27, 3]
abbrev dktX6_answer_7 : List UInt8 := dkwX6_answer_7 ++ dktX6_answer_8
def dkwX6_answer_6 : List UInt8 := [16, 48, 182, 0, 136, 42, 16, 53, 182, 0, 136, 42, 180, 0, 47, 27, 29, 79, 42, 180, 0, 50, 27, 29]
abbrev dktX6_answer_6 : List UInt8 := dkwX6_answer_6 ++ dktX6_answer_7
def dkwX6_answer_5 : List UInt8 := [182, 0, 136, 167, 0, 32, 42, 16, 6, 182, 0, 136, 42, 6, 182, 0, 136, 42, 16, 52, 182, 0, 136, 42]
abbrev dktX6_answer_5 : List UInt8 := dkwX6_answer_5 ++ dktX6_answer_6
def dkwX6_answer_4 : List UInt8 := [180, 0, 57, 27, 46, 5, 162, 0, 24, 42, 28, 2, 160, 0, 9, 17, 0, 135, 167, 0, 6, 17, 0, 134]
abbrev dktX6_answer_4 : List UInt8 := dkwX6_answer_4 ++ dktX6_answer_5
def dkwX6_answer_3 : List UInt8 := [167, 0, 4, 8, 4, 29, 154, 0, 7, 8, 167, 0, 4, 7, 42, 180, 0, 35, 27, 46, 182, 0, 132, 42]
abbrev dktX6_answer_3 : List UInt8 := dkwX6_answer_3 ++ dktX6_answer_4
def dkwX6_answer_2 : List UInt8 := [180, 0, 17, 28, 46, 167, 0, 4, 3, 62, 42, 42, 180, 0, 57, 27, 46, 5, 162, 0, 7, 4]
abbrev dktX6_answer_2 : List UInt8 := dkwX6_answer_2 ++ dktX6_answer_3
def dkwX6_answer_1 : List UInt8 := [46, 182, 0, 169, 167, 0, 4, 2, 61, 42, 180, 0, 57, 27, 46, 154, 0, 17, 28, 2, 159, 0, 12, 42]
abbrev dktX6_answer_1 : List UInt8 := dkwX6_answer_1 ++ dktX6_answer_2
def dkwX6_answer_0 : List UInt8 := [42, 180, 0, 57, 27, 46, 5, 162, 0, 24, 42, 42, 180, 0, 63, 16, 20, 27, 104, 42, 180, 0, 60, 27]
abbrev dktX6_answer_0 : List UInt8 := dkwX6_answer_0 ++ dktX6_answer_1
theorem dksX6_answer_0 : cX6_answer.data.toList.drop 0 = dktX6_answer_0 := by decide +kernel
theorem dksX6_answer_1 : cX6_answer.data.toList.drop 24 = dktX6_answer_1 := dk_seg dksX6_answer_0 24 rfl rfl
theorem dksX6_answer_2 : cX6_answer.data.toList.drop 48 = dktX6_answer_2 := dk_seg dksX6_answer_1 24 rfl rfl
theorem dksX6_answer_3 : cX6_answer.data.toList.drop 70 = dktX6_answer_3 := dk_seg dksX6_answer_2 22 rfl rfl
theorem dksX6_answer_4 : cX6_answer.data.toList.drop 94 = dktX6_answer_4 := dk_seg dksX6_answer_3 24 rfl rfl
theorem dksX6_answer_5 : cX6_answer.data.toList.drop 118 = dktX6_answer_5 := dk_seg dksX6_answer_4 24 rfl rfl
theorem dksX6_answer_6 : cX6_answer.data.toList.drop 142 = dktX6_answer_6 := dk_seg dksX6_answer_5 24 rfl rfl
theorem dksX6_answer_7 : cX6_answer.data.toList.drop 166 = dktX6_answer_7 := dk_seg dksX6_answer_6 24 rfl rfl
theorem dksX6_answer_8 : cX6_answer.data.toList.drop 190 = dktX6_answer_8 := dk_seg dksX6_answer_7 24 rfl rfl
theorem dX6_answer_0 : decode cX6_answer 0 = .ok (.aload_n 0, 1) := dk_42 (dk_at dksX6_answer_0 0 rfl rfl)
theorem dX6_answer_1 : decode cX6_answer 1 = .ok (.getfield 57, 3) := dk_180 0 57 (dk_at dksX6_answer_0 1 rfl rfl)
theorem dX6_answer_4 : decode cX6_answer 4 = .ok (.iload_n 1, 1) := dk_27 (dk_at dksX6_answer_0 4 rfl rfl)
theorem dX6_answer_5 : decode cX6_answer 5 = .ok (.iaload, 1) := dk_46 (dk_at dksX6_answer_0 5 rfl rfl)
theorem dX6_answer_6 : decode cX6_answer 6 = .ok (.iconst 2, 1) := dk_5 (dk_at dksX6_answer_0 6 rfl rfl)
theorem dX6_answer_7 : decode cX6_answer 7 = .ok (.if_icmp .ge 24, 3) := dk_162 0 24 (dk_at dksX6_answer_0 7 rfl rfl)
theorem dX6_answer_10 : decode cX6_answer 10 = .ok (.aload_n 0, 1) := dk_42 (dk_at dksX6_answer_0 10 rfl rfl)
theorem dX6_answer_11 : decode cX6_answer 11 = .ok (.aload_n 0, 1) := dk_42 (dk_at dksX6_answer_0 11 rfl rfl)
theorem dX6_answer_12 : decode cX6_answer 12 = .ok (.getfield 63, 3) := dk_180 0 63 (dk_at dksX6_answer_0 12 rfl rfl)
theorem dX6_answer_15 : decode cX6_answer 15 = .ok (.bipush 20, 2) := dk_16 20 (dk_at dksX6_answer_0 15 rfl rfl)
theorem dX6_answer_17 : decode cX6_answer 17 = .ok (.iload_n 1, 1) := dk_27 (dk_at dksX6_answer_0 17 rfl rfl)
theorem dX6_answer_18 : decode cX6_answer 18 = .ok (.imul, 1) := dk_104 (dk_at dksX6_answer_0 18 rfl rfl)
theorem dX6_answer_19 : decode cX6_answer 19 = .ok (.aload_n 0, 1) := dk_42 (dk_at dksX6_answer_0 19 rfl rfl)
theorem dX6_answer_20 : decode cX6_answer 20 = .ok (.getfield 60, 3) := dk_180 0 60 (dk_at dksX6_answer_0 20 rfl rfl)
theorem dX6_answer_23 : decode cX6_answer 23 = .ok (.iload_n 1, 1) := dk_27 (dk_at dksX6_answer_0 23 rfl rfl)
theorem dX6_answer_24 : decode cX6_answer 24 = .ok (.iaload, 1) := dk_46 (dk_at dksX6_answer_1 0 rfl rfl)
theorem dX6_answer_25 : decode cX6_answer 25 = .ok (.invokevirtual 169, 3) := dk_182 0 169 (dk_at dksX6_answer_1 1 rfl rfl)
theorem dX6_answer_28 : decode cX6_answer 28 = .ok (.goto 4, 3) := dk_167 0 4 (dk_at dksX6_answer_1 4 rfl rfl)
theorem dX6_answer_31 : decode cX6_answer 31 = .ok (.iconst (-1), 1) := dk_2 (dk_at dksX6_answer_1 7 rfl rfl)
theorem dX6_answer_32 : decode cX6_answer 32 = .ok (.istore_n 2, 1) := dk_61 (dk_at dksX6_answer_1 8 rfl rfl)
theorem dX6_answer_33 : decode cX6_answer 33 = .ok (.aload_n 0, 1) := dk_42 (dk_at dksX6_answer_1 9 rfl rfl)
theorem dX6_answer_34 : decode cX6_answer 34 = .ok (.getfield 57, 3) := dk_180 0 57 (dk_at dksX6_answer_1 10 rfl rfl)
theorem dX6_answer_37 : decode cX6_answer 37 = .ok (.iload_n 1, 1) := dk_27 (dk_at dksX6_answer_1 13 rfl rfl)
theorem dX6_answer_38 : decode cX6_answer 38 = .ok (.iaload, 1) := dk_46 (dk_at dksX6_answer_1 14 rfl rfl)
theorem dX6_answer_39 : decode cX6_answer 39 = .ok (.ifCond .ne 17, 3) := dk_154 0 17 (dk_at dksX6_answer_1 15 rfl rfl)
theorem dX6_answer_42 : decode cX6_answer 42 = .ok (.iload_n 2, 1) := dk_28 (dk_at dksX6_answer_1 18 rfl rfl)
theorem dX6_answer_43 : decode cX6_answer 43 = .ok (.iconst (-1), 1) := dk_2 (dk_at dksX6_answer_1 19 rfl rfl)
theorem dX6_answer_44 : decode cX6_answer 44 = .ok (.if_icmp .eq 12, 3) := dk_159 0 12 (dk_at dksX6_answer_1 20 rfl rfl)
theorem dX6_answer_47 : decode cX6_answer 47 = .ok (.aload_n 0, 1) := dk_42 (dk_at dksX6_answer_1 23 rfl rfl)
theorem dX6_answer_48 : decode cX6_answer 48 = .ok (.getfield 17, 3) := dk_180 0 17 (dk_at dksX6_answer_2 0 rfl rfl)
theorem dX6_answer_51 : decode cX6_answer 51 = .ok (.iload_n 2, 1) := dk_28 (dk_at dksX6_answer_2 3 rfl rfl)
theorem dX6_answer_52 : decode cX6_answer 52 = .ok (.iaload, 1) := dk_46 (dk_at dksX6_answer_2 4 rfl rfl)
theorem dX6_answer_53 : decode cX6_answer 53 = .ok (.goto 4, 3) := dk_167 0 4 (dk_at dksX6_answer_2 5 rfl rfl)
theorem dX6_answer_56 : decode cX6_answer 56 = .ok (.iconst 0, 1) := dk_3 (dk_at dksX6_answer_2 8 rfl rfl)
theorem dX6_answer_57 : decode cX6_answer 57 = .ok (.istore_n 3, 1) := dk_62 (dk_at dksX6_answer_2 9 rfl rfl)
theorem dX6_answer_58 : decode cX6_answer 58 = .ok (.aload_n 0, 1) := dk_42 (dk_at dksX6_answer_2 10 rfl rfl)
theorem dX6_answer_59 : decode cX6_answer 59 = .ok (.aload_n 0, 1) := dk_42 (dk_at dksX6_answer_2 11 rfl rfl)
theorem dX6_answer_60 : decode cX6_answer 60 = .ok (.getfield 57, 3) := dk_180 0 57 (dk_at dksX6_answer_2 12 rfl rfl)
theorem dX6_answer_63 : decode cX6_answer 63 = .ok (.iload_n 1, 1) := dk_27 (dk_at dksX6_answer_2 15 rfl rfl)
theorem dX6_answer_64 : decode cX6_answer 64 = .ok (.iaload, 1) := dk_46 (dk_at dksX6_answer_2 16 rfl rfl)
theorem dX6_answer_65 : decode cX6_answer 65 = .ok (.iconst 2, 1) := dk_5 (dk_at dksX6_answer_2 17 rfl rfl)
theorem dX6_answer_66 : decode cX6_answer 66 = .ok (.if_icmp .ge 7, 3) := dk_162 0 7 (dk_at dksX6_answer_2 18 rfl rfl)
theorem dX6_answer_69 : decode cX6_answer 69 = .ok (.iconst 1, 1) := dk_4 (dk_at dksX6_answer_2 21 rfl rfl)
theorem dX6_answer_70 : decode cX6_answer 70 = .ok (.goto 4, 3) := dk_167 0 4 (dk_at dksX6_answer_3 0 rfl rfl)
theorem dX6_answer_73 : decode cX6_answer 73 = .ok (.iconst 5, 1) := dk_8 (dk_at dksX6_answer_3 3 rfl rfl)
theorem dX6_answer_74 : decode cX6_answer 74 = .ok (.iconst 1, 1) := dk_4 (dk_at dksX6_answer_3 4 rfl rfl)
theorem dX6_answer_75 : decode cX6_answer 75 = .ok (.iload_n 3, 1) := dk_29 (dk_at dksX6_answer_3 5 rfl rfl)
theorem dX6_answer_76 : decode cX6_answer 76 = .ok (.ifCond .ne 7, 3) := dk_154 0 7 (dk_at dksX6_answer_3 6 rfl rfl)
theorem dX6_answer_79 : decode cX6_answer 79 = .ok (.iconst 5, 1) := dk_8 (dk_at dksX6_answer_3 9 rfl rfl)
theorem dX6_answer_80 : decode cX6_answer 80 = .ok (.goto 4, 3) := dk_167 0 4 (dk_at dksX6_answer_3 10 rfl rfl)
theorem dX6_answer_83 : decode cX6_answer 83 = .ok (.iconst 4, 1) := dk_7 (dk_at dksX6_answer_3 13 rfl rfl)
theorem dX6_answer_84 : decode cX6_answer 84 = .ok (.aload_n 0, 1) := dk_42 (dk_at dksX6_answer_3 14 rfl rfl)
theorem dX6_answer_85 : decode cX6_answer 85 = .ok (.getfield 35, 3) := dk_180 0 35 (dk_at dksX6_answer_3 15 rfl rfl)
theorem dX6_answer_88 : decode cX6_answer 88 = .ok (.iload_n 1, 1) := dk_27 (dk_at dksX6_answer_3 18 rfl rfl)
theorem dX6_answer_89 : decode cX6_answer 89 = .ok (.iaload, 1) := dk_46 (dk_at dksX6_answer_3 19 rfl rfl)
theorem dX6_answer_90 : decode cX6_answer 90 = .ok (.invokevirtual 132, 3) := dk_182 0 132 (dk_at dksX6_answer_3 20 rfl rfl)
theorem dX6_answer_93 : decode cX6_answer 93 = .ok (.aload_n 0, 1) := dk_42 (dk_at dksX6_answer_3 23 rfl rfl)
theorem dX6_answer_94 : decode cX6_answer 94 = .ok (.getfield 57, 3) := dk_180 0 57 (dk_at dksX6_answer_4 0 rfl rfl)
theorem dX6_answer_97 : decode cX6_answer 97 = .ok (.iload_n 1, 1) := dk_27 (dk_at dksX6_answer_4 3 rfl rfl)
theorem dX6_answer_98 : decode cX6_answer 98 = .ok (.iaload, 1) := dk_46 (dk_at dksX6_answer_4 4 rfl rfl)
theorem dX6_answer_99 : decode cX6_answer 99 = .ok (.iconst 2, 1) := dk_5 (dk_at dksX6_answer_4 5 rfl rfl)
theorem dX6_answer_100 : decode cX6_answer 100 = .ok (.if_icmp .ge 24, 3) := dk_162 0 24 (dk_at dksX6_answer_4 6 rfl rfl)
theorem dX6_answer_103 : decode cX6_answer 103 = .ok (.aload_n 0, 1) := dk_42 (dk_at dksX6_answer_4 9 rfl rfl)
theorem dX6_answer_104 : decode cX6_answer 104 = .ok (.iload_n 2, 1) := dk_28 (dk_at dksX6_answer_4 10 rfl rfl)
theorem dX6_answer_105 : decode cX6_answer 105 = .ok (.iconst (-1), 1) := dk_2 (dk_at dksX6_answer_4 11 rfl rfl)
theorem dX6_answer_106 : decode cX6_answer 106 = .ok (.if_icmp .ne 9, 3) := dk_160 0 9 (dk_at dksX6_answer_4 12 rfl rfl)
theorem dX6_answer_109 : decode cX6_answer 109 = .ok (.sipush 135, 3) := dk_17 0 135 (dk_at dksX6_answer_4 15 rfl rfl)
theorem dX6_answer_112 : decode cX6_answer 112 = .ok (.goto 6, 3) := dk_167 0 6 (dk_at dksX6_answer_4 18 rfl rfl)
theorem dX6_answer_115 : decode cX6_answer 115 = .ok (.sipush 134, 3) := dk_17 0 134 (dk_at dksX6_answer_4 21 rfl rfl)
theorem dX6_answer_118 : decode cX6_answer 118 = .ok (.invokevirtual 136, 3) := dk_182 0 136 (dk_at dksX6_answer_5 0 rfl rfl)
theorem dX6_answer_121 : decode cX6_answer 121 = .ok (.goto 32, 3) := dk_167 0 32 (dk_at dksX6_answer_5 3 rfl rfl)
theorem dX6_answer_124 : decode cX6_answer 124 = .ok (.aload_n 0, 1) := dk_42 (dk_at dksX6_answer_5 6 rfl rfl)
theorem dX6_answer_125 : decode cX6_answer 125 = .ok (.bipush 6, 2) := dk_16 6 (dk_at dksX6_answer_5 7 rfl rfl)
theorem dX6_answer_127 : decode cX6_answer 127 = .ok (.invokevirtual 136, 3) := dk_182 0 136 (dk_at dksX6_answer_5 9 rfl rfl)
theorem dX6_answer_130 : decode cX6_answer 130 = .ok (.aload_n 0, 1) := dk_42 (dk_at dksX6_answer_5 12 rfl rfl)
theorem dX6_answer_131 : decode cX6_answer 131 = .ok (.iconst 3, 1) := dk_6 (dk_at dksX6_answer_5 13 rfl rfl)
theorem dX6_answer_132 : decode cX6_answer 132 = .ok (.invokevirtual 136, 3) := dk_182 0 136 (dk_at dksX6_answer_5 14 rfl rfl)
theorem dX6_answer_135 : decode cX6_answer 135 = .ok (.aload_n 0, 1) := dk_42 (dk_at dksX6_answer_5 17 rfl rfl)
theorem dX6_answer_136 : decode cX6_answer 136 = .ok (.bipush 52, 2) := dk_16 52 (dk_at dksX6_answer_5 18 rfl rfl)
theorem dX6_answer_138 : decode cX6_answer 138 = .ok (.invokevirtual 136, 3) := dk_182 0 136 (dk_at dksX6_answer_5 20 rfl rfl)
theorem dX6_answer_141 : decode cX6_answer 141 = .ok (.aload_n 0, 1) := dk_42 (dk_at dksX6_answer_5 23 rfl rfl)
theorem dX6_answer_142 : decode cX6_answer 142 = .ok (.bipush 48, 2) := dk_16 48 (dk_at dksX6_answer_6 0 rfl rfl)
theorem dX6_answer_144 : decode cX6_answer 144 = .ok (.invokevirtual 136, 3) := dk_182 0 136 (dk_at dksX6_answer_6 2 rfl rfl)
theorem dX6_answer_147 : decode cX6_answer 147 = .ok (.aload_n 0, 1) := dk_42 (dk_at dksX6_answer_6 5 rfl rfl)
theorem dX6_answer_148 : decode cX6_answer 148 = .ok (.bipush 53, 2) := dk_16 53 (dk_at dksX6_answer_6 6 rfl rfl)
theorem dX6_answer_150 : decode cX6_answer 150 = .ok (.invokevirtual 136, 3) := dk_182 0 136 (dk_at dksX6_answer_6 8 rfl rfl)
theorem dX6_answer_153 : decode cX6_answer 153 = .ok (.aload_n 0, 1) := dk_42 (dk_at dksX6_answer_6 11 rfl rfl)
theorem dX6_answer_154 : decode cX6_answer 154 = .ok (.getfield 47, 3) := dk_180 0 47 (dk_at dksX6_answer_6 12 rfl rfl)
theorem dX6_answer_157 : decode cX6_answer 157 = .ok (.iload_n 1, 1) := dk_27 (dk_at dksX6_answer_6 15 rfl rfl)
theorem dX6_answer_158 : decode cX6_answer 158 = .ok (.iload_n 3, 1) := dk_29 (dk_at dksX6_answer_6 16 rfl rfl)
theorem dX6_answer_159 : decode cX6_answer 159 = .ok (.iastore, 1) := dk_79 (dk_at dksX6_answer_6 17 rfl rfl)
theorem dX6_answer_160 : decode cX6_answer 160 = .ok (.aload_n 0, 1) := dk_42 (dk_at dksX6_answer_6 18 rfl rfl)
theorem dX6_answer_161 : decode cX6_answer 161 = .ok (.getfield 50, 3) := dk_180 0 50 (dk_at dksX6_answer_6 19 rfl rfl)
theorem dX6_answer_164 : decode cX6_answer 164 = .ok (.iload_n 1, 1) := dk_27 (dk_at dksX6_answer_6 22 rfl rfl)
theorem dX6_answer_165 : decode cX6_answer 165 = .ok (.iload_n 3, 1) := dk_29 (dk_at dksX6_answer_6 23 rfl rfl)
theorem dX6_answer_166 : decode cX6_answer 166 = .ok (.ifCond .ne 7, 3) := dk_154 0 7 (dk_at dksX6_answer_7 0 rfl rfl)
theorem dX6_answer_169 : decode cX6_answer 169 = .ok (.iconst 0, 1) := dk_3 (dk_at dksX6_answer_7 3 rfl rfl)
theorem dX6_answer_170 : decode cX6_answer 170 = .ok (.goto 9, 3) := dk_167 0 9 (dk_at dksX6_answer_7 4 rfl rfl)
theorem dX6_answer_173 : decode cX6_answer 173 = .ok (.aload_n 0, 1) := dk_42 (dk_at dksX6_answer_7 7 rfl rfl)
theorem dX6_answer_174 : decode cX6_answer 174 = .ok (.getfield 20, 3) := dk_180 0 20 (dk_at dksX6_answer_7 8 rfl rfl)
theorem dX6_answer_177 : decode cX6_answer 177 = .ok (.iload_n 2, 1) := dk_28 (dk_at dksX6_answer_7 11 rfl rfl)
theorem dX6_answer_178 : decode cX6_answer 178 = .ok (.iaload, 1) := dk_46 (dk_at dksX6_answer_7 12 rfl rfl)
theorem dX6_answer_179 : decode cX6_answer 179 = .ok (.iastore, 1) := dk_79 (dk_at dksX6_answer_7 13 rfl rfl)
theorem dX6_answer_180 : decode cX6_answer 180 = .ok (.iload_n 3, 1) := dk_29 (dk_at dksX6_answer_7 14 rfl rfl)
theorem dX6_answer_181 : decode cX6_answer 181 = .ok (.ifCond .ne 10, 3) := dk_154 0 10 (dk_at dksX6_answer_7 15 rfl rfl)
theorem dX6_answer_184 : decode cX6_answer 184 = .ok (.aload_n 0, 1) := dk_42 (dk_at dksX6_answer_7 18 rfl rfl)
theorem dX6_answer_185 : decode cX6_answer 185 = .ok (.getfield 35, 3) := dk_180 0 35 (dk_at dksX6_answer_7 19 rfl rfl)
theorem dX6_answer_188 : decode cX6_answer 188 = .ok (.iload_n 1, 1) := dk_27 (dk_at dksX6_answer_7 22 rfl rfl)
theorem dX6_answer_189 : decode cX6_answer 189 = .ok (.iconst 0, 1) := dk_3 (dk_at dksX6_answer_7 23 rfl rfl)
theorem dX6_answer_190 : decode cX6_answer 190 = .ok (.iastore, 1) := dk_79 (dk_at dksX6_answer_8 0 rfl rfl)
theorem dX6_answer_191 : decode cX6_answer 191 = .ok (.return_, 1) := dk_177 (dk_at dksX6_answer_8 1 rfl rfl)
abbrev cX6_headers : ByteArray := prog_8_method_41_code
def yX6_headers : MethodName := ⟨RX6, "headers", "()I"⟩
def dkwX6_headers_3 : List UInt8 := [182, 1, 0, 181, 1, 30, 42, 182, 1, 33, 172]
abbrev dktX6_headers_3 : List UInt8 := dkwX6_headers_3 ++ []
def dkwX6_headers_2 : List UInt8 := [27, 51, 153, 0, 5, 8, 172, 42, 3, 181, 0, 108, 42, 42, 180, 1, 12, 181, 0, 105, 42, 42, 4]
abbrev dktX6_headers_2 : List UInt8 := dkwX6_headers_2 ++ dktX6_headers_3
def dkwX6_headers_1 : List UInt8 := [182, 0, 173, 60, 42, 180, 1, 12, 42, 180, 0, 111, 163, 0, 19, 27, 2, 159, 0, 12, 42, 180, 0, 53]
abbrev dktX6_headers_1 : List UInt8 := dkwX6_headers_1 ++ dktX6_headers_2
def dkwX6_headers_0 : List UInt8 := [42, 180, 1, 12, 5, 112, 153, 0, 10, 42, 182, 1, 18, 154, 0, 5, 4, 172, 42, 42, 180, 1, 12]
abbrev dktX6_headers_0 : List UInt8 := dkwX6_headers_0 ++ dktX6_headers_1
theorem dksX6_headers_0 : cX6_headers.data.toList.drop 0 = dktX6_headers_0 := by decide +kernel
theorem dksX6_headers_1 : cX6_headers.data.toList.drop 23 = dktX6_headers_1 := dk_seg dksX6_headers_0 23 rfl rfl
theorem dksX6_headers_2 : cX6_headers.data.toList.drop 47 = dktX6_headers_2 := dk_seg dksX6_headers_1 24 rfl rfl
theorem dksX6_headers_3 : cX6_headers.data.toList.drop 70 = dktX6_headers_3 := dk_seg dksX6_headers_2 23 rfl rfl
theorem dX6_headers_0 : decode cX6_headers 0 = .ok (.aload_n 0, 1) := dk_42 (dk_at dksX6_headers_0 0 rfl rfl)
theorem dX6_headers_1 : decode cX6_headers 1 = .ok (.getfield 268, 3) := dk_180 1 12 (dk_at dksX6_headers_0 1 rfl rfl)
theorem dX6_headers_4 : decode cX6_headers 4 = .ok (.iconst 2, 1) := dk_5 (dk_at dksX6_headers_0 4 rfl rfl)
theorem dX6_headers_5 : decode cX6_headers 5 = .ok (.irem, 1) := dk_112 (dk_at dksX6_headers_0 5 rfl rfl)
theorem dX6_headers_6 : decode cX6_headers 6 = .ok (.ifCond .eq 10, 3) := dk_153 0 10 (dk_at dksX6_headers_0 6 rfl rfl)
theorem dX6_headers_9 : decode cX6_headers 9 = .ok (.aload_n 0, 1) := dk_42 (dk_at dksX6_headers_0 9 rfl rfl)
theorem dX6_headers_10 : decode cX6_headers 10 = .ok (.invokevirtual 274, 3) := dk_182 1 18 (dk_at dksX6_headers_0 10 rfl rfl)
theorem dX6_headers_13 : decode cX6_headers 13 = .ok (.ifCond .ne 5, 3) := dk_154 0 5 (dk_at dksX6_headers_0 13 rfl rfl)
theorem dX6_headers_16 : decode cX6_headers 16 = .ok (.iconst 1, 1) := dk_4 (dk_at dksX6_headers_0 16 rfl rfl)
theorem dX6_headers_17 : decode cX6_headers 17 = .ok (.ireturn, 1) := dk_172 (dk_at dksX6_headers_0 17 rfl rfl)
theorem dX6_headers_18 : decode cX6_headers 18 = .ok (.aload_n 0, 1) := dk_42 (dk_at dksX6_headers_0 18 rfl rfl)
theorem dX6_headers_19 : decode cX6_headers 19 = .ok (.aload_n 0, 1) := dk_42 (dk_at dksX6_headers_0 19 rfl rfl)
theorem dX6_headers_20 : decode cX6_headers 20 = .ok (.getfield 268, 3) := dk_180 1 12 (dk_at dksX6_headers_0 20 rfl rfl)
theorem dX6_headers_23 : decode cX6_headers 23 = .ok (.invokevirtual 173, 3) := dk_182 0 173 (dk_at dksX6_headers_1 0 rfl rfl)
theorem dX6_headers_26 : decode cX6_headers 26 = .ok (.istore_n 1, 1) := dk_60 (dk_at dksX6_headers_1 3 rfl rfl)
theorem dX6_headers_27 : decode cX6_headers 27 = .ok (.aload_n 0, 1) := dk_42 (dk_at dksX6_headers_1 4 rfl rfl)
theorem dX6_headers_28 : decode cX6_headers 28 = .ok (.getfield 268, 3) := dk_180 1 12 (dk_at dksX6_headers_1 5 rfl rfl)
theorem dX6_headers_31 : decode cX6_headers 31 = .ok (.aload_n 0, 1) := dk_42 (dk_at dksX6_headers_1 8 rfl rfl)
theorem dX6_headers_32 : decode cX6_headers 32 = .ok (.getfield 111, 3) := dk_180 0 111 (dk_at dksX6_headers_1 9 rfl rfl)
theorem dX6_headers_35 : decode cX6_headers 35 = .ok (.if_icmp .gt 19, 3) := dk_163 0 19 (dk_at dksX6_headers_1 12 rfl rfl)
theorem dX6_headers_38 : decode cX6_headers 38 = .ok (.iload_n 1, 1) := dk_27 (dk_at dksX6_headers_1 15 rfl rfl)
theorem dX6_headers_39 : decode cX6_headers 39 = .ok (.iconst (-1), 1) := dk_2 (dk_at dksX6_headers_1 16 rfl rfl)
theorem dX6_headers_40 : decode cX6_headers 40 = .ok (.if_icmp .eq 12, 3) := dk_159 0 12 (dk_at dksX6_headers_1 17 rfl rfl)
theorem dX6_headers_43 : decode cX6_headers 43 = .ok (.aload_n 0, 1) := dk_42 (dk_at dksX6_headers_1 20 rfl rfl)
theorem dX6_headers_44 : decode cX6_headers 44 = .ok (.getfield 53, 3) := dk_180 0 53 (dk_at dksX6_headers_1 21 rfl rfl)
theorem dX6_headers_47 : decode cX6_headers 47 = .ok (.iload_n 1, 1) := dk_27 (dk_at dksX6_headers_2 0 rfl rfl)
theorem dX6_headers_48 : decode cX6_headers 48 = .ok (.baload, 1) := dk_51 (dk_at dksX6_headers_2 1 rfl rfl)
theorem dX6_headers_49 : decode cX6_headers 49 = .ok (.ifCond .eq 5, 3) := dk_153 0 5 (dk_at dksX6_headers_2 2 rfl rfl)
theorem dX6_headers_52 : decode cX6_headers 52 = .ok (.iconst 5, 1) := dk_8 (dk_at dksX6_headers_2 5 rfl rfl)
theorem dX6_headers_53 : decode cX6_headers 53 = .ok (.ireturn, 1) := dk_172 (dk_at dksX6_headers_2 6 rfl rfl)
theorem dX6_headers_54 : decode cX6_headers 54 = .ok (.aload_n 0, 1) := dk_42 (dk_at dksX6_headers_2 7 rfl rfl)
theorem dX6_headers_55 : decode cX6_headers 55 = .ok (.iconst 0, 1) := dk_3 (dk_at dksX6_headers_2 8 rfl rfl)
theorem dX6_headers_56 : decode cX6_headers 56 = .ok (.putfield 108, 3) := dk_181 0 108 (dk_at dksX6_headers_2 9 rfl rfl)
theorem dX6_headers_59 : decode cX6_headers 59 = .ok (.aload_n 0, 1) := dk_42 (dk_at dksX6_headers_2 12 rfl rfl)
theorem dX6_headers_60 : decode cX6_headers 60 = .ok (.aload_n 0, 1) := dk_42 (dk_at dksX6_headers_2 13 rfl rfl)
theorem dX6_headers_61 : decode cX6_headers 61 = .ok (.getfield 268, 3) := dk_180 1 12 (dk_at dksX6_headers_2 14 rfl rfl)
theorem dX6_headers_64 : decode cX6_headers 64 = .ok (.putfield 105, 3) := dk_181 0 105 (dk_at dksX6_headers_2 17 rfl rfl)
theorem dX6_headers_67 : decode cX6_headers 67 = .ok (.aload_n 0, 1) := dk_42 (dk_at dksX6_headers_2 20 rfl rfl)
theorem dX6_headers_68 : decode cX6_headers 68 = .ok (.aload_n 0, 1) := dk_42 (dk_at dksX6_headers_2 21 rfl rfl)
theorem dX6_headers_69 : decode cX6_headers 69 = .ok (.iconst 1, 1) := dk_4 (dk_at dksX6_headers_2 22 rfl rfl)
theorem dX6_headers_70 : decode cX6_headers 70 = .ok (.invokevirtual 256, 3) := dk_182 1 0 (dk_at dksX6_headers_3 0 rfl rfl)
theorem dX6_headers_73 : decode cX6_headers 73 = .ok (.putfield 286, 3) := dk_181 1 30 (dk_at dksX6_headers_3 3 rfl rfl)
theorem dX6_headers_76 : decode cX6_headers 76 = .ok (.aload_n 0, 1) := dk_42 (dk_at dksX6_headers_3 6 rfl rfl)
theorem dX6_headers_77 : decode cX6_headers 77 = .ok (.invokevirtual 289, 3) := dk_182 1 33 (dk_at dksX6_headers_3 7 rfl rfl)
theorem dX6_headers_80 : decode cX6_headers 80 = .ok (.ireturn, 1) := dk_172 (dk_at dksX6_headers_3 10 rfl rfl)
abbrev cX6_more : ByteArray := prog_8_method_42_code
def yX6_more : MethodName := ⟨RX6, "more", "()I"⟩
def dkwX6_more_5 : List UInt8 := [153, 0, 10, 42, 180, 0, 217, 153, 0, 8, 16, 101, 167, 0, 8, 42, 27, 182, 1, 24, 172]
abbrev dktX6_more_5 : List UInt8 := dkwX6_more_5 ++ []
def dkwX6_more_4 : List UInt8 := [42, 180, 1, 12, 182, 0, 173, 60, 27, 2, 160, 0, 8, 42, 182, 1, 39, 172, 42, 180, 1, 30]
abbrev dktX6_more_4 : List UInt8 := dkwX6_more_4 ++ dktX6_more_5
def dkwX6_more_3 : List UInt8 := [182, 1, 0, 154, 0, 5, 3, 172, 42, 2, 181, 0, 105, 42, 182, 1, 36, 154, 0, 6, 16, 9, 172, 42]
abbrev dktX6_more_3 : List UInt8 := dkwX6_more_3 ++ dktX6_more_4
def dkwX6_more_2 : List UInt8 := [7, 27, 96, 46, 79, 42, 89, 180, 0, 108, 4, 96, 181, 0, 108, 132, 1, 1, 167, 255, 218, 42, 7]
abbrev dktX6_more_2 : List UInt8 := dkwX6_more_2 ++ dktX6_more_3
def dkwX6_more_1 : List UInt8 := [180, 1, 6, 60, 27, 42, 180, 1, 9, 162, 0, 36, 42, 180, 0, 69, 42, 180, 0, 108, 42, 180, 0, 66]
abbrev dktX6_more_1 : List UInt8 := dkwX6_more_1 ++ dktX6_more_2
def dkwX6_more_0 : List UInt8 := [42, 180, 0, 108, 42, 180, 1, 9, 96, 42, 180, 1, 6, 100, 16, 100, 164, 0, 6, 16, 9, 172, 42]
abbrev dktX6_more_0 : List UInt8 := dkwX6_more_0 ++ dktX6_more_1
theorem dksX6_more_0 : cX6_more.data.toList.drop 0 = dktX6_more_0 := by decide +kernel
theorem dksX6_more_1 : cX6_more.data.toList.drop 23 = dktX6_more_1 := dk_seg dksX6_more_0 23 rfl rfl
theorem dksX6_more_2 : cX6_more.data.toList.drop 47 = dktX6_more_2 := dk_seg dksX6_more_1 24 rfl rfl
theorem dksX6_more_3 : cX6_more.data.toList.drop 70 = dktX6_more_3 := dk_seg dksX6_more_2 23 rfl rfl
theorem dksX6_more_4 : cX6_more.data.toList.drop 94 = dktX6_more_4 := dk_seg dksX6_more_3 24 rfl rfl
theorem dksX6_more_5 : cX6_more.data.toList.drop 116 = dktX6_more_5 := dk_seg dksX6_more_4 22 rfl rfl
theorem dX6_more_0 : decode cX6_more 0 = .ok (.aload_n 0, 1) := dk_42 (dk_at dksX6_more_0 0 rfl rfl)
theorem dX6_more_1 : decode cX6_more 1 = .ok (.getfield 108, 3) := dk_180 0 108 (dk_at dksX6_more_0 1 rfl rfl)
theorem dX6_more_4 : decode cX6_more 4 = .ok (.aload_n 0, 1) := dk_42 (dk_at dksX6_more_0 4 rfl rfl)
theorem dX6_more_5 : decode cX6_more 5 = .ok (.getfield 265, 3) := dk_180 1 9 (dk_at dksX6_more_0 5 rfl rfl)
theorem dX6_more_8 : decode cX6_more 8 = .ok (.iadd, 1) := dk_96 (dk_at dksX6_more_0 8 rfl rfl)
theorem dX6_more_9 : decode cX6_more 9 = .ok (.aload_n 0, 1) := dk_42 (dk_at dksX6_more_0 9 rfl rfl)
theorem dX6_more_10 : decode cX6_more 10 = .ok (.getfield 262, 3) := dk_180 1 6 (dk_at dksX6_more_0 10 rfl rfl)
theorem dX6_more_13 : decode cX6_more 13 = .ok (.isub, 1) := dk_100 (dk_at dksX6_more_0 13 rfl rfl)
theorem dX6_more_14 : decode cX6_more 14 = .ok (.bipush 100, 2) := dk_16 100 (dk_at dksX6_more_0 14 rfl rfl)
theorem dX6_more_16 : decode cX6_more 16 = .ok (.if_icmp .le 6, 3) := dk_164 0 6 (dk_at dksX6_more_0 16 rfl rfl)
theorem dX6_more_19 : decode cX6_more 19 = .ok (.bipush 9, 2) := dk_16 9 (dk_at dksX6_more_0 19 rfl rfl)
theorem dX6_more_21 : decode cX6_more 21 = .ok (.ireturn, 1) := dk_172 (dk_at dksX6_more_0 21 rfl rfl)
theorem dX6_more_22 : decode cX6_more 22 = .ok (.aload_n 0, 1) := dk_42 (dk_at dksX6_more_0 22 rfl rfl)
theorem dX6_more_23 : decode cX6_more 23 = .ok (.getfield 262, 3) := dk_180 1 6 (dk_at dksX6_more_1 0 rfl rfl)
theorem dX6_more_26 : decode cX6_more 26 = .ok (.istore_n 1, 1) := dk_60 (dk_at dksX6_more_1 3 rfl rfl)
theorem dX6_more_27 : decode cX6_more 27 = .ok (.iload_n 1, 1) := dk_27 (dk_at dksX6_more_1 4 rfl rfl)
theorem dX6_more_28 : decode cX6_more 28 = .ok (.aload_n 0, 1) := dk_42 (dk_at dksX6_more_1 5 rfl rfl)
theorem dX6_more_29 : decode cX6_more 29 = .ok (.getfield 265, 3) := dk_180 1 9 (dk_at dksX6_more_1 6 rfl rfl)
theorem dX6_more_32 : decode cX6_more 32 = .ok (.if_icmp .ge 36, 3) := dk_162 0 36 (dk_at dksX6_more_1 9 rfl rfl)
theorem dX6_more_35 : decode cX6_more 35 = .ok (.aload_n 0, 1) := dk_42 (dk_at dksX6_more_1 12 rfl rfl)
theorem dX6_more_36 : decode cX6_more 36 = .ok (.getfield 69, 3) := dk_180 0 69 (dk_at dksX6_more_1 13 rfl rfl)
theorem dX6_more_39 : decode cX6_more 39 = .ok (.aload_n 0, 1) := dk_42 (dk_at dksX6_more_1 16 rfl rfl)
theorem dX6_more_40 : decode cX6_more 40 = .ok (.getfield 108, 3) := dk_180 0 108 (dk_at dksX6_more_1 17 rfl rfl)
theorem dX6_more_43 : decode cX6_more 43 = .ok (.aload_n 0, 1) := dk_42 (dk_at dksX6_more_1 20 rfl rfl)
theorem dX6_more_44 : decode cX6_more 44 = .ok (.getfield 66, 3) := dk_180 0 66 (dk_at dksX6_more_1 21 rfl rfl)
theorem dX6_more_47 : decode cX6_more 47 = .ok (.iconst 4, 1) := dk_7 (dk_at dksX6_more_2 0 rfl rfl)
theorem dX6_more_48 : decode cX6_more 48 = .ok (.iload_n 1, 1) := dk_27 (dk_at dksX6_more_2 1 rfl rfl)
theorem dX6_more_49 : decode cX6_more 49 = .ok (.iadd, 1) := dk_96 (dk_at dksX6_more_2 2 rfl rfl)
theorem dX6_more_50 : decode cX6_more 50 = .ok (.iaload, 1) := dk_46 (dk_at dksX6_more_2 3 rfl rfl)
theorem dX6_more_51 : decode cX6_more 51 = .ok (.iastore, 1) := dk_79 (dk_at dksX6_more_2 4 rfl rfl)
theorem dX6_more_52 : decode cX6_more 52 = .ok (.aload_n 0, 1) := dk_42 (dk_at dksX6_more_2 5 rfl rfl)
theorem dX6_more_53 : decode cX6_more 53 = .ok (.dup, 1) := dk_89 (dk_at dksX6_more_2 6 rfl rfl)
theorem dX6_more_54 : decode cX6_more 54 = .ok (.getfield 108, 3) := dk_180 0 108 (dk_at dksX6_more_2 7 rfl rfl)
theorem dX6_more_57 : decode cX6_more 57 = .ok (.iconst 1, 1) := dk_4 (dk_at dksX6_more_2 10 rfl rfl)
theorem dX6_more_58 : decode cX6_more 58 = .ok (.iadd, 1) := dk_96 (dk_at dksX6_more_2 11 rfl rfl)
theorem dX6_more_59 : decode cX6_more 59 = .ok (.putfield 108, 3) := dk_181 0 108 (dk_at dksX6_more_2 12 rfl rfl)
theorem dX6_more_62 : decode cX6_more 62 = .ok (.iinc 1 1, 3) := dk_132 1 1 (dk_at dksX6_more_2 15 rfl rfl)
theorem dX6_more_65 : decode cX6_more 65 = .ok (.goto (-38), 3) := dk_167 255 218 (dk_at dksX6_more_2 18 rfl rfl)
theorem dX6_more_68 : decode cX6_more 68 = .ok (.aload_n 0, 1) := dk_42 (dk_at dksX6_more_2 21 rfl rfl)
theorem dX6_more_69 : decode cX6_more 69 = .ok (.iconst 4, 1) := dk_7 (dk_at dksX6_more_2 22 rfl rfl)
theorem dX6_more_70 : decode cX6_more 70 = .ok (.invokevirtual 256, 3) := dk_182 1 0 (dk_at dksX6_more_3 0 rfl rfl)
theorem dX6_more_73 : decode cX6_more 73 = .ok (.ifCond .ne 5, 3) := dk_154 0 5 (dk_at dksX6_more_3 3 rfl rfl)
theorem dX6_more_76 : decode cX6_more 76 = .ok (.iconst 0, 1) := dk_3 (dk_at dksX6_more_3 6 rfl rfl)
theorem dX6_more_77 : decode cX6_more 77 = .ok (.ireturn, 1) := dk_172 (dk_at dksX6_more_3 7 rfl rfl)
theorem dX6_more_78 : decode cX6_more 78 = .ok (.aload_n 0, 1) := dk_42 (dk_at dksX6_more_3 8 rfl rfl)
theorem dX6_more_79 : decode cX6_more 79 = .ok (.iconst (-1), 1) := dk_2 (dk_at dksX6_more_3 9 rfl rfl)
theorem dX6_more_80 : decode cX6_more 80 = .ok (.putfield 105, 3) := dk_181 0 105 (dk_at dksX6_more_3 10 rfl rfl)
theorem dX6_more_83 : decode cX6_more 83 = .ok (.aload_n 0, 1) := dk_42 (dk_at dksX6_more_3 13 rfl rfl)
theorem dX6_more_84 : decode cX6_more 84 = .ok (.invokevirtual 292, 3) := dk_182 1 36 (dk_at dksX6_more_3 14 rfl rfl)
theorem dX6_more_87 : decode cX6_more 87 = .ok (.ifCond .ne 6, 3) := dk_154 0 6 (dk_at dksX6_more_3 17 rfl rfl)
theorem dX6_more_90 : decode cX6_more 90 = .ok (.bipush 9, 2) := dk_16 9 (dk_at dksX6_more_3 20 rfl rfl)
theorem dX6_more_92 : decode cX6_more 92 = .ok (.ireturn, 1) := dk_172 (dk_at dksX6_more_3 22 rfl rfl)
theorem dX6_more_93 : decode cX6_more 93 = .ok (.aload_n 0, 1) := dk_42 (dk_at dksX6_more_3 23 rfl rfl)
theorem dX6_more_94 : decode cX6_more 94 = .ok (.aload_n 0, 1) := dk_42 (dk_at dksX6_more_4 0 rfl rfl)
theorem dX6_more_95 : decode cX6_more 95 = .ok (.getfield 268, 3) := dk_180 1 12 (dk_at dksX6_more_4 1 rfl rfl)
theorem dX6_more_98 : decode cX6_more 98 = .ok (.invokevirtual 173, 3) := dk_182 0 173 (dk_at dksX6_more_4 4 rfl rfl)
theorem dX6_more_101 : decode cX6_more 101 = .ok (.istore_n 1, 1) := dk_60 (dk_at dksX6_more_4 7 rfl rfl)
theorem dX6_more_102 : decode cX6_more 102 = .ok (.iload_n 1, 1) := dk_27 (dk_at dksX6_more_4 8 rfl rfl)
theorem dX6_more_103 : decode cX6_more 103 = .ok (.iconst (-1), 1) := dk_2 (dk_at dksX6_more_4 9 rfl rfl)
theorem dX6_more_104 : decode cX6_more 104 = .ok (.if_icmp .ne 8, 3) := dk_160 0 8 (dk_at dksX6_more_4 10 rfl rfl)
theorem dX6_more_107 : decode cX6_more 107 = .ok (.aload_n 0, 1) := dk_42 (dk_at dksX6_more_4 13 rfl rfl)
theorem dX6_more_108 : decode cX6_more 108 = .ok (.invokevirtual 295, 3) := dk_182 1 39 (dk_at dksX6_more_4 14 rfl rfl)
theorem dX6_more_111 : decode cX6_more 111 = .ok (.ireturn, 1) := dk_172 (dk_at dksX6_more_4 17 rfl rfl)
theorem dX6_more_112 : decode cX6_more 112 = .ok (.aload_n 0, 1) := dk_42 (dk_at dksX6_more_4 18 rfl rfl)
theorem dX6_more_113 : decode cX6_more 113 = .ok (.getfield 286, 3) := dk_180 1 30 (dk_at dksX6_more_4 19 rfl rfl)
theorem dX6_more_116 : decode cX6_more 116 = .ok (.ifCond .eq 10, 3) := dk_153 0 10 (dk_at dksX6_more_5 0 rfl rfl)
theorem dX6_more_119 : decode cX6_more 119 = .ok (.aload_n 0, 1) := dk_42 (dk_at dksX6_more_5 3 rfl rfl)
theorem dX6_more_120 : decode cX6_more 120 = .ok (.getfield 217, 3) := dk_180 0 217 (dk_at dksX6_more_5 4 rfl rfl)
theorem dX6_more_123 : decode cX6_more 123 = .ok (.ifCond .eq 8, 3) := dk_153 0 8 (dk_at dksX6_more_5 7 rfl rfl)
theorem dX6_more_126 : decode cX6_more 126 = .ok (.bipush 101, 2) := dk_16 101 (dk_at dksX6_more_5 10 rfl rfl)
theorem dX6_more_128 : decode cX6_more 128 = .ok (.goto 8, 3) := dk_167 0 8 (dk_at dksX6_more_5 12 rfl rfl)
theorem dX6_more_131 : decode cX6_more 131 = .ok (.aload_n 0, 1) := dk_42 (dk_at dksX6_more_5 15 rfl rfl)
theorem dX6_more_132 : decode cX6_more 132 = .ok (.iload_n 1, 1) := dk_27 (dk_at dksX6_more_5 16 rfl rfl)
theorem dX6_more_133 : decode cX6_more 133 = .ok (.invokevirtual 280, 3) := dk_182 1 24 (dk_at dksX6_more_5 17 rfl rfl)
theorem dX6_more_136 : decode cX6_more 136 = .ok (.ireturn, 1) := dk_172 (dk_at dksX6_more_5 20 rfl rfl)
abbrev cX6_readBlock : ByteArray := prog_8_method_36_code
def yX6_readBlock : MethodName := ⟨RX6, "readBlock", "()Z"⟩
def dkwX6_readBlock_3 : List UInt8 := [182, 0, 253, 167, 255, 230, 42, 180, 0, 192, 172]
abbrev dktX6_readBlock_3 : List UInt8 := dkwX6_readBlock_3 ++ []
def dkwX6_readBlock_2 : List UInt8 := [180, 0, 192, 153, 0, 25, 42, 180, 0, 195, 42, 180, 0, 108, 162, 0, 14, 42, 42, 182, 0, 198]
abbrev dktX6_readBlock_2 : List UInt8 := dkwX6_readBlock_2 ++ dktX6_readBlock_3
def dkwX6_readBlock_1 : List UInt8 := [181, 0, 217, 42, 3, 181, 0, 227, 42, 2, 181, 0, 230, 42, 3, 181, 0, 236, 42, 2, 181, 0, 249, 42]
abbrev dktX6_readBlock_1 : List UInt8 := dkwX6_readBlock_1 ++ dktX6_readBlock_2
def dkwX6_readBlock_0 : List UInt8 := [42, 3, 181, 0, 195, 42, 4, 181, 0, 192, 42, 3, 181, 0, 211, 42, 3, 181, 0, 224, 42, 3]
abbrev dktX6_readBlock_0 : List UInt8 := dkwX6_readBlock_0 ++ dktX6_readBlock_1
theorem dksX6_readBlock_0 : cX6_readBlock.data.toList.drop 0 = dktX6_readBlock_0 := by decide +kernel
theorem dksX6_readBlock_1 : cX6_readBlock.data.toList.drop 22 = dktX6_readBlock_1 := dk_seg dksX6_readBlock_0 22 rfl rfl
theorem dksX6_readBlock_2 : cX6_readBlock.data.toList.drop 46 = dktX6_readBlock_2 := dk_seg dksX6_readBlock_1 24 rfl rfl
theorem dksX6_readBlock_3 : cX6_readBlock.data.toList.drop 68 = dktX6_readBlock_3 := dk_seg dksX6_readBlock_2 22 rfl rfl
theorem dX6_readBlock_0 : decode cX6_readBlock 0 = .ok (.aload_n 0, 1) := dk_42 (dk_at dksX6_readBlock_0 0 rfl rfl)
theorem dX6_readBlock_1 : decode cX6_readBlock 1 = .ok (.iconst 0, 1) := dk_3 (dk_at dksX6_readBlock_0 1 rfl rfl)
theorem dX6_readBlock_2 : decode cX6_readBlock 2 = .ok (.putfield 195, 3) := dk_181 0 195 (dk_at dksX6_readBlock_0 2 rfl rfl)
theorem dX6_readBlock_5 : decode cX6_readBlock 5 = .ok (.aload_n 0, 1) := dk_42 (dk_at dksX6_readBlock_0 5 rfl rfl)
theorem dX6_readBlock_6 : decode cX6_readBlock 6 = .ok (.iconst 1, 1) := dk_4 (dk_at dksX6_readBlock_0 6 rfl rfl)
theorem dX6_readBlock_7 : decode cX6_readBlock 7 = .ok (.putfield 192, 3) := dk_181 0 192 (dk_at dksX6_readBlock_0 7 rfl rfl)
theorem dX6_readBlock_10 : decode cX6_readBlock 10 = .ok (.aload_n 0, 1) := dk_42 (dk_at dksX6_readBlock_0 10 rfl rfl)
theorem dX6_readBlock_11 : decode cX6_readBlock 11 = .ok (.iconst 0, 1) := dk_3 (dk_at dksX6_readBlock_0 11 rfl rfl)
theorem dX6_readBlock_12 : decode cX6_readBlock 12 = .ok (.putfield 211, 3) := dk_181 0 211 (dk_at dksX6_readBlock_0 12 rfl rfl)
theorem dX6_readBlock_15 : decode cX6_readBlock 15 = .ok (.aload_n 0, 1) := dk_42 (dk_at dksX6_readBlock_0 15 rfl rfl)
theorem dX6_readBlock_16 : decode cX6_readBlock 16 = .ok (.iconst 0, 1) := dk_3 (dk_at dksX6_readBlock_0 16 rfl rfl)
theorem dX6_readBlock_17 : decode cX6_readBlock 17 = .ok (.putfield 224, 3) := dk_181 0 224 (dk_at dksX6_readBlock_0 17 rfl rfl)
theorem dX6_readBlock_20 : decode cX6_readBlock 20 = .ok (.aload_n 0, 1) := dk_42 (dk_at dksX6_readBlock_0 20 rfl rfl)
theorem dX6_readBlock_21 : decode cX6_readBlock 21 = .ok (.iconst 0, 1) := dk_3 (dk_at dksX6_readBlock_0 21 rfl rfl)
theorem dX6_readBlock_22 : decode cX6_readBlock 22 = .ok (.putfield 217, 3) := dk_181 0 217 (dk_at dksX6_readBlock_1 0 rfl rfl)
theorem dX6_readBlock_25 : decode cX6_readBlock 25 = .ok (.aload_n 0, 1) := dk_42 (dk_at dksX6_readBlock_1 3 rfl rfl)
theorem dX6_readBlock_26 : decode cX6_readBlock 26 = .ok (.iconst 0, 1) := dk_3 (dk_at dksX6_readBlock_1 4 rfl rfl)
theorem dX6_readBlock_27 : decode cX6_readBlock 27 = .ok (.putfield 227, 3) := dk_181 0 227 (dk_at dksX6_readBlock_1 5 rfl rfl)
theorem dX6_readBlock_30 : decode cX6_readBlock 30 = .ok (.aload_n 0, 1) := dk_42 (dk_at dksX6_readBlock_1 8 rfl rfl)
theorem dX6_readBlock_31 : decode cX6_readBlock 31 = .ok (.iconst (-1), 1) := dk_2 (dk_at dksX6_readBlock_1 9 rfl rfl)
theorem dX6_readBlock_32 : decode cX6_readBlock 32 = .ok (.putfield 230, 3) := dk_181 0 230 (dk_at dksX6_readBlock_1 10 rfl rfl)
theorem dX6_readBlock_35 : decode cX6_readBlock 35 = .ok (.aload_n 0, 1) := dk_42 (dk_at dksX6_readBlock_1 13 rfl rfl)
theorem dX6_readBlock_36 : decode cX6_readBlock 36 = .ok (.iconst 0, 1) := dk_3 (dk_at dksX6_readBlock_1 14 rfl rfl)
theorem dX6_readBlock_37 : decode cX6_readBlock 37 = .ok (.putfield 236, 3) := dk_181 0 236 (dk_at dksX6_readBlock_1 15 rfl rfl)
theorem dX6_readBlock_40 : decode cX6_readBlock 40 = .ok (.aload_n 0, 1) := dk_42 (dk_at dksX6_readBlock_1 18 rfl rfl)
theorem dX6_readBlock_41 : decode cX6_readBlock 41 = .ok (.iconst (-1), 1) := dk_2 (dk_at dksX6_readBlock_1 19 rfl rfl)
theorem dX6_readBlock_42 : decode cX6_readBlock 42 = .ok (.putfield 249, 3) := dk_181 0 249 (dk_at dksX6_readBlock_1 20 rfl rfl)
theorem dX6_readBlock_45 : decode cX6_readBlock 45 = .ok (.aload_n 0, 1) := dk_42 (dk_at dksX6_readBlock_1 23 rfl rfl)
theorem dX6_readBlock_46 : decode cX6_readBlock 46 = .ok (.getfield 192, 3) := dk_180 0 192 (dk_at dksX6_readBlock_2 0 rfl rfl)
theorem dX6_readBlock_49 : decode cX6_readBlock 49 = .ok (.ifCond .eq 25, 3) := dk_153 0 25 (dk_at dksX6_readBlock_2 3 rfl rfl)
theorem dX6_readBlock_52 : decode cX6_readBlock 52 = .ok (.aload_n 0, 1) := dk_42 (dk_at dksX6_readBlock_2 6 rfl rfl)
theorem dX6_readBlock_53 : decode cX6_readBlock 53 = .ok (.getfield 195, 3) := dk_180 0 195 (dk_at dksX6_readBlock_2 7 rfl rfl)
theorem dX6_readBlock_56 : decode cX6_readBlock 56 = .ok (.aload_n 0, 1) := dk_42 (dk_at dksX6_readBlock_2 10 rfl rfl)
theorem dX6_readBlock_57 : decode cX6_readBlock 57 = .ok (.getfield 108, 3) := dk_180 0 108 (dk_at dksX6_readBlock_2 11 rfl rfl)
theorem dX6_readBlock_60 : decode cX6_readBlock 60 = .ok (.if_icmp .ge 14, 3) := dk_162 0 14 (dk_at dksX6_readBlock_2 14 rfl rfl)
theorem dX6_readBlock_63 : decode cX6_readBlock 63 = .ok (.aload_n 0, 1) := dk_42 (dk_at dksX6_readBlock_2 17 rfl rfl)
theorem dX6_readBlock_64 : decode cX6_readBlock 64 = .ok (.aload_n 0, 1) := dk_42 (dk_at dksX6_readBlock_2 18 rfl rfl)
theorem dX6_readBlock_65 : decode cX6_readBlock 65 = .ok (.invokevirtual 198, 3) := dk_182 0 198 (dk_at dksX6_readBlock_2 19 rfl rfl)
theorem dX6_readBlock_68 : decode cX6_readBlock 68 = .ok (.invokevirtual 253, 3) := dk_182 0 253 (dk_at dksX6_readBlock_3 0 rfl rfl)
theorem dX6_readBlock_71 : decode cX6_readBlock 71 = .ok (.goto (-26), 3) := dk_167 255 230 (dk_at dksX6_readBlock_3 3 rfl rfl)
theorem dX6_readBlock_74 : decode cX6_readBlock 74 = .ok (.aload_n 0, 1) := dk_42 (dk_at dksX6_readBlock_3 6 rfl rfl)
theorem dX6_readBlock_75 : decode cX6_readBlock 75 = .ok (.getfield 192, 3) := dk_180 0 192 (dk_at dksX6_readBlock_3 7 rfl rfl)
theorem dX6_readBlock_78 : decode cX6_readBlock 78 = .ok (.ireturn, 1) := dk_172 (dk_at dksX6_readBlock_3 10 rfl rfl)
abbrev cX6_next : ByteArray := prog_8_method_27_code
def yX6_next : MethodName := ⟨RX6, "next", "()I"⟩
def dkwX6_next_2 : List UInt8 := [42, 180, 0, 195, 4, 100, 46, 167, 0, 4, 3, 172]
abbrev dktX6_next_2 : List UInt8 := dkwX6_next_2 ++ []
def dkwX6_next_1 : List UInt8 := [181, 0, 192, 42, 89, 180, 0, 195, 4, 96, 181, 0, 195, 42, 180, 0, 192, 153, 0, 17, 42, 180, 0, 69]
abbrev dktX6_next_1 : List UInt8 := dkwX6_next_1 ++ dktX6_next_2
def dkwX6_next_0 : List UInt8 := [42, 42, 180, 0, 192, 153, 0, 18, 42, 180, 0, 195, 42, 180, 0, 108, 162, 0, 7, 4, 167, 0, 4, 3]
abbrev dktX6_next_0 : List UInt8 := dkwX6_next_0 ++ dktX6_next_1
theorem dksX6_next_0 : cX6_next.data.toList.drop 0 = dktX6_next_0 := by decide +kernel
theorem dksX6_next_1 : cX6_next.data.toList.drop 24 = dktX6_next_1 := dk_seg dksX6_next_0 24 rfl rfl
theorem dksX6_next_2 : cX6_next.data.toList.drop 48 = dktX6_next_2 := dk_seg dksX6_next_1 24 rfl rfl
theorem dX6_next_0 : decode cX6_next 0 = .ok (.aload_n 0, 1) := dk_42 (dk_at dksX6_next_0 0 rfl rfl)
theorem dX6_next_1 : decode cX6_next 1 = .ok (.aload_n 0, 1) := dk_42 (dk_at dksX6_next_0 1 rfl rfl)
theorem dX6_next_2 : decode cX6_next 2 = .ok (.getfield 192, 3) := dk_180 0 192 (dk_at dksX6_next_0 2 rfl rfl)
theorem dX6_next_5 : decode cX6_next 5 = .ok (.ifCond .eq 18, 3) := dk_153 0 18 (dk_at dksX6_next_0 5 rfl rfl)
theorem dX6_next_8 : decode cX6_next 8 = .ok (.aload_n 0, 1) := dk_42 (dk_at dksX6_next_0 8 rfl rfl)
theorem dX6_next_9 : decode cX6_next 9 = .ok (.getfield 195, 3) := dk_180 0 195 (dk_at dksX6_next_0 9 rfl rfl)
theorem dX6_next_12 : decode cX6_next 12 = .ok (.aload_n 0, 1) := dk_42 (dk_at dksX6_next_0 12 rfl rfl)
theorem dX6_next_13 : decode cX6_next 13 = .ok (.getfield 108, 3) := dk_180 0 108 (dk_at dksX6_next_0 13 rfl rfl)
theorem dX6_next_16 : decode cX6_next 16 = .ok (.if_icmp .ge 7, 3) := dk_162 0 7 (dk_at dksX6_next_0 16 rfl rfl)
theorem dX6_next_19 : decode cX6_next 19 = .ok (.iconst 1, 1) := dk_4 (dk_at dksX6_next_0 19 rfl rfl)
theorem dX6_next_20 : decode cX6_next 20 = .ok (.goto 4, 3) := dk_167 0 4 (dk_at dksX6_next_0 20 rfl rfl)
theorem dX6_next_23 : decode cX6_next 23 = .ok (.iconst 0, 1) := dk_3 (dk_at dksX6_next_0 23 rfl rfl)
theorem dX6_next_24 : decode cX6_next 24 = .ok (.putfield 192, 3) := dk_181 0 192 (dk_at dksX6_next_1 0 rfl rfl)
theorem dX6_next_27 : decode cX6_next 27 = .ok (.aload_n 0, 1) := dk_42 (dk_at dksX6_next_1 3 rfl rfl)
theorem dX6_next_28 : decode cX6_next 28 = .ok (.dup, 1) := dk_89 (dk_at dksX6_next_1 4 rfl rfl)
theorem dX6_next_29 : decode cX6_next 29 = .ok (.getfield 195, 3) := dk_180 0 195 (dk_at dksX6_next_1 5 rfl rfl)
theorem dX6_next_32 : decode cX6_next 32 = .ok (.iconst 1, 1) := dk_4 (dk_at dksX6_next_1 8 rfl rfl)
theorem dX6_next_33 : decode cX6_next 33 = .ok (.iadd, 1) := dk_96 (dk_at dksX6_next_1 9 rfl rfl)
theorem dX6_next_34 : decode cX6_next 34 = .ok (.putfield 195, 3) := dk_181 0 195 (dk_at dksX6_next_1 10 rfl rfl)
theorem dX6_next_37 : decode cX6_next 37 = .ok (.aload_n 0, 1) := dk_42 (dk_at dksX6_next_1 13 rfl rfl)
theorem dX6_next_38 : decode cX6_next 38 = .ok (.getfield 192, 3) := dk_180 0 192 (dk_at dksX6_next_1 14 rfl rfl)
theorem dX6_next_41 : decode cX6_next 41 = .ok (.ifCond .eq 17, 3) := dk_153 0 17 (dk_at dksX6_next_1 17 rfl rfl)
theorem dX6_next_44 : decode cX6_next 44 = .ok (.aload_n 0, 1) := dk_42 (dk_at dksX6_next_1 20 rfl rfl)
theorem dX6_next_45 : decode cX6_next 45 = .ok (.getfield 69, 3) := dk_180 0 69 (dk_at dksX6_next_1 21 rfl rfl)
theorem dX6_next_48 : decode cX6_next 48 = .ok (.aload_n 0, 1) := dk_42 (dk_at dksX6_next_2 0 rfl rfl)
theorem dX6_next_49 : decode cX6_next 49 = .ok (.getfield 195, 3) := dk_180 0 195 (dk_at dksX6_next_2 1 rfl rfl)
theorem dX6_next_52 : decode cX6_next 52 = .ok (.iconst 1, 1) := dk_4 (dk_at dksX6_next_2 4 rfl rfl)
theorem dX6_next_53 : decode cX6_next 53 = .ok (.isub, 1) := dk_100 (dk_at dksX6_next_2 5 rfl rfl)
theorem dX6_next_54 : decode cX6_next 54 = .ok (.iaload, 1) := dk_46 (dk_at dksX6_next_2 6 rfl rfl)
theorem dX6_next_55 : decode cX6_next 55 = .ok (.goto 4, 3) := dk_167 0 4 (dk_at dksX6_next_2 7 rfl rfl)
theorem dX6_next_58 : decode cX6_next 58 = .ok (.iconst 0, 1) := dk_3 (dk_at dksX6_next_2 10 rfl rfl)
theorem dX6_next_59 : decode cX6_next 59 = .ok (.ireturn, 1) := dk_172 (dk_at dksX6_next_2 11 rfl rfl)
abbrev cX6_readField : ByteArray := prog_8_method_30_code
def yX6_readField : MethodName := ⟨RX6, "readField", "(I)V"⟩
def dkwX6_readField_8 : List UInt8 := [177, 42, 89, 180, 0, 211, 4, 96, 181, 0, 211, 42, 182, 0, 214, 177]
abbrev dktX6_readField_8 : List UInt8 := dkwX6_readField_8 ++ []
def dkwX6_readField_7 : List UInt8 := [153, 0, 16, 42, 27, 16, 32, 100, 181, 0, 92, 42, 3, 182, 0, 186, 177, 42, 180, 0, 192, 154, 0, 4]
abbrev dktX6_readField_7 : List UInt8 := dkwX6_readField_7 ++ dktX6_readField_8
def dkwX6_readField_6 : List UInt8 := [162, 0, 14, 42, 180, 0, 211, 154, 0, 7, 4, 167, 0, 4, 3, 181, 0, 192, 42, 180, 0, 192]
abbrev dktX6_readField_6 : List UInt8 := dkwX6_readField_6 ++ dktX6_readField_7
def dkwX6_readField_5 : List UInt8 := [16, 63, 164, 0, 59, 42, 182, 0, 208, 167, 0, 52, 42, 27, 16, 31, 164, 0, 20, 27, 16, 57]
abbrev dktX6_readField_5 : List UInt8 := dkwX6_readField_5 ++ dktX6_readField_6
def dkwX6_readField_4 : List UInt8 := [153, 0, 15, 42, 180, 0, 29, 16, 16, 42, 3, 182, 0, 201, 79, 42, 180, 0, 192, 153, 0, 65, 27]
abbrev dktX6_readField_4 : List UInt8 := dkwX6_readField_4 ++ dktX6_readField_5
def dkwX6_readField_3 : List UInt8 := [42, 27, 16, 63, 164, 0, 10, 27, 16, 64, 100, 167, 0, 4, 27, 182, 0, 205, 42, 180, 0, 192]
abbrev dktX6_readField_3 : List UInt8 := dkwX6_readField_3 ++ dktX6_readField_4
def dkwX6_readField_2 : List UInt8 := [17, 0, 129, 100, 16, 16, 182, 0, 189, 167, 0, 121, 27, 16, 63, 163, 0, 9, 27, 16, 16, 162, 0, 60]
abbrev dktX6_readField_2 : List UInt8 := dkwX6_readField_2 ++ dktX6_readField_3
def dkwX6_readField_1 : List UInt8 := [180, 0, 89, 96, 162, 0, 7, 4, 167, 0, 4, 3, 181, 0, 192, 42, 180, 0, 192, 153, 0, 135, 42, 27]
abbrev dktX6_readField_1 : List UInt8 := dkwX6_readField_1 ++ dktX6_readField_2
def dkwX6_readField_0 : List UInt8 := [27, 16, 127, 164, 0, 55, 42, 27, 17, 0, 128, 164, 0, 22, 27, 17, 0, 129, 100, 16, 7, 42]
abbrev dktX6_readField_0 : List UInt8 := dkwX6_readField_0 ++ dktX6_readField_1
theorem dksX6_readField_0 : cX6_readField.data.toList.drop 0 = dktX6_readField_0 := by decide +kernel
theorem dksX6_readField_1 : cX6_readField.data.toList.drop 22 = dktX6_readField_1 := dk_seg dksX6_readField_0 22 rfl rfl
theorem dksX6_readField_2 : cX6_readField.data.toList.drop 46 = dktX6_readField_2 := dk_seg dksX6_readField_1 24 rfl rfl
theorem dksX6_readField_3 : cX6_readField.data.toList.drop 70 = dktX6_readField_3 := dk_seg dksX6_readField_2 24 rfl rfl
theorem dksX6_readField_4 : cX6_readField.data.toList.drop 92 = dktX6_readField_4 := dk_seg dksX6_readField_3 22 rfl rfl
theorem dksX6_readField_5 : cX6_readField.data.toList.drop 115 = dktX6_readField_5 := dk_seg dksX6_readField_4 23 rfl rfl
theorem dksX6_readField_6 : cX6_readField.data.toList.drop 137 = dktX6_readField_6 := dk_seg dksX6_readField_5 22 rfl rfl
theorem dksX6_readField_7 : cX6_readField.data.toList.drop 159 = dktX6_readField_7 := dk_seg dksX6_readField_6 22 rfl rfl
theorem dksX6_readField_8 : cX6_readField.data.toList.drop 183 = dktX6_readField_8 := dk_seg dksX6_readField_7 24 rfl rfl
theorem dX6_readField_0 : decode cX6_readField 0 = .ok (.iload_n 1, 1) := dk_27 (dk_at dksX6_readField_0 0 rfl rfl)
theorem dX6_readField_1 : decode cX6_readField 1 = .ok (.bipush 127, 2) := dk_16 127 (dk_at dksX6_readField_0 1 rfl rfl)
theorem dX6_readField_3 : decode cX6_readField 3 = .ok (.if_icmp .le 55, 3) := dk_164 0 55 (dk_at dksX6_readField_0 3 rfl rfl)
theorem dX6_readField_6 : decode cX6_readField 6 = .ok (.aload_n 0, 1) := dk_42 (dk_at dksX6_readField_0 6 rfl rfl)
theorem dX6_readField_7 : decode cX6_readField 7 = .ok (.iload_n 1, 1) := dk_27 (dk_at dksX6_readField_0 7 rfl rfl)
theorem dX6_readField_8 : decode cX6_readField 8 = .ok (.sipush 128, 3) := dk_17 0 128 (dk_at dksX6_readField_0 8 rfl rfl)
theorem dX6_readField_11 : decode cX6_readField 11 = .ok (.if_icmp .le 22, 3) := dk_164 0 22 (dk_at dksX6_readField_0 11 rfl rfl)
theorem dX6_readField_14 : decode cX6_readField 14 = .ok (.iload_n 1, 1) := dk_27 (dk_at dksX6_readField_0 14 rfl rfl)
theorem dX6_readField_15 : decode cX6_readField 15 = .ok (.sipush 129, 3) := dk_17 0 129 (dk_at dksX6_readField_0 15 rfl rfl)
theorem dX6_readField_18 : decode cX6_readField 18 = .ok (.isub, 1) := dk_100 (dk_at dksX6_readField_0 18 rfl rfl)
theorem dX6_readField_19 : decode cX6_readField 19 = .ok (.bipush 7, 2) := dk_16 7 (dk_at dksX6_readField_0 19 rfl rfl)
theorem dX6_readField_21 : decode cX6_readField 21 = .ok (.aload_n 0, 1) := dk_42 (dk_at dksX6_readField_0 21 rfl rfl)
theorem dX6_readField_22 : decode cX6_readField 22 = .ok (.getfield 89, 3) := dk_180 0 89 (dk_at dksX6_readField_1 0 rfl rfl)
theorem dX6_readField_25 : decode cX6_readField 25 = .ok (.iadd, 1) := dk_96 (dk_at dksX6_readField_1 3 rfl rfl)
theorem dX6_readField_26 : decode cX6_readField 26 = .ok (.if_icmp .ge 7, 3) := dk_162 0 7 (dk_at dksX6_readField_1 4 rfl rfl)
theorem dX6_readField_29 : decode cX6_readField 29 = .ok (.iconst 1, 1) := dk_4 (dk_at dksX6_readField_1 7 rfl rfl)
theorem dX6_readField_30 : decode cX6_readField 30 = .ok (.goto 4, 3) := dk_167 0 4 (dk_at dksX6_readField_1 8 rfl rfl)
theorem dX6_readField_33 : decode cX6_readField 33 = .ok (.iconst 0, 1) := dk_3 (dk_at dksX6_readField_1 11 rfl rfl)
theorem dX6_readField_34 : decode cX6_readField 34 = .ok (.putfield 192, 3) := dk_181 0 192 (dk_at dksX6_readField_1 12 rfl rfl)
theorem dX6_readField_37 : decode cX6_readField 37 = .ok (.aload_n 0, 1) := dk_42 (dk_at dksX6_readField_1 15 rfl rfl)
theorem dX6_readField_38 : decode cX6_readField 38 = .ok (.getfield 192, 3) := dk_180 0 192 (dk_at dksX6_readField_1 16 rfl rfl)
theorem dX6_readField_41 : decode cX6_readField 41 = .ok (.ifCond .eq 135, 3) := dk_153 0 135 (dk_at dksX6_readField_1 19 rfl rfl)
theorem dX6_readField_44 : decode cX6_readField 44 = .ok (.aload_n 0, 1) := dk_42 (dk_at dksX6_readField_1 22 rfl rfl)
theorem dX6_readField_45 : decode cX6_readField 45 = .ok (.iload_n 1, 1) := dk_27 (dk_at dksX6_readField_1 23 rfl rfl)
theorem dX6_readField_46 : decode cX6_readField 46 = .ok (.sipush 129, 3) := dk_17 0 129 (dk_at dksX6_readField_2 0 rfl rfl)
theorem dX6_readField_49 : decode cX6_readField 49 = .ok (.isub, 1) := dk_100 (dk_at dksX6_readField_2 3 rfl rfl)
theorem dX6_readField_50 : decode cX6_readField 50 = .ok (.bipush 16, 2) := dk_16 16 (dk_at dksX6_readField_2 4 rfl rfl)
theorem dX6_readField_52 : decode cX6_readField 52 = .ok (.invokevirtual 189, 3) := dk_182 0 189 (dk_at dksX6_readField_2 6 rfl rfl)
theorem dX6_readField_55 : decode cX6_readField 55 = .ok (.goto 121, 3) := dk_167 0 121 (dk_at dksX6_readField_2 9 rfl rfl)
theorem dX6_readField_58 : decode cX6_readField 58 = .ok (.iload_n 1, 1) := dk_27 (dk_at dksX6_readField_2 12 rfl rfl)
theorem dX6_readField_59 : decode cX6_readField 59 = .ok (.bipush 63, 2) := dk_16 63 (dk_at dksX6_readField_2 13 rfl rfl)
theorem dX6_readField_61 : decode cX6_readField 61 = .ok (.if_icmp .gt 9, 3) := dk_163 0 9 (dk_at dksX6_readField_2 15 rfl rfl)
theorem dX6_readField_64 : decode cX6_readField 64 = .ok (.iload_n 1, 1) := dk_27 (dk_at dksX6_readField_2 18 rfl rfl)
theorem dX6_readField_65 : decode cX6_readField 65 = .ok (.bipush 16, 2) := dk_16 16 (dk_at dksX6_readField_2 19 rfl rfl)
theorem dX6_readField_67 : decode cX6_readField 67 = .ok (.if_icmp .ge 60, 3) := dk_162 0 60 (dk_at dksX6_readField_2 21 rfl rfl)
theorem dX6_readField_70 : decode cX6_readField 70 = .ok (.aload_n 0, 1) := dk_42 (dk_at dksX6_readField_3 0 rfl rfl)
theorem dX6_readField_71 : decode cX6_readField 71 = .ok (.iload_n 1, 1) := dk_27 (dk_at dksX6_readField_3 1 rfl rfl)
theorem dX6_readField_72 : decode cX6_readField 72 = .ok (.bipush 63, 2) := dk_16 63 (dk_at dksX6_readField_3 2 rfl rfl)
theorem dX6_readField_74 : decode cX6_readField 74 = .ok (.if_icmp .le 10, 3) := dk_164 0 10 (dk_at dksX6_readField_3 4 rfl rfl)
theorem dX6_readField_77 : decode cX6_readField 77 = .ok (.iload_n 1, 1) := dk_27 (dk_at dksX6_readField_3 7 rfl rfl)
theorem dX6_readField_78 : decode cX6_readField 78 = .ok (.bipush 64, 2) := dk_16 64 (dk_at dksX6_readField_3 8 rfl rfl)
theorem dX6_readField_80 : decode cX6_readField 80 = .ok (.isub, 1) := dk_100 (dk_at dksX6_readField_3 10 rfl rfl)
theorem dX6_readField_81 : decode cX6_readField 81 = .ok (.goto 4, 3) := dk_167 0 4 (dk_at dksX6_readField_3 11 rfl rfl)
theorem dX6_readField_84 : decode cX6_readField 84 = .ok (.iload_n 1, 1) := dk_27 (dk_at dksX6_readField_3 14 rfl rfl)
theorem dX6_readField_85 : decode cX6_readField 85 = .ok (.invokevirtual 205, 3) := dk_182 0 205 (dk_at dksX6_readField_3 15 rfl rfl)
theorem dX6_readField_88 : decode cX6_readField 88 = .ok (.aload_n 0, 1) := dk_42 (dk_at dksX6_readField_3 18 rfl rfl)
theorem dX6_readField_89 : decode cX6_readField 89 = .ok (.getfield 192, 3) := dk_180 0 192 (dk_at dksX6_readField_3 19 rfl rfl)
theorem dX6_readField_92 : decode cX6_readField 92 = .ok (.ifCond .eq 15, 3) := dk_153 0 15 (dk_at dksX6_readField_4 0 rfl rfl)
theorem dX6_readField_95 : decode cX6_readField 95 = .ok (.aload_n 0, 1) := dk_42 (dk_at dksX6_readField_4 3 rfl rfl)
theorem dX6_readField_96 : decode cX6_readField 96 = .ok (.getfield 29, 3) := dk_180 0 29 (dk_at dksX6_readField_4 4 rfl rfl)
theorem dX6_readField_99 : decode cX6_readField 99 = .ok (.bipush 16, 2) := dk_16 16 (dk_at dksX6_readField_4 7 rfl rfl)
theorem dX6_readField_101 : decode cX6_readField 101 = .ok (.aload_n 0, 1) := dk_42 (dk_at dksX6_readField_4 9 rfl rfl)
theorem dX6_readField_102 : decode cX6_readField 102 = .ok (.iconst 0, 1) := dk_3 (dk_at dksX6_readField_4 10 rfl rfl)
theorem dX6_readField_103 : decode cX6_readField 103 = .ok (.invokevirtual 201, 3) := dk_182 0 201 (dk_at dksX6_readField_4 11 rfl rfl)
theorem dX6_readField_106 : decode cX6_readField 106 = .ok (.iastore, 1) := dk_79 (dk_at dksX6_readField_4 14 rfl rfl)
theorem dX6_readField_107 : decode cX6_readField 107 = .ok (.aload_n 0, 1) := dk_42 (dk_at dksX6_readField_4 15 rfl rfl)
theorem dX6_readField_108 : decode cX6_readField 108 = .ok (.getfield 192, 3) := dk_180 0 192 (dk_at dksX6_readField_4 16 rfl rfl)
theorem dX6_readField_111 : decode cX6_readField 111 = .ok (.ifCond .eq 65, 3) := dk_153 0 65 (dk_at dksX6_readField_4 19 rfl rfl)
theorem dX6_readField_114 : decode cX6_readField 114 = .ok (.iload_n 1, 1) := dk_27 (dk_at dksX6_readField_4 22 rfl rfl)
theorem dX6_readField_115 : decode cX6_readField 115 = .ok (.bipush 63, 2) := dk_16 63 (dk_at dksX6_readField_5 0 rfl rfl)
theorem dX6_readField_117 : decode cX6_readField 117 = .ok (.if_icmp .le 59, 3) := dk_164 0 59 (dk_at dksX6_readField_5 2 rfl rfl)
theorem dX6_readField_120 : decode cX6_readField 120 = .ok (.aload_n 0, 1) := dk_42 (dk_at dksX6_readField_5 5 rfl rfl)
theorem dX6_readField_121 : decode cX6_readField 121 = .ok (.invokevirtual 208, 3) := dk_182 0 208 (dk_at dksX6_readField_5 6 rfl rfl)
theorem dX6_readField_124 : decode cX6_readField 124 = .ok (.goto 52, 3) := dk_167 0 52 (dk_at dksX6_readField_5 9 rfl rfl)
theorem dX6_readField_127 : decode cX6_readField 127 = .ok (.aload_n 0, 1) := dk_42 (dk_at dksX6_readField_5 12 rfl rfl)
theorem dX6_readField_128 : decode cX6_readField 128 = .ok (.iload_n 1, 1) := dk_27 (dk_at dksX6_readField_5 13 rfl rfl)
theorem dX6_readField_129 : decode cX6_readField 129 = .ok (.bipush 31, 2) := dk_16 31 (dk_at dksX6_readField_5 14 rfl rfl)
theorem dX6_readField_131 : decode cX6_readField 131 = .ok (.if_icmp .le 20, 3) := dk_164 0 20 (dk_at dksX6_readField_5 16 rfl rfl)
theorem dX6_readField_134 : decode cX6_readField 134 = .ok (.iload_n 1, 1) := dk_27 (dk_at dksX6_readField_5 19 rfl rfl)
theorem dX6_readField_135 : decode cX6_readField 135 = .ok (.bipush 57, 2) := dk_16 57 (dk_at dksX6_readField_5 20 rfl rfl)
theorem dX6_readField_137 : decode cX6_readField 137 = .ok (.if_icmp .ge 14, 3) := dk_162 0 14 (dk_at dksX6_readField_6 0 rfl rfl)
theorem dX6_readField_140 : decode cX6_readField 140 = .ok (.aload_n 0, 1) := dk_42 (dk_at dksX6_readField_6 3 rfl rfl)
theorem dX6_readField_141 : decode cX6_readField 141 = .ok (.getfield 211, 3) := dk_180 0 211 (dk_at dksX6_readField_6 4 rfl rfl)
theorem dX6_readField_144 : decode cX6_readField 144 = .ok (.ifCond .ne 7, 3) := dk_154 0 7 (dk_at dksX6_readField_6 7 rfl rfl)
theorem dX6_readField_147 : decode cX6_readField 147 = .ok (.iconst 1, 1) := dk_4 (dk_at dksX6_readField_6 10 rfl rfl)
theorem dX6_readField_148 : decode cX6_readField 148 = .ok (.goto 4, 3) := dk_167 0 4 (dk_at dksX6_readField_6 11 rfl rfl)
theorem dX6_readField_151 : decode cX6_readField 151 = .ok (.iconst 0, 1) := dk_3 (dk_at dksX6_readField_6 14 rfl rfl)
theorem dX6_readField_152 : decode cX6_readField 152 = .ok (.putfield 192, 3) := dk_181 0 192 (dk_at dksX6_readField_6 15 rfl rfl)
theorem dX6_readField_155 : decode cX6_readField 155 = .ok (.aload_n 0, 1) := dk_42 (dk_at dksX6_readField_6 18 rfl rfl)
theorem dX6_readField_156 : decode cX6_readField 156 = .ok (.getfield 192, 3) := dk_180 0 192 (dk_at dksX6_readField_6 19 rfl rfl)
theorem dX6_readField_159 : decode cX6_readField 159 = .ok (.ifCond .eq 16, 3) := dk_153 0 16 (dk_at dksX6_readField_7 0 rfl rfl)
theorem dX6_readField_162 : decode cX6_readField 162 = .ok (.aload_n 0, 1) := dk_42 (dk_at dksX6_readField_7 3 rfl rfl)
theorem dX6_readField_163 : decode cX6_readField 163 = .ok (.iload_n 1, 1) := dk_27 (dk_at dksX6_readField_7 4 rfl rfl)
theorem dX6_readField_164 : decode cX6_readField 164 = .ok (.bipush 32, 2) := dk_16 32 (dk_at dksX6_readField_7 5 rfl rfl)
theorem dX6_readField_166 : decode cX6_readField 166 = .ok (.isub, 1) := dk_100 (dk_at dksX6_readField_7 7 rfl rfl)
theorem dX6_readField_167 : decode cX6_readField 167 = .ok (.putfield 92, 3) := dk_181 0 92 (dk_at dksX6_readField_7 8 rfl rfl)
theorem dX6_readField_170 : decode cX6_readField 170 = .ok (.aload_n 0, 1) := dk_42 (dk_at dksX6_readField_7 11 rfl rfl)
theorem dX6_readField_171 : decode cX6_readField 171 = .ok (.iconst 0, 1) := dk_3 (dk_at dksX6_readField_7 12 rfl rfl)
theorem dX6_readField_172 : decode cX6_readField 172 = .ok (.invokevirtual 186, 3) := dk_182 0 186 (dk_at dksX6_readField_7 13 rfl rfl)
theorem dX6_readField_175 : decode cX6_readField 175 = .ok (.return_, 1) := dk_177 (dk_at dksX6_readField_7 16 rfl rfl)
theorem dX6_readField_176 : decode cX6_readField 176 = .ok (.aload_n 0, 1) := dk_42 (dk_at dksX6_readField_7 17 rfl rfl)
theorem dX6_readField_177 : decode cX6_readField 177 = .ok (.getfield 192, 3) := dk_180 0 192 (dk_at dksX6_readField_7 18 rfl rfl)
theorem dX6_readField_180 : decode cX6_readField 180 = .ok (.ifCond .ne 4, 3) := dk_154 0 4 (dk_at dksX6_readField_7 21 rfl rfl)
theorem dX6_readField_183 : decode cX6_readField 183 = .ok (.return_, 1) := dk_177 (dk_at dksX6_readField_8 0 rfl rfl)
theorem dX6_readField_184 : decode cX6_readField 184 = .ok (.aload_n 0, 1) := dk_42 (dk_at dksX6_readField_8 1 rfl rfl)
theorem dX6_readField_185 : decode cX6_readField 185 = .ok (.dup, 1) := dk_89 (dk_at dksX6_readField_8 2 rfl rfl)
theorem dX6_readField_186 : decode cX6_readField 186 = .ok (.getfield 211, 3) := dk_180 0 211 (dk_at dksX6_readField_8 3 rfl rfl)
theorem dX6_readField_189 : decode cX6_readField 189 = .ok (.iconst 1, 1) := dk_4 (dk_at dksX6_readField_8 6 rfl rfl)
theorem dX6_readField_190 : decode cX6_readField 190 = .ok (.iadd, 1) := dk_96 (dk_at dksX6_readField_8 7 rfl rfl)
theorem dX6_readField_191 : decode cX6_readField 191 = .ok (.putfield 211, 3) := dk_181 0 211 (dk_at dksX6_readField_8 8 rfl rfl)
theorem dX6_readField_194 : decode cX6_readField 194 = .ok (.aload_n 0, 1) := dk_42 (dk_at dksX6_readField_8 11 rfl rfl)
theorem dX6_readField_195 : decode cX6_readField 195 = .ok (.invokevirtual 214, 3) := dk_182 0 214 (dk_at dksX6_readField_8 12 rfl rfl)
theorem dX6_readField_198 : decode cX6_readField 198 = .ok (.return_, 1) := dk_177 (dk_at dksX6_readField_8 15 rfl rfl)
abbrev cX6_copy : ByteArray := prog_8_method_25_code
def yX6_copy : MethodName := ⟨RX6, "copy", "(II)V"⟩
def dkwX6_copy_3 : List UInt8 := [29, 96, 52, 85, 132, 3, 1, 167, 255, 203, 177]
abbrev dktX6_copy_3 : List UInt8 := dkwX6_copy_3 ++ []
def dkwX6_copy_2 : List UInt8 := [27, 104, 29, 96, 52, 85, 42, 180, 0, 32, 16, 20, 28, 104, 29, 96, 42, 180, 0, 32, 16, 20, 27, 104]
abbrev dktX6_copy_2 : List UInt8 := dkwX6_copy_2 ++ dktX6_copy_3
def dkwX6_copy_1 : List UInt8 := [3, 62, 29, 16, 20, 162, 0, 53, 42, 180, 0, 26, 16, 20, 28, 104, 29, 96, 42, 180, 0, 26, 16, 20]
abbrev dktX6_copy_1 : List UInt8 := dkwX6_copy_1 ++ dktX6_copy_2
def dkwX6_copy_0 : List UInt8 := [42, 180, 0, 23, 28, 42, 180, 0, 23, 27, 46, 79, 42, 180, 0, 29, 28, 42, 180, 0, 29, 27, 46, 79]
abbrev dktX6_copy_0 : List UInt8 := dkwX6_copy_0 ++ dktX6_copy_1
theorem dksX6_copy_0 : cX6_copy.data.toList.drop 0 = dktX6_copy_0 := by decide +kernel
theorem dksX6_copy_1 : cX6_copy.data.toList.drop 24 = dktX6_copy_1 := dk_seg dksX6_copy_0 24 rfl rfl
theorem dksX6_copy_2 : cX6_copy.data.toList.drop 48 = dktX6_copy_2 := dk_seg dksX6_copy_1 24 rfl rfl
theorem dksX6_copy_3 : cX6_copy.data.toList.drop 72 = dktX6_copy_3 := dk_seg dksX6_copy_2 24 rfl rfl
theorem dX6_copy_0 : decode cX6_copy 0 = .ok (.aload_n 0, 1) := dk_42 (dk_at dksX6_copy_0 0 rfl rfl)
theorem dX6_copy_1 : decode cX6_copy 1 = .ok (.getfield 23, 3) := dk_180 0 23 (dk_at dksX6_copy_0 1 rfl rfl)
theorem dX6_copy_4 : decode cX6_copy 4 = .ok (.iload_n 2, 1) := dk_28 (dk_at dksX6_copy_0 4 rfl rfl)
theorem dX6_copy_5 : decode cX6_copy 5 = .ok (.aload_n 0, 1) := dk_42 (dk_at dksX6_copy_0 5 rfl rfl)
theorem dX6_copy_6 : decode cX6_copy 6 = .ok (.getfield 23, 3) := dk_180 0 23 (dk_at dksX6_copy_0 6 rfl rfl)
theorem dX6_copy_9 : decode cX6_copy 9 = .ok (.iload_n 1, 1) := dk_27 (dk_at dksX6_copy_0 9 rfl rfl)
theorem dX6_copy_10 : decode cX6_copy 10 = .ok (.iaload, 1) := dk_46 (dk_at dksX6_copy_0 10 rfl rfl)
theorem dX6_copy_11 : decode cX6_copy 11 = .ok (.iastore, 1) := dk_79 (dk_at dksX6_copy_0 11 rfl rfl)
theorem dX6_copy_12 : decode cX6_copy 12 = .ok (.aload_n 0, 1) := dk_42 (dk_at dksX6_copy_0 12 rfl rfl)
theorem dX6_copy_13 : decode cX6_copy 13 = .ok (.getfield 29, 3) := dk_180 0 29 (dk_at dksX6_copy_0 13 rfl rfl)
theorem dX6_copy_16 : decode cX6_copy 16 = .ok (.iload_n 2, 1) := dk_28 (dk_at dksX6_copy_0 16 rfl rfl)
theorem dX6_copy_17 : decode cX6_copy 17 = .ok (.aload_n 0, 1) := dk_42 (dk_at dksX6_copy_0 17 rfl rfl)
theorem dX6_copy_18 : decode cX6_copy 18 = .ok (.getfield 29, 3) := dk_180 0 29 (dk_at dksX6_copy_0 18 rfl rfl)
theorem dX6_copy_21 : decode cX6_copy 21 = .ok (.iload_n 1, 1) := dk_27 (dk_at dksX6_copy_0 21 rfl rfl)
theorem dX6_copy_22 : decode cX6_copy 22 = .ok (.iaload, 1) := dk_46 (dk_at dksX6_copy_0 22 rfl rfl)
theorem dX6_copy_23 : decode cX6_copy 23 = .ok (.iastore, 1) := dk_79 (dk_at dksX6_copy_0 23 rfl rfl)
theorem dX6_copy_24 : decode cX6_copy 24 = .ok (.iconst 0, 1) := dk_3 (dk_at dksX6_copy_1 0 rfl rfl)
theorem dX6_copy_25 : decode cX6_copy 25 = .ok (.istore_n 3, 1) := dk_62 (dk_at dksX6_copy_1 1 rfl rfl)
theorem dX6_copy_26 : decode cX6_copy 26 = .ok (.iload_n 3, 1) := dk_29 (dk_at dksX6_copy_1 2 rfl rfl)
theorem dX6_copy_27 : decode cX6_copy 27 = .ok (.bipush 20, 2) := dk_16 20 (dk_at dksX6_copy_1 3 rfl rfl)
theorem dX6_copy_29 : decode cX6_copy 29 = .ok (.if_icmp .ge 53, 3) := dk_162 0 53 (dk_at dksX6_copy_1 5 rfl rfl)
theorem dX6_copy_32 : decode cX6_copy 32 = .ok (.aload_n 0, 1) := dk_42 (dk_at dksX6_copy_1 8 rfl rfl)
theorem dX6_copy_33 : decode cX6_copy 33 = .ok (.getfield 26, 3) := dk_180 0 26 (dk_at dksX6_copy_1 9 rfl rfl)
theorem dX6_copy_36 : decode cX6_copy 36 = .ok (.bipush 20, 2) := dk_16 20 (dk_at dksX6_copy_1 12 rfl rfl)
theorem dX6_copy_38 : decode cX6_copy 38 = .ok (.iload_n 2, 1) := dk_28 (dk_at dksX6_copy_1 14 rfl rfl)
theorem dX6_copy_39 : decode cX6_copy 39 = .ok (.imul, 1) := dk_104 (dk_at dksX6_copy_1 15 rfl rfl)
theorem dX6_copy_40 : decode cX6_copy 40 = .ok (.iload_n 3, 1) := dk_29 (dk_at dksX6_copy_1 16 rfl rfl)
theorem dX6_copy_41 : decode cX6_copy 41 = .ok (.iadd, 1) := dk_96 (dk_at dksX6_copy_1 17 rfl rfl)
theorem dX6_copy_42 : decode cX6_copy 42 = .ok (.aload_n 0, 1) := dk_42 (dk_at dksX6_copy_1 18 rfl rfl)
theorem dX6_copy_43 : decode cX6_copy 43 = .ok (.getfield 26, 3) := dk_180 0 26 (dk_at dksX6_copy_1 19 rfl rfl)
theorem dX6_copy_46 : decode cX6_copy 46 = .ok (.bipush 20, 2) := dk_16 20 (dk_at dksX6_copy_1 22 rfl rfl)
theorem dX6_copy_48 : decode cX6_copy 48 = .ok (.iload_n 1, 1) := dk_27 (dk_at dksX6_copy_2 0 rfl rfl)
theorem dX6_copy_49 : decode cX6_copy 49 = .ok (.imul, 1) := dk_104 (dk_at dksX6_copy_2 1 rfl rfl)
theorem dX6_copy_50 : decode cX6_copy 50 = .ok (.iload_n 3, 1) := dk_29 (dk_at dksX6_copy_2 2 rfl rfl)
theorem dX6_copy_51 : decode cX6_copy 51 = .ok (.iadd, 1) := dk_96 (dk_at dksX6_copy_2 3 rfl rfl)
theorem dX6_copy_52 : decode cX6_copy 52 = .ok (.caload, 1) := dk_52 (dk_at dksX6_copy_2 4 rfl rfl)
theorem dX6_copy_53 : decode cX6_copy 53 = .ok (.castore, 1) := dk_85 (dk_at dksX6_copy_2 5 rfl rfl)
theorem dX6_copy_54 : decode cX6_copy 54 = .ok (.aload_n 0, 1) := dk_42 (dk_at dksX6_copy_2 6 rfl rfl)
theorem dX6_copy_55 : decode cX6_copy 55 = .ok (.getfield 32, 3) := dk_180 0 32 (dk_at dksX6_copy_2 7 rfl rfl)
theorem dX6_copy_58 : decode cX6_copy 58 = .ok (.bipush 20, 2) := dk_16 20 (dk_at dksX6_copy_2 10 rfl rfl)
theorem dX6_copy_60 : decode cX6_copy 60 = .ok (.iload_n 2, 1) := dk_28 (dk_at dksX6_copy_2 12 rfl rfl)
theorem dX6_copy_61 : decode cX6_copy 61 = .ok (.imul, 1) := dk_104 (dk_at dksX6_copy_2 13 rfl rfl)
theorem dX6_copy_62 : decode cX6_copy 62 = .ok (.iload_n 3, 1) := dk_29 (dk_at dksX6_copy_2 14 rfl rfl)
theorem dX6_copy_63 : decode cX6_copy 63 = .ok (.iadd, 1) := dk_96 (dk_at dksX6_copy_2 15 rfl rfl)
theorem dX6_copy_64 : decode cX6_copy 64 = .ok (.aload_n 0, 1) := dk_42 (dk_at dksX6_copy_2 16 rfl rfl)
theorem dX6_copy_65 : decode cX6_copy 65 = .ok (.getfield 32, 3) := dk_180 0 32 (dk_at dksX6_copy_2 17 rfl rfl)
theorem dX6_copy_68 : decode cX6_copy 68 = .ok (.bipush 20, 2) := dk_16 20 (dk_at dksX6_copy_2 20 rfl rfl)
theorem dX6_copy_70 : decode cX6_copy 70 = .ok (.iload_n 1, 1) := dk_27 (dk_at dksX6_copy_2 22 rfl rfl)
theorem dX6_copy_71 : decode cX6_copy 71 = .ok (.imul, 1) := dk_104 (dk_at dksX6_copy_2 23 rfl rfl)
theorem dX6_copy_72 : decode cX6_copy 72 = .ok (.iload_n 3, 1) := dk_29 (dk_at dksX6_copy_3 0 rfl rfl)
theorem dX6_copy_73 : decode cX6_copy 73 = .ok (.iadd, 1) := dk_96 (dk_at dksX6_copy_3 1 rfl rfl)
theorem dX6_copy_74 : decode cX6_copy 74 = .ok (.caload, 1) := dk_52 (dk_at dksX6_copy_3 2 rfl rfl)
theorem dX6_copy_75 : decode cX6_copy 75 = .ok (.castore, 1) := dk_85 (dk_at dksX6_copy_3 3 rfl rfl)
theorem dX6_copy_76 : decode cX6_copy 76 = .ok (.iinc 3 1, 3) := dk_132 3 1 (dk_at dksX6_copy_3 4 rfl rfl)
theorem dX6_copy_79 : decode cX6_copy 79 = .ok (.goto (-53), 3) := dk_167 255 203 (dk_at dksX6_copy_3 7 rfl rfl)
theorem dX6_copy_82 : decode cX6_copy 82 = .ok (.return_, 1) := dk_177 (dk_at dksX6_copy_3 10 rfl rfl)
abbrev cX6_readName : ByteArray := prog_8_method_29_code
def yX6_readName : MethodName := ⟨RX6, "readName", "(I)V"⟩
def dkwX6_readName_4 : List UInt8 := [104, 28, 96, 52, 85, 132, 2, 1, 167, 255, 224, 177]
abbrev dktX6_readName_4 : List UInt8 := dkwX6_readName_4 ++ []
def dkwX6_readName_3 : List UInt8 := [28, 16, 20, 162, 0, 32, 42, 180, 0, 26, 17, 1, 64, 28, 96, 42, 180, 0, 26, 16, 20, 27, 4, 100]
abbrev dktX6_readName_3 : List UInt8 := dkwX6_readName_3 ++ dktX6_readName_4
def dkwX6_readName_2 : List UInt8 := [180, 0, 192, 154, 0, 4, 177, 42, 180, 0, 23, 16, 16, 42, 180, 0, 23, 27, 4, 100, 46, 79, 3, 61]
abbrev dktX6_readName_2 : List UInt8 := dkwX6_readName_2 ++ dktX6_readName_3
def dkwX6_readName_1 : List UInt8 := [181, 0, 192, 27, 154, 0, 15, 42, 180, 0, 23, 16, 16, 42, 4, 182, 0, 201, 79, 27, 153, 0, 10, 42]
abbrev dktX6_readName_1 : List UInt8 := dkwX6_readName_1 ++ dktX6_readName_2
def dkwX6_readName_0 : List UInt8 := [42, 42, 180, 0, 192, 153, 0, 18, 27, 16, 7, 42, 180, 0, 89, 96, 163, 0, 7, 4, 167, 0, 4, 3]
abbrev dktX6_readName_0 : List UInt8 := dkwX6_readName_0 ++ dktX6_readName_1
theorem dksX6_readName_0 : cX6_readName.data.toList.drop 0 = dktX6_readName_0 := by decide +kernel
theorem dksX6_readName_1 : cX6_readName.data.toList.drop 24 = dktX6_readName_1 := dk_seg dksX6_readName_0 24 rfl rfl
theorem dksX6_readName_2 : cX6_readName.data.toList.drop 48 = dktX6_readName_2 := dk_seg dksX6_readName_1 24 rfl rfl
theorem dksX6_readName_3 : cX6_readName.data.toList.drop 72 = dktX6_readName_3 := dk_seg dksX6_readName_2 24 rfl rfl
theorem dksX6_readName_4 : cX6_readName.data.toList.drop 96 = dktX6_readName_4 := dk_seg dksX6_readName_3 24 rfl rfl
theorem dX6_readName_0 : decode cX6_readName 0 = .ok (.aload_n 0, 1) := dk_42 (dk_at dksX6_readName_0 0 rfl rfl)
theorem dX6_readName_1 : decode cX6_readName 1 = .ok (.aload_n 0, 1) := dk_42 (dk_at dksX6_readName_0 1 rfl rfl)
theorem dX6_readName_2 : decode cX6_readName 2 = .ok (.getfield 192, 3) := dk_180 0 192 (dk_at dksX6_readName_0 2 rfl rfl)
theorem dX6_readName_5 : decode cX6_readName 5 = .ok (.ifCond .eq 18, 3) := dk_153 0 18 (dk_at dksX6_readName_0 5 rfl rfl)
theorem dX6_readName_8 : decode cX6_readName 8 = .ok (.iload_n 1, 1) := dk_27 (dk_at dksX6_readName_0 8 rfl rfl)
theorem dX6_readName_9 : decode cX6_readName 9 = .ok (.bipush 7, 2) := dk_16 7 (dk_at dksX6_readName_0 9 rfl rfl)
theorem dX6_readName_11 : decode cX6_readName 11 = .ok (.aload_n 0, 1) := dk_42 (dk_at dksX6_readName_0 11 rfl rfl)
theorem dX6_readName_12 : decode cX6_readName 12 = .ok (.getfield 89, 3) := dk_180 0 89 (dk_at dksX6_readName_0 12 rfl rfl)
theorem dX6_readName_15 : decode cX6_readName 15 = .ok (.iadd, 1) := dk_96 (dk_at dksX6_readName_0 15 rfl rfl)
theorem dX6_readName_16 : decode cX6_readName 16 = .ok (.if_icmp .gt 7, 3) := dk_163 0 7 (dk_at dksX6_readName_0 16 rfl rfl)
theorem dX6_readName_19 : decode cX6_readName 19 = .ok (.iconst 1, 1) := dk_4 (dk_at dksX6_readName_0 19 rfl rfl)
theorem dX6_readName_20 : decode cX6_readName 20 = .ok (.goto 4, 3) := dk_167 0 4 (dk_at dksX6_readName_0 20 rfl rfl)
theorem dX6_readName_23 : decode cX6_readName 23 = .ok (.iconst 0, 1) := dk_3 (dk_at dksX6_readName_0 23 rfl rfl)
theorem dX6_readName_24 : decode cX6_readName 24 = .ok (.putfield 192, 3) := dk_181 0 192 (dk_at dksX6_readName_1 0 rfl rfl)
theorem dX6_readName_27 : decode cX6_readName 27 = .ok (.iload_n 1, 1) := dk_27 (dk_at dksX6_readName_1 3 rfl rfl)
theorem dX6_readName_28 : decode cX6_readName 28 = .ok (.ifCond .ne 15, 3) := dk_154 0 15 (dk_at dksX6_readName_1 4 rfl rfl)
theorem dX6_readName_31 : decode cX6_readName 31 = .ok (.aload_n 0, 1) := dk_42 (dk_at dksX6_readName_1 7 rfl rfl)
theorem dX6_readName_32 : decode cX6_readName 32 = .ok (.getfield 23, 3) := dk_180 0 23 (dk_at dksX6_readName_1 8 rfl rfl)
theorem dX6_readName_35 : decode cX6_readName 35 = .ok (.bipush 16, 2) := dk_16 16 (dk_at dksX6_readName_1 11 rfl rfl)
theorem dX6_readName_37 : decode cX6_readName 37 = .ok (.aload_n 0, 1) := dk_42 (dk_at dksX6_readName_1 13 rfl rfl)
theorem dX6_readName_38 : decode cX6_readName 38 = .ok (.iconst 1, 1) := dk_4 (dk_at dksX6_readName_1 14 rfl rfl)
theorem dX6_readName_39 : decode cX6_readName 39 = .ok (.invokevirtual 201, 3) := dk_182 0 201 (dk_at dksX6_readName_1 15 rfl rfl)
theorem dX6_readName_42 : decode cX6_readName 42 = .ok (.iastore, 1) := dk_79 (dk_at dksX6_readName_1 18 rfl rfl)
theorem dX6_readName_43 : decode cX6_readName 43 = .ok (.iload_n 1, 1) := dk_27 (dk_at dksX6_readName_1 19 rfl rfl)
theorem dX6_readName_44 : decode cX6_readName 44 = .ok (.ifCond .eq 10, 3) := dk_153 0 10 (dk_at dksX6_readName_1 20 rfl rfl)
theorem dX6_readName_47 : decode cX6_readName 47 = .ok (.aload_n 0, 1) := dk_42 (dk_at dksX6_readName_1 23 rfl rfl)
theorem dX6_readName_48 : decode cX6_readName 48 = .ok (.getfield 192, 3) := dk_180 0 192 (dk_at dksX6_readName_2 0 rfl rfl)
theorem dX6_readName_51 : decode cX6_readName 51 = .ok (.ifCond .ne 4, 3) := dk_154 0 4 (dk_at dksX6_readName_2 3 rfl rfl)
theorem dX6_readName_54 : decode cX6_readName 54 = .ok (.return_, 1) := dk_177 (dk_at dksX6_readName_2 6 rfl rfl)
theorem dX6_readName_55 : decode cX6_readName 55 = .ok (.aload_n 0, 1) := dk_42 (dk_at dksX6_readName_2 7 rfl rfl)
theorem dX6_readName_56 : decode cX6_readName 56 = .ok (.getfield 23, 3) := dk_180 0 23 (dk_at dksX6_readName_2 8 rfl rfl)
theorem dX6_readName_59 : decode cX6_readName 59 = .ok (.bipush 16, 2) := dk_16 16 (dk_at dksX6_readName_2 11 rfl rfl)
theorem dX6_readName_61 : decode cX6_readName 61 = .ok (.aload_n 0, 1) := dk_42 (dk_at dksX6_readName_2 13 rfl rfl)
theorem dX6_readName_62 : decode cX6_readName 62 = .ok (.getfield 23, 3) := dk_180 0 23 (dk_at dksX6_readName_2 14 rfl rfl)
theorem dX6_readName_65 : decode cX6_readName 65 = .ok (.iload_n 1, 1) := dk_27 (dk_at dksX6_readName_2 17 rfl rfl)
theorem dX6_readName_66 : decode cX6_readName 66 = .ok (.iconst 1, 1) := dk_4 (dk_at dksX6_readName_2 18 rfl rfl)
theorem dX6_readName_67 : decode cX6_readName 67 = .ok (.isub, 1) := dk_100 (dk_at dksX6_readName_2 19 rfl rfl)
theorem dX6_readName_68 : decode cX6_readName 68 = .ok (.iaload, 1) := dk_46 (dk_at dksX6_readName_2 20 rfl rfl)
theorem dX6_readName_69 : decode cX6_readName 69 = .ok (.iastore, 1) := dk_79 (dk_at dksX6_readName_2 21 rfl rfl)
theorem dX6_readName_70 : decode cX6_readName 70 = .ok (.iconst 0, 1) := dk_3 (dk_at dksX6_readName_2 22 rfl rfl)
theorem dX6_readName_71 : decode cX6_readName 71 = .ok (.istore_n 2, 1) := dk_61 (dk_at dksX6_readName_2 23 rfl rfl)
theorem dX6_readName_72 : decode cX6_readName 72 = .ok (.iload_n 2, 1) := dk_28 (dk_at dksX6_readName_3 0 rfl rfl)
theorem dX6_readName_73 : decode cX6_readName 73 = .ok (.bipush 20, 2) := dk_16 20 (dk_at dksX6_readName_3 1 rfl rfl)
theorem dX6_readName_75 : decode cX6_readName 75 = .ok (.if_icmp .ge 32, 3) := dk_162 0 32 (dk_at dksX6_readName_3 3 rfl rfl)
theorem dX6_readName_78 : decode cX6_readName 78 = .ok (.aload_n 0, 1) := dk_42 (dk_at dksX6_readName_3 6 rfl rfl)
theorem dX6_readName_79 : decode cX6_readName 79 = .ok (.getfield 26, 3) := dk_180 0 26 (dk_at dksX6_readName_3 7 rfl rfl)
theorem dX6_readName_82 : decode cX6_readName 82 = .ok (.sipush 320, 3) := dk_17 1 64 (dk_at dksX6_readName_3 10 rfl rfl)
theorem dX6_readName_85 : decode cX6_readName 85 = .ok (.iload_n 2, 1) := dk_28 (dk_at dksX6_readName_3 13 rfl rfl)
theorem dX6_readName_86 : decode cX6_readName 86 = .ok (.iadd, 1) := dk_96 (dk_at dksX6_readName_3 14 rfl rfl)
theorem dX6_readName_87 : decode cX6_readName 87 = .ok (.aload_n 0, 1) := dk_42 (dk_at dksX6_readName_3 15 rfl rfl)
theorem dX6_readName_88 : decode cX6_readName 88 = .ok (.getfield 26, 3) := dk_180 0 26 (dk_at dksX6_readName_3 16 rfl rfl)
theorem dX6_readName_91 : decode cX6_readName 91 = .ok (.bipush 20, 2) := dk_16 20 (dk_at dksX6_readName_3 19 rfl rfl)
theorem dX6_readName_93 : decode cX6_readName 93 = .ok (.iload_n 1, 1) := dk_27 (dk_at dksX6_readName_3 21 rfl rfl)
theorem dX6_readName_94 : decode cX6_readName 94 = .ok (.iconst 1, 1) := dk_4 (dk_at dksX6_readName_3 22 rfl rfl)
theorem dX6_readName_95 : decode cX6_readName 95 = .ok (.isub, 1) := dk_100 (dk_at dksX6_readName_3 23 rfl rfl)
theorem dX6_readName_96 : decode cX6_readName 96 = .ok (.imul, 1) := dk_104 (dk_at dksX6_readName_4 0 rfl rfl)
theorem dX6_readName_97 : decode cX6_readName 97 = .ok (.iload_n 2, 1) := dk_28 (dk_at dksX6_readName_4 1 rfl rfl)
theorem dX6_readName_98 : decode cX6_readName 98 = .ok (.iadd, 1) := dk_96 (dk_at dksX6_readName_4 2 rfl rfl)
theorem dX6_readName_99 : decode cX6_readName 99 = .ok (.caload, 1) := dk_52 (dk_at dksX6_readName_4 3 rfl rfl)
theorem dX6_readName_100 : decode cX6_readName 100 = .ok (.castore, 1) := dk_85 (dk_at dksX6_readName_4 4 rfl rfl)
theorem dX6_readName_101 : decode cX6_readName 101 = .ok (.iinc 2 1, 3) := dk_132 2 1 (dk_at dksX6_readName_4 5 rfl rfl)
theorem dX6_readName_104 : decode cX6_readName 104 = .ok (.goto (-32), 3) := dk_167 255 224 (dk_at dksX6_readName_4 8 rfl rfl)
theorem dX6_readName_107 : decode cX6_readName 107 = .ok (.return_, 1) := dk_177 (dk_at dksX6_readName_4 11 rfl rfl)
abbrev cX6_readString : ByteArray := prog_8_method_28_code
def yX6_readString : MethodName := ⟨RX6, "readString", "(Z)I"⟩
def dkwX6_readString_5 : List UInt8 := [154, 0, 16, 42, 180, 0, 32, 17, 1, 64, 29, 96, 21, 4, 146, 85, 132, 3, 1, 167, 255, 159, 28, 172]
abbrev dktX6_readString_5 : List UInt8 := dkwX6_readString_5 ++ []
def dkwX6_readString_4 : List UInt8 := [153, 0, 16, 42, 180, 0, 26, 17, 1, 64, 29, 96, 21, 4, 146, 85, 42, 180, 0, 192, 153, 0, 20, 27]
abbrev dktX6_readString_4 : List UInt8 := dkwX6_readString_4 ++ dktX6_readString_5
def dkwX6_readString_3 : List UInt8 := [16, 126, 184, 0, 158, 154, 0, 7, 4, 167, 0, 4, 3, 181, 0, 192, 42, 180, 0, 192, 153, 0, 20, 27]
abbrev dktX6_readString_3 : List UInt8 := dkwX6_readString_3 ++ dktX6_readString_4
def dkwX6_readString_2 : List UInt8 := [180, 0, 192, 153, 0, 91, 42, 182, 0, 198, 54, 4, 42, 42, 180, 0, 192, 153, 0, 19, 21, 4, 16, 33]
abbrev dktX6_readString_2 : List UInt8 := dkwX6_readString_2 ++ dktX6_readString_3
def dkwX6_readString_1 : List UInt8 := [16, 20, 184, 0, 158, 154, 0, 7, 4, 167, 0, 4, 3, 181, 0, 192, 3, 62, 29, 28, 162, 0, 98, 42]
abbrev dktX6_readString_1 : List UInt8 := dkwX6_readString_1 ++ dktX6_readString_2
def dkwX6_readString_0 : List UInt8 := [42, 182, 0, 198, 61, 42, 42, 180, 0, 192, 153, 0, 25, 28, 27, 153, 0, 7, 4, 167, 0, 4, 3]
abbrev dktX6_readString_0 : List UInt8 := dkwX6_readString_0 ++ dktX6_readString_1
theorem dksX6_readString_0 : cX6_readString.data.toList.drop 0 = dktX6_readString_0 := by decide +kernel
theorem dksX6_readString_1 : cX6_readString.data.toList.drop 23 = dktX6_readString_1 := dk_seg dksX6_readString_0 23 rfl rfl
theorem dksX6_readString_2 : cX6_readString.data.toList.drop 47 = dktX6_readString_2 := dk_seg dksX6_readString_1 24 rfl rfl
theorem dksX6_readString_3 : cX6_readString.data.toList.drop 71 = dktX6_readString_3 := dk_seg dksX6_readString_2 24 rfl rfl
theorem dksX6_readString_4 : cX6_readString.data.toList.drop 95 = dktX6_readString_4 := dk_seg dksX6_readString_3 24 rfl rfl
theorem dksX6_readString_5 : cX6_readString.data.toList.drop 119 = dktX6_readString_5 := dk_seg dksX6_readString_4 24 rfl rfl
theorem dX6_readString_0 : decode cX6_readString 0 = .ok (.aload_n 0, 1) := dk_42 (dk_at dksX6_readString_0 0 rfl rfl)
theorem dX6_readString_1 : decode cX6_readString 1 = .ok (.invokevirtual 198, 3) := dk_182 0 198 (dk_at dksX6_readString_0 1 rfl rfl)
theorem dX6_readString_4 : decode cX6_readString 4 = .ok (.istore_n 2, 1) := dk_61 (dk_at dksX6_readString_0 4 rfl rfl)
theorem dX6_readString_5 : decode cX6_readString 5 = .ok (.aload_n 0, 1) := dk_42 (dk_at dksX6_readString_0 5 rfl rfl)
theorem dX6_readString_6 : decode cX6_readString 6 = .ok (.aload_n 0, 1) := dk_42 (dk_at dksX6_readString_0 6 rfl rfl)
theorem dX6_readString_7 : decode cX6_readString 7 = .ok (.getfield 192, 3) := dk_180 0 192 (dk_at dksX6_readString_0 7 rfl rfl)
theorem dX6_readString_10 : decode cX6_readString 10 = .ok (.ifCond .eq 25, 3) := dk_153 0 25 (dk_at dksX6_readString_0 10 rfl rfl)
theorem dX6_readString_13 : decode cX6_readString 13 = .ok (.iload_n 2, 1) := dk_28 (dk_at dksX6_readString_0 13 rfl rfl)
theorem dX6_readString_14 : decode cX6_readString 14 = .ok (.iload_n 1, 1) := dk_27 (dk_at dksX6_readString_0 14 rfl rfl)
theorem dX6_readString_15 : decode cX6_readString 15 = .ok (.ifCond .eq 7, 3) := dk_153 0 7 (dk_at dksX6_readString_0 15 rfl rfl)
theorem dX6_readString_18 : decode cX6_readString 18 = .ok (.iconst 1, 1) := dk_4 (dk_at dksX6_readString_0 18 rfl rfl)
theorem dX6_readString_19 : decode cX6_readString 19 = .ok (.goto 4, 3) := dk_167 0 4 (dk_at dksX6_readString_0 19 rfl rfl)
theorem dX6_readString_22 : decode cX6_readString 22 = .ok (.iconst 0, 1) := dk_3 (dk_at dksX6_readString_0 22 rfl rfl)
theorem dX6_readString_23 : decode cX6_readString 23 = .ok (.bipush 20, 2) := dk_16 20 (dk_at dksX6_readString_1 0 rfl rfl)
theorem dX6_readString_25 : decode cX6_readString 25 = .ok (.invokestatic 158, 3) := dk_184 0 158 (dk_at dksX6_readString_1 2 rfl rfl)
theorem dX6_readString_28 : decode cX6_readString 28 = .ok (.ifCond .ne 7, 3) := dk_154 0 7 (dk_at dksX6_readString_1 5 rfl rfl)
theorem dX6_readString_31 : decode cX6_readString 31 = .ok (.iconst 1, 1) := dk_4 (dk_at dksX6_readString_1 8 rfl rfl)
theorem dX6_readString_32 : decode cX6_readString 32 = .ok (.goto 4, 3) := dk_167 0 4 (dk_at dksX6_readString_1 9 rfl rfl)
theorem dX6_readString_35 : decode cX6_readString 35 = .ok (.iconst 0, 1) := dk_3 (dk_at dksX6_readString_1 12 rfl rfl)
theorem dX6_readString_36 : decode cX6_readString 36 = .ok (.putfield 192, 3) := dk_181 0 192 (dk_at dksX6_readString_1 13 rfl rfl)
theorem dX6_readString_39 : decode cX6_readString 39 = .ok (.iconst 0, 1) := dk_3 (dk_at dksX6_readString_1 16 rfl rfl)
theorem dX6_readString_40 : decode cX6_readString 40 = .ok (.istore_n 3, 1) := dk_62 (dk_at dksX6_readString_1 17 rfl rfl)
theorem dX6_readString_41 : decode cX6_readString 41 = .ok (.iload_n 3, 1) := dk_29 (dk_at dksX6_readString_1 18 rfl rfl)
theorem dX6_readString_42 : decode cX6_readString 42 = .ok (.iload_n 2, 1) := dk_28 (dk_at dksX6_readString_1 19 rfl rfl)
theorem dX6_readString_43 : decode cX6_readString 43 = .ok (.if_icmp .ge 98, 3) := dk_162 0 98 (dk_at dksX6_readString_1 20 rfl rfl)
theorem dX6_readString_46 : decode cX6_readString 46 = .ok (.aload_n 0, 1) := dk_42 (dk_at dksX6_readString_1 23 rfl rfl)
theorem dX6_readString_47 : decode cX6_readString 47 = .ok (.getfield 192, 3) := dk_180 0 192 (dk_at dksX6_readString_2 0 rfl rfl)
theorem dX6_readString_50 : decode cX6_readString 50 = .ok (.ifCond .eq 91, 3) := dk_153 0 91 (dk_at dksX6_readString_2 3 rfl rfl)
theorem dX6_readString_53 : decode cX6_readString 53 = .ok (.aload_n 0, 1) := dk_42 (dk_at dksX6_readString_2 6 rfl rfl)
theorem dX6_readString_54 : decode cX6_readString 54 = .ok (.invokevirtual 198, 3) := dk_182 0 198 (dk_at dksX6_readString_2 7 rfl rfl)
theorem dX6_readString_57 : decode cX6_readString 57 = .ok (.istore 4, 2) := dk_54 4 (dk_at dksX6_readString_2 10 rfl rfl)
theorem dX6_readString_59 : decode cX6_readString 59 = .ok (.aload_n 0, 1) := dk_42 (dk_at dksX6_readString_2 12 rfl rfl)
theorem dX6_readString_60 : decode cX6_readString 60 = .ok (.aload_n 0, 1) := dk_42 (dk_at dksX6_readString_2 13 rfl rfl)
theorem dX6_readString_61 : decode cX6_readString 61 = .ok (.getfield 192, 3) := dk_180 0 192 (dk_at dksX6_readString_2 14 rfl rfl)
theorem dX6_readString_64 : decode cX6_readString 64 = .ok (.ifCond .eq 19, 3) := dk_153 0 19 (dk_at dksX6_readString_2 17 rfl rfl)
theorem dX6_readString_67 : decode cX6_readString 67 = .ok (.iload 4, 2) := dk_21 4 (dk_at dksX6_readString_2 20 rfl rfl)
theorem dX6_readString_69 : decode cX6_readString 69 = .ok (.bipush 33, 2) := dk_16 33 (dk_at dksX6_readString_2 22 rfl rfl)
theorem dX6_readString_71 : decode cX6_readString 71 = .ok (.bipush 126, 2) := dk_16 126 (dk_at dksX6_readString_3 0 rfl rfl)
theorem dX6_readString_73 : decode cX6_readString 73 = .ok (.invokestatic 158, 3) := dk_184 0 158 (dk_at dksX6_readString_3 2 rfl rfl)
theorem dX6_readString_76 : decode cX6_readString 76 = .ok (.ifCond .ne 7, 3) := dk_154 0 7 (dk_at dksX6_readString_3 5 rfl rfl)
theorem dX6_readString_79 : decode cX6_readString 79 = .ok (.iconst 1, 1) := dk_4 (dk_at dksX6_readString_3 8 rfl rfl)
theorem dX6_readString_80 : decode cX6_readString 80 = .ok (.goto 4, 3) := dk_167 0 4 (dk_at dksX6_readString_3 9 rfl rfl)
theorem dX6_readString_83 : decode cX6_readString 83 = .ok (.iconst 0, 1) := dk_3 (dk_at dksX6_readString_3 12 rfl rfl)
theorem dX6_readString_84 : decode cX6_readString 84 = .ok (.putfield 192, 3) := dk_181 0 192 (dk_at dksX6_readString_3 13 rfl rfl)
theorem dX6_readString_87 : decode cX6_readString 87 = .ok (.aload_n 0, 1) := dk_42 (dk_at dksX6_readString_3 16 rfl rfl)
theorem dX6_readString_88 : decode cX6_readString 88 = .ok (.getfield 192, 3) := dk_180 0 192 (dk_at dksX6_readString_3 17 rfl rfl)
theorem dX6_readString_91 : decode cX6_readString 91 = .ok (.ifCond .eq 20, 3) := dk_153 0 20 (dk_at dksX6_readString_3 20 rfl rfl)
theorem dX6_readString_94 : decode cX6_readString 94 = .ok (.iload_n 1, 1) := dk_27 (dk_at dksX6_readString_3 23 rfl rfl)
theorem dX6_readString_95 : decode cX6_readString 95 = .ok (.ifCond .eq 16, 3) := dk_153 0 16 (dk_at dksX6_readString_4 0 rfl rfl)
theorem dX6_readString_98 : decode cX6_readString 98 = .ok (.aload_n 0, 1) := dk_42 (dk_at dksX6_readString_4 3 rfl rfl)
theorem dX6_readString_99 : decode cX6_readString 99 = .ok (.getfield 26, 3) := dk_180 0 26 (dk_at dksX6_readString_4 4 rfl rfl)
theorem dX6_readString_102 : decode cX6_readString 102 = .ok (.sipush 320, 3) := dk_17 1 64 (dk_at dksX6_readString_4 7 rfl rfl)
theorem dX6_readString_105 : decode cX6_readString 105 = .ok (.iload_n 3, 1) := dk_29 (dk_at dksX6_readString_4 10 rfl rfl)
theorem dX6_readString_106 : decode cX6_readString 106 = .ok (.iadd, 1) := dk_96 (dk_at dksX6_readString_4 11 rfl rfl)
theorem dX6_readString_107 : decode cX6_readString 107 = .ok (.iload 4, 2) := dk_21 4 (dk_at dksX6_readString_4 12 rfl rfl)
theorem dX6_readString_109 : decode cX6_readString 109 = .ok (.i2c, 1) := dk_146 (dk_at dksX6_readString_4 14 rfl rfl)
theorem dX6_readString_110 : decode cX6_readString 110 = .ok (.castore, 1) := dk_85 (dk_at dksX6_readString_4 15 rfl rfl)
theorem dX6_readString_111 : decode cX6_readString 111 = .ok (.aload_n 0, 1) := dk_42 (dk_at dksX6_readString_4 16 rfl rfl)
theorem dX6_readString_112 : decode cX6_readString 112 = .ok (.getfield 192, 3) := dk_180 0 192 (dk_at dksX6_readString_4 17 rfl rfl)
theorem dX6_readString_115 : decode cX6_readString 115 = .ok (.ifCond .eq 20, 3) := dk_153 0 20 (dk_at dksX6_readString_4 20 rfl rfl)
theorem dX6_readString_118 : decode cX6_readString 118 = .ok (.iload_n 1, 1) := dk_27 (dk_at dksX6_readString_4 23 rfl rfl)
theorem dX6_readString_119 : decode cX6_readString 119 = .ok (.ifCond .ne 16, 3) := dk_154 0 16 (dk_at dksX6_readString_5 0 rfl rfl)
theorem dX6_readString_122 : decode cX6_readString 122 = .ok (.aload_n 0, 1) := dk_42 (dk_at dksX6_readString_5 3 rfl rfl)
theorem dX6_readString_123 : decode cX6_readString 123 = .ok (.getfield 32, 3) := dk_180 0 32 (dk_at dksX6_readString_5 4 rfl rfl)
theorem dX6_readString_126 : decode cX6_readString 126 = .ok (.sipush 320, 3) := dk_17 1 64 (dk_at dksX6_readString_5 7 rfl rfl)
theorem dX6_readString_129 : decode cX6_readString 129 = .ok (.iload_n 3, 1) := dk_29 (dk_at dksX6_readString_5 10 rfl rfl)
theorem dX6_readString_130 : decode cX6_readString 130 = .ok (.iadd, 1) := dk_96 (dk_at dksX6_readString_5 11 rfl rfl)
theorem dX6_readString_131 : decode cX6_readString 131 = .ok (.iload 4, 2) := dk_21 4 (dk_at dksX6_readString_5 12 rfl rfl)
theorem dX6_readString_133 : decode cX6_readString 133 = .ok (.i2c, 1) := dk_146 (dk_at dksX6_readString_5 14 rfl rfl)
theorem dX6_readString_134 : decode cX6_readString 134 = .ok (.castore, 1) := dk_85 (dk_at dksX6_readString_5 15 rfl rfl)
theorem dX6_readString_135 : decode cX6_readString 135 = .ok (.iinc 3 1, 3) := dk_132 3 1 (dk_at dksX6_readString_5 16 rfl rfl)
theorem dX6_readString_138 : decode cX6_readString 138 = .ok (.goto (-97), 3) := dk_167 255 159 (dk_at dksX6_readString_5 19 rfl rfl)
theorem dX6_readString_141 : decode cX6_readString 141 = .ok (.iload_n 2, 1) := dk_28 (dk_at dksX6_readString_5 22 rfl rfl)
theorem dX6_readString_142 : decode cX6_readString 142 = .ok (.ireturn, 1) := dk_172 (dk_at dksX6_readString_5 23 rfl rfl)
abbrev cX6_insert : ByteArray := prog_8_method_26_code
def yX6_insert : MethodName := ⟨RX6, "insert", "()V"⟩
def dkwX6_insert_3 : List UInt8 := [177]
abbrev dktX6_insert_3 : List UInt8 := dkwX6_insert_3 ++ []
def dkwX6_insert_2 : List UInt8 := [132, 1, 255, 167, 255, 239, 42, 16, 16, 16, 7, 182, 0, 189, 42, 89, 180, 0, 89, 4, 96, 181, 0, 89]
abbrev dktX6_insert_2 : List UInt8 := dkwX6_insert_2 ++ dktX6_insert_3
def dkwX6_insert_1 : List UInt8 := [16, 6, 42, 180, 0, 89, 96, 60, 27, 16, 7, 161, 0, 17, 42, 27, 27, 4, 96, 182, 0, 189]
abbrev dktX6_insert_1 : List UInt8 := dkwX6_insert_1 ++ dktX6_insert_2
def dkwX6_insert_0 : List UInt8 := [42, 42, 16, 16, 182, 0, 179, 182, 0, 186, 42, 16, 16, 182, 0, 179, 42, 180, 0, 92, 164, 0, 4, 177]
abbrev dktX6_insert_0 : List UInt8 := dkwX6_insert_0 ++ dktX6_insert_1
theorem dksX6_insert_0 : cX6_insert.data.toList.drop 0 = dktX6_insert_0 := by decide +kernel
theorem dksX6_insert_1 : cX6_insert.data.toList.drop 24 = dktX6_insert_1 := dk_seg dksX6_insert_0 24 rfl rfl
theorem dksX6_insert_2 : cX6_insert.data.toList.drop 46 = dktX6_insert_2 := dk_seg dksX6_insert_1 22 rfl rfl
theorem dksX6_insert_3 : cX6_insert.data.toList.drop 70 = dktX6_insert_3 := dk_seg dksX6_insert_2 24 rfl rfl
theorem dX6_insert_0 : decode cX6_insert 0 = .ok (.aload_n 0, 1) := dk_42 (dk_at dksX6_insert_0 0 rfl rfl)
theorem dX6_insert_1 : decode cX6_insert 1 = .ok (.aload_n 0, 1) := dk_42 (dk_at dksX6_insert_0 1 rfl rfl)
theorem dX6_insert_2 : decode cX6_insert 2 = .ok (.bipush 16, 2) := dk_16 16 (dk_at dksX6_insert_0 2 rfl rfl)
theorem dX6_insert_4 : decode cX6_insert 4 = .ok (.invokevirtual 179, 3) := dk_182 0 179 (dk_at dksX6_insert_0 4 rfl rfl)
theorem dX6_insert_7 : decode cX6_insert 7 = .ok (.invokevirtual 186, 3) := dk_182 0 186 (dk_at dksX6_insert_0 7 rfl rfl)
theorem dX6_insert_10 : decode cX6_insert 10 = .ok (.aload_n 0, 1) := dk_42 (dk_at dksX6_insert_0 10 rfl rfl)
theorem dX6_insert_11 : decode cX6_insert 11 = .ok (.bipush 16, 2) := dk_16 16 (dk_at dksX6_insert_0 11 rfl rfl)
theorem dX6_insert_13 : decode cX6_insert 13 = .ok (.invokevirtual 179, 3) := dk_182 0 179 (dk_at dksX6_insert_0 13 rfl rfl)
theorem dX6_insert_16 : decode cX6_insert 16 = .ok (.aload_n 0, 1) := dk_42 (dk_at dksX6_insert_0 16 rfl rfl)
theorem dX6_insert_17 : decode cX6_insert 17 = .ok (.getfield 92, 3) := dk_180 0 92 (dk_at dksX6_insert_0 17 rfl rfl)
theorem dX6_insert_20 : decode cX6_insert 20 = .ok (.if_icmp .le 4, 3) := dk_164 0 4 (dk_at dksX6_insert_0 20 rfl rfl)
theorem dX6_insert_23 : decode cX6_insert 23 = .ok (.return_, 1) := dk_177 (dk_at dksX6_insert_0 23 rfl rfl)
theorem dX6_insert_24 : decode cX6_insert 24 = .ok (.bipush 6, 2) := dk_16 6 (dk_at dksX6_insert_1 0 rfl rfl)
theorem dX6_insert_26 : decode cX6_insert 26 = .ok (.aload_n 0, 1) := dk_42 (dk_at dksX6_insert_1 2 rfl rfl)
theorem dX6_insert_27 : decode cX6_insert 27 = .ok (.getfield 89, 3) := dk_180 0 89 (dk_at dksX6_insert_1 3 rfl rfl)
theorem dX6_insert_30 : decode cX6_insert 30 = .ok (.iadd, 1) := dk_96 (dk_at dksX6_insert_1 6 rfl rfl)
theorem dX6_insert_31 : decode cX6_insert 31 = .ok (.istore_n 1, 1) := dk_60 (dk_at dksX6_insert_1 7 rfl rfl)
theorem dX6_insert_32 : decode cX6_insert 32 = .ok (.iload_n 1, 1) := dk_27 (dk_at dksX6_insert_1 8 rfl rfl)
theorem dX6_insert_33 : decode cX6_insert 33 = .ok (.bipush 7, 2) := dk_16 7 (dk_at dksX6_insert_1 9 rfl rfl)
theorem dX6_insert_35 : decode cX6_insert 35 = .ok (.if_icmp .lt 17, 3) := dk_161 0 17 (dk_at dksX6_insert_1 11 rfl rfl)
theorem dX6_insert_38 : decode cX6_insert 38 = .ok (.aload_n 0, 1) := dk_42 (dk_at dksX6_insert_1 14 rfl rfl)
theorem dX6_insert_39 : decode cX6_insert 39 = .ok (.iload_n 1, 1) := dk_27 (dk_at dksX6_insert_1 15 rfl rfl)
theorem dX6_insert_40 : decode cX6_insert 40 = .ok (.iload_n 1, 1) := dk_27 (dk_at dksX6_insert_1 16 rfl rfl)
theorem dX6_insert_41 : decode cX6_insert 41 = .ok (.iconst 1, 1) := dk_4 (dk_at dksX6_insert_1 17 rfl rfl)
theorem dX6_insert_42 : decode cX6_insert 42 = .ok (.iadd, 1) := dk_96 (dk_at dksX6_insert_1 18 rfl rfl)
theorem dX6_insert_43 : decode cX6_insert 43 = .ok (.invokevirtual 189, 3) := dk_182 0 189 (dk_at dksX6_insert_1 19 rfl rfl)
theorem dX6_insert_46 : decode cX6_insert 46 = .ok (.iinc 1 (-1), 3) := dk_132 1 255 (dk_at dksX6_insert_2 0 rfl rfl)
theorem dX6_insert_49 : decode cX6_insert 49 = .ok (.goto (-17), 3) := dk_167 255 239 (dk_at dksX6_insert_2 3 rfl rfl)
theorem dX6_insert_52 : decode cX6_insert 52 = .ok (.aload_n 0, 1) := dk_42 (dk_at dksX6_insert_2 6 rfl rfl)
theorem dX6_insert_53 : decode cX6_insert 53 = .ok (.bipush 16, 2) := dk_16 16 (dk_at dksX6_insert_2 7 rfl rfl)
theorem dX6_insert_55 : decode cX6_insert 55 = .ok (.bipush 7, 2) := dk_16 7 (dk_at dksX6_insert_2 9 rfl rfl)
theorem dX6_insert_57 : decode cX6_insert 57 = .ok (.invokevirtual 189, 3) := dk_182 0 189 (dk_at dksX6_insert_2 11 rfl rfl)
theorem dX6_insert_60 : decode cX6_insert 60 = .ok (.aload_n 0, 1) := dk_42 (dk_at dksX6_insert_2 14 rfl rfl)
theorem dX6_insert_61 : decode cX6_insert 61 = .ok (.dup, 1) := dk_89 (dk_at dksX6_insert_2 15 rfl rfl)
theorem dX6_insert_62 : decode cX6_insert 62 = .ok (.getfield 89, 3) := dk_180 0 89 (dk_at dksX6_insert_2 16 rfl rfl)
theorem dX6_insert_65 : decode cX6_insert 65 = .ok (.iconst 1, 1) := dk_4 (dk_at dksX6_insert_2 19 rfl rfl)
theorem dX6_insert_66 : decode cX6_insert 66 = .ok (.iadd, 1) := dk_96 (dk_at dksX6_insert_2 20 rfl rfl)
theorem dX6_insert_67 : decode cX6_insert 67 = .ok (.putfield 89, 3) := dk_181 0 89 (dk_at dksX6_insert_2 21 rfl rfl)
theorem dX6_insert_70 : decode cX6_insert 70 = .ok (.return_, 1) := dk_177 (dk_at dksX6_insert_3 0 rfl rfl)
abbrev cX6_takes : ByteArray := prog_8_method_22_code
def yX6_takes : MethodName := ⟨RX6, "takes", "(I)I"⟩
def dkwX6_takes_0 : List UInt8 := [5, 42, 180, 0, 23, 27, 46, 96, 42, 180, 0, 29, 27, 46, 96, 172]
abbrev dktX6_takes_0 : List UInt8 := dkwX6_takes_0 ++ []
theorem dksX6_takes_0 : cX6_takes.data.toList.drop 0 = dktX6_takes_0 := by decide +kernel
theorem dX6_takes_0 : decode cX6_takes 0 = .ok (.iconst 2, 1) := dk_5 (dk_at dksX6_takes_0 0 rfl rfl)
theorem dX6_takes_1 : decode cX6_takes 1 = .ok (.aload_n 0, 1) := dk_42 (dk_at dksX6_takes_0 1 rfl rfl)
theorem dX6_takes_2 : decode cX6_takes 2 = .ok (.getfield 23, 3) := dk_180 0 23 (dk_at dksX6_takes_0 2 rfl rfl)
theorem dX6_takes_5 : decode cX6_takes 5 = .ok (.iload_n 1, 1) := dk_27 (dk_at dksX6_takes_0 5 rfl rfl)
theorem dX6_takes_6 : decode cX6_takes 6 = .ok (.iaload, 1) := dk_46 (dk_at dksX6_takes_0 6 rfl rfl)
theorem dX6_takes_7 : decode cX6_takes 7 = .ok (.iadd, 1) := dk_96 (dk_at dksX6_takes_0 7 rfl rfl)
theorem dX6_takes_8 : decode cX6_takes 8 = .ok (.aload_n 0, 1) := dk_42 (dk_at dksX6_takes_0 8 rfl rfl)
theorem dX6_takes_9 : decode cX6_takes 9 = .ok (.getfield 29, 3) := dk_180 0 29 (dk_at dksX6_takes_0 9 rfl rfl)
theorem dX6_takes_12 : decode cX6_takes 12 = .ok (.iload_n 1, 1) := dk_27 (dk_at dksX6_takes_0 12 rfl rfl)
theorem dX6_takes_13 : decode cX6_takes 13 = .ok (.iaload, 1) := dk_46 (dk_at dksX6_takes_0 13 rfl rfl)
theorem dX6_takes_14 : decode cX6_takes 14 = .ok (.iadd, 1) := dk_96 (dk_at dksX6_takes_0 14 rfl rfl)
theorem dX6_takes_15 : decode cX6_takes 15 = .ok (.ireturn, 1) := dk_172 (dk_at dksX6_takes_0 15 rfl rfl)
abbrev cX6_evict : ByteArray := prog_8_method_24_code
def yX6_evict : MethodName := ⟨RX6, "evict", "(I)V"⟩
def dkwX6_evict_1 : List UInt8 := [180, 0, 89, 4, 100, 181, 0, 89, 167, 255, 226, 177]
abbrev dktX6_evict_1 : List UInt8 := dkwX6_evict_1 ++ []
def dkwX6_evict_0 : List UInt8 := [42, 180, 0, 89, 158, 0, 29, 42, 182, 0, 182, 27, 96, 42, 180, 0, 92, 164, 0, 16, 42, 89]
abbrev dktX6_evict_0 : List UInt8 := dkwX6_evict_0 ++ dktX6_evict_1
theorem dksX6_evict_0 : cX6_evict.data.toList.drop 0 = dktX6_evict_0 := by decide +kernel
theorem dksX6_evict_1 : cX6_evict.data.toList.drop 22 = dktX6_evict_1 := dk_seg dksX6_evict_0 22 rfl rfl
theorem dX6_evict_0 : decode cX6_evict 0 = .ok (.aload_n 0, 1) := dk_42 (dk_at dksX6_evict_0 0 rfl rfl)
theorem dX6_evict_1 : decode cX6_evict 1 = .ok (.getfield 89, 3) := dk_180 0 89 (dk_at dksX6_evict_0 1 rfl rfl)
theorem dX6_evict_4 : decode cX6_evict 4 = .ok (.ifCond .le 29, 3) := dk_158 0 29 (dk_at dksX6_evict_0 4 rfl rfl)
theorem dX6_evict_7 : decode cX6_evict 7 = .ok (.aload_n 0, 1) := dk_42 (dk_at dksX6_evict_0 7 rfl rfl)
theorem dX6_evict_8 : decode cX6_evict 8 = .ok (.invokevirtual 182, 3) := dk_182 0 182 (dk_at dksX6_evict_0 8 rfl rfl)
theorem dX6_evict_11 : decode cX6_evict 11 = .ok (.iload_n 1, 1) := dk_27 (dk_at dksX6_evict_0 11 rfl rfl)
theorem dX6_evict_12 : decode cX6_evict 12 = .ok (.iadd, 1) := dk_96 (dk_at dksX6_evict_0 12 rfl rfl)
theorem dX6_evict_13 : decode cX6_evict 13 = .ok (.aload_n 0, 1) := dk_42 (dk_at dksX6_evict_0 13 rfl rfl)
theorem dX6_evict_14 : decode cX6_evict 14 = .ok (.getfield 92, 3) := dk_180 0 92 (dk_at dksX6_evict_0 14 rfl rfl)
theorem dX6_evict_17 : decode cX6_evict 17 = .ok (.if_icmp .le 16, 3) := dk_164 0 16 (dk_at dksX6_evict_0 17 rfl rfl)
theorem dX6_evict_20 : decode cX6_evict 20 = .ok (.aload_n 0, 1) := dk_42 (dk_at dksX6_evict_0 20 rfl rfl)
theorem dX6_evict_21 : decode cX6_evict 21 = .ok (.dup, 1) := dk_89 (dk_at dksX6_evict_0 21 rfl rfl)
theorem dX6_evict_22 : decode cX6_evict 22 = .ok (.getfield 89, 3) := dk_180 0 89 (dk_at dksX6_evict_1 0 rfl rfl)
theorem dX6_evict_25 : decode cX6_evict 25 = .ok (.iconst 1, 1) := dk_4 (dk_at dksX6_evict_1 3 rfl rfl)
theorem dX6_evict_26 : decode cX6_evict 26 = .ok (.isub, 1) := dk_100 (dk_at dksX6_evict_1 4 rfl rfl)
theorem dX6_evict_27 : decode cX6_evict 27 = .ok (.putfield 89, 3) := dk_181 0 89 (dk_at dksX6_evict_1 5 rfl rfl)
theorem dX6_evict_30 : decode cX6_evict 30 = .ok (.goto (-30), 3) := dk_167 255 226 (dk_at dksX6_evict_1 8 rfl rfl)
theorem dX6_evict_33 : decode cX6_evict 33 = .ok (.return_, 1) := dk_177 (dk_at dksX6_evict_1 11 rfl rfl)
abbrev cX6_taken : ByteArray := prog_8_method_23_code
def yX6_taken : MethodName := ⟨RX6, "taken", "()I"⟩
def dkwX6_taken_1 : List UInt8 := [132, 2, 1, 167, 255, 234, 27, 172]
abbrev dktX6_taken_1 : List UInt8 := dkwX6_taken_1 ++ []
def dkwX6_taken_0 : List UInt8 := [3, 60, 16, 7, 61, 28, 16, 7, 42, 180, 0, 89, 96, 162, 0, 17, 27, 42, 28, 182, 0, 179, 96, 60]
abbrev dktX6_taken_0 : List UInt8 := dkwX6_taken_0 ++ dktX6_taken_1
theorem dksX6_taken_0 : cX6_taken.data.toList.drop 0 = dktX6_taken_0 := by decide +kernel
theorem dksX6_taken_1 : cX6_taken.data.toList.drop 24 = dktX6_taken_1 := dk_seg dksX6_taken_0 24 rfl rfl
theorem dX6_taken_0 : decode cX6_taken 0 = .ok (.iconst 0, 1) := dk_3 (dk_at dksX6_taken_0 0 rfl rfl)
theorem dX6_taken_1 : decode cX6_taken 1 = .ok (.istore_n 1, 1) := dk_60 (dk_at dksX6_taken_0 1 rfl rfl)
theorem dX6_taken_2 : decode cX6_taken 2 = .ok (.bipush 7, 2) := dk_16 7 (dk_at dksX6_taken_0 2 rfl rfl)
theorem dX6_taken_4 : decode cX6_taken 4 = .ok (.istore_n 2, 1) := dk_61 (dk_at dksX6_taken_0 4 rfl rfl)
theorem dX6_taken_5 : decode cX6_taken 5 = .ok (.iload_n 2, 1) := dk_28 (dk_at dksX6_taken_0 5 rfl rfl)
theorem dX6_taken_6 : decode cX6_taken 6 = .ok (.bipush 7, 2) := dk_16 7 (dk_at dksX6_taken_0 6 rfl rfl)
theorem dX6_taken_8 : decode cX6_taken 8 = .ok (.aload_n 0, 1) := dk_42 (dk_at dksX6_taken_0 8 rfl rfl)
theorem dX6_taken_9 : decode cX6_taken 9 = .ok (.getfield 89, 3) := dk_180 0 89 (dk_at dksX6_taken_0 9 rfl rfl)
theorem dX6_taken_12 : decode cX6_taken 12 = .ok (.iadd, 1) := dk_96 (dk_at dksX6_taken_0 12 rfl rfl)
theorem dX6_taken_13 : decode cX6_taken 13 = .ok (.if_icmp .ge 17, 3) := dk_162 0 17 (dk_at dksX6_taken_0 13 rfl rfl)
theorem dX6_taken_16 : decode cX6_taken 16 = .ok (.iload_n 1, 1) := dk_27 (dk_at dksX6_taken_0 16 rfl rfl)
theorem dX6_taken_17 : decode cX6_taken 17 = .ok (.aload_n 0, 1) := dk_42 (dk_at dksX6_taken_0 17 rfl rfl)
theorem dX6_taken_18 : decode cX6_taken 18 = .ok (.iload_n 2, 1) := dk_28 (dk_at dksX6_taken_0 18 rfl rfl)
theorem dX6_taken_19 : decode cX6_taken 19 = .ok (.invokevirtual 179, 3) := dk_182 0 179 (dk_at dksX6_taken_0 19 rfl rfl)
theorem dX6_taken_22 : decode cX6_taken 22 = .ok (.iadd, 1) := dk_96 (dk_at dksX6_taken_0 22 rfl rfl)
theorem dX6_taken_23 : decode cX6_taken 23 = .ok (.istore_n 1, 1) := dk_60 (dk_at dksX6_taken_0 23 rfl rfl)
theorem dX6_taken_24 : decode cX6_taken 24 = .ok (.iinc 2 1, 3) := dk_132 2 1 (dk_at dksX6_taken_1 0 rfl rfl)
theorem dX6_taken_27 : decode cX6_taken 27 = .ok (.goto (-22), 3) := dk_167 255 234 (dk_at dksX6_taken_1 3 rfl rfl)
theorem dX6_taken_30 : decode cX6_taken 30 = .ok (.iload_n 1, 1) := dk_27 (dk_at dksX6_taken_1 6 rfl rfl)
theorem dX6_taken_31 : decode cX6_taken 31 = .ok (.ireturn, 1) := dk_172 (dk_at dksX6_taken_1 7 rfl rfl)
abbrev cX6_judge : ByteArray := prog_8_method_32_code
def yX6_judge : MethodName := ⟨RX6, "judge", "()V"⟩
def dkwX6_judge_10 : List UInt8 := [153, 0, 7, 42, 182, 0, 246, 177]
abbrev dktX6_judge_10 : List UInt8 := dkwX6_judge_10 ++ []
def dkwX6_judge_9 : List UInt8 := [184, 0, 144, 154, 0, 7, 4, 167, 0, 4, 3, 181, 0, 224, 132, 3, 1, 167, 255, 210, 42, 182, 0, 242]
abbrev dktX6_judge_9 : List UInt8 := dkwX6_judge_9 ++ dktX6_judge_10
def dkwX6_judge_8 : List UInt8 := [16, 16, 46, 162, 0, 41, 42, 42, 180, 0, 224, 154, 0, 19, 42, 180, 0, 26, 17, 1, 64, 29, 96, 52]
abbrev dktX6_judge_8 : List UInt8 := dkwX6_judge_8 ++ dktX6_judge_9
def dkwX6_judge_7 : List UInt8 := [96, 52, 85, 132, 3, 1, 167, 255, 231, 167, 0, 70, 42, 4, 181, 0, 227, 3, 62, 29, 42, 180, 0, 23]
abbrev dktX6_judge_7 : List UInt8 := dkwX6_judge_7 ++ dktX6_judge_8
def dkwX6_judge_6 : List UInt8 := [181, 0, 239, 3, 62, 29, 16, 20, 162, 0, 25, 42, 180, 0, 72, 29, 42, 180, 0, 32, 17, 1, 64, 29]
abbrev dktX6_judge_6 : List UInt8 := dkwX6_judge_6 ++ dktX6_judge_7
def dkwX6_judge_5 : List UInt8 := [153, 0, 7, 4, 167, 0, 4, 3, 181, 0, 224, 42, 4, 181, 0, 236, 42, 42, 180, 0, 29, 16, 16, 46]
abbrev dktX6_judge_5 : List UInt8 := dkwX6_judge_5 ++ dktX6_judge_6
def dkwX6_judge_4 : List UInt8 := [153, 0, 82, 42, 42, 180, 0, 224, 154, 0, 17, 42, 180, 0, 227, 154, 0, 10, 42, 180, 0, 236]
abbrev dktX6_judge_4 : List UInt8 := dkwX6_judge_4 ++ dktX6_judge_5
def dkwX6_judge_3 : List UInt8 := [2, 159, 0, 7, 4, 167, 0, 4, 3, 181, 0, 224, 42, 42, 182, 0, 233, 181, 0, 230, 167, 0, 153, 28]
abbrev dktX6_judge_3 : List UInt8 := dkwX6_judge_3 ++ dktX6_judge_4
def dkwX6_judge_2 : List UInt8 := [61, 27, 153, 0, 45, 42, 42, 180, 0, 224, 154, 0, 18, 42, 180, 0, 227, 154, 0, 11, 42, 180, 0, 230]
abbrev dktX6_judge_2 : List UInt8 := dkwX6_judge_2 ++ dktX6_judge_3
def dkwX6_judge_1 : List UInt8 := [167, 0, 4, 3, 181, 0, 217, 42, 16, 16, 16, 109, 182, 0, 220, 60, 42, 16, 16, 16, 112, 182, 0, 220]
abbrev dktX6_judge_1 : List UInt8 := dkwX6_judge_1 ++ dktX6_judge_2
def dkwX6_judge_0 : List UInt8 := [42, 42, 180, 0, 217, 154, 0, 16, 42, 180, 0, 26, 17, 1, 64, 52, 16, 58, 160, 0, 7, 4]
abbrev dktX6_judge_0 : List UInt8 := dkwX6_judge_0 ++ dktX6_judge_1
theorem dksX6_judge_0 : cX6_judge.data.toList.drop 0 = dktX6_judge_0 := by decide +kernel
theorem dksX6_judge_1 : cX6_judge.data.toList.drop 22 = dktX6_judge_1 := dk_seg dksX6_judge_0 22 rfl rfl
theorem dksX6_judge_2 : cX6_judge.data.toList.drop 46 = dktX6_judge_2 := dk_seg dksX6_judge_1 24 rfl rfl
theorem dksX6_judge_3 : cX6_judge.data.toList.drop 70 = dktX6_judge_3 := dk_seg dksX6_judge_2 24 rfl rfl
theorem dksX6_judge_4 : cX6_judge.data.toList.drop 94 = dktX6_judge_4 := dk_seg dksX6_judge_3 24 rfl rfl
theorem dksX6_judge_5 : cX6_judge.data.toList.drop 116 = dktX6_judge_5 := dk_seg dksX6_judge_4 22 rfl rfl
theorem dksX6_judge_6 : cX6_judge.data.toList.drop 140 = dktX6_judge_6 := dk_seg dksX6_judge_5 24 rfl rfl
theorem dksX6_judge_7 : cX6_judge.data.toList.drop 164 = dktX6_judge_7 := dk_seg dksX6_judge_6 24 rfl rfl
theorem dksX6_judge_8 : cX6_judge.data.toList.drop 188 = dktX6_judge_8 := dk_seg dksX6_judge_7 24 rfl rfl
theorem dksX6_judge_9 : cX6_judge.data.toList.drop 212 = dktX6_judge_9 := dk_seg dksX6_judge_8 24 rfl rfl
theorem dksX6_judge_10 : cX6_judge.data.toList.drop 236 = dktX6_judge_10 := dk_seg dksX6_judge_9 24 rfl rfl
theorem dX6_judge_0 : decode cX6_judge 0 = .ok (.aload_n 0, 1) := dk_42 (dk_at dksX6_judge_0 0 rfl rfl)
theorem dX6_judge_1 : decode cX6_judge 1 = .ok (.aload_n 0, 1) := dk_42 (dk_at dksX6_judge_0 1 rfl rfl)
theorem dX6_judge_2 : decode cX6_judge 2 = .ok (.getfield 217, 3) := dk_180 0 217 (dk_at dksX6_judge_0 2 rfl rfl)
theorem dX6_judge_5 : decode cX6_judge 5 = .ok (.ifCond .ne 16, 3) := dk_154 0 16 (dk_at dksX6_judge_0 5 rfl rfl)
theorem dX6_judge_8 : decode cX6_judge 8 = .ok (.aload_n 0, 1) := dk_42 (dk_at dksX6_judge_0 8 rfl rfl)
theorem dX6_judge_9 : decode cX6_judge 9 = .ok (.getfield 26, 3) := dk_180 0 26 (dk_at dksX6_judge_0 9 rfl rfl)
theorem dX6_judge_12 : decode cX6_judge 12 = .ok (.sipush 320, 3) := dk_17 1 64 (dk_at dksX6_judge_0 12 rfl rfl)
theorem dX6_judge_15 : decode cX6_judge 15 = .ok (.caload, 1) := dk_52 (dk_at dksX6_judge_0 15 rfl rfl)
theorem dX6_judge_16 : decode cX6_judge 16 = .ok (.bipush 58, 2) := dk_16 58 (dk_at dksX6_judge_0 16 rfl rfl)
theorem dX6_judge_18 : decode cX6_judge 18 = .ok (.if_icmp .ne 7, 3) := dk_160 0 7 (dk_at dksX6_judge_0 18 rfl rfl)
theorem dX6_judge_21 : decode cX6_judge 21 = .ok (.iconst 1, 1) := dk_4 (dk_at dksX6_judge_0 21 rfl rfl)
theorem dX6_judge_22 : decode cX6_judge 22 = .ok (.goto 4, 3) := dk_167 0 4 (dk_at dksX6_judge_1 0 rfl rfl)
theorem dX6_judge_25 : decode cX6_judge 25 = .ok (.iconst 0, 1) := dk_3 (dk_at dksX6_judge_1 3 rfl rfl)
theorem dX6_judge_26 : decode cX6_judge 26 = .ok (.putfield 217, 3) := dk_181 0 217 (dk_at dksX6_judge_1 4 rfl rfl)
theorem dX6_judge_29 : decode cX6_judge 29 = .ok (.aload_n 0, 1) := dk_42 (dk_at dksX6_judge_1 7 rfl rfl)
theorem dX6_judge_30 : decode cX6_judge 30 = .ok (.bipush 16, 2) := dk_16 16 (dk_at dksX6_judge_1 8 rfl rfl)
theorem dX6_judge_32 : decode cX6_judge 32 = .ok (.bipush 109, 2) := dk_16 109 (dk_at dksX6_judge_1 10 rfl rfl)
theorem dX6_judge_34 : decode cX6_judge 34 = .ok (.invokevirtual 220, 3) := dk_182 0 220 (dk_at dksX6_judge_1 12 rfl rfl)
theorem dX6_judge_37 : decode cX6_judge 37 = .ok (.istore_n 1, 1) := dk_60 (dk_at dksX6_judge_1 15 rfl rfl)
theorem dX6_judge_38 : decode cX6_judge 38 = .ok (.aload_n 0, 1) := dk_42 (dk_at dksX6_judge_1 16 rfl rfl)
theorem dX6_judge_39 : decode cX6_judge 39 = .ok (.bipush 16, 2) := dk_16 16 (dk_at dksX6_judge_1 17 rfl rfl)
theorem dX6_judge_41 : decode cX6_judge 41 = .ok (.bipush 112, 2) := dk_16 112 (dk_at dksX6_judge_1 19 rfl rfl)
theorem dX6_judge_43 : decode cX6_judge 43 = .ok (.invokevirtual 220, 3) := dk_182 0 220 (dk_at dksX6_judge_1 21 rfl rfl)
theorem dX6_judge_46 : decode cX6_judge 46 = .ok (.istore_n 2, 1) := dk_61 (dk_at dksX6_judge_2 0 rfl rfl)
theorem dX6_judge_47 : decode cX6_judge 47 = .ok (.iload_n 1, 1) := dk_27 (dk_at dksX6_judge_2 1 rfl rfl)
theorem dX6_judge_48 : decode cX6_judge 48 = .ok (.ifCond .eq 45, 3) := dk_153 0 45 (dk_at dksX6_judge_2 2 rfl rfl)
theorem dX6_judge_51 : decode cX6_judge 51 = .ok (.aload_n 0, 1) := dk_42 (dk_at dksX6_judge_2 5 rfl rfl)
theorem dX6_judge_52 : decode cX6_judge 52 = .ok (.aload_n 0, 1) := dk_42 (dk_at dksX6_judge_2 6 rfl rfl)
theorem dX6_judge_53 : decode cX6_judge 53 = .ok (.getfield 224, 3) := dk_180 0 224 (dk_at dksX6_judge_2 7 rfl rfl)
theorem dX6_judge_56 : decode cX6_judge 56 = .ok (.ifCond .ne 18, 3) := dk_154 0 18 (dk_at dksX6_judge_2 10 rfl rfl)
theorem dX6_judge_59 : decode cX6_judge 59 = .ok (.aload_n 0, 1) := dk_42 (dk_at dksX6_judge_2 13 rfl rfl)
theorem dX6_judge_60 : decode cX6_judge 60 = .ok (.getfield 227, 3) := dk_180 0 227 (dk_at dksX6_judge_2 14 rfl rfl)
theorem dX6_judge_63 : decode cX6_judge 63 = .ok (.ifCond .ne 11, 3) := dk_154 0 11 (dk_at dksX6_judge_2 17 rfl rfl)
theorem dX6_judge_66 : decode cX6_judge 66 = .ok (.aload_n 0, 1) := dk_42 (dk_at dksX6_judge_2 20 rfl rfl)
theorem dX6_judge_67 : decode cX6_judge 67 = .ok (.getfield 230, 3) := dk_180 0 230 (dk_at dksX6_judge_2 21 rfl rfl)
theorem dX6_judge_70 : decode cX6_judge 70 = .ok (.iconst (-1), 1) := dk_2 (dk_at dksX6_judge_3 0 rfl rfl)
theorem dX6_judge_71 : decode cX6_judge 71 = .ok (.if_icmp .eq 7, 3) := dk_159 0 7 (dk_at dksX6_judge_3 1 rfl rfl)
theorem dX6_judge_74 : decode cX6_judge 74 = .ok (.iconst 1, 1) := dk_4 (dk_at dksX6_judge_3 4 rfl rfl)
theorem dX6_judge_75 : decode cX6_judge 75 = .ok (.goto 4, 3) := dk_167 0 4 (dk_at dksX6_judge_3 5 rfl rfl)
theorem dX6_judge_78 : decode cX6_judge 78 = .ok (.iconst 0, 1) := dk_3 (dk_at dksX6_judge_3 8 rfl rfl)
theorem dX6_judge_79 : decode cX6_judge 79 = .ok (.putfield 224, 3) := dk_181 0 224 (dk_at dksX6_judge_3 9 rfl rfl)
theorem dX6_judge_82 : decode cX6_judge 82 = .ok (.aload_n 0, 1) := dk_42 (dk_at dksX6_judge_3 12 rfl rfl)
theorem dX6_judge_83 : decode cX6_judge 83 = .ok (.aload_n 0, 1) := dk_42 (dk_at dksX6_judge_3 13 rfl rfl)
theorem dX6_judge_84 : decode cX6_judge 84 = .ok (.invokevirtual 233, 3) := dk_182 0 233 (dk_at dksX6_judge_3 14 rfl rfl)
theorem dX6_judge_87 : decode cX6_judge 87 = .ok (.putfield 230, 3) := dk_181 0 230 (dk_at dksX6_judge_3 17 rfl rfl)
theorem dX6_judge_90 : decode cX6_judge 90 = .ok (.goto 153, 3) := dk_167 0 153 (dk_at dksX6_judge_3 20 rfl rfl)
theorem dX6_judge_93 : decode cX6_judge 93 = .ok (.iload_n 2, 1) := dk_28 (dk_at dksX6_judge_3 23 rfl rfl)
theorem dX6_judge_94 : decode cX6_judge 94 = .ok (.ifCond .eq 82, 3) := dk_153 0 82 (dk_at dksX6_judge_4 0 rfl rfl)
theorem dX6_judge_97 : decode cX6_judge 97 = .ok (.aload_n 0, 1) := dk_42 (dk_at dksX6_judge_4 3 rfl rfl)
theorem dX6_judge_98 : decode cX6_judge 98 = .ok (.aload_n 0, 1) := dk_42 (dk_at dksX6_judge_4 4 rfl rfl)
theorem dX6_judge_99 : decode cX6_judge 99 = .ok (.getfield 224, 3) := dk_180 0 224 (dk_at dksX6_judge_4 5 rfl rfl)
theorem dX6_judge_102 : decode cX6_judge 102 = .ok (.ifCond .ne 17, 3) := dk_154 0 17 (dk_at dksX6_judge_4 8 rfl rfl)
theorem dX6_judge_105 : decode cX6_judge 105 = .ok (.aload_n 0, 1) := dk_42 (dk_at dksX6_judge_4 11 rfl rfl)
theorem dX6_judge_106 : decode cX6_judge 106 = .ok (.getfield 227, 3) := dk_180 0 227 (dk_at dksX6_judge_4 12 rfl rfl)
theorem dX6_judge_109 : decode cX6_judge 109 = .ok (.ifCond .ne 10, 3) := dk_154 0 10 (dk_at dksX6_judge_4 15 rfl rfl)
theorem dX6_judge_112 : decode cX6_judge 112 = .ok (.aload_n 0, 1) := dk_42 (dk_at dksX6_judge_4 18 rfl rfl)
theorem dX6_judge_113 : decode cX6_judge 113 = .ok (.getfield 236, 3) := dk_180 0 236 (dk_at dksX6_judge_4 19 rfl rfl)
theorem dX6_judge_116 : decode cX6_judge 116 = .ok (.ifCond .eq 7, 3) := dk_153 0 7 (dk_at dksX6_judge_5 0 rfl rfl)
theorem dX6_judge_119 : decode cX6_judge 119 = .ok (.iconst 1, 1) := dk_4 (dk_at dksX6_judge_5 3 rfl rfl)
theorem dX6_judge_120 : decode cX6_judge 120 = .ok (.goto 4, 3) := dk_167 0 4 (dk_at dksX6_judge_5 4 rfl rfl)
theorem dX6_judge_123 : decode cX6_judge 123 = .ok (.iconst 0, 1) := dk_3 (dk_at dksX6_judge_5 7 rfl rfl)
theorem dX6_judge_124 : decode cX6_judge 124 = .ok (.putfield 224, 3) := dk_181 0 224 (dk_at dksX6_judge_5 8 rfl rfl)
theorem dX6_judge_127 : decode cX6_judge 127 = .ok (.aload_n 0, 1) := dk_42 (dk_at dksX6_judge_5 11 rfl rfl)
theorem dX6_judge_128 : decode cX6_judge 128 = .ok (.iconst 1, 1) := dk_4 (dk_at dksX6_judge_5 12 rfl rfl)
theorem dX6_judge_129 : decode cX6_judge 129 = .ok (.putfield 236, 3) := dk_181 0 236 (dk_at dksX6_judge_5 13 rfl rfl)
theorem dX6_judge_132 : decode cX6_judge 132 = .ok (.aload_n 0, 1) := dk_42 (dk_at dksX6_judge_5 16 rfl rfl)
theorem dX6_judge_133 : decode cX6_judge 133 = .ok (.aload_n 0, 1) := dk_42 (dk_at dksX6_judge_5 17 rfl rfl)
theorem dX6_judge_134 : decode cX6_judge 134 = .ok (.getfield 29, 3) := dk_180 0 29 (dk_at dksX6_judge_5 18 rfl rfl)
theorem dX6_judge_137 : decode cX6_judge 137 = .ok (.bipush 16, 2) := dk_16 16 (dk_at dksX6_judge_5 21 rfl rfl)
theorem dX6_judge_139 : decode cX6_judge 139 = .ok (.iaload, 1) := dk_46 (dk_at dksX6_judge_5 23 rfl rfl)
theorem dX6_judge_140 : decode cX6_judge 140 = .ok (.putfield 239, 3) := dk_181 0 239 (dk_at dksX6_judge_6 0 rfl rfl)
theorem dX6_judge_143 : decode cX6_judge 143 = .ok (.iconst 0, 1) := dk_3 (dk_at dksX6_judge_6 3 rfl rfl)
theorem dX6_judge_144 : decode cX6_judge 144 = .ok (.istore_n 3, 1) := dk_62 (dk_at dksX6_judge_6 4 rfl rfl)
theorem dX6_judge_145 : decode cX6_judge 145 = .ok (.iload_n 3, 1) := dk_29 (dk_at dksX6_judge_6 5 rfl rfl)
theorem dX6_judge_146 : decode cX6_judge 146 = .ok (.bipush 20, 2) := dk_16 20 (dk_at dksX6_judge_6 6 rfl rfl)
theorem dX6_judge_148 : decode cX6_judge 148 = .ok (.if_icmp .ge 25, 3) := dk_162 0 25 (dk_at dksX6_judge_6 8 rfl rfl)
theorem dX6_judge_151 : decode cX6_judge 151 = .ok (.aload_n 0, 1) := dk_42 (dk_at dksX6_judge_6 11 rfl rfl)
theorem dX6_judge_152 : decode cX6_judge 152 = .ok (.getfield 72, 3) := dk_180 0 72 (dk_at dksX6_judge_6 12 rfl rfl)
theorem dX6_judge_155 : decode cX6_judge 155 = .ok (.iload_n 3, 1) := dk_29 (dk_at dksX6_judge_6 15 rfl rfl)
theorem dX6_judge_156 : decode cX6_judge 156 = .ok (.aload_n 0, 1) := dk_42 (dk_at dksX6_judge_6 16 rfl rfl)
theorem dX6_judge_157 : decode cX6_judge 157 = .ok (.getfield 32, 3) := dk_180 0 32 (dk_at dksX6_judge_6 17 rfl rfl)
theorem dX6_judge_160 : decode cX6_judge 160 = .ok (.sipush 320, 3) := dk_17 1 64 (dk_at dksX6_judge_6 20 rfl rfl)
theorem dX6_judge_163 : decode cX6_judge 163 = .ok (.iload_n 3, 1) := dk_29 (dk_at dksX6_judge_6 23 rfl rfl)
theorem dX6_judge_164 : decode cX6_judge 164 = .ok (.iadd, 1) := dk_96 (dk_at dksX6_judge_7 0 rfl rfl)
theorem dX6_judge_165 : decode cX6_judge 165 = .ok (.caload, 1) := dk_52 (dk_at dksX6_judge_7 1 rfl rfl)
theorem dX6_judge_166 : decode cX6_judge 166 = .ok (.castore, 1) := dk_85 (dk_at dksX6_judge_7 2 rfl rfl)
theorem dX6_judge_167 : decode cX6_judge 167 = .ok (.iinc 3 1, 3) := dk_132 3 1 (dk_at dksX6_judge_7 3 rfl rfl)
theorem dX6_judge_170 : decode cX6_judge 170 = .ok (.goto (-25), 3) := dk_167 255 231 (dk_at dksX6_judge_7 6 rfl rfl)
theorem dX6_judge_173 : decode cX6_judge 173 = .ok (.goto 70, 3) := dk_167 0 70 (dk_at dksX6_judge_7 9 rfl rfl)
theorem dX6_judge_176 : decode cX6_judge 176 = .ok (.aload_n 0, 1) := dk_42 (dk_at dksX6_judge_7 12 rfl rfl)
theorem dX6_judge_177 : decode cX6_judge 177 = .ok (.iconst 1, 1) := dk_4 (dk_at dksX6_judge_7 13 rfl rfl)
theorem dX6_judge_178 : decode cX6_judge 178 = .ok (.putfield 227, 3) := dk_181 0 227 (dk_at dksX6_judge_7 14 rfl rfl)
theorem dX6_judge_181 : decode cX6_judge 181 = .ok (.iconst 0, 1) := dk_3 (dk_at dksX6_judge_7 17 rfl rfl)
theorem dX6_judge_182 : decode cX6_judge 182 = .ok (.istore_n 3, 1) := dk_62 (dk_at dksX6_judge_7 18 rfl rfl)
theorem dX6_judge_183 : decode cX6_judge 183 = .ok (.iload_n 3, 1) := dk_29 (dk_at dksX6_judge_7 19 rfl rfl)
theorem dX6_judge_184 : decode cX6_judge 184 = .ok (.aload_n 0, 1) := dk_42 (dk_at dksX6_judge_7 20 rfl rfl)
theorem dX6_judge_185 : decode cX6_judge 185 = .ok (.getfield 23, 3) := dk_180 0 23 (dk_at dksX6_judge_7 21 rfl rfl)
theorem dX6_judge_188 : decode cX6_judge 188 = .ok (.bipush 16, 2) := dk_16 16 (dk_at dksX6_judge_8 0 rfl rfl)
theorem dX6_judge_190 : decode cX6_judge 190 = .ok (.iaload, 1) := dk_46 (dk_at dksX6_judge_8 2 rfl rfl)
theorem dX6_judge_191 : decode cX6_judge 191 = .ok (.if_icmp .ge 41, 3) := dk_162 0 41 (dk_at dksX6_judge_8 3 rfl rfl)
theorem dX6_judge_194 : decode cX6_judge 194 = .ok (.aload_n 0, 1) := dk_42 (dk_at dksX6_judge_8 6 rfl rfl)
theorem dX6_judge_195 : decode cX6_judge 195 = .ok (.aload_n 0, 1) := dk_42 (dk_at dksX6_judge_8 7 rfl rfl)
theorem dX6_judge_196 : decode cX6_judge 196 = .ok (.getfield 224, 3) := dk_180 0 224 (dk_at dksX6_judge_8 8 rfl rfl)
theorem dX6_judge_199 : decode cX6_judge 199 = .ok (.ifCond .ne 19, 3) := dk_154 0 19 (dk_at dksX6_judge_8 11 rfl rfl)
theorem dX6_judge_202 : decode cX6_judge 202 = .ok (.aload_n 0, 1) := dk_42 (dk_at dksX6_judge_8 14 rfl rfl)
theorem dX6_judge_203 : decode cX6_judge 203 = .ok (.getfield 26, 3) := dk_180 0 26 (dk_at dksX6_judge_8 15 rfl rfl)
theorem dX6_judge_206 : decode cX6_judge 206 = .ok (.sipush 320, 3) := dk_17 1 64 (dk_at dksX6_judge_8 18 rfl rfl)
theorem dX6_judge_209 : decode cX6_judge 209 = .ok (.iload_n 3, 1) := dk_29 (dk_at dksX6_judge_8 21 rfl rfl)
theorem dX6_judge_210 : decode cX6_judge 210 = .ok (.iadd, 1) := dk_96 (dk_at dksX6_judge_8 22 rfl rfl)
theorem dX6_judge_211 : decode cX6_judge 211 = .ok (.caload, 1) := dk_52 (dk_at dksX6_judge_8 23 rfl rfl)
theorem dX6_judge_212 : decode cX6_judge 212 = .ok (.invokestatic 144, 3) := dk_184 0 144 (dk_at dksX6_judge_9 0 rfl rfl)
theorem dX6_judge_215 : decode cX6_judge 215 = .ok (.ifCond .ne 7, 3) := dk_154 0 7 (dk_at dksX6_judge_9 3 rfl rfl)
theorem dX6_judge_218 : decode cX6_judge 218 = .ok (.iconst 1, 1) := dk_4 (dk_at dksX6_judge_9 6 rfl rfl)
theorem dX6_judge_219 : decode cX6_judge 219 = .ok (.goto 4, 3) := dk_167 0 4 (dk_at dksX6_judge_9 7 rfl rfl)
theorem dX6_judge_222 : decode cX6_judge 222 = .ok (.iconst 0, 1) := dk_3 (dk_at dksX6_judge_9 10 rfl rfl)
theorem dX6_judge_223 : decode cX6_judge 223 = .ok (.putfield 224, 3) := dk_181 0 224 (dk_at dksX6_judge_9 11 rfl rfl)
theorem dX6_judge_226 : decode cX6_judge 226 = .ok (.iinc 3 1, 3) := dk_132 3 1 (dk_at dksX6_judge_9 14 rfl rfl)
theorem dX6_judge_229 : decode cX6_judge 229 = .ok (.goto (-46), 3) := dk_167 255 210 (dk_at dksX6_judge_9 17 rfl rfl)
theorem dX6_judge_232 : decode cX6_judge 232 = .ok (.aload_n 0, 1) := dk_42 (dk_at dksX6_judge_9 20 rfl rfl)
theorem dX6_judge_233 : decode cX6_judge 233 = .ok (.invokevirtual 242, 3) := dk_182 0 242 (dk_at dksX6_judge_9 21 rfl rfl)
theorem dX6_judge_236 : decode cX6_judge 236 = .ok (.ifCond .eq 7, 3) := dk_153 0 7 (dk_at dksX6_judge_10 0 rfl rfl)
theorem dX6_judge_239 : decode cX6_judge 239 = .ok (.aload_n 0, 1) := dk_42 (dk_at dksX6_judge_10 3 rfl rfl)
theorem dX6_judge_240 : decode cX6_judge 240 = .ok (.invokevirtual 246, 3) := dk_182 0 246 (dk_at dksX6_judge_10 4 rfl rfl)
theorem dX6_judge_243 : decode cX6_judge 243 = .ok (.return_, 1) := dk_177 (dk_at dksX6_judge_10 7 rfl rfl)
abbrev cX6_isNamed : ByteArray := prog_8_method_31_code
def yX6_isNamed : MethodName := ⟨RX6, "isNamed", "(II)Z"⟩
def dkwX6_isNamed_1 : List UInt8 := [42, 180, 0, 26, 16, 20, 27, 104, 4, 96, 52, 28, 160, 0, 7, 4, 167, 0, 4, 3, 172]
abbrev dktX6_isNamed_1 : List UInt8 := dkwX6_isNamed_1 ++ []
def dkwX6_isNamed_0 : List UInt8 := [42, 180, 0, 23, 27, 46, 5, 160, 0, 36, 42, 180, 0, 26, 16, 20, 27, 104, 52, 16, 58, 160, 0, 22]
abbrev dktX6_isNamed_0 : List UInt8 := dkwX6_isNamed_0 ++ dktX6_isNamed_1
theorem dksX6_isNamed_0 : cX6_isNamed.data.toList.drop 0 = dktX6_isNamed_0 := by decide +kernel
theorem dksX6_isNamed_1 : cX6_isNamed.data.toList.drop 24 = dktX6_isNamed_1 := dk_seg dksX6_isNamed_0 24 rfl rfl
theorem dX6_isNamed_0 : decode cX6_isNamed 0 = .ok (.aload_n 0, 1) := dk_42 (dk_at dksX6_isNamed_0 0 rfl rfl)
theorem dX6_isNamed_1 : decode cX6_isNamed 1 = .ok (.getfield 23, 3) := dk_180 0 23 (dk_at dksX6_isNamed_0 1 rfl rfl)
theorem dX6_isNamed_4 : decode cX6_isNamed 4 = .ok (.iload_n 1, 1) := dk_27 (dk_at dksX6_isNamed_0 4 rfl rfl)
theorem dX6_isNamed_5 : decode cX6_isNamed 5 = .ok (.iaload, 1) := dk_46 (dk_at dksX6_isNamed_0 5 rfl rfl)
theorem dX6_isNamed_6 : decode cX6_isNamed 6 = .ok (.iconst 2, 1) := dk_5 (dk_at dksX6_isNamed_0 6 rfl rfl)
theorem dX6_isNamed_7 : decode cX6_isNamed 7 = .ok (.if_icmp .ne 36, 3) := dk_160 0 36 (dk_at dksX6_isNamed_0 7 rfl rfl)
theorem dX6_isNamed_10 : decode cX6_isNamed 10 = .ok (.aload_n 0, 1) := dk_42 (dk_at dksX6_isNamed_0 10 rfl rfl)
theorem dX6_isNamed_11 : decode cX6_isNamed 11 = .ok (.getfield 26, 3) := dk_180 0 26 (dk_at dksX6_isNamed_0 11 rfl rfl)
theorem dX6_isNamed_14 : decode cX6_isNamed 14 = .ok (.bipush 20, 2) := dk_16 20 (dk_at dksX6_isNamed_0 14 rfl rfl)
theorem dX6_isNamed_16 : decode cX6_isNamed 16 = .ok (.iload_n 1, 1) := dk_27 (dk_at dksX6_isNamed_0 16 rfl rfl)
theorem dX6_isNamed_17 : decode cX6_isNamed 17 = .ok (.imul, 1) := dk_104 (dk_at dksX6_isNamed_0 17 rfl rfl)
theorem dX6_isNamed_18 : decode cX6_isNamed 18 = .ok (.caload, 1) := dk_52 (dk_at dksX6_isNamed_0 18 rfl rfl)
theorem dX6_isNamed_19 : decode cX6_isNamed 19 = .ok (.bipush 58, 2) := dk_16 58 (dk_at dksX6_isNamed_0 19 rfl rfl)
theorem dX6_isNamed_21 : decode cX6_isNamed 21 = .ok (.if_icmp .ne 22, 3) := dk_160 0 22 (dk_at dksX6_isNamed_0 21 rfl rfl)
theorem dX6_isNamed_24 : decode cX6_isNamed 24 = .ok (.aload_n 0, 1) := dk_42 (dk_at dksX6_isNamed_1 0 rfl rfl)
theorem dX6_isNamed_25 : decode cX6_isNamed 25 = .ok (.getfield 26, 3) := dk_180 0 26 (dk_at dksX6_isNamed_1 1 rfl rfl)
theorem dX6_isNamed_28 : decode cX6_isNamed 28 = .ok (.bipush 20, 2) := dk_16 20 (dk_at dksX6_isNamed_1 4 rfl rfl)
theorem dX6_isNamed_30 : decode cX6_isNamed 30 = .ok (.iload_n 1, 1) := dk_27 (dk_at dksX6_isNamed_1 6 rfl rfl)
theorem dX6_isNamed_31 : decode cX6_isNamed 31 = .ok (.imul, 1) := dk_104 (dk_at dksX6_isNamed_1 7 rfl rfl)
theorem dX6_isNamed_32 : decode cX6_isNamed 32 = .ok (.iconst 1, 1) := dk_4 (dk_at dksX6_isNamed_1 8 rfl rfl)
theorem dX6_isNamed_33 : decode cX6_isNamed 33 = .ok (.iadd, 1) := dk_96 (dk_at dksX6_isNamed_1 9 rfl rfl)
theorem dX6_isNamed_34 : decode cX6_isNamed 34 = .ok (.caload, 1) := dk_52 (dk_at dksX6_isNamed_1 10 rfl rfl)
theorem dX6_isNamed_35 : decode cX6_isNamed 35 = .ok (.iload_n 2, 1) := dk_28 (dk_at dksX6_isNamed_1 11 rfl rfl)
theorem dX6_isNamed_36 : decode cX6_isNamed 36 = .ok (.if_icmp .ne 7, 3) := dk_160 0 7 (dk_at dksX6_isNamed_1 12 rfl rfl)
theorem dX6_isNamed_39 : decode cX6_isNamed 39 = .ok (.iconst 1, 1) := dk_4 (dk_at dksX6_isNamed_1 15 rfl rfl)
theorem dX6_isNamed_40 : decode cX6_isNamed 40 = .ok (.goto 4, 3) := dk_167 0 4 (dk_at dksX6_isNamed_1 16 rfl rfl)
theorem dX6_isNamed_43 : decode cX6_isNamed 43 = .ok (.iconst 0, 1) := dk_3 (dk_at dksX6_isNamed_1 19 rfl rfl)
theorem dX6_isNamed_44 : decode cX6_isNamed 44 = .ok (.ireturn, 1) := dk_172 (dk_at dksX6_isNamed_1 20 rfl rfl)
abbrev cX6_methodOf : ByteArray := prog_8_method_35_code
def yX6_methodOf : MethodName := ⟨RX6, "methodOf", "()I"⟩
def dkwX6_methodOf_5 : List UInt8 := [3, 167, 0, 12, 28, 153, 0, 7, 4, 167, 0, 4, 5, 172]
abbrev dktX6_methodOf_5 : List UInt8 := dkwX6_methodOf_5 ++ []
def dkwX6_methodOf_4 : List UInt8 := [16, 20, 29, 96, 52, 160, 0, 7, 4, 167, 0, 4, 3, 61, 132, 3, 1, 167, 255, 182, 27, 153, 0, 7]
abbrev dktX6_methodOf_4 : List UInt8 := dkwX6_methodOf_4 ++ dktX6_methodOf_5
def dkwX6_methodOf_3 : List UInt8 := [167, 0, 4, 3, 60, 28, 153, 0, 29, 42, 180, 0, 32, 17, 1, 64, 29, 96, 52, 42, 180, 0, 32]
abbrev dktX6_methodOf_3 : List UInt8 := dkwX6_methodOf_3 ++ dktX6_methodOf_4
def dkwX6_methodOf_2 : List UInt8 := [159, 0, 22, 42, 180, 0, 32, 17, 1, 64, 29, 96, 52, 42, 180, 0, 32, 29, 52, 160, 0, 7, 4]
abbrev dktX6_methodOf_2 : List UInt8 := dkwX6_methodOf_2 ++ dktX6_methodOf_3
def dkwX6_methodOf_1 : List UInt8 := [7, 160, 0, 7, 4, 167, 0, 4, 3, 61, 3, 62, 29, 7, 162, 0, 75, 27, 153, 0, 31, 29, 6]
abbrev dktX6_methodOf_1 : List UInt8 := dkwX6_methodOf_1 ++ dktX6_methodOf_2
def dkwX6_methodOf_0 : List UInt8 := [42, 180, 0, 29, 16, 16, 46, 6, 160, 0, 7, 4, 167, 0, 4, 3, 60, 42, 180, 0, 29, 16, 16, 46]
abbrev dktX6_methodOf_0 : List UInt8 := dkwX6_methodOf_0 ++ dktX6_methodOf_1
theorem dksX6_methodOf_0 : cX6_methodOf.data.toList.drop 0 = dktX6_methodOf_0 := by decide +kernel
theorem dksX6_methodOf_1 : cX6_methodOf.data.toList.drop 24 = dktX6_methodOf_1 := dk_seg dksX6_methodOf_0 24 rfl rfl
theorem dksX6_methodOf_2 : cX6_methodOf.data.toList.drop 47 = dktX6_methodOf_2 := dk_seg dksX6_methodOf_1 23 rfl rfl
theorem dksX6_methodOf_3 : cX6_methodOf.data.toList.drop 70 = dktX6_methodOf_3 := dk_seg dksX6_methodOf_2 23 rfl rfl
theorem dksX6_methodOf_4 : cX6_methodOf.data.toList.drop 93 = dktX6_methodOf_4 := dk_seg dksX6_methodOf_3 23 rfl rfl
theorem dksX6_methodOf_5 : cX6_methodOf.data.toList.drop 117 = dktX6_methodOf_5 := dk_seg dksX6_methodOf_4 24 rfl rfl
theorem dX6_methodOf_0 : decode cX6_methodOf 0 = .ok (.aload_n 0, 1) := dk_42 (dk_at dksX6_methodOf_0 0 rfl rfl)
theorem dX6_methodOf_1 : decode cX6_methodOf 1 = .ok (.getfield 29, 3) := dk_180 0 29 (dk_at dksX6_methodOf_0 1 rfl rfl)
theorem dX6_methodOf_4 : decode cX6_methodOf 4 = .ok (.bipush 16, 2) := dk_16 16 (dk_at dksX6_methodOf_0 4 rfl rfl)
theorem dX6_methodOf_6 : decode cX6_methodOf 6 = .ok (.iaload, 1) := dk_46 (dk_at dksX6_methodOf_0 6 rfl rfl)
theorem dX6_methodOf_7 : decode cX6_methodOf 7 = .ok (.iconst 3, 1) := dk_6 (dk_at dksX6_methodOf_0 7 rfl rfl)
theorem dX6_methodOf_8 : decode cX6_methodOf 8 = .ok (.if_icmp .ne 7, 3) := dk_160 0 7 (dk_at dksX6_methodOf_0 8 rfl rfl)
theorem dX6_methodOf_11 : decode cX6_methodOf 11 = .ok (.iconst 1, 1) := dk_4 (dk_at dksX6_methodOf_0 11 rfl rfl)
theorem dX6_methodOf_12 : decode cX6_methodOf 12 = .ok (.goto 4, 3) := dk_167 0 4 (dk_at dksX6_methodOf_0 12 rfl rfl)
theorem dX6_methodOf_15 : decode cX6_methodOf 15 = .ok (.iconst 0, 1) := dk_3 (dk_at dksX6_methodOf_0 15 rfl rfl)
theorem dX6_methodOf_16 : decode cX6_methodOf 16 = .ok (.istore_n 1, 1) := dk_60 (dk_at dksX6_methodOf_0 16 rfl rfl)
theorem dX6_methodOf_17 : decode cX6_methodOf 17 = .ok (.aload_n 0, 1) := dk_42 (dk_at dksX6_methodOf_0 17 rfl rfl)
theorem dX6_methodOf_18 : decode cX6_methodOf 18 = .ok (.getfield 29, 3) := dk_180 0 29 (dk_at dksX6_methodOf_0 18 rfl rfl)
theorem dX6_methodOf_21 : decode cX6_methodOf 21 = .ok (.bipush 16, 2) := dk_16 16 (dk_at dksX6_methodOf_0 21 rfl rfl)
theorem dX6_methodOf_23 : decode cX6_methodOf 23 = .ok (.iaload, 1) := dk_46 (dk_at dksX6_methodOf_0 23 rfl rfl)
theorem dX6_methodOf_24 : decode cX6_methodOf 24 = .ok (.iconst 4, 1) := dk_7 (dk_at dksX6_methodOf_1 0 rfl rfl)
theorem dX6_methodOf_25 : decode cX6_methodOf 25 = .ok (.if_icmp .ne 7, 3) := dk_160 0 7 (dk_at dksX6_methodOf_1 1 rfl rfl)
theorem dX6_methodOf_28 : decode cX6_methodOf 28 = .ok (.iconst 1, 1) := dk_4 (dk_at dksX6_methodOf_1 4 rfl rfl)
theorem dX6_methodOf_29 : decode cX6_methodOf 29 = .ok (.goto 4, 3) := dk_167 0 4 (dk_at dksX6_methodOf_1 5 rfl rfl)
theorem dX6_methodOf_32 : decode cX6_methodOf 32 = .ok (.iconst 0, 1) := dk_3 (dk_at dksX6_methodOf_1 8 rfl rfl)
theorem dX6_methodOf_33 : decode cX6_methodOf 33 = .ok (.istore_n 2, 1) := dk_61 (dk_at dksX6_methodOf_1 9 rfl rfl)
theorem dX6_methodOf_34 : decode cX6_methodOf 34 = .ok (.iconst 0, 1) := dk_3 (dk_at dksX6_methodOf_1 10 rfl rfl)
theorem dX6_methodOf_35 : decode cX6_methodOf 35 = .ok (.istore_n 3, 1) := dk_62 (dk_at dksX6_methodOf_1 11 rfl rfl)
theorem dX6_methodOf_36 : decode cX6_methodOf 36 = .ok (.iload_n 3, 1) := dk_29 (dk_at dksX6_methodOf_1 12 rfl rfl)
theorem dX6_methodOf_37 : decode cX6_methodOf 37 = .ok (.iconst 4, 1) := dk_7 (dk_at dksX6_methodOf_1 13 rfl rfl)
theorem dX6_methodOf_38 : decode cX6_methodOf 38 = .ok (.if_icmp .ge 75, 3) := dk_162 0 75 (dk_at dksX6_methodOf_1 14 rfl rfl)
theorem dX6_methodOf_41 : decode cX6_methodOf 41 = .ok (.iload_n 1, 1) := dk_27 (dk_at dksX6_methodOf_1 17 rfl rfl)
theorem dX6_methodOf_42 : decode cX6_methodOf 42 = .ok (.ifCond .eq 31, 3) := dk_153 0 31 (dk_at dksX6_methodOf_1 18 rfl rfl)
theorem dX6_methodOf_45 : decode cX6_methodOf 45 = .ok (.iload_n 3, 1) := dk_29 (dk_at dksX6_methodOf_1 21 rfl rfl)
theorem dX6_methodOf_46 : decode cX6_methodOf 46 = .ok (.iconst 3, 1) := dk_6 (dk_at dksX6_methodOf_1 22 rfl rfl)
theorem dX6_methodOf_47 : decode cX6_methodOf 47 = .ok (.if_icmp .eq 22, 3) := dk_159 0 22 (dk_at dksX6_methodOf_2 0 rfl rfl)
theorem dX6_methodOf_50 : decode cX6_methodOf 50 = .ok (.aload_n 0, 1) := dk_42 (dk_at dksX6_methodOf_2 3 rfl rfl)
theorem dX6_methodOf_51 : decode cX6_methodOf 51 = .ok (.getfield 32, 3) := dk_180 0 32 (dk_at dksX6_methodOf_2 4 rfl rfl)
theorem dX6_methodOf_54 : decode cX6_methodOf 54 = .ok (.sipush 320, 3) := dk_17 1 64 (dk_at dksX6_methodOf_2 7 rfl rfl)
theorem dX6_methodOf_57 : decode cX6_methodOf 57 = .ok (.iload_n 3, 1) := dk_29 (dk_at dksX6_methodOf_2 10 rfl rfl)
theorem dX6_methodOf_58 : decode cX6_methodOf 58 = .ok (.iadd, 1) := dk_96 (dk_at dksX6_methodOf_2 11 rfl rfl)
theorem dX6_methodOf_59 : decode cX6_methodOf 59 = .ok (.caload, 1) := dk_52 (dk_at dksX6_methodOf_2 12 rfl rfl)
theorem dX6_methodOf_60 : decode cX6_methodOf 60 = .ok (.aload_n 0, 1) := dk_42 (dk_at dksX6_methodOf_2 13 rfl rfl)
theorem dX6_methodOf_61 : decode cX6_methodOf 61 = .ok (.getfield 32, 3) := dk_180 0 32 (dk_at dksX6_methodOf_2 14 rfl rfl)
theorem dX6_methodOf_64 : decode cX6_methodOf 64 = .ok (.iload_n 3, 1) := dk_29 (dk_at dksX6_methodOf_2 17 rfl rfl)
theorem dX6_methodOf_65 : decode cX6_methodOf 65 = .ok (.caload, 1) := dk_52 (dk_at dksX6_methodOf_2 18 rfl rfl)
theorem dX6_methodOf_66 : decode cX6_methodOf 66 = .ok (.if_icmp .ne 7, 3) := dk_160 0 7 (dk_at dksX6_methodOf_2 19 rfl rfl)
theorem dX6_methodOf_69 : decode cX6_methodOf 69 = .ok (.iconst 1, 1) := dk_4 (dk_at dksX6_methodOf_2 22 rfl rfl)
theorem dX6_methodOf_70 : decode cX6_methodOf 70 = .ok (.goto 4, 3) := dk_167 0 4 (dk_at dksX6_methodOf_3 0 rfl rfl)
theorem dX6_methodOf_73 : decode cX6_methodOf 73 = .ok (.iconst 0, 1) := dk_3 (dk_at dksX6_methodOf_3 3 rfl rfl)
theorem dX6_methodOf_74 : decode cX6_methodOf 74 = .ok (.istore_n 1, 1) := dk_60 (dk_at dksX6_methodOf_3 4 rfl rfl)
theorem dX6_methodOf_75 : decode cX6_methodOf 75 = .ok (.iload_n 2, 1) := dk_28 (dk_at dksX6_methodOf_3 5 rfl rfl)
theorem dX6_methodOf_76 : decode cX6_methodOf 76 = .ok (.ifCond .eq 29, 3) := dk_153 0 29 (dk_at dksX6_methodOf_3 6 rfl rfl)
theorem dX6_methodOf_79 : decode cX6_methodOf 79 = .ok (.aload_n 0, 1) := dk_42 (dk_at dksX6_methodOf_3 9 rfl rfl)
theorem dX6_methodOf_80 : decode cX6_methodOf 80 = .ok (.getfield 32, 3) := dk_180 0 32 (dk_at dksX6_methodOf_3 10 rfl rfl)
theorem dX6_methodOf_83 : decode cX6_methodOf 83 = .ok (.sipush 320, 3) := dk_17 1 64 (dk_at dksX6_methodOf_3 13 rfl rfl)
theorem dX6_methodOf_86 : decode cX6_methodOf 86 = .ok (.iload_n 3, 1) := dk_29 (dk_at dksX6_methodOf_3 16 rfl rfl)
theorem dX6_methodOf_87 : decode cX6_methodOf 87 = .ok (.iadd, 1) := dk_96 (dk_at dksX6_methodOf_3 17 rfl rfl)
theorem dX6_methodOf_88 : decode cX6_methodOf 88 = .ok (.caload, 1) := dk_52 (dk_at dksX6_methodOf_3 18 rfl rfl)
theorem dX6_methodOf_89 : decode cX6_methodOf 89 = .ok (.aload_n 0, 1) := dk_42 (dk_at dksX6_methodOf_3 19 rfl rfl)
theorem dX6_methodOf_90 : decode cX6_methodOf 90 = .ok (.getfield 32, 3) := dk_180 0 32 (dk_at dksX6_methodOf_3 20 rfl rfl)
theorem dX6_methodOf_93 : decode cX6_methodOf 93 = .ok (.bipush 20, 2) := dk_16 20 (dk_at dksX6_methodOf_4 0 rfl rfl)
theorem dX6_methodOf_95 : decode cX6_methodOf 95 = .ok (.iload_n 3, 1) := dk_29 (dk_at dksX6_methodOf_4 2 rfl rfl)
theorem dX6_methodOf_96 : decode cX6_methodOf 96 = .ok (.iadd, 1) := dk_96 (dk_at dksX6_methodOf_4 3 rfl rfl)
theorem dX6_methodOf_97 : decode cX6_methodOf 97 = .ok (.caload, 1) := dk_52 (dk_at dksX6_methodOf_4 4 rfl rfl)
theorem dX6_methodOf_98 : decode cX6_methodOf 98 = .ok (.if_icmp .ne 7, 3) := dk_160 0 7 (dk_at dksX6_methodOf_4 5 rfl rfl)
theorem dX6_methodOf_101 : decode cX6_methodOf 101 = .ok (.iconst 1, 1) := dk_4 (dk_at dksX6_methodOf_4 8 rfl rfl)
theorem dX6_methodOf_102 : decode cX6_methodOf 102 = .ok (.goto 4, 3) := dk_167 0 4 (dk_at dksX6_methodOf_4 9 rfl rfl)
theorem dX6_methodOf_105 : decode cX6_methodOf 105 = .ok (.iconst 0, 1) := dk_3 (dk_at dksX6_methodOf_4 12 rfl rfl)
theorem dX6_methodOf_106 : decode cX6_methodOf 106 = .ok (.istore_n 2, 1) := dk_61 (dk_at dksX6_methodOf_4 13 rfl rfl)
theorem dX6_methodOf_107 : decode cX6_methodOf 107 = .ok (.iinc 3 1, 3) := dk_132 3 1 (dk_at dksX6_methodOf_4 14 rfl rfl)
theorem dX6_methodOf_110 : decode cX6_methodOf 110 = .ok (.goto (-74), 3) := dk_167 255 182 (dk_at dksX6_methodOf_4 17 rfl rfl)
theorem dX6_methodOf_113 : decode cX6_methodOf 113 = .ok (.iload_n 1, 1) := dk_27 (dk_at dksX6_methodOf_4 20 rfl rfl)
theorem dX6_methodOf_114 : decode cX6_methodOf 114 = .ok (.ifCond .eq 7, 3) := dk_153 0 7 (dk_at dksX6_methodOf_4 21 rfl rfl)
theorem dX6_methodOf_117 : decode cX6_methodOf 117 = .ok (.iconst 0, 1) := dk_3 (dk_at dksX6_methodOf_5 0 rfl rfl)
theorem dX6_methodOf_118 : decode cX6_methodOf 118 = .ok (.goto 12, 3) := dk_167 0 12 (dk_at dksX6_methodOf_5 1 rfl rfl)
theorem dX6_methodOf_121 : decode cX6_methodOf 121 = .ok (.iload_n 2, 1) := dk_28 (dk_at dksX6_methodOf_5 4 rfl rfl)
theorem dX6_methodOf_122 : decode cX6_methodOf 122 = .ok (.ifCond .eq 7, 3) := dk_153 0 7 (dk_at dksX6_methodOf_5 5 rfl rfl)
theorem dX6_methodOf_125 : decode cX6_methodOf 125 = .ok (.iconst 1, 1) := dk_4 (dk_at dksX6_methodOf_5 8 rfl rfl)
theorem dX6_methodOf_126 : decode cX6_methodOf 126 = .ok (.goto 4, 3) := dk_167 0 4 (dk_at dksX6_methodOf_5 9 rfl rfl)
theorem dX6_methodOf_129 : decode cX6_methodOf 129 = .ok (.iconst 2, 1) := dk_5 (dk_at dksX6_methodOf_5 12 rfl rfl)
theorem dX6_methodOf_130 : decode cX6_methodOf 130 = .ok (.ireturn, 1) := dk_172 (dk_at dksX6_methodOf_5 13 rfl rfl)
abbrev cX6_isLength : ByteArray := prog_8_method_33_code
def yX6_isLength : MethodName := ⟨RX6, "isLength", "()Z"⟩
def dkwX6_isLength_2 : List UInt8 := [96, 52, 160, 0, 7, 4, 167, 0, 4, 3, 60, 132, 2, 1, 167, 255, 215, 27, 172]
abbrev dktX6_isLength_2 : List UInt8 := dkwX6_isLength_2 ++ []
def dkwX6_isLength_1 : List UInt8 := [162, 0, 41, 27, 153, 0, 37, 42, 180, 0, 26, 17, 1, 64, 28, 96, 52, 42, 180, 0, 26, 16, 80, 28]
abbrev dktX6_isLength_1 : List UInt8 := dkwX6_isLength_1 ++ dktX6_isLength_2
def dkwX6_isLength_0 : List UInt8 := [42, 180, 0, 23, 16, 16, 46, 16, 6, 160, 0, 7, 4, 167, 0, 4, 3, 60, 3, 61, 28, 16, 6]
abbrev dktX6_isLength_0 : List UInt8 := dkwX6_isLength_0 ++ dktX6_isLength_1
theorem dksX6_isLength_0 : cX6_isLength.data.toList.drop 0 = dktX6_isLength_0 := by decide +kernel
theorem dksX6_isLength_1 : cX6_isLength.data.toList.drop 23 = dktX6_isLength_1 := dk_seg dksX6_isLength_0 23 rfl rfl
theorem dksX6_isLength_2 : cX6_isLength.data.toList.drop 47 = dktX6_isLength_2 := dk_seg dksX6_isLength_1 24 rfl rfl
theorem dX6_isLength_0 : decode cX6_isLength 0 = .ok (.aload_n 0, 1) := dk_42 (dk_at dksX6_isLength_0 0 rfl rfl)
theorem dX6_isLength_1 : decode cX6_isLength 1 = .ok (.getfield 23, 3) := dk_180 0 23 (dk_at dksX6_isLength_0 1 rfl rfl)
theorem dX6_isLength_4 : decode cX6_isLength 4 = .ok (.bipush 16, 2) := dk_16 16 (dk_at dksX6_isLength_0 4 rfl rfl)
theorem dX6_isLength_6 : decode cX6_isLength 6 = .ok (.iaload, 1) := dk_46 (dk_at dksX6_isLength_0 6 rfl rfl)
theorem dX6_isLength_7 : decode cX6_isLength 7 = .ok (.bipush 6, 2) := dk_16 6 (dk_at dksX6_isLength_0 7 rfl rfl)
theorem dX6_isLength_9 : decode cX6_isLength 9 = .ok (.if_icmp .ne 7, 3) := dk_160 0 7 (dk_at dksX6_isLength_0 9 rfl rfl)
theorem dX6_isLength_12 : decode cX6_isLength 12 = .ok (.iconst 1, 1) := dk_4 (dk_at dksX6_isLength_0 12 rfl rfl)
theorem dX6_isLength_13 : decode cX6_isLength 13 = .ok (.goto 4, 3) := dk_167 0 4 (dk_at dksX6_isLength_0 13 rfl rfl)
theorem dX6_isLength_16 : decode cX6_isLength 16 = .ok (.iconst 0, 1) := dk_3 (dk_at dksX6_isLength_0 16 rfl rfl)
theorem dX6_isLength_17 : decode cX6_isLength 17 = .ok (.istore_n 1, 1) := dk_60 (dk_at dksX6_isLength_0 17 rfl rfl)
theorem dX6_isLength_18 : decode cX6_isLength 18 = .ok (.iconst 0, 1) := dk_3 (dk_at dksX6_isLength_0 18 rfl rfl)
theorem dX6_isLength_19 : decode cX6_isLength 19 = .ok (.istore_n 2, 1) := dk_61 (dk_at dksX6_isLength_0 19 rfl rfl)
theorem dX6_isLength_20 : decode cX6_isLength 20 = .ok (.iload_n 2, 1) := dk_28 (dk_at dksX6_isLength_0 20 rfl rfl)
theorem dX6_isLength_21 : decode cX6_isLength 21 = .ok (.bipush 6, 2) := dk_16 6 (dk_at dksX6_isLength_0 21 rfl rfl)
theorem dX6_isLength_23 : decode cX6_isLength 23 = .ok (.if_icmp .ge 41, 3) := dk_162 0 41 (dk_at dksX6_isLength_1 0 rfl rfl)
theorem dX6_isLength_26 : decode cX6_isLength 26 = .ok (.iload_n 1, 1) := dk_27 (dk_at dksX6_isLength_1 3 rfl rfl)
theorem dX6_isLength_27 : decode cX6_isLength 27 = .ok (.ifCond .eq 37, 3) := dk_153 0 37 (dk_at dksX6_isLength_1 4 rfl rfl)
theorem dX6_isLength_30 : decode cX6_isLength 30 = .ok (.aload_n 0, 1) := dk_42 (dk_at dksX6_isLength_1 7 rfl rfl)
theorem dX6_isLength_31 : decode cX6_isLength 31 = .ok (.getfield 26, 3) := dk_180 0 26 (dk_at dksX6_isLength_1 8 rfl rfl)
theorem dX6_isLength_34 : decode cX6_isLength 34 = .ok (.sipush 320, 3) := dk_17 1 64 (dk_at dksX6_isLength_1 11 rfl rfl)
theorem dX6_isLength_37 : decode cX6_isLength 37 = .ok (.iload_n 2, 1) := dk_28 (dk_at dksX6_isLength_1 14 rfl rfl)
theorem dX6_isLength_38 : decode cX6_isLength 38 = .ok (.iadd, 1) := dk_96 (dk_at dksX6_isLength_1 15 rfl rfl)
theorem dX6_isLength_39 : decode cX6_isLength 39 = .ok (.caload, 1) := dk_52 (dk_at dksX6_isLength_1 16 rfl rfl)
theorem dX6_isLength_40 : decode cX6_isLength 40 = .ok (.aload_n 0, 1) := dk_42 (dk_at dksX6_isLength_1 17 rfl rfl)
theorem dX6_isLength_41 : decode cX6_isLength 41 = .ok (.getfield 26, 3) := dk_180 0 26 (dk_at dksX6_isLength_1 18 rfl rfl)
theorem dX6_isLength_44 : decode cX6_isLength 44 = .ok (.bipush 80, 2) := dk_16 80 (dk_at dksX6_isLength_1 21 rfl rfl)
theorem dX6_isLength_46 : decode cX6_isLength 46 = .ok (.iload_n 2, 1) := dk_28 (dk_at dksX6_isLength_1 23 rfl rfl)
theorem dX6_isLength_47 : decode cX6_isLength 47 = .ok (.iadd, 1) := dk_96 (dk_at dksX6_isLength_2 0 rfl rfl)
theorem dX6_isLength_48 : decode cX6_isLength 48 = .ok (.caload, 1) := dk_52 (dk_at dksX6_isLength_2 1 rfl rfl)
theorem dX6_isLength_49 : decode cX6_isLength 49 = .ok (.if_icmp .ne 7, 3) := dk_160 0 7 (dk_at dksX6_isLength_2 2 rfl rfl)
theorem dX6_isLength_52 : decode cX6_isLength 52 = .ok (.iconst 1, 1) := dk_4 (dk_at dksX6_isLength_2 5 rfl rfl)
theorem dX6_isLength_53 : decode cX6_isLength 53 = .ok (.goto 4, 3) := dk_167 0 4 (dk_at dksX6_isLength_2 6 rfl rfl)
theorem dX6_isLength_56 : decode cX6_isLength 56 = .ok (.iconst 0, 1) := dk_3 (dk_at dksX6_isLength_2 9 rfl rfl)
theorem dX6_isLength_57 : decode cX6_isLength 57 = .ok (.istore_n 1, 1) := dk_60 (dk_at dksX6_isLength_2 10 rfl rfl)
theorem dX6_isLength_58 : decode cX6_isLength 58 = .ok (.iinc 2 1, 3) := dk_132 2 1 (dk_at dksX6_isLength_2 11 rfl rfl)
theorem dX6_isLength_61 : decode cX6_isLength 61 = .ok (.goto (-41), 3) := dk_167 255 215 (dk_at dksX6_isLength_2 14 rfl rfl)
theorem dX6_isLength_64 : decode cX6_isLength 64 = .ok (.iload_n 1, 1) := dk_27 (dk_at dksX6_isLength_2 17 rfl rfl)
theorem dX6_isLength_65 : decode cX6_isLength 65 = .ok (.ireturn, 1) := dk_172 (dk_at dksX6_isLength_2 18 rfl rfl)
abbrev cX6_judgeLength : ByteArray := prog_8_method_34_code
def yX6_judgeLength : MethodName := ⟨RX6, "judgeLength", "()V"⟩
def dkwX6_judgeLength_5 : List UInt8 := [27, 181, 0, 249, 177]
abbrev dktX6_judgeLength_5 : List UInt8 := dkwX6_judgeLength_5 ++ []
def dkwX6_judgeLength_4 : List UInt8 := [180, 0, 32, 17, 1, 64, 28, 96, 52, 96, 16, 48, 100, 18, 252, 112, 60, 132, 2, 1, 167, 255, 184, 42]
abbrev dktX6_judgeLength_4 : List UInt8 := dkwX6_judgeLength_4 ++ dktX6_judgeLength_5
def dkwX6_judgeLength_3 : List UInt8 := [16, 48, 16, 57, 184, 0, 158, 153, 0, 7, 4, 167, 0, 4, 3, 181, 0, 224, 16, 10, 27, 104, 42]
abbrev dktX6_judgeLength_3 : List UInt8 := dkwX6_judgeLength_3 ++ dktX6_judgeLength_4
def dkwX6_judgeLength_2 : List UInt8 := [16, 16, 46, 162, 0, 67, 42, 42, 180, 0, 224, 154, 0, 23, 42, 180, 0, 32, 17, 1, 64, 28, 96, 52]
abbrev dktX6_judgeLength_2 : List UInt8 := dkwX6_judgeLength_2 ++ dktX6_judgeLength_3
def dkwX6_judgeLength_1 : List UInt8 := [6, 184, 0, 158, 153, 0, 7, 4, 167, 0, 4, 3, 181, 0, 224, 3, 60, 3, 61, 28, 42, 180, 0, 29]
abbrev dktX6_judgeLength_1 : List UInt8 := dkwX6_judgeLength_1 ++ dktX6_judgeLength_2
def dkwX6_judgeLength_0 : List UInt8 := [42, 42, 180, 0, 224, 154, 0, 26, 42, 180, 0, 249, 2, 160, 0, 18, 42, 180, 0, 29, 16, 16, 46, 4]
abbrev dktX6_judgeLength_0 : List UInt8 := dkwX6_judgeLength_0 ++ dktX6_judgeLength_1
theorem dksX6_judgeLength_0 : cX6_judgeLength.data.toList.drop 0 = dktX6_judgeLength_0 := by decide +kernel
theorem dksX6_judgeLength_1 : cX6_judgeLength.data.toList.drop 24 = dktX6_judgeLength_1 := dk_seg dksX6_judgeLength_0 24 rfl rfl
theorem dksX6_judgeLength_2 : cX6_judgeLength.data.toList.drop 48 = dktX6_judgeLength_2 := dk_seg dksX6_judgeLength_1 24 rfl rfl
theorem dksX6_judgeLength_3 : cX6_judgeLength.data.toList.drop 72 = dktX6_judgeLength_3 := dk_seg dksX6_judgeLength_2 24 rfl rfl
theorem dksX6_judgeLength_4 : cX6_judgeLength.data.toList.drop 95 = dktX6_judgeLength_4 := dk_seg dksX6_judgeLength_3 23 rfl rfl
theorem dksX6_judgeLength_5 : cX6_judgeLength.data.toList.drop 119 = dktX6_judgeLength_5 := dk_seg dksX6_judgeLength_4 24 rfl rfl
theorem dX6_judgeLength_0 : decode cX6_judgeLength 0 = .ok (.aload_n 0, 1) := dk_42 (dk_at dksX6_judgeLength_0 0 rfl rfl)
theorem dX6_judgeLength_1 : decode cX6_judgeLength 1 = .ok (.aload_n 0, 1) := dk_42 (dk_at dksX6_judgeLength_0 1 rfl rfl)
theorem dX6_judgeLength_2 : decode cX6_judgeLength 2 = .ok (.getfield 224, 3) := dk_180 0 224 (dk_at dksX6_judgeLength_0 2 rfl rfl)
theorem dX6_judgeLength_5 : decode cX6_judgeLength 5 = .ok (.ifCond .ne 26, 3) := dk_154 0 26 (dk_at dksX6_judgeLength_0 5 rfl rfl)
theorem dX6_judgeLength_8 : decode cX6_judgeLength 8 = .ok (.aload_n 0, 1) := dk_42 (dk_at dksX6_judgeLength_0 8 rfl rfl)
theorem dX6_judgeLength_9 : decode cX6_judgeLength 9 = .ok (.getfield 249, 3) := dk_180 0 249 (dk_at dksX6_judgeLength_0 9 rfl rfl)
theorem dX6_judgeLength_12 : decode cX6_judgeLength 12 = .ok (.iconst (-1), 1) := dk_2 (dk_at dksX6_judgeLength_0 12 rfl rfl)
theorem dX6_judgeLength_13 : decode cX6_judgeLength 13 = .ok (.if_icmp .ne 18, 3) := dk_160 0 18 (dk_at dksX6_judgeLength_0 13 rfl rfl)
theorem dX6_judgeLength_16 : decode cX6_judgeLength 16 = .ok (.aload_n 0, 1) := dk_42 (dk_at dksX6_judgeLength_0 16 rfl rfl)
theorem dX6_judgeLength_17 : decode cX6_judgeLength 17 = .ok (.getfield 29, 3) := dk_180 0 29 (dk_at dksX6_judgeLength_0 17 rfl rfl)
theorem dX6_judgeLength_20 : decode cX6_judgeLength 20 = .ok (.bipush 16, 2) := dk_16 16 (dk_at dksX6_judgeLength_0 20 rfl rfl)
theorem dX6_judgeLength_22 : decode cX6_judgeLength 22 = .ok (.iaload, 1) := dk_46 (dk_at dksX6_judgeLength_0 22 rfl rfl)
theorem dX6_judgeLength_23 : decode cX6_judgeLength 23 = .ok (.iconst 1, 1) := dk_4 (dk_at dksX6_judgeLength_0 23 rfl rfl)
theorem dX6_judgeLength_24 : decode cX6_judgeLength 24 = .ok (.iconst 3, 1) := dk_6 (dk_at dksX6_judgeLength_1 0 rfl rfl)
theorem dX6_judgeLength_25 : decode cX6_judgeLength 25 = .ok (.invokestatic 158, 3) := dk_184 0 158 (dk_at dksX6_judgeLength_1 1 rfl rfl)
theorem dX6_judgeLength_28 : decode cX6_judgeLength 28 = .ok (.ifCond .eq 7, 3) := dk_153 0 7 (dk_at dksX6_judgeLength_1 4 rfl rfl)
theorem dX6_judgeLength_31 : decode cX6_judgeLength 31 = .ok (.iconst 1, 1) := dk_4 (dk_at dksX6_judgeLength_1 7 rfl rfl)
theorem dX6_judgeLength_32 : decode cX6_judgeLength 32 = .ok (.goto 4, 3) := dk_167 0 4 (dk_at dksX6_judgeLength_1 8 rfl rfl)
theorem dX6_judgeLength_35 : decode cX6_judgeLength 35 = .ok (.iconst 0, 1) := dk_3 (dk_at dksX6_judgeLength_1 11 rfl rfl)
theorem dX6_judgeLength_36 : decode cX6_judgeLength 36 = .ok (.putfield 224, 3) := dk_181 0 224 (dk_at dksX6_judgeLength_1 12 rfl rfl)
theorem dX6_judgeLength_39 : decode cX6_judgeLength 39 = .ok (.iconst 0, 1) := dk_3 (dk_at dksX6_judgeLength_1 15 rfl rfl)
theorem dX6_judgeLength_40 : decode cX6_judgeLength 40 = .ok (.istore_n 1, 1) := dk_60 (dk_at dksX6_judgeLength_1 16 rfl rfl)
theorem dX6_judgeLength_41 : decode cX6_judgeLength 41 = .ok (.iconst 0, 1) := dk_3 (dk_at dksX6_judgeLength_1 17 rfl rfl)
theorem dX6_judgeLength_42 : decode cX6_judgeLength 42 = .ok (.istore_n 2, 1) := dk_61 (dk_at dksX6_judgeLength_1 18 rfl rfl)
theorem dX6_judgeLength_43 : decode cX6_judgeLength 43 = .ok (.iload_n 2, 1) := dk_28 (dk_at dksX6_judgeLength_1 19 rfl rfl)
theorem dX6_judgeLength_44 : decode cX6_judgeLength 44 = .ok (.aload_n 0, 1) := dk_42 (dk_at dksX6_judgeLength_1 20 rfl rfl)
theorem dX6_judgeLength_45 : decode cX6_judgeLength 45 = .ok (.getfield 29, 3) := dk_180 0 29 (dk_at dksX6_judgeLength_1 21 rfl rfl)
theorem dX6_judgeLength_48 : decode cX6_judgeLength 48 = .ok (.bipush 16, 2) := dk_16 16 (dk_at dksX6_judgeLength_2 0 rfl rfl)
theorem dX6_judgeLength_50 : decode cX6_judgeLength 50 = .ok (.iaload, 1) := dk_46 (dk_at dksX6_judgeLength_2 2 rfl rfl)
theorem dX6_judgeLength_51 : decode cX6_judgeLength 51 = .ok (.if_icmp .ge 67, 3) := dk_162 0 67 (dk_at dksX6_judgeLength_2 3 rfl rfl)
theorem dX6_judgeLength_54 : decode cX6_judgeLength 54 = .ok (.aload_n 0, 1) := dk_42 (dk_at dksX6_judgeLength_2 6 rfl rfl)
theorem dX6_judgeLength_55 : decode cX6_judgeLength 55 = .ok (.aload_n 0, 1) := dk_42 (dk_at dksX6_judgeLength_2 7 rfl rfl)
theorem dX6_judgeLength_56 : decode cX6_judgeLength 56 = .ok (.getfield 224, 3) := dk_180 0 224 (dk_at dksX6_judgeLength_2 8 rfl rfl)
theorem dX6_judgeLength_59 : decode cX6_judgeLength 59 = .ok (.ifCond .ne 23, 3) := dk_154 0 23 (dk_at dksX6_judgeLength_2 11 rfl rfl)
theorem dX6_judgeLength_62 : decode cX6_judgeLength 62 = .ok (.aload_n 0, 1) := dk_42 (dk_at dksX6_judgeLength_2 14 rfl rfl)
theorem dX6_judgeLength_63 : decode cX6_judgeLength 63 = .ok (.getfield 32, 3) := dk_180 0 32 (dk_at dksX6_judgeLength_2 15 rfl rfl)
theorem dX6_judgeLength_66 : decode cX6_judgeLength 66 = .ok (.sipush 320, 3) := dk_17 1 64 (dk_at dksX6_judgeLength_2 18 rfl rfl)
theorem dX6_judgeLength_69 : decode cX6_judgeLength 69 = .ok (.iload_n 2, 1) := dk_28 (dk_at dksX6_judgeLength_2 21 rfl rfl)
theorem dX6_judgeLength_70 : decode cX6_judgeLength 70 = .ok (.iadd, 1) := dk_96 (dk_at dksX6_judgeLength_2 22 rfl rfl)
theorem dX6_judgeLength_71 : decode cX6_judgeLength 71 = .ok (.caload, 1) := dk_52 (dk_at dksX6_judgeLength_2 23 rfl rfl)
theorem dX6_judgeLength_72 : decode cX6_judgeLength 72 = .ok (.bipush 48, 2) := dk_16 48 (dk_at dksX6_judgeLength_3 0 rfl rfl)
theorem dX6_judgeLength_74 : decode cX6_judgeLength 74 = .ok (.bipush 57, 2) := dk_16 57 (dk_at dksX6_judgeLength_3 2 rfl rfl)
theorem dX6_judgeLength_76 : decode cX6_judgeLength 76 = .ok (.invokestatic 158, 3) := dk_184 0 158 (dk_at dksX6_judgeLength_3 4 rfl rfl)
theorem dX6_judgeLength_79 : decode cX6_judgeLength 79 = .ok (.ifCond .eq 7, 3) := dk_153 0 7 (dk_at dksX6_judgeLength_3 7 rfl rfl)
theorem dX6_judgeLength_82 : decode cX6_judgeLength 82 = .ok (.iconst 1, 1) := dk_4 (dk_at dksX6_judgeLength_3 10 rfl rfl)
theorem dX6_judgeLength_83 : decode cX6_judgeLength 83 = .ok (.goto 4, 3) := dk_167 0 4 (dk_at dksX6_judgeLength_3 11 rfl rfl)
theorem dX6_judgeLength_86 : decode cX6_judgeLength 86 = .ok (.iconst 0, 1) := dk_3 (dk_at dksX6_judgeLength_3 14 rfl rfl)
theorem dX6_judgeLength_87 : decode cX6_judgeLength 87 = .ok (.putfield 224, 3) := dk_181 0 224 (dk_at dksX6_judgeLength_3 15 rfl rfl)
theorem dX6_judgeLength_90 : decode cX6_judgeLength 90 = .ok (.bipush 10, 2) := dk_16 10 (dk_at dksX6_judgeLength_3 18 rfl rfl)
theorem dX6_judgeLength_92 : decode cX6_judgeLength 92 = .ok (.iload_n 1, 1) := dk_27 (dk_at dksX6_judgeLength_3 20 rfl rfl)
theorem dX6_judgeLength_93 : decode cX6_judgeLength 93 = .ok (.imul, 1) := dk_104 (dk_at dksX6_judgeLength_3 21 rfl rfl)
theorem dX6_judgeLength_94 : decode cX6_judgeLength 94 = .ok (.aload_n 0, 1) := dk_42 (dk_at dksX6_judgeLength_3 22 rfl rfl)
theorem dX6_judgeLength_95 : decode cX6_judgeLength 95 = .ok (.getfield 32, 3) := dk_180 0 32 (dk_at dksX6_judgeLength_4 0 rfl rfl)
theorem dX6_judgeLength_98 : decode cX6_judgeLength 98 = .ok (.sipush 320, 3) := dk_17 1 64 (dk_at dksX6_judgeLength_4 3 rfl rfl)
theorem dX6_judgeLength_101 : decode cX6_judgeLength 101 = .ok (.iload_n 2, 1) := dk_28 (dk_at dksX6_judgeLength_4 6 rfl rfl)
theorem dX6_judgeLength_102 : decode cX6_judgeLength 102 = .ok (.iadd, 1) := dk_96 (dk_at dksX6_judgeLength_4 7 rfl rfl)
theorem dX6_judgeLength_103 : decode cX6_judgeLength 103 = .ok (.caload, 1) := dk_52 (dk_at dksX6_judgeLength_4 8 rfl rfl)
theorem dX6_judgeLength_104 : decode cX6_judgeLength 104 = .ok (.iadd, 1) := dk_96 (dk_at dksX6_judgeLength_4 9 rfl rfl)
theorem dX6_judgeLength_105 : decode cX6_judgeLength 105 = .ok (.bipush 48, 2) := dk_16 48 (dk_at dksX6_judgeLength_4 10 rfl rfl)
theorem dX6_judgeLength_107 : decode cX6_judgeLength 107 = .ok (.isub, 1) := dk_100 (dk_at dksX6_judgeLength_4 12 rfl rfl)
theorem dX6_judgeLength_108 : decode cX6_judgeLength 108 = .ok (.ldc 252, 2) := dk_18 252 (dk_at dksX6_judgeLength_4 13 rfl rfl)
theorem dX6_judgeLength_110 : decode cX6_judgeLength 110 = .ok (.irem, 1) := dk_112 (dk_at dksX6_judgeLength_4 15 rfl rfl)
theorem dX6_judgeLength_111 : decode cX6_judgeLength 111 = .ok (.istore_n 1, 1) := dk_60 (dk_at dksX6_judgeLength_4 16 rfl rfl)
theorem dX6_judgeLength_112 : decode cX6_judgeLength 112 = .ok (.iinc 2 1, 3) := dk_132 2 1 (dk_at dksX6_judgeLength_4 17 rfl rfl)
theorem dX6_judgeLength_115 : decode cX6_judgeLength 115 = .ok (.goto (-72), 3) := dk_167 255 184 (dk_at dksX6_judgeLength_4 20 rfl rfl)
theorem dX6_judgeLength_118 : decode cX6_judgeLength 118 = .ok (.aload_n 0, 1) := dk_42 (dk_at dksX6_judgeLength_4 23 rfl rfl)
theorem dX6_judgeLength_119 : decode cX6_judgeLength 119 = .ok (.iload_n 1, 1) := dk_27 (dk_at dksX6_judgeLength_5 0 rfl rfl)
theorem dX6_judgeLength_120 : decode cX6_judgeLength 120 = .ok (.putfield 249, 3) := dk_181 0 249 (dk_at dksX6_judgeLength_5 1 rfl rfl)
theorem dX6_judgeLength_123 : decode cX6_judgeLength 123 = .ok (.return_, 1) := dk_177 (dk_at dksX6_judgeLength_5 4 rfl rfl)
abbrev cX6_request : ByteArray := prog_8_method_43_code
def yX6_request : MethodName := ⟨RX6, "request", "()I"⟩
def dkwX6_request_7 : List UInt8 := [180, 1, 30, 153, 0, 11, 42, 27, 182, 1, 24, 167, 0, 4, 3, 172]
abbrev dktX6_request_7 : List UInt8 := dkwX6_request_7 ++ []
def dkwX6_request_6 : List UInt8 := [180, 0, 63, 16, 20, 27, 104, 28, 96, 42, 180, 0, 72, 28, 52, 85, 132, 2, 1, 167, 255, 230, 42]
abbrev dktX6_request_6 : List UInt8 := dkwX6_request_6 ++ dktX6_request_7
def dkwX6_request_5 : List UInt8 := [180, 0, 230, 79, 42, 180, 0, 60, 27, 42, 180, 0, 239, 79, 3, 61, 28, 16, 20, 162, 0, 26, 42]
abbrev dktX6_request_5 : List UInt8 := dkwX6_request_5 ++ dktX6_request_6
def dkwX6_request_4 : List UInt8 := [180, 0, 249, 79, 42, 180, 0, 47, 27, 3, 79, 42, 180, 0, 53, 27, 3, 84, 42, 180, 0, 57, 27, 42]
abbrev dktX6_request_4 : List UInt8 := dkwX6_request_4 ++ dktX6_request_5
def dkwX6_request_3 : List UInt8 := [42, 180, 0, 38, 27, 42, 180, 0, 123, 79, 42, 180, 0, 41, 27, 3, 79, 42, 180, 0, 44, 27, 42]
abbrev dktX6_request_3 : List UInt8 := dkwX6_request_3 ++ dktX6_request_4
def dkwX6_request_2 : List UInt8 := [180, 0, 35, 27, 46, 158, 0, 9, 132, 1, 1, 167, 255, 244, 42, 180, 0, 35, 27, 42, 180, 1, 12, 79]
abbrev dktX6_request_2 : List UInt8 := dkwX6_request_2 ++ dktX6_request_3
def dkwX6_request_1 : List UInt8 := [154, 0, 18, 42, 180, 0, 230, 2, 159, 0, 10, 42, 180, 0, 236, 154, 0, 6, 16, 101, 172, 3, 60, 42]
abbrev dktX6_request_1 : List UInt8 := dkwX6_request_1 ++ dktX6_request_2
def dkwX6_request_0 : List UInt8 := [42, 42, 180, 1, 12, 181, 0, 111, 42, 182, 1, 42, 7, 160, 0, 6, 16, 107, 172, 42, 180, 0, 224]
abbrev dktX6_request_0 : List UInt8 := dkwX6_request_0 ++ dktX6_request_1
theorem dksX6_request_0 : cX6_request.data.toList.drop 0 = dktX6_request_0 := by decide +kernel
theorem dksX6_request_1 : cX6_request.data.toList.drop 23 = dktX6_request_1 := dk_seg dksX6_request_0 23 rfl rfl
theorem dksX6_request_2 : cX6_request.data.toList.drop 47 = dktX6_request_2 := dk_seg dksX6_request_1 24 rfl rfl
theorem dksX6_request_3 : cX6_request.data.toList.drop 71 = dktX6_request_3 := dk_seg dksX6_request_2 24 rfl rfl
theorem dksX6_request_4 : cX6_request.data.toList.drop 94 = dktX6_request_4 := dk_seg dksX6_request_3 23 rfl rfl
theorem dksX6_request_5 : cX6_request.data.toList.drop 118 = dktX6_request_5 := dk_seg dksX6_request_4 24 rfl rfl
theorem dksX6_request_6 : cX6_request.data.toList.drop 141 = dktX6_request_6 := dk_seg dksX6_request_5 23 rfl rfl
theorem dksX6_request_7 : cX6_request.data.toList.drop 164 = dktX6_request_7 := dk_seg dksX6_request_6 23 rfl rfl
theorem dX6_request_0 : decode cX6_request 0 = .ok (.aload_n 0, 1) := dk_42 (dk_at dksX6_request_0 0 rfl rfl)
theorem dX6_request_1 : decode cX6_request 1 = .ok (.aload_n 0, 1) := dk_42 (dk_at dksX6_request_0 1 rfl rfl)
theorem dX6_request_2 : decode cX6_request 2 = .ok (.getfield 268, 3) := dk_180 1 12 (dk_at dksX6_request_0 2 rfl rfl)
theorem dX6_request_5 : decode cX6_request 5 = .ok (.putfield 111, 3) := dk_181 0 111 (dk_at dksX6_request_0 5 rfl rfl)
theorem dX6_request_8 : decode cX6_request 8 = .ok (.aload_n 0, 1) := dk_42 (dk_at dksX6_request_0 8 rfl rfl)
theorem dX6_request_9 : decode cX6_request 9 = .ok (.invokevirtual 298, 3) := dk_182 1 42 (dk_at dksX6_request_0 9 rfl rfl)
theorem dX6_request_12 : decode cX6_request 12 = .ok (.iconst 4, 1) := dk_7 (dk_at dksX6_request_0 12 rfl rfl)
theorem dX6_request_13 : decode cX6_request 13 = .ok (.if_icmp .ne 6, 3) := dk_160 0 6 (dk_at dksX6_request_0 13 rfl rfl)
theorem dX6_request_16 : decode cX6_request 16 = .ok (.bipush 107, 2) := dk_16 107 (dk_at dksX6_request_0 16 rfl rfl)
theorem dX6_request_18 : decode cX6_request 18 = .ok (.ireturn, 1) := dk_172 (dk_at dksX6_request_0 18 rfl rfl)
theorem dX6_request_19 : decode cX6_request 19 = .ok (.aload_n 0, 1) := dk_42 (dk_at dksX6_request_0 19 rfl rfl)
theorem dX6_request_20 : decode cX6_request 20 = .ok (.getfield 224, 3) := dk_180 0 224 (dk_at dksX6_request_0 20 rfl rfl)
theorem dX6_request_23 : decode cX6_request 23 = .ok (.ifCond .ne 18, 3) := dk_154 0 18 (dk_at dksX6_request_1 0 rfl rfl)
theorem dX6_request_26 : decode cX6_request 26 = .ok (.aload_n 0, 1) := dk_42 (dk_at dksX6_request_1 3 rfl rfl)
theorem dX6_request_27 : decode cX6_request 27 = .ok (.getfield 230, 3) := dk_180 0 230 (dk_at dksX6_request_1 4 rfl rfl)
theorem dX6_request_30 : decode cX6_request 30 = .ok (.iconst (-1), 1) := dk_2 (dk_at dksX6_request_1 7 rfl rfl)
theorem dX6_request_31 : decode cX6_request 31 = .ok (.if_icmp .eq 10, 3) := dk_159 0 10 (dk_at dksX6_request_1 8 rfl rfl)
theorem dX6_request_34 : decode cX6_request 34 = .ok (.aload_n 0, 1) := dk_42 (dk_at dksX6_request_1 11 rfl rfl)
theorem dX6_request_35 : decode cX6_request 35 = .ok (.getfield 236, 3) := dk_180 0 236 (dk_at dksX6_request_1 12 rfl rfl)
theorem dX6_request_38 : decode cX6_request 38 = .ok (.ifCond .ne 6, 3) := dk_154 0 6 (dk_at dksX6_request_1 15 rfl rfl)
theorem dX6_request_41 : decode cX6_request 41 = .ok (.bipush 101, 2) := dk_16 101 (dk_at dksX6_request_1 18 rfl rfl)
theorem dX6_request_43 : decode cX6_request 43 = .ok (.ireturn, 1) := dk_172 (dk_at dksX6_request_1 20 rfl rfl)
theorem dX6_request_44 : decode cX6_request 44 = .ok (.iconst 0, 1) := dk_3 (dk_at dksX6_request_1 21 rfl rfl)
theorem dX6_request_45 : decode cX6_request 45 = .ok (.istore_n 1, 1) := dk_60 (dk_at dksX6_request_1 22 rfl rfl)
theorem dX6_request_46 : decode cX6_request 46 = .ok (.aload_n 0, 1) := dk_42 (dk_at dksX6_request_1 23 rfl rfl)
theorem dX6_request_47 : decode cX6_request 47 = .ok (.getfield 35, 3) := dk_180 0 35 (dk_at dksX6_request_2 0 rfl rfl)
theorem dX6_request_50 : decode cX6_request 50 = .ok (.iload_n 1, 1) := dk_27 (dk_at dksX6_request_2 3 rfl rfl)
theorem dX6_request_51 : decode cX6_request 51 = .ok (.iaload, 1) := dk_46 (dk_at dksX6_request_2 4 rfl rfl)
theorem dX6_request_52 : decode cX6_request 52 = .ok (.ifCond .le 9, 3) := dk_158 0 9 (dk_at dksX6_request_2 5 rfl rfl)
theorem dX6_request_55 : decode cX6_request 55 = .ok (.iinc 1 1, 3) := dk_132 1 1 (dk_at dksX6_request_2 8 rfl rfl)
theorem dX6_request_58 : decode cX6_request 58 = .ok (.goto (-12), 3) := dk_167 255 244 (dk_at dksX6_request_2 11 rfl rfl)
theorem dX6_request_61 : decode cX6_request 61 = .ok (.aload_n 0, 1) := dk_42 (dk_at dksX6_request_2 14 rfl rfl)
theorem dX6_request_62 : decode cX6_request 62 = .ok (.getfield 35, 3) := dk_180 0 35 (dk_at dksX6_request_2 15 rfl rfl)
theorem dX6_request_65 : decode cX6_request 65 = .ok (.iload_n 1, 1) := dk_27 (dk_at dksX6_request_2 18 rfl rfl)
theorem dX6_request_66 : decode cX6_request 66 = .ok (.aload_n 0, 1) := dk_42 (dk_at dksX6_request_2 19 rfl rfl)
theorem dX6_request_67 : decode cX6_request 67 = .ok (.getfield 268, 3) := dk_180 1 12 (dk_at dksX6_request_2 20 rfl rfl)
theorem dX6_request_70 : decode cX6_request 70 = .ok (.iastore, 1) := dk_79 (dk_at dksX6_request_2 23 rfl rfl)
theorem dX6_request_71 : decode cX6_request 71 = .ok (.aload_n 0, 1) := dk_42 (dk_at dksX6_request_3 0 rfl rfl)
theorem dX6_request_72 : decode cX6_request 72 = .ok (.getfield 38, 3) := dk_180 0 38 (dk_at dksX6_request_3 1 rfl rfl)
theorem dX6_request_75 : decode cX6_request 75 = .ok (.iload_n 1, 1) := dk_27 (dk_at dksX6_request_3 4 rfl rfl)
theorem dX6_request_76 : decode cX6_request 76 = .ok (.aload_n 0, 1) := dk_42 (dk_at dksX6_request_3 5 rfl rfl)
theorem dX6_request_77 : decode cX6_request 77 = .ok (.getfield 123, 3) := dk_180 0 123 (dk_at dksX6_request_3 6 rfl rfl)
theorem dX6_request_80 : decode cX6_request 80 = .ok (.iastore, 1) := dk_79 (dk_at dksX6_request_3 9 rfl rfl)
theorem dX6_request_81 : decode cX6_request 81 = .ok (.aload_n 0, 1) := dk_42 (dk_at dksX6_request_3 10 rfl rfl)
theorem dX6_request_82 : decode cX6_request 82 = .ok (.getfield 41, 3) := dk_180 0 41 (dk_at dksX6_request_3 11 rfl rfl)
theorem dX6_request_85 : decode cX6_request 85 = .ok (.iload_n 1, 1) := dk_27 (dk_at dksX6_request_3 14 rfl rfl)
theorem dX6_request_86 : decode cX6_request 86 = .ok (.iconst 0, 1) := dk_3 (dk_at dksX6_request_3 15 rfl rfl)
theorem dX6_request_87 : decode cX6_request 87 = .ok (.iastore, 1) := dk_79 (dk_at dksX6_request_3 16 rfl rfl)
theorem dX6_request_88 : decode cX6_request 88 = .ok (.aload_n 0, 1) := dk_42 (dk_at dksX6_request_3 17 rfl rfl)
theorem dX6_request_89 : decode cX6_request 89 = .ok (.getfield 44, 3) := dk_180 0 44 (dk_at dksX6_request_3 18 rfl rfl)
theorem dX6_request_92 : decode cX6_request 92 = .ok (.iload_n 1, 1) := dk_27 (dk_at dksX6_request_3 21 rfl rfl)
theorem dX6_request_93 : decode cX6_request 93 = .ok (.aload_n 0, 1) := dk_42 (dk_at dksX6_request_3 22 rfl rfl)
theorem dX6_request_94 : decode cX6_request 94 = .ok (.getfield 249, 3) := dk_180 0 249 (dk_at dksX6_request_4 0 rfl rfl)
theorem dX6_request_97 : decode cX6_request 97 = .ok (.iastore, 1) := dk_79 (dk_at dksX6_request_4 3 rfl rfl)
theorem dX6_request_98 : decode cX6_request 98 = .ok (.aload_n 0, 1) := dk_42 (dk_at dksX6_request_4 4 rfl rfl)
theorem dX6_request_99 : decode cX6_request 99 = .ok (.getfield 47, 3) := dk_180 0 47 (dk_at dksX6_request_4 5 rfl rfl)
theorem dX6_request_102 : decode cX6_request 102 = .ok (.iload_n 1, 1) := dk_27 (dk_at dksX6_request_4 8 rfl rfl)
theorem dX6_request_103 : decode cX6_request 103 = .ok (.iconst 0, 1) := dk_3 (dk_at dksX6_request_4 9 rfl rfl)
theorem dX6_request_104 : decode cX6_request 104 = .ok (.iastore, 1) := dk_79 (dk_at dksX6_request_4 10 rfl rfl)
theorem dX6_request_105 : decode cX6_request 105 = .ok (.aload_n 0, 1) := dk_42 (dk_at dksX6_request_4 11 rfl rfl)
theorem dX6_request_106 : decode cX6_request 106 = .ok (.getfield 53, 3) := dk_180 0 53 (dk_at dksX6_request_4 12 rfl rfl)
theorem dX6_request_109 : decode cX6_request 109 = .ok (.iload_n 1, 1) := dk_27 (dk_at dksX6_request_4 15 rfl rfl)
theorem dX6_request_110 : decode cX6_request 110 = .ok (.iconst 0, 1) := dk_3 (dk_at dksX6_request_4 16 rfl rfl)
theorem dX6_request_111 : decode cX6_request 111 = .ok (.bastore, 1) := dk_84 (dk_at dksX6_request_4 17 rfl rfl)
theorem dX6_request_112 : decode cX6_request 112 = .ok (.aload_n 0, 1) := dk_42 (dk_at dksX6_request_4 18 rfl rfl)
theorem dX6_request_113 : decode cX6_request 113 = .ok (.getfield 57, 3) := dk_180 0 57 (dk_at dksX6_request_4 19 rfl rfl)
theorem dX6_request_116 : decode cX6_request 116 = .ok (.iload_n 1, 1) := dk_27 (dk_at dksX6_request_4 22 rfl rfl)
theorem dX6_request_117 : decode cX6_request 117 = .ok (.aload_n 0, 1) := dk_42 (dk_at dksX6_request_4 23 rfl rfl)
theorem dX6_request_118 : decode cX6_request 118 = .ok (.getfield 230, 3) := dk_180 0 230 (dk_at dksX6_request_5 0 rfl rfl)
theorem dX6_request_121 : decode cX6_request 121 = .ok (.iastore, 1) := dk_79 (dk_at dksX6_request_5 3 rfl rfl)
theorem dX6_request_122 : decode cX6_request 122 = .ok (.aload_n 0, 1) := dk_42 (dk_at dksX6_request_5 4 rfl rfl)
theorem dX6_request_123 : decode cX6_request 123 = .ok (.getfield 60, 3) := dk_180 0 60 (dk_at dksX6_request_5 5 rfl rfl)
theorem dX6_request_126 : decode cX6_request 126 = .ok (.iload_n 1, 1) := dk_27 (dk_at dksX6_request_5 8 rfl rfl)
theorem dX6_request_127 : decode cX6_request 127 = .ok (.aload_n 0, 1) := dk_42 (dk_at dksX6_request_5 9 rfl rfl)
theorem dX6_request_128 : decode cX6_request 128 = .ok (.getfield 239, 3) := dk_180 0 239 (dk_at dksX6_request_5 10 rfl rfl)
theorem dX6_request_131 : decode cX6_request 131 = .ok (.iastore, 1) := dk_79 (dk_at dksX6_request_5 13 rfl rfl)
theorem dX6_request_132 : decode cX6_request 132 = .ok (.iconst 0, 1) := dk_3 (dk_at dksX6_request_5 14 rfl rfl)
theorem dX6_request_133 : decode cX6_request 133 = .ok (.istore_n 2, 1) := dk_61 (dk_at dksX6_request_5 15 rfl rfl)
theorem dX6_request_134 : decode cX6_request 134 = .ok (.iload_n 2, 1) := dk_28 (dk_at dksX6_request_5 16 rfl rfl)
theorem dX6_request_135 : decode cX6_request 135 = .ok (.bipush 20, 2) := dk_16 20 (dk_at dksX6_request_5 17 rfl rfl)
theorem dX6_request_137 : decode cX6_request 137 = .ok (.if_icmp .ge 26, 3) := dk_162 0 26 (dk_at dksX6_request_5 19 rfl rfl)
theorem dX6_request_140 : decode cX6_request 140 = .ok (.aload_n 0, 1) := dk_42 (dk_at dksX6_request_5 22 rfl rfl)
theorem dX6_request_141 : decode cX6_request 141 = .ok (.getfield 63, 3) := dk_180 0 63 (dk_at dksX6_request_6 0 rfl rfl)
theorem dX6_request_144 : decode cX6_request 144 = .ok (.bipush 20, 2) := dk_16 20 (dk_at dksX6_request_6 3 rfl rfl)
theorem dX6_request_146 : decode cX6_request 146 = .ok (.iload_n 1, 1) := dk_27 (dk_at dksX6_request_6 5 rfl rfl)
theorem dX6_request_147 : decode cX6_request 147 = .ok (.imul, 1) := dk_104 (dk_at dksX6_request_6 6 rfl rfl)
theorem dX6_request_148 : decode cX6_request 148 = .ok (.iload_n 2, 1) := dk_28 (dk_at dksX6_request_6 7 rfl rfl)
theorem dX6_request_149 : decode cX6_request 149 = .ok (.iadd, 1) := dk_96 (dk_at dksX6_request_6 8 rfl rfl)
theorem dX6_request_150 : decode cX6_request 150 = .ok (.aload_n 0, 1) := dk_42 (dk_at dksX6_request_6 9 rfl rfl)
theorem dX6_request_151 : decode cX6_request 151 = .ok (.getfield 72, 3) := dk_180 0 72 (dk_at dksX6_request_6 10 rfl rfl)
theorem dX6_request_154 : decode cX6_request 154 = .ok (.iload_n 2, 1) := dk_28 (dk_at dksX6_request_6 13 rfl rfl)
theorem dX6_request_155 : decode cX6_request 155 = .ok (.caload, 1) := dk_52 (dk_at dksX6_request_6 14 rfl rfl)
theorem dX6_request_156 : decode cX6_request 156 = .ok (.castore, 1) := dk_85 (dk_at dksX6_request_6 15 rfl rfl)
theorem dX6_request_157 : decode cX6_request 157 = .ok (.iinc 2 1, 3) := dk_132 2 1 (dk_at dksX6_request_6 16 rfl rfl)
theorem dX6_request_160 : decode cX6_request 160 = .ok (.goto (-26), 3) := dk_167 255 230 (dk_at dksX6_request_6 19 rfl rfl)
theorem dX6_request_163 : decode cX6_request 163 = .ok (.aload_n 0, 1) := dk_42 (dk_at dksX6_request_6 22 rfl rfl)
theorem dX6_request_164 : decode cX6_request 164 = .ok (.getfield 286, 3) := dk_180 1 30 (dk_at dksX6_request_7 0 rfl rfl)
theorem dX6_request_167 : decode cX6_request 167 = .ok (.ifCond .eq 11, 3) := dk_153 0 11 (dk_at dksX6_request_7 3 rfl rfl)
theorem dX6_request_170 : decode cX6_request 170 = .ok (.aload_n 0, 1) := dk_42 (dk_at dksX6_request_7 6 rfl rfl)
theorem dX6_request_171 : decode cX6_request 171 = .ok (.iload_n 1, 1) := dk_27 (dk_at dksX6_request_7 7 rfl rfl)
theorem dX6_request_172 : decode cX6_request 172 = .ok (.invokevirtual 280, 3) := dk_182 1 24 (dk_at dksX6_request_7 8 rfl rfl)
theorem dX6_request_175 : decode cX6_request 175 = .ok (.goto 4, 3) := dk_167 0 4 (dk_at dksX6_request_7 11 rfl rfl)
theorem dX6_request_178 : decode cX6_request 178 = .ok (.iconst 0, 1) := dk_3 (dk_at dksX6_request_7 14 rfl rfl)
theorem dX6_request_179 : decode cX6_request 179 = .ok (.ireturn, 1) := dk_172 (dk_at dksX6_request_7 15 rfl rfl)
abbrev cX6_open : ByteArray := prog_8_method_18_code
def yX6_open : MethodName := ⟨RX6, "open", "()I"⟩
def dkwX6_open_1 : List UInt8 := [27, 60, 132, 2, 1, 167, 255, 231, 27, 172]
abbrev dktX6_open_1 : List UInt8 := dkwX6_open_1 ++ []
def dkwX6_open_0 : List UInt8 := [3, 60, 3, 61, 28, 7, 162, 0, 26, 42, 180, 0, 35, 28, 46, 158, 0, 9, 27, 4, 96, 167, 0, 4]
abbrev dktX6_open_0 : List UInt8 := dkwX6_open_0 ++ dktX6_open_1
theorem dksX6_open_0 : cX6_open.data.toList.drop 0 = dktX6_open_0 := by decide +kernel
theorem dksX6_open_1 : cX6_open.data.toList.drop 24 = dktX6_open_1 := dk_seg dksX6_open_0 24 rfl rfl
theorem dX6_open_0 : decode cX6_open 0 = .ok (.iconst 0, 1) := dk_3 (dk_at dksX6_open_0 0 rfl rfl)
theorem dX6_open_1 : decode cX6_open 1 = .ok (.istore_n 1, 1) := dk_60 (dk_at dksX6_open_0 1 rfl rfl)
theorem dX6_open_2 : decode cX6_open 2 = .ok (.iconst 0, 1) := dk_3 (dk_at dksX6_open_0 2 rfl rfl)
theorem dX6_open_3 : decode cX6_open 3 = .ok (.istore_n 2, 1) := dk_61 (dk_at dksX6_open_0 3 rfl rfl)
theorem dX6_open_4 : decode cX6_open 4 = .ok (.iload_n 2, 1) := dk_28 (dk_at dksX6_open_0 4 rfl rfl)
theorem dX6_open_5 : decode cX6_open 5 = .ok (.iconst 4, 1) := dk_7 (dk_at dksX6_open_0 5 rfl rfl)
theorem dX6_open_6 : decode cX6_open 6 = .ok (.if_icmp .ge 26, 3) := dk_162 0 26 (dk_at dksX6_open_0 6 rfl rfl)
theorem dX6_open_9 : decode cX6_open 9 = .ok (.aload_n 0, 1) := dk_42 (dk_at dksX6_open_0 9 rfl rfl)
theorem dX6_open_10 : decode cX6_open 10 = .ok (.getfield 35, 3) := dk_180 0 35 (dk_at dksX6_open_0 10 rfl rfl)
theorem dX6_open_13 : decode cX6_open 13 = .ok (.iload_n 2, 1) := dk_28 (dk_at dksX6_open_0 13 rfl rfl)
theorem dX6_open_14 : decode cX6_open 14 = .ok (.iaload, 1) := dk_46 (dk_at dksX6_open_0 14 rfl rfl)
theorem dX6_open_15 : decode cX6_open 15 = .ok (.ifCond .le 9, 3) := dk_158 0 9 (dk_at dksX6_open_0 15 rfl rfl)
theorem dX6_open_18 : decode cX6_open 18 = .ok (.iload_n 1, 1) := dk_27 (dk_at dksX6_open_0 18 rfl rfl)
theorem dX6_open_19 : decode cX6_open 19 = .ok (.iconst 1, 1) := dk_4 (dk_at dksX6_open_0 19 rfl rfl)
theorem dX6_open_20 : decode cX6_open 20 = .ok (.iadd, 1) := dk_96 (dk_at dksX6_open_0 20 rfl rfl)
theorem dX6_open_21 : decode cX6_open 21 = .ok (.goto 4, 3) := dk_167 0 4 (dk_at dksX6_open_0 21 rfl rfl)
theorem dX6_open_24 : decode cX6_open 24 = .ok (.iload_n 1, 1) := dk_27 (dk_at dksX6_open_1 0 rfl rfl)
theorem dX6_open_25 : decode cX6_open 25 = .ok (.istore_n 1, 1) := dk_60 (dk_at dksX6_open_1 1 rfl rfl)
theorem dX6_open_26 : decode cX6_open 26 = .ok (.iinc 2 1, 3) := dk_132 2 1 (dk_at dksX6_open_1 2 rfl rfl)
theorem dX6_open_29 : decode cX6_open 29 = .ok (.goto (-25), 3) := dk_167 255 231 (dk_at dksX6_open_1 5 rfl rfl)
theorem dX6_open_32 : decode cX6_open 32 = .ok (.iload_n 1, 1) := dk_27 (dk_at dksX6_open_1 8 rfl rfl)
theorem dX6_open_33 : decode cX6_open 33 = .ok (.ireturn, 1) := dk_172 (dk_at dksX6_open_1 9 rfl rfl)
abbrev cX6_drop : ByteArray := prog_8_method_47_code
def yX6_drop : MethodName := ⟨RX6, "drop", "()I"⟩
def dkwX6_drop_1 : List UInt8 := [182, 1, 15, 153, 0, 5, 4, 172, 42, 42, 180, 1, 12, 182, 1, 45, 3, 172]
abbrev dktX6_drop_1 : List UInt8 := dkwX6_drop_1 ++ []
def dkwX6_drop_0 : List UInt8 := [42, 180, 1, 3, 4, 159, 0, 6, 16, 6, 172, 42, 180, 1, 12, 153, 0, 14, 42, 42, 180, 1, 12]
abbrev dktX6_drop_0 : List UInt8 := dkwX6_drop_0 ++ dktX6_drop_1
theorem dksX6_drop_0 : cX6_drop.data.toList.drop 0 = dktX6_drop_0 := by decide +kernel
theorem dksX6_drop_1 : cX6_drop.data.toList.drop 23 = dktX6_drop_1 := dk_seg dksX6_drop_0 23 rfl rfl
theorem dX6_drop_0 : decode cX6_drop 0 = .ok (.aload_n 0, 1) := dk_42 (dk_at dksX6_drop_0 0 rfl rfl)
theorem dX6_drop_1 : decode cX6_drop 1 = .ok (.getfield 259, 3) := dk_180 1 3 (dk_at dksX6_drop_0 1 rfl rfl)
theorem dX6_drop_4 : decode cX6_drop 4 = .ok (.iconst 1, 1) := dk_4 (dk_at dksX6_drop_0 4 rfl rfl)
theorem dX6_drop_5 : decode cX6_drop 5 = .ok (.if_icmp .eq 6, 3) := dk_159 0 6 (dk_at dksX6_drop_0 5 rfl rfl)
theorem dX6_drop_8 : decode cX6_drop 8 = .ok (.bipush 6, 2) := dk_16 6 (dk_at dksX6_drop_0 8 rfl rfl)
theorem dX6_drop_10 : decode cX6_drop 10 = .ok (.ireturn, 1) := dk_172 (dk_at dksX6_drop_0 10 rfl rfl)
theorem dX6_drop_11 : decode cX6_drop 11 = .ok (.aload_n 0, 1) := dk_42 (dk_at dksX6_drop_0 11 rfl rfl)
theorem dX6_drop_12 : decode cX6_drop 12 = .ok (.getfield 268, 3) := dk_180 1 12 (dk_at dksX6_drop_0 12 rfl rfl)
theorem dX6_drop_15 : decode cX6_drop 15 = .ok (.ifCond .eq 14, 3) := dk_153 0 14 (dk_at dksX6_drop_0 15 rfl rfl)
theorem dX6_drop_18 : decode cX6_drop 18 = .ok (.aload_n 0, 1) := dk_42 (dk_at dksX6_drop_0 18 rfl rfl)
theorem dX6_drop_19 : decode cX6_drop 19 = .ok (.aload_n 0, 1) := dk_42 (dk_at dksX6_drop_0 19 rfl rfl)
theorem dX6_drop_20 : decode cX6_drop 20 = .ok (.getfield 268, 3) := dk_180 1 12 (dk_at dksX6_drop_0 20 rfl rfl)
theorem dX6_drop_23 : decode cX6_drop 23 = .ok (.invokevirtual 271, 3) := dk_182 1 15 (dk_at dksX6_drop_1 0 rfl rfl)
theorem dX6_drop_26 : decode cX6_drop 26 = .ok (.ifCond .eq 5, 3) := dk_153 0 5 (dk_at dksX6_drop_1 3 rfl rfl)
theorem dX6_drop_29 : decode cX6_drop 29 = .ok (.iconst 1, 1) := dk_4 (dk_at dksX6_drop_1 6 rfl rfl)
theorem dX6_drop_30 : decode cX6_drop 30 = .ok (.ireturn, 1) := dk_172 (dk_at dksX6_drop_1 7 rfl rfl)
theorem dX6_drop_31 : decode cX6_drop 31 = .ok (.aload_n 0, 1) := dk_42 (dk_at dksX6_drop_1 8 rfl rfl)
theorem dX6_drop_32 : decode cX6_drop 32 = .ok (.aload_n 0, 1) := dk_42 (dk_at dksX6_drop_1 9 rfl rfl)
theorem dX6_drop_33 : decode cX6_drop 33 = .ok (.getfield 268, 3) := dk_180 1 12 (dk_at dksX6_drop_1 10 rfl rfl)
theorem dX6_drop_36 : decode cX6_drop 36 = .ok (.invokevirtual 301, 3) := dk_182 1 45 (dk_at dksX6_drop_1 13 rfl rfl)
theorem dX6_drop_39 : decode cX6_drop 39 = .ok (.iconst 0, 1) := dk_3 (dk_at dksX6_drop_1 16 rfl rfl)
theorem dX6_drop_40 : decode cX6_drop 40 = .ok (.ireturn, 1) := dk_172 (dk_at dksX6_drop_1 17 rfl rfl)
abbrev cX6_end : ByteArray := prog_8_method_19_code
def yX6_end : MethodName := ⟨RX6, "end", "(I)V"⟩
def dkwX6_end_0 : List UInt8 := [42, 27, 182, 0, 173, 61, 28, 2, 159, 0, 10, 42, 180, 0, 35, 28, 3, 79, 177]
abbrev dktX6_end_0 : List UInt8 := dkwX6_end_0 ++ []
theorem dksX6_end_0 : cX6_end.data.toList.drop 0 = dktX6_end_0 := by decide +kernel
theorem dX6_end_0 : decode cX6_end 0 = .ok (.aload_n 0, 1) := dk_42 (dk_at dksX6_end_0 0 rfl rfl)
theorem dX6_end_1 : decode cX6_end 1 = .ok (.iload_n 1, 1) := dk_27 (dk_at dksX6_end_0 1 rfl rfl)
theorem dX6_end_2 : decode cX6_end 2 = .ok (.invokevirtual 173, 3) := dk_182 0 173 (dk_at dksX6_end_0 2 rfl rfl)
theorem dX6_end_5 : decode cX6_end 5 = .ok (.istore_n 2, 1) := dk_61 (dk_at dksX6_end_0 5 rfl rfl)
theorem dX6_end_6 : decode cX6_end 6 = .ok (.iload_n 2, 1) := dk_28 (dk_at dksX6_end_0 6 rfl rfl)
theorem dX6_end_7 : decode cX6_end 7 = .ok (.iconst (-1), 1) := dk_2 (dk_at dksX6_end_0 7 rfl rfl)
theorem dX6_end_8 : decode cX6_end 8 = .ok (.if_icmp .eq 10, 3) := dk_159 0 10 (dk_at dksX6_end_0 8 rfl rfl)
theorem dX6_end_11 : decode cX6_end 11 = .ok (.aload_n 0, 1) := dk_42 (dk_at dksX6_end_0 11 rfl rfl)
theorem dX6_end_12 : decode cX6_end 12 = .ok (.getfield 35, 3) := dk_180 0 35 (dk_at dksX6_end_0 12 rfl rfl)
theorem dX6_end_15 : decode cX6_end 15 = .ok (.iload_n 2, 1) := dk_28 (dk_at dksX6_end_0 15 rfl rfl)
theorem dX6_end_16 : decode cX6_end 16 = .ok (.iconst 0, 1) := dk_3 (dk_at dksX6_end_0 16 rfl rfl)
theorem dX6_end_17 : decode cX6_end 17 = .ok (.iastore, 1) := dk_79 (dk_at dksX6_end_0 17 rfl rfl)
theorem dX6_end_18 : decode cX6_end 18 = .ok (.return_, 1) := dk_177 (dk_at dksX6_end_0 18 rfl rfl)
abbrev cX6_settings : ByteArray := prog_8_method_44_code
def yX6_settings : MethodName := ⟨RX6, "settings", "()I"⟩
def dkwX6_settings_7 : List UInt8 := [182, 0, 132, 3, 172]
abbrev dktX6_settings_7 : List UInt8 := dkwX6_settings_7 ++ []
def dkwX6_settings_6 : List UInt8 := [29, 167, 0, 7, 42, 180, 0, 123, 181, 0, 123, 132, 1, 2, 167, 255, 144, 42, 3, 7, 4, 3]
abbrev dktX6_settings_6 : List UInt8 := dkwX6_settings_6 ++ dktX6_settings_7
def dkwX6_settings_5 : List UInt8 := [21, 4, 92, 46, 29, 42, 180, 0, 123, 100, 96, 79, 132, 4, 1, 167, 255, 226, 42, 28, 7, 160, 0, 7]
abbrev dktX6_settings_5 : List UInt8 := dkwX6_settings_5 ++ dktX6_settings_6
def dkwX6_settings_4 : List UInt8 := [180, 0, 126, 181, 0, 126, 3, 54, 4, 21, 4, 7, 162, 0, 30, 28, 7, 160, 0, 25, 42, 180, 0, 38]
abbrev dktX6_settings_4 : List UInt8 := dkwX6_settings_4 ++ dktX6_settings_5
def dkwX6_settings_3 : List UInt8 := [28, 8, 160, 0, 11, 29, 16, 16, 162, 0, 5, 4, 172, 42, 28, 8, 160, 0, 7, 29, 167, 0, 7, 42]
abbrev dktX6_settings_3 : List UInt8 := dkwX6_settings_3 ++ dktX6_settings_4
def dkwX6_settings_2 : List UInt8 := [180, 1, 3, 162, 0, 110, 42, 180, 0, 66, 7, 27, 96, 46, 61, 42, 180, 0, 66, 8, 27, 96, 46, 62]
abbrev dktX6_settings_2 : List UInt8 := dkwX6_settings_2 ++ dktX6_settings_3
def dkwX6_settings_1 : List UInt8 := [16, 6, 167, 0, 4, 3, 172, 42, 180, 1, 3, 5, 112, 4, 160, 0, 6, 16, 6, 172, 3, 60, 27, 42]
abbrev dktX6_settings_1 : List UInt8 := dkwX6_settings_1 ++ dktX6_settings_2
def dkwX6_settings_0 : List UInt8 := [42, 180, 1, 12, 158, 0, 5, 4, 172, 42, 4, 182, 1, 0, 153, 0, 17, 42, 180, 1, 3, 158, 0, 8]
abbrev dktX6_settings_0 : List UInt8 := dkwX6_settings_0 ++ dktX6_settings_1
theorem dksX6_settings_0 : cX6_settings.data.toList.drop 0 = dktX6_settings_0 := by decide +kernel
theorem dksX6_settings_1 : cX6_settings.data.toList.drop 24 = dktX6_settings_1 := dk_seg dksX6_settings_0 24 rfl rfl
theorem dksX6_settings_2 : cX6_settings.data.toList.drop 48 = dktX6_settings_2 := dk_seg dksX6_settings_1 24 rfl rfl
theorem dksX6_settings_3 : cX6_settings.data.toList.drop 72 = dktX6_settings_3 := dk_seg dksX6_settings_2 24 rfl rfl
theorem dksX6_settings_4 : cX6_settings.data.toList.drop 96 = dktX6_settings_4 := dk_seg dksX6_settings_3 24 rfl rfl
theorem dksX6_settings_5 : cX6_settings.data.toList.drop 120 = dktX6_settings_5 := dk_seg dksX6_settings_4 24 rfl rfl
theorem dksX6_settings_6 : cX6_settings.data.toList.drop 144 = dktX6_settings_6 := dk_seg dksX6_settings_5 24 rfl rfl
theorem dksX6_settings_7 : cX6_settings.data.toList.drop 166 = dktX6_settings_7 := dk_seg dksX6_settings_6 22 rfl rfl
theorem dX6_settings_0 : decode cX6_settings 0 = .ok (.aload_n 0, 1) := dk_42 (dk_at dksX6_settings_0 0 rfl rfl)
theorem dX6_settings_1 : decode cX6_settings 1 = .ok (.getfield 268, 3) := dk_180 1 12 (dk_at dksX6_settings_0 1 rfl rfl)
theorem dX6_settings_4 : decode cX6_settings 4 = .ok (.ifCond .le 5, 3) := dk_158 0 5 (dk_at dksX6_settings_0 4 rfl rfl)
theorem dX6_settings_7 : decode cX6_settings 7 = .ok (.iconst 1, 1) := dk_4 (dk_at dksX6_settings_0 7 rfl rfl)
theorem dX6_settings_8 : decode cX6_settings 8 = .ok (.ireturn, 1) := dk_172 (dk_at dksX6_settings_0 8 rfl rfl)
theorem dX6_settings_9 : decode cX6_settings 9 = .ok (.aload_n 0, 1) := dk_42 (dk_at dksX6_settings_0 9 rfl rfl)
theorem dX6_settings_10 : decode cX6_settings 10 = .ok (.iconst 1, 1) := dk_4 (dk_at dksX6_settings_0 10 rfl rfl)
theorem dX6_settings_11 : decode cX6_settings 11 = .ok (.invokevirtual 256, 3) := dk_182 1 0 (dk_at dksX6_settings_0 11 rfl rfl)
theorem dX6_settings_14 : decode cX6_settings 14 = .ok (.ifCond .eq 17, 3) := dk_153 0 17 (dk_at dksX6_settings_0 14 rfl rfl)
theorem dX6_settings_17 : decode cX6_settings 17 = .ok (.aload_n 0, 1) := dk_42 (dk_at dksX6_settings_0 17 rfl rfl)
theorem dX6_settings_18 : decode cX6_settings 18 = .ok (.getfield 259, 3) := dk_180 1 3 (dk_at dksX6_settings_0 18 rfl rfl)
theorem dX6_settings_21 : decode cX6_settings 21 = .ok (.ifCond .le 8, 3) := dk_158 0 8 (dk_at dksX6_settings_0 21 rfl rfl)
theorem dX6_settings_24 : decode cX6_settings 24 = .ok (.bipush 6, 2) := dk_16 6 (dk_at dksX6_settings_1 0 rfl rfl)
theorem dX6_settings_26 : decode cX6_settings 26 = .ok (.goto 4, 3) := dk_167 0 4 (dk_at dksX6_settings_1 2 rfl rfl)
theorem dX6_settings_29 : decode cX6_settings 29 = .ok (.iconst 0, 1) := dk_3 (dk_at dksX6_settings_1 5 rfl rfl)
theorem dX6_settings_30 : decode cX6_settings 30 = .ok (.ireturn, 1) := dk_172 (dk_at dksX6_settings_1 6 rfl rfl)
theorem dX6_settings_31 : decode cX6_settings 31 = .ok (.aload_n 0, 1) := dk_42 (dk_at dksX6_settings_1 7 rfl rfl)
theorem dX6_settings_32 : decode cX6_settings 32 = .ok (.getfield 259, 3) := dk_180 1 3 (dk_at dksX6_settings_1 8 rfl rfl)
theorem dX6_settings_35 : decode cX6_settings 35 = .ok (.iconst 2, 1) := dk_5 (dk_at dksX6_settings_1 11 rfl rfl)
theorem dX6_settings_36 : decode cX6_settings 36 = .ok (.irem, 1) := dk_112 (dk_at dksX6_settings_1 12 rfl rfl)
theorem dX6_settings_37 : decode cX6_settings 37 = .ok (.iconst 1, 1) := dk_4 (dk_at dksX6_settings_1 13 rfl rfl)
theorem dX6_settings_38 : decode cX6_settings 38 = .ok (.if_icmp .ne 6, 3) := dk_160 0 6 (dk_at dksX6_settings_1 14 rfl rfl)
theorem dX6_settings_41 : decode cX6_settings 41 = .ok (.bipush 6, 2) := dk_16 6 (dk_at dksX6_settings_1 17 rfl rfl)
theorem dX6_settings_43 : decode cX6_settings 43 = .ok (.ireturn, 1) := dk_172 (dk_at dksX6_settings_1 19 rfl rfl)
theorem dX6_settings_44 : decode cX6_settings 44 = .ok (.iconst 0, 1) := dk_3 (dk_at dksX6_settings_1 20 rfl rfl)
theorem dX6_settings_45 : decode cX6_settings 45 = .ok (.istore_n 1, 1) := dk_60 (dk_at dksX6_settings_1 21 rfl rfl)
theorem dX6_settings_46 : decode cX6_settings 46 = .ok (.iload_n 1, 1) := dk_27 (dk_at dksX6_settings_1 22 rfl rfl)
theorem dX6_settings_47 : decode cX6_settings 47 = .ok (.aload_n 0, 1) := dk_42 (dk_at dksX6_settings_1 23 rfl rfl)
theorem dX6_settings_48 : decode cX6_settings 48 = .ok (.getfield 259, 3) := dk_180 1 3 (dk_at dksX6_settings_2 0 rfl rfl)
theorem dX6_settings_51 : decode cX6_settings 51 = .ok (.if_icmp .ge 110, 3) := dk_162 0 110 (dk_at dksX6_settings_2 3 rfl rfl)
theorem dX6_settings_54 : decode cX6_settings 54 = .ok (.aload_n 0, 1) := dk_42 (dk_at dksX6_settings_2 6 rfl rfl)
theorem dX6_settings_55 : decode cX6_settings 55 = .ok (.getfield 66, 3) := dk_180 0 66 (dk_at dksX6_settings_2 7 rfl rfl)
theorem dX6_settings_58 : decode cX6_settings 58 = .ok (.iconst 4, 1) := dk_7 (dk_at dksX6_settings_2 10 rfl rfl)
theorem dX6_settings_59 : decode cX6_settings 59 = .ok (.iload_n 1, 1) := dk_27 (dk_at dksX6_settings_2 11 rfl rfl)
theorem dX6_settings_60 : decode cX6_settings 60 = .ok (.iadd, 1) := dk_96 (dk_at dksX6_settings_2 12 rfl rfl)
theorem dX6_settings_61 : decode cX6_settings 61 = .ok (.iaload, 1) := dk_46 (dk_at dksX6_settings_2 13 rfl rfl)
theorem dX6_settings_62 : decode cX6_settings 62 = .ok (.istore_n 2, 1) := dk_61 (dk_at dksX6_settings_2 14 rfl rfl)
theorem dX6_settings_63 : decode cX6_settings 63 = .ok (.aload_n 0, 1) := dk_42 (dk_at dksX6_settings_2 15 rfl rfl)
theorem dX6_settings_64 : decode cX6_settings 64 = .ok (.getfield 66, 3) := dk_180 0 66 (dk_at dksX6_settings_2 16 rfl rfl)
theorem dX6_settings_67 : decode cX6_settings 67 = .ok (.iconst 5, 1) := dk_8 (dk_at dksX6_settings_2 19 rfl rfl)
theorem dX6_settings_68 : decode cX6_settings 68 = .ok (.iload_n 1, 1) := dk_27 (dk_at dksX6_settings_2 20 rfl rfl)
theorem dX6_settings_69 : decode cX6_settings 69 = .ok (.iadd, 1) := dk_96 (dk_at dksX6_settings_2 21 rfl rfl)
theorem dX6_settings_70 : decode cX6_settings 70 = .ok (.iaload, 1) := dk_46 (dk_at dksX6_settings_2 22 rfl rfl)
theorem dX6_settings_71 : decode cX6_settings 71 = .ok (.istore_n 3, 1) := dk_62 (dk_at dksX6_settings_2 23 rfl rfl)
theorem dX6_settings_72 : decode cX6_settings 72 = .ok (.iload_n 2, 1) := dk_28 (dk_at dksX6_settings_3 0 rfl rfl)
theorem dX6_settings_73 : decode cX6_settings 73 = .ok (.iconst 5, 1) := dk_8 (dk_at dksX6_settings_3 1 rfl rfl)
theorem dX6_settings_74 : decode cX6_settings 74 = .ok (.if_icmp .ne 11, 3) := dk_160 0 11 (dk_at dksX6_settings_3 2 rfl rfl)
theorem dX6_settings_77 : decode cX6_settings 77 = .ok (.iload_n 3, 1) := dk_29 (dk_at dksX6_settings_3 5 rfl rfl)
theorem dX6_settings_78 : decode cX6_settings 78 = .ok (.bipush 16, 2) := dk_16 16 (dk_at dksX6_settings_3 6 rfl rfl)
theorem dX6_settings_80 : decode cX6_settings 80 = .ok (.if_icmp .ge 5, 3) := dk_162 0 5 (dk_at dksX6_settings_3 8 rfl rfl)
theorem dX6_settings_83 : decode cX6_settings 83 = .ok (.iconst 1, 1) := dk_4 (dk_at dksX6_settings_3 11 rfl rfl)
theorem dX6_settings_84 : decode cX6_settings 84 = .ok (.ireturn, 1) := dk_172 (dk_at dksX6_settings_3 12 rfl rfl)
theorem dX6_settings_85 : decode cX6_settings 85 = .ok (.aload_n 0, 1) := dk_42 (dk_at dksX6_settings_3 13 rfl rfl)
theorem dX6_settings_86 : decode cX6_settings 86 = .ok (.iload_n 2, 1) := dk_28 (dk_at dksX6_settings_3 14 rfl rfl)
theorem dX6_settings_87 : decode cX6_settings 87 = .ok (.iconst 5, 1) := dk_8 (dk_at dksX6_settings_3 15 rfl rfl)
theorem dX6_settings_88 : decode cX6_settings 88 = .ok (.if_icmp .ne 7, 3) := dk_160 0 7 (dk_at dksX6_settings_3 16 rfl rfl)
theorem dX6_settings_91 : decode cX6_settings 91 = .ok (.iload_n 3, 1) := dk_29 (dk_at dksX6_settings_3 19 rfl rfl)
theorem dX6_settings_92 : decode cX6_settings 92 = .ok (.goto 7, 3) := dk_167 0 7 (dk_at dksX6_settings_3 20 rfl rfl)
theorem dX6_settings_95 : decode cX6_settings 95 = .ok (.aload_n 0, 1) := dk_42 (dk_at dksX6_settings_3 23 rfl rfl)
theorem dX6_settings_96 : decode cX6_settings 96 = .ok (.getfield 126, 3) := dk_180 0 126 (dk_at dksX6_settings_4 0 rfl rfl)
theorem dX6_settings_99 : decode cX6_settings 99 = .ok (.putfield 126, 3) := dk_181 0 126 (dk_at dksX6_settings_4 3 rfl rfl)
theorem dX6_settings_102 : decode cX6_settings 102 = .ok (.iconst 0, 1) := dk_3 (dk_at dksX6_settings_4 6 rfl rfl)
theorem dX6_settings_103 : decode cX6_settings 103 = .ok (.istore 4, 2) := dk_54 4 (dk_at dksX6_settings_4 7 rfl rfl)
theorem dX6_settings_105 : decode cX6_settings 105 = .ok (.iload 4, 2) := dk_21 4 (dk_at dksX6_settings_4 9 rfl rfl)
theorem dX6_settings_107 : decode cX6_settings 107 = .ok (.iconst 4, 1) := dk_7 (dk_at dksX6_settings_4 11 rfl rfl)
theorem dX6_settings_108 : decode cX6_settings 108 = .ok (.if_icmp .ge 30, 3) := dk_162 0 30 (dk_at dksX6_settings_4 12 rfl rfl)
theorem dX6_settings_111 : decode cX6_settings 111 = .ok (.iload_n 2, 1) := dk_28 (dk_at dksX6_settings_4 15 rfl rfl)
theorem dX6_settings_112 : decode cX6_settings 112 = .ok (.iconst 4, 1) := dk_7 (dk_at dksX6_settings_4 16 rfl rfl)
theorem dX6_settings_113 : decode cX6_settings 113 = .ok (.if_icmp .ne 25, 3) := dk_160 0 25 (dk_at dksX6_settings_4 17 rfl rfl)
theorem dX6_settings_116 : decode cX6_settings 116 = .ok (.aload_n 0, 1) := dk_42 (dk_at dksX6_settings_4 20 rfl rfl)
theorem dX6_settings_117 : decode cX6_settings 117 = .ok (.getfield 38, 3) := dk_180 0 38 (dk_at dksX6_settings_4 21 rfl rfl)
theorem dX6_settings_120 : decode cX6_settings 120 = .ok (.iload 4, 2) := dk_21 4 (dk_at dksX6_settings_5 0 rfl rfl)
theorem dX6_settings_122 : decode cX6_settings 122 = .ok (.dup2, 1) := dk_92 (dk_at dksX6_settings_5 2 rfl rfl)
theorem dX6_settings_123 : decode cX6_settings 123 = .ok (.iaload, 1) := dk_46 (dk_at dksX6_settings_5 3 rfl rfl)
theorem dX6_settings_124 : decode cX6_settings 124 = .ok (.iload_n 3, 1) := dk_29 (dk_at dksX6_settings_5 4 rfl rfl)
theorem dX6_settings_125 : decode cX6_settings 125 = .ok (.aload_n 0, 1) := dk_42 (dk_at dksX6_settings_5 5 rfl rfl)
theorem dX6_settings_126 : decode cX6_settings 126 = .ok (.getfield 123, 3) := dk_180 0 123 (dk_at dksX6_settings_5 6 rfl rfl)
theorem dX6_settings_129 : decode cX6_settings 129 = .ok (.isub, 1) := dk_100 (dk_at dksX6_settings_5 9 rfl rfl)
theorem dX6_settings_130 : decode cX6_settings 130 = .ok (.iadd, 1) := dk_96 (dk_at dksX6_settings_5 10 rfl rfl)
theorem dX6_settings_131 : decode cX6_settings 131 = .ok (.iastore, 1) := dk_79 (dk_at dksX6_settings_5 11 rfl rfl)
theorem dX6_settings_132 : decode cX6_settings 132 = .ok (.iinc 4 1, 3) := dk_132 4 1 (dk_at dksX6_settings_5 12 rfl rfl)
theorem dX6_settings_135 : decode cX6_settings 135 = .ok (.goto (-30), 3) := dk_167 255 226 (dk_at dksX6_settings_5 15 rfl rfl)
theorem dX6_settings_138 : decode cX6_settings 138 = .ok (.aload_n 0, 1) := dk_42 (dk_at dksX6_settings_5 18 rfl rfl)
theorem dX6_settings_139 : decode cX6_settings 139 = .ok (.iload_n 2, 1) := dk_28 (dk_at dksX6_settings_5 19 rfl rfl)
theorem dX6_settings_140 : decode cX6_settings 140 = .ok (.iconst 4, 1) := dk_7 (dk_at dksX6_settings_5 20 rfl rfl)
theorem dX6_settings_141 : decode cX6_settings 141 = .ok (.if_icmp .ne 7, 3) := dk_160 0 7 (dk_at dksX6_settings_5 21 rfl rfl)
theorem dX6_settings_144 : decode cX6_settings 144 = .ok (.iload_n 3, 1) := dk_29 (dk_at dksX6_settings_6 0 rfl rfl)
theorem dX6_settings_145 : decode cX6_settings 145 = .ok (.goto 7, 3) := dk_167 0 7 (dk_at dksX6_settings_6 1 rfl rfl)
theorem dX6_settings_148 : decode cX6_settings 148 = .ok (.aload_n 0, 1) := dk_42 (dk_at dksX6_settings_6 4 rfl rfl)
theorem dX6_settings_149 : decode cX6_settings 149 = .ok (.getfield 123, 3) := dk_180 0 123 (dk_at dksX6_settings_6 5 rfl rfl)
theorem dX6_settings_152 : decode cX6_settings 152 = .ok (.putfield 123, 3) := dk_181 0 123 (dk_at dksX6_settings_6 8 rfl rfl)
theorem dX6_settings_155 : decode cX6_settings 155 = .ok (.iinc 1 2, 3) := dk_132 1 2 (dk_at dksX6_settings_6 11 rfl rfl)
theorem dX6_settings_158 : decode cX6_settings 158 = .ok (.goto (-112), 3) := dk_167 255 144 (dk_at dksX6_settings_6 14 rfl rfl)
theorem dX6_settings_161 : decode cX6_settings 161 = .ok (.aload_n 0, 1) := dk_42 (dk_at dksX6_settings_6 17 rfl rfl)
theorem dX6_settings_162 : decode cX6_settings 162 = .ok (.iconst 0, 1) := dk_3 (dk_at dksX6_settings_6 18 rfl rfl)
theorem dX6_settings_163 : decode cX6_settings 163 = .ok (.iconst 4, 1) := dk_7 (dk_at dksX6_settings_6 19 rfl rfl)
theorem dX6_settings_164 : decode cX6_settings 164 = .ok (.iconst 1, 1) := dk_4 (dk_at dksX6_settings_6 20 rfl rfl)
theorem dX6_settings_165 : decode cX6_settings 165 = .ok (.iconst 0, 1) := dk_3 (dk_at dksX6_settings_6 21 rfl rfl)
theorem dX6_settings_166 : decode cX6_settings 166 = .ok (.invokevirtual 132, 3) := dk_182 0 132 (dk_at dksX6_settings_7 0 rfl rfl)
theorem dX6_settings_169 : decode cX6_settings 169 = .ok (.iconst 0, 1) := dk_3 (dk_at dksX6_settings_7 3 rfl rfl)
theorem dX6_settings_170 : decode cX6_settings 170 = .ok (.ireturn, 1) := dk_172 (dk_at dksX6_settings_7 4 rfl rfl)
abbrev cX6_ping : ByteArray := prog_8_method_45_code
def yX6_ping : MethodName := ⟨RX6, "ping", "()I"⟩
def dkwX6_ping_2 : List UInt8 := [42, 42, 180, 0, 66, 7, 27, 96, 46, 182, 0, 136, 132, 1, 1, 167, 255, 236, 3, 172]
abbrev dktX6_ping_2 : List UInt8 := dkwX6_ping_2 ++ []
def dkwX6_ping_1 : List UInt8 := [182, 1, 0, 153, 0, 5, 3, 172, 42, 7, 16, 6, 4, 3, 182, 0, 132, 3, 60, 27, 7, 162, 0, 21]
abbrev dktX6_ping_1 : List UInt8 := dkwX6_ping_1 ++ dktX6_ping_2
def dkwX6_ping_0 : List UInt8 := [42, 180, 1, 12, 158, 0, 5, 4, 172, 42, 180, 1, 3, 7, 159, 0, 6, 16, 6, 172, 42, 4]
abbrev dktX6_ping_0 : List UInt8 := dkwX6_ping_0 ++ dktX6_ping_1
theorem dksX6_ping_0 : cX6_ping.data.toList.drop 0 = dktX6_ping_0 := by decide +kernel
theorem dksX6_ping_1 : cX6_ping.data.toList.drop 22 = dktX6_ping_1 := dk_seg dksX6_ping_0 22 rfl rfl
theorem dksX6_ping_2 : cX6_ping.data.toList.drop 46 = dktX6_ping_2 := dk_seg dksX6_ping_1 24 rfl rfl
theorem dX6_ping_0 : decode cX6_ping 0 = .ok (.aload_n 0, 1) := dk_42 (dk_at dksX6_ping_0 0 rfl rfl)
theorem dX6_ping_1 : decode cX6_ping 1 = .ok (.getfield 268, 3) := dk_180 1 12 (dk_at dksX6_ping_0 1 rfl rfl)
theorem dX6_ping_4 : decode cX6_ping 4 = .ok (.ifCond .le 5, 3) := dk_158 0 5 (dk_at dksX6_ping_0 4 rfl rfl)
theorem dX6_ping_7 : decode cX6_ping 7 = .ok (.iconst 1, 1) := dk_4 (dk_at dksX6_ping_0 7 rfl rfl)
theorem dX6_ping_8 : decode cX6_ping 8 = .ok (.ireturn, 1) := dk_172 (dk_at dksX6_ping_0 8 rfl rfl)
theorem dX6_ping_9 : decode cX6_ping 9 = .ok (.aload_n 0, 1) := dk_42 (dk_at dksX6_ping_0 9 rfl rfl)
theorem dX6_ping_10 : decode cX6_ping 10 = .ok (.getfield 259, 3) := dk_180 1 3 (dk_at dksX6_ping_0 10 rfl rfl)
theorem dX6_ping_13 : decode cX6_ping 13 = .ok (.iconst 4, 1) := dk_7 (dk_at dksX6_ping_0 13 rfl rfl)
theorem dX6_ping_14 : decode cX6_ping 14 = .ok (.if_icmp .eq 6, 3) := dk_159 0 6 (dk_at dksX6_ping_0 14 rfl rfl)
theorem dX6_ping_17 : decode cX6_ping 17 = .ok (.bipush 6, 2) := dk_16 6 (dk_at dksX6_ping_0 17 rfl rfl)
theorem dX6_ping_19 : decode cX6_ping 19 = .ok (.ireturn, 1) := dk_172 (dk_at dksX6_ping_0 19 rfl rfl)
theorem dX6_ping_20 : decode cX6_ping 20 = .ok (.aload_n 0, 1) := dk_42 (dk_at dksX6_ping_0 20 rfl rfl)
theorem dX6_ping_21 : decode cX6_ping 21 = .ok (.iconst 1, 1) := dk_4 (dk_at dksX6_ping_0 21 rfl rfl)
theorem dX6_ping_22 : decode cX6_ping 22 = .ok (.invokevirtual 256, 3) := dk_182 1 0 (dk_at dksX6_ping_1 0 rfl rfl)
theorem dX6_ping_25 : decode cX6_ping 25 = .ok (.ifCond .eq 5, 3) := dk_153 0 5 (dk_at dksX6_ping_1 3 rfl rfl)
theorem dX6_ping_28 : decode cX6_ping 28 = .ok (.iconst 0, 1) := dk_3 (dk_at dksX6_ping_1 6 rfl rfl)
theorem dX6_ping_29 : decode cX6_ping 29 = .ok (.ireturn, 1) := dk_172 (dk_at dksX6_ping_1 7 rfl rfl)
theorem dX6_ping_30 : decode cX6_ping 30 = .ok (.aload_n 0, 1) := dk_42 (dk_at dksX6_ping_1 8 rfl rfl)
theorem dX6_ping_31 : decode cX6_ping 31 = .ok (.iconst 4, 1) := dk_7 (dk_at dksX6_ping_1 9 rfl rfl)
theorem dX6_ping_32 : decode cX6_ping 32 = .ok (.bipush 6, 2) := dk_16 6 (dk_at dksX6_ping_1 10 rfl rfl)
theorem dX6_ping_34 : decode cX6_ping 34 = .ok (.iconst 1, 1) := dk_4 (dk_at dksX6_ping_1 12 rfl rfl)
theorem dX6_ping_35 : decode cX6_ping 35 = .ok (.iconst 0, 1) := dk_3 (dk_at dksX6_ping_1 13 rfl rfl)
theorem dX6_ping_36 : decode cX6_ping 36 = .ok (.invokevirtual 132, 3) := dk_182 0 132 (dk_at dksX6_ping_1 14 rfl rfl)
theorem dX6_ping_39 : decode cX6_ping 39 = .ok (.iconst 0, 1) := dk_3 (dk_at dksX6_ping_1 17 rfl rfl)
theorem dX6_ping_40 : decode cX6_ping 40 = .ok (.istore_n 1, 1) := dk_60 (dk_at dksX6_ping_1 18 rfl rfl)
theorem dX6_ping_41 : decode cX6_ping 41 = .ok (.iload_n 1, 1) := dk_27 (dk_at dksX6_ping_1 19 rfl rfl)
theorem dX6_ping_42 : decode cX6_ping 42 = .ok (.iconst 4, 1) := dk_7 (dk_at dksX6_ping_1 20 rfl rfl)
theorem dX6_ping_43 : decode cX6_ping 43 = .ok (.if_icmp .ge 21, 3) := dk_162 0 21 (dk_at dksX6_ping_1 21 rfl rfl)
theorem dX6_ping_46 : decode cX6_ping 46 = .ok (.aload_n 0, 1) := dk_42 (dk_at dksX6_ping_2 0 rfl rfl)
theorem dX6_ping_47 : decode cX6_ping 47 = .ok (.aload_n 0, 1) := dk_42 (dk_at dksX6_ping_2 1 rfl rfl)
theorem dX6_ping_48 : decode cX6_ping 48 = .ok (.getfield 66, 3) := dk_180 0 66 (dk_at dksX6_ping_2 2 rfl rfl)
theorem dX6_ping_51 : decode cX6_ping 51 = .ok (.iconst 4, 1) := dk_7 (dk_at dksX6_ping_2 5 rfl rfl)
theorem dX6_ping_52 : decode cX6_ping 52 = .ok (.iload_n 1, 1) := dk_27 (dk_at dksX6_ping_2 6 rfl rfl)
theorem dX6_ping_53 : decode cX6_ping 53 = .ok (.iadd, 1) := dk_96 (dk_at dksX6_ping_2 7 rfl rfl)
theorem dX6_ping_54 : decode cX6_ping 54 = .ok (.iaload, 1) := dk_46 (dk_at dksX6_ping_2 8 rfl rfl)
theorem dX6_ping_55 : decode cX6_ping 55 = .ok (.invokevirtual 136, 3) := dk_182 0 136 (dk_at dksX6_ping_2 9 rfl rfl)
theorem dX6_ping_58 : decode cX6_ping 58 = .ok (.iinc 1 1, 3) := dk_132 1 1 (dk_at dksX6_ping_2 12 rfl rfl)
theorem dX6_ping_61 : decode cX6_ping 61 = .ok (.goto (-20), 3) := dk_167 255 236 (dk_at dksX6_ping_2 15 rfl rfl)
theorem dX6_ping_64 : decode cX6_ping 64 = .ok (.iconst 0, 1) := dk_3 (dk_at dksX6_ping_2 18 rfl rfl)
theorem dX6_ping_65 : decode cX6_ping 65 = .ok (.ireturn, 1) := dk_172 (dk_at dksX6_ping_2 19 rfl rfl)
abbrev cX6_widen : ByteArray := prog_8_method_46_code
def yX6_widen : MethodName := ⟨RX6, "widen", "()I"⟩
def dkwX6_widen_6 : List UInt8 := [167, 0, 13, 42, 89, 180, 0, 120, 27, 96, 181, 0, 120, 3, 172]
abbrev dktX6_widen_6 : List UInt8 := dkwX6_widen_6 ++ []
def dkwX6_widen_5 : List UInt8 := [164, 0, 7, 29, 6, 96, 172, 42, 180, 1, 12, 158, 0, 16, 42, 180, 0, 38, 28, 92, 46, 27, 96, 79]
abbrev dktX6_widen_5 : List UInt8 := dkwX6_widen_5 ++ dktX6_widen_6
def dkwX6_widen_4 : List UInt8 := [167, 0, 7, 42, 180, 0, 120, 54, 4, 27, 154, 0, 7, 29, 4, 96, 172, 21, 4, 27, 96, 17, 117, 48]
abbrev dktX6_widen_4 : List UInt8 := dkwX6_widen_4 ++ dktX6_widen_5
def dkwX6_widen_3 : List UInt8 := [158, 0, 8, 16, 100, 167, 0, 4, 3, 62, 42, 180, 1, 12, 158, 0, 12, 42, 180, 0, 38, 28, 46]
abbrev dktX6_widen_3 : List UInt8 := dkwX6_widen_3 ++ dktX6_widen_4
def dkwX6_widen_2 : List UInt8 := [182, 0, 173, 61, 42, 180, 1, 12, 158, 0, 10, 28, 2, 160, 0, 5, 3, 172, 42, 180, 1, 12]
abbrev dktX6_widen_2 : List UInt8 := dkwX6_widen_2 ++ dktX6_widen_3
def dkwX6_widen_1 : List UInt8 := [17, 1, 0, 42, 180, 0, 66, 7, 46, 104, 42, 180, 0, 66, 8, 46, 96, 60, 42, 42, 180, 1, 12]
abbrev dktX6_widen_1 : List UInt8 := dkwX6_widen_1 ++ dktX6_widen_2
def dkwX6_widen_0 : List UInt8 := [42, 180, 1, 3, 5, 159, 0, 6, 16, 6, 172, 42, 42, 180, 1, 12, 182, 1, 15, 153, 0, 5, 4, 172]
abbrev dktX6_widen_0 : List UInt8 := dkwX6_widen_0 ++ dktX6_widen_1
theorem dksX6_widen_0 : cX6_widen.data.toList.drop 0 = dktX6_widen_0 := by decide +kernel
theorem dksX6_widen_1 : cX6_widen.data.toList.drop 24 = dktX6_widen_1 := dk_seg dksX6_widen_0 24 rfl rfl
theorem dksX6_widen_2 : cX6_widen.data.toList.drop 47 = dktX6_widen_2 := dk_seg dksX6_widen_1 23 rfl rfl
theorem dksX6_widen_3 : cX6_widen.data.toList.drop 69 = dktX6_widen_3 := dk_seg dksX6_widen_2 22 rfl rfl
theorem dksX6_widen_4 : cX6_widen.data.toList.drop 92 = dktX6_widen_4 := dk_seg dksX6_widen_3 23 rfl rfl
theorem dksX6_widen_5 : cX6_widen.data.toList.drop 116 = dktX6_widen_5 := dk_seg dksX6_widen_4 24 rfl rfl
theorem dksX6_widen_6 : cX6_widen.data.toList.drop 140 = dktX6_widen_6 := dk_seg dksX6_widen_5 24 rfl rfl
theorem dX6_widen_0 : decode cX6_widen 0 = .ok (.aload_n 0, 1) := dk_42 (dk_at dksX6_widen_0 0 rfl rfl)
theorem dX6_widen_1 : decode cX6_widen 1 = .ok (.getfield 259, 3) := dk_180 1 3 (dk_at dksX6_widen_0 1 rfl rfl)
theorem dX6_widen_4 : decode cX6_widen 4 = .ok (.iconst 2, 1) := dk_5 (dk_at dksX6_widen_0 4 rfl rfl)
theorem dX6_widen_5 : decode cX6_widen 5 = .ok (.if_icmp .eq 6, 3) := dk_159 0 6 (dk_at dksX6_widen_0 5 rfl rfl)
theorem dX6_widen_8 : decode cX6_widen 8 = .ok (.bipush 6, 2) := dk_16 6 (dk_at dksX6_widen_0 8 rfl rfl)
theorem dX6_widen_10 : decode cX6_widen 10 = .ok (.ireturn, 1) := dk_172 (dk_at dksX6_widen_0 10 rfl rfl)
theorem dX6_widen_11 : decode cX6_widen 11 = .ok (.aload_n 0, 1) := dk_42 (dk_at dksX6_widen_0 11 rfl rfl)
theorem dX6_widen_12 : decode cX6_widen 12 = .ok (.aload_n 0, 1) := dk_42 (dk_at dksX6_widen_0 12 rfl rfl)
theorem dX6_widen_13 : decode cX6_widen 13 = .ok (.getfield 268, 3) := dk_180 1 12 (dk_at dksX6_widen_0 13 rfl rfl)
theorem dX6_widen_16 : decode cX6_widen 16 = .ok (.invokevirtual 271, 3) := dk_182 1 15 (dk_at dksX6_widen_0 16 rfl rfl)
theorem dX6_widen_19 : decode cX6_widen 19 = .ok (.ifCond .eq 5, 3) := dk_153 0 5 (dk_at dksX6_widen_0 19 rfl rfl)
theorem dX6_widen_22 : decode cX6_widen 22 = .ok (.iconst 1, 1) := dk_4 (dk_at dksX6_widen_0 22 rfl rfl)
theorem dX6_widen_23 : decode cX6_widen 23 = .ok (.ireturn, 1) := dk_172 (dk_at dksX6_widen_0 23 rfl rfl)
theorem dX6_widen_24 : decode cX6_widen 24 = .ok (.sipush 256, 3) := dk_17 1 0 (dk_at dksX6_widen_1 0 rfl rfl)
theorem dX6_widen_27 : decode cX6_widen 27 = .ok (.aload_n 0, 1) := dk_42 (dk_at dksX6_widen_1 3 rfl rfl)
theorem dX6_widen_28 : decode cX6_widen 28 = .ok (.getfield 66, 3) := dk_180 0 66 (dk_at dksX6_widen_1 4 rfl rfl)
theorem dX6_widen_31 : decode cX6_widen 31 = .ok (.iconst 4, 1) := dk_7 (dk_at dksX6_widen_1 7 rfl rfl)
theorem dX6_widen_32 : decode cX6_widen 32 = .ok (.iaload, 1) := dk_46 (dk_at dksX6_widen_1 8 rfl rfl)
theorem dX6_widen_33 : decode cX6_widen 33 = .ok (.imul, 1) := dk_104 (dk_at dksX6_widen_1 9 rfl rfl)
theorem dX6_widen_34 : decode cX6_widen 34 = .ok (.aload_n 0, 1) := dk_42 (dk_at dksX6_widen_1 10 rfl rfl)
theorem dX6_widen_35 : decode cX6_widen 35 = .ok (.getfield 66, 3) := dk_180 0 66 (dk_at dksX6_widen_1 11 rfl rfl)
theorem dX6_widen_38 : decode cX6_widen 38 = .ok (.iconst 5, 1) := dk_8 (dk_at dksX6_widen_1 14 rfl rfl)
theorem dX6_widen_39 : decode cX6_widen 39 = .ok (.iaload, 1) := dk_46 (dk_at dksX6_widen_1 15 rfl rfl)
theorem dX6_widen_40 : decode cX6_widen 40 = .ok (.iadd, 1) := dk_96 (dk_at dksX6_widen_1 16 rfl rfl)
theorem dX6_widen_41 : decode cX6_widen 41 = .ok (.istore_n 1, 1) := dk_60 (dk_at dksX6_widen_1 17 rfl rfl)
theorem dX6_widen_42 : decode cX6_widen 42 = .ok (.aload_n 0, 1) := dk_42 (dk_at dksX6_widen_1 18 rfl rfl)
theorem dX6_widen_43 : decode cX6_widen 43 = .ok (.aload_n 0, 1) := dk_42 (dk_at dksX6_widen_1 19 rfl rfl)
theorem dX6_widen_44 : decode cX6_widen 44 = .ok (.getfield 268, 3) := dk_180 1 12 (dk_at dksX6_widen_1 20 rfl rfl)
theorem dX6_widen_47 : decode cX6_widen 47 = .ok (.invokevirtual 173, 3) := dk_182 0 173 (dk_at dksX6_widen_2 0 rfl rfl)
theorem dX6_widen_50 : decode cX6_widen 50 = .ok (.istore_n 2, 1) := dk_61 (dk_at dksX6_widen_2 3 rfl rfl)
theorem dX6_widen_51 : decode cX6_widen 51 = .ok (.aload_n 0, 1) := dk_42 (dk_at dksX6_widen_2 4 rfl rfl)
theorem dX6_widen_52 : decode cX6_widen 52 = .ok (.getfield 268, 3) := dk_180 1 12 (dk_at dksX6_widen_2 5 rfl rfl)
theorem dX6_widen_55 : decode cX6_widen 55 = .ok (.ifCond .le 10, 3) := dk_158 0 10 (dk_at dksX6_widen_2 8 rfl rfl)
theorem dX6_widen_58 : decode cX6_widen 58 = .ok (.iload_n 2, 1) := dk_28 (dk_at dksX6_widen_2 11 rfl rfl)
theorem dX6_widen_59 : decode cX6_widen 59 = .ok (.iconst (-1), 1) := dk_2 (dk_at dksX6_widen_2 12 rfl rfl)
theorem dX6_widen_60 : decode cX6_widen 60 = .ok (.if_icmp .ne 5, 3) := dk_160 0 5 (dk_at dksX6_widen_2 13 rfl rfl)
theorem dX6_widen_63 : decode cX6_widen 63 = .ok (.iconst 0, 1) := dk_3 (dk_at dksX6_widen_2 16 rfl rfl)
theorem dX6_widen_64 : decode cX6_widen 64 = .ok (.ireturn, 1) := dk_172 (dk_at dksX6_widen_2 17 rfl rfl)
theorem dX6_widen_65 : decode cX6_widen 65 = .ok (.aload_n 0, 1) := dk_42 (dk_at dksX6_widen_2 18 rfl rfl)
theorem dX6_widen_66 : decode cX6_widen 66 = .ok (.getfield 268, 3) := dk_180 1 12 (dk_at dksX6_widen_2 19 rfl rfl)
theorem dX6_widen_69 : decode cX6_widen 69 = .ok (.ifCond .le 8, 3) := dk_158 0 8 (dk_at dksX6_widen_3 0 rfl rfl)
theorem dX6_widen_72 : decode cX6_widen 72 = .ok (.bipush 100, 2) := dk_16 100 (dk_at dksX6_widen_3 3 rfl rfl)
theorem dX6_widen_74 : decode cX6_widen 74 = .ok (.goto 4, 3) := dk_167 0 4 (dk_at dksX6_widen_3 5 rfl rfl)
theorem dX6_widen_77 : decode cX6_widen 77 = .ok (.iconst 0, 1) := dk_3 (dk_at dksX6_widen_3 8 rfl rfl)
theorem dX6_widen_78 : decode cX6_widen 78 = .ok (.istore_n 3, 1) := dk_62 (dk_at dksX6_widen_3 9 rfl rfl)
theorem dX6_widen_79 : decode cX6_widen 79 = .ok (.aload_n 0, 1) := dk_42 (dk_at dksX6_widen_3 10 rfl rfl)
theorem dX6_widen_80 : decode cX6_widen 80 = .ok (.getfield 268, 3) := dk_180 1 12 (dk_at dksX6_widen_3 11 rfl rfl)
theorem dX6_widen_83 : decode cX6_widen 83 = .ok (.ifCond .le 12, 3) := dk_158 0 12 (dk_at dksX6_widen_3 14 rfl rfl)
theorem dX6_widen_86 : decode cX6_widen 86 = .ok (.aload_n 0, 1) := dk_42 (dk_at dksX6_widen_3 17 rfl rfl)
theorem dX6_widen_87 : decode cX6_widen 87 = .ok (.getfield 38, 3) := dk_180 0 38 (dk_at dksX6_widen_3 18 rfl rfl)
theorem dX6_widen_90 : decode cX6_widen 90 = .ok (.iload_n 2, 1) := dk_28 (dk_at dksX6_widen_3 21 rfl rfl)
theorem dX6_widen_91 : decode cX6_widen 91 = .ok (.iaload, 1) := dk_46 (dk_at dksX6_widen_3 22 rfl rfl)
theorem dX6_widen_92 : decode cX6_widen 92 = .ok (.goto 7, 3) := dk_167 0 7 (dk_at dksX6_widen_4 0 rfl rfl)
theorem dX6_widen_95 : decode cX6_widen 95 = .ok (.aload_n 0, 1) := dk_42 (dk_at dksX6_widen_4 3 rfl rfl)
theorem dX6_widen_96 : decode cX6_widen 96 = .ok (.getfield 120, 3) := dk_180 0 120 (dk_at dksX6_widen_4 4 rfl rfl)
theorem dX6_widen_99 : decode cX6_widen 99 = .ok (.istore 4, 2) := dk_54 4 (dk_at dksX6_widen_4 7 rfl rfl)
theorem dX6_widen_101 : decode cX6_widen 101 = .ok (.iload_n 1, 1) := dk_27 (dk_at dksX6_widen_4 9 rfl rfl)
theorem dX6_widen_102 : decode cX6_widen 102 = .ok (.ifCond .ne 7, 3) := dk_154 0 7 (dk_at dksX6_widen_4 10 rfl rfl)
theorem dX6_widen_105 : decode cX6_widen 105 = .ok (.iload_n 3, 1) := dk_29 (dk_at dksX6_widen_4 13 rfl rfl)
theorem dX6_widen_106 : decode cX6_widen 106 = .ok (.iconst 1, 1) := dk_4 (dk_at dksX6_widen_4 14 rfl rfl)
theorem dX6_widen_107 : decode cX6_widen 107 = .ok (.iadd, 1) := dk_96 (dk_at dksX6_widen_4 15 rfl rfl)
theorem dX6_widen_108 : decode cX6_widen 108 = .ok (.ireturn, 1) := dk_172 (dk_at dksX6_widen_4 16 rfl rfl)
theorem dX6_widen_109 : decode cX6_widen 109 = .ok (.iload 4, 2) := dk_21 4 (dk_at dksX6_widen_4 17 rfl rfl)
theorem dX6_widen_111 : decode cX6_widen 111 = .ok (.iload_n 1, 1) := dk_27 (dk_at dksX6_widen_4 19 rfl rfl)
theorem dX6_widen_112 : decode cX6_widen 112 = .ok (.iadd, 1) := dk_96 (dk_at dksX6_widen_4 20 rfl rfl)
theorem dX6_widen_113 : decode cX6_widen 113 = .ok (.sipush 30000, 3) := dk_17 117 48 (dk_at dksX6_widen_4 21 rfl rfl)
theorem dX6_widen_116 : decode cX6_widen 116 = .ok (.if_icmp .le 7, 3) := dk_164 0 7 (dk_at dksX6_widen_5 0 rfl rfl)
theorem dX6_widen_119 : decode cX6_widen 119 = .ok (.iload_n 3, 1) := dk_29 (dk_at dksX6_widen_5 3 rfl rfl)
theorem dX6_widen_120 : decode cX6_widen 120 = .ok (.iconst 3, 1) := dk_6 (dk_at dksX6_widen_5 4 rfl rfl)
theorem dX6_widen_121 : decode cX6_widen 121 = .ok (.iadd, 1) := dk_96 (dk_at dksX6_widen_5 5 rfl rfl)
theorem dX6_widen_122 : decode cX6_widen 122 = .ok (.ireturn, 1) := dk_172 (dk_at dksX6_widen_5 6 rfl rfl)
theorem dX6_widen_123 : decode cX6_widen 123 = .ok (.aload_n 0, 1) := dk_42 (dk_at dksX6_widen_5 7 rfl rfl)
theorem dX6_widen_124 : decode cX6_widen 124 = .ok (.getfield 268, 3) := dk_180 1 12 (dk_at dksX6_widen_5 8 rfl rfl)
theorem dX6_widen_127 : decode cX6_widen 127 = .ok (.ifCond .le 16, 3) := dk_158 0 16 (dk_at dksX6_widen_5 11 rfl rfl)
theorem dX6_widen_130 : decode cX6_widen 130 = .ok (.aload_n 0, 1) := dk_42 (dk_at dksX6_widen_5 14 rfl rfl)
theorem dX6_widen_131 : decode cX6_widen 131 = .ok (.getfield 38, 3) := dk_180 0 38 (dk_at dksX6_widen_5 15 rfl rfl)
theorem dX6_widen_134 : decode cX6_widen 134 = .ok (.iload_n 2, 1) := dk_28 (dk_at dksX6_widen_5 18 rfl rfl)
theorem dX6_widen_135 : decode cX6_widen 135 = .ok (.dup2, 1) := dk_92 (dk_at dksX6_widen_5 19 rfl rfl)
theorem dX6_widen_136 : decode cX6_widen 136 = .ok (.iaload, 1) := dk_46 (dk_at dksX6_widen_5 20 rfl rfl)
theorem dX6_widen_137 : decode cX6_widen 137 = .ok (.iload_n 1, 1) := dk_27 (dk_at dksX6_widen_5 21 rfl rfl)
theorem dX6_widen_138 : decode cX6_widen 138 = .ok (.iadd, 1) := dk_96 (dk_at dksX6_widen_5 22 rfl rfl)
theorem dX6_widen_139 : decode cX6_widen 139 = .ok (.iastore, 1) := dk_79 (dk_at dksX6_widen_5 23 rfl rfl)
theorem dX6_widen_140 : decode cX6_widen 140 = .ok (.goto 13, 3) := dk_167 0 13 (dk_at dksX6_widen_6 0 rfl rfl)
theorem dX6_widen_143 : decode cX6_widen 143 = .ok (.aload_n 0, 1) := dk_42 (dk_at dksX6_widen_6 3 rfl rfl)
theorem dX6_widen_144 : decode cX6_widen 144 = .ok (.dup, 1) := dk_89 (dk_at dksX6_widen_6 4 rfl rfl)
theorem dX6_widen_145 : decode cX6_widen 145 = .ok (.getfield 120, 3) := dk_180 0 120 (dk_at dksX6_widen_6 5 rfl rfl)
theorem dX6_widen_148 : decode cX6_widen 148 = .ok (.iload_n 1, 1) := dk_27 (dk_at dksX6_widen_6 8 rfl rfl)
theorem dX6_widen_149 : decode cX6_widen 149 = .ok (.iadd, 1) := dk_96 (dk_at dksX6_widen_6 9 rfl rfl)
theorem dX6_widen_150 : decode cX6_widen 150 = .ok (.putfield 120, 3) := dk_181 0 120 (dk_at dksX6_widen_6 10 rfl rfl)
theorem dX6_widen_153 : decode cX6_widen 153 = .ok (.iconst 0, 1) := dk_3 (dk_at dksX6_widen_6 13 rfl rfl)
theorem dX6_widen_154 : decode cX6_widen 154 = .ok (.ireturn, 1) := dk_172 (dk_at dksX6_widen_6 14 rfl rfl)
abbrev cX6_pump : ByteArray := prog_8_method_53_code
def yX6_pump : MethodName := ⟨RX6, "pump", "()V"⟩
def dkwX6_pump_6 : List UInt8 := [154, 0, 10, 42, 180, 0, 35, 27, 3, 79, 42, 182, 1, 78, 60, 167, 255, 104, 177]
abbrev dktX6_pump_6 : List UInt8 := dkwX6_pump_6 ++ []
def dkwX6_pump_5 : List UInt8 := [42, 42, 180, 0, 50, 27, 46, 182, 0, 136, 132, 3, 1, 167, 255, 238, 42, 180, 0, 47, 27, 46]
abbrev dktX6_pump_5 : List UInt8 := dkwX6_pump_5 ++ dktX6_pump_6
def dkwX6_pump_4 : List UInt8 := [154, 0, 7, 4, 167, 0, 4, 3, 42, 180, 0, 35, 27, 46, 182, 0, 132, 3, 62, 29, 28, 162, 0, 19]
abbrev dktX6_pump_4 : List UInt8 := dkwX6_pump_4 ++ dktX6_pump_5
def dkwX6_pump_3 : List UInt8 := [28, 100, 181, 0, 120, 42, 42, 180, 0, 35, 27, 46, 181, 0, 117, 42, 28, 3, 42, 180, 0, 47, 27, 46]
abbrev dktX6_pump_3 : List UInt8 := dkwX6_pump_3 ++ dktX6_pump_4
def dkwX6_pump_2 : List UInt8 := [180, 0, 47, 27, 92, 46, 28, 100, 79, 42, 180, 0, 38, 27, 92, 46, 28, 100, 79, 42, 89, 180, 0, 120]
abbrev dktX6_pump_2 : List UInt8 := dkwX6_pump_2 ++ dktX6_pump_3
def dkwX6_pump_1 : List UInt8 := [180, 0, 38, 27, 46, 184, 1, 81, 42, 180, 0, 120, 42, 180, 0, 126, 184, 1, 81, 184, 1, 81, 61, 42]
abbrev dktX6_pump_1 : List UInt8 := dkwX6_pump_1 ++ dktX6_pump_2
def dkwX6_pump_0 : List UInt8 := [42, 182, 1, 78, 60, 27, 2, 159, 0, 153, 42, 180, 0, 120, 158, 0, 146, 42, 180, 0, 47, 27, 46, 42]
abbrev dktX6_pump_0 : List UInt8 := dkwX6_pump_0 ++ dktX6_pump_1
theorem dksX6_pump_0 : cX6_pump.data.toList.drop 0 = dktX6_pump_0 := by decide +kernel
theorem dksX6_pump_1 : cX6_pump.data.toList.drop 24 = dktX6_pump_1 := dk_seg dksX6_pump_0 24 rfl rfl
theorem dksX6_pump_2 : cX6_pump.data.toList.drop 48 = dktX6_pump_2 := dk_seg dksX6_pump_1 24 rfl rfl
theorem dksX6_pump_3 : cX6_pump.data.toList.drop 72 = dktX6_pump_3 := dk_seg dksX6_pump_2 24 rfl rfl
theorem dksX6_pump_4 : cX6_pump.data.toList.drop 96 = dktX6_pump_4 := dk_seg dksX6_pump_3 24 rfl rfl
theorem dksX6_pump_5 : cX6_pump.data.toList.drop 120 = dktX6_pump_5 := dk_seg dksX6_pump_4 24 rfl rfl
theorem dksX6_pump_6 : cX6_pump.data.toList.drop 142 = dktX6_pump_6 := dk_seg dksX6_pump_5 22 rfl rfl
theorem dX6_pump_0 : decode cX6_pump 0 = .ok (.aload_n 0, 1) := dk_42 (dk_at dksX6_pump_0 0 rfl rfl)
theorem dX6_pump_1 : decode cX6_pump 1 = .ok (.invokevirtual 334, 3) := dk_182 1 78 (dk_at dksX6_pump_0 1 rfl rfl)
theorem dX6_pump_4 : decode cX6_pump 4 = .ok (.istore_n 1, 1) := dk_60 (dk_at dksX6_pump_0 4 rfl rfl)
theorem dX6_pump_5 : decode cX6_pump 5 = .ok (.iload_n 1, 1) := dk_27 (dk_at dksX6_pump_0 5 rfl rfl)
theorem dX6_pump_6 : decode cX6_pump 6 = .ok (.iconst (-1), 1) := dk_2 (dk_at dksX6_pump_0 6 rfl rfl)
theorem dX6_pump_7 : decode cX6_pump 7 = .ok (.if_icmp .eq 153, 3) := dk_159 0 153 (dk_at dksX6_pump_0 7 rfl rfl)
theorem dX6_pump_10 : decode cX6_pump 10 = .ok (.aload_n 0, 1) := dk_42 (dk_at dksX6_pump_0 10 rfl rfl)
theorem dX6_pump_11 : decode cX6_pump 11 = .ok (.getfield 120, 3) := dk_180 0 120 (dk_at dksX6_pump_0 11 rfl rfl)
theorem dX6_pump_14 : decode cX6_pump 14 = .ok (.ifCond .le 146, 3) := dk_158 0 146 (dk_at dksX6_pump_0 14 rfl rfl)
theorem dX6_pump_17 : decode cX6_pump 17 = .ok (.aload_n 0, 1) := dk_42 (dk_at dksX6_pump_0 17 rfl rfl)
theorem dX6_pump_18 : decode cX6_pump 18 = .ok (.getfield 47, 3) := dk_180 0 47 (dk_at dksX6_pump_0 18 rfl rfl)
theorem dX6_pump_21 : decode cX6_pump 21 = .ok (.iload_n 1, 1) := dk_27 (dk_at dksX6_pump_0 21 rfl rfl)
theorem dX6_pump_22 : decode cX6_pump 22 = .ok (.iaload, 1) := dk_46 (dk_at dksX6_pump_0 22 rfl rfl)
theorem dX6_pump_23 : decode cX6_pump 23 = .ok (.aload_n 0, 1) := dk_42 (dk_at dksX6_pump_0 23 rfl rfl)
theorem dX6_pump_24 : decode cX6_pump 24 = .ok (.getfield 38, 3) := dk_180 0 38 (dk_at dksX6_pump_1 0 rfl rfl)
theorem dX6_pump_27 : decode cX6_pump 27 = .ok (.iload_n 1, 1) := dk_27 (dk_at dksX6_pump_1 3 rfl rfl)
theorem dX6_pump_28 : decode cX6_pump 28 = .ok (.iaload, 1) := dk_46 (dk_at dksX6_pump_1 4 rfl rfl)
theorem dX6_pump_29 : decode cX6_pump 29 = .ok (.invokestatic 337, 3) := dk_184 1 81 (dk_at dksX6_pump_1 5 rfl rfl)
theorem dX6_pump_32 : decode cX6_pump 32 = .ok (.aload_n 0, 1) := dk_42 (dk_at dksX6_pump_1 8 rfl rfl)
theorem dX6_pump_33 : decode cX6_pump 33 = .ok (.getfield 120, 3) := dk_180 0 120 (dk_at dksX6_pump_1 9 rfl rfl)
theorem dX6_pump_36 : decode cX6_pump 36 = .ok (.aload_n 0, 1) := dk_42 (dk_at dksX6_pump_1 12 rfl rfl)
theorem dX6_pump_37 : decode cX6_pump 37 = .ok (.getfield 126, 3) := dk_180 0 126 (dk_at dksX6_pump_1 13 rfl rfl)
theorem dX6_pump_40 : decode cX6_pump 40 = .ok (.invokestatic 337, 3) := dk_184 1 81 (dk_at dksX6_pump_1 16 rfl rfl)
theorem dX6_pump_43 : decode cX6_pump 43 = .ok (.invokestatic 337, 3) := dk_184 1 81 (dk_at dksX6_pump_1 19 rfl rfl)
theorem dX6_pump_46 : decode cX6_pump 46 = .ok (.istore_n 2, 1) := dk_61 (dk_at dksX6_pump_1 22 rfl rfl)
theorem dX6_pump_47 : decode cX6_pump 47 = .ok (.aload_n 0, 1) := dk_42 (dk_at dksX6_pump_1 23 rfl rfl)
theorem dX6_pump_48 : decode cX6_pump 48 = .ok (.getfield 47, 3) := dk_180 0 47 (dk_at dksX6_pump_2 0 rfl rfl)
theorem dX6_pump_51 : decode cX6_pump 51 = .ok (.iload_n 1, 1) := dk_27 (dk_at dksX6_pump_2 3 rfl rfl)
theorem dX6_pump_52 : decode cX6_pump 52 = .ok (.dup2, 1) := dk_92 (dk_at dksX6_pump_2 4 rfl rfl)
theorem dX6_pump_53 : decode cX6_pump 53 = .ok (.iaload, 1) := dk_46 (dk_at dksX6_pump_2 5 rfl rfl)
theorem dX6_pump_54 : decode cX6_pump 54 = .ok (.iload_n 2, 1) := dk_28 (dk_at dksX6_pump_2 6 rfl rfl)
theorem dX6_pump_55 : decode cX6_pump 55 = .ok (.isub, 1) := dk_100 (dk_at dksX6_pump_2 7 rfl rfl)
theorem dX6_pump_56 : decode cX6_pump 56 = .ok (.iastore, 1) := dk_79 (dk_at dksX6_pump_2 8 rfl rfl)
theorem dX6_pump_57 : decode cX6_pump 57 = .ok (.aload_n 0, 1) := dk_42 (dk_at dksX6_pump_2 9 rfl rfl)
theorem dX6_pump_58 : decode cX6_pump 58 = .ok (.getfield 38, 3) := dk_180 0 38 (dk_at dksX6_pump_2 10 rfl rfl)
theorem dX6_pump_61 : decode cX6_pump 61 = .ok (.iload_n 1, 1) := dk_27 (dk_at dksX6_pump_2 13 rfl rfl)
theorem dX6_pump_62 : decode cX6_pump 62 = .ok (.dup2, 1) := dk_92 (dk_at dksX6_pump_2 14 rfl rfl)
theorem dX6_pump_63 : decode cX6_pump 63 = .ok (.iaload, 1) := dk_46 (dk_at dksX6_pump_2 15 rfl rfl)
theorem dX6_pump_64 : decode cX6_pump 64 = .ok (.iload_n 2, 1) := dk_28 (dk_at dksX6_pump_2 16 rfl rfl)
theorem dX6_pump_65 : decode cX6_pump 65 = .ok (.isub, 1) := dk_100 (dk_at dksX6_pump_2 17 rfl rfl)
theorem dX6_pump_66 : decode cX6_pump 66 = .ok (.iastore, 1) := dk_79 (dk_at dksX6_pump_2 18 rfl rfl)
theorem dX6_pump_67 : decode cX6_pump 67 = .ok (.aload_n 0, 1) := dk_42 (dk_at dksX6_pump_2 19 rfl rfl)
theorem dX6_pump_68 : decode cX6_pump 68 = .ok (.dup, 1) := dk_89 (dk_at dksX6_pump_2 20 rfl rfl)
theorem dX6_pump_69 : decode cX6_pump 69 = .ok (.getfield 120, 3) := dk_180 0 120 (dk_at dksX6_pump_2 21 rfl rfl)
theorem dX6_pump_72 : decode cX6_pump 72 = .ok (.iload_n 2, 1) := dk_28 (dk_at dksX6_pump_3 0 rfl rfl)
theorem dX6_pump_73 : decode cX6_pump 73 = .ok (.isub, 1) := dk_100 (dk_at dksX6_pump_3 1 rfl rfl)
theorem dX6_pump_74 : decode cX6_pump 74 = .ok (.putfield 120, 3) := dk_181 0 120 (dk_at dksX6_pump_3 2 rfl rfl)
theorem dX6_pump_77 : decode cX6_pump 77 = .ok (.aload_n 0, 1) := dk_42 (dk_at dksX6_pump_3 5 rfl rfl)
theorem dX6_pump_78 : decode cX6_pump 78 = .ok (.aload_n 0, 1) := dk_42 (dk_at dksX6_pump_3 6 rfl rfl)
theorem dX6_pump_79 : decode cX6_pump 79 = .ok (.getfield 35, 3) := dk_180 0 35 (dk_at dksX6_pump_3 7 rfl rfl)
theorem dX6_pump_82 : decode cX6_pump 82 = .ok (.iload_n 1, 1) := dk_27 (dk_at dksX6_pump_3 10 rfl rfl)
theorem dX6_pump_83 : decode cX6_pump 83 = .ok (.iaload, 1) := dk_46 (dk_at dksX6_pump_3 11 rfl rfl)
theorem dX6_pump_84 : decode cX6_pump 84 = .ok (.putfield 117, 3) := dk_181 0 117 (dk_at dksX6_pump_3 12 rfl rfl)
theorem dX6_pump_87 : decode cX6_pump 87 = .ok (.aload_n 0, 1) := dk_42 (dk_at dksX6_pump_3 15 rfl rfl)
theorem dX6_pump_88 : decode cX6_pump 88 = .ok (.iload_n 2, 1) := dk_28 (dk_at dksX6_pump_3 16 rfl rfl)
theorem dX6_pump_89 : decode cX6_pump 89 = .ok (.iconst 0, 1) := dk_3 (dk_at dksX6_pump_3 17 rfl rfl)
theorem dX6_pump_90 : decode cX6_pump 90 = .ok (.aload_n 0, 1) := dk_42 (dk_at dksX6_pump_3 18 rfl rfl)
theorem dX6_pump_91 : decode cX6_pump 91 = .ok (.getfield 47, 3) := dk_180 0 47 (dk_at dksX6_pump_3 19 rfl rfl)
theorem dX6_pump_94 : decode cX6_pump 94 = .ok (.iload_n 1, 1) := dk_27 (dk_at dksX6_pump_3 22 rfl rfl)
theorem dX6_pump_95 : decode cX6_pump 95 = .ok (.iaload, 1) := dk_46 (dk_at dksX6_pump_3 23 rfl rfl)
theorem dX6_pump_96 : decode cX6_pump 96 = .ok (.ifCond .ne 7, 3) := dk_154 0 7 (dk_at dksX6_pump_4 0 rfl rfl)
theorem dX6_pump_99 : decode cX6_pump 99 = .ok (.iconst 1, 1) := dk_4 (dk_at dksX6_pump_4 3 rfl rfl)
theorem dX6_pump_100 : decode cX6_pump 100 = .ok (.goto 4, 3) := dk_167 0 4 (dk_at dksX6_pump_4 4 rfl rfl)
theorem dX6_pump_103 : decode cX6_pump 103 = .ok (.iconst 0, 1) := dk_3 (dk_at dksX6_pump_4 7 rfl rfl)
theorem dX6_pump_104 : decode cX6_pump 104 = .ok (.aload_n 0, 1) := dk_42 (dk_at dksX6_pump_4 8 rfl rfl)
theorem dX6_pump_105 : decode cX6_pump 105 = .ok (.getfield 35, 3) := dk_180 0 35 (dk_at dksX6_pump_4 9 rfl rfl)
theorem dX6_pump_108 : decode cX6_pump 108 = .ok (.iload_n 1, 1) := dk_27 (dk_at dksX6_pump_4 12 rfl rfl)
theorem dX6_pump_109 : decode cX6_pump 109 = .ok (.iaload, 1) := dk_46 (dk_at dksX6_pump_4 13 rfl rfl)
theorem dX6_pump_110 : decode cX6_pump 110 = .ok (.invokevirtual 132, 3) := dk_182 0 132 (dk_at dksX6_pump_4 14 rfl rfl)
theorem dX6_pump_113 : decode cX6_pump 113 = .ok (.iconst 0, 1) := dk_3 (dk_at dksX6_pump_4 17 rfl rfl)
theorem dX6_pump_114 : decode cX6_pump 114 = .ok (.istore_n 3, 1) := dk_62 (dk_at dksX6_pump_4 18 rfl rfl)
theorem dX6_pump_115 : decode cX6_pump 115 = .ok (.iload_n 3, 1) := dk_29 (dk_at dksX6_pump_4 19 rfl rfl)
theorem dX6_pump_116 : decode cX6_pump 116 = .ok (.iload_n 2, 1) := dk_28 (dk_at dksX6_pump_4 20 rfl rfl)
theorem dX6_pump_117 : decode cX6_pump 117 = .ok (.if_icmp .ge 19, 3) := dk_162 0 19 (dk_at dksX6_pump_4 21 rfl rfl)
theorem dX6_pump_120 : decode cX6_pump 120 = .ok (.aload_n 0, 1) := dk_42 (dk_at dksX6_pump_5 0 rfl rfl)
theorem dX6_pump_121 : decode cX6_pump 121 = .ok (.aload_n 0, 1) := dk_42 (dk_at dksX6_pump_5 1 rfl rfl)
theorem dX6_pump_122 : decode cX6_pump 122 = .ok (.getfield 50, 3) := dk_180 0 50 (dk_at dksX6_pump_5 2 rfl rfl)
theorem dX6_pump_125 : decode cX6_pump 125 = .ok (.iload_n 1, 1) := dk_27 (dk_at dksX6_pump_5 5 rfl rfl)
theorem dX6_pump_126 : decode cX6_pump 126 = .ok (.iaload, 1) := dk_46 (dk_at dksX6_pump_5 6 rfl rfl)
theorem dX6_pump_127 : decode cX6_pump 127 = .ok (.invokevirtual 136, 3) := dk_182 0 136 (dk_at dksX6_pump_5 7 rfl rfl)
theorem dX6_pump_130 : decode cX6_pump 130 = .ok (.iinc 3 1, 3) := dk_132 3 1 (dk_at dksX6_pump_5 10 rfl rfl)
theorem dX6_pump_133 : decode cX6_pump 133 = .ok (.goto (-18), 3) := dk_167 255 238 (dk_at dksX6_pump_5 13 rfl rfl)
theorem dX6_pump_136 : decode cX6_pump 136 = .ok (.aload_n 0, 1) := dk_42 (dk_at dksX6_pump_5 16 rfl rfl)
theorem dX6_pump_137 : decode cX6_pump 137 = .ok (.getfield 47, 3) := dk_180 0 47 (dk_at dksX6_pump_5 17 rfl rfl)
theorem dX6_pump_140 : decode cX6_pump 140 = .ok (.iload_n 1, 1) := dk_27 (dk_at dksX6_pump_5 20 rfl rfl)
theorem dX6_pump_141 : decode cX6_pump 141 = .ok (.iaload, 1) := dk_46 (dk_at dksX6_pump_5 21 rfl rfl)
theorem dX6_pump_142 : decode cX6_pump 142 = .ok (.ifCond .ne 10, 3) := dk_154 0 10 (dk_at dksX6_pump_6 0 rfl rfl)
theorem dX6_pump_145 : decode cX6_pump 145 = .ok (.aload_n 0, 1) := dk_42 (dk_at dksX6_pump_6 3 rfl rfl)
theorem dX6_pump_146 : decode cX6_pump 146 = .ok (.getfield 35, 3) := dk_180 0 35 (dk_at dksX6_pump_6 4 rfl rfl)
theorem dX6_pump_149 : decode cX6_pump 149 = .ok (.iload_n 1, 1) := dk_27 (dk_at dksX6_pump_6 7 rfl rfl)
theorem dX6_pump_150 : decode cX6_pump 150 = .ok (.iconst 0, 1) := dk_3 (dk_at dksX6_pump_6 8 rfl rfl)
theorem dX6_pump_151 : decode cX6_pump 151 = .ok (.iastore, 1) := dk_79 (dk_at dksX6_pump_6 9 rfl rfl)
theorem dX6_pump_152 : decode cX6_pump 152 = .ok (.aload_n 0, 1) := dk_42 (dk_at dksX6_pump_6 10 rfl rfl)
theorem dX6_pump_153 : decode cX6_pump 153 = .ok (.invokevirtual 334, 3) := dk_182 1 78 (dk_at dksX6_pump_6 11 rfl rfl)
theorem dX6_pump_156 : decode cX6_pump 156 = .ok (.istore_n 1, 1) := dk_60 (dk_at dksX6_pump_6 14 rfl rfl)
theorem dX6_pump_157 : decode cX6_pump 157 = .ok (.goto (-152), 3) := dk_167 255 104 (dk_at dksX6_pump_6 15 rfl rfl)
theorem dX6_pump_160 : decode cX6_pump 160 = .ok (.return_, 1) := dk_177 (dk_at dksX6_pump_6 18 rfl rfl)
abbrev cX6_turn : ByteArray := prog_8_method_51_code
def yX6_turn : MethodName := ⟨RX6, "turn", "()I"⟩
def dkwX6_turn_4 : List UInt8 := [167, 0, 4, 28, 61, 21, 5, 153, 0, 7, 29, 167, 0, 4, 27, 60, 132, 3, 1, 167, 255, 151, 27, 172]
abbrev dktX6_turn_4 : List UInt8 := dkwX6_turn_4 ++ []
def dkwX6_turn_3 : List UInt8 := [158, 0, 13, 21, 4, 28, 162, 0, 7, 4, 167, 0, 4, 3, 54, 5, 21, 5, 153, 0, 8, 21, 4]
abbrev dktX6_turn_3 : List UInt8 := dkwX6_turn_3 ++ dktX6_turn_4
def dkwX6_turn_2 : List UInt8 := [42, 180, 0, 35, 29, 46, 158, 0, 31, 42, 180, 0, 47, 29, 46, 158, 0, 22, 42, 180, 0, 38, 29, 46]
abbrev dktX6_turn_2 : List UInt8 := dkwX6_turn_2 ++ dktX6_turn_3
def dkwX6_turn_1 : List UInt8 := [164, 0, 12, 42, 180, 0, 35, 29, 46, 167, 0, 13, 42, 180, 0, 35, 29, 46, 17, 1, 44, 96, 54, 4]
abbrev dktX6_turn_1 : List UInt8 := dkwX6_turn_1 ++ dktX6_turn_2
def dkwX6_turn_0 : List UInt8 := [2, 60, 17, 3, 232, 61, 3, 62, 29, 7, 162, 0, 106, 42, 180, 0, 35, 29, 46, 42, 180, 0, 117]
abbrev dktX6_turn_0 : List UInt8 := dkwX6_turn_0 ++ dktX6_turn_1
theorem dksX6_turn_0 : cX6_turn.data.toList.drop 0 = dktX6_turn_0 := by decide +kernel
theorem dksX6_turn_1 : cX6_turn.data.toList.drop 23 = dktX6_turn_1 := dk_seg dksX6_turn_0 23 rfl rfl
theorem dksX6_turn_2 : cX6_turn.data.toList.drop 47 = dktX6_turn_2 := dk_seg dksX6_turn_1 24 rfl rfl
theorem dksX6_turn_3 : cX6_turn.data.toList.drop 71 = dktX6_turn_3 := dk_seg dksX6_turn_2 24 rfl rfl
theorem dksX6_turn_4 : cX6_turn.data.toList.drop 94 = dktX6_turn_4 := dk_seg dksX6_turn_3 23 rfl rfl
theorem dX6_turn_0 : decode cX6_turn 0 = .ok (.iconst (-1), 1) := dk_2 (dk_at dksX6_turn_0 0 rfl rfl)
theorem dX6_turn_1 : decode cX6_turn 1 = .ok (.istore_n 1, 1) := dk_60 (dk_at dksX6_turn_0 1 rfl rfl)
theorem dX6_turn_2 : decode cX6_turn 2 = .ok (.sipush 1000, 3) := dk_17 3 232 (dk_at dksX6_turn_0 2 rfl rfl)
theorem dX6_turn_5 : decode cX6_turn 5 = .ok (.istore_n 2, 1) := dk_61 (dk_at dksX6_turn_0 5 rfl rfl)
theorem dX6_turn_6 : decode cX6_turn 6 = .ok (.iconst 0, 1) := dk_3 (dk_at dksX6_turn_0 6 rfl rfl)
theorem dX6_turn_7 : decode cX6_turn 7 = .ok (.istore_n 3, 1) := dk_62 (dk_at dksX6_turn_0 7 rfl rfl)
theorem dX6_turn_8 : decode cX6_turn 8 = .ok (.iload_n 3, 1) := dk_29 (dk_at dksX6_turn_0 8 rfl rfl)
theorem dX6_turn_9 : decode cX6_turn 9 = .ok (.iconst 4, 1) := dk_7 (dk_at dksX6_turn_0 9 rfl rfl)
theorem dX6_turn_10 : decode cX6_turn 10 = .ok (.if_icmp .ge 106, 3) := dk_162 0 106 (dk_at dksX6_turn_0 10 rfl rfl)
theorem dX6_turn_13 : decode cX6_turn 13 = .ok (.aload_n 0, 1) := dk_42 (dk_at dksX6_turn_0 13 rfl rfl)
theorem dX6_turn_14 : decode cX6_turn 14 = .ok (.getfield 35, 3) := dk_180 0 35 (dk_at dksX6_turn_0 14 rfl rfl)
theorem dX6_turn_17 : decode cX6_turn 17 = .ok (.iload_n 3, 1) := dk_29 (dk_at dksX6_turn_0 17 rfl rfl)
theorem dX6_turn_18 : decode cX6_turn 18 = .ok (.iaload, 1) := dk_46 (dk_at dksX6_turn_0 18 rfl rfl)
theorem dX6_turn_19 : decode cX6_turn 19 = .ok (.aload_n 0, 1) := dk_42 (dk_at dksX6_turn_0 19 rfl rfl)
theorem dX6_turn_20 : decode cX6_turn 20 = .ok (.getfield 117, 3) := dk_180 0 117 (dk_at dksX6_turn_0 20 rfl rfl)
theorem dX6_turn_23 : decode cX6_turn 23 = .ok (.if_icmp .le 12, 3) := dk_164 0 12 (dk_at dksX6_turn_1 0 rfl rfl)
theorem dX6_turn_26 : decode cX6_turn 26 = .ok (.aload_n 0, 1) := dk_42 (dk_at dksX6_turn_1 3 rfl rfl)
theorem dX6_turn_27 : decode cX6_turn 27 = .ok (.getfield 35, 3) := dk_180 0 35 (dk_at dksX6_turn_1 4 rfl rfl)
theorem dX6_turn_30 : decode cX6_turn 30 = .ok (.iload_n 3, 1) := dk_29 (dk_at dksX6_turn_1 7 rfl rfl)
theorem dX6_turn_31 : decode cX6_turn 31 = .ok (.iaload, 1) := dk_46 (dk_at dksX6_turn_1 8 rfl rfl)
theorem dX6_turn_32 : decode cX6_turn 32 = .ok (.goto 13, 3) := dk_167 0 13 (dk_at dksX6_turn_1 9 rfl rfl)
theorem dX6_turn_35 : decode cX6_turn 35 = .ok (.aload_n 0, 1) := dk_42 (dk_at dksX6_turn_1 12 rfl rfl)
theorem dX6_turn_36 : decode cX6_turn 36 = .ok (.getfield 35, 3) := dk_180 0 35 (dk_at dksX6_turn_1 13 rfl rfl)
theorem dX6_turn_39 : decode cX6_turn 39 = .ok (.iload_n 3, 1) := dk_29 (dk_at dksX6_turn_1 16 rfl rfl)
theorem dX6_turn_40 : decode cX6_turn 40 = .ok (.iaload, 1) := dk_46 (dk_at dksX6_turn_1 17 rfl rfl)
theorem dX6_turn_41 : decode cX6_turn 41 = .ok (.sipush 300, 3) := dk_17 1 44 (dk_at dksX6_turn_1 18 rfl rfl)
theorem dX6_turn_44 : decode cX6_turn 44 = .ok (.iadd, 1) := dk_96 (dk_at dksX6_turn_1 21 rfl rfl)
theorem dX6_turn_45 : decode cX6_turn 45 = .ok (.istore 4, 2) := dk_54 4 (dk_at dksX6_turn_1 22 rfl rfl)
theorem dX6_turn_47 : decode cX6_turn 47 = .ok (.aload_n 0, 1) := dk_42 (dk_at dksX6_turn_2 0 rfl rfl)
theorem dX6_turn_48 : decode cX6_turn 48 = .ok (.getfield 35, 3) := dk_180 0 35 (dk_at dksX6_turn_2 1 rfl rfl)
theorem dX6_turn_51 : decode cX6_turn 51 = .ok (.iload_n 3, 1) := dk_29 (dk_at dksX6_turn_2 4 rfl rfl)
theorem dX6_turn_52 : decode cX6_turn 52 = .ok (.iaload, 1) := dk_46 (dk_at dksX6_turn_2 5 rfl rfl)
theorem dX6_turn_53 : decode cX6_turn 53 = .ok (.ifCond .le 31, 3) := dk_158 0 31 (dk_at dksX6_turn_2 6 rfl rfl)
theorem dX6_turn_56 : decode cX6_turn 56 = .ok (.aload_n 0, 1) := dk_42 (dk_at dksX6_turn_2 9 rfl rfl)
theorem dX6_turn_57 : decode cX6_turn 57 = .ok (.getfield 47, 3) := dk_180 0 47 (dk_at dksX6_turn_2 10 rfl rfl)
theorem dX6_turn_60 : decode cX6_turn 60 = .ok (.iload_n 3, 1) := dk_29 (dk_at dksX6_turn_2 13 rfl rfl)
theorem dX6_turn_61 : decode cX6_turn 61 = .ok (.iaload, 1) := dk_46 (dk_at dksX6_turn_2 14 rfl rfl)
theorem dX6_turn_62 : decode cX6_turn 62 = .ok (.ifCond .le 22, 3) := dk_158 0 22 (dk_at dksX6_turn_2 15 rfl rfl)
theorem dX6_turn_65 : decode cX6_turn 65 = .ok (.aload_n 0, 1) := dk_42 (dk_at dksX6_turn_2 18 rfl rfl)
theorem dX6_turn_66 : decode cX6_turn 66 = .ok (.getfield 38, 3) := dk_180 0 38 (dk_at dksX6_turn_2 19 rfl rfl)
theorem dX6_turn_69 : decode cX6_turn 69 = .ok (.iload_n 3, 1) := dk_29 (dk_at dksX6_turn_2 22 rfl rfl)
theorem dX6_turn_70 : decode cX6_turn 70 = .ok (.iaload, 1) := dk_46 (dk_at dksX6_turn_2 23 rfl rfl)
theorem dX6_turn_71 : decode cX6_turn 71 = .ok (.ifCond .le 13, 3) := dk_158 0 13 (dk_at dksX6_turn_3 0 rfl rfl)
theorem dX6_turn_74 : decode cX6_turn 74 = .ok (.iload 4, 2) := dk_21 4 (dk_at dksX6_turn_3 3 rfl rfl)
theorem dX6_turn_76 : decode cX6_turn 76 = .ok (.iload_n 2, 1) := dk_28 (dk_at dksX6_turn_3 5 rfl rfl)
theorem dX6_turn_77 : decode cX6_turn 77 = .ok (.if_icmp .ge 7, 3) := dk_162 0 7 (dk_at dksX6_turn_3 6 rfl rfl)
theorem dX6_turn_80 : decode cX6_turn 80 = .ok (.iconst 1, 1) := dk_4 (dk_at dksX6_turn_3 9 rfl rfl)
theorem dX6_turn_81 : decode cX6_turn 81 = .ok (.goto 4, 3) := dk_167 0 4 (dk_at dksX6_turn_3 10 rfl rfl)
theorem dX6_turn_84 : decode cX6_turn 84 = .ok (.iconst 0, 1) := dk_3 (dk_at dksX6_turn_3 13 rfl rfl)
theorem dX6_turn_85 : decode cX6_turn 85 = .ok (.istore 5, 2) := dk_54 5 (dk_at dksX6_turn_3 14 rfl rfl)
theorem dX6_turn_87 : decode cX6_turn 87 = .ok (.iload 5, 2) := dk_21 5 (dk_at dksX6_turn_3 16 rfl rfl)
theorem dX6_turn_89 : decode cX6_turn 89 = .ok (.ifCond .eq 8, 3) := dk_153 0 8 (dk_at dksX6_turn_3 18 rfl rfl)
theorem dX6_turn_92 : decode cX6_turn 92 = .ok (.iload 4, 2) := dk_21 4 (dk_at dksX6_turn_3 21 rfl rfl)
theorem dX6_turn_94 : decode cX6_turn 94 = .ok (.goto 4, 3) := dk_167 0 4 (dk_at dksX6_turn_4 0 rfl rfl)
theorem dX6_turn_97 : decode cX6_turn 97 = .ok (.iload_n 2, 1) := dk_28 (dk_at dksX6_turn_4 3 rfl rfl)
theorem dX6_turn_98 : decode cX6_turn 98 = .ok (.istore_n 2, 1) := dk_61 (dk_at dksX6_turn_4 4 rfl rfl)
theorem dX6_turn_99 : decode cX6_turn 99 = .ok (.iload 5, 2) := dk_21 5 (dk_at dksX6_turn_4 5 rfl rfl)
theorem dX6_turn_101 : decode cX6_turn 101 = .ok (.ifCond .eq 7, 3) := dk_153 0 7 (dk_at dksX6_turn_4 7 rfl rfl)
theorem dX6_turn_104 : decode cX6_turn 104 = .ok (.iload_n 3, 1) := dk_29 (dk_at dksX6_turn_4 10 rfl rfl)
theorem dX6_turn_105 : decode cX6_turn 105 = .ok (.goto 4, 3) := dk_167 0 4 (dk_at dksX6_turn_4 11 rfl rfl)
theorem dX6_turn_108 : decode cX6_turn 108 = .ok (.iload_n 1, 1) := dk_27 (dk_at dksX6_turn_4 14 rfl rfl)
theorem dX6_turn_109 : decode cX6_turn 109 = .ok (.istore_n 1, 1) := dk_60 (dk_at dksX6_turn_4 15 rfl rfl)
theorem dX6_turn_110 : decode cX6_turn 110 = .ok (.iinc 3 1, 3) := dk_132 3 1 (dk_at dksX6_turn_4 16 rfl rfl)
theorem dX6_turn_113 : decode cX6_turn 113 = .ok (.goto (-105), 3) := dk_167 255 151 (dk_at dksX6_turn_4 19 rfl rfl)
theorem dX6_turn_116 : decode cX6_turn 116 = .ok (.iload_n 1, 1) := dk_27 (dk_at dksX6_turn_4 22 rfl rfl)
theorem dX6_turn_117 : decode cX6_turn 117 = .ok (.ireturn, 1) := dk_172 (dk_at dksX6_turn_4 23 rfl rfl)
abbrev cX6_less : ByteArray := prog_8_method_52_code
def yX6_less : MethodName := ⟨RX6, "less", "(II)I"⟩
def dkwX6_less_0 : List UInt8 := [26, 27, 162, 0, 7, 26, 167, 0, 4, 27, 172]
abbrev dktX6_less_0 : List UInt8 := dkwX6_less_0 ++ []
theorem dksX6_less_0 : cX6_less.data.toList.drop 0 = dktX6_less_0 := by decide +kernel
theorem dX6_less_0 : decode cX6_less 0 = .ok (.iload_n 0, 1) := dk_26 (dk_at dksX6_less_0 0 rfl rfl)
theorem dX6_less_1 : decode cX6_less 1 = .ok (.iload_n 1, 1) := dk_27 (dk_at dksX6_less_0 1 rfl rfl)
theorem dX6_less_2 : decode cX6_less 2 = .ok (.if_icmp .ge 7, 3) := dk_162 0 7 (dk_at dksX6_less_0 2 rfl rfl)
theorem dX6_less_5 : decode cX6_less 5 = .ok (.iload_n 0, 1) := dk_26 (dk_at dksX6_less_0 5 rfl rfl)
theorem dX6_less_6 : decode cX6_less 6 = .ok (.goto 4, 3) := dk_167 0 4 (dk_at dksX6_less_0 6 rfl rfl)
theorem dX6_less_9 : decode cX6_less 9 = .ok (.iload_n 1, 1) := dk_27 (dk_at dksX6_less_0 9 rfl rfl)
theorem dX6_less_10 : decode cX6_less 10 = .ok (.ireturn, 1) := dk_172 (dk_at dksX6_less_0 10 rfl rfl)
abbrev cX6_restart : ByteArray := prog_8_method_57_code
def yX6_restart : MethodName := ⟨RX6, "restart", "()V"⟩
def dkwX6_restart_0 : List UInt8 := [42, 3, 181, 0, 85, 42, 182, 0, 82, 177]
abbrev dktX6_restart_0 : List UInt8 := dkwX6_restart_0 ++ []
theorem dksX6_restart_0 : cX6_restart.data.toList.drop 0 = dktX6_restart_0 := by decide +kernel
theorem dX6_restart_0 : decode cX6_restart 0 = .ok (.aload_n 0, 1) := dk_42 (dk_at dksX6_restart_0 0 rfl rfl)
theorem dX6_restart_1 : decode cX6_restart 1 = .ok (.iconst 0, 1) := dk_3 (dk_at dksX6_restart_0 1 rfl rfl)
theorem dX6_restart_2 : decode cX6_restart 2 = .ok (.putfield 85, 3) := dk_181 0 85 (dk_at dksX6_restart_0 2 rfl rfl)
theorem dX6_restart_5 : decode cX6_restart 5 = .ok (.aload_n 0, 1) := dk_42 (dk_at dksX6_restart_0 5 rfl rfl)
theorem dX6_restart_6 : decode cX6_restart 6 = .ok (.invokevirtual 82, 3) := dk_182 0 82 (dk_at dksX6_restart_0 6 rfl rfl)
theorem dX6_restart_9 : decode cX6_restart 9 = .ok (.return_, 1) := dk_177 (dk_at dksX6_restart_0 9 rfl rfl)
abbrev cX6_waiting : ByteArray := prog_8_method_58_code
def yX6_waiting : MethodName := ⟨RX6, "waiting", "()I"⟩
def dkwX6_waiting_0 : List UInt8 := [42, 3, 181, 0, 85, 42, 180, 0, 129, 172]
abbrev dktX6_waiting_0 : List UInt8 := dkwX6_waiting_0 ++ []
theorem dksX6_waiting_0 : cX6_waiting.data.toList.drop 0 = dktX6_waiting_0 := by decide +kernel
theorem dX6_waiting_0 : decode cX6_waiting 0 = .ok (.aload_n 0, 1) := dk_42 (dk_at dksX6_waiting_0 0 rfl rfl)
theorem dX6_waiting_1 : decode cX6_waiting 1 = .ok (.iconst 0, 1) := dk_3 (dk_at dksX6_waiting_0 1 rfl rfl)
theorem dX6_waiting_2 : decode cX6_waiting 2 = .ok (.putfield 85, 3) := dk_181 0 85 (dk_at dksX6_waiting_0 2 rfl rfl)
theorem dX6_waiting_5 : decode cX6_waiting 5 = .ok (.aload_n 0, 1) := dk_42 (dk_at dksX6_waiting_0 5 rfl rfl)
theorem dX6_waiting_6 : decode cX6_waiting 6 = .ok (.getfield 129, 3) := dk_180 0 129 (dk_at dksX6_waiting_0 6 rfl rfl)
theorem dX6_waiting_9 : decode cX6_waiting 9 = .ok (.ireturn, 1) := dk_172 (dk_at dksX6_waiting_0 9 rfl rfl)
abbrev cX6_out : ByteArray := prog_8_method_59_code
def yX6_out : MethodName := ⟨RX6, "out", "(I)I"⟩
def dkwX6_out_1 : List UInt8 := [181, 0, 85, 42, 180, 0, 75, 27, 46, 172]
abbrev dktX6_out_1 : List UInt8 := dkwX6_out_1 ++ []
def dkwX6_out_0 : List UInt8 := [27, 3, 42, 180, 0, 129, 4, 100, 184, 0, 158, 153, 0, 9, 42, 4, 182, 0, 162, 172, 42, 3]
abbrev dktX6_out_0 : List UInt8 := dkwX6_out_0 ++ dktX6_out_1
theorem dksX6_out_0 : cX6_out.data.toList.drop 0 = dktX6_out_0 := by decide +kernel
theorem dksX6_out_1 : cX6_out.data.toList.drop 22 = dktX6_out_1 := dk_seg dksX6_out_0 22 rfl rfl
theorem dX6_out_0 : decode cX6_out 0 = .ok (.iload_n 1, 1) := dk_27 (dk_at dksX6_out_0 0 rfl rfl)
theorem dX6_out_1 : decode cX6_out 1 = .ok (.iconst 0, 1) := dk_3 (dk_at dksX6_out_0 1 rfl rfl)
theorem dX6_out_2 : decode cX6_out 2 = .ok (.aload_n 0, 1) := dk_42 (dk_at dksX6_out_0 2 rfl rfl)
theorem dX6_out_3 : decode cX6_out 3 = .ok (.getfield 129, 3) := dk_180 0 129 (dk_at dksX6_out_0 3 rfl rfl)
theorem dX6_out_6 : decode cX6_out 6 = .ok (.iconst 1, 1) := dk_4 (dk_at dksX6_out_0 6 rfl rfl)
theorem dX6_out_7 : decode cX6_out 7 = .ok (.isub, 1) := dk_100 (dk_at dksX6_out_0 7 rfl rfl)
theorem dX6_out_8 : decode cX6_out 8 = .ok (.invokestatic 158, 3) := dk_184 0 158 (dk_at dksX6_out_0 8 rfl rfl)
theorem dX6_out_11 : decode cX6_out 11 = .ok (.ifCond .eq 9, 3) := dk_153 0 9 (dk_at dksX6_out_0 11 rfl rfl)
theorem dX6_out_14 : decode cX6_out 14 = .ok (.aload_n 0, 1) := dk_42 (dk_at dksX6_out_0 14 rfl rfl)
theorem dX6_out_15 : decode cX6_out 15 = .ok (.iconst 1, 1) := dk_4 (dk_at dksX6_out_0 15 rfl rfl)
theorem dX6_out_16 : decode cX6_out 16 = .ok (.invokevirtual 162, 3) := dk_182 0 162 (dk_at dksX6_out_0 16 rfl rfl)
theorem dX6_out_19 : decode cX6_out 19 = .ok (.ireturn, 1) := dk_172 (dk_at dksX6_out_0 19 rfl rfl)
theorem dX6_out_20 : decode cX6_out 20 = .ok (.aload_n 0, 1) := dk_42 (dk_at dksX6_out_0 20 rfl rfl)
theorem dX6_out_21 : decode cX6_out 21 = .ok (.iconst 0, 1) := dk_3 (dk_at dksX6_out_0 21 rfl rfl)
theorem dX6_out_22 : decode cX6_out 22 = .ok (.putfield 85, 3) := dk_181 0 85 (dk_at dksX6_out_1 0 rfl rfl)
theorem dX6_out_25 : decode cX6_out 25 = .ok (.aload_n 0, 1) := dk_42 (dk_at dksX6_out_1 3 rfl rfl)
theorem dX6_out_26 : decode cX6_out 26 = .ok (.getfield 75, 3) := dk_180 0 75 (dk_at dksX6_out_1 4 rfl rfl)
theorem dX6_out_29 : decode cX6_out 29 = .ok (.iload_n 1, 1) := dk_27 (dk_at dksX6_out_1 7 rfl rfl)
theorem dX6_out_30 : decode cX6_out 30 = .ok (.iaload, 1) := dk_46 (dk_at dksX6_out_1 8 rfl rfl)
theorem dX6_out_31 : decode cX6_out 31 = .ok (.ireturn, 1) := dk_172 (dk_at dksX6_out_1 9 rfl rfl)
abbrev cX6_take : ByteArray := prog_8_method_60_code
def yX6_take : MethodName := ⟨RX6, "take", "(I)V"⟩
def dkwX6_take_3 : List UInt8 := [177]
abbrev dktX6_take_3 : List UInt8 := dkwX6_take_3 ++ []
def dkwX6_take_2 : List UInt8 := [100, 42, 180, 0, 75, 29, 46, 79, 132, 3, 1, 167, 255, 231, 42, 89, 180, 0, 129, 28, 100, 181, 0, 129]
abbrev dktX6_take_2 : List UInt8 := dkwX6_take_2 ++ dktX6_take_3
def dkwX6_take_1 : List UInt8 := [180, 0, 129, 167, 0, 4, 27, 61, 28, 62, 29, 42, 180, 0, 129, 162, 0, 23, 42, 180, 0, 75, 29, 28]
abbrev dktX6_take_1 : List UInt8 := dkwX6_take_1 ++ dktX6_take_2
def dkwX6_take_0 : List UInt8 := [42, 3, 181, 0, 85, 27, 156, 0, 7, 3, 167, 0, 19, 27, 42, 180, 0, 129, 164, 0, 10, 42]
abbrev dktX6_take_0 : List UInt8 := dkwX6_take_0 ++ dktX6_take_1
theorem dksX6_take_0 : cX6_take.data.toList.drop 0 = dktX6_take_0 := by decide +kernel
theorem dksX6_take_1 : cX6_take.data.toList.drop 22 = dktX6_take_1 := dk_seg dksX6_take_0 22 rfl rfl
theorem dksX6_take_2 : cX6_take.data.toList.drop 46 = dktX6_take_2 := dk_seg dksX6_take_1 24 rfl rfl
theorem dksX6_take_3 : cX6_take.data.toList.drop 70 = dktX6_take_3 := dk_seg dksX6_take_2 24 rfl rfl
theorem dX6_take_0 : decode cX6_take 0 = .ok (.aload_n 0, 1) := dk_42 (dk_at dksX6_take_0 0 rfl rfl)
theorem dX6_take_1 : decode cX6_take 1 = .ok (.iconst 0, 1) := dk_3 (dk_at dksX6_take_0 1 rfl rfl)
theorem dX6_take_2 : decode cX6_take 2 = .ok (.putfield 85, 3) := dk_181 0 85 (dk_at dksX6_take_0 2 rfl rfl)
theorem dX6_take_5 : decode cX6_take 5 = .ok (.iload_n 1, 1) := dk_27 (dk_at dksX6_take_0 5 rfl rfl)
theorem dX6_take_6 : decode cX6_take 6 = .ok (.ifCond .ge 7, 3) := dk_156 0 7 (dk_at dksX6_take_0 6 rfl rfl)
theorem dX6_take_9 : decode cX6_take 9 = .ok (.iconst 0, 1) := dk_3 (dk_at dksX6_take_0 9 rfl rfl)
theorem dX6_take_10 : decode cX6_take 10 = .ok (.goto 19, 3) := dk_167 0 19 (dk_at dksX6_take_0 10 rfl rfl)
theorem dX6_take_13 : decode cX6_take 13 = .ok (.iload_n 1, 1) := dk_27 (dk_at dksX6_take_0 13 rfl rfl)
theorem dX6_take_14 : decode cX6_take 14 = .ok (.aload_n 0, 1) := dk_42 (dk_at dksX6_take_0 14 rfl rfl)
theorem dX6_take_15 : decode cX6_take 15 = .ok (.getfield 129, 3) := dk_180 0 129 (dk_at dksX6_take_0 15 rfl rfl)
theorem dX6_take_18 : decode cX6_take 18 = .ok (.if_icmp .le 10, 3) := dk_164 0 10 (dk_at dksX6_take_0 18 rfl rfl)
theorem dX6_take_21 : decode cX6_take 21 = .ok (.aload_n 0, 1) := dk_42 (dk_at dksX6_take_0 21 rfl rfl)
theorem dX6_take_22 : decode cX6_take 22 = .ok (.getfield 129, 3) := dk_180 0 129 (dk_at dksX6_take_1 0 rfl rfl)
theorem dX6_take_25 : decode cX6_take 25 = .ok (.goto 4, 3) := dk_167 0 4 (dk_at dksX6_take_1 3 rfl rfl)
theorem dX6_take_28 : decode cX6_take 28 = .ok (.iload_n 1, 1) := dk_27 (dk_at dksX6_take_1 6 rfl rfl)
theorem dX6_take_29 : decode cX6_take 29 = .ok (.istore_n 2, 1) := dk_61 (dk_at dksX6_take_1 7 rfl rfl)
theorem dX6_take_30 : decode cX6_take 30 = .ok (.iload_n 2, 1) := dk_28 (dk_at dksX6_take_1 8 rfl rfl)
theorem dX6_take_31 : decode cX6_take 31 = .ok (.istore_n 3, 1) := dk_62 (dk_at dksX6_take_1 9 rfl rfl)
theorem dX6_take_32 : decode cX6_take 32 = .ok (.iload_n 3, 1) := dk_29 (dk_at dksX6_take_1 10 rfl rfl)
theorem dX6_take_33 : decode cX6_take 33 = .ok (.aload_n 0, 1) := dk_42 (dk_at dksX6_take_1 11 rfl rfl)
theorem dX6_take_34 : decode cX6_take 34 = .ok (.getfield 129, 3) := dk_180 0 129 (dk_at dksX6_take_1 12 rfl rfl)
theorem dX6_take_37 : decode cX6_take 37 = .ok (.if_icmp .ge 23, 3) := dk_162 0 23 (dk_at dksX6_take_1 15 rfl rfl)
theorem dX6_take_40 : decode cX6_take 40 = .ok (.aload_n 0, 1) := dk_42 (dk_at dksX6_take_1 18 rfl rfl)
theorem dX6_take_41 : decode cX6_take 41 = .ok (.getfield 75, 3) := dk_180 0 75 (dk_at dksX6_take_1 19 rfl rfl)
theorem dX6_take_44 : decode cX6_take 44 = .ok (.iload_n 3, 1) := dk_29 (dk_at dksX6_take_1 22 rfl rfl)
theorem dX6_take_45 : decode cX6_take 45 = .ok (.iload_n 2, 1) := dk_28 (dk_at dksX6_take_1 23 rfl rfl)
theorem dX6_take_46 : decode cX6_take 46 = .ok (.isub, 1) := dk_100 (dk_at dksX6_take_2 0 rfl rfl)
theorem dX6_take_47 : decode cX6_take 47 = .ok (.aload_n 0, 1) := dk_42 (dk_at dksX6_take_2 1 rfl rfl)
theorem dX6_take_48 : decode cX6_take 48 = .ok (.getfield 75, 3) := dk_180 0 75 (dk_at dksX6_take_2 2 rfl rfl)
theorem dX6_take_51 : decode cX6_take 51 = .ok (.iload_n 3, 1) := dk_29 (dk_at dksX6_take_2 5 rfl rfl)
theorem dX6_take_52 : decode cX6_take 52 = .ok (.iaload, 1) := dk_46 (dk_at dksX6_take_2 6 rfl rfl)
theorem dX6_take_53 : decode cX6_take 53 = .ok (.iastore, 1) := dk_79 (dk_at dksX6_take_2 7 rfl rfl)
theorem dX6_take_54 : decode cX6_take 54 = .ok (.iinc 3 1, 3) := dk_132 3 1 (dk_at dksX6_take_2 8 rfl rfl)
theorem dX6_take_57 : decode cX6_take 57 = .ok (.goto (-25), 3) := dk_167 255 231 (dk_at dksX6_take_2 11 rfl rfl)
theorem dX6_take_60 : decode cX6_take 60 = .ok (.aload_n 0, 1) := dk_42 (dk_at dksX6_take_2 14 rfl rfl)
theorem dX6_take_61 : decode cX6_take 61 = .ok (.dup, 1) := dk_89 (dk_at dksX6_take_2 15 rfl rfl)
theorem dX6_take_62 : decode cX6_take 62 = .ok (.getfield 129, 3) := dk_180 0 129 (dk_at dksX6_take_2 16 rfl rfl)
theorem dX6_take_65 : decode cX6_take 65 = .ok (.iload_n 2, 1) := dk_28 (dk_at dksX6_take_2 19 rfl rfl)
theorem dX6_take_66 : decode cX6_take 66 = .ok (.isub, 1) := dk_100 (dk_at dksX6_take_2 20 rfl rfl)
theorem dX6_take_67 : decode cX6_take 67 = .ok (.putfield 129, 3) := dk_181 0 129 (dk_at dksX6_take_2 21 rfl rfl)
theorem dX6_take_70 : decode cX6_take 70 = .ok (.return_, 1) := dk_177 (dk_at dksX6_take_3 0 rfl rfl)
abbrev cX6_away : ByteArray := prog_8_method_61_code
def yX6_away : MethodName := ⟨RX6, "away", "()I"⟩
def dkwX6_away_0 : List UInt8 := [42, 3, 181, 0, 85, 42, 180, 0, 114, 172]
abbrev dktX6_away_0 : List UInt8 := dkwX6_away_0 ++ []
theorem dksX6_away_0 : cX6_away.data.toList.drop 0 = dktX6_away_0 := by decide +kernel
theorem dX6_away_0 : decode cX6_away 0 = .ok (.aload_n 0, 1) := dk_42 (dk_at dksX6_away_0 0 rfl rfl)
theorem dX6_away_1 : decode cX6_away 1 = .ok (.iconst 0, 1) := dk_3 (dk_at dksX6_away_0 1 rfl rfl)
theorem dX6_away_2 : decode cX6_away 2 = .ok (.putfield 85, 3) := dk_181 0 85 (dk_at dksX6_away_0 2 rfl rfl)
theorem dX6_away_5 : decode cX6_away 5 = .ok (.aload_n 0, 1) := dk_42 (dk_at dksX6_away_0 5 rfl rfl)
theorem dX6_away_6 : decode cX6_away 6 = .ok (.getfield 114, 3) := dk_180 0 114 (dk_at dksX6_away_0 6 rfl rfl)
theorem dX6_away_9 : decode cX6_away 9 = .ok (.ireturn, 1) := dk_172 (dk_at dksX6_away_0 9 rfl rfl)
abbrev cX6_about : ByteArray := prog_8_method_62_code
def yX6_about : MethodName := ⟨RX6, "about", "(I)I"⟩
def dkwX6_about_3 : List UInt8 := [172, 42, 180, 0, 89, 172, 42, 182, 0, 182, 172, 42, 180, 0, 108, 172, 2, 172]
abbrev dktX6_about_3 : List UInt8 := dkwX6_about_3 ++ []
def dkwX6_about_2 : List UInt8 := [42, 180, 0, 111, 172, 42, 182, 1, 42, 172, 42, 180, 0, 120, 172, 42, 180, 0, 126, 172, 42, 180, 0, 92]
abbrev dktX6_about_2 : List UInt8 := dkwX6_about_2 ++ dktX6_about_3
def dkwX6_about_1 : List UInt8 := [170, 0, 0, 0, 0, 86, 0, 0, 0, 0, 0, 0, 0, 7, 0, 0, 0, 46, 0, 0, 0, 51, 0, 0, 0, 56, 0, 0, 0, 61, 0, 0, 0, 66, 0, 0, 0, 71, 0, 0, 0, 76, 0, 0, 0, 81]
abbrev dktX6_about_1 : List UInt8 := dkwX6_about_1 ++ dktX6_about_2
def dkwX6_about_0 : List UInt8 := [42, 3, 181, 0, 85, 27]
abbrev dktX6_about_0 : List UInt8 := dkwX6_about_0 ++ dktX6_about_1
theorem dksX6_about_0 : cX6_about.data.toList.drop 0 = dktX6_about_0 := by decide +kernel
theorem dksX6_about_1 : cX6_about.data.toList.drop 6 = dktX6_about_1 := dk_seg dksX6_about_0 6 rfl rfl
theorem dksX6_about_2 : cX6_about.data.toList.drop 52 = dktX6_about_2 := dk_seg dksX6_about_1 46 rfl rfl
theorem dksX6_about_3 : cX6_about.data.toList.drop 76 = dktX6_about_3 := dk_seg dksX6_about_2 24 rfl rfl
theorem dX6_about_0 : decode cX6_about 0 = .ok (.aload_n 0, 1) := dk_42 (dk_at dksX6_about_0 0 rfl rfl)
theorem dX6_about_1 : decode cX6_about 1 = .ok (.iconst 0, 1) := dk_3 (dk_at dksX6_about_0 1 rfl rfl)
theorem dX6_about_2 : decode cX6_about 2 = .ok (.putfield 85, 3) := dk_181 0 85 (dk_at dksX6_about_0 2 rfl rfl)
theorem dX6_about_5 : decode cX6_about 5 = .ok (.iload_n 1, 1) := dk_27 (dk_at dksX6_about_0 5 rfl rfl)
theorem dX6_about_6 : decode cX6_about 6 = .ok (.tableswitch 86 0 7 #[46, 51, 56, 61, 66, 71, 76, 81], 46) := by decide +kernel
theorem dX6_about_52 : decode cX6_about 52 = .ok (.aload_n 0, 1) := dk_42 (dk_at dksX6_about_2 0 rfl rfl)
theorem dX6_about_53 : decode cX6_about 53 = .ok (.getfield 111, 3) := dk_180 0 111 (dk_at dksX6_about_2 1 rfl rfl)
theorem dX6_about_56 : decode cX6_about 56 = .ok (.ireturn, 1) := dk_172 (dk_at dksX6_about_2 4 rfl rfl)
theorem dX6_about_57 : decode cX6_about 57 = .ok (.aload_n 0, 1) := dk_42 (dk_at dksX6_about_2 5 rfl rfl)
theorem dX6_about_58 : decode cX6_about 58 = .ok (.invokevirtual 298, 3) := dk_182 1 42 (dk_at dksX6_about_2 6 rfl rfl)
theorem dX6_about_61 : decode cX6_about 61 = .ok (.ireturn, 1) := dk_172 (dk_at dksX6_about_2 9 rfl rfl)
theorem dX6_about_62 : decode cX6_about 62 = .ok (.aload_n 0, 1) := dk_42 (dk_at dksX6_about_2 10 rfl rfl)
theorem dX6_about_63 : decode cX6_about 63 = .ok (.getfield 120, 3) := dk_180 0 120 (dk_at dksX6_about_2 11 rfl rfl)
theorem dX6_about_66 : decode cX6_about 66 = .ok (.ireturn, 1) := dk_172 (dk_at dksX6_about_2 14 rfl rfl)
theorem dX6_about_67 : decode cX6_about 67 = .ok (.aload_n 0, 1) := dk_42 (dk_at dksX6_about_2 15 rfl rfl)
theorem dX6_about_68 : decode cX6_about 68 = .ok (.getfield 126, 3) := dk_180 0 126 (dk_at dksX6_about_2 16 rfl rfl)
theorem dX6_about_71 : decode cX6_about 71 = .ok (.ireturn, 1) := dk_172 (dk_at dksX6_about_2 19 rfl rfl)
theorem dX6_about_72 : decode cX6_about 72 = .ok (.aload_n 0, 1) := dk_42 (dk_at dksX6_about_2 20 rfl rfl)
theorem dX6_about_73 : decode cX6_about 73 = .ok (.getfield 92, 3) := dk_180 0 92 (dk_at dksX6_about_2 21 rfl rfl)
theorem dX6_about_76 : decode cX6_about 76 = .ok (.ireturn, 1) := dk_172 (dk_at dksX6_about_3 0 rfl rfl)
theorem dX6_about_77 : decode cX6_about 77 = .ok (.aload_n 0, 1) := dk_42 (dk_at dksX6_about_3 1 rfl rfl)
theorem dX6_about_78 : decode cX6_about 78 = .ok (.getfield 89, 3) := dk_180 0 89 (dk_at dksX6_about_3 2 rfl rfl)
theorem dX6_about_81 : decode cX6_about 81 = .ok (.ireturn, 1) := dk_172 (dk_at dksX6_about_3 5 rfl rfl)
theorem dX6_about_82 : decode cX6_about 82 = .ok (.aload_n 0, 1) := dk_42 (dk_at dksX6_about_3 6 rfl rfl)
theorem dX6_about_83 : decode cX6_about 83 = .ok (.invokevirtual 182, 3) := dk_182 0 182 (dk_at dksX6_about_3 7 rfl rfl)
theorem dX6_about_86 : decode cX6_about 86 = .ok (.ireturn, 1) := dk_172 (dk_at dksX6_about_3 10 rfl rfl)
theorem dX6_about_87 : decode cX6_about 87 = .ok (.aload_n 0, 1) := dk_42 (dk_at dksX6_about_3 11 rfl rfl)
theorem dX6_about_88 : decode cX6_about 88 = .ok (.getfield 108, 3) := dk_180 0 108 (dk_at dksX6_about_3 12 rfl rfl)
theorem dX6_about_91 : decode cX6_about 91 = .ok (.ireturn, 1) := dk_172 (dk_at dksX6_about_3 15 rfl rfl)
theorem dX6_about_92 : decode cX6_about 92 = .ok (.iconst (-1), 1) := dk_2 (dk_at dksX6_about_3 16 rfl rfl)
theorem dX6_about_93 : decode cX6_about 93 = .ok (.ireturn, 1) := dk_172 (dk_at dksX6_about_3 17 rfl rfl)
abbrev cX6_stream : ByteArray := prog_8_method_63_code
def yX6_stream : MethodName := ⟨RX6, "stream", "(II)I"⟩
def dkwX6_stream_3 : List UInt8 := [167, 0, 17, 42, 180, 0, 53, 29, 51, 153, 0, 7, 4, 167, 0, 4, 3, 172]
abbrev dktX6_stream_3 : List UInt8 := dkwX6_stream_3 ++ []
def dkwX6_stream_2 : List UInt8 := [160, 0, 12, 42, 180, 0, 47, 29, 46, 167, 0, 31, 28, 5, 160, 0, 12, 42, 180, 0, 41, 29, 46]
abbrev dktX6_stream_2 : List UInt8 := dkwX6_stream_2 ++ dktX6_stream_3
def dkwX6_stream_1 : List UInt8 := [182, 0, 162, 172, 42, 3, 181, 0, 85, 28, 154, 0, 12, 42, 180, 0, 38, 29, 46, 167, 0, 45, 28, 4]
abbrev dktX6_stream_1 : List UInt8 := dkwX6_stream_1 ++ dktX6_stream_2
def dkwX6_stream_0 : List UInt8 := [42, 27, 182, 0, 173, 62, 29, 2, 159, 0, 12, 28, 3, 6, 184, 0, 158, 153, 0, 9, 42, 4]
abbrev dktX6_stream_0 : List UInt8 := dkwX6_stream_0 ++ dktX6_stream_1
theorem dksX6_stream_0 : cX6_stream.data.toList.drop 0 = dktX6_stream_0 := by decide +kernel
theorem dksX6_stream_1 : cX6_stream.data.toList.drop 22 = dktX6_stream_1 := dk_seg dksX6_stream_0 22 rfl rfl
theorem dksX6_stream_2 : cX6_stream.data.toList.drop 46 = dktX6_stream_2 := dk_seg dksX6_stream_1 24 rfl rfl
theorem dksX6_stream_3 : cX6_stream.data.toList.drop 69 = dktX6_stream_3 := dk_seg dksX6_stream_2 23 rfl rfl
theorem dX6_stream_0 : decode cX6_stream 0 = .ok (.aload_n 0, 1) := dk_42 (dk_at dksX6_stream_0 0 rfl rfl)
theorem dX6_stream_1 : decode cX6_stream 1 = .ok (.iload_n 1, 1) := dk_27 (dk_at dksX6_stream_0 1 rfl rfl)
theorem dX6_stream_2 : decode cX6_stream 2 = .ok (.invokevirtual 173, 3) := dk_182 0 173 (dk_at dksX6_stream_0 2 rfl rfl)
theorem dX6_stream_5 : decode cX6_stream 5 = .ok (.istore_n 3, 1) := dk_62 (dk_at dksX6_stream_0 5 rfl rfl)
theorem dX6_stream_6 : decode cX6_stream 6 = .ok (.iload_n 3, 1) := dk_29 (dk_at dksX6_stream_0 6 rfl rfl)
theorem dX6_stream_7 : decode cX6_stream 7 = .ok (.iconst (-1), 1) := dk_2 (dk_at dksX6_stream_0 7 rfl rfl)
theorem dX6_stream_8 : decode cX6_stream 8 = .ok (.if_icmp .eq 12, 3) := dk_159 0 12 (dk_at dksX6_stream_0 8 rfl rfl)
theorem dX6_stream_11 : decode cX6_stream 11 = .ok (.iload_n 2, 1) := dk_28 (dk_at dksX6_stream_0 11 rfl rfl)
theorem dX6_stream_12 : decode cX6_stream 12 = .ok (.iconst 0, 1) := dk_3 (dk_at dksX6_stream_0 12 rfl rfl)
theorem dX6_stream_13 : decode cX6_stream 13 = .ok (.iconst 3, 1) := dk_6 (dk_at dksX6_stream_0 13 rfl rfl)
theorem dX6_stream_14 : decode cX6_stream 14 = .ok (.invokestatic 158, 3) := dk_184 0 158 (dk_at dksX6_stream_0 14 rfl rfl)
theorem dX6_stream_17 : decode cX6_stream 17 = .ok (.ifCond .eq 9, 3) := dk_153 0 9 (dk_at dksX6_stream_0 17 rfl rfl)
theorem dX6_stream_20 : decode cX6_stream 20 = .ok (.aload_n 0, 1) := dk_42 (dk_at dksX6_stream_0 20 rfl rfl)
theorem dX6_stream_21 : decode cX6_stream 21 = .ok (.iconst 1, 1) := dk_4 (dk_at dksX6_stream_0 21 rfl rfl)
theorem dX6_stream_22 : decode cX6_stream 22 = .ok (.invokevirtual 162, 3) := dk_182 0 162 (dk_at dksX6_stream_1 0 rfl rfl)
theorem dX6_stream_25 : decode cX6_stream 25 = .ok (.ireturn, 1) := dk_172 (dk_at dksX6_stream_1 3 rfl rfl)
theorem dX6_stream_26 : decode cX6_stream 26 = .ok (.aload_n 0, 1) := dk_42 (dk_at dksX6_stream_1 4 rfl rfl)
theorem dX6_stream_27 : decode cX6_stream 27 = .ok (.iconst 0, 1) := dk_3 (dk_at dksX6_stream_1 5 rfl rfl)
theorem dX6_stream_28 : decode cX6_stream 28 = .ok (.putfield 85, 3) := dk_181 0 85 (dk_at dksX6_stream_1 6 rfl rfl)
theorem dX6_stream_31 : decode cX6_stream 31 = .ok (.iload_n 2, 1) := dk_28 (dk_at dksX6_stream_1 9 rfl rfl)
theorem dX6_stream_32 : decode cX6_stream 32 = .ok (.ifCond .ne 12, 3) := dk_154 0 12 (dk_at dksX6_stream_1 10 rfl rfl)
theorem dX6_stream_35 : decode cX6_stream 35 = .ok (.aload_n 0, 1) := dk_42 (dk_at dksX6_stream_1 13 rfl rfl)
theorem dX6_stream_36 : decode cX6_stream 36 = .ok (.getfield 38, 3) := dk_180 0 38 (dk_at dksX6_stream_1 14 rfl rfl)
theorem dX6_stream_39 : decode cX6_stream 39 = .ok (.iload_n 3, 1) := dk_29 (dk_at dksX6_stream_1 17 rfl rfl)
theorem dX6_stream_40 : decode cX6_stream 40 = .ok (.iaload, 1) := dk_46 (dk_at dksX6_stream_1 18 rfl rfl)
theorem dX6_stream_41 : decode cX6_stream 41 = .ok (.goto 45, 3) := dk_167 0 45 (dk_at dksX6_stream_1 19 rfl rfl)
theorem dX6_stream_44 : decode cX6_stream 44 = .ok (.iload_n 2, 1) := dk_28 (dk_at dksX6_stream_1 22 rfl rfl)
theorem dX6_stream_45 : decode cX6_stream 45 = .ok (.iconst 1, 1) := dk_4 (dk_at dksX6_stream_1 23 rfl rfl)
theorem dX6_stream_46 : decode cX6_stream 46 = .ok (.if_icmp .ne 12, 3) := dk_160 0 12 (dk_at dksX6_stream_2 0 rfl rfl)
theorem dX6_stream_49 : decode cX6_stream 49 = .ok (.aload_n 0, 1) := dk_42 (dk_at dksX6_stream_2 3 rfl rfl)
theorem dX6_stream_50 : decode cX6_stream 50 = .ok (.getfield 47, 3) := dk_180 0 47 (dk_at dksX6_stream_2 4 rfl rfl)
theorem dX6_stream_53 : decode cX6_stream 53 = .ok (.iload_n 3, 1) := dk_29 (dk_at dksX6_stream_2 7 rfl rfl)
theorem dX6_stream_54 : decode cX6_stream 54 = .ok (.iaload, 1) := dk_46 (dk_at dksX6_stream_2 8 rfl rfl)
theorem dX6_stream_55 : decode cX6_stream 55 = .ok (.goto 31, 3) := dk_167 0 31 (dk_at dksX6_stream_2 9 rfl rfl)
theorem dX6_stream_58 : decode cX6_stream 58 = .ok (.iload_n 2, 1) := dk_28 (dk_at dksX6_stream_2 12 rfl rfl)
theorem dX6_stream_59 : decode cX6_stream 59 = .ok (.iconst 2, 1) := dk_5 (dk_at dksX6_stream_2 13 rfl rfl)
theorem dX6_stream_60 : decode cX6_stream 60 = .ok (.if_icmp .ne 12, 3) := dk_160 0 12 (dk_at dksX6_stream_2 14 rfl rfl)
theorem dX6_stream_63 : decode cX6_stream 63 = .ok (.aload_n 0, 1) := dk_42 (dk_at dksX6_stream_2 17 rfl rfl)
theorem dX6_stream_64 : decode cX6_stream 64 = .ok (.getfield 41, 3) := dk_180 0 41 (dk_at dksX6_stream_2 18 rfl rfl)
theorem dX6_stream_67 : decode cX6_stream 67 = .ok (.iload_n 3, 1) := dk_29 (dk_at dksX6_stream_2 21 rfl rfl)
theorem dX6_stream_68 : decode cX6_stream 68 = .ok (.iaload, 1) := dk_46 (dk_at dksX6_stream_2 22 rfl rfl)
theorem dX6_stream_69 : decode cX6_stream 69 = .ok (.goto 17, 3) := dk_167 0 17 (dk_at dksX6_stream_3 0 rfl rfl)
theorem dX6_stream_72 : decode cX6_stream 72 = .ok (.aload_n 0, 1) := dk_42 (dk_at dksX6_stream_3 3 rfl rfl)
theorem dX6_stream_73 : decode cX6_stream 73 = .ok (.getfield 53, 3) := dk_180 0 53 (dk_at dksX6_stream_3 4 rfl rfl)
theorem dX6_stream_76 : decode cX6_stream 76 = .ok (.iload_n 3, 1) := dk_29 (dk_at dksX6_stream_3 7 rfl rfl)
theorem dX6_stream_77 : decode cX6_stream 77 = .ok (.baload, 1) := dk_51 (dk_at dksX6_stream_3 8 rfl rfl)
theorem dX6_stream_78 : decode cX6_stream 78 = .ok (.ifCond .eq 7, 3) := dk_153 0 7 (dk_at dksX6_stream_3 9 rfl rfl)
theorem dX6_stream_81 : decode cX6_stream 81 = .ok (.iconst 1, 1) := dk_4 (dk_at dksX6_stream_3 12 rfl rfl)
theorem dX6_stream_82 : decode cX6_stream 82 = .ok (.goto 4, 3) := dk_167 0 4 (dk_at dksX6_stream_3 13 rfl rfl)
theorem dX6_stream_85 : decode cX6_stream 85 = .ok (.iconst 0, 1) := dk_3 (dk_at dksX6_stream_3 16 rfl rfl)
theorem dX6_stream_86 : decode cX6_stream 86 = .ok (.ireturn, 1) := dk_172 (dk_at dksX6_stream_3 17 rfl rfl)
abbrev cX6_entry : ByteArray := prog_8_method_64_code
def yX6_entry : MethodName := ⟨RX6, "entry", "(III)I"⟩
def dkwX6_entry_4 : List UInt8 := [96, 52, 167, 0, 16, 42, 180, 0, 32, 16, 20, 27, 4, 100, 104, 29, 96, 52, 172]
abbrev dktX6_entry_4 : List UInt8 := dkwX6_entry_4 ++ []
def dkwX6_entry_3 : List UInt8 := [182, 0, 162, 172, 42, 3, 181, 0, 85, 28, 154, 0, 19, 42, 180, 0, 26, 16, 20, 27, 4, 100, 104, 29]
abbrev dktX6_entry_3 : List UInt8 := dkwX6_entry_3 ++ dktX6_entry_4
def dkwX6_entry_2 : List UInt8 := [180, 0, 29, 27, 4, 100, 46, 54, 4, 29, 3, 21, 4, 4, 100, 184, 0, 158, 153, 0, 9, 42, 4]
abbrev dktX6_entry_2 : List UInt8 := dkwX6_entry_2 ++ dktX6_entry_3
def dkwX6_entry_1 : List UInt8 := [42, 4, 182, 0, 162, 172, 28, 154, 0, 14, 42, 180, 0, 23, 27, 4, 100, 46, 167, 0, 11, 42]
abbrev dktX6_entry_1 : List UInt8 := dkwX6_entry_1 ++ dktX6_entry_2
def dkwX6_entry_0 : List UInt8 := [27, 4, 16, 7, 42, 180, 0, 89, 96, 184, 0, 158, 154, 0, 12, 28, 3, 4, 184, 0, 158, 153, 0, 9]
abbrev dktX6_entry_0 : List UInt8 := dkwX6_entry_0 ++ dktX6_entry_1
theorem dksX6_entry_0 : cX6_entry.data.toList.drop 0 = dktX6_entry_0 := by decide +kernel
theorem dksX6_entry_1 : cX6_entry.data.toList.drop 24 = dktX6_entry_1 := dk_seg dksX6_entry_0 24 rfl rfl
theorem dksX6_entry_2 : cX6_entry.data.toList.drop 46 = dktX6_entry_2 := dk_seg dksX6_entry_1 22 rfl rfl
theorem dksX6_entry_3 : cX6_entry.data.toList.drop 69 = dktX6_entry_3 := dk_seg dksX6_entry_2 23 rfl rfl
theorem dksX6_entry_4 : cX6_entry.data.toList.drop 93 = dktX6_entry_4 := dk_seg dksX6_entry_3 24 rfl rfl
theorem dX6_entry_0 : decode cX6_entry 0 = .ok (.iload_n 1, 1) := dk_27 (dk_at dksX6_entry_0 0 rfl rfl)
theorem dX6_entry_1 : decode cX6_entry 1 = .ok (.iconst 1, 1) := dk_4 (dk_at dksX6_entry_0 1 rfl rfl)
theorem dX6_entry_2 : decode cX6_entry 2 = .ok (.bipush 7, 2) := dk_16 7 (dk_at dksX6_entry_0 2 rfl rfl)
theorem dX6_entry_4 : decode cX6_entry 4 = .ok (.aload_n 0, 1) := dk_42 (dk_at dksX6_entry_0 4 rfl rfl)
theorem dX6_entry_5 : decode cX6_entry 5 = .ok (.getfield 89, 3) := dk_180 0 89 (dk_at dksX6_entry_0 5 rfl rfl)
theorem dX6_entry_8 : decode cX6_entry 8 = .ok (.iadd, 1) := dk_96 (dk_at dksX6_entry_0 8 rfl rfl)
theorem dX6_entry_9 : decode cX6_entry 9 = .ok (.invokestatic 158, 3) := dk_184 0 158 (dk_at dksX6_entry_0 9 rfl rfl)
theorem dX6_entry_12 : decode cX6_entry 12 = .ok (.ifCond .ne 12, 3) := dk_154 0 12 (dk_at dksX6_entry_0 12 rfl rfl)
theorem dX6_entry_15 : decode cX6_entry 15 = .ok (.iload_n 2, 1) := dk_28 (dk_at dksX6_entry_0 15 rfl rfl)
theorem dX6_entry_16 : decode cX6_entry 16 = .ok (.iconst 0, 1) := dk_3 (dk_at dksX6_entry_0 16 rfl rfl)
theorem dX6_entry_17 : decode cX6_entry 17 = .ok (.iconst 1, 1) := dk_4 (dk_at dksX6_entry_0 17 rfl rfl)
theorem dX6_entry_18 : decode cX6_entry 18 = .ok (.invokestatic 158, 3) := dk_184 0 158 (dk_at dksX6_entry_0 18 rfl rfl)
theorem dX6_entry_21 : decode cX6_entry 21 = .ok (.ifCond .eq 9, 3) := dk_153 0 9 (dk_at dksX6_entry_0 21 rfl rfl)
theorem dX6_entry_24 : decode cX6_entry 24 = .ok (.aload_n 0, 1) := dk_42 (dk_at dksX6_entry_1 0 rfl rfl)
theorem dX6_entry_25 : decode cX6_entry 25 = .ok (.iconst 1, 1) := dk_4 (dk_at dksX6_entry_1 1 rfl rfl)
theorem dX6_entry_26 : decode cX6_entry 26 = .ok (.invokevirtual 162, 3) := dk_182 0 162 (dk_at dksX6_entry_1 2 rfl rfl)
theorem dX6_entry_29 : decode cX6_entry 29 = .ok (.ireturn, 1) := dk_172 (dk_at dksX6_entry_1 5 rfl rfl)
theorem dX6_entry_30 : decode cX6_entry 30 = .ok (.iload_n 2, 1) := dk_28 (dk_at dksX6_entry_1 6 rfl rfl)
theorem dX6_entry_31 : decode cX6_entry 31 = .ok (.ifCond .ne 14, 3) := dk_154 0 14 (dk_at dksX6_entry_1 7 rfl rfl)
theorem dX6_entry_34 : decode cX6_entry 34 = .ok (.aload_n 0, 1) := dk_42 (dk_at dksX6_entry_1 10 rfl rfl)
theorem dX6_entry_35 : decode cX6_entry 35 = .ok (.getfield 23, 3) := dk_180 0 23 (dk_at dksX6_entry_1 11 rfl rfl)
theorem dX6_entry_38 : decode cX6_entry 38 = .ok (.iload_n 1, 1) := dk_27 (dk_at dksX6_entry_1 14 rfl rfl)
theorem dX6_entry_39 : decode cX6_entry 39 = .ok (.iconst 1, 1) := dk_4 (dk_at dksX6_entry_1 15 rfl rfl)
theorem dX6_entry_40 : decode cX6_entry 40 = .ok (.isub, 1) := dk_100 (dk_at dksX6_entry_1 16 rfl rfl)
theorem dX6_entry_41 : decode cX6_entry 41 = .ok (.iaload, 1) := dk_46 (dk_at dksX6_entry_1 17 rfl rfl)
theorem dX6_entry_42 : decode cX6_entry 42 = .ok (.goto 11, 3) := dk_167 0 11 (dk_at dksX6_entry_1 18 rfl rfl)
theorem dX6_entry_45 : decode cX6_entry 45 = .ok (.aload_n 0, 1) := dk_42 (dk_at dksX6_entry_1 21 rfl rfl)
theorem dX6_entry_46 : decode cX6_entry 46 = .ok (.getfield 29, 3) := dk_180 0 29 (dk_at dksX6_entry_2 0 rfl rfl)
theorem dX6_entry_49 : decode cX6_entry 49 = .ok (.iload_n 1, 1) := dk_27 (dk_at dksX6_entry_2 3 rfl rfl)
theorem dX6_entry_50 : decode cX6_entry 50 = .ok (.iconst 1, 1) := dk_4 (dk_at dksX6_entry_2 4 rfl rfl)
theorem dX6_entry_51 : decode cX6_entry 51 = .ok (.isub, 1) := dk_100 (dk_at dksX6_entry_2 5 rfl rfl)
theorem dX6_entry_52 : decode cX6_entry 52 = .ok (.iaload, 1) := dk_46 (dk_at dksX6_entry_2 6 rfl rfl)
theorem dX6_entry_53 : decode cX6_entry 53 = .ok (.istore 4, 2) := dk_54 4 (dk_at dksX6_entry_2 7 rfl rfl)
theorem dX6_entry_55 : decode cX6_entry 55 = .ok (.iload_n 3, 1) := dk_29 (dk_at dksX6_entry_2 9 rfl rfl)
theorem dX6_entry_56 : decode cX6_entry 56 = .ok (.iconst 0, 1) := dk_3 (dk_at dksX6_entry_2 10 rfl rfl)
theorem dX6_entry_57 : decode cX6_entry 57 = .ok (.iload 4, 2) := dk_21 4 (dk_at dksX6_entry_2 11 rfl rfl)
theorem dX6_entry_59 : decode cX6_entry 59 = .ok (.iconst 1, 1) := dk_4 (dk_at dksX6_entry_2 13 rfl rfl)
theorem dX6_entry_60 : decode cX6_entry 60 = .ok (.isub, 1) := dk_100 (dk_at dksX6_entry_2 14 rfl rfl)
theorem dX6_entry_61 : decode cX6_entry 61 = .ok (.invokestatic 158, 3) := dk_184 0 158 (dk_at dksX6_entry_2 15 rfl rfl)
theorem dX6_entry_64 : decode cX6_entry 64 = .ok (.ifCond .eq 9, 3) := dk_153 0 9 (dk_at dksX6_entry_2 18 rfl rfl)
theorem dX6_entry_67 : decode cX6_entry 67 = .ok (.aload_n 0, 1) := dk_42 (dk_at dksX6_entry_2 21 rfl rfl)
theorem dX6_entry_68 : decode cX6_entry 68 = .ok (.iconst 1, 1) := dk_4 (dk_at dksX6_entry_2 22 rfl rfl)
theorem dX6_entry_69 : decode cX6_entry 69 = .ok (.invokevirtual 162, 3) := dk_182 0 162 (dk_at dksX6_entry_3 0 rfl rfl)
theorem dX6_entry_72 : decode cX6_entry 72 = .ok (.ireturn, 1) := dk_172 (dk_at dksX6_entry_3 3 rfl rfl)
theorem dX6_entry_73 : decode cX6_entry 73 = .ok (.aload_n 0, 1) := dk_42 (dk_at dksX6_entry_3 4 rfl rfl)
theorem dX6_entry_74 : decode cX6_entry 74 = .ok (.iconst 0, 1) := dk_3 (dk_at dksX6_entry_3 5 rfl rfl)
theorem dX6_entry_75 : decode cX6_entry 75 = .ok (.putfield 85, 3) := dk_181 0 85 (dk_at dksX6_entry_3 6 rfl rfl)
theorem dX6_entry_78 : decode cX6_entry 78 = .ok (.iload_n 2, 1) := dk_28 (dk_at dksX6_entry_3 9 rfl rfl)
theorem dX6_entry_79 : decode cX6_entry 79 = .ok (.ifCond .ne 19, 3) := dk_154 0 19 (dk_at dksX6_entry_3 10 rfl rfl)
theorem dX6_entry_82 : decode cX6_entry 82 = .ok (.aload_n 0, 1) := dk_42 (dk_at dksX6_entry_3 13 rfl rfl)
theorem dX6_entry_83 : decode cX6_entry 83 = .ok (.getfield 26, 3) := dk_180 0 26 (dk_at dksX6_entry_3 14 rfl rfl)
theorem dX6_entry_86 : decode cX6_entry 86 = .ok (.bipush 20, 2) := dk_16 20 (dk_at dksX6_entry_3 17 rfl rfl)
theorem dX6_entry_88 : decode cX6_entry 88 = .ok (.iload_n 1, 1) := dk_27 (dk_at dksX6_entry_3 19 rfl rfl)
theorem dX6_entry_89 : decode cX6_entry 89 = .ok (.iconst 1, 1) := dk_4 (dk_at dksX6_entry_3 20 rfl rfl)
theorem dX6_entry_90 : decode cX6_entry 90 = .ok (.isub, 1) := dk_100 (dk_at dksX6_entry_3 21 rfl rfl)
theorem dX6_entry_91 : decode cX6_entry 91 = .ok (.imul, 1) := dk_104 (dk_at dksX6_entry_3 22 rfl rfl)
theorem dX6_entry_92 : decode cX6_entry 92 = .ok (.iload_n 3, 1) := dk_29 (dk_at dksX6_entry_3 23 rfl rfl)
theorem dX6_entry_93 : decode cX6_entry 93 = .ok (.iadd, 1) := dk_96 (dk_at dksX6_entry_4 0 rfl rfl)
theorem dX6_entry_94 : decode cX6_entry 94 = .ok (.caload, 1) := dk_52 (dk_at dksX6_entry_4 1 rfl rfl)
theorem dX6_entry_95 : decode cX6_entry 95 = .ok (.goto 16, 3) := dk_167 0 16 (dk_at dksX6_entry_4 2 rfl rfl)
theorem dX6_entry_98 : decode cX6_entry 98 = .ok (.aload_n 0, 1) := dk_42 (dk_at dksX6_entry_4 5 rfl rfl)
theorem dX6_entry_99 : decode cX6_entry 99 = .ok (.getfield 32, 3) := dk_180 0 32 (dk_at dksX6_entry_4 6 rfl rfl)
theorem dX6_entry_102 : decode cX6_entry 102 = .ok (.bipush 20, 2) := dk_16 20 (dk_at dksX6_entry_4 9 rfl rfl)
theorem dX6_entry_104 : decode cX6_entry 104 = .ok (.iload_n 1, 1) := dk_27 (dk_at dksX6_entry_4 11 rfl rfl)
theorem dX6_entry_105 : decode cX6_entry 105 = .ok (.iconst 1, 1) := dk_4 (dk_at dksX6_entry_4 12 rfl rfl)
theorem dX6_entry_106 : decode cX6_entry 106 = .ok (.isub, 1) := dk_100 (dk_at dksX6_entry_4 13 rfl rfl)
theorem dX6_entry_107 : decode cX6_entry 107 = .ok (.imul, 1) := dk_104 (dk_at dksX6_entry_4 14 rfl rfl)
theorem dX6_entry_108 : decode cX6_entry 108 = .ok (.iload_n 3, 1) := dk_29 (dk_at dksX6_entry_4 15 rfl rfl)
theorem dX6_entry_109 : decode cX6_entry 109 = .ok (.iadd, 1) := dk_96 (dk_at dksX6_entry_4 16 rfl rfl)
theorem dX6_entry_110 : decode cX6_entry 110 = .ok (.caload, 1) := dk_52 (dk_at dksX6_entry_4 17 rfl rfl)
theorem dX6_entry_111 : decode cX6_entry 111 = .ok (.ireturn, 1) := dk_172 (dk_at dksX6_entry_4 18 rfl rfl)
theorem q104 : (Jvm.Cond.initialized "PageServerModel") ∈ lw_all := lw_g (lw_at lw_m1 20 rfl) rfl
theorem q214 : (Jvm.Cond.selects "PageServerModel" ({ cls := "java/lang/Object", name := "getClass", desc := "()Ljava/lang/Class;" } : Jvm.MethodName) ({ cls := "java/lang/Object", name := "getClass", desc := "()Ljava/lang/Class;" } : Jvm.MethodName)) ∈ lw_all := lw_g (lw_at lw_m1 130 rfl) rfl
theorem q1158 : (Jvm.Cond.instantiable "PageServerModel" (55 : Nat)) ∈ lw_all := lw_g (lw_at lw_m5 114 rfl) rfl
theorem q1160 : (Jvm.Cond.instanceMethod ({ cls := "PageServerModel", name := "<init>", desc := "()V" } : Jvm.MethodName)) ∈ lw_all := lw_g (lw_at lw_m5 116 rfl) rfl
theorem q1161 : (Jvm.Cond.code ({ cls := "PageServerModel", name := "<init>", desc := "()V" } : Jvm.MethodName) prog_8_method_1_code (1 : Nat) (Option.none : Option Jvm.ClassFile.FieldType)) ∈ lw_all := lw_g (lw_at lw_m5 117 rfl) rfl
theorem q1162 : (Jvm.Cond.methodLink "PageServerModel" (1 : Nat) ({ cls := "java/lang/Object", name := "<init>", desc := "()V" } : Jvm.MethodName)) ∈ lw_all := lw_g (lw_at lw_m5 118 rfl) rfl
theorem q1163 : (Jvm.Cond.methodLink "PageServerModel" (78 : Nat) ({ cls := "PageServerModel", name := "fixed", desc := "(IIIIIII)V" } : Jvm.MethodName)) ∈ lw_all := lw_g (lw_at lw_m5 119 rfl) rfl
theorem q1164 : (Jvm.Cond.privateMethod ({ cls := "PageServerModel", name := "fixed", desc := "(IIIIIII)V" } : Jvm.MethodName)) ∈ lw_tbl := lw_at lw_m5 120 rfl
theorem q1165 : (Jvm.Cond.instanceMethod ({ cls := "PageServerModel", name := "fixed", desc := "(IIIIIII)V" } : Jvm.MethodName)) ∈ lw_all := lw_g (lw_at lw_m5 121 rfl) rfl
theorem q1166 : (Jvm.Cond.code ({ cls := "PageServerModel", name := "fixed", desc := "(IIIIIII)V" } : Jvm.MethodName) prog_8_method_2_code (10 : Nat) (Option.none : Option Jvm.ClassFile.FieldType)) ∈ lw_all := lw_g (lw_at lw_m5 122 rfl) rfl
theorem q1167 : (Jvm.Cond.methodLink "PageServerModel" (82 : Nat) ({ cls := "PageServerModel", name := "begin", desc := "()V" } : Jvm.MethodName)) ∈ lw_all := lw_g (lw_at lw_m5 123 rfl) rfl
theorem q1168 : (Jvm.Cond.privateMethod ({ cls := "PageServerModel", name := "begin", desc := "()V" } : Jvm.MethodName)) ∈ lw_tbl := lw_at lw_m5 124 rfl
theorem q1169 : (Jvm.Cond.instanceMethod ({ cls := "PageServerModel", name := "begin", desc := "()V" } : Jvm.MethodName)) ∈ lw_all := lw_g (lw_at lw_m5 125 rfl) rfl
theorem q1170 : (Jvm.Cond.code ({ cls := "PageServerModel", name := "begin", desc := "()V" } : Jvm.MethodName) prog_8_method_6_code (2 : Nat) (Option.none : Option Jvm.ClassFile.FieldType)) ∈ lw_all := lw_g (lw_at lw_m5 126 rfl) rfl
theorem q1171 : (Jvm.Cond.methodLink "PageServerModel" (132 : Nat) ({ cls := "PageServerModel", name := "head", desc := "(IIII)V" } : Jvm.MethodName)) ∈ lw_all := lw_g (lw_at lw_m5 127 rfl) rfl
theorem q1172 : (Jvm.Cond.privateMethod ({ cls := "PageServerModel", name := "head", desc := "(IIII)V" } : Jvm.MethodName)) ∈ lw_tbl := lw_at lw_m5 128 rfl
theorem q1173 : (Jvm.Cond.instanceMethod ({ cls := "PageServerModel", name := "head", desc := "(IIII)V" } : Jvm.MethodName)) ∈ lw_all := lw_g (lw_at lw_m5 129 rfl) rfl
theorem q1174 : (Jvm.Cond.code ({ cls := "PageServerModel", name := "head", desc := "(IIII)V" } : Jvm.MethodName) prog_8_method_15_code (5 : Nat) (Option.none : Option Jvm.ClassFile.FieldType)) ∈ lw_all := lw_g (lw_at lw_m5 130 rfl) rfl
theorem q1175 : (Jvm.Cond.methodLink "PageServerModel" (136 : Nat) ({ cls := "PageServerModel", name := "say", desc := "(I)V" } : Jvm.MethodName)) ∈ lw_all := lw_g (lw_at lw_m5 131 rfl) rfl
theorem q1176 : (Jvm.Cond.privateMethod ({ cls := "PageServerModel", name := "say", desc := "(I)V" } : Jvm.MethodName)) ∈ lw_tbl := lw_at lw_m5 132 rfl
theorem q1177 : (Jvm.Cond.instanceMethod ({ cls := "PageServerModel", name := "say", desc := "(I)V" } : Jvm.MethodName)) ∈ lw_all := lw_g (lw_at lw_m5 133 rfl) rfl
theorem q1178 : (Jvm.Cond.code ({ cls := "PageServerModel", name := "say", desc := "(I)V" } : Jvm.MethodName) prog_8_method_14_code (2 : Nat) (Option.none : Option Jvm.ClassFile.FieldType)) ∈ lw_all := lw_g (lw_at lw_m5 134 rfl) rfl
theorem q1179 : (Jvm.Cond.fieldLink "PageServerModel" (85 : Nat) "PageServerModel" "thrown" "I") ∈ lw_all := lw_g (lw_at lw_m5 135 rfl) rfl
theorem q1180 : (Jvm.Cond.fieldLink "PageServerModel" (148 : Nat) "PageServerModel" "pages" "I") ∈ lw_all := lw_g (lw_at lw_m5 136 rfl) rfl
theorem q1181 : (Jvm.Cond.fieldLink "PageServerModel" (7 : Nat) "PageServerModel" "pathSize" "[I") ∈ lw_all := lw_g (lw_at lw_m5 137 rfl) rfl
theorem q1182 : (Jvm.Cond.fieldLink "PageServerModel" (13 : Nat) "PageServerModel" "path" "[C") ∈ lw_all := lw_g (lw_at lw_m5 138 rfl) rfl
theorem q1183 : (Jvm.Cond.fieldLink "PageServerModel" (17 : Nat) "PageServerModel" "bodySize" "[I") ∈ lw_all := lw_g (lw_at lw_m5 139 rfl) rfl
theorem q1184 : (Jvm.Cond.fieldLink "PageServerModel" (20 : Nat) "PageServerModel" "bodyByte" "[I") ∈ lw_all := lw_g (lw_at lw_m5 140 rfl) rfl
theorem q1185 : (Jvm.Cond.fieldLink "PageServerModel" (89 : Nat) "PageServerModel" "came" "I") ∈ lw_all := lw_g (lw_at lw_m5 141 rfl) rfl
theorem q1186 : (Jvm.Cond.fieldLink "PageServerModel" (92 : Nat) "PageServerModel" "size" "I") ∈ lw_all := lw_g (lw_at lw_m5 142 rfl) rfl
theorem q1187 : (Jvm.Cond.fieldLink "PageServerModel" (23 : Nat) "PageServerModel" "nameSize" "[I") ∈ lw_all := lw_g (lw_at lw_m5 143 rfl) rfl
theorem q1188 : (Jvm.Cond.fieldLink "PageServerModel" (26 : Nat) "PageServerModel" "name" "[C") ∈ lw_all := lw_g (lw_at lw_m5 144 rfl) rfl
theorem q1189 : (Jvm.Cond.fieldLink "PageServerModel" (29 : Nat) "PageServerModel" "valueSize" "[I") ∈ lw_all := lw_g (lw_at lw_m5 145 rfl) rfl
theorem q1190 : (Jvm.Cond.fieldLink "PageServerModel" (32 : Nat) "PageServerModel" "value" "[C") ∈ lw_all := lw_g (lw_at lw_m5 146 rfl) rfl
theorem q1191 : (Jvm.Cond.fieldLink "PageServerModel" (35 : Nat) "PageServerModel" "stream" "[I") ∈ lw_all := lw_g (lw_at lw_m5 147 rfl) rfl
theorem q1192 : (Jvm.Cond.fieldLink "PageServerModel" (38 : Nat) "PageServerModel" "streamWindow" "[I") ∈ lw_all := lw_g (lw_at lw_m5 148 rfl) rfl
theorem q1193 : (Jvm.Cond.fieldLink "PageServerModel" (41 : Nat) "PageServerModel" "counted" "[I") ∈ lw_all := lw_g (lw_at lw_m5 149 rfl) rfl
theorem q1194 : (Jvm.Cond.fieldLink "PageServerModel" (44 : Nat) "PageServerModel" "said" "[I") ∈ lw_all := lw_g (lw_at lw_m5 150 rfl) rfl
theorem q1195 : (Jvm.Cond.fieldLink "PageServerModel" (47 : Nat) "PageServerModel" "left" "[I") ∈ lw_all := lw_g (lw_at lw_m5 151 rfl) rfl
theorem q1196 : (Jvm.Cond.fieldLink "PageServerModel" (50 : Nat) "PageServerModel" "sends" "[I") ∈ lw_all := lw_g (lw_at lw_m5 152 rfl) rfl
theorem q1197 : (Jvm.Cond.fieldLink "PageServerModel" (53 : Nat) "PageServerModel" "closed" "[Z") ∈ lw_all := lw_g (lw_at lw_m5 153 rfl) rfl
theorem q1198 : (Jvm.Cond.fieldLink "PageServerModel" (57 : Nat) "PageServerModel" "method" "[I") ∈ lw_all := lw_g (lw_at lw_m5 154 rfl) rfl
theorem q1199 : (Jvm.Cond.fieldLink "PageServerModel" (60 : Nat) "PageServerModel" "wantedSize" "[I") ∈ lw_all := lw_g (lw_at lw_m5 155 rfl) rfl
theorem q1200 : (Jvm.Cond.fieldLink "PageServerModel" (63 : Nat) "PageServerModel" "wanted" "[C") ∈ lw_all := lw_g (lw_at lw_m5 156 rfl) rfl
theorem q1201 : (Jvm.Cond.fieldLink "PageServerModel" (95 : Nat) "PageServerModel" "preface" "I") ∈ lw_all := lw_g (lw_at lw_m5 157 rfl) rfl
theorem q1202 : (Jvm.Cond.fieldLink "PageServerModel" (98 : Nat) "PageServerModel" "bytes" "I") ∈ lw_all := lw_g (lw_at lw_m5 158 rfl) rfl
theorem q1203 : (Jvm.Cond.fieldLink "PageServerModel" (66 : Nat) "PageServerModel" "frame" "[I") ∈ lw_all := lw_g (lw_at lw_m5 159 rfl) rfl
theorem q1204 : (Jvm.Cond.fieldLink "PageServerModel" (304 : Nat) "PageServerModel" "type" "I") ∈ lw_all := lw_g (lw_at lw_m5 160 rfl) rfl
theorem q1205 : (Jvm.Cond.fieldLink "PageServerModel" (176 : Nat) "PageServerModel" "flags" "I") ∈ lw_all := lw_g (lw_at lw_m5 161 rfl) rfl
theorem q1206 : (Jvm.Cond.fieldLink "PageServerModel" (268 : Nat) "PageServerModel" "number" "I") ∈ lw_all := lw_g (lw_at lw_m5 162 rfl) rfl
theorem q1207 : (Jvm.Cond.fieldLink "PageServerModel" (259 : Nat) "PageServerModel" "length" "I") ∈ lw_all := lw_g (lw_at lw_m5 163 rfl) rfl
theorem q1208 : (Jvm.Cond.fieldLink "PageServerModel" (262 : Nat) "PageServerModel" "from" "I") ∈ lw_all := lw_g (lw_at lw_m5 164 rfl) rfl
theorem q1209 : (Jvm.Cond.fieldLink "PageServerModel" (265 : Nat) "PageServerModel" "to" "I") ∈ lw_all := lw_g (lw_at lw_m5 165 rfl) rfl
theorem q1210 : (Jvm.Cond.fieldLink "PageServerModel" (101 : Nat) "PageServerModel" "first" "Z") ∈ lw_all := lw_g (lw_at lw_m5 166 rfl) rfl
theorem q1211 : (Jvm.Cond.fieldLink "PageServerModel" (105 : Nat) "PageServerModel" "blockOf" "I") ∈ lw_all := lw_g (lw_at lw_m5 167 rfl) rfl
theorem q1212 : (Jvm.Cond.fieldLink "PageServerModel" (286 : Nat) "PageServerModel" "blockEnds" "Z") ∈ lw_all := lw_g (lw_at lw_m5 168 rfl) rfl
theorem q1213 : (Jvm.Cond.fieldLink "PageServerModel" (108 : Nat) "PageServerModel" "blockSize" "I") ∈ lw_all := lw_g (lw_at lw_m5 169 rfl) rfl
theorem q1214 : (Jvm.Cond.fieldLink "PageServerModel" (69 : Nat) "PageServerModel" "block" "[I") ∈ lw_all := lw_g (lw_at lw_m5 170 rfl) rfl
theorem q1215 : (Jvm.Cond.fieldLink "PageServerModel" (195 : Nat) "PageServerModel" "at" "I") ∈ lw_all := lw_g (lw_at lw_m5 171 rfl) rfl
theorem q1216 : (Jvm.Cond.fieldLink "PageServerModel" (192 : Nat) "PageServerModel" "good" "Z") ∈ lw_all := lw_g (lw_at lw_m5 172 rfl) rfl
theorem q1217 : (Jvm.Cond.fieldLink "PageServerModel" (211 : Nat) "PageServerModel" "fields" "I") ∈ lw_all := lw_g (lw_at lw_m5 173 rfl) rfl
theorem q1218 : (Jvm.Cond.fieldLink "PageServerModel" (224 : Nat) "PageServerModel" "bad" "Z") ∈ lw_all := lw_g (lw_at lw_m5 174 rfl) rfl
theorem q1219 : (Jvm.Cond.fieldLink "PageServerModel" (217 : Nat) "PageServerModel" "colon" "Z") ∈ lw_all := lw_g (lw_at lw_m5 175 rfl) rfl
theorem q1220 : (Jvm.Cond.fieldLink "PageServerModel" (227 : Nat) "PageServerModel" "others" "Z") ∈ lw_all := lw_g (lw_at lw_m5 176 rfl) rfl
theorem q1221 : (Jvm.Cond.fieldLink "PageServerModel" (230 : Nat) "PageServerModel" "methodFound" "I") ∈ lw_all := lw_g (lw_at lw_m5 177 rfl) rfl
theorem q1222 : (Jvm.Cond.fieldLink "PageServerModel" (236 : Nat) "PageServerModel" "pathFound" "Z") ∈ lw_all := lw_g (lw_at lw_m5 178 rfl) rfl
theorem q1223 : (Jvm.Cond.fieldLink "PageServerModel" (249 : Nat) "PageServerModel" "lengthFound" "I") ∈ lw_all := lw_g (lw_at lw_m5 179 rfl) rfl
theorem q1224 : (Jvm.Cond.fieldLink "PageServerModel" (239 : Nat) "PageServerModel" "pathLength" "I") ∈ lw_all := lw_g (lw_at lw_m5 180 rfl) rfl
theorem q1225 : (Jvm.Cond.fieldLink "PageServerModel" (72 : Nat) "PageServerModel" "pathText" "[C") ∈ lw_all := lw_g (lw_at lw_m5 181 rfl) rfl
theorem q1226 : (Jvm.Cond.fieldLink "PageServerModel" (111 : Nat) "PageServerModel" "highest" "I") ∈ lw_all := lw_g (lw_at lw_m5 182 rfl) rfl
theorem q1227 : (Jvm.Cond.fieldLink "PageServerModel" (114 : Nat) "PageServerModel" "away" "I") ∈ lw_all := lw_g (lw_at lw_m5 183 rfl) rfl
theorem q1228 : (Jvm.Cond.fieldLink "PageServerModel" (117 : Nat) "PageServerModel" "last" "I") ∈ lw_all := lw_g (lw_at lw_m5 184 rfl) rfl
theorem q1229 : (Jvm.Cond.fieldLink "PageServerModel" (120 : Nat) "PageServerModel" "window" "I") ∈ lw_all := lw_g (lw_at lw_m5 185 rfl) rfl
theorem q1230 : (Jvm.Cond.fieldLink "PageServerModel" (123 : Nat) "PageServerModel" "initial" "I") ∈ lw_all := lw_g (lw_at lw_m5 186 rfl) rfl
theorem q1231 : (Jvm.Cond.fieldLink "PageServerModel" (126 : Nat) "PageServerModel" "longest" "I") ∈ lw_all := lw_g (lw_at lw_m5 187 rfl) rfl
theorem q1232 : (Jvm.Cond.fieldLink "PageServerModel" (129 : Nat) "PageServerModel" "waits" "I") ∈ lw_all := lw_g (lw_at lw_m5 188 rfl) rfl
theorem q1233 : (Jvm.Cond.fieldLink "PageServerModel" (75 : Nat) "PageServerModel" "output" "[I") ∈ lw_all := lw_g (lw_at lw_m5 189 rfl) rfl
theorem q1234 : (Jvm.Cond.lays "PageServerModel" "PageServerModel" "thrown" "I") ∈ lw_all := lw_g (lw_at lw_m5 190 rfl) rfl
theorem q1235 : (Jvm.Cond.soleField "PageServerModel" "thrown") ∈ lw_all := lw_g (lw_at lw_m5 191 rfl) rfl
theorem q1236 : (Jvm.Cond.lays "PageServerModel" "PageServerModel" "pages" "I") ∈ lw_all := lw_g (lw_at lw_m5 192 rfl) rfl
theorem q1237 : (Jvm.Cond.soleField "PageServerModel" "pages") ∈ lw_all := lw_g (lw_at lw_m5 193 rfl) rfl
theorem q1238 : (Jvm.Cond.laysFinal "PageServerModel" "PageServerModel" "pathSize" "[I") ∈ lw_all := lw_g (lw_at lw_m5 194 rfl) rfl
theorem q1239 : (Jvm.Cond.soleField "PageServerModel" "pathSize") ∈ lw_all := lw_g (lw_at lw_m5 195 rfl) rfl
theorem q1240 : (Jvm.Cond.laysFinal "PageServerModel" "PageServerModel" "path" "[C") ∈ lw_all := lw_g (lw_at lw_m5 196 rfl) rfl
theorem q1241 : (Jvm.Cond.soleField "PageServerModel" "path") ∈ lw_all := lw_g (lw_at lw_m5 197 rfl) rfl
theorem q1242 : (Jvm.Cond.laysFinal "PageServerModel" "PageServerModel" "bodySize" "[I") ∈ lw_all := lw_g (lw_at lw_m5 198 rfl) rfl
theorem q1243 : (Jvm.Cond.soleField "PageServerModel" "bodySize") ∈ lw_all := lw_g (lw_at lw_m5 199 rfl) rfl
theorem q1244 : (Jvm.Cond.laysFinal "PageServerModel" "PageServerModel" "bodyByte" "[I") ∈ lw_all := lw_g (lw_at lw_m5 200 rfl) rfl
theorem q1245 : (Jvm.Cond.soleField "PageServerModel" "bodyByte") ∈ lw_all := lw_g (lw_at lw_m5 201 rfl) rfl
theorem q1246 : (Jvm.Cond.lays "PageServerModel" "PageServerModel" "came" "I") ∈ lw_all := lw_g (lw_at lw_m5 202 rfl) rfl
theorem q1247 : (Jvm.Cond.soleField "PageServerModel" "came") ∈ lw_all := lw_g (lw_at lw_m5 203 rfl) rfl
theorem q1248 : (Jvm.Cond.lays "PageServerModel" "PageServerModel" "size" "I") ∈ lw_all := lw_g (lw_at lw_m5 204 rfl) rfl
theorem q1249 : (Jvm.Cond.soleField "PageServerModel" "size") ∈ lw_all := lw_g (lw_at lw_m5 205 rfl) rfl
theorem q1250 : (Jvm.Cond.laysFinal "PageServerModel" "PageServerModel" "nameSize" "[I") ∈ lw_all := lw_g (lw_at lw_m5 206 rfl) rfl
theorem q1251 : (Jvm.Cond.soleField "PageServerModel" "nameSize") ∈ lw_all := lw_g (lw_at lw_m5 207 rfl) rfl
theorem q1252 : (Jvm.Cond.laysFinal "PageServerModel" "PageServerModel" "name" "[C") ∈ lw_all := lw_g (lw_at lw_m5 208 rfl) rfl
theorem q1253 : (Jvm.Cond.soleField "PageServerModel" "name") ∈ lw_all := lw_g (lw_at lw_m5 209 rfl) rfl
theorem q1254 : (Jvm.Cond.laysFinal "PageServerModel" "PageServerModel" "valueSize" "[I") ∈ lw_all := lw_g (lw_at lw_m5 210 rfl) rfl
theorem q1255 : (Jvm.Cond.soleField "PageServerModel" "valueSize") ∈ lw_all := lw_g (lw_at lw_m5 211 rfl) rfl
theorem q1256 : (Jvm.Cond.laysFinal "PageServerModel" "PageServerModel" "value" "[C") ∈ lw_all := lw_g (lw_at lw_m5 212 rfl) rfl
theorem q1257 : (Jvm.Cond.soleField "PageServerModel" "value") ∈ lw_all := lw_g (lw_at lw_m5 213 rfl) rfl
theorem q1258 : (Jvm.Cond.laysFinal "PageServerModel" "PageServerModel" "stream" "[I") ∈ lw_all := lw_g (lw_at lw_m5 214 rfl) rfl
theorem q1259 : (Jvm.Cond.soleField "PageServerModel" "stream") ∈ lw_all := lw_g (lw_at lw_m5 215 rfl) rfl
theorem q1260 : (Jvm.Cond.laysFinal "PageServerModel" "PageServerModel" "streamWindow" "[I") ∈ lw_all := lw_g (lw_at lw_m5 216 rfl) rfl
theorem q1261 : (Jvm.Cond.soleField "PageServerModel" "streamWindow") ∈ lw_all := lw_g (lw_at lw_m5 217 rfl) rfl
theorem q1262 : (Jvm.Cond.laysFinal "PageServerModel" "PageServerModel" "counted" "[I") ∈ lw_all := lw_g (lw_at lw_m5 218 rfl) rfl
theorem q1263 : (Jvm.Cond.soleField "PageServerModel" "counted") ∈ lw_all := lw_g (lw_at lw_m5 219 rfl) rfl
theorem q1264 : (Jvm.Cond.laysFinal "PageServerModel" "PageServerModel" "said" "[I") ∈ lw_all := lw_g (lw_at lw_m5 220 rfl) rfl
theorem q1265 : (Jvm.Cond.soleField "PageServerModel" "said") ∈ lw_all := lw_g (lw_at lw_m5 221 rfl) rfl
theorem q1266 : (Jvm.Cond.laysFinal "PageServerModel" "PageServerModel" "left" "[I") ∈ lw_all := lw_g (lw_at lw_m5 222 rfl) rfl
theorem q1267 : (Jvm.Cond.soleField "PageServerModel" "left") ∈ lw_all := lw_g (lw_at lw_m5 223 rfl) rfl
theorem q1268 : (Jvm.Cond.laysFinal "PageServerModel" "PageServerModel" "sends" "[I") ∈ lw_all := lw_g (lw_at lw_m5 224 rfl) rfl
theorem q1269 : (Jvm.Cond.soleField "PageServerModel" "sends") ∈ lw_all := lw_g (lw_at lw_m5 225 rfl) rfl
theorem q1270 : (Jvm.Cond.laysFinal "PageServerModel" "PageServerModel" "closed" "[Z") ∈ lw_all := lw_g (lw_at lw_m5 226 rfl) rfl
theorem q1271 : (Jvm.Cond.soleField "PageServerModel" "closed") ∈ lw_all := lw_g (lw_at lw_m5 227 rfl) rfl
theorem q1272 : (Jvm.Cond.laysFinal "PageServerModel" "PageServerModel" "method" "[I") ∈ lw_all := lw_g (lw_at lw_m5 228 rfl) rfl
theorem q1273 : (Jvm.Cond.soleField "PageServerModel" "method") ∈ lw_all := lw_g (lw_at lw_m5 229 rfl) rfl
theorem q1274 : (Jvm.Cond.laysFinal "PageServerModel" "PageServerModel" "wantedSize" "[I") ∈ lw_all := lw_g (lw_at lw_m5 230 rfl) rfl
theorem q1275 : (Jvm.Cond.soleField "PageServerModel" "wantedSize") ∈ lw_all := lw_g (lw_at lw_m5 231 rfl) rfl
theorem q1276 : (Jvm.Cond.laysFinal "PageServerModel" "PageServerModel" "wanted" "[C") ∈ lw_all := lw_g (lw_at lw_m5 232 rfl) rfl
theorem q1277 : (Jvm.Cond.soleField "PageServerModel" "wanted") ∈ lw_all := lw_g (lw_at lw_m5 233 rfl) rfl
theorem q1278 : (Jvm.Cond.lays "PageServerModel" "PageServerModel" "preface" "I") ∈ lw_all := lw_g (lw_at lw_m5 234 rfl) rfl
theorem q1279 : (Jvm.Cond.soleField "PageServerModel" "preface") ∈ lw_all := lw_g (lw_at lw_m5 235 rfl) rfl
theorem q1280 : (Jvm.Cond.lays "PageServerModel" "PageServerModel" "bytes" "I") ∈ lw_all := lw_g (lw_at lw_m5 236 rfl) rfl
theorem q1281 : (Jvm.Cond.soleField "PageServerModel" "bytes") ∈ lw_all := lw_g (lw_at lw_m5 237 rfl) rfl
theorem q1282 : (Jvm.Cond.laysFinal "PageServerModel" "PageServerModel" "frame" "[I") ∈ lw_all := lw_g (lw_at lw_m5 238 rfl) rfl
theorem q1283 : (Jvm.Cond.soleField "PageServerModel" "frame") ∈ lw_all := lw_g (lw_at lw_m5 239 rfl) rfl
theorem q1284 : (Jvm.Cond.lays "PageServerModel" "PageServerModel" "type" "I") ∈ lw_all := lw_g (lw_at lw_m6 0 rfl) rfl
theorem q1285 : (Jvm.Cond.soleField "PageServerModel" "type") ∈ lw_all := lw_g (lw_at lw_m6 1 rfl) rfl
theorem q1286 : (Jvm.Cond.lays "PageServerModel" "PageServerModel" "flags" "I") ∈ lw_all := lw_g (lw_at lw_m6 2 rfl) rfl
theorem q1287 : (Jvm.Cond.soleField "PageServerModel" "flags") ∈ lw_all := lw_g (lw_at lw_m6 3 rfl) rfl
theorem q1288 : (Jvm.Cond.lays "PageServerModel" "PageServerModel" "number" "I") ∈ lw_all := lw_g (lw_at lw_m6 4 rfl) rfl
theorem q1289 : (Jvm.Cond.soleField "PageServerModel" "number") ∈ lw_all := lw_g (lw_at lw_m6 5 rfl) rfl
theorem q1290 : (Jvm.Cond.lays "PageServerModel" "PageServerModel" "length" "I") ∈ lw_all := lw_g (lw_at lw_m6 6 rfl) rfl
theorem q1291 : (Jvm.Cond.soleField "PageServerModel" "length") ∈ lw_all := lw_g (lw_at lw_m6 7 rfl) rfl
theorem q1292 : (Jvm.Cond.lays "PageServerModel" "PageServerModel" "from" "I") ∈ lw_all := lw_g (lw_at lw_m6 8 rfl) rfl
theorem q1293 : (Jvm.Cond.soleField "PageServerModel" "from") ∈ lw_all := lw_g (lw_at lw_m6 9 rfl) rfl
theorem q1294 : (Jvm.Cond.lays "PageServerModel" "PageServerModel" "to" "I") ∈ lw_all := lw_g (lw_at lw_m6 10 rfl) rfl
theorem q1295 : (Jvm.Cond.soleField "PageServerModel" "to") ∈ lw_all := lw_g (lw_at lw_m6 11 rfl) rfl
theorem q1296 : (Jvm.Cond.lays "PageServerModel" "PageServerModel" "first" "Z") ∈ lw_all := lw_g (lw_at lw_m6 12 rfl) rfl
theorem q1297 : (Jvm.Cond.soleField "PageServerModel" "first") ∈ lw_all := lw_g (lw_at lw_m6 13 rfl) rfl
theorem q1298 : (Jvm.Cond.lays "PageServerModel" "PageServerModel" "blockOf" "I") ∈ lw_all := lw_g (lw_at lw_m6 14 rfl) rfl
theorem q1299 : (Jvm.Cond.soleField "PageServerModel" "blockOf") ∈ lw_all := lw_g (lw_at lw_m6 15 rfl) rfl
theorem q1300 : (Jvm.Cond.lays "PageServerModel" "PageServerModel" "blockEnds" "Z") ∈ lw_all := lw_g (lw_at lw_m6 16 rfl) rfl
theorem q1301 : (Jvm.Cond.soleField "PageServerModel" "blockEnds") ∈ lw_all := lw_g (lw_at lw_m6 17 rfl) rfl
theorem q1302 : (Jvm.Cond.lays "PageServerModel" "PageServerModel" "blockSize" "I") ∈ lw_all := lw_g (lw_at lw_m6 18 rfl) rfl
theorem q1303 : (Jvm.Cond.soleField "PageServerModel" "blockSize") ∈ lw_all := lw_g (lw_at lw_m6 19 rfl) rfl
theorem q1304 : (Jvm.Cond.laysFinal "PageServerModel" "PageServerModel" "block" "[I") ∈ lw_all := lw_g (lw_at lw_m6 20 rfl) rfl
theorem q1305 : (Jvm.Cond.soleField "PageServerModel" "block") ∈ lw_all := lw_g (lw_at lw_m6 21 rfl) rfl
theorem q1306 : (Jvm.Cond.lays "PageServerModel" "PageServerModel" "at" "I") ∈ lw_all := lw_g (lw_at lw_m6 22 rfl) rfl
theorem q1307 : (Jvm.Cond.soleField "PageServerModel" "at") ∈ lw_all := lw_g (lw_at lw_m6 23 rfl) rfl
theorem q1308 : (Jvm.Cond.lays "PageServerModel" "PageServerModel" "good" "Z") ∈ lw_all := lw_g (lw_at lw_m6 24 rfl) rfl
theorem q1309 : (Jvm.Cond.soleField "PageServerModel" "good") ∈ lw_all := lw_g (lw_at lw_m6 25 rfl) rfl
theorem q1310 : (Jvm.Cond.lays "PageServerModel" "PageServerModel" "fields" "I") ∈ lw_all := lw_g (lw_at lw_m6 26 rfl) rfl
theorem q1311 : (Jvm.Cond.soleField "PageServerModel" "fields") ∈ lw_all := lw_g (lw_at lw_m6 27 rfl) rfl
theorem q1312 : (Jvm.Cond.lays "PageServerModel" "PageServerModel" "bad" "Z") ∈ lw_all := lw_g (lw_at lw_m6 28 rfl) rfl
theorem q1313 : (Jvm.Cond.soleField "PageServerModel" "bad") ∈ lw_all := lw_g (lw_at lw_m6 29 rfl) rfl
theorem q1314 : (Jvm.Cond.lays "PageServerModel" "PageServerModel" "colon" "Z") ∈ lw_all := lw_g (lw_at lw_m6 30 rfl) rfl
theorem q1315 : (Jvm.Cond.soleField "PageServerModel" "colon") ∈ lw_all := lw_g (lw_at lw_m6 31 rfl) rfl
theorem q1316 : (Jvm.Cond.lays "PageServerModel" "PageServerModel" "others" "Z") ∈ lw_all := lw_g (lw_at lw_m6 32 rfl) rfl
theorem q1317 : (Jvm.Cond.soleField "PageServerModel" "others") ∈ lw_all := lw_g (lw_at lw_m6 33 rfl) rfl
theorem q1318 : (Jvm.Cond.lays "PageServerModel" "PageServerModel" "methodFound" "I") ∈ lw_all := lw_g (lw_at lw_m6 34 rfl) rfl
theorem q1319 : (Jvm.Cond.soleField "PageServerModel" "methodFound") ∈ lw_all := lw_g (lw_at lw_m6 35 rfl) rfl
theorem q1320 : (Jvm.Cond.lays "PageServerModel" "PageServerModel" "pathFound" "Z") ∈ lw_all := lw_g (lw_at lw_m6 36 rfl) rfl
theorem q1321 : (Jvm.Cond.soleField "PageServerModel" "pathFound") ∈ lw_all := lw_g (lw_at lw_m6 37 rfl) rfl
theorem q1322 : (Jvm.Cond.lays "PageServerModel" "PageServerModel" "lengthFound" "I") ∈ lw_all := lw_g (lw_at lw_m6 38 rfl) rfl
theorem q1323 : (Jvm.Cond.soleField "PageServerModel" "lengthFound") ∈ lw_all := lw_g (lw_at lw_m6 39 rfl) rfl
theorem q1324 : (Jvm.Cond.lays "PageServerModel" "PageServerModel" "pathLength" "I") ∈ lw_all := lw_g (lw_at lw_m6 40 rfl) rfl
theorem q1325 : (Jvm.Cond.soleField "PageServerModel" "pathLength") ∈ lw_all := lw_g (lw_at lw_m6 41 rfl) rfl
theorem q1326 : (Jvm.Cond.laysFinal "PageServerModel" "PageServerModel" "pathText" "[C") ∈ lw_all := lw_g (lw_at lw_m6 42 rfl) rfl
theorem q1327 : (Jvm.Cond.soleField "PageServerModel" "pathText") ∈ lw_all := lw_g (lw_at lw_m6 43 rfl) rfl
theorem q1328 : (Jvm.Cond.lays "PageServerModel" "PageServerModel" "highest" "I") ∈ lw_all := lw_g (lw_at lw_m6 44 rfl) rfl
theorem q1329 : (Jvm.Cond.soleField "PageServerModel" "highest") ∈ lw_all := lw_g (lw_at lw_m6 45 rfl) rfl
theorem q1330 : (Jvm.Cond.lays "PageServerModel" "PageServerModel" "away" "I") ∈ lw_all := lw_g (lw_at lw_m6 46 rfl) rfl
theorem q1331 : (Jvm.Cond.soleField "PageServerModel" "away") ∈ lw_all := lw_g (lw_at lw_m6 47 rfl) rfl
theorem q1332 : (Jvm.Cond.lays "PageServerModel" "PageServerModel" "last" "I") ∈ lw_all := lw_g (lw_at lw_m6 48 rfl) rfl
theorem q1333 : (Jvm.Cond.soleField "PageServerModel" "last") ∈ lw_all := lw_g (lw_at lw_m6 49 rfl) rfl
theorem q1334 : (Jvm.Cond.lays "PageServerModel" "PageServerModel" "window" "I") ∈ lw_all := lw_g (lw_at lw_m6 50 rfl) rfl
theorem q1335 : (Jvm.Cond.soleField "PageServerModel" "window") ∈ lw_all := lw_g (lw_at lw_m6 51 rfl) rfl
theorem q1336 : (Jvm.Cond.lays "PageServerModel" "PageServerModel" "initial" "I") ∈ lw_all := lw_g (lw_at lw_m6 52 rfl) rfl
theorem q1337 : (Jvm.Cond.soleField "PageServerModel" "initial") ∈ lw_all := lw_g (lw_at lw_m6 53 rfl) rfl
theorem q1338 : (Jvm.Cond.lays "PageServerModel" "PageServerModel" "longest" "I") ∈ lw_all := lw_g (lw_at lw_m6 54 rfl) rfl
theorem q1339 : (Jvm.Cond.soleField "PageServerModel" "longest") ∈ lw_all := lw_g (lw_at lw_m6 55 rfl) rfl
theorem q1340 : (Jvm.Cond.lays "PageServerModel" "PageServerModel" "waits" "I") ∈ lw_all := lw_g (lw_at lw_m6 56 rfl) rfl
theorem q1341 : (Jvm.Cond.soleField "PageServerModel" "waits") ∈ lw_all := lw_g (lw_at lw_m6 57 rfl) rfl
theorem q1342 : (Jvm.Cond.laysFinal "PageServerModel" "PageServerModel" "output" "[I") ∈ lw_all := lw_g (lw_at lw_m6 58 rfl) rfl
theorem q1343 : (Jvm.Cond.soleField "PageServerModel" "output") ∈ lw_all := lw_g (lw_at lw_m6 59 rfl) rfl
theorem q1344 : (Jvm.Cond.superclass "PageServerModel" "java/lang/Object") ∈ lw_all := lw_g (lw_at lw_m6 60 rfl) rfl
theorem q1349 : (Jvm.Cond.instanceMethod ({ cls := "PageServerModel", name := "thrown", desc := "()I" } : Jvm.MethodName)) ∈ lw_all := lw_g (lw_at lw_m6 65 rfl) rfl
theorem q1350 : (Jvm.Cond.selects "PageServerModel" ({ cls := "PageServerModel", name := "thrown", desc := "()I" } : Jvm.MethodName) ({ cls := "PageServerModel", name := "thrown", desc := "()I" } : Jvm.MethodName)) ∈ lw_all := lw_g (lw_at lw_m6 66 rfl) rfl
theorem q1351 : (Jvm.Cond.code ({ cls := "PageServerModel", name := "thrown", desc := "()I" } : Jvm.MethodName) prog_8_method_3_code (1 : Nat) (Option.some Jvm.ClassFile.FieldType.int)) ∈ lw_all := lw_g (lw_at lw_m6 67 rfl) rfl
theorem q1353 : (Jvm.Cond.instanceMethod ({ cls := "PageServerModel", name := "page", desc := "(IIII)I" } : Jvm.MethodName)) ∈ lw_all := lw_g (lw_at lw_m6 69 rfl) rfl
theorem q1354 : (Jvm.Cond.selects "PageServerModel" ({ cls := "PageServerModel", name := "page", desc := "(IIII)I" } : Jvm.MethodName) ({ cls := "PageServerModel", name := "page", desc := "(IIII)I" } : Jvm.MethodName)) ∈ lw_all := lw_g (lw_at lw_m6 70 rfl) rfl
theorem q1355 : (Jvm.Cond.code ({ cls := "PageServerModel", name := "page", desc := "(IIII)I" } : Jvm.MethodName) prog_8_method_13_code (8 : Nat) (Option.some Jvm.ClassFile.FieldType.int)) ∈ lw_all := lw_g (lw_at lw_m6 71 rfl) rfl
theorem q1356 : (Jvm.Cond.methodLink "PageServerModel" (155 : Nat) ({ cls := "PageServerModel", name := "isText", desc := "(I)Z" } : Jvm.MethodName)) ∈ lw_all := lw_g (lw_at lw_m6 72 rfl) rfl
theorem q1357 : (Jvm.Cond.static ({ cls := "PageServerModel", name := "isText", desc := "(I)Z" } : Jvm.MethodName)) ∈ lw_all := lw_g (lw_at lw_m6 73 rfl) rfl
theorem q1358 : (Jvm.Cond.code ({ cls := "PageServerModel", name := "isText", desc := "(I)Z" } : Jvm.MethodName) prog_8_method_9_code (4 : Nat) (Option.some Jvm.ClassFile.FieldType.boolean)) ∈ lw_all := lw_g (lw_at lw_m6 74 rfl) rfl
theorem q1359 : (Jvm.Cond.methodLink "PageServerModel" (140 : Nat) ({ cls := "PageServerModel", name := "byteOf", desc := "(II)I" } : Jvm.MethodName)) ∈ lw_all := lw_g (lw_at lw_m6 75 rfl) rfl
theorem q1360 : (Jvm.Cond.static ({ cls := "PageServerModel", name := "byteOf", desc := "(II)I" } : Jvm.MethodName)) ∈ lw_all := lw_g (lw_at lw_m6 76 rfl) rfl
theorem q1361 : (Jvm.Cond.code ({ cls := "PageServerModel", name := "byteOf", desc := "(II)I" } : Jvm.MethodName) prog_8_method_7_code (2 : Nat) (Option.some Jvm.ClassFile.FieldType.int)) ∈ lw_all := lw_g (lw_at lw_m6 77 rfl) rfl
theorem q1362 : (Jvm.Cond.methodLink "PageServerModel" (144 : Nat) ({ cls := "PageServerModel", name := "isLetter", desc := "(I)Z" } : Jvm.MethodName)) ∈ lw_all := lw_g (lw_at lw_m6 78 rfl) rfl
theorem q1363 : (Jvm.Cond.static ({ cls := "PageServerModel", name := "isLetter", desc := "(I)Z" } : Jvm.MethodName)) ∈ lw_all := lw_g (lw_at lw_m6 79 rfl) rfl
theorem q1364 : (Jvm.Cond.code ({ cls := "PageServerModel", name := "isLetter", desc := "(I)Z" } : Jvm.MethodName) prog_8_method_8_code (1 : Nat) (Option.some Jvm.ClassFile.FieldType.boolean)) ∈ lw_all := lw_g (lw_at lw_m6 80 rfl) rfl
theorem q1365 : (Jvm.Cond.methodLink "PageServerModel" (151 : Nat) ({ cls := "PageServerModel", name := "letters", desc := "(I)I" } : Jvm.MethodName)) ∈ lw_all := lw_g (lw_at lw_m6 81 rfl) rfl
theorem q1366 : (Jvm.Cond.static ({ cls := "PageServerModel", name := "letters", desc := "(I)I" } : Jvm.MethodName)) ∈ lw_all := lw_g (lw_at lw_m6 82 rfl) rfl
theorem q1367 : (Jvm.Cond.code ({ cls := "PageServerModel", name := "letters", desc := "(I)I" } : Jvm.MethodName) prog_8_method_10_code (2 : Nat) (Option.some Jvm.ClassFile.FieldType.int)) ∈ lw_all := lw_g (lw_at lw_m6 83 rfl) rfl
theorem q1368 : (Jvm.Cond.methodLink "PageServerModel" (158 : Nat) ({ cls := "PageServerModel", name := "outside", desc := "(III)Z" } : Jvm.MethodName)) ∈ lw_all := lw_g (lw_at lw_m6 84 rfl) rfl
theorem q1369 : (Jvm.Cond.static ({ cls := "PageServerModel", name := "outside", desc := "(III)Z" } : Jvm.MethodName)) ∈ lw_all := lw_g (lw_at lw_m6 85 rfl) rfl
theorem q1370 : (Jvm.Cond.code ({ cls := "PageServerModel", name := "outside", desc := "(III)Z" } : Jvm.MethodName) prog_8_method_5_code (3 : Nat) (Option.some Jvm.ClassFile.FieldType.boolean)) ∈ lw_all := lw_g (lw_at lw_m6 86 rfl) rfl
theorem q1371 : (Jvm.Cond.methodLink "PageServerModel" (162 : Nat) ({ cls := "PageServerModel", name := "refuse", desc := "(I)I" } : Jvm.MethodName)) ∈ lw_all := lw_g (lw_at lw_m6 87 rfl) rfl
theorem q1372 : (Jvm.Cond.privateMethod ({ cls := "PageServerModel", name := "refuse", desc := "(I)I" } : Jvm.MethodName)) ∈ lw_tbl := lw_at lw_m6 88 rfl
theorem q1373 : (Jvm.Cond.instanceMethod ({ cls := "PageServerModel", name := "refuse", desc := "(I)I" } : Jvm.MethodName)) ∈ lw_all := lw_g (lw_at lw_m6 89 rfl) rfl
theorem q1374 : (Jvm.Cond.code ({ cls := "PageServerModel", name := "refuse", desc := "(I)I" } : Jvm.MethodName) prog_8_method_4_code (2 : Nat) (Option.some Jvm.ClassFile.FieldType.int)) ∈ lw_all := lw_g (lw_at lw_m6 90 rfl) rfl
theorem q1375 : (Jvm.Cond.methodLink "PageServerModel" (165 : Nat) ({ cls := "PageServerModel", name := "lay", desc := "(II)V" } : Jvm.MethodName)) ∈ lw_all := lw_g (lw_at lw_m6 91 rfl) rfl
theorem q1376 : (Jvm.Cond.privateMethod ({ cls := "PageServerModel", name := "lay", desc := "(II)V" } : Jvm.MethodName)) ∈ lw_tbl := lw_at lw_m6 92 rfl
theorem q1377 : (Jvm.Cond.instanceMethod ({ cls := "PageServerModel", name := "lay", desc := "(II)V" } : Jvm.MethodName)) ∈ lw_all := lw_g (lw_at lw_m6 93 rfl) rfl
theorem q1378 : (Jvm.Cond.code ({ cls := "PageServerModel", name := "lay", desc := "(II)V" } : Jvm.MethodName) prog_8_method_12_code (5 : Nat) (Option.none : Option Jvm.ClassFile.FieldType)) ∈ lw_all := lw_g (lw_at lw_m6 94 rfl) rfl
theorem q1379 : (Jvm.Cond.methodLink "PageServerModel" (169 : Nat) ({ cls := "PageServerModel", name := "pageOf", desc := "([CII)I" } : Jvm.MethodName)) ∈ lw_all := lw_g (lw_at lw_m6 95 rfl) rfl
theorem q1380 : (Jvm.Cond.privateMethod ({ cls := "PageServerModel", name := "pageOf", desc := "([CII)I" } : Jvm.MethodName)) ∈ lw_tbl := lw_at lw_m6 96 rfl
theorem q1381 : (Jvm.Cond.instanceMethod ({ cls := "PageServerModel", name := "pageOf", desc := "([CII)I" } : Jvm.MethodName)) ∈ lw_all := lw_g (lw_at lw_m6 97 rfl) rfl
theorem q1382 : (Jvm.Cond.code ({ cls := "PageServerModel", name := "pageOf", desc := "([CII)I" } : Jvm.MethodName) prog_8_method_11_code (8 : Nat) (Option.some Jvm.ClassFile.FieldType.int)) ∈ lw_all := lw_g (lw_at lw_m6 98 rfl) rfl
theorem q1384 : (Jvm.Cond.instanceMethod ({ cls := "PageServerModel", name := "feed", desc := "(II)Z" } : Jvm.MethodName)) ∈ lw_all := lw_g (lw_at lw_m6 100 rfl) rfl
theorem q1385 : (Jvm.Cond.selects "PageServerModel" ({ cls := "PageServerModel", name := "feed", desc := "(II)Z" } : Jvm.MethodName) ({ cls := "PageServerModel", name := "feed", desc := "(II)Z" } : Jvm.MethodName)) ∈ lw_all := lw_g (lw_at lw_m6 101 rfl) rfl
theorem q1386 : (Jvm.Cond.code ({ cls := "PageServerModel", name := "feed", desc := "(II)Z" } : Jvm.MethodName) prog_8_method_56_code (4 : Nat) (Option.some Jvm.ClassFile.FieldType.boolean)) ∈ lw_all := lw_g (lw_at lw_m6 102 rfl) rfl
theorem q1387 : (Jvm.Cond.methodLink "PageServerModel" (346 : Nat) ({ cls := "PageServerModel", name := "take1", desc := "(I)V" } : Jvm.MethodName)) ∈ lw_all := lw_g (lw_at lw_m6 103 rfl) rfl
theorem q1388 : (Jvm.Cond.privateMethod ({ cls := "PageServerModel", name := "take1", desc := "(I)V" } : Jvm.MethodName)) ∈ lw_tbl := lw_at lw_m6 104 rfl
theorem q1389 : (Jvm.Cond.instanceMethod ({ cls := "PageServerModel", name := "take1", desc := "(I)V" } : Jvm.MethodName)) ∈ lw_all := lw_g (lw_at lw_m6 105 rfl) rfl
theorem q1390 : (Jvm.Cond.code ({ cls := "PageServerModel", name := "take1", desc := "(I)V" } : Jvm.MethodName) prog_8_method_55_code (3 : Nat) (Option.none : Option Jvm.ClassFile.FieldType)) ∈ lw_all := lw_g (lw_at lw_m6 106 rfl) rfl
theorem q1391 : (Jvm.Cond.methodLink "PageServerModel" (340 : Nat) ({ cls := "PageServerModel", name := "prefaceByte", desc := "()I" } : Jvm.MethodName)) ∈ lw_all := lw_g (lw_at lw_m6 107 rfl) rfl
theorem q1392 : (Jvm.Cond.privateMethod ({ cls := "PageServerModel", name := "prefaceByte", desc := "()I" } : Jvm.MethodName)) ∈ lw_tbl := lw_at lw_m6 108 rfl
theorem q1393 : (Jvm.Cond.instanceMethod ({ cls := "PageServerModel", name := "prefaceByte", desc := "()I" } : Jvm.MethodName)) ∈ lw_all := lw_g (lw_at lw_m6 109 rfl) rfl
theorem q1394 : (Jvm.Cond.code ({ cls := "PageServerModel", name := "prefaceByte", desc := "()I" } : Jvm.MethodName) prog_8_method_54_code (1 : Nat) (Option.some Jvm.ClassFile.FieldType.int)) ∈ lw_all := lw_g (lw_at lw_m6 110 rfl) rfl
theorem q1395 : (Jvm.Cond.methodLink "PageServerModel" (328 : Nat) ({ cls := "PageServerModel", name := "goAway", desc := "(I)V" } : Jvm.MethodName)) ∈ lw_all := lw_g (lw_at lw_m6 111 rfl) rfl
theorem q1396 : (Jvm.Cond.privateMethod ({ cls := "PageServerModel", name := "goAway", desc := "(I)V" } : Jvm.MethodName)) ∈ lw_tbl := lw_at lw_m6 112 rfl
theorem q1397 : (Jvm.Cond.instanceMethod ({ cls := "PageServerModel", name := "goAway", desc := "(I)V" } : Jvm.MethodName)) ∈ lw_all := lw_g (lw_at lw_m6 113 rfl) rfl
theorem q1398 : (Jvm.Cond.code ({ cls := "PageServerModel", name := "goAway", desc := "(I)V" } : Jvm.MethodName) prog_8_method_49_code (2 : Nat) (Option.none : Option Jvm.ClassFile.FieldType)) ∈ lw_all := lw_g (lw_at lw_m6 114 rfl) rfl
theorem q1399 : (Jvm.Cond.methodLink "PageServerModel" (343 : Nat) ({ cls := "PageServerModel", name := "whole", desc := "()V" } : Jvm.MethodName)) ∈ lw_all := lw_g (lw_at lw_m6 115 rfl) rfl
theorem q1400 : (Jvm.Cond.privateMethod ({ cls := "PageServerModel", name := "whole", desc := "()V" } : Jvm.MethodName)) ∈ lw_tbl := lw_at lw_m6 116 rfl
theorem q1401 : (Jvm.Cond.instanceMethod ({ cls := "PageServerModel", name := "whole", desc := "()V" } : Jvm.MethodName)) ∈ lw_all := lw_g (lw_at lw_m6 117 rfl) rfl
theorem q1402 : (Jvm.Cond.code ({ cls := "PageServerModel", name := "whole", desc := "()V" } : Jvm.MethodName) prog_8_method_50_code (2 : Nat) (Option.none : Option Jvm.ClassFile.FieldType)) ∈ lw_all := lw_g (lw_at lw_m6 118 rfl) rfl
theorem q1403 : (Jvm.Cond.methodLink "PageServerModel" (325 : Nat) ({ cls := "PageServerModel", name := "look", desc := "()I" } : Jvm.MethodName)) ∈ lw_all := lw_g (lw_at lw_m6 119 rfl) rfl
theorem q1404 : (Jvm.Cond.privateMethod ({ cls := "PageServerModel", name := "look", desc := "()I" } : Jvm.MethodName)) ∈ lw_tbl := lw_at lw_m6 120 rfl
theorem q1405 : (Jvm.Cond.instanceMethod ({ cls := "PageServerModel", name := "look", desc := "()I" } : Jvm.MethodName)) ∈ lw_all := lw_g (lw_at lw_m6 121 rfl) rfl
theorem q1406 : (Jvm.Cond.code ({ cls := "PageServerModel", name := "look", desc := "()I" } : Jvm.MethodName) prog_8_method_48_code (2 : Nat) (Option.some Jvm.ClassFile.FieldType.int)) ∈ lw_all := lw_g (lw_at lw_m6 122 rfl) rfl
theorem q1407 : (Jvm.Cond.methodLink "PageServerModel" (256 : Nat) ({ cls := "PageServerModel", name := "has", desc := "(I)Z" } : Jvm.MethodName)) ∈ lw_all := lw_g (lw_at lw_m6 123 rfl) rfl
theorem q1408 : (Jvm.Cond.privateMethod ({ cls := "PageServerModel", name := "has", desc := "(I)Z" } : Jvm.MethodName)) ∈ lw_tbl := lw_at lw_m6 124 rfl
theorem q1409 : (Jvm.Cond.instanceMethod ({ cls := "PageServerModel", name := "has", desc := "(I)Z" } : Jvm.MethodName)) ∈ lw_all := lw_g (lw_at lw_m6 125 rfl) rfl
theorem q1410 : (Jvm.Cond.code ({ cls := "PageServerModel", name := "has", desc := "(I)Z" } : Jvm.MethodName) prog_8_method_21_code (2 : Nat) (Option.some Jvm.ClassFile.FieldType.boolean)) ∈ lw_all := lw_g (lw_at lw_m6 126 rfl) rfl
theorem q1411 : (Jvm.Cond.methodLink "PageServerModel" (307 : Nat) ({ cls := "PageServerModel", name := "data", desc := "()I" } : Jvm.MethodName)) ∈ lw_all := lw_g (lw_at lw_m6 127 rfl) rfl
theorem q1412 : (Jvm.Cond.privateMethod ({ cls := "PageServerModel", name := "data", desc := "()I" } : Jvm.MethodName)) ∈ lw_tbl := lw_at lw_m6 128 rfl
theorem q1413 : (Jvm.Cond.instanceMethod ({ cls := "PageServerModel", name := "data", desc := "()I" } : Jvm.MethodName)) ∈ lw_all := lw_g (lw_at lw_m6 129 rfl) rfl
theorem q1414 : (Jvm.Cond.code ({ cls := "PageServerModel", name := "data", desc := "()I" } : Jvm.MethodName) prog_8_method_38_code (2 : Nat) (Option.some Jvm.ClassFile.FieldType.int)) ∈ lw_all := lw_g (lw_at lw_m6 130 rfl) rfl
theorem q1415 : (Jvm.Cond.methodLink "PageServerModel" (271 : Nat) ({ cls := "PageServerModel", name := "idle", desc := "(I)Z" } : Jvm.MethodName)) ∈ lw_all := lw_g (lw_at lw_m6 131 rfl) rfl
theorem q1416 : (Jvm.Cond.privateMethod ({ cls := "PageServerModel", name := "idle", desc := "(I)Z" } : Jvm.MethodName)) ∈ lw_tbl := lw_at lw_m6 132 rfl
theorem q1417 : (Jvm.Cond.instanceMethod ({ cls := "PageServerModel", name := "idle", desc := "(I)Z" } : Jvm.MethodName)) ∈ lw_all := lw_g (lw_at lw_m6 133 rfl) rfl
theorem q1418 : (Jvm.Cond.code ({ cls := "PageServerModel", name := "idle", desc := "(I)Z" } : Jvm.MethodName) prog_8_method_20_code (2 : Nat) (Option.some Jvm.ClassFile.FieldType.boolean)) ∈ lw_all := lw_g (lw_at lw_m6 134 rfl) rfl
theorem q1419 : (Jvm.Cond.methodLink "PageServerModel" (274 : Nat) ({ cls := "PageServerModel", name := "unpad", desc := "()Z" } : Jvm.MethodName)) ∈ lw_all := lw_g (lw_at lw_m6 135 rfl) rfl
theorem q1420 : (Jvm.Cond.privateMethod ({ cls := "PageServerModel", name := "unpad", desc := "()Z" } : Jvm.MethodName)) ∈ lw_tbl := lw_at lw_m6 136 rfl
theorem q1421 : (Jvm.Cond.instanceMethod ({ cls := "PageServerModel", name := "unpad", desc := "()Z" } : Jvm.MethodName)) ∈ lw_all := lw_g (lw_at lw_m6 137 rfl) rfl
theorem q1422 : (Jvm.Cond.code ({ cls := "PageServerModel", name := "unpad", desc := "()Z" } : Jvm.MethodName) prog_8_method_37_code (3 : Nat) (Option.some Jvm.ClassFile.FieldType.boolean)) ∈ lw_all := lw_g (lw_at lw_m6 138 rfl) rfl
theorem q1423 : (Jvm.Cond.methodLink "PageServerModel" (277 : Nat) ({ cls := "PageServerModel", name := "credit", desc := "(II)V" } : Jvm.MethodName)) ∈ lw_all := lw_g (lw_at lw_m6 139 rfl) rfl
theorem q1424 : (Jvm.Cond.privateMethod ({ cls := "PageServerModel", name := "credit", desc := "(II)V" } : Jvm.MethodName)) ∈ lw_tbl := lw_at lw_m6 140 rfl
theorem q1425 : (Jvm.Cond.instanceMethod ({ cls := "PageServerModel", name := "credit", desc := "(II)V" } : Jvm.MethodName)) ∈ lw_all := lw_g (lw_at lw_m6 141 rfl) rfl
theorem q1426 : (Jvm.Cond.code ({ cls := "PageServerModel", name := "credit", desc := "(II)V" } : Jvm.MethodName) prog_8_method_16_code (3 : Nat) (Option.none : Option Jvm.ClassFile.FieldType)) ∈ lw_all := lw_g (lw_at lw_m6 142 rfl) rfl
theorem q1427 : (Jvm.Cond.methodLink "PageServerModel" (173 : Nat) ({ cls := "PageServerModel", name := "slotOf", desc := "(I)I" } : Jvm.MethodName)) ∈ lw_all := lw_g (lw_at lw_m6 143 rfl) rfl
theorem q1428 : (Jvm.Cond.privateMethod ({ cls := "PageServerModel", name := "slotOf", desc := "(I)I" } : Jvm.MethodName)) ∈ lw_tbl := lw_at lw_m6 144 rfl
theorem q1429 : (Jvm.Cond.instanceMethod ({ cls := "PageServerModel", name := "slotOf", desc := "(I)I" } : Jvm.MethodName)) ∈ lw_all := lw_g (lw_at lw_m6 145 rfl) rfl
theorem q1430 : (Jvm.Cond.code ({ cls := "PageServerModel", name := "slotOf", desc := "(I)I" } : Jvm.MethodName) prog_8_method_17_code (4 : Nat) (Option.some Jvm.ClassFile.FieldType.int)) ∈ lw_all := lw_g (lw_at lw_m6 146 rfl) rfl
theorem q1431 : (Jvm.Cond.methodLink "PageServerModel" (280 : Nat) ({ cls := "PageServerModel", name := "close", desc := "(I)I" } : Jvm.MethodName)) ∈ lw_all := lw_g (lw_at lw_m6 147 rfl) rfl
theorem q1432 : (Jvm.Cond.privateMethod ({ cls := "PageServerModel", name := "close", desc := "(I)I" } : Jvm.MethodName)) ∈ lw_tbl := lw_at lw_m6 148 rfl
theorem q1433 : (Jvm.Cond.instanceMethod ({ cls := "PageServerModel", name := "close", desc := "(I)I" } : Jvm.MethodName)) ∈ lw_all := lw_g (lw_at lw_m6 149 rfl) rfl
theorem q1434 : (Jvm.Cond.code ({ cls := "PageServerModel", name := "close", desc := "(I)I" } : Jvm.MethodName) prog_8_method_39_code (2 : Nat) (Option.some Jvm.ClassFile.FieldType.int)) ∈ lw_all := lw_g (lw_at lw_m6 150 rfl) rfl
theorem q1435 : (Jvm.Cond.methodLink "PageServerModel" (283 : Nat) ({ cls := "PageServerModel", name := "answer", desc := "(I)V" } : Jvm.MethodName)) ∈ lw_all := lw_g (lw_at lw_m6 151 rfl) rfl
theorem q1436 : (Jvm.Cond.privateMethod ({ cls := "PageServerModel", name := "answer", desc := "(I)V" } : Jvm.MethodName)) ∈ lw_tbl := lw_at lw_m6 152 rfl
theorem q1437 : (Jvm.Cond.instanceMethod ({ cls := "PageServerModel", name := "answer", desc := "(I)V" } : Jvm.MethodName)) ∈ lw_all := lw_g (lw_at lw_m6 153 rfl) rfl
theorem q1438 : (Jvm.Cond.code ({ cls := "PageServerModel", name := "answer", desc := "(I)V" } : Jvm.MethodName) prog_8_method_40_code (4 : Nat) (Option.none : Option Jvm.ClassFile.FieldType)) ∈ lw_all := lw_g (lw_at lw_m6 154 rfl) rfl
theorem q1439 : (Jvm.Cond.methodLink "PageServerModel" (310 : Nat) ({ cls := "PageServerModel", name := "headers", desc := "()I" } : Jvm.MethodName)) ∈ lw_all := lw_g (lw_at lw_m6 155 rfl) rfl
theorem q1440 : (Jvm.Cond.privateMethod ({ cls := "PageServerModel", name := "headers", desc := "()I" } : Jvm.MethodName)) ∈ lw_tbl := lw_at lw_m6 156 rfl
theorem q1441 : (Jvm.Cond.instanceMethod ({ cls := "PageServerModel", name := "headers", desc := "()I" } : Jvm.MethodName)) ∈ lw_all := lw_g (lw_at lw_m6 157 rfl) rfl
theorem q1442 : (Jvm.Cond.code ({ cls := "PageServerModel", name := "headers", desc := "()I" } : Jvm.MethodName) prog_8_method_41_code (2 : Nat) (Option.some Jvm.ClassFile.FieldType.int)) ∈ lw_all := lw_g (lw_at lw_m6 158 rfl) rfl
theorem q1443 : (Jvm.Cond.methodLink "PageServerModel" (289 : Nat) ({ cls := "PageServerModel", name := "more", desc := "()I" } : Jvm.MethodName)) ∈ lw_all := lw_g (lw_at lw_m6 159 rfl) rfl
theorem q1444 : (Jvm.Cond.privateMethod ({ cls := "PageServerModel", name := "more", desc := "()I" } : Jvm.MethodName)) ∈ lw_tbl := lw_at lw_m6 160 rfl
theorem q1445 : (Jvm.Cond.instanceMethod ({ cls := "PageServerModel", name := "more", desc := "()I" } : Jvm.MethodName)) ∈ lw_all := lw_g (lw_at lw_m6 161 rfl) rfl
theorem q1446 : (Jvm.Cond.code ({ cls := "PageServerModel", name := "more", desc := "()I" } : Jvm.MethodName) prog_8_method_42_code (2 : Nat) (Option.some Jvm.ClassFile.FieldType.int)) ∈ lw_all := lw_g (lw_at lw_m6 162 rfl) rfl
theorem q1447 : (Jvm.Cond.methodLink "PageServerModel" (292 : Nat) ({ cls := "PageServerModel", name := "readBlock", desc := "()Z" } : Jvm.MethodName)) ∈ lw_all := lw_g (lw_at lw_m6 163 rfl) rfl
theorem q1448 : (Jvm.Cond.privateMethod ({ cls := "PageServerModel", name := "readBlock", desc := "()Z" } : Jvm.MethodName)) ∈ lw_tbl := lw_at lw_m6 164 rfl
theorem q1449 : (Jvm.Cond.instanceMethod ({ cls := "PageServerModel", name := "readBlock", desc := "()Z" } : Jvm.MethodName)) ∈ lw_all := lw_g (lw_at lw_m6 165 rfl) rfl
theorem q1450 : (Jvm.Cond.code ({ cls := "PageServerModel", name := "readBlock", desc := "()Z" } : Jvm.MethodName) prog_8_method_36_code (1 : Nat) (Option.some Jvm.ClassFile.FieldType.boolean)) ∈ lw_all := lw_g (lw_at lw_m6 166 rfl) rfl
theorem q1451 : (Jvm.Cond.methodLink "PageServerModel" (198 : Nat) ({ cls := "PageServerModel", name := "next", desc := "()I" } : Jvm.MethodName)) ∈ lw_all := lw_g (lw_at lw_m6 167 rfl) rfl
theorem q1452 : (Jvm.Cond.privateMethod ({ cls := "PageServerModel", name := "next", desc := "()I" } : Jvm.MethodName)) ∈ lw_tbl := lw_at lw_m6 168 rfl
theorem q1453 : (Jvm.Cond.instanceMethod ({ cls := "PageServerModel", name := "next", desc := "()I" } : Jvm.MethodName)) ∈ lw_all := lw_g (lw_at lw_m6 169 rfl) rfl
theorem q1454 : (Jvm.Cond.code ({ cls := "PageServerModel", name := "next", desc := "()I" } : Jvm.MethodName) prog_8_method_27_code (1 : Nat) (Option.some Jvm.ClassFile.FieldType.int)) ∈ lw_all := lw_g (lw_at lw_m6 170 rfl) rfl
theorem q1455 : (Jvm.Cond.methodLink "PageServerModel" (253 : Nat) ({ cls := "PageServerModel", name := "readField", desc := "(I)V" } : Jvm.MethodName)) ∈ lw_all := lw_g (lw_at lw_m6 171 rfl) rfl
theorem q1456 : (Jvm.Cond.privateMethod ({ cls := "PageServerModel", name := "readField", desc := "(I)V" } : Jvm.MethodName)) ∈ lw_tbl := lw_at lw_m6 172 rfl
theorem q1457 : (Jvm.Cond.instanceMethod ({ cls := "PageServerModel", name := "readField", desc := "(I)V" } : Jvm.MethodName)) ∈ lw_all := lw_g (lw_at lw_m6 173 rfl) rfl
theorem q1458 : (Jvm.Cond.code ({ cls := "PageServerModel", name := "readField", desc := "(I)V" } : Jvm.MethodName) prog_8_method_30_code (2 : Nat) (Option.none : Option Jvm.ClassFile.FieldType)) ∈ lw_all := lw_g (lw_at lw_m6 174 rfl) rfl
theorem q1459 : (Jvm.Cond.methodLink "PageServerModel" (189 : Nat) ({ cls := "PageServerModel", name := "copy", desc := "(II)V" } : Jvm.MethodName)) ∈ lw_all := lw_g (lw_at lw_m6 175 rfl) rfl
theorem q1460 : (Jvm.Cond.privateMethod ({ cls := "PageServerModel", name := "copy", desc := "(II)V" } : Jvm.MethodName)) ∈ lw_tbl := lw_at lw_m6 176 rfl
theorem q1461 : (Jvm.Cond.instanceMethod ({ cls := "PageServerModel", name := "copy", desc := "(II)V" } : Jvm.MethodName)) ∈ lw_all := lw_g (lw_at lw_m6 177 rfl) rfl
theorem q1462 : (Jvm.Cond.code ({ cls := "PageServerModel", name := "copy", desc := "(II)V" } : Jvm.MethodName) prog_8_method_25_code (4 : Nat) (Option.none : Option Jvm.ClassFile.FieldType)) ∈ lw_all := lw_g (lw_at lw_m6 178 rfl) rfl
theorem q1463 : (Jvm.Cond.methodLink "PageServerModel" (205 : Nat) ({ cls := "PageServerModel", name := "readName", desc := "(I)V" } : Jvm.MethodName)) ∈ lw_all := lw_g (lw_at lw_m6 179 rfl) rfl
theorem q1464 : (Jvm.Cond.privateMethod ({ cls := "PageServerModel", name := "readName", desc := "(I)V" } : Jvm.MethodName)) ∈ lw_tbl := lw_at lw_m6 180 rfl
theorem q1465 : (Jvm.Cond.instanceMethod ({ cls := "PageServerModel", name := "readName", desc := "(I)V" } : Jvm.MethodName)) ∈ lw_all := lw_g (lw_at lw_m6 181 rfl) rfl
theorem q1466 : (Jvm.Cond.code ({ cls := "PageServerModel", name := "readName", desc := "(I)V" } : Jvm.MethodName) prog_8_method_29_code (3 : Nat) (Option.none : Option Jvm.ClassFile.FieldType)) ∈ lw_all := lw_g (lw_at lw_m6 182 rfl) rfl
theorem q1467 : (Jvm.Cond.methodLink "PageServerModel" (201 : Nat) ({ cls := "PageServerModel", name := "readString", desc := "(Z)I" } : Jvm.MethodName)) ∈ lw_all := lw_g (lw_at lw_m6 183 rfl) rfl
theorem q1468 : (Jvm.Cond.privateMethod ({ cls := "PageServerModel", name := "readString", desc := "(Z)I" } : Jvm.MethodName)) ∈ lw_tbl := lw_at lw_m6 184 rfl
theorem q1469 : (Jvm.Cond.instanceMethod ({ cls := "PageServerModel", name := "readString", desc := "(Z)I" } : Jvm.MethodName)) ∈ lw_all := lw_g (lw_at lw_m6 185 rfl) rfl
theorem q1470 : (Jvm.Cond.code ({ cls := "PageServerModel", name := "readString", desc := "(Z)I" } : Jvm.MethodName) prog_8_method_28_code (5 : Nat) (Option.some Jvm.ClassFile.FieldType.int)) ∈ lw_all := lw_g (lw_at lw_m6 186 rfl) rfl
theorem q1471 : (Jvm.Cond.methodLink "PageServerModel" (208 : Nat) ({ cls := "PageServerModel", name := "insert", desc := "()V" } : Jvm.MethodName)) ∈ lw_all := lw_g (lw_at lw_m6 187 rfl) rfl
theorem q1472 : (Jvm.Cond.privateMethod ({ cls := "PageServerModel", name := "insert", desc := "()V" } : Jvm.MethodName)) ∈ lw_tbl := lw_at lw_m6 188 rfl
theorem q1473 : (Jvm.Cond.instanceMethod ({ cls := "PageServerModel", name := "insert", desc := "()V" } : Jvm.MethodName)) ∈ lw_all := lw_g (lw_at lw_m6 189 rfl) rfl
theorem q1474 : (Jvm.Cond.code ({ cls := "PageServerModel", name := "insert", desc := "()V" } : Jvm.MethodName) prog_8_method_26_code (2 : Nat) (Option.none : Option Jvm.ClassFile.FieldType)) ∈ lw_all := lw_g (lw_at lw_m6 190 rfl) rfl
theorem q1475 : (Jvm.Cond.methodLink "PageServerModel" (179 : Nat) ({ cls := "PageServerModel", name := "takes", desc := "(I)I" } : Jvm.MethodName)) ∈ lw_all := lw_g (lw_at lw_m6 191 rfl) rfl
theorem q1476 : (Jvm.Cond.privateMethod ({ cls := "PageServerModel", name := "takes", desc := "(I)I" } : Jvm.MethodName)) ∈ lw_tbl := lw_at lw_m6 192 rfl
theorem q1477 : (Jvm.Cond.instanceMethod ({ cls := "PageServerModel", name := "takes", desc := "(I)I" } : Jvm.MethodName)) ∈ lw_all := lw_g (lw_at lw_m6 193 rfl) rfl
theorem q1478 : (Jvm.Cond.code ({ cls := "PageServerModel", name := "takes", desc := "(I)I" } : Jvm.MethodName) prog_8_method_22_code (2 : Nat) (Option.some Jvm.ClassFile.FieldType.int)) ∈ lw_all := lw_g (lw_at lw_m6 194 rfl) rfl
theorem q1479 : (Jvm.Cond.methodLink "PageServerModel" (186 : Nat) ({ cls := "PageServerModel", name := "evict", desc := "(I)V" } : Jvm.MethodName)) ∈ lw_all := lw_g (lw_at lw_m6 195 rfl) rfl
theorem q1480 : (Jvm.Cond.privateMethod ({ cls := "PageServerModel", name := "evict", desc := "(I)V" } : Jvm.MethodName)) ∈ lw_tbl := lw_at lw_m6 196 rfl
theorem q1481 : (Jvm.Cond.instanceMethod ({ cls := "PageServerModel", name := "evict", desc := "(I)V" } : Jvm.MethodName)) ∈ lw_all := lw_g (lw_at lw_m6 197 rfl) rfl
theorem q1482 : (Jvm.Cond.code ({ cls := "PageServerModel", name := "evict", desc := "(I)V" } : Jvm.MethodName) prog_8_method_24_code (2 : Nat) (Option.none : Option Jvm.ClassFile.FieldType)) ∈ lw_all := lw_g (lw_at lw_m6 198 rfl) rfl
theorem q1483 : (Jvm.Cond.methodLink "PageServerModel" (182 : Nat) ({ cls := "PageServerModel", name := "taken", desc := "()I" } : Jvm.MethodName)) ∈ lw_all := lw_g (lw_at lw_m6 199 rfl) rfl
theorem q1484 : (Jvm.Cond.privateMethod ({ cls := "PageServerModel", name := "taken", desc := "()I" } : Jvm.MethodName)) ∈ lw_tbl := lw_at lw_m6 200 rfl
theorem q1485 : (Jvm.Cond.instanceMethod ({ cls := "PageServerModel", name := "taken", desc := "()I" } : Jvm.MethodName)) ∈ lw_all := lw_g (lw_at lw_m6 201 rfl) rfl
theorem q1486 : (Jvm.Cond.code ({ cls := "PageServerModel", name := "taken", desc := "()I" } : Jvm.MethodName) prog_8_method_23_code (3 : Nat) (Option.some Jvm.ClassFile.FieldType.int)) ∈ lw_all := lw_g (lw_at lw_m6 202 rfl) rfl
theorem q1487 : (Jvm.Cond.methodLink "PageServerModel" (214 : Nat) ({ cls := "PageServerModel", name := "judge", desc := "()V" } : Jvm.MethodName)) ∈ lw_all := lw_g (lw_at lw_m6 203 rfl) rfl
theorem q1488 : (Jvm.Cond.privateMethod ({ cls := "PageServerModel", name := "judge", desc := "()V" } : Jvm.MethodName)) ∈ lw_tbl := lw_at lw_m6 204 rfl
theorem q1489 : (Jvm.Cond.instanceMethod ({ cls := "PageServerModel", name := "judge", desc := "()V" } : Jvm.MethodName)) ∈ lw_all := lw_g (lw_at lw_m6 205 rfl) rfl
theorem q1490 : (Jvm.Cond.code ({ cls := "PageServerModel", name := "judge", desc := "()V" } : Jvm.MethodName) prog_8_method_32_code (4 : Nat) (Option.none : Option Jvm.ClassFile.FieldType)) ∈ lw_all := lw_g (lw_at lw_m6 206 rfl) rfl
theorem q1491 : (Jvm.Cond.methodLink "PageServerModel" (220 : Nat) ({ cls := "PageServerModel", name := "isNamed", desc := "(II)Z" } : Jvm.MethodName)) ∈ lw_all := lw_g (lw_at lw_m6 207 rfl) rfl
theorem q1492 : (Jvm.Cond.privateMethod ({ cls := "PageServerModel", name := "isNamed", desc := "(II)Z" } : Jvm.MethodName)) ∈ lw_tbl := lw_at lw_m6 208 rfl
theorem q1493 : (Jvm.Cond.instanceMethod ({ cls := "PageServerModel", name := "isNamed", desc := "(II)Z" } : Jvm.MethodName)) ∈ lw_all := lw_g (lw_at lw_m6 209 rfl) rfl
theorem q1494 : (Jvm.Cond.code ({ cls := "PageServerModel", name := "isNamed", desc := "(II)Z" } : Jvm.MethodName) prog_8_method_31_code (3 : Nat) (Option.some Jvm.ClassFile.FieldType.boolean)) ∈ lw_all := lw_g (lw_at lw_m6 210 rfl) rfl
theorem q1495 : (Jvm.Cond.methodLink "PageServerModel" (233 : Nat) ({ cls := "PageServerModel", name := "methodOf", desc := "()I" } : Jvm.MethodName)) ∈ lw_all := lw_g (lw_at lw_m6 211 rfl) rfl
theorem q1496 : (Jvm.Cond.privateMethod ({ cls := "PageServerModel", name := "methodOf", desc := "()I" } : Jvm.MethodName)) ∈ lw_tbl := lw_at lw_m6 212 rfl
theorem q1497 : (Jvm.Cond.instanceMethod ({ cls := "PageServerModel", name := "methodOf", desc := "()I" } : Jvm.MethodName)) ∈ lw_all := lw_g (lw_at lw_m6 213 rfl) rfl
theorem q1498 : (Jvm.Cond.code ({ cls := "PageServerModel", name := "methodOf", desc := "()I" } : Jvm.MethodName) prog_8_method_35_code (4 : Nat) (Option.some Jvm.ClassFile.FieldType.int)) ∈ lw_all := lw_g (lw_at lw_m6 214 rfl) rfl
theorem q1499 : (Jvm.Cond.methodLink "PageServerModel" (242 : Nat) ({ cls := "PageServerModel", name := "isLength", desc := "()Z" } : Jvm.MethodName)) ∈ lw_all := lw_g (lw_at lw_m6 215 rfl) rfl
theorem q1500 : (Jvm.Cond.privateMethod ({ cls := "PageServerModel", name := "isLength", desc := "()Z" } : Jvm.MethodName)) ∈ lw_tbl := lw_at lw_m6 216 rfl
theorem q1501 : (Jvm.Cond.instanceMethod ({ cls := "PageServerModel", name := "isLength", desc := "()Z" } : Jvm.MethodName)) ∈ lw_all := lw_g (lw_at lw_m6 217 rfl) rfl
theorem q1502 : (Jvm.Cond.code ({ cls := "PageServerModel", name := "isLength", desc := "()Z" } : Jvm.MethodName) prog_8_method_33_code (3 : Nat) (Option.some Jvm.ClassFile.FieldType.boolean)) ∈ lw_all := lw_g (lw_at lw_m6 218 rfl) rfl
theorem q1503 : (Jvm.Cond.methodLink "PageServerModel" (246 : Nat) ({ cls := "PageServerModel", name := "judgeLength", desc := "()V" } : Jvm.MethodName)) ∈ lw_all := lw_g (lw_at lw_m6 219 rfl) rfl
theorem q1504 : (Jvm.Cond.privateMethod ({ cls := "PageServerModel", name := "judgeLength", desc := "()V" } : Jvm.MethodName)) ∈ lw_tbl := lw_at lw_m6 220 rfl
theorem q1505 : (Jvm.Cond.instanceMethod ({ cls := "PageServerModel", name := "judgeLength", desc := "()V" } : Jvm.MethodName)) ∈ lw_all := lw_g (lw_at lw_m6 221 rfl) rfl
theorem q1506 : (Jvm.Cond.code ({ cls := "PageServerModel", name := "judgeLength", desc := "()V" } : Jvm.MethodName) prog_8_method_34_code (3 : Nat) (Option.none : Option Jvm.ClassFile.FieldType)) ∈ lw_all := lw_g (lw_at lw_m6 222 rfl) rfl
theorem q1507 : (Jvm.Cond.constant "PageServerModel" (252 : Nat) (100000 : Int32)) ∈ lw_all := lw_g (lw_at lw_m6 223 rfl) rfl
theorem q1508 : (Jvm.Cond.methodLink "PageServerModel" (295 : Nat) ({ cls := "PageServerModel", name := "request", desc := "()I" } : Jvm.MethodName)) ∈ lw_all := lw_g (lw_at lw_m6 224 rfl) rfl
theorem q1509 : (Jvm.Cond.privateMethod ({ cls := "PageServerModel", name := "request", desc := "()I" } : Jvm.MethodName)) ∈ lw_tbl := lw_at lw_m6 225 rfl
theorem q1510 : (Jvm.Cond.instanceMethod ({ cls := "PageServerModel", name := "request", desc := "()I" } : Jvm.MethodName)) ∈ lw_all := lw_g (lw_at lw_m6 226 rfl) rfl
theorem q1511 : (Jvm.Cond.code ({ cls := "PageServerModel", name := "request", desc := "()I" } : Jvm.MethodName) prog_8_method_43_code (3 : Nat) (Option.some Jvm.ClassFile.FieldType.int)) ∈ lw_all := lw_g (lw_at lw_m6 227 rfl) rfl
theorem q1512 : (Jvm.Cond.methodLink "PageServerModel" (298 : Nat) ({ cls := "PageServerModel", name := "open", desc := "()I" } : Jvm.MethodName)) ∈ lw_all := lw_g (lw_at lw_m6 228 rfl) rfl
theorem q1513 : (Jvm.Cond.privateMethod ({ cls := "PageServerModel", name := "open", desc := "()I" } : Jvm.MethodName)) ∈ lw_tbl := lw_at lw_m6 229 rfl
theorem q1514 : (Jvm.Cond.instanceMethod ({ cls := "PageServerModel", name := "open", desc := "()I" } : Jvm.MethodName)) ∈ lw_all := lw_g (lw_at lw_m6 230 rfl) rfl
theorem q1515 : (Jvm.Cond.code ({ cls := "PageServerModel", name := "open", desc := "()I" } : Jvm.MethodName) prog_8_method_18_code (3 : Nat) (Option.some Jvm.ClassFile.FieldType.int)) ∈ lw_all := lw_g (lw_at lw_m6 231 rfl) rfl
theorem q1516 : (Jvm.Cond.methodLink "PageServerModel" (313 : Nat) ({ cls := "PageServerModel", name := "drop", desc := "()I" } : Jvm.MethodName)) ∈ lw_all := lw_g (lw_at lw_m6 232 rfl) rfl
theorem q1517 : (Jvm.Cond.privateMethod ({ cls := "PageServerModel", name := "drop", desc := "()I" } : Jvm.MethodName)) ∈ lw_tbl := lw_at lw_m6 233 rfl
theorem q1518 : (Jvm.Cond.instanceMethod ({ cls := "PageServerModel", name := "drop", desc := "()I" } : Jvm.MethodName)) ∈ lw_all := lw_g (lw_at lw_m6 234 rfl) rfl
theorem q1519 : (Jvm.Cond.code ({ cls := "PageServerModel", name := "drop", desc := "()I" } : Jvm.MethodName) prog_8_method_47_code (1 : Nat) (Option.some Jvm.ClassFile.FieldType.int)) ∈ lw_all := lw_g (lw_at lw_m6 235 rfl) rfl
theorem q1520 : (Jvm.Cond.methodLink "PageServerModel" (301 : Nat) ({ cls := "PageServerModel", name := "end", desc := "(I)V" } : Jvm.MethodName)) ∈ lw_all := lw_g (lw_at lw_m6 236 rfl) rfl
theorem q1521 : (Jvm.Cond.privateMethod ({ cls := "PageServerModel", name := "end", desc := "(I)V" } : Jvm.MethodName)) ∈ lw_tbl := lw_at lw_m6 237 rfl
theorem q1522 : (Jvm.Cond.instanceMethod ({ cls := "PageServerModel", name := "end", desc := "(I)V" } : Jvm.MethodName)) ∈ lw_all := lw_g (lw_at lw_m6 238 rfl) rfl
theorem q1523 : (Jvm.Cond.code ({ cls := "PageServerModel", name := "end", desc := "(I)V" } : Jvm.MethodName) prog_8_method_19_code (3 : Nat) (Option.none : Option Jvm.ClassFile.FieldType)) ∈ lw_all := lw_g (lw_at lw_m6 239 rfl) rfl
theorem q1524 : (Jvm.Cond.methodLink "PageServerModel" (316 : Nat) ({ cls := "PageServerModel", name := "settings", desc := "()I" } : Jvm.MethodName)) ∈ lw_all := lw_g (lw_at lw_m7 0 rfl) rfl
theorem q1525 : (Jvm.Cond.privateMethod ({ cls := "PageServerModel", name := "settings", desc := "()I" } : Jvm.MethodName)) ∈ lw_tbl := lw_at lw_m7 1 rfl
theorem q1526 : (Jvm.Cond.instanceMethod ({ cls := "PageServerModel", name := "settings", desc := "()I" } : Jvm.MethodName)) ∈ lw_all := lw_g (lw_at lw_m7 2 rfl) rfl
theorem q1527 : (Jvm.Cond.code ({ cls := "PageServerModel", name := "settings", desc := "()I" } : Jvm.MethodName) prog_8_method_44_code (5 : Nat) (Option.some Jvm.ClassFile.FieldType.int)) ∈ lw_all := lw_g (lw_at lw_m7 3 rfl) rfl
theorem q1528 : (Jvm.Cond.methodLink "PageServerModel" (319 : Nat) ({ cls := "PageServerModel", name := "ping", desc := "()I" } : Jvm.MethodName)) ∈ lw_all := lw_g (lw_at lw_m7 4 rfl) rfl
theorem q1529 : (Jvm.Cond.privateMethod ({ cls := "PageServerModel", name := "ping", desc := "()I" } : Jvm.MethodName)) ∈ lw_tbl := lw_at lw_m7 5 rfl
theorem q1530 : (Jvm.Cond.instanceMethod ({ cls := "PageServerModel", name := "ping", desc := "()I" } : Jvm.MethodName)) ∈ lw_all := lw_g (lw_at lw_m7 6 rfl) rfl
theorem q1531 : (Jvm.Cond.code ({ cls := "PageServerModel", name := "ping", desc := "()I" } : Jvm.MethodName) prog_8_method_45_code (2 : Nat) (Option.some Jvm.ClassFile.FieldType.int)) ∈ lw_all := lw_g (lw_at lw_m7 7 rfl) rfl
theorem q1532 : (Jvm.Cond.methodLink "PageServerModel" (322 : Nat) ({ cls := "PageServerModel", name := "widen", desc := "()I" } : Jvm.MethodName)) ∈ lw_all := lw_g (lw_at lw_m7 8 rfl) rfl
theorem q1533 : (Jvm.Cond.privateMethod ({ cls := "PageServerModel", name := "widen", desc := "()I" } : Jvm.MethodName)) ∈ lw_tbl := lw_at lw_m7 9 rfl
theorem q1534 : (Jvm.Cond.instanceMethod ({ cls := "PageServerModel", name := "widen", desc := "()I" } : Jvm.MethodName)) ∈ lw_all := lw_g (lw_at lw_m7 10 rfl) rfl
theorem q1535 : (Jvm.Cond.code ({ cls := "PageServerModel", name := "widen", desc := "()I" } : Jvm.MethodName) prog_8_method_46_code (5 : Nat) (Option.some Jvm.ClassFile.FieldType.int)) ∈ lw_all := lw_g (lw_at lw_m7 11 rfl) rfl
theorem q1536 : (Jvm.Cond.methodLink "PageServerModel" (331 : Nat) ({ cls := "PageServerModel", name := "pump", desc := "()V" } : Jvm.MethodName)) ∈ lw_all := lw_g (lw_at lw_m7 12 rfl) rfl
theorem q1537 : (Jvm.Cond.privateMethod ({ cls := "PageServerModel", name := "pump", desc := "()V" } : Jvm.MethodName)) ∈ lw_tbl := lw_at lw_m7 13 rfl
theorem q1538 : (Jvm.Cond.instanceMethod ({ cls := "PageServerModel", name := "pump", desc := "()V" } : Jvm.MethodName)) ∈ lw_all := lw_g (lw_at lw_m7 14 rfl) rfl
theorem q1539 : (Jvm.Cond.code ({ cls := "PageServerModel", name := "pump", desc := "()V" } : Jvm.MethodName) prog_8_method_53_code (4 : Nat) (Option.none : Option Jvm.ClassFile.FieldType)) ∈ lw_all := lw_g (lw_at lw_m7 15 rfl) rfl
theorem q1540 : (Jvm.Cond.methodLink "PageServerModel" (334 : Nat) ({ cls := "PageServerModel", name := "turn", desc := "()I" } : Jvm.MethodName)) ∈ lw_all := lw_g (lw_at lw_m7 16 rfl) rfl
theorem q1541 : (Jvm.Cond.privateMethod ({ cls := "PageServerModel", name := "turn", desc := "()I" } : Jvm.MethodName)) ∈ lw_tbl := lw_at lw_m7 17 rfl
theorem q1542 : (Jvm.Cond.instanceMethod ({ cls := "PageServerModel", name := "turn", desc := "()I" } : Jvm.MethodName)) ∈ lw_all := lw_g (lw_at lw_m7 18 rfl) rfl
theorem q1543 : (Jvm.Cond.code ({ cls := "PageServerModel", name := "turn", desc := "()I" } : Jvm.MethodName) prog_8_method_51_code (6 : Nat) (Option.some Jvm.ClassFile.FieldType.int)) ∈ lw_all := lw_g (lw_at lw_m7 19 rfl) rfl
theorem q1544 : (Jvm.Cond.methodLink "PageServerModel" (337 : Nat) ({ cls := "PageServerModel", name := "less", desc := "(II)I" } : Jvm.MethodName)) ∈ lw_all := lw_g (lw_at lw_m7 20 rfl) rfl
theorem q1545 : (Jvm.Cond.static ({ cls := "PageServerModel", name := "less", desc := "(II)I" } : Jvm.MethodName)) ∈ lw_all := lw_g (lw_at lw_m7 21 rfl) rfl
theorem q1546 : (Jvm.Cond.code ({ cls := "PageServerModel", name := "less", desc := "(II)I" } : Jvm.MethodName) prog_8_method_52_code (2 : Nat) (Option.some Jvm.ClassFile.FieldType.int)) ∈ lw_all := lw_g (lw_at lw_m7 22 rfl) rfl
theorem q1548 : (Jvm.Cond.instanceMethod ({ cls := "PageServerModel", name := "restart", desc := "()V" } : Jvm.MethodName)) ∈ lw_all := lw_g (lw_at lw_m7 24 rfl) rfl
theorem q1549 : (Jvm.Cond.selects "PageServerModel" ({ cls := "PageServerModel", name := "restart", desc := "()V" } : Jvm.MethodName) ({ cls := "PageServerModel", name := "restart", desc := "()V" } : Jvm.MethodName)) ∈ lw_all := lw_g (lw_at lw_m7 25 rfl) rfl
theorem q1550 : (Jvm.Cond.code ({ cls := "PageServerModel", name := "restart", desc := "()V" } : Jvm.MethodName) prog_8_method_57_code (1 : Nat) (Option.none : Option Jvm.ClassFile.FieldType)) ∈ lw_all := lw_g (lw_at lw_m7 26 rfl) rfl
theorem q1552 : (Jvm.Cond.instanceMethod ({ cls := "PageServerModel", name := "waiting", desc := "()I" } : Jvm.MethodName)) ∈ lw_all := lw_g (lw_at lw_m7 28 rfl) rfl
theorem q1553 : (Jvm.Cond.selects "PageServerModel" ({ cls := "PageServerModel", name := "waiting", desc := "()I" } : Jvm.MethodName) ({ cls := "PageServerModel", name := "waiting", desc := "()I" } : Jvm.MethodName)) ∈ lw_all := lw_g (lw_at lw_m7 29 rfl) rfl
theorem q1554 : (Jvm.Cond.code ({ cls := "PageServerModel", name := "waiting", desc := "()I" } : Jvm.MethodName) prog_8_method_58_code (1 : Nat) (Option.some Jvm.ClassFile.FieldType.int)) ∈ lw_all := lw_g (lw_at lw_m7 30 rfl) rfl
theorem q1556 : (Jvm.Cond.instanceMethod ({ cls := "PageServerModel", name := "out", desc := "(I)I" } : Jvm.MethodName)) ∈ lw_all := lw_g (lw_at lw_m7 32 rfl) rfl
theorem q1557 : (Jvm.Cond.selects "PageServerModel" ({ cls := "PageServerModel", name := "out", desc := "(I)I" } : Jvm.MethodName) ({ cls := "PageServerModel", name := "out", desc := "(I)I" } : Jvm.MethodName)) ∈ lw_all := lw_g (lw_at lw_m7 33 rfl) rfl
theorem q1558 : (Jvm.Cond.code ({ cls := "PageServerModel", name := "out", desc := "(I)I" } : Jvm.MethodName) prog_8_method_59_code (2 : Nat) (Option.some Jvm.ClassFile.FieldType.int)) ∈ lw_all := lw_g (lw_at lw_m7 34 rfl) rfl
theorem q1560 : (Jvm.Cond.instanceMethod ({ cls := "PageServerModel", name := "take", desc := "(I)V" } : Jvm.MethodName)) ∈ lw_all := lw_g (lw_at lw_m7 36 rfl) rfl
theorem q1561 : (Jvm.Cond.selects "PageServerModel" ({ cls := "PageServerModel", name := "take", desc := "(I)V" } : Jvm.MethodName) ({ cls := "PageServerModel", name := "take", desc := "(I)V" } : Jvm.MethodName)) ∈ lw_all := lw_g (lw_at lw_m7 37 rfl) rfl
theorem q1562 : (Jvm.Cond.code ({ cls := "PageServerModel", name := "take", desc := "(I)V" } : Jvm.MethodName) prog_8_method_60_code (4 : Nat) (Option.none : Option Jvm.ClassFile.FieldType)) ∈ lw_all := lw_g (lw_at lw_m7 38 rfl) rfl
theorem q1564 : (Jvm.Cond.instanceMethod ({ cls := "PageServerModel", name := "away", desc := "()I" } : Jvm.MethodName)) ∈ lw_all := lw_g (lw_at lw_m7 40 rfl) rfl
theorem q1565 : (Jvm.Cond.selects "PageServerModel" ({ cls := "PageServerModel", name := "away", desc := "()I" } : Jvm.MethodName) ({ cls := "PageServerModel", name := "away", desc := "()I" } : Jvm.MethodName)) ∈ lw_all := lw_g (lw_at lw_m7 41 rfl) rfl
theorem q1566 : (Jvm.Cond.code ({ cls := "PageServerModel", name := "away", desc := "()I" } : Jvm.MethodName) prog_8_method_61_code (1 : Nat) (Option.some Jvm.ClassFile.FieldType.int)) ∈ lw_all := lw_g (lw_at lw_m7 42 rfl) rfl
theorem q1568 : (Jvm.Cond.instanceMethod ({ cls := "PageServerModel", name := "about", desc := "(I)I" } : Jvm.MethodName)) ∈ lw_all := lw_g (lw_at lw_m7 44 rfl) rfl
theorem q1569 : (Jvm.Cond.selects "PageServerModel" ({ cls := "PageServerModel", name := "about", desc := "(I)I" } : Jvm.MethodName) ({ cls := "PageServerModel", name := "about", desc := "(I)I" } : Jvm.MethodName)) ∈ lw_all := lw_g (lw_at lw_m7 45 rfl) rfl
theorem q1570 : (Jvm.Cond.code ({ cls := "PageServerModel", name := "about", desc := "(I)I" } : Jvm.MethodName) prog_8_method_62_code (2 : Nat) (Option.some Jvm.ClassFile.FieldType.int)) ∈ lw_all := lw_g (lw_at lw_m7 46 rfl) rfl
theorem q1572 : (Jvm.Cond.instanceMethod ({ cls := "PageServerModel", name := "stream", desc := "(II)I" } : Jvm.MethodName)) ∈ lw_all := lw_g (lw_at lw_m7 48 rfl) rfl
theorem q1573 : (Jvm.Cond.selects "PageServerModel" ({ cls := "PageServerModel", name := "stream", desc := "(II)I" } : Jvm.MethodName) ({ cls := "PageServerModel", name := "stream", desc := "(II)I" } : Jvm.MethodName)) ∈ lw_all := lw_g (lw_at lw_m7 49 rfl) rfl
theorem q1574 : (Jvm.Cond.code ({ cls := "PageServerModel", name := "stream", desc := "(II)I" } : Jvm.MethodName) prog_8_method_63_code (4 : Nat) (Option.some Jvm.ClassFile.FieldType.int)) ∈ lw_all := lw_g (lw_at lw_m7 50 rfl) rfl
theorem q1576 : (Jvm.Cond.instanceMethod ({ cls := "PageServerModel", name := "entry", desc := "(III)I" } : Jvm.MethodName)) ∈ lw_all := lw_g (lw_at lw_m7 52 rfl) rfl
theorem q1577 : (Jvm.Cond.selects "PageServerModel" ({ cls := "PageServerModel", name := "entry", desc := "(III)I" } : Jvm.MethodName) ({ cls := "PageServerModel", name := "entry", desc := "(III)I" } : Jvm.MethodName)) ∈ lw_all := lw_g (lw_at lw_m7 53 rfl) rfl
theorem q1578 : (Jvm.Cond.code ({ cls := "PageServerModel", name := "entry", desc := "(III)I" } : Jvm.MethodName) prog_8_method_64_code (5 : Nat) (Option.some Jvm.ClassFile.FieldType.int)) ∈ lw_all := lw_g (lw_at lw_m7 54 rfl) rfl
theorem q1599 : (Jvm.Cond.castable "PageServerModel" "java/lang/Object") ∈ lw_tbl := lw_at lw_m7 75 rfl
theorem in_X6 : ∀ w ∈ wsX60, w ∈ lw_all := lw_in wsX60 [1234, 1236, 1238, 1240, 1242, 1244, 1246, 1248, 1250, 1252, 1254, 1256, 1258, 1260, 1262, 1264, 1266, 1268, 1270, 1272, 1274, 1276, 1278, 1280, 1282, 1284, 1286, 1288, 1290, 1292, 1294, 1296, 1298, 1300, 1302, 1304, 1306, 1308, 1310, 1312, 1314, 1316, 1318, 1320, 1322, 1324, 1326, 1328, 1330, 1332, 1334, 1336, 1338, 1340, 1342] (by decide +kernel) (by decide +kernel)
