/-! DECODE ROWS BY BYTES: one lemma an opcode; a method's code is cut into short pieces once, and a row reads its own piece alone. -/
set_option maxRecDepth 100000
/-- the code has just these bytes from pc on -/
def DkAt (code : ByteArray) (pc : Nat) (bs : List UInt8) : Prop := ∀ (j : Nat) (b : UInt8), bs[j]? = some b → code.data.toList[pc + j]? = some b
/-- the piece W has the bytes bs from its place j on -/
def dkIn (W : List UInt8) (j : Nat) (bs : List UInt8) : Bool := decide ((W.drop j).take bs.length = bs)
theorem dk_seg {l W T : List UInt8} {o o2 : Nat} (h : l.drop o = W ++ T) (n : Nat) (hn : W.length = n) (ho : o + n = o2) : l.drop o2 = T := by
  subst ho
  rw [← List.drop_drop, h, List.drop_left' hn]
theorem dk_at {code : ByteArray} {W T bs : List UInt8} {o pc : Nat} (h : code.data.toList.drop o = W ++ T) (j : Nat) (hp : o + j = pc) (hw : dkIn W j bs = true) : DkAt code pc bs := by
  subst hp
  intro i b e
  have h1 := of_decide_eq_true hw
  have h2 : i < bs.length := (List.getElem?_eq_some_iff.mp e).1
  have h3 : W[j + i]? = some b := by
    rw [← h1, List.getElem?_take, if_pos h2, List.getElem?_drop] at e
    exact e
  have h4 : j + i < W.length := (List.getElem?_eq_some_iff.mp h3).1
  have h5 : (code.data.toList.drop o)[j + i]? = some b := by
    rw [h, List.getElem?_append_left h4]
    exact h3
  rw [List.getElem?_drop, ← Nat.add_assoc] at h5
  exact h5
theorem dk_u1 {A : ByteArray} {p : Nat} {b : UInt8} (h : A.data.toList[p]? = some b) : (Reader.u1 : Reader DecodeError Nat) A p = .ok (b.toNat, p + 1) := by
  obtain ⟨h1, h2⟩ := List.getElem?_eq_some_iff.mp h
  have h3 : p < A.size := by simpa using h1
  have h4 : A[p]'h3 = b := h2
  have e : (Reader.u1 : Reader DecodeError Nat) A p = (if h : p < A.size then .ok (A[p].toNat, p + 1) else .error (HasTruncated.truncated p)) := by
    show (do if h : p < A.size then do set (p + 1); Pure.pure A[p].toNat else MonadExcept.throw (HasTruncated.truncated p) : Reader DecodeError Nat) A p = _
    by_cases hi : p < A.size
    · rw [dif_pos hi, dif_pos hi]; rfl
    · rw [dif_neg hi, dif_neg hi]; rfl
  rw [e, dif_pos h3, h4]
theorem dk_bind {α β : Type} {r : Reader DecodeError α} {f : α → Reader DecodeError β} {A : ByteArray} {p s : Nat} {a : α} (h : r A p = .ok (a, s)) : (r >>= f) A p = f a A s := by
  show (do let (a, s) ← r A p; f a A s : Except DecodeError (β × Nat)) = _
  rw [h]
  rfl
theorem dk_map {α β : Type} {r : Reader DecodeError α} {g : α → β} {A : ByteArray} {p s : Nat} {a : α} (h : r A p = .ok (a, s)) : (g <$> r) A p = .ok (g a, s) := by
  show (do let (a, s) ← r A p; .ok (g a, s) : Except DecodeError (β × Nat)) = _
  rw [h]
  rfl
theorem dk_u2 {A : ByteArray} {p : Nat} {a b : UInt8} (h : A.data.toList[p]? = some a) (h2 : A.data.toList[p + 1]? = some b) : (Reader.u2 : Reader DecodeError Nat) A p = .ok (a.toNat * 256 + b.toNat, p + 2) := by
  show (Reader.u1 >>= fun hi => Reader.u1 >>= fun lo => Pure.pure (hi * 256 + lo) : Reader DecodeError Nat) A p = _
  rw [dk_bind (dk_u1 h), dk_bind (dk_u1 h2)]
  rfl
theorem dk_of {code : ByteArray} {pc n : Nat} {i : Instr} (h : Decoder.instr pc code pc = .ok (i, pc + n)) : decode code pc = .ok (i, n) := by
  have e : decode code pc = (match Decoder.instr pc code pc with | .error x => .error x | .ok (j, s) => .ok (j, s - pc)) := by
    show (do let (j, s) ← Decoder.instr pc code pc; Pure.pure (j, s - pc) : Except DecodeError (Instr × Nat)) = _
    cases Decoder.instr pc code pc <;> rfl
  rw [e, h]
  show Except.ok (i, pc + n - pc) = _
  rw [Nat.add_sub_cancel_left]
theorem dk_1 {code : ByteArray} {pc : Nat} (h : DkAt code pc [1]) : decode code pc = .ok (.aconst_null, 1) := dk_of ((dk_bind (dk_u1 (h 0 _ rfl))).trans rfl)
theorem dk_2 {code : ByteArray} {pc : Nat} (h : DkAt code pc [2]) : decode code pc = .ok (.iconst (-1), 1) := dk_of ((dk_bind (dk_u1 (h 0 _ rfl))).trans rfl)
theorem dk_3 {code : ByteArray} {pc : Nat} (h : DkAt code pc [3]) : decode code pc = .ok (.iconst 0, 1) := dk_of ((dk_bind (dk_u1 (h 0 _ rfl))).trans rfl)
theorem dk_4 {code : ByteArray} {pc : Nat} (h : DkAt code pc [4]) : decode code pc = .ok (.iconst 1, 1) := dk_of ((dk_bind (dk_u1 (h 0 _ rfl))).trans rfl)
theorem dk_5 {code : ByteArray} {pc : Nat} (h : DkAt code pc [5]) : decode code pc = .ok (.iconst 2, 1) := dk_of ((dk_bind (dk_u1 (h 0 _ rfl))).trans rfl)
theorem dk_6 {code : ByteArray} {pc : Nat} (h : DkAt code pc [6]) : decode code pc = .ok (.iconst 3, 1) := dk_of ((dk_bind (dk_u1 (h 0 _ rfl))).trans rfl)
theorem dk_7 {code : ByteArray} {pc : Nat} (h : DkAt code pc [7]) : decode code pc = .ok (.iconst 4, 1) := dk_of ((dk_bind (dk_u1 (h 0 _ rfl))).trans rfl)
theorem dk_8 {code : ByteArray} {pc : Nat} (h : DkAt code pc [8]) : decode code pc = .ok (.iconst 5, 1) := dk_of ((dk_bind (dk_u1 (h 0 _ rfl))).trans rfl)
theorem dk_9 {code : ByteArray} {pc : Nat} (h : DkAt code pc [9]) : decode code pc = .ok (.lconst 0, 1) := dk_of ((dk_bind (dk_u1 (h 0 _ rfl))).trans rfl)
theorem dk_10 {code : ByteArray} {pc : Nat} (h : DkAt code pc [10]) : decode code pc = .ok (.lconst 1, 1) := dk_of ((dk_bind (dk_u1 (h 0 _ rfl))).trans rfl)
theorem dk_16 {code : ByteArray} {pc : Nat} (a : UInt8) (h : DkAt code pc [16, a]) : decode code pc = .ok (.bipush (Reader.signed 8 a.toNat), 2) := dk_of ((dk_bind (dk_u1 (h 0 _ rfl))).trans ((dk_bind (dk_map (dk_u1 (h 1 _ rfl)))).trans rfl))
theorem dk_17 {code : ByteArray} {pc : Nat} (a b : UInt8) (h : DkAt code pc [17, a, b]) : decode code pc = .ok (.sipush (Reader.signed 16 (a.toNat * 256 + b.toNat)), 3) := dk_of ((dk_bind (dk_u1 (h 0 _ rfl))).trans ((dk_bind (dk_map (dk_u2 (h 1 _ rfl) (h 2 _ rfl)))).trans rfl))
theorem dk_18 {code : ByteArray} {pc : Nat} (a : UInt8) (h : DkAt code pc [18, a]) : decode code pc = .ok (.ldc a.toNat, 2) := dk_of ((dk_bind (dk_u1 (h 0 _ rfl))).trans ((dk_bind (dk_u1 (h 1 _ rfl))).trans rfl))
theorem dk_20 {code : ByteArray} {pc : Nat} (a b : UInt8) (h : DkAt code pc [20, a, b]) : decode code pc = .ok (.ldc2_w (a.toNat * 256 + b.toNat), 3) := dk_of ((dk_bind (dk_u1 (h 0 _ rfl))).trans ((dk_bind (dk_u2 (h 1 _ rfl) (h 2 _ rfl))).trans rfl))
theorem dk_21 {code : ByteArray} {pc : Nat} (a : UInt8) (h : DkAt code pc [21, a]) : decode code pc = .ok (.iload a.toNat, 2) := dk_of ((dk_bind (dk_u1 (h 0 _ rfl))).trans ((dk_bind (dk_u1 (h 1 _ rfl))).trans rfl))
theorem dk_22 {code : ByteArray} {pc : Nat} (a : UInt8) (h : DkAt code pc [22, a]) : decode code pc = .ok (.lload a.toNat, 2) := dk_of ((dk_bind (dk_u1 (h 0 _ rfl))).trans ((dk_bind (dk_u1 (h 1 _ rfl))).trans rfl))
theorem dk_25 {code : ByteArray} {pc : Nat} (a : UInt8) (h : DkAt code pc [25, a]) : decode code pc = .ok (.aload a.toNat, 2) := dk_of ((dk_bind (dk_u1 (h 0 _ rfl))).trans ((dk_bind (dk_u1 (h 1 _ rfl))).trans rfl))
theorem dk_26 {code : ByteArray} {pc : Nat} (h : DkAt code pc [26]) : decode code pc = .ok (.iload_n 0, 1) := dk_of ((dk_bind (dk_u1 (h 0 _ rfl))).trans rfl)
theorem dk_27 {code : ByteArray} {pc : Nat} (h : DkAt code pc [27]) : decode code pc = .ok (.iload_n 1, 1) := dk_of ((dk_bind (dk_u1 (h 0 _ rfl))).trans rfl)
theorem dk_28 {code : ByteArray} {pc : Nat} (h : DkAt code pc [28]) : decode code pc = .ok (.iload_n 2, 1) := dk_of ((dk_bind (dk_u1 (h 0 _ rfl))).trans rfl)
theorem dk_29 {code : ByteArray} {pc : Nat} (h : DkAt code pc [29]) : decode code pc = .ok (.iload_n 3, 1) := dk_of ((dk_bind (dk_u1 (h 0 _ rfl))).trans rfl)
theorem dk_30 {code : ByteArray} {pc : Nat} (h : DkAt code pc [30]) : decode code pc = .ok (.lload_n 0, 1) := dk_of ((dk_bind (dk_u1 (h 0 _ rfl))).trans rfl)
theorem dk_32 {code : ByteArray} {pc : Nat} (h : DkAt code pc [32]) : decode code pc = .ok (.lload_n 2, 1) := dk_of ((dk_bind (dk_u1 (h 0 _ rfl))).trans rfl)
theorem dk_42 {code : ByteArray} {pc : Nat} (h : DkAt code pc [42]) : decode code pc = .ok (.aload_n 0, 1) := dk_of ((dk_bind (dk_u1 (h 0 _ rfl))).trans rfl)
theorem dk_43 {code : ByteArray} {pc : Nat} (h : DkAt code pc [43]) : decode code pc = .ok (.aload_n 1, 1) := dk_of ((dk_bind (dk_u1 (h 0 _ rfl))).trans rfl)
theorem dk_44 {code : ByteArray} {pc : Nat} (h : DkAt code pc [44]) : decode code pc = .ok (.aload_n 2, 1) := dk_of ((dk_bind (dk_u1 (h 0 _ rfl))).trans rfl)
theorem dk_45 {code : ByteArray} {pc : Nat} (h : DkAt code pc [45]) : decode code pc = .ok (.aload_n 3, 1) := dk_of ((dk_bind (dk_u1 (h 0 _ rfl))).trans rfl)
theorem dk_46 {code : ByteArray} {pc : Nat} (h : DkAt code pc [46]) : decode code pc = .ok (.iaload, 1) := dk_of ((dk_bind (dk_u1 (h 0 _ rfl))).trans rfl)
theorem dk_50 {code : ByteArray} {pc : Nat} (h : DkAt code pc [50]) : decode code pc = .ok (.aaload, 1) := dk_of ((dk_bind (dk_u1 (h 0 _ rfl))).trans rfl)
theorem dk_51 {code : ByteArray} {pc : Nat} (h : DkAt code pc [51]) : decode code pc = .ok (.baload, 1) := dk_of ((dk_bind (dk_u1 (h 0 _ rfl))).trans rfl)
theorem dk_54 {code : ByteArray} {pc : Nat} (a : UInt8) (h : DkAt code pc [54, a]) : decode code pc = .ok (.istore a.toNat, 2) := dk_of ((dk_bind (dk_u1 (h 0 _ rfl))).trans ((dk_bind (dk_u1 (h 1 _ rfl))).trans rfl))
theorem dk_58 {code : ByteArray} {pc : Nat} (a : UInt8) (h : DkAt code pc [58, a]) : decode code pc = .ok (.astore a.toNat, 2) := dk_of ((dk_bind (dk_u1 (h 0 _ rfl))).trans ((dk_bind (dk_u1 (h 1 _ rfl))).trans rfl))
theorem dk_60 {code : ByteArray} {pc : Nat} (h : DkAt code pc [60]) : decode code pc = .ok (.istore_n 1, 1) := dk_of ((dk_bind (dk_u1 (h 0 _ rfl))).trans rfl)
theorem dk_61 {code : ByteArray} {pc : Nat} (h : DkAt code pc [61]) : decode code pc = .ok (.istore_n 2, 1) := dk_of ((dk_bind (dk_u1 (h 0 _ rfl))).trans rfl)
theorem dk_62 {code : ByteArray} {pc : Nat} (h : DkAt code pc [62]) : decode code pc = .ok (.istore_n 3, 1) := dk_of ((dk_bind (dk_u1 (h 0 _ rfl))).trans rfl)
theorem dk_65 {code : ByteArray} {pc : Nat} (h : DkAt code pc [65]) : decode code pc = .ok (.lstore_n 2, 1) := dk_of ((dk_bind (dk_u1 (h 0 _ rfl))).trans rfl)
theorem dk_76 {code : ByteArray} {pc : Nat} (h : DkAt code pc [76]) : decode code pc = .ok (.astore_n 1, 1) := dk_of ((dk_bind (dk_u1 (h 0 _ rfl))).trans rfl)
theorem dk_77 {code : ByteArray} {pc : Nat} (h : DkAt code pc [77]) : decode code pc = .ok (.astore_n 2, 1) := dk_of ((dk_bind (dk_u1 (h 0 _ rfl))).trans rfl)
theorem dk_78 {code : ByteArray} {pc : Nat} (h : DkAt code pc [78]) : decode code pc = .ok (.astore_n 3, 1) := dk_of ((dk_bind (dk_u1 (h 0 _ rfl))).trans rfl)
theorem dk_79 {code : ByteArray} {pc : Nat} (h : DkAt code pc [79]) : decode code pc = .ok (.iastore, 1) := dk_of ((dk_bind (dk_u1 (h 0 _ rfl))).trans rfl)
theorem dk_83 {code : ByteArray} {pc : Nat} (h : DkAt code pc [83]) : decode code pc = .ok (.aastore, 1) := dk_of ((dk_bind (dk_u1 (h 0 _ rfl))).trans rfl)
theorem dk_84 {code : ByteArray} {pc : Nat} (h : DkAt code pc [84]) : decode code pc = .ok (.bastore, 1) := dk_of ((dk_bind (dk_u1 (h 0 _ rfl))).trans rfl)
theorem dk_87 {code : ByteArray} {pc : Nat} (h : DkAt code pc [87]) : decode code pc = .ok (.pop, 1) := dk_of ((dk_bind (dk_u1 (h 0 _ rfl))).trans rfl)
theorem dk_89 {code : ByteArray} {pc : Nat} (h : DkAt code pc [89]) : decode code pc = .ok (.dup, 1) := dk_of ((dk_bind (dk_u1 (h 0 _ rfl))).trans rfl)
theorem dk_90 {code : ByteArray} {pc : Nat} (h : DkAt code pc [90]) : decode code pc = .ok (.dup_x1, 1) := dk_of ((dk_bind (dk_u1 (h 0 _ rfl))).trans rfl)
theorem dk_92 {code : ByteArray} {pc : Nat} (h : DkAt code pc [92]) : decode code pc = .ok (.dup2, 1) := dk_of ((dk_bind (dk_u1 (h 0 _ rfl))).trans rfl)
theorem dk_96 {code : ByteArray} {pc : Nat} (h : DkAt code pc [96]) : decode code pc = .ok (.iadd, 1) := dk_of ((dk_bind (dk_u1 (h 0 _ rfl))).trans rfl)
theorem dk_97 {code : ByteArray} {pc : Nat} (h : DkAt code pc [97]) : decode code pc = .ok (.ladd, 1) := dk_of ((dk_bind (dk_u1 (h 0 _ rfl))).trans rfl)
theorem dk_100 {code : ByteArray} {pc : Nat} (h : DkAt code pc [100]) : decode code pc = .ok (.isub, 1) := dk_of ((dk_bind (dk_u1 (h 0 _ rfl))).trans rfl)
theorem dk_101 {code : ByteArray} {pc : Nat} (h : DkAt code pc [101]) : decode code pc = .ok (.lsub, 1) := dk_of ((dk_bind (dk_u1 (h 0 _ rfl))).trans rfl)
theorem dk_104 {code : ByteArray} {pc : Nat} (h : DkAt code pc [104]) : decode code pc = .ok (.imul, 1) := dk_of ((dk_bind (dk_u1 (h 0 _ rfl))).trans rfl)
theorem dk_105 {code : ByteArray} {pc : Nat} (h : DkAt code pc [105]) : decode code pc = .ok (.lmul, 1) := dk_of ((dk_bind (dk_u1 (h 0 _ rfl))).trans rfl)
theorem dk_108 {code : ByteArray} {pc : Nat} (h : DkAt code pc [108]) : decode code pc = .ok (.idiv, 1) := dk_of ((dk_bind (dk_u1 (h 0 _ rfl))).trans rfl)
theorem dk_109 {code : ByteArray} {pc : Nat} (h : DkAt code pc [109]) : decode code pc = .ok (.ldiv, 1) := dk_of ((dk_bind (dk_u1 (h 0 _ rfl))).trans rfl)
theorem dk_112 {code : ByteArray} {pc : Nat} (h : DkAt code pc [112]) : decode code pc = .ok (.irem, 1) := dk_of ((dk_bind (dk_u1 (h 0 _ rfl))).trans rfl)
theorem dk_113 {code : ByteArray} {pc : Nat} (h : DkAt code pc [113]) : decode code pc = .ok (.lrem, 1) := dk_of ((dk_bind (dk_u1 (h 0 _ rfl))).trans rfl)
theorem dk_116 {code : ByteArray} {pc : Nat} (h : DkAt code pc [116]) : decode code pc = .ok (.ineg, 1) := dk_of ((dk_bind (dk_u1 (h 0 _ rfl))).trans rfl)
theorem dk_120 {code : ByteArray} {pc : Nat} (h : DkAt code pc [120]) : decode code pc = .ok (.ishl, 1) := dk_of ((dk_bind (dk_u1 (h 0 _ rfl))).trans rfl)
theorem dk_122 {code : ByteArray} {pc : Nat} (h : DkAt code pc [122]) : decode code pc = .ok (.ishr, 1) := dk_of ((dk_bind (dk_u1 (h 0 _ rfl))).trans rfl)
theorem dk_126 {code : ByteArray} {pc : Nat} (h : DkAt code pc [126]) : decode code pc = .ok (.iand, 1) := dk_of ((dk_bind (dk_u1 (h 0 _ rfl))).trans rfl)
theorem dk_128 {code : ByteArray} {pc : Nat} (h : DkAt code pc [128]) : decode code pc = .ok (.ior, 1) := dk_of ((dk_bind (dk_u1 (h 0 _ rfl))).trans rfl)
theorem dk_132 {code : ByteArray} {pc : Nat} (a b : UInt8) (h : DkAt code pc [132, a, b]) : decode code pc = .ok (.iinc a.toNat (Reader.signed 8 b.toNat), 3) := dk_of ((dk_bind (dk_u1 (h 0 _ rfl))).trans ((dk_bind (dk_u1 (h 1 _ rfl))).trans ((dk_bind (dk_map (dk_u1 (h 2 _ rfl)))).trans rfl)))
theorem dk_133 {code : ByteArray} {pc : Nat} (h : DkAt code pc [133]) : decode code pc = .ok (.i2l, 1) := dk_of ((dk_bind (dk_u1 (h 0 _ rfl))).trans rfl)
theorem dk_136 {code : ByteArray} {pc : Nat} (h : DkAt code pc [136]) : decode code pc = .ok (.l2i, 1) := dk_of ((dk_bind (dk_u1 (h 0 _ rfl))).trans rfl)
theorem dk_145 {code : ByteArray} {pc : Nat} (h : DkAt code pc [145]) : decode code pc = .ok (.i2b, 1) := dk_of ((dk_bind (dk_u1 (h 0 _ rfl))).trans rfl)
theorem dk_146 {code : ByteArray} {pc : Nat} (h : DkAt code pc [146]) : decode code pc = .ok (.i2c, 1) := dk_of ((dk_bind (dk_u1 (h 0 _ rfl))).trans rfl)
theorem dk_148 {code : ByteArray} {pc : Nat} (h : DkAt code pc [148]) : decode code pc = .ok (.lcmp, 1) := dk_of ((dk_bind (dk_u1 (h 0 _ rfl))).trans rfl)
theorem dk_153 {code : ByteArray} {pc : Nat} (a b : UInt8) (h : DkAt code pc [153, a, b]) : decode code pc = .ok (.ifCond .eq (Reader.signed 16 (a.toNat * 256 + b.toNat)), 3) := dk_of ((dk_bind (dk_u1 (h 0 _ rfl))).trans ((dk_bind (dk_map (dk_u2 (h 1 _ rfl) (h 2 _ rfl)))).trans rfl))
theorem dk_154 {code : ByteArray} {pc : Nat} (a b : UInt8) (h : DkAt code pc [154, a, b]) : decode code pc = .ok (.ifCond .ne (Reader.signed 16 (a.toNat * 256 + b.toNat)), 3) := dk_of ((dk_bind (dk_u1 (h 0 _ rfl))).trans ((dk_bind (dk_map (dk_u2 (h 1 _ rfl) (h 2 _ rfl)))).trans rfl))
theorem dk_155 {code : ByteArray} {pc : Nat} (a b : UInt8) (h : DkAt code pc [155, a, b]) : decode code pc = .ok (.ifCond .lt (Reader.signed 16 (a.toNat * 256 + b.toNat)), 3) := dk_of ((dk_bind (dk_u1 (h 0 _ rfl))).trans ((dk_bind (dk_map (dk_u2 (h 1 _ rfl) (h 2 _ rfl)))).trans rfl))
theorem dk_156 {code : ByteArray} {pc : Nat} (a b : UInt8) (h : DkAt code pc [156, a, b]) : decode code pc = .ok (.ifCond .ge (Reader.signed 16 (a.toNat * 256 + b.toNat)), 3) := dk_of ((dk_bind (dk_u1 (h 0 _ rfl))).trans ((dk_bind (dk_map (dk_u2 (h 1 _ rfl) (h 2 _ rfl)))).trans rfl))
theorem dk_157 {code : ByteArray} {pc : Nat} (a b : UInt8) (h : DkAt code pc [157, a, b]) : decode code pc = .ok (.ifCond .gt (Reader.signed 16 (a.toNat * 256 + b.toNat)), 3) := dk_of ((dk_bind (dk_u1 (h 0 _ rfl))).trans ((dk_bind (dk_map (dk_u2 (h 1 _ rfl) (h 2 _ rfl)))).trans rfl))
theorem dk_158 {code : ByteArray} {pc : Nat} (a b : UInt8) (h : DkAt code pc [158, a, b]) : decode code pc = .ok (.ifCond .le (Reader.signed 16 (a.toNat * 256 + b.toNat)), 3) := dk_of ((dk_bind (dk_u1 (h 0 _ rfl))).trans ((dk_bind (dk_map (dk_u2 (h 1 _ rfl) (h 2 _ rfl)))).trans rfl))
theorem dk_159 {code : ByteArray} {pc : Nat} (a b : UInt8) (h : DkAt code pc [159, a, b]) : decode code pc = .ok (.if_icmp .eq (Reader.signed 16 (a.toNat * 256 + b.toNat)), 3) := dk_of ((dk_bind (dk_u1 (h 0 _ rfl))).trans ((dk_bind (dk_map (dk_u2 (h 1 _ rfl) (h 2 _ rfl)))).trans rfl))
theorem dk_160 {code : ByteArray} {pc : Nat} (a b : UInt8) (h : DkAt code pc [160, a, b]) : decode code pc = .ok (.if_icmp .ne (Reader.signed 16 (a.toNat * 256 + b.toNat)), 3) := dk_of ((dk_bind (dk_u1 (h 0 _ rfl))).trans ((dk_bind (dk_map (dk_u2 (h 1 _ rfl) (h 2 _ rfl)))).trans rfl))
theorem dk_161 {code : ByteArray} {pc : Nat} (a b : UInt8) (h : DkAt code pc [161, a, b]) : decode code pc = .ok (.if_icmp .lt (Reader.signed 16 (a.toNat * 256 + b.toNat)), 3) := dk_of ((dk_bind (dk_u1 (h 0 _ rfl))).trans ((dk_bind (dk_map (dk_u2 (h 1 _ rfl) (h 2 _ rfl)))).trans rfl))
theorem dk_162 {code : ByteArray} {pc : Nat} (a b : UInt8) (h : DkAt code pc [162, a, b]) : decode code pc = .ok (.if_icmp .ge (Reader.signed 16 (a.toNat * 256 + b.toNat)), 3) := dk_of ((dk_bind (dk_u1 (h 0 _ rfl))).trans ((dk_bind (dk_map (dk_u2 (h 1 _ rfl) (h 2 _ rfl)))).trans rfl))
theorem dk_163 {code : ByteArray} {pc : Nat} (a b : UInt8) (h : DkAt code pc [163, a, b]) : decode code pc = .ok (.if_icmp .gt (Reader.signed 16 (a.toNat * 256 + b.toNat)), 3) := dk_of ((dk_bind (dk_u1 (h 0 _ rfl))).trans ((dk_bind (dk_map (dk_u2 (h 1 _ rfl) (h 2 _ rfl)))).trans rfl))
theorem dk_164 {code : ByteArray} {pc : Nat} (a b : UInt8) (h : DkAt code pc [164, a, b]) : decode code pc = .ok (.if_icmp .le (Reader.signed 16 (a.toNat * 256 + b.toNat)), 3) := dk_of ((dk_bind (dk_u1 (h 0 _ rfl))).trans ((dk_bind (dk_map (dk_u2 (h 1 _ rfl) (h 2 _ rfl)))).trans rfl))
theorem dk_165 {code : ByteArray} {pc : Nat} (a b : UInt8) (h : DkAt code pc [165, a, b]) : decode code pc = .ok (.if_acmp .eq (Reader.signed 16 (a.toNat * 256 + b.toNat)), 3) := dk_of ((dk_bind (dk_u1 (h 0 _ rfl))).trans ((dk_bind (dk_map (dk_u2 (h 1 _ rfl) (h 2 _ rfl)))).trans rfl))
theorem dk_166 {code : ByteArray} {pc : Nat} (a b : UInt8) (h : DkAt code pc [166, a, b]) : decode code pc = .ok (.if_acmp .ne (Reader.signed 16 (a.toNat * 256 + b.toNat)), 3) := dk_of ((dk_bind (dk_u1 (h 0 _ rfl))).trans ((dk_bind (dk_map (dk_u2 (h 1 _ rfl) (h 2 _ rfl)))).trans rfl))
theorem dk_167 {code : ByteArray} {pc : Nat} (a b : UInt8) (h : DkAt code pc [167, a, b]) : decode code pc = .ok (.goto (Reader.signed 16 (a.toNat * 256 + b.toNat)), 3) := dk_of ((dk_bind (dk_u1 (h 0 _ rfl))).trans ((dk_bind (dk_map (dk_u2 (h 1 _ rfl) (h 2 _ rfl)))).trans rfl))
theorem dk_172 {code : ByteArray} {pc : Nat} (h : DkAt code pc [172]) : decode code pc = .ok (.ireturn, 1) := dk_of ((dk_bind (dk_u1 (h 0 _ rfl))).trans rfl)
theorem dk_176 {code : ByteArray} {pc : Nat} (h : DkAt code pc [176]) : decode code pc = .ok (.areturn, 1) := dk_of ((dk_bind (dk_u1 (h 0 _ rfl))).trans rfl)
theorem dk_177 {code : ByteArray} {pc : Nat} (h : DkAt code pc [177]) : decode code pc = .ok (.return_, 1) := dk_of ((dk_bind (dk_u1 (h 0 _ rfl))).trans rfl)
theorem dk_178 {code : ByteArray} {pc : Nat} (a b : UInt8) (h : DkAt code pc [178, a, b]) : decode code pc = .ok (.getstatic (a.toNat * 256 + b.toNat), 3) := dk_of ((dk_bind (dk_u1 (h 0 _ rfl))).trans ((dk_bind (dk_u2 (h 1 _ rfl) (h 2 _ rfl))).trans rfl))
theorem dk_180 {code : ByteArray} {pc : Nat} (a b : UInt8) (h : DkAt code pc [180, a, b]) : decode code pc = .ok (.getfield (a.toNat * 256 + b.toNat), 3) := dk_of ((dk_bind (dk_u1 (h 0 _ rfl))).trans ((dk_bind (dk_u2 (h 1 _ rfl) (h 2 _ rfl))).trans rfl))
theorem dk_181 {code : ByteArray} {pc : Nat} (a b : UInt8) (h : DkAt code pc [181, a, b]) : decode code pc = .ok (.putfield (a.toNat * 256 + b.toNat), 3) := dk_of ((dk_bind (dk_u1 (h 0 _ rfl))).trans ((dk_bind (dk_u2 (h 1 _ rfl) (h 2 _ rfl))).trans rfl))
theorem dk_182 {code : ByteArray} {pc : Nat} (a b : UInt8) (h : DkAt code pc [182, a, b]) : decode code pc = .ok (.invokevirtual (a.toNat * 256 + b.toNat), 3) := dk_of ((dk_bind (dk_u1 (h 0 _ rfl))).trans ((dk_bind (dk_u2 (h 1 _ rfl) (h 2 _ rfl))).trans rfl))
theorem dk_183 {code : ByteArray} {pc : Nat} (a b : UInt8) (h : DkAt code pc [183, a, b]) : decode code pc = .ok (.invokespecial (a.toNat * 256 + b.toNat), 3) := dk_of ((dk_bind (dk_u1 (h 0 _ rfl))).trans ((dk_bind (dk_u2 (h 1 _ rfl) (h 2 _ rfl))).trans rfl))
theorem dk_184 {code : ByteArray} {pc : Nat} (a b : UInt8) (h : DkAt code pc [184, a, b]) : decode code pc = .ok (.invokestatic (a.toNat * 256 + b.toNat), 3) := dk_of ((dk_bind (dk_u1 (h 0 _ rfl))).trans ((dk_bind (dk_u2 (h 1 _ rfl) (h 2 _ rfl))).trans rfl))
theorem dk_187 {code : ByteArray} {pc : Nat} (a b : UInt8) (h : DkAt code pc [187, a, b]) : decode code pc = .ok (.new (a.toNat * 256 + b.toNat), 3) := dk_of ((dk_bind (dk_u1 (h 0 _ rfl))).trans ((dk_bind (dk_u2 (h 1 _ rfl) (h 2 _ rfl))).trans rfl))
theorem dk_188_4 {code : ByteArray} {pc : Nat} (h : DkAt code pc [188, 4]) : decode code pc = .ok (.newarray .boolean, 2) := dk_of ((dk_bind (dk_u1 (h 0 _ rfl))).trans ((dk_bind (dk_u1 (h 1 _ rfl))).trans rfl))
theorem dk_188_8 {code : ByteArray} {pc : Nat} (h : DkAt code pc [188, 8]) : decode code pc = .ok (.newarray .byte, 2) := dk_of ((dk_bind (dk_u1 (h 0 _ rfl))).trans ((dk_bind (dk_u1 (h 1 _ rfl))).trans rfl))
theorem dk_188_10 {code : ByteArray} {pc : Nat} (h : DkAt code pc [188, 10]) : decode code pc = .ok (.newarray .int, 2) := dk_of ((dk_bind (dk_u1 (h 0 _ rfl))).trans ((dk_bind (dk_u1 (h 1 _ rfl))).trans rfl))
theorem dk_189 {code : ByteArray} {pc : Nat} (a b : UInt8) (h : DkAt code pc [189, a, b]) : decode code pc = .ok (.anewarray (a.toNat * 256 + b.toNat), 3) := dk_of ((dk_bind (dk_u1 (h 0 _ rfl))).trans ((dk_bind (dk_u2 (h 1 _ rfl) (h 2 _ rfl))).trans rfl))
theorem dk_190 {code : ByteArray} {pc : Nat} (h : DkAt code pc [190]) : decode code pc = .ok (.arraylength, 1) := dk_of ((dk_bind (dk_u1 (h 0 _ rfl))).trans rfl)
theorem dk_191 {code : ByteArray} {pc : Nat} (h : DkAt code pc [191]) : decode code pc = .ok (.athrow, 1) := dk_of ((dk_bind (dk_u1 (h 0 _ rfl))).trans rfl)
theorem dk_192 {code : ByteArray} {pc : Nat} (a b : UInt8) (h : DkAt code pc [192, a, b]) : decode code pc = .ok (.checkcast (a.toNat * 256 + b.toNat), 3) := dk_of ((dk_bind (dk_u1 (h 0 _ rfl))).trans ((dk_bind (dk_u2 (h 1 _ rfl) (h 2 _ rfl))).trans rfl))

theorem q87 : (Jvm.Cond.initialized "TideKeepLaw") ∈ lw_all := lw_g (lw_at lw_m1 0 rfl) rfl
set_option maxRecDepth 100000
theorem q118 : (Jvm.Cond.classLink "TideKeepLaw" (7 : Nat) "TideKeep") ∈ lw_all := lw_g (lw_at lw_m1 31 rfl) rfl
theorem q120 : (Jvm.Cond.methodLink "TideKeepLaw" (9 : Nat) ({ cls := "TideKeep", name := "<init>", desc := "()V" } : Jvm.MethodName)) ∈ lw_all := lw_g (lw_at lw_m1 33 rfl) rfl
theorem q531 : (Jvm.Cond.methodLink "TideKeepLaw" (13 : Nat) ({ cls := "TideKeep", name := "feed", desc := "(IIIII)I" } : Jvm.MethodName)) ∈ lw_all := lw_g (lw_at lw_m2 204 rfl) rfl
theorem q539 : (Jvm.Cond.methodLink "TideKeepLaw" (18 : Nat) ({ cls := "TideKeep", name := "end", desc := "(I)I" } : Jvm.MethodName)) ∈ lw_all := lw_g (lw_at lw_m2 212 rfl) rfl
theorem q543 : (Jvm.Cond.methodLink "TideKeepLaw" (23 : Nat) ({ cls := "TideKeep", name := "beach", desc := "()I" } : Jvm.MethodName)) ∈ lw_all := lw_g (lw_at lw_m2 216 rfl) rfl
theorem q950 : (Jvm.Cond.methodLink "TideKeepLaw" (28 : Nat) ({ cls := "TideKeep", name := "sea", desc := "()I" } : Jvm.MethodName)) ∈ lw_all := lw_g (lw_at lw_m4 143 rfl) rfl
theorem q983 : (Jvm.Cond.methodLink "TideKeepLaw" (32 : Nat) ({ cls := "TideKeep", name := "plan", desc := "()I" } : Jvm.MethodName)) ∈ lw_all := lw_g (lw_at lw_m4 176 rfl) rfl
theorem q1030 : (Jvm.Cond.methodLink "TideKeepLaw" (36 : Nat) ({ cls := "TideKeep", name := "fault", desc := "(I)I" } : Jvm.MethodName)) ∈ lw_all := lw_g (lw_at lw_m4 223 rfl) rfl
theorem q1034 : (Jvm.Cond.methodLink "TideKeepLaw" (40 : Nat) ({ cls := "TideKeep", name := "told", desc := "(I)I" } : Jvm.MethodName)) ∈ lw_all := lw_g (lw_at lw_m4 227 rfl) rfl
theorem q1039 : (Jvm.Cond.methodLink "TideKeepLaw" (44 : Nat) ({ cls := "TideKeep", name := "wave", desc := "(II)I" } : Jvm.MethodName)) ∈ lw_all := lw_g (lw_at lw_m4 232 rfl) rfl
theorem q1056 : (Jvm.Cond.methodLink "TideKeepLaw" (49 : Nat) ({ cls := "TideKeep", name := "act", desc := "(IIII)I" } : Jvm.MethodName)) ∈ lw_all := lw_g (lw_at lw_m5 9 rfl) rfl
theorem q1067 : (Jvm.Cond.methodLink "TideKeepLaw" (54 : Nat) ({ cls := "TideKeep", name := "chance", desc := "(I)I" } : Jvm.MethodName)) ∈ lw_all := lw_g (lw_at lw_m5 20 rfl) rfl
theorem q1071 : (Jvm.Cond.methodLink "TideKeepLaw" (58 : Nat) ({ cls := "TideKeep", name := "work", desc := "(I)I" } : Jvm.MethodName)) ∈ lw_all := lw_g (lw_at lw_m5 24 rfl) rfl
theorem q1076 : (Jvm.Cond.methodLink "TideKeepLaw" (62 : Nat) ({ cls := "TideKeep", name := "pass", desc := "(I)I" } : Jvm.MethodName)) ∈ lw_all := lw_g (lw_at lw_m5 29 rfl) rfl
theorem q1172 : (Jvm.Cond.methodLink "TideKeepLaw" (66 : Nat) ({ cls := "TideKeep", name := "cell", desc := "(III)I" } : Jvm.MethodName)) ∈ lw_all := lw_g (lw_at lw_m5 125 rfl) rfl
theorem q1181 : (Jvm.Cond.methodLink "TideKeepLaw" (71 : Nat) ({ cls := "TideKeep", name := "flag", desc := "(II)I" } : Jvm.MethodName)) ∈ lw_all := lw_g (lw_at lw_m5 134 rfl) rfl
theorem q1189 : (Jvm.Cond.methodLink "TideKeepLaw" (75 : Nat) ({ cls := "TideKeep", name := "sum", desc := "(I)I" } : Jvm.MethodName)) ∈ lw_all := lw_g (lw_at lw_m5 142 rfl) rfl
theorem q1197 : (Jvm.Cond.methodLink "TideKeepLaw" (79 : Nat) ({ cls := "TideKeep", name := "keep", desc := "(I)I" } : Jvm.MethodName)) ∈ lw_all := lw_g (lw_at lw_m5 150 rfl) rfl
theorem q1208 : (Jvm.Cond.methodLink "TideKeepLaw" (83 : Nat) ({ cls := "TideKeep", name := "take", desc := "(I)I" } : Jvm.MethodName)) ∈ lw_all := lw_g (lw_at lw_m5 161 rfl) rfl
theorem q1212 : (Jvm.Cond.methodLink "TideKeepLaw" (87 : Nat) ({ cls := "TideKeep", name := "holds", desc := "(II)I" } : Jvm.MethodName)) ∈ lw_all := lw_g (lw_at lw_m5 165 rfl) rfl
theorem q1220 : (Jvm.Cond.methodLink "TideKeepLaw" (91 : Nat) ({ cls := "TideKeep", name := "high", desc := "(III)I" } : Jvm.MethodName)) ∈ lw_all := lw_g (lw_at lw_m5 173 rfl) rfl
theorem q1224 : (Jvm.Cond.methodLink "TideKeepLaw" (95 : Nat) ({ cls := "TideKeep", name := "spill", desc := "(IIII)I" } : Jvm.MethodName)) ∈ lw_all := lw_g (lw_at lw_m5 177 rfl) rfl
theorem q1233 : (Jvm.Cond.methodLink "TideKeepLaw" (99 : Nat) ({ cls := "TideKeep", name := "trial", desc := "(IIII)I" } : Jvm.MethodName)) ∈ lw_all := lw_g (lw_at lw_m5 186 rfl) rfl
theorem q1237 : (Jvm.Cond.methodLink "TideKeepLaw" (103 : Nat) ({ cls := "TideKeep", name := "right", desc := "(III)I" } : Jvm.MethodName)) ∈ lw_all := lw_g (lw_at lw_m5 190 rfl) rfl
theorem q1241 : (Jvm.Cond.methodLink "TideKeepLaw" (107 : Nat) ({ cls := "TideKeep", name := "humps", desc := "(II)I" } : Jvm.MethodName)) ∈ lw_all := lw_g (lw_at lw_m5 194 rfl) rfl
theorem q1263 : (Jvm.Cond.methodLink "TideKeepLaw" (111 : Nat) ({ cls := "TideKeep", name := "next", desc := "()I" } : Jvm.MethodName)) ∈ lw_all := lw_g (lw_at lw_m5 216 rfl) rfl
theorem q1268 : (Jvm.Cond.methodLink "TideKeepLaw" (115 : Nat) ({ cls := "TideKeep", name := "last", desc := "(IIII)I" } : Jvm.MethodName)) ∈ lw_all := lw_g (lw_at lw_m5 221 rfl) rfl
theorem q1287 : (Jvm.Cond.methodLink "TideKeepLaw" (119 : Nat) ({ cls := "TideKeep", name := "pail", desc := "(III)I" } : Jvm.MethodName)) ∈ lw_all := lw_g (lw_at lw_m6 0 rfl) rfl
theorem q1305 : (Jvm.Cond.methodLink "TideKeepLaw" (123 : Nat) ({ cls := "TideKeep", name := "row", desc := "(IIII)I" } : Jvm.MethodName)) ∈ lw_all := lw_g (lw_at lw_m6 18 rfl) rfl
theorem q1309 : (Jvm.Cond.methodLink "TideKeepLaw" (127 : Nat) ({ cls := "TideKeep", name := "again", desc := "(III)I" } : Jvm.MethodName)) ∈ lw_all := lw_g (lw_at lw_m6 22 rfl) rfl
theorem q1313 : (Jvm.Cond.methodLink "TideKeepLaw" (131 : Nat) ({ cls := "TideKeep", name := "stand", desc := "(III)I" } : Jvm.MethodName)) ∈ lw_all := lw_g (lw_at lw_m6 26 rfl) rfl
theorem q1326 : (Jvm.Cond.methodLink "TideKeepLaw" (135 : Nat) ({ cls := "TideKeep", name := "outlasts", desc := "(IIIIZ)I" } : Jvm.MethodName)) ∈ lw_all := lw_g (lw_at lw_m6 39 rfl) rfl
theorem q1333 : (Jvm.Cond.methodLink "TideKeepLaw" (140 : Nat) ({ cls := "TideKeep", name := "contest", desc := "(III)I" } : Jvm.MethodName)) ∈ lw_all := lw_g (lw_at lw_m6 46 rfl) rfl
theorem q1337 : (Jvm.Cond.methodLink "TideKeepLaw" (144 : Nat) ({ cls := "TideKeep", name := "which", desc := "()I" } : Jvm.MethodName)) ∈ lw_all := lw_g (lw_at lw_m6 50 rfl) rfl
theorem q1343 : (Jvm.Cond.methodLink "TideKeepLaw" (148 : Nat) ({ cls := "TideKeep", name := "join", desc := "(IIIIII)I" } : Jvm.MethodName)) ∈ lw_all := lw_g (lw_at lw_m6 56 rfl) rfl
theorem q1353 : (Jvm.Cond.methodLink "TideKeepLaw" (153 : Nat) ({ cls := "TideKeep", name := "count", desc := "(I)I" } : Jvm.MethodName)) ∈ lw_all := lw_g (lw_at lw_m6 66 rfl) rfl
theorem q1357 : (Jvm.Cond.classLink "TideKeepLaw" (10 : Nat) "TideKeepModel") ∈ lw_all := lw_g (lw_at lw_m6 70 rfl) rfl
theorem q1359 : (Jvm.Cond.methodLink "TideKeepLaw" (12 : Nat) ({ cls := "TideKeepModel", name := "<init>", desc := "()V" } : Jvm.MethodName)) ∈ lw_all := lw_g (lw_at lw_m6 72 rfl) rfl
theorem q1557 : (Jvm.Cond.methodLink "TideKeepLaw" (17 : Nat) ({ cls := "TideKeepModel", name := "feed", desc := "(IIIII)I" } : Jvm.MethodName)) ∈ lw_all := lw_g (lw_at lw_m7 30 rfl) rfl
theorem q1565 : (Jvm.Cond.methodLink "TideKeepLaw" (22 : Nat) ({ cls := "TideKeepModel", name := "end", desc := "(I)I" } : Jvm.MethodName)) ∈ lw_all := lw_g (lw_at lw_m7 38 rfl) rfl
theorem q1572 : (Jvm.Cond.methodLink "TideKeepLaw" (27 : Nat) ({ cls := "TideKeepModel", name := "beach", desc := "()I" } : Jvm.MethodName)) ∈ lw_all := lw_g (lw_at lw_m7 45 rfl) rfl
theorem q1665 : (Jvm.Cond.methodLink "TideKeepLaw" (31 : Nat) ({ cls := "TideKeepModel", name := "sea", desc := "()I" } : Jvm.MethodName)) ∈ lw_all := lw_g (lw_at lw_m7 138 rfl) rfl
theorem q1694 : (Jvm.Cond.methodLink "TideKeepLaw" (35 : Nat) ({ cls := "TideKeepModel", name := "plan", desc := "()I" } : Jvm.MethodName)) ∈ lw_all := lw_g (lw_at lw_m7 167 rfl) rfl
theorem q1723 : (Jvm.Cond.methodLink "TideKeepLaw" (39 : Nat) ({ cls := "TideKeepModel", name := "fault", desc := "(I)I" } : Jvm.MethodName)) ∈ lw_all := lw_g (lw_at lw_m7 196 rfl) rfl
theorem q1727 : (Jvm.Cond.methodLink "TideKeepLaw" (43 : Nat) ({ cls := "TideKeepModel", name := "told", desc := "(I)I" } : Jvm.MethodName)) ∈ lw_all := lw_g (lw_at lw_m7 200 rfl) rfl
theorem q1735 : (Jvm.Cond.methodLink "TideKeepLaw" (48 : Nat) ({ cls := "TideKeepModel", name := "wave", desc := "(II)I" } : Jvm.MethodName)) ∈ lw_all := lw_g (lw_at lw_m7 208 rfl) rfl
theorem q1739 : (Jvm.Cond.methodLink "TideKeepLaw" (53 : Nat) ({ cls := "TideKeepModel", name := "act", desc := "(IIII)I" } : Jvm.MethodName)) ∈ lw_all := lw_g (lw_at lw_m7 212 rfl) rfl
theorem q1747 : (Jvm.Cond.methodLink "TideKeepLaw" (57 : Nat) ({ cls := "TideKeepModel", name := "chance", desc := "(I)I" } : Jvm.MethodName)) ∈ lw_all := lw_g (lw_at lw_m7 220 rfl) rfl
theorem q1751 : (Jvm.Cond.methodLink "TideKeepLaw" (61 : Nat) ({ cls := "TideKeepModel", name := "work", desc := "(I)I" } : Jvm.MethodName)) ∈ lw_all := lw_g (lw_at lw_m7 224 rfl) rfl
theorem q1758 : (Jvm.Cond.methodLink "TideKeepLaw" (65 : Nat) ({ cls := "TideKeepModel", name := "pass", desc := "(I)I" } : Jvm.MethodName)) ∈ lw_all := lw_g (lw_at lw_m7 231 rfl) rfl
theorem q1825 : (Jvm.Cond.methodLink "TideKeepLaw" (70 : Nat) ({ cls := "TideKeepModel", name := "cell", desc := "(III)I" } : Jvm.MethodName)) ∈ lw_all := lw_g (lw_at lw_m8 58 rfl) rfl
theorem q1830 : (Jvm.Cond.methodLink "TideKeepLaw" (74 : Nat) ({ cls := "TideKeepModel", name := "flag", desc := "(II)I" } : Jvm.MethodName)) ∈ lw_all := lw_g (lw_at lw_m8 63 rfl) rfl
theorem q1839 : (Jvm.Cond.methodLink "TideKeepLaw" (78 : Nat) ({ cls := "TideKeepModel", name := "sum", desc := "(I)I" } : Jvm.MethodName)) ∈ lw_all := lw_g (lw_at lw_m8 72 rfl) rfl
theorem q1843 : (Jvm.Cond.methodLink "TideKeepLaw" (82 : Nat) ({ cls := "TideKeepModel", name := "keep", desc := "(I)I" } : Jvm.MethodName)) ∈ lw_all := lw_g (lw_at lw_m8 76 rfl) rfl
theorem q1850 : (Jvm.Cond.methodLink "TideKeepLaw" (86 : Nat) ({ cls := "TideKeepModel", name := "take", desc := "(I)I" } : Jvm.MethodName)) ∈ lw_all := lw_g (lw_at lw_m8 83 rfl) rfl
theorem q1854 : (Jvm.Cond.methodLink "TideKeepLaw" (90 : Nat) ({ cls := "TideKeepModel", name := "holds", desc := "(II)I" } : Jvm.MethodName)) ∈ lw_all := lw_g (lw_at lw_m8 87 rfl) rfl
theorem q1861 : (Jvm.Cond.methodLink "TideKeepLaw" (94 : Nat) ({ cls := "TideKeepModel", name := "high", desc := "(III)I" } : Jvm.MethodName)) ∈ lw_all := lw_g (lw_at lw_m8 94 rfl) rfl
theorem q1866 : (Jvm.Cond.methodLink "TideKeepLaw" (98 : Nat) ({ cls := "TideKeepModel", name := "spill", desc := "(IIII)I" } : Jvm.MethodName)) ∈ lw_all := lw_g (lw_at lw_m8 99 rfl) rfl
theorem q1872 : (Jvm.Cond.methodLink "TideKeepLaw" (102 : Nat) ({ cls := "TideKeepModel", name := "trial", desc := "(IIII)I" } : Jvm.MethodName)) ∈ lw_all := lw_g (lw_at lw_m8 105 rfl) rfl
theorem q1883 : (Jvm.Cond.methodLink "TideKeepLaw" (106 : Nat) ({ cls := "TideKeepModel", name := "right", desc := "(III)I" } : Jvm.MethodName)) ∈ lw_all := lw_g (lw_at lw_m8 116 rfl) rfl
theorem q1887 : (Jvm.Cond.methodLink "TideKeepLaw" (110 : Nat) ({ cls := "TideKeepModel", name := "humps", desc := "(II)I" } : Jvm.MethodName)) ∈ lw_all := lw_g (lw_at lw_m8 120 rfl) rfl
theorem q1902 : (Jvm.Cond.methodLink "TideKeepLaw" (114 : Nat) ({ cls := "TideKeepModel", name := "next", desc := "()I" } : Jvm.MethodName)) ∈ lw_all := lw_g (lw_at lw_m8 135 rfl) rfl
theorem q1906 : (Jvm.Cond.methodLink "TideKeepLaw" (118 : Nat) ({ cls := "TideKeepModel", name := "last", desc := "(IIII)I" } : Jvm.MethodName)) ∈ lw_all := lw_g (lw_at lw_m8 139 rfl) rfl
theorem q1922 : (Jvm.Cond.methodLink "TideKeepLaw" (122 : Nat) ({ cls := "TideKeepModel", name := "pail", desc := "(III)I" } : Jvm.MethodName)) ∈ lw_all := lw_g (lw_at lw_m8 155 rfl) rfl
theorem q1942 : (Jvm.Cond.methodLink "TideKeepLaw" (126 : Nat) ({ cls := "TideKeepModel", name := "row", desc := "(IIII)I" } : Jvm.MethodName)) ∈ lw_all := lw_g (lw_at lw_m8 175 rfl) rfl
theorem q1946 : (Jvm.Cond.methodLink "TideKeepLaw" (130 : Nat) ({ cls := "TideKeepModel", name := "again", desc := "(III)I" } : Jvm.MethodName)) ∈ lw_all := lw_g (lw_at lw_m8 179 rfl) rfl
theorem q1954 : (Jvm.Cond.methodLink "TideKeepLaw" (134 : Nat) ({ cls := "TideKeepModel", name := "stand", desc := "(III)I" } : Jvm.MethodName)) ∈ lw_all := lw_g (lw_at lw_m8 187 rfl) rfl
theorem q1962 : (Jvm.Cond.methodLink "TideKeepLaw" (139 : Nat) ({ cls := "TideKeepModel", name := "outlasts", desc := "(IIIIZ)I" } : Jvm.MethodName)) ∈ lw_all := lw_g (lw_at lw_m8 195 rfl) rfl
theorem q1969 : (Jvm.Cond.methodLink "TideKeepLaw" (143 : Nat) ({ cls := "TideKeepModel", name := "contest", desc := "(III)I" } : Jvm.MethodName)) ∈ lw_all := lw_g (lw_at lw_m8 202 rfl) rfl
theorem q1973 : (Jvm.Cond.methodLink "TideKeepLaw" (147 : Nat) ({ cls := "TideKeepModel", name := "which", desc := "()I" } : Jvm.MethodName)) ∈ lw_all := lw_g (lw_at lw_m8 206 rfl) rfl
theorem q1979 : (Jvm.Cond.methodLink "TideKeepLaw" (152 : Nat) ({ cls := "TideKeepModel", name := "join", desc := "(IIIIII)I" } : Jvm.MethodName)) ∈ lw_all := lw_g (lw_at lw_m8 212 rfl) rfl
theorem q1988 : (Jvm.Cond.methodLink "TideKeepLaw" (156 : Nat) ({ cls := "TideKeepModel", name := "count", desc := "(I)I" } : Jvm.MethodName)) ∈ lw_all := lw_g (lw_at lw_m8 221 rfl) rfl

theorem q2025 : (Jvm.Cond.castable "[B" "java/lang/Object") ∈ lw_tbl := lw_at lw_m9 18 rfl
set_option maxRecDepth 100000

theorem q2026 : (Jvm.Cond.castable "[I" "java/lang/Object") ∈ lw_tbl := lw_at lw_m9 19 rfl
set_option maxRecDepth 100000

theorem q2028 : (Jvm.Cond.castable "[LTideKeep$Shore;" "java/lang/Object") ∈ lw_tbl := lw_at lw_m9 21 rfl
set_option maxRecDepth 100000

theorem q591 : (Jvm.Cond.sameMethod "[LTideKeep$Told;" "java/lang/Object" "clone" "()Ljava/lang/Object;") ∈ lw_all := lw_g (lw_at lw_m3 24 rfl) rfl
set_option maxRecDepth 100000
theorem q594 : (Jvm.Cond.selects "[LTideKeep$Told;" ({ cls := "[LTideKeep$Told;", name := "clone", desc := "()Ljava/lang/Object;" } : Jvm.MethodName) ({ cls := "java/lang/Object", name := "clone", desc := "()Ljava/lang/Object;" } : Jvm.MethodName)) ∈ lw_all := lw_g (lw_at lw_m3 27 rfl) rfl
theorem q595 : (Jvm.Cond.castable "[LTideKeep$Told;" "java/lang/Cloneable") ∈ lw_tbl := lw_at lw_m3 28 rfl
theorem q2029 : (Jvm.Cond.castable "[LTideKeep$Told;" "java/lang/Object") ∈ lw_tbl := lw_at lw_m9 22 rfl

theorem q2022 : (Jvm.Cond.sameMethod "[Ljava/lang/Object;" "java/lang/Object" "getClass" "()Ljava/lang/Class;") ∈ lw_all := lw_g (lw_at lw_m9 15 rfl) rfl
set_option maxRecDepth 100000
theorem q2023 : (Jvm.Cond.selects "[Ljava/lang/Object;" ({ cls := "java/lang/Object", name := "getClass", desc := "()Ljava/lang/Class;" } : Jvm.MethodName) ({ cls := "java/lang/Object", name := "getClass", desc := "()Ljava/lang/Class;" } : Jvm.MethodName)) ∈ lw_all := lw_g (lw_at lw_m9 16 rfl) rfl
theorem q2030 : (Jvm.Cond.castable "[Ljava/lang/Object;" "java/lang/Object") ∈ lw_tbl := lw_at lw_m9 23 rfl

theorem q2027 : (Jvm.Cond.castable "[Z" "java/lang/Object") ∈ lw_tbl := lw_at lw_m9 20 rfl
set_option maxRecDepth 100000

theorem q112 : (Jvm.Cond.initialized "java/lang/System") ∈ lw_all := lw_g (lw_at lw_m1 25 rfl) rfl
set_option maxRecDepth 100000
theorem q884 : (Jvm.Cond.static ({ cls := "java/lang/System", name := "arraycopy", desc := "(Ljava/lang/Object;ILjava/lang/Object;II)V" } : Jvm.MethodName)) ∈ lw_all := lw_g (lw_at lw_m4 77 rfl) rfl
theorem q885 : (Jvm.Cond.native ({ cls := "java/lang/System", name := "arraycopy", desc := "(Ljava/lang/Object;ILjava/lang/Object;II)V" } : Jvm.MethodName)) ∈ lw_all := lw_g (lw_at lw_m4 78 rfl) rfl

theorem q277 : (Jvm.Cond.arrayClass Jvm.ClassFile.FieldType.byte) ∈ lw_all := lw_g (lw_at lw_m1 190 rfl) rfl
set_option maxRecDepth 100000
theorem q278 : (Jvm.Cond.arrayClass Jvm.ClassFile.FieldType.int) ∈ lw_all := lw_g (lw_at lw_m1 191 rfl) rfl
theorem q279 : (Jvm.Cond.arrayClass Jvm.ClassFile.FieldType.boolean) ∈ lw_all := lw_g (lw_at lw_m1 192 rfl) rfl
theorem q424 : (Jvm.Cond.arrayOver (Jvm.ClassFile.FieldType.object "TideKeep$Shore")) ∈ lw_tbl := lw_at lw_m2 97 rfl
theorem q596 : (Jvm.Cond.arrayOver (Jvm.ClassFile.FieldType.object "TideKeep$Told")) ∈ lw_tbl := lw_at lw_m3 29 rfl
theorem q878 : (Jvm.Cond.arrayOver (Jvm.ClassFile.FieldType.object "java/lang/Object")) ∈ lw_tbl := lw_at lw_m4 71 rfl

/-! java/lang/Throwable -/
set_option maxRecDepth 100000
def RJ0 : String := "java/lang/Throwable"
def TJ0 : u_T := fun k => match k with
  | 0 => ("java/lang/Throwable", "cause", "Ljava/lang/Throwable;", false)
  | 1 => ("java/lang/Throwable", "stackTrace", "[Ljava/lang/StackTraceElement;", false)
  | 2 => ("java/lang/Throwable", "suppressedExceptions", "Ljava/util/List;", false)
  | 3 => ("java/lang/Throwable", "detailMessage", "Ljava/lang/String;", false)
  | _ => ("java/lang/Throwable", "backtrace", "Ljava/lang/Object;", false)
def tyJ0 : Nat → FieldType := fun k => match k with
  | 0 => .object "java/lang/Throwable"
  | 1 => .array (.object "java/lang/StackTraceElement")
  | 2 => .object "java/util/List"
  | 3 => .object "java/lang/String"
  | _ => .object "java/lang/Object"
abbrev wsJ00 : List Cond := u_ws RJ0 TJ0 5
theorem nmJ0 : ∀ a, a < 5 → ∀ b, b < 5 → a ≠ b → (TJ0 a).2.1 ≠ (TJ0 b).2.1 := by decide +kernel
theorem tyJ0_ok : ∀ k, k < 5 → parseFieldDescriptor (TJ0 k).2.2.1 = some (tyJ0 k) := by decide +kernel
abbrev cJ0_init : ByteArray := prog_29_method_1_code
def yJ0_init : MethodName := ⟨RJ0, "<init>", "()V"⟩
def dkwJ0_init_1 : List UInt8 := [182, 0, 27, 87, 177]
abbrev dktJ0_init_1 : List UInt8 := dkwJ0_init_1 ++ []
def dkwJ0_init_0 : List UInt8 := [42, 183, 0, 1, 42, 42, 181, 0, 7, 42, 178, 0, 13, 181, 0, 17, 42, 178, 0, 20, 181, 0, 24, 42]
abbrev dktJ0_init_0 : List UInt8 := dkwJ0_init_0 ++ dktJ0_init_1
theorem dksJ0_init_0 : cJ0_init.data.toList.drop 0 = dktJ0_init_0 := by decide +kernel
theorem dksJ0_init_1 : cJ0_init.data.toList.drop 24 = dktJ0_init_1 := dk_seg dksJ0_init_0 24 rfl rfl
theorem dJ0_init_0 : decode cJ0_init 0 = .ok (.aload_n 0, 1) := dk_42 (dk_at dksJ0_init_0 0 rfl rfl)
theorem dJ0_init_1 : decode cJ0_init 1 = .ok (.invokespecial 1, 3) := dk_183 0 1 (dk_at dksJ0_init_0 1 rfl rfl)
theorem dJ0_init_4 : decode cJ0_init 4 = .ok (.aload_n 0, 1) := dk_42 (dk_at dksJ0_init_0 4 rfl rfl)
theorem dJ0_init_5 : decode cJ0_init 5 = .ok (.aload_n 0, 1) := dk_42 (dk_at dksJ0_init_0 5 rfl rfl)
theorem dJ0_init_6 : decode cJ0_init 6 = .ok (.putfield 7, 3) := dk_181 0 7 (dk_at dksJ0_init_0 6 rfl rfl)
theorem dJ0_init_9 : decode cJ0_init 9 = .ok (.aload_n 0, 1) := dk_42 (dk_at dksJ0_init_0 9 rfl rfl)
theorem dJ0_init_10 : decode cJ0_init 10 = .ok (.getstatic 13, 3) := dk_178 0 13 (dk_at dksJ0_init_0 10 rfl rfl)
theorem dJ0_init_13 : decode cJ0_init 13 = .ok (.putfield 17, 3) := dk_181 0 17 (dk_at dksJ0_init_0 13 rfl rfl)
theorem dJ0_init_16 : decode cJ0_init 16 = .ok (.aload_n 0, 1) := dk_42 (dk_at dksJ0_init_0 16 rfl rfl)
theorem dJ0_init_17 : decode cJ0_init 17 = .ok (.getstatic 20, 3) := dk_178 0 20 (dk_at dksJ0_init_0 17 rfl rfl)
theorem dJ0_init_20 : decode cJ0_init 20 = .ok (.putfield 24, 3) := dk_181 0 24 (dk_at dksJ0_init_0 20 rfl rfl)
theorem dJ0_init_23 : decode cJ0_init 23 = .ok (.aload_n 0, 1) := dk_42 (dk_at dksJ0_init_0 23 rfl rfl)
theorem dJ0_init_24 : decode cJ0_init 24 = .ok (.invokevirtual 27, 3) := dk_182 0 27 (dk_at dksJ0_init_1 0 rfl rfl)
theorem dJ0_init_27 : decode cJ0_init 27 = .ok (.pop, 1) := dk_87 (dk_at dksJ0_init_1 3 rfl rfl)
theorem dJ0_init_28 : decode cJ0_init 28 = .ok (.return_, 1) := dk_177 (dk_at dksJ0_init_1 4 rfl rfl)
abbrev cJ0_init_2 : ByteArray := prog_29_method_5_code
def yJ0_init_2 : MethodName := ⟨RJ0, "<init>", "(Ljava/lang/String;Ljava/lang/Throwable;ZZ)V"⟩
def dkwJ0_init_2_2 : List UInt8 := [44, 181, 0, 7, 29, 154, 0, 8, 42, 1, 181, 0, 24, 177]
abbrev dktJ0_init_2_2 : List UInt8 := dkwJ0_init_2_2 ++ []
def dkwJ0_init_2_1 : List UInt8 := [21, 4, 153, 0, 11, 42, 182, 0, 27, 87, 167, 0, 8, 42, 1, 181, 0, 17, 42, 43, 181, 0, 31, 42]
abbrev dktJ0_init_2_1 : List UInt8 := dkwJ0_init_2_1 ++ dktJ0_init_2_2
def dkwJ0_init_2_0 : List UInt8 := [42, 183, 0, 1, 42, 42, 181, 0, 7, 42, 178, 0, 13, 181, 0, 17, 42, 178, 0, 20, 181, 0, 24]
abbrev dktJ0_init_2_0 : List UInt8 := dkwJ0_init_2_0 ++ dktJ0_init_2_1
theorem dksJ0_init_2_0 : cJ0_init_2.data.toList.drop 0 = dktJ0_init_2_0 := by decide +kernel
theorem dksJ0_init_2_1 : cJ0_init_2.data.toList.drop 23 = dktJ0_init_2_1 := dk_seg dksJ0_init_2_0 23 rfl rfl
theorem dksJ0_init_2_2 : cJ0_init_2.data.toList.drop 47 = dktJ0_init_2_2 := dk_seg dksJ0_init_2_1 24 rfl rfl
theorem dJ0_init_2_0 : decode cJ0_init_2 0 = .ok (.aload_n 0, 1) := dk_42 (dk_at dksJ0_init_2_0 0 rfl rfl)
theorem dJ0_init_2_1 : decode cJ0_init_2 1 = .ok (.invokespecial 1, 3) := dk_183 0 1 (dk_at dksJ0_init_2_0 1 rfl rfl)
theorem dJ0_init_2_4 : decode cJ0_init_2 4 = .ok (.aload_n 0, 1) := dk_42 (dk_at dksJ0_init_2_0 4 rfl rfl)
theorem dJ0_init_2_5 : decode cJ0_init_2 5 = .ok (.aload_n 0, 1) := dk_42 (dk_at dksJ0_init_2_0 5 rfl rfl)
theorem dJ0_init_2_6 : decode cJ0_init_2 6 = .ok (.putfield 7, 3) := dk_181 0 7 (dk_at dksJ0_init_2_0 6 rfl rfl)
theorem dJ0_init_2_9 : decode cJ0_init_2 9 = .ok (.aload_n 0, 1) := dk_42 (dk_at dksJ0_init_2_0 9 rfl rfl)
theorem dJ0_init_2_10 : decode cJ0_init_2 10 = .ok (.getstatic 13, 3) := dk_178 0 13 (dk_at dksJ0_init_2_0 10 rfl rfl)
theorem dJ0_init_2_13 : decode cJ0_init_2 13 = .ok (.putfield 17, 3) := dk_181 0 17 (dk_at dksJ0_init_2_0 13 rfl rfl)
theorem dJ0_init_2_16 : decode cJ0_init_2 16 = .ok (.aload_n 0, 1) := dk_42 (dk_at dksJ0_init_2_0 16 rfl rfl)
theorem dJ0_init_2_17 : decode cJ0_init_2 17 = .ok (.getstatic 20, 3) := dk_178 0 20 (dk_at dksJ0_init_2_0 17 rfl rfl)
theorem dJ0_init_2_20 : decode cJ0_init_2 20 = .ok (.putfield 24, 3) := dk_181 0 24 (dk_at dksJ0_init_2_0 20 rfl rfl)
theorem dJ0_init_2_23 : decode cJ0_init_2 23 = .ok (.iload 4, 2) := dk_21 4 (dk_at dksJ0_init_2_1 0 rfl rfl)
theorem dJ0_init_2_25 : decode cJ0_init_2 25 = .ok (.ifCond .eq 11, 3) := dk_153 0 11 (dk_at dksJ0_init_2_1 2 rfl rfl)
theorem dJ0_init_2_28 : decode cJ0_init_2 28 = .ok (.aload_n 0, 1) := dk_42 (dk_at dksJ0_init_2_1 5 rfl rfl)
theorem dJ0_init_2_29 : decode cJ0_init_2 29 = .ok (.invokevirtual 27, 3) := dk_182 0 27 (dk_at dksJ0_init_2_1 6 rfl rfl)
theorem dJ0_init_2_32 : decode cJ0_init_2 32 = .ok (.pop, 1) := dk_87 (dk_at dksJ0_init_2_1 9 rfl rfl)
theorem dJ0_init_2_33 : decode cJ0_init_2 33 = .ok (.goto 8, 3) := dk_167 0 8 (dk_at dksJ0_init_2_1 10 rfl rfl)
theorem dJ0_init_2_36 : decode cJ0_init_2 36 = .ok (.aload_n 0, 1) := dk_42 (dk_at dksJ0_init_2_1 13 rfl rfl)
theorem dJ0_init_2_37 : decode cJ0_init_2 37 = .ok (.aconst_null, 1) := dk_1 (dk_at dksJ0_init_2_1 14 rfl rfl)
theorem dJ0_init_2_38 : decode cJ0_init_2 38 = .ok (.putfield 17, 3) := dk_181 0 17 (dk_at dksJ0_init_2_1 15 rfl rfl)
theorem dJ0_init_2_41 : decode cJ0_init_2 41 = .ok (.aload_n 0, 1) := dk_42 (dk_at dksJ0_init_2_1 18 rfl rfl)
theorem dJ0_init_2_42 : decode cJ0_init_2 42 = .ok (.aload_n 1, 1) := dk_43 (dk_at dksJ0_init_2_1 19 rfl rfl)
theorem dJ0_init_2_43 : decode cJ0_init_2 43 = .ok (.putfield 31, 3) := dk_181 0 31 (dk_at dksJ0_init_2_1 20 rfl rfl)
theorem dJ0_init_2_46 : decode cJ0_init_2 46 = .ok (.aload_n 0, 1) := dk_42 (dk_at dksJ0_init_2_1 23 rfl rfl)
theorem dJ0_init_2_47 : decode cJ0_init_2 47 = .ok (.aload_n 2, 1) := dk_44 (dk_at dksJ0_init_2_2 0 rfl rfl)
theorem dJ0_init_2_48 : decode cJ0_init_2 48 = .ok (.putfield 7, 3) := dk_181 0 7 (dk_at dksJ0_init_2_2 1 rfl rfl)
theorem dJ0_init_2_51 : decode cJ0_init_2 51 = .ok (.iload_n 3, 1) := dk_29 (dk_at dksJ0_init_2_2 4 rfl rfl)
theorem dJ0_init_2_52 : decode cJ0_init_2 52 = .ok (.ifCond .ne 8, 3) := dk_154 0 8 (dk_at dksJ0_init_2_2 5 rfl rfl)
theorem dJ0_init_2_55 : decode cJ0_init_2 55 = .ok (.aload_n 0, 1) := dk_42 (dk_at dksJ0_init_2_2 8 rfl rfl)
theorem dJ0_init_2_56 : decode cJ0_init_2 56 = .ok (.aconst_null, 1) := dk_1 (dk_at dksJ0_init_2_2 9 rfl rfl)
theorem dJ0_init_2_57 : decode cJ0_init_2 57 = .ok (.putfield 24, 3) := dk_181 0 24 (dk_at dksJ0_init_2_2 10 rfl rfl)
theorem dJ0_init_2_60 : decode cJ0_init_2 60 = .ok (.return_, 1) := dk_177 (dk_at dksJ0_init_2_2 13 rfl rfl)
theorem q89 : (Jvm.Cond.initialized "java/lang/Throwable") ∈ lw_all := lw_g (lw_at lw_m1 2 rfl) rfl
theorem q131 : (Jvm.Cond.declares ({ cls := "java/lang/Throwable", name := "<init>", desc := "()V" } : Jvm.MethodName)) ∈ lw_tbl := lw_at lw_m1 44 rfl
theorem q132 : (Jvm.Cond.declares ({ cls := "java/lang/Throwable", name := "<init>", desc := "(Ljava/lang/String;)V" } : Jvm.MethodName)) ∈ lw_tbl := lw_at lw_m1 45 rfl
theorem q136 : (Jvm.Cond.lays "java/lang/Throwable" "java/lang/Throwable" "cause" "Ljava/lang/Throwable;") ∈ lw_all := lw_g (lw_at lw_m1 49 rfl) rfl
theorem q138 : (Jvm.Cond.lays "java/lang/Throwable" "java/lang/Throwable" "stackTrace" "[Ljava/lang/StackTraceElement;") ∈ lw_all := lw_g (lw_at lw_m1 51 rfl) rfl
theorem q140 : (Jvm.Cond.lays "java/lang/Throwable" "java/lang/Throwable" "suppressedExceptions" "Ljava/util/List;") ∈ lw_all := lw_g (lw_at lw_m1 53 rfl) rfl
theorem q142 : (Jvm.Cond.lays "java/lang/Throwable" "java/lang/Throwable" "detailMessage" "Ljava/lang/String;") ∈ lw_all := lw_g (lw_at lw_m1 55 rfl) rfl
theorem q144 : (Jvm.Cond.lays "java/lang/Throwable" "java/lang/Throwable" "backtrace" "Ljava/lang/Object;") ∈ lw_all := lw_g (lw_at lw_m1 57 rfl) rfl
theorem q145 : (Jvm.Cond.fieldLink "java/lang/Throwable" (198 : Nat) "java/lang/Throwable" "backtrace" "Ljava/lang/Object;") ∈ lw_all := lw_g (lw_at lw_m1 58 rfl) rfl
theorem q146 : (Jvm.Cond.superclass "java/lang/Throwable" "java/lang/Object") ∈ lw_all := lw_g (lw_at lw_m1 59 rfl) rfl
theorem q147 : (Jvm.Cond.instanceMethod ({ cls := "java/lang/Throwable", name := "<init>", desc := "()V" } : Jvm.MethodName)) ∈ lw_all := lw_g (lw_at lw_m1 60 rfl) rfl
theorem q148 : (Jvm.Cond.code ({ cls := "java/lang/Throwable", name := "<init>", desc := "()V" } : Jvm.MethodName) prog_29_method_1_code (1 : Nat) (Option.none : Option Jvm.ClassFile.FieldType)) ∈ lw_all := lw_g (lw_at lw_m1 61 rfl) rfl
theorem q149 : (Jvm.Cond.methodLink "java/lang/Throwable" (1 : Nat) ({ cls := "java/lang/Object", name := "<init>", desc := "()V" } : Jvm.MethodName)) ∈ lw_all := lw_g (lw_at lw_m1 62 rfl) rfl
theorem q150 : (Jvm.Cond.fieldLink "java/lang/Throwable" (13 : Nat) "java/lang/Throwable" "UNASSIGNED_STACK" "[Ljava/lang/StackTraceElement;") ∈ lw_all := lw_g (lw_at lw_m1 63 rfl) rfl
theorem q151 : (Jvm.Cond.laysStatic "java/lang/Throwable" "UNASSIGNED_STACK" "[Ljava/lang/StackTraceElement;") ∈ lw_tbl := lw_at lw_m1 64 rfl
theorem q152 : (Jvm.Cond.fieldLink "java/lang/Throwable" (20 : Nat) "java/lang/Throwable" "SUPPRESSED_SENTINEL" "Ljava/util/List;") ∈ lw_all := lw_g (lw_at lw_m1 65 rfl) rfl
theorem q153 : (Jvm.Cond.laysStatic "java/lang/Throwable" "SUPPRESSED_SENTINEL" "Ljava/util/List;") ∈ lw_tbl := lw_at lw_m1 66 rfl
theorem q154 : (Jvm.Cond.methodLink "java/lang/Throwable" (27 : Nat) ({ cls := "java/lang/Throwable", name := "fillInStackTrace", desc := "()Ljava/lang/Throwable;" } : Jvm.MethodName)) ∈ lw_all := lw_g (lw_at lw_m1 67 rfl) rfl
theorem q155 : (Jvm.Cond.instanceMethod ({ cls := "java/lang/Throwable", name := "fillInStackTrace", desc := "()Ljava/lang/Throwable;" } : Jvm.MethodName)) ∈ lw_all := lw_g (lw_at lw_m1 68 rfl) rfl
theorem q156 : (Jvm.Cond.sameMethod "java/lang/Throwable" "java/lang/Throwable" "fillInStackTrace" "()Ljava/lang/Throwable;") ∈ lw_all := lw_g (lw_at lw_m1 69 rfl) rfl
theorem q157 : (Jvm.Cond.codeSync ({ cls := "java/lang/Throwable", name := "fillInStackTrace", desc := "()Ljava/lang/Throwable;" } : Jvm.MethodName) prog_29_method_18_code (1 : Nat) (Option.some (Jvm.ClassFile.FieldType.object "java/lang/Throwable"))) ∈ lw_all := lw_g (lw_at lw_m1 70 rfl) rfl
theorem q158 : (Jvm.Cond.methodLink "java/lang/Throwable" (202 : Nat) ({ cls := "java/lang/Throwable", name := "fillInStackTrace", desc := "(I)Ljava/lang/Throwable;" } : Jvm.MethodName)) ∈ lw_all := lw_g (lw_at lw_m1 71 rfl) rfl
theorem q159 : (Jvm.Cond.privateMethod ({ cls := "java/lang/Throwable", name := "fillInStackTrace", desc := "(I)Ljava/lang/Throwable;" } : Jvm.MethodName)) ∈ lw_tbl := lw_at lw_m1 72 rfl
theorem q160 : (Jvm.Cond.instanceMethod ({ cls := "java/lang/Throwable", name := "fillInStackTrace", desc := "(I)Ljava/lang/Throwable;" } : Jvm.MethodName)) ∈ lw_all := lw_g (lw_at lw_m1 73 rfl) rfl
theorem q161 : (Jvm.Cond.instantiable "java/lang/Throwable" (6 : Nat)) ∈ lw_all := lw_g (lw_at lw_m1 74 rfl) rfl
theorem q162 : (Jvm.Cond.native ({ cls := "java/lang/Throwable", name := "fillInStackTrace", desc := "(I)Ljava/lang/Throwable;" } : Jvm.MethodName)) ∈ lw_all := lw_g (lw_at lw_m1 75 rfl) rfl
theorem q170 : (Jvm.Cond.instanceMethod ({ cls := "java/lang/Throwable", name := "<init>", desc := "(Ljava/lang/String;Ljava/lang/Throwable;ZZ)V" } : Jvm.MethodName)) ∈ lw_all := lw_g (lw_at lw_m1 83 rfl) rfl
theorem q171 : (Jvm.Cond.code ({ cls := "java/lang/Throwable", name := "<init>", desc := "(Ljava/lang/String;Ljava/lang/Throwable;ZZ)V" } : Jvm.MethodName) prog_29_method_5_code (5 : Nat) (Option.none : Option Jvm.ClassFile.FieldType)) ∈ lw_all := lw_g (lw_at lw_m1 84 rfl) rfl
theorem q176 : (Jvm.Cond.fieldLink "java/lang/Throwable" (198 : Nat) "java/lang/Throwable" "backtrace" "Ljava/lang/Object;") ∈ lw_all := lw_g (lw_at lw_m1 89 rfl) rfl
theorem q177 : (Jvm.Cond.fieldLink "java/lang/Throwable" (31 : Nat) "java/lang/Throwable" "detailMessage" "Ljava/lang/String;") ∈ lw_all := lw_g (lw_at lw_m1 90 rfl) rfl
theorem q178 : (Jvm.Cond.fieldLink "java/lang/Throwable" (7 : Nat) "java/lang/Throwable" "cause" "Ljava/lang/Throwable;") ∈ lw_all := lw_g (lw_at lw_m1 91 rfl) rfl
theorem q179 : (Jvm.Cond.fieldLink "java/lang/Throwable" (17 : Nat) "java/lang/Throwable" "stackTrace" "[Ljava/lang/StackTraceElement;") ∈ lw_all := lw_g (lw_at lw_m1 92 rfl) rfl
theorem q180 : (Jvm.Cond.fieldLink "java/lang/Throwable" (24 : Nat) "java/lang/Throwable" "suppressedExceptions" "Ljava/util/List;") ∈ lw_all := lw_g (lw_at lw_m1 93 rfl) rfl
theorem q185 : (Jvm.Cond.soleField "java/lang/Throwable" "backtrace") ∈ lw_all := lw_g (lw_at lw_m1 98 rfl) rfl
theorem q186 : (Jvm.Cond.soleField "java/lang/Throwable" "detailMessage") ∈ lw_all := lw_g (lw_at lw_m1 99 rfl) rfl
theorem q187 : (Jvm.Cond.soleField "java/lang/Throwable" "cause") ∈ lw_all := lw_g (lw_at lw_m1 100 rfl) rfl
theorem q188 : (Jvm.Cond.soleField "java/lang/Throwable" "stackTrace") ∈ lw_all := lw_g (lw_at lw_m1 101 rfl) rfl
theorem q190 : (Jvm.Cond.soleField "java/lang/Throwable" "depth") ∈ lw_all := lw_g (lw_at lw_m1 103 rfl) rfl
theorem q191 : (Jvm.Cond.soleField "java/lang/Throwable" "suppressedExceptions") ∈ lw_all := lw_g (lw_at lw_m1 104 rfl) rfl
theorem q1992 : (Jvm.Cond.sameMethod "java/lang/Throwable" "java/lang/Throwable" "fillInStackTrace" "(I)Ljava/lang/Throwable;") ∈ lw_all := lw_g (lw_at lw_m8 225 rfl) rfl
theorem q2020 : (Jvm.Cond.castable "java/lang/Throwable" "java/lang/Object") ∈ lw_tbl := lw_at lw_m9 13 rfl
theorem in_J0 : ∀ w ∈ wsJ00, w ∈ lw_all := lw_in wsJ00 [136, 138, 140, 142, 144] (by decide +kernel) (by decide +kernel)

/-! java/lang/Exception -/
set_option maxRecDepth 100000
def RJ1 : String := "java/lang/Exception"
abbrev cJ1_init : ByteArray := prog_22_method_5_code
def yJ1_init : MethodName := ⟨RJ1, "<init>", "(Ljava/lang/String;Ljava/lang/Throwable;ZZ)V"⟩
def dkwJ1_init_0 : List UInt8 := [42, 43, 44, 29, 21, 4, 183, 0, 16, 177]
abbrev dktJ1_init_0 : List UInt8 := dkwJ1_init_0 ++ []
theorem dksJ1_init_0 : cJ1_init.data.toList.drop 0 = dktJ1_init_0 := by decide +kernel
theorem dJ1_init_0 : decode cJ1_init 0 = .ok (.aload_n 0, 1) := dk_42 (dk_at dksJ1_init_0 0 rfl rfl)
theorem dJ1_init_1 : decode cJ1_init 1 = .ok (.aload_n 1, 1) := dk_43 (dk_at dksJ1_init_0 1 rfl rfl)
theorem dJ1_init_2 : decode cJ1_init 2 = .ok (.aload_n 2, 1) := dk_44 (dk_at dksJ1_init_0 2 rfl rfl)
theorem dJ1_init_3 : decode cJ1_init 3 = .ok (.iload_n 3, 1) := dk_29 (dk_at dksJ1_init_0 3 rfl rfl)
theorem dJ1_init_4 : decode cJ1_init 4 = .ok (.iload 4, 2) := dk_21 4 (dk_at dksJ1_init_0 4 rfl rfl)
theorem dJ1_init_6 : decode cJ1_init 6 = .ok (.invokespecial 16, 3) := dk_183 0 16 (dk_at dksJ1_init_0 6 rfl rfl)
theorem dJ1_init_9 : decode cJ1_init 9 = .ok (.return_, 1) := dk_177 (dk_at dksJ1_init_0 9 rfl rfl)
theorem q90 : (Jvm.Cond.initialized "java/lang/Exception") ∈ lw_all := lw_g (lw_at lw_m1 3 rfl) rfl
theorem q129 : (Jvm.Cond.declares ({ cls := "java/lang/Exception", name := "<init>", desc := "()V" } : Jvm.MethodName)) ∈ lw_tbl := lw_at lw_m1 42 rfl
theorem q130 : (Jvm.Cond.declares ({ cls := "java/lang/Exception", name := "<init>", desc := "(Ljava/lang/String;)V" } : Jvm.MethodName)) ∈ lw_tbl := lw_at lw_m1 43 rfl
theorem q167 : (Jvm.Cond.instanceMethod ({ cls := "java/lang/Exception", name := "<init>", desc := "(Ljava/lang/String;Ljava/lang/Throwable;ZZ)V" } : Jvm.MethodName)) ∈ lw_all := lw_g (lw_at lw_m1 80 rfl) rfl
theorem q168 : (Jvm.Cond.code ({ cls := "java/lang/Exception", name := "<init>", desc := "(Ljava/lang/String;Ljava/lang/Throwable;ZZ)V" } : Jvm.MethodName) prog_22_method_5_code (5 : Nat) (Option.none : Option Jvm.ClassFile.FieldType)) ∈ lw_all := lw_g (lw_at lw_m1 81 rfl) rfl
theorem q169 : (Jvm.Cond.methodLink "java/lang/Exception" (16 : Nat) ({ cls := "java/lang/Throwable", name := "<init>", desc := "(Ljava/lang/String;Ljava/lang/Throwable;ZZ)V" } : Jvm.MethodName)) ∈ lw_all := lw_g (lw_at lw_m1 82 rfl) rfl

/-! java/lang/StringUTF16 -/
set_option maxRecDepth 100000
def RJ10 : String := "java/lang/StringUTF16"
abbrev cJ10_charAt : ByteArray := prog_27_method_83_code
def yJ10_charAt : MethodName := ⟨RJ10, "charAt", "([BI)C"⟩
def dkwJ10_charAt_0 : List UInt8 := [27, 42, 184, 0, 67, 42, 27, 184, 0, 71, 172]
abbrev dktJ10_charAt_0 : List UInt8 := dkwJ10_charAt_0 ++ []
theorem dksJ10_charAt_0 : cJ10_charAt.data.toList.drop 0 = dktJ10_charAt_0 := by decide +kernel
theorem dJ10_charAt_0 : decode cJ10_charAt 0 = .ok (.iload_n 1, 1) := dk_27 (dk_at dksJ10_charAt_0 0 rfl rfl)
theorem dJ10_charAt_1 : decode cJ10_charAt 1 = .ok (.aload_n 0, 1) := dk_42 (dk_at dksJ10_charAt_0 1 rfl rfl)
theorem dJ10_charAt_2 : decode cJ10_charAt 2 = .ok (.invokestatic 67, 3) := dk_184 0 67 (dk_at dksJ10_charAt_0 2 rfl rfl)
theorem dJ10_charAt_5 : decode cJ10_charAt 5 = .ok (.aload_n 0, 1) := dk_42 (dk_at dksJ10_charAt_0 5 rfl rfl)
theorem dJ10_charAt_6 : decode cJ10_charAt 6 = .ok (.iload_n 1, 1) := dk_27 (dk_at dksJ10_charAt_0 6 rfl rfl)
theorem dJ10_charAt_7 : decode cJ10_charAt 7 = .ok (.invokestatic 71, 3) := dk_184 0 71 (dk_at dksJ10_charAt_0 7 rfl rfl)
theorem dJ10_charAt_10 : decode cJ10_charAt 10 = .ok (.ireturn, 1) := dk_172 (dk_at dksJ10_charAt_0 10 rfl rfl)
abbrev cJ10_checkIndex : ByteArray := prog_27_method_91_code
def yJ10_checkIndex : MethodName := ⟨RJ10, "checkIndex", "(I[B)V"⟩
def dkwJ10_checkIndex_0 : List UInt8 := [26, 43, 184, 0, 48, 184, 1, 158, 177]
abbrev dktJ10_checkIndex_0 : List UInt8 := dkwJ10_checkIndex_0 ++ []
theorem dksJ10_checkIndex_0 : cJ10_checkIndex.data.toList.drop 0 = dktJ10_checkIndex_0 := by decide +kernel
theorem dJ10_checkIndex_0 : decode cJ10_checkIndex 0 = .ok (.iload_n 0, 1) := dk_26 (dk_at dksJ10_checkIndex_0 0 rfl rfl)
theorem dJ10_checkIndex_1 : decode cJ10_checkIndex 1 = .ok (.aload_n 1, 1) := dk_43 (dk_at dksJ10_checkIndex_0 1 rfl rfl)
theorem dJ10_checkIndex_2 : decode cJ10_checkIndex 2 = .ok (.invokestatic 48, 3) := dk_184 0 48 (dk_at dksJ10_checkIndex_0 2 rfl rfl)
theorem dJ10_checkIndex_5 : decode cJ10_checkIndex 5 = .ok (.invokestatic 414, 3) := dk_184 1 158 (dk_at dksJ10_checkIndex_0 5 rfl rfl)
theorem dJ10_checkIndex_8 : decode cJ10_checkIndex 8 = .ok (.return_, 1) := dk_177 (dk_at dksJ10_checkIndex_0 8 rfl rfl)
abbrev cJ10_length : ByteArray := prog_27_method_6_code
def yJ10_length : MethodName := ⟨RJ10, "length", "([B)I"⟩
def dkwJ10_length_0 : List UInt8 := [42, 190, 4, 122, 172]
abbrev dktJ10_length_0 : List UInt8 := dkwJ10_length_0 ++ []
theorem dksJ10_length_0 : cJ10_length.data.toList.drop 0 = dktJ10_length_0 := by decide +kernel
theorem dJ10_length_0 : decode cJ10_length 0 = .ok (.aload_n 0, 1) := dk_42 (dk_at dksJ10_length_0 0 rfl rfl)
theorem dJ10_length_1 : decode cJ10_length 1 = .ok (.arraylength, 1) := dk_190 (dk_at dksJ10_length_0 1 rfl rfl)
theorem dJ10_length_2 : decode cJ10_length 2 = .ok (.iconst 1, 1) := dk_4 (dk_at dksJ10_length_0 2 rfl rfl)
theorem dJ10_length_3 : decode cJ10_length 3 = .ok (.ishr, 1) := dk_122 (dk_at dksJ10_length_0 3 rfl rfl)
theorem dJ10_length_4 : decode cJ10_length 4 = .ok (.ireturn, 1) := dk_172 (dk_at dksJ10_length_0 4 rfl rfl)
abbrev cJ10_getChar : ByteArray := prog_27_method_5_code
def yJ10_getChar : MethodName := ⟨RJ10, "getChar", "([BI)C"⟩
def dkwJ10_getChar_2 : List UInt8 := [51, 17, 0, 255, 126, 178, 0, 63, 120, 128, 146, 172]
abbrev dktJ10_getChar_2 : List UInt8 := dkwJ10_getChar_2 ++ []
def dkwJ10_getChar_1 : List UInt8 := [183, 0, 56, 191, 27, 4, 120, 60, 42, 27, 132, 1, 1, 51, 17, 0, 255, 126, 178, 0, 59, 120, 42, 27]
abbrev dktJ10_getChar_1 : List UInt8 := dkwJ10_getChar_1 ++ dktJ10_getChar_2
def dkwJ10_getChar_0 : List UInt8 := [178, 0, 44, 154, 0, 25, 27, 155, 0, 11, 27, 42, 184, 0, 48, 161, 0, 13, 187, 0, 52, 89, 18, 54]
abbrev dktJ10_getChar_0 : List UInt8 := dkwJ10_getChar_0 ++ dktJ10_getChar_1
theorem dksJ10_getChar_0 : cJ10_getChar.data.toList.drop 0 = dktJ10_getChar_0 := by decide +kernel
theorem dksJ10_getChar_1 : cJ10_getChar.data.toList.drop 24 = dktJ10_getChar_1 := dk_seg dksJ10_getChar_0 24 rfl rfl
theorem dksJ10_getChar_2 : cJ10_getChar.data.toList.drop 48 = dktJ10_getChar_2 := dk_seg dksJ10_getChar_1 24 rfl rfl
theorem dJ10_getChar_0 : decode cJ10_getChar 0 = .ok (.getstatic 44, 3) := dk_178 0 44 (dk_at dksJ10_getChar_0 0 rfl rfl)
theorem dJ10_getChar_3 : decode cJ10_getChar 3 = .ok (.ifCond .ne 25, 3) := dk_154 0 25 (dk_at dksJ10_getChar_0 3 rfl rfl)
theorem dJ10_getChar_6 : decode cJ10_getChar 6 = .ok (.iload_n 1, 1) := dk_27 (dk_at dksJ10_getChar_0 6 rfl rfl)
theorem dJ10_getChar_7 : decode cJ10_getChar 7 = .ok (.ifCond .lt 11, 3) := dk_155 0 11 (dk_at dksJ10_getChar_0 7 rfl rfl)
theorem dJ10_getChar_10 : decode cJ10_getChar 10 = .ok (.iload_n 1, 1) := dk_27 (dk_at dksJ10_getChar_0 10 rfl rfl)
theorem dJ10_getChar_11 : decode cJ10_getChar 11 = .ok (.aload_n 0, 1) := dk_42 (dk_at dksJ10_getChar_0 11 rfl rfl)
theorem dJ10_getChar_12 : decode cJ10_getChar 12 = .ok (.invokestatic 48, 3) := dk_184 0 48 (dk_at dksJ10_getChar_0 12 rfl rfl)
theorem dJ10_getChar_15 : decode cJ10_getChar 15 = .ok (.if_icmp .lt 13, 3) := dk_161 0 13 (dk_at dksJ10_getChar_0 15 rfl rfl)
theorem dJ10_getChar_18 : decode cJ10_getChar 18 = .ok (.new 52, 3) := dk_187 0 52 (dk_at dksJ10_getChar_0 18 rfl rfl)
theorem dJ10_getChar_21 : decode cJ10_getChar 21 = .ok (.dup, 1) := dk_89 (dk_at dksJ10_getChar_0 21 rfl rfl)
theorem dJ10_getChar_22 : decode cJ10_getChar 22 = .ok (.ldc 54, 2) := dk_18 54 (dk_at dksJ10_getChar_0 22 rfl rfl)
theorem dJ10_getChar_24 : decode cJ10_getChar 24 = .ok (.invokespecial 56, 3) := dk_183 0 56 (dk_at dksJ10_getChar_1 0 rfl rfl)
theorem dJ10_getChar_27 : decode cJ10_getChar 27 = .ok (.athrow, 1) := dk_191 (dk_at dksJ10_getChar_1 3 rfl rfl)
theorem dJ10_getChar_28 : decode cJ10_getChar 28 = .ok (.iload_n 1, 1) := dk_27 (dk_at dksJ10_getChar_1 4 rfl rfl)
theorem dJ10_getChar_29 : decode cJ10_getChar 29 = .ok (.iconst 1, 1) := dk_4 (dk_at dksJ10_getChar_1 5 rfl rfl)
theorem dJ10_getChar_30 : decode cJ10_getChar 30 = .ok (.ishl, 1) := dk_120 (dk_at dksJ10_getChar_1 6 rfl rfl)
theorem dJ10_getChar_31 : decode cJ10_getChar 31 = .ok (.istore_n 1, 1) := dk_60 (dk_at dksJ10_getChar_1 7 rfl rfl)
theorem dJ10_getChar_32 : decode cJ10_getChar 32 = .ok (.aload_n 0, 1) := dk_42 (dk_at dksJ10_getChar_1 8 rfl rfl)
theorem dJ10_getChar_33 : decode cJ10_getChar 33 = .ok (.iload_n 1, 1) := dk_27 (dk_at dksJ10_getChar_1 9 rfl rfl)
theorem dJ10_getChar_34 : decode cJ10_getChar 34 = .ok (.iinc 1 1, 3) := dk_132 1 1 (dk_at dksJ10_getChar_1 10 rfl rfl)
theorem dJ10_getChar_37 : decode cJ10_getChar 37 = .ok (.baload, 1) := dk_51 (dk_at dksJ10_getChar_1 13 rfl rfl)
theorem dJ10_getChar_38 : decode cJ10_getChar 38 = .ok (.sipush 255, 3) := dk_17 0 255 (dk_at dksJ10_getChar_1 14 rfl rfl)
theorem dJ10_getChar_41 : decode cJ10_getChar 41 = .ok (.iand, 1) := dk_126 (dk_at dksJ10_getChar_1 17 rfl rfl)
theorem dJ10_getChar_42 : decode cJ10_getChar 42 = .ok (.getstatic 59, 3) := dk_178 0 59 (dk_at dksJ10_getChar_1 18 rfl rfl)
theorem dJ10_getChar_45 : decode cJ10_getChar 45 = .ok (.ishl, 1) := dk_120 (dk_at dksJ10_getChar_1 21 rfl rfl)
theorem dJ10_getChar_46 : decode cJ10_getChar 46 = .ok (.aload_n 0, 1) := dk_42 (dk_at dksJ10_getChar_1 22 rfl rfl)
theorem dJ10_getChar_47 : decode cJ10_getChar 47 = .ok (.iload_n 1, 1) := dk_27 (dk_at dksJ10_getChar_1 23 rfl rfl)
theorem dJ10_getChar_48 : decode cJ10_getChar 48 = .ok (.baload, 1) := dk_51 (dk_at dksJ10_getChar_2 0 rfl rfl)
theorem dJ10_getChar_49 : decode cJ10_getChar 49 = .ok (.sipush 255, 3) := dk_17 0 255 (dk_at dksJ10_getChar_2 1 rfl rfl)
theorem dJ10_getChar_52 : decode cJ10_getChar 52 = .ok (.iand, 1) := dk_126 (dk_at dksJ10_getChar_2 4 rfl rfl)
theorem dJ10_getChar_53 : decode cJ10_getChar 53 = .ok (.getstatic 63, 3) := dk_178 0 63 (dk_at dksJ10_getChar_2 5 rfl rfl)
theorem dJ10_getChar_56 : decode cJ10_getChar 56 = .ok (.ishl, 1) := dk_120 (dk_at dksJ10_getChar_2 8 rfl rfl)
theorem dJ10_getChar_57 : decode cJ10_getChar 57 = .ok (.ior, 1) := dk_128 (dk_at dksJ10_getChar_2 9 rfl rfl)
theorem dJ10_getChar_58 : decode cJ10_getChar 58 = .ok (.i2c, 1) := dk_146 (dk_at dksJ10_getChar_2 10 rfl rfl)
theorem dJ10_getChar_59 : decode cJ10_getChar 59 = .ok (.ireturn, 1) := dk_172 (dk_at dksJ10_getChar_2 11 rfl rfl)
theorem q107 : (Jvm.Cond.initialized "java/lang/StringUTF16") ∈ lw_all := lw_g (lw_at lw_m1 20 rfl) rfl
theorem q686 : (Jvm.Cond.static ({ cls := "java/lang/StringUTF16", name := "charAt", desc := "([BI)C" } : Jvm.MethodName)) ∈ lw_all := lw_g (lw_at lw_m3 119 rfl) rfl
theorem q687 : (Jvm.Cond.code ({ cls := "java/lang/StringUTF16", name := "charAt", desc := "([BI)C" } : Jvm.MethodName) prog_27_method_83_code (2 : Nat) (Option.some Jvm.ClassFile.FieldType.char)) ∈ lw_all := lw_g (lw_at lw_m3 120 rfl) rfl
theorem q688 : (Jvm.Cond.methodLink "java/lang/StringUTF16" (67 : Nat) ({ cls := "java/lang/StringUTF16", name := "checkIndex", desc := "(I[B)V" } : Jvm.MethodName)) ∈ lw_all := lw_g (lw_at lw_m3 121 rfl) rfl
theorem q689 : (Jvm.Cond.static ({ cls := "java/lang/StringUTF16", name := "checkIndex", desc := "(I[B)V" } : Jvm.MethodName)) ∈ lw_all := lw_g (lw_at lw_m3 122 rfl) rfl
theorem q690 : (Jvm.Cond.code ({ cls := "java/lang/StringUTF16", name := "checkIndex", desc := "(I[B)V" } : Jvm.MethodName) prog_27_method_91_code (2 : Nat) (Option.none : Option Jvm.ClassFile.FieldType)) ∈ lw_all := lw_g (lw_at lw_m3 123 rfl) rfl
theorem q691 : (Jvm.Cond.methodLink "java/lang/StringUTF16" (48 : Nat) ({ cls := "java/lang/StringUTF16", name := "length", desc := "([B)I" } : Jvm.MethodName)) ∈ lw_all := lw_g (lw_at lw_m3 124 rfl) rfl
theorem q692 : (Jvm.Cond.static ({ cls := "java/lang/StringUTF16", name := "length", desc := "([B)I" } : Jvm.MethodName)) ∈ lw_all := lw_g (lw_at lw_m3 125 rfl) rfl
theorem q693 : (Jvm.Cond.code ({ cls := "java/lang/StringUTF16", name := "length", desc := "([B)I" } : Jvm.MethodName) prog_27_method_6_code (1 : Nat) (Option.some Jvm.ClassFile.FieldType.int)) ∈ lw_all := lw_g (lw_at lw_m3 126 rfl) rfl
theorem q694 : (Jvm.Cond.methodLink "java/lang/StringUTF16" (414 : Nat) ({ cls := "java/lang/String", name := "checkIndex", desc := "(II)V" } : Jvm.MethodName)) ∈ lw_all := lw_g (lw_at lw_m3 127 rfl) rfl
theorem q695 : (Jvm.Cond.methodLink "java/lang/StringUTF16" (71 : Nat) ({ cls := "java/lang/StringUTF16", name := "getChar", desc := "([BI)C" } : Jvm.MethodName)) ∈ lw_all := lw_g (lw_at lw_m3 128 rfl) rfl
theorem q696 : (Jvm.Cond.static ({ cls := "java/lang/StringUTF16", name := "getChar", desc := "([BI)C" } : Jvm.MethodName)) ∈ lw_all := lw_g (lw_at lw_m3 129 rfl) rfl
theorem q697 : (Jvm.Cond.code ({ cls := "java/lang/StringUTF16", name := "getChar", desc := "([BI)C" } : Jvm.MethodName) prog_27_method_5_code (2 : Nat) (Option.some Jvm.ClassFile.FieldType.char)) ∈ lw_all := lw_g (lw_at lw_m3 130 rfl) rfl
theorem q698 : (Jvm.Cond.fieldLink "java/lang/StringUTF16" (44 : Nat) "java/lang/StringUTF16" "$assertionsDisabled" "Z") ∈ lw_all := lw_g (lw_at lw_m3 131 rfl) rfl
theorem q699 : (Jvm.Cond.laysStatic "java/lang/StringUTF16" "$assertionsDisabled" "Z") ∈ lw_tbl := lw_at lw_m3 132 rfl
theorem q700 : (Jvm.Cond.fieldLink "java/lang/StringUTF16" (59 : Nat) "java/lang/StringUTF16" "HI_BYTE_SHIFT" "I") ∈ lw_all := lw_g (lw_at lw_m3 133 rfl) rfl
theorem q701 : (Jvm.Cond.laysStatic "java/lang/StringUTF16" "HI_BYTE_SHIFT" "I") ∈ lw_tbl := lw_at lw_m3 134 rfl
theorem q702 : (Jvm.Cond.fieldLink "java/lang/StringUTF16" (63 : Nat) "java/lang/StringUTF16" "LO_BYTE_SHIFT" "I") ∈ lw_all := lw_g (lw_at lw_m3 135 rfl) rfl
theorem q703 : (Jvm.Cond.laysStatic "java/lang/StringUTF16" "LO_BYTE_SHIFT" "I") ∈ lw_tbl := lw_at lw_m3 136 rfl

/-! jdk/internal/util/ArraysSupport -/
set_option maxRecDepth 100000
def RJ11 : String := "jdk/internal/util/ArraysSupport"
abbrev cJ11_newLength : ByteArray := prog_41_method_27_code
def yJ11_newLength : MethodName := ⟨RJ11, "newLength", "(III)I"⟩
def dkwJ11_newLength_1 : List UInt8 := [184, 0, 201, 172]
abbrev dktJ11_newLength_1 : List UInt8 := dkwJ11_newLength_1 ++ []
def dkwJ11_newLength_0 : List UInt8 := [26, 27, 28, 184, 0, 194, 96, 62, 3, 29, 162, 0, 11, 29, 18, 200, 163, 0, 5, 29, 172, 26, 27]
abbrev dktJ11_newLength_0 : List UInt8 := dkwJ11_newLength_0 ++ dktJ11_newLength_1
theorem dksJ11_newLength_0 : cJ11_newLength.data.toList.drop 0 = dktJ11_newLength_0 := by decide +kernel
theorem dksJ11_newLength_1 : cJ11_newLength.data.toList.drop 23 = dktJ11_newLength_1 := dk_seg dksJ11_newLength_0 23 rfl rfl
theorem dJ11_newLength_0 : decode cJ11_newLength 0 = .ok (.iload_n 0, 1) := dk_26 (dk_at dksJ11_newLength_0 0 rfl rfl)
theorem dJ11_newLength_1 : decode cJ11_newLength 1 = .ok (.iload_n 1, 1) := dk_27 (dk_at dksJ11_newLength_0 1 rfl rfl)
theorem dJ11_newLength_2 : decode cJ11_newLength 2 = .ok (.iload_n 2, 1) := dk_28 (dk_at dksJ11_newLength_0 2 rfl rfl)
theorem dJ11_newLength_3 : decode cJ11_newLength 3 = .ok (.invokestatic 194, 3) := dk_184 0 194 (dk_at dksJ11_newLength_0 3 rfl rfl)
theorem dJ11_newLength_6 : decode cJ11_newLength 6 = .ok (.iadd, 1) := dk_96 (dk_at dksJ11_newLength_0 6 rfl rfl)
theorem dJ11_newLength_7 : decode cJ11_newLength 7 = .ok (.istore_n 3, 1) := dk_62 (dk_at dksJ11_newLength_0 7 rfl rfl)
theorem dJ11_newLength_8 : decode cJ11_newLength 8 = .ok (.iconst 0, 1) := dk_3 (dk_at dksJ11_newLength_0 8 rfl rfl)
theorem dJ11_newLength_9 : decode cJ11_newLength 9 = .ok (.iload_n 3, 1) := dk_29 (dk_at dksJ11_newLength_0 9 rfl rfl)
theorem dJ11_newLength_10 : decode cJ11_newLength 10 = .ok (.if_icmp .ge 11, 3) := dk_162 0 11 (dk_at dksJ11_newLength_0 10 rfl rfl)
theorem dJ11_newLength_13 : decode cJ11_newLength 13 = .ok (.iload_n 3, 1) := dk_29 (dk_at dksJ11_newLength_0 13 rfl rfl)
theorem dJ11_newLength_14 : decode cJ11_newLength 14 = .ok (.ldc 200, 2) := dk_18 200 (dk_at dksJ11_newLength_0 14 rfl rfl)
theorem dJ11_newLength_16 : decode cJ11_newLength 16 = .ok (.if_icmp .gt 5, 3) := dk_163 0 5 (dk_at dksJ11_newLength_0 16 rfl rfl)
theorem dJ11_newLength_19 : decode cJ11_newLength 19 = .ok (.iload_n 3, 1) := dk_29 (dk_at dksJ11_newLength_0 19 rfl rfl)
theorem dJ11_newLength_20 : decode cJ11_newLength 20 = .ok (.ireturn, 1) := dk_172 (dk_at dksJ11_newLength_0 20 rfl rfl)
theorem dJ11_newLength_21 : decode cJ11_newLength 21 = .ok (.iload_n 0, 1) := dk_26 (dk_at dksJ11_newLength_0 21 rfl rfl)
theorem dJ11_newLength_22 : decode cJ11_newLength 22 = .ok (.iload_n 1, 1) := dk_27 (dk_at dksJ11_newLength_0 22 rfl rfl)
theorem dJ11_newLength_23 : decode cJ11_newLength 23 = .ok (.invokestatic 201, 3) := dk_184 0 201 (dk_at dksJ11_newLength_1 0 rfl rfl)
theorem dJ11_newLength_26 : decode cJ11_newLength 26 = .ok (.ireturn, 1) := dk_172 (dk_at dksJ11_newLength_1 3 rfl rfl)
abbrev cJ11_hugeLength : ByteArray := prog_41_method_28_code
def yJ11_hugeLength : MethodName := ⟨RJ11, "hugeLength", "(II)I"⟩
def dkwJ11_hugeLength_2 : List UInt8 := [191, 28, 18, 200, 163, 0, 6, 18, 200, 172, 28, 172]
abbrev dktJ11_hugeLength_2 : List UInt8 := dkwJ11_hugeLength_2 ++ []
def dkwJ11_hugeLength_1 : List UInt8 := [26, 182, 0, 98, 18, 208, 182, 0, 94, 27, 182, 0, 98, 18, 210, 182, 0, 94, 182, 0, 101, 183, 0, 212]
abbrev dktJ11_hugeLength_1 : List UInt8 := dkwJ11_hugeLength_1 ++ dktJ11_hugeLength_2
def dkwJ11_hugeLength_0 : List UInt8 := [26, 27, 96, 61, 28, 156, 0, 44, 187, 0, 204, 89, 187, 0, 89, 89, 183, 0, 91, 18, 206, 182, 0, 94]
abbrev dktJ11_hugeLength_0 : List UInt8 := dkwJ11_hugeLength_0 ++ dktJ11_hugeLength_1
theorem dksJ11_hugeLength_0 : cJ11_hugeLength.data.toList.drop 0 = dktJ11_hugeLength_0 := by decide +kernel
theorem dksJ11_hugeLength_1 : cJ11_hugeLength.data.toList.drop 24 = dktJ11_hugeLength_1 := dk_seg dksJ11_hugeLength_0 24 rfl rfl
theorem dksJ11_hugeLength_2 : cJ11_hugeLength.data.toList.drop 48 = dktJ11_hugeLength_2 := dk_seg dksJ11_hugeLength_1 24 rfl rfl
theorem dJ11_hugeLength_0 : decode cJ11_hugeLength 0 = .ok (.iload_n 0, 1) := dk_26 (dk_at dksJ11_hugeLength_0 0 rfl rfl)
theorem dJ11_hugeLength_1 : decode cJ11_hugeLength 1 = .ok (.iload_n 1, 1) := dk_27 (dk_at dksJ11_hugeLength_0 1 rfl rfl)
theorem dJ11_hugeLength_2 : decode cJ11_hugeLength 2 = .ok (.iadd, 1) := dk_96 (dk_at dksJ11_hugeLength_0 2 rfl rfl)
theorem dJ11_hugeLength_3 : decode cJ11_hugeLength 3 = .ok (.istore_n 2, 1) := dk_61 (dk_at dksJ11_hugeLength_0 3 rfl rfl)
theorem dJ11_hugeLength_4 : decode cJ11_hugeLength 4 = .ok (.iload_n 2, 1) := dk_28 (dk_at dksJ11_hugeLength_0 4 rfl rfl)
theorem dJ11_hugeLength_5 : decode cJ11_hugeLength 5 = .ok (.ifCond .ge 44, 3) := dk_156 0 44 (dk_at dksJ11_hugeLength_0 5 rfl rfl)
theorem dJ11_hugeLength_8 : decode cJ11_hugeLength 8 = .ok (.new 204, 3) := dk_187 0 204 (dk_at dksJ11_hugeLength_0 8 rfl rfl)
theorem dJ11_hugeLength_11 : decode cJ11_hugeLength 11 = .ok (.dup, 1) := dk_89 (dk_at dksJ11_hugeLength_0 11 rfl rfl)
theorem dJ11_hugeLength_12 : decode cJ11_hugeLength 12 = .ok (.new 89, 3) := dk_187 0 89 (dk_at dksJ11_hugeLength_0 12 rfl rfl)
theorem dJ11_hugeLength_15 : decode cJ11_hugeLength 15 = .ok (.dup, 1) := dk_89 (dk_at dksJ11_hugeLength_0 15 rfl rfl)
theorem dJ11_hugeLength_16 : decode cJ11_hugeLength 16 = .ok (.invokespecial 91, 3) := dk_183 0 91 (dk_at dksJ11_hugeLength_0 16 rfl rfl)
theorem dJ11_hugeLength_19 : decode cJ11_hugeLength 19 = .ok (.ldc 206, 2) := dk_18 206 (dk_at dksJ11_hugeLength_0 19 rfl rfl)
theorem dJ11_hugeLength_21 : decode cJ11_hugeLength 21 = .ok (.invokevirtual 94, 3) := dk_182 0 94 (dk_at dksJ11_hugeLength_0 21 rfl rfl)
theorem dJ11_hugeLength_24 : decode cJ11_hugeLength 24 = .ok (.iload_n 0, 1) := dk_26 (dk_at dksJ11_hugeLength_1 0 rfl rfl)
theorem dJ11_hugeLength_25 : decode cJ11_hugeLength 25 = .ok (.invokevirtual 98, 3) := dk_182 0 98 (dk_at dksJ11_hugeLength_1 1 rfl rfl)
theorem dJ11_hugeLength_28 : decode cJ11_hugeLength 28 = .ok (.ldc 208, 2) := dk_18 208 (dk_at dksJ11_hugeLength_1 4 rfl rfl)
theorem dJ11_hugeLength_30 : decode cJ11_hugeLength 30 = .ok (.invokevirtual 94, 3) := dk_182 0 94 (dk_at dksJ11_hugeLength_1 6 rfl rfl)
theorem dJ11_hugeLength_33 : decode cJ11_hugeLength 33 = .ok (.iload_n 1, 1) := dk_27 (dk_at dksJ11_hugeLength_1 9 rfl rfl)
theorem dJ11_hugeLength_34 : decode cJ11_hugeLength 34 = .ok (.invokevirtual 98, 3) := dk_182 0 98 (dk_at dksJ11_hugeLength_1 10 rfl rfl)
theorem dJ11_hugeLength_37 : decode cJ11_hugeLength 37 = .ok (.ldc 210, 2) := dk_18 210 (dk_at dksJ11_hugeLength_1 13 rfl rfl)
theorem dJ11_hugeLength_39 : decode cJ11_hugeLength 39 = .ok (.invokevirtual 94, 3) := dk_182 0 94 (dk_at dksJ11_hugeLength_1 15 rfl rfl)
theorem dJ11_hugeLength_42 : decode cJ11_hugeLength 42 = .ok (.invokevirtual 101, 3) := dk_182 0 101 (dk_at dksJ11_hugeLength_1 18 rfl rfl)
theorem dJ11_hugeLength_45 : decode cJ11_hugeLength 45 = .ok (.invokespecial 212, 3) := dk_183 0 212 (dk_at dksJ11_hugeLength_1 21 rfl rfl)
theorem dJ11_hugeLength_48 : decode cJ11_hugeLength 48 = .ok (.athrow, 1) := dk_191 (dk_at dksJ11_hugeLength_2 0 rfl rfl)
theorem dJ11_hugeLength_49 : decode cJ11_hugeLength 49 = .ok (.iload_n 2, 1) := dk_28 (dk_at dksJ11_hugeLength_2 1 rfl rfl)
theorem dJ11_hugeLength_50 : decode cJ11_hugeLength 50 = .ok (.ldc 200, 2) := dk_18 200 (dk_at dksJ11_hugeLength_2 2 rfl rfl)
theorem dJ11_hugeLength_52 : decode cJ11_hugeLength 52 = .ok (.if_icmp .gt 6, 3) := dk_163 0 6 (dk_at dksJ11_hugeLength_2 4 rfl rfl)
theorem dJ11_hugeLength_55 : decode cJ11_hugeLength 55 = .ok (.ldc 200, 2) := dk_18 200 (dk_at dksJ11_hugeLength_2 7 rfl rfl)
theorem dJ11_hugeLength_57 : decode cJ11_hugeLength 57 = .ok (.ireturn, 1) := dk_172 (dk_at dksJ11_hugeLength_2 9 rfl rfl)
theorem dJ11_hugeLength_58 : decode cJ11_hugeLength 58 = .ok (.iload_n 2, 1) := dk_28 (dk_at dksJ11_hugeLength_2 10 rfl rfl)
theorem dJ11_hugeLength_59 : decode cJ11_hugeLength 59 = .ok (.ireturn, 1) := dk_172 (dk_at dksJ11_hugeLength_2 11 rfl rfl)
theorem q110 : (Jvm.Cond.initialized "jdk/internal/util/ArraysSupport") ∈ lw_all := lw_g (lw_at lw_m1 23 rfl) rfl
theorem q843 : (Jvm.Cond.static ({ cls := "jdk/internal/util/ArraysSupport", name := "newLength", desc := "(III)I" } : Jvm.MethodName)) ∈ lw_all := lw_g (lw_at lw_m4 36 rfl) rfl
theorem q844 : (Jvm.Cond.code ({ cls := "jdk/internal/util/ArraysSupport", name := "newLength", desc := "(III)I" } : Jvm.MethodName) prog_41_method_27_code (4 : Nat) (Option.some Jvm.ClassFile.FieldType.int)) ∈ lw_all := lw_g (lw_at lw_m4 37 rfl) rfl
theorem q845 : (Jvm.Cond.methodLink "jdk/internal/util/ArraysSupport" (194 : Nat) ({ cls := "java/lang/Math", name := "max", desc := "(II)I" } : Jvm.MethodName)) ∈ lw_all := lw_g (lw_at lw_m4 38 rfl) rfl
theorem q848 : (Jvm.Cond.constant "jdk/internal/util/ArraysSupport" (200 : Nat) (2147483639 : Int32)) ∈ lw_all := lw_g (lw_at lw_m4 41 rfl) rfl
theorem q849 : (Jvm.Cond.methodLink "jdk/internal/util/ArraysSupport" (201 : Nat) ({ cls := "jdk/internal/util/ArraysSupport", name := "hugeLength", desc := "(II)I" } : Jvm.MethodName)) ∈ lw_all := lw_g (lw_at lw_m4 42 rfl) rfl
theorem q850 : (Jvm.Cond.static ({ cls := "jdk/internal/util/ArraysSupport", name := "hugeLength", desc := "(II)I" } : Jvm.MethodName)) ∈ lw_all := lw_g (lw_at lw_m4 43 rfl) rfl
theorem q851 : (Jvm.Cond.code ({ cls := "jdk/internal/util/ArraysSupport", name := "hugeLength", desc := "(II)I" } : Jvm.MethodName) prog_41_method_28_code (3 : Nat) (Option.some Jvm.ClassFile.FieldType.int)) ∈ lw_all := lw_g (lw_at lw_m4 44 rfl) rfl

/-! java/lang/Math -/
set_option maxRecDepth 100000
def RJ12 : String := "java/lang/Math"
abbrev cJ12_max : ByteArray := prog_24_method_65_code
def yJ12_max : MethodName := ⟨RJ12, "max", "(II)I"⟩
def dkwJ12_max_0 : List UInt8 := [26, 27, 161, 0, 7, 26, 167, 0, 4, 27, 172]
abbrev dktJ12_max_0 : List UInt8 := dkwJ12_max_0 ++ []
theorem dksJ12_max_0 : cJ12_max.data.toList.drop 0 = dktJ12_max_0 := by decide +kernel
theorem dJ12_max_0 : decode cJ12_max 0 = .ok (.iload_n 0, 1) := dk_26 (dk_at dksJ12_max_0 0 rfl rfl)
theorem dJ12_max_1 : decode cJ12_max 1 = .ok (.iload_n 1, 1) := dk_27 (dk_at dksJ12_max_0 1 rfl rfl)
theorem dJ12_max_2 : decode cJ12_max 2 = .ok (.if_icmp .lt 7, 3) := dk_161 0 7 (dk_at dksJ12_max_0 2 rfl rfl)
theorem dJ12_max_5 : decode cJ12_max 5 = .ok (.iload_n 0, 1) := dk_26 (dk_at dksJ12_max_0 5 rfl rfl)
theorem dJ12_max_6 : decode cJ12_max 6 = .ok (.goto 4, 3) := dk_167 0 4 (dk_at dksJ12_max_0 6 rfl rfl)
theorem dJ12_max_9 : decode cJ12_max 9 = .ok (.iload_n 1, 1) := dk_27 (dk_at dksJ12_max_0 9 rfl rfl)
theorem dJ12_max_10 : decode cJ12_max 10 = .ok (.ireturn, 1) := dk_172 (dk_at dksJ12_max_0 10 rfl rfl)
abbrev cJ12_min : ByteArray := prog_24_method_69_code
def yJ12_min : MethodName := ⟨RJ12, "min", "(II)I"⟩
def dkwJ12_min_0 : List UInt8 := [26, 27, 163, 0, 7, 26, 167, 0, 4, 27, 172]
abbrev dktJ12_min_0 : List UInt8 := dkwJ12_min_0 ++ []
theorem dksJ12_min_0 : cJ12_min.data.toList.drop 0 = dktJ12_min_0 := by decide +kernel
theorem dJ12_min_0 : decode cJ12_min 0 = .ok (.iload_n 0, 1) := dk_26 (dk_at dksJ12_min_0 0 rfl rfl)
theorem dJ12_min_1 : decode cJ12_min 1 = .ok (.iload_n 1, 1) := dk_27 (dk_at dksJ12_min_0 1 rfl rfl)
theorem dJ12_min_2 : decode cJ12_min 2 = .ok (.if_icmp .gt 7, 3) := dk_163 0 7 (dk_at dksJ12_min_0 2 rfl rfl)
theorem dJ12_min_5 : decode cJ12_min 5 = .ok (.iload_n 0, 1) := dk_26 (dk_at dksJ12_min_0 5 rfl rfl)
theorem dJ12_min_6 : decode cJ12_min 6 = .ok (.goto 4, 3) := dk_167 0 4 (dk_at dksJ12_min_0 6 rfl rfl)
theorem dJ12_min_9 : decode cJ12_min 9 = .ok (.iload_n 1, 1) := dk_27 (dk_at dksJ12_min_0 9 rfl rfl)
theorem dJ12_min_10 : decode cJ12_min 10 = .ok (.ireturn, 1) := dk_172 (dk_at dksJ12_min_0 10 rfl rfl)
abbrev cJ12_abs : ByteArray := prog_24_method_59_code
def yJ12_abs : MethodName := ⟨RJ12, "abs", "(I)I"⟩
def dkwJ12_abs_0 : List UInt8 := [26, 156, 0, 8, 26, 116, 167, 0, 4, 26, 172]
abbrev dktJ12_abs_0 : List UInt8 := dkwJ12_abs_0 ++ []
theorem dksJ12_abs_0 : cJ12_abs.data.toList.drop 0 = dktJ12_abs_0 := by decide +kernel
theorem dJ12_abs_0 : decode cJ12_abs 0 = .ok (.iload_n 0, 1) := dk_26 (dk_at dksJ12_abs_0 0 rfl rfl)
theorem dJ12_abs_1 : decode cJ12_abs 1 = .ok (.ifCond .ge 8, 3) := dk_156 0 8 (dk_at dksJ12_abs_0 1 rfl rfl)
theorem dJ12_abs_4 : decode cJ12_abs 4 = .ok (.iload_n 0, 1) := dk_26 (dk_at dksJ12_abs_0 4 rfl rfl)
theorem dJ12_abs_5 : decode cJ12_abs 5 = .ok (.ineg, 1) := dk_116 (dk_at dksJ12_abs_0 5 rfl rfl)
theorem dJ12_abs_6 : decode cJ12_abs 6 = .ok (.goto 4, 3) := dk_167 0 4 (dk_at dksJ12_abs_0 6 rfl rfl)
theorem dJ12_abs_9 : decode cJ12_abs 9 = .ok (.iload_n 0, 1) := dk_26 (dk_at dksJ12_abs_0 9 rfl rfl)
theorem dJ12_abs_10 : decode cJ12_abs 10 = .ok (.ireturn, 1) := dk_172 (dk_at dksJ12_abs_0 10 rfl rfl)
theorem q111 : (Jvm.Cond.initialized "java/lang/Math") ∈ lw_all := lw_g (lw_at lw_m1 24 rfl) rfl
theorem q846 : (Jvm.Cond.static ({ cls := "java/lang/Math", name := "max", desc := "(II)I" } : Jvm.MethodName)) ∈ lw_all := lw_g (lw_at lw_m4 39 rfl) rfl
theorem q847 : (Jvm.Cond.code ({ cls := "java/lang/Math", name := "max", desc := "(II)I" } : Jvm.MethodName) prog_24_method_65_code (2 : Nat) (Option.some Jvm.ClassFile.FieldType.int)) ∈ lw_all := lw_g (lw_at lw_m4 40 rfl) rfl
theorem q881 : (Jvm.Cond.static ({ cls := "java/lang/Math", name := "min", desc := "(II)I" } : Jvm.MethodName)) ∈ lw_all := lw_g (lw_at lw_m4 74 rfl) rfl
theorem q882 : (Jvm.Cond.code ({ cls := "java/lang/Math", name := "min", desc := "(II)I" } : Jvm.MethodName) prog_24_method_69_code (2 : Nat) (Option.some Jvm.ClassFile.FieldType.int)) ∈ lw_all := lw_g (lw_at lw_m4 75 rfl) rfl
theorem q1163 : (Jvm.Cond.static ({ cls := "java/lang/Math", name := "abs", desc := "(I)I" } : Jvm.MethodName)) ∈ lw_all := lw_g (lw_at lw_m5 116 rfl) rfl
theorem q1164 : (Jvm.Cond.code ({ cls := "java/lang/Math", name := "abs", desc := "(I)I" } : Jvm.MethodName) prog_24_method_59_code (1 : Nat) (Option.some Jvm.ClassFile.FieldType.int)) ∈ lw_all := lw_g (lw_at lw_m5 117 rfl) rfl

/-! java/util/Objects -/
set_option maxRecDepth 100000
def RJ13 : String := "java/util/Objects"
abbrev cJ13_checkIndex : ByteArray := prog_38_method_17_code
def yJ13_checkIndex : MethodName := ⟨RJ13, "checkIndex", "(II)I"⟩
def dkwJ13_checkIndex_0 : List UInt8 := [26, 27, 1, 184, 0, 105, 172]
abbrev dktJ13_checkIndex_0 : List UInt8 := dkwJ13_checkIndex_0 ++ []
theorem dksJ13_checkIndex_0 : cJ13_checkIndex.data.toList.drop 0 = dktJ13_checkIndex_0 := by decide +kernel
theorem dJ13_checkIndex_0 : decode cJ13_checkIndex 0 = .ok (.iload_n 0, 1) := dk_26 (dk_at dksJ13_checkIndex_0 0 rfl rfl)
theorem dJ13_checkIndex_1 : decode cJ13_checkIndex 1 = .ok (.iload_n 1, 1) := dk_27 (dk_at dksJ13_checkIndex_0 1 rfl rfl)
theorem dJ13_checkIndex_2 : decode cJ13_checkIndex 2 = .ok (.aconst_null, 1) := dk_1 (dk_at dksJ13_checkIndex_0 2 rfl rfl)
theorem dJ13_checkIndex_3 : decode cJ13_checkIndex 3 = .ok (.invokestatic 105, 3) := dk_184 0 105 (dk_at dksJ13_checkIndex_0 3 rfl rfl)
theorem dJ13_checkIndex_6 : decode cJ13_checkIndex 6 = .ok (.ireturn, 1) := dk_172 (dk_at dksJ13_checkIndex_0 6 rfl rfl)
theorem q117 : (Jvm.Cond.initialized "java/util/Objects") ∈ lw_all := lw_g (lw_at lw_m1 30 rfl) rfl
theorem q1048 : (Jvm.Cond.static ({ cls := "java/util/Objects", name := "checkIndex", desc := "(II)I" } : Jvm.MethodName)) ∈ lw_all := lw_g (lw_at lw_m5 1 rfl) rfl
theorem q1049 : (Jvm.Cond.code ({ cls := "java/util/Objects", name := "checkIndex", desc := "(II)I" } : Jvm.MethodName) prog_38_method_17_code (2 : Nat) (Option.some Jvm.ClassFile.FieldType.int)) ∈ lw_all := lw_g (lw_at lw_m5 2 rfl) rfl
theorem q1050 : (Jvm.Cond.methodLink "java/util/Objects" (105 : Nat) ({ cls := "jdk/internal/util/Preconditions", name := "checkIndex", desc := "(IILjava/util/function/BiFunction;)I" } : Jvm.MethodName)) ∈ lw_all := lw_g (lw_at lw_m5 3 rfl) rfl

/-! java/lang/Object -/
set_option maxRecDepth 100000
def RJ14 : String := "java/lang/Object"
abbrev cJ14_init : ByteArray := object_method_1_code
def yJ14_init : MethodName := ⟨RJ14, "<init>", "()V"⟩
theorem dJ14_init_0 : decode cJ14_init 0 = .ok (.return_, 1) := by decide +kernel
theorem q124 : (Jvm.Cond.instanceMethod ({ cls := "java/lang/Object", name := "<init>", desc := "()V" } : Jvm.MethodName)) ∈ lw_all := lw_g (lw_at lw_m1 37 rfl) rfl
theorem q125 : (Jvm.Cond.code ({ cls := "java/lang/Object", name := "<init>", desc := "()V" } : Jvm.MethodName) object_method_1_code (1 : Nat) (Option.none : Option Jvm.ClassFile.FieldType)) ∈ lw_all := lw_g (lw_at lw_m1 38 rfl) rfl
theorem q592 : (Jvm.Cond.native ({ cls := "java/lang/Object", name := "clone", desc := "()Ljava/lang/Object;" } : Jvm.MethodName)) ∈ lw_all := lw_g (lw_at lw_m3 25 rfl) rfl
theorem q593 : (Jvm.Cond.instanceMethod ({ cls := "java/lang/Object", name := "clone", desc := "()Ljava/lang/Object;" } : Jvm.MethodName)) ∈ lw_all := lw_g (lw_at lw_m3 26 rfl) rfl
theorem q856 : (Jvm.Cond.instanceMethod ({ cls := "java/lang/Object", name := "getClass", desc := "()Ljava/lang/Class;" } : Jvm.MethodName)) ∈ lw_all := lw_g (lw_at lw_m4 49 rfl) rfl
theorem q857 : (Jvm.Cond.sameMethod "java/lang/Object" "java/lang/Object" "getClass" "()Ljava/lang/Class;") ∈ lw_all := lw_g (lw_at lw_m4 50 rfl) rfl
theorem q873 : (Jvm.Cond.native ({ cls := "java/lang/Object", name := "getClass", desc := "()Ljava/lang/Class;" } : Jvm.MethodName)) ∈ lw_all := lw_g (lw_at lw_m4 66 rfl) rfl
theorem q2004 : (Jvm.Cond.initialized "java/lang/Object") ∈ lw_all := lw_g (lw_at lw_m8 237 rfl) rfl
theorem q2024 : (Jvm.Cond.declares ({ cls := "java/lang/Object", name := "getClass", desc := "()Ljava/lang/Class;" } : Jvm.MethodName)) ∈ lw_tbl := lw_at lw_m9 17 rfl

/-! java/lang/Enum -/
set_option maxRecDepth 100000
def RJ2 : String := "java/lang/Enum"
abbrev cJ2_ordinal : ByteArray := prog_21_method_2_code
def yJ2_ordinal : MethodName := ⟨RJ2, "ordinal", "()I"⟩
theorem dJ2_ordinal_0 : decode cJ2_ordinal 0 = .ok (.aload_n 0, 1) := by decide +kernel
theorem dJ2_ordinal_1 : decode cJ2_ordinal 1 = .ok (.getfield 7, 3) := by decide +kernel
theorem dJ2_ordinal_4 : decode cJ2_ordinal 4 = .ok (.ireturn, 1) := by decide +kernel
theorem q93 : (Jvm.Cond.initialized "java/lang/Enum") ∈ lw_all := lw_g (lw_at lw_m1 6 rfl) rfl
theorem q203 : (Jvm.Cond.declares ({ cls := "java/lang/Enum", name := "ordinal", desc := "()I" } : Jvm.MethodName)) ∈ lw_tbl := lw_at lw_m1 116 rfl
theorem q205 : (Jvm.Cond.instanceMethod ({ cls := "java/lang/Enum", name := "ordinal", desc := "()I" } : Jvm.MethodName)) ∈ lw_all := lw_g (lw_at lw_m1 118 rfl) rfl
theorem q206 : (Jvm.Cond.code ({ cls := "java/lang/Enum", name := "ordinal", desc := "()I" } : Jvm.MethodName) prog_21_method_2_code (1 : Nat) (Option.some Jvm.ClassFile.FieldType.int)) ∈ lw_all := lw_g (lw_at lw_m1 119 rfl) rfl
theorem q2031 : (Jvm.Cond.fieldLink "java/lang/Enum" (7 : Nat) "java/lang/Enum" "ordinal" "I") ∈ lw_all := lw_g (lw_at lw_m9 24 rfl) rfl

/-! java/util/AbstractCollection -/
set_option maxRecDepth 100000
def RJ3 : String := "java/util/AbstractCollection"
abbrev cJ3_init : ByteArray := prog_32_method_1_code
def yJ3_init : MethodName := ⟨RJ3, "<init>", "()V"⟩
theorem dJ3_init_0 : decode cJ3_init 0 = .ok (.aload_n 0, 1) := by decide +kernel
theorem dJ3_init_1 : decode cJ3_init 1 = .ok (.invokespecial 1, 3) := by decide +kernel
theorem dJ3_init_4 : decode cJ3_init 4 = .ok (.return_, 1) := by decide +kernel
theorem q96 : (Jvm.Cond.initialized "java/util/AbstractCollection") ∈ lw_all := lw_g (lw_at lw_m1 9 rfl) rfl
theorem q295 : (Jvm.Cond.instanceMethod ({ cls := "java/util/AbstractCollection", name := "<init>", desc := "()V" } : Jvm.MethodName)) ∈ lw_all := lw_g (lw_at lw_m1 208 rfl) rfl
theorem q296 : (Jvm.Cond.code ({ cls := "java/util/AbstractCollection", name := "<init>", desc := "()V" } : Jvm.MethodName) prog_32_method_1_code (1 : Nat) (Option.none : Option Jvm.ClassFile.FieldType)) ∈ lw_all := lw_g (lw_at lw_m1 209 rfl) rfl
theorem q297 : (Jvm.Cond.methodLink "java/util/AbstractCollection" (1 : Nat) ({ cls := "java/lang/Object", name := "<init>", desc := "()V" } : Jvm.MethodName)) ∈ lw_all := lw_g (lw_at lw_m1 210 rfl) rfl

/-! java/util/AbstractList -/
set_option maxRecDepth 100000
def RJ4 : String := "java/util/AbstractList"
abbrev cJ4_init : ByteArray := prog_33_method_1_code
def yJ4_init : MethodName := ⟨RJ4, "<init>", "()V"⟩
def dkwJ4_init_0 : List UInt8 := [42, 183, 0, 1, 42, 3, 181, 0, 7, 177]
abbrev dktJ4_init_0 : List UInt8 := dkwJ4_init_0 ++ []
theorem dksJ4_init_0 : cJ4_init.data.toList.drop 0 = dktJ4_init_0 := by decide +kernel
theorem dJ4_init_0 : decode cJ4_init 0 = .ok (.aload_n 0, 1) := dk_42 (dk_at dksJ4_init_0 0 rfl rfl)
theorem dJ4_init_1 : decode cJ4_init 1 = .ok (.invokespecial 1, 3) := dk_183 0 1 (dk_at dksJ4_init_0 1 rfl rfl)
theorem dJ4_init_4 : decode cJ4_init 4 = .ok (.aload_n 0, 1) := dk_42 (dk_at dksJ4_init_0 4 rfl rfl)
theorem dJ4_init_5 : decode cJ4_init 5 = .ok (.iconst 0, 1) := dk_3 (dk_at dksJ4_init_0 5 rfl rfl)
theorem dJ4_init_6 : decode cJ4_init 6 = .ok (.putfield 7, 3) := dk_181 0 7 (dk_at dksJ4_init_0 6 rfl rfl)
theorem dJ4_init_9 : decode cJ4_init 9 = .ok (.return_, 1) := dk_177 (dk_at dksJ4_init_0 9 rfl rfl)
theorem q97 : (Jvm.Cond.initialized "java/util/AbstractList") ∈ lw_all := lw_g (lw_at lw_m1 10 rfl) rfl
theorem q292 : (Jvm.Cond.instanceMethod ({ cls := "java/util/AbstractList", name := "<init>", desc := "()V" } : Jvm.MethodName)) ∈ lw_all := lw_g (lw_at lw_m1 205 rfl) rfl
theorem q293 : (Jvm.Cond.code ({ cls := "java/util/AbstractList", name := "<init>", desc := "()V" } : Jvm.MethodName) prog_33_method_1_code (1 : Nat) (Option.none : Option Jvm.ClassFile.FieldType)) ∈ lw_all := lw_g (lw_at lw_m1 206 rfl) rfl
theorem q294 : (Jvm.Cond.methodLink "java/util/AbstractList" (1 : Nat) ({ cls := "java/util/AbstractCollection", name := "<init>", desc := "()V" } : Jvm.MethodName)) ∈ lw_all := lw_g (lw_at lw_m1 207 rfl) rfl
theorem q302 : (Jvm.Cond.fieldLink "java/util/AbstractList" (7 : Nat) "java/util/AbstractList" "modCount" "I") ∈ lw_all := lw_g (lw_at lw_m1 215 rfl) rfl
theorem q310 : (Jvm.Cond.soleField "java/util/AbstractList" "modCount") ∈ lw_all := lw_g (lw_at lw_m1 223 rfl) rfl

/-! java/util/ArrayList -/
set_option maxRecDepth 100000
def RJ5 : String := "java/util/ArrayList"
def TJ5 : u_T := fun k => match k with
  | 0 => ("java/util/AbstractList", "modCount", "I", false)
  | 1 => ("java/util/ArrayList", "elementData", "[Ljava/lang/Object;", false)
  | _ => ("java/util/ArrayList", "size", "I", false)
def tyJ5 : Nat → FieldType := fun k => match k with
  | 0 => .int
  | 1 => .array (.object "java/lang/Object")
  | _ => .int
abbrev wsJ50 : List Cond := u_ws RJ5 TJ5 3
theorem nmJ5 : ∀ a, a < 3 → ∀ b, b < 3 → a ≠ b → (TJ5 a).2.1 ≠ (TJ5 b).2.1 := by decide +kernel
theorem tyJ5_ok : ∀ k, k < 3 → parseFieldDescriptor (TJ5 k).2.2.1 = some (tyJ5 k) := by decide +kernel
abbrev cJ5_init : ByteArray := prog_34_method_2_code
def yJ5_init : MethodName := ⟨RJ5, "<init>", "()V"⟩
def dkwJ5_init_0 : List UInt8 := [42, 183, 0, 1, 42, 178, 0, 39, 181, 0, 9, 177]
abbrev dktJ5_init_0 : List UInt8 := dkwJ5_init_0 ++ []
theorem dksJ5_init_0 : cJ5_init.data.toList.drop 0 = dktJ5_init_0 := by decide +kernel
theorem dJ5_init_0 : decode cJ5_init 0 = .ok (.aload_n 0, 1) := dk_42 (dk_at dksJ5_init_0 0 rfl rfl)
theorem dJ5_init_1 : decode cJ5_init 1 = .ok (.invokespecial 1, 3) := dk_183 0 1 (dk_at dksJ5_init_0 1 rfl rfl)
theorem dJ5_init_4 : decode cJ5_init 4 = .ok (.aload_n 0, 1) := dk_42 (dk_at dksJ5_init_0 4 rfl rfl)
theorem dJ5_init_5 : decode cJ5_init 5 = .ok (.getstatic 39, 3) := dk_178 0 39 (dk_at dksJ5_init_0 5 rfl rfl)
theorem dJ5_init_8 : decode cJ5_init 8 = .ok (.putfield 9, 3) := dk_181 0 9 (dk_at dksJ5_init_0 8 rfl rfl)
theorem dJ5_init_11 : decode cJ5_init 11 = .ok (.return_, 1) := dk_177 (dk_at dksJ5_init_0 11 rfl rfl)
abbrev cJ5_size : ByteArray := prog_34_method_8_code
def yJ5_size : MethodName := ⟨RJ5, "size", "()I"⟩
theorem dJ5_size_0 : decode cJ5_size 0 = .ok (.aload_n 0, 1) := by decide +kernel
theorem dJ5_size_1 : decode cJ5_size 1 = .ok (.getfield 48, 3) := by decide +kernel
theorem dJ5_size_4 : decode cJ5_size 4 = .ok (.ireturn, 1) := by decide +kernel
abbrev cJ5_add : ByteArray := prog_34_method_25_code
def yJ5_add : MethodName := ⟨RJ5, "add", "(Ljava/lang/Object;)Z"⟩
def dkwJ5_add_1 : List UInt8 := [172]
abbrev dktJ5_add_1 : List UInt8 := dkwJ5_add_1 ++ []
def dkwJ5_add_0 : List UInt8 := [42, 89, 180, 0, 63, 4, 96, 181, 0, 63, 42, 43, 42, 180, 0, 9, 42, 180, 0, 48, 182, 0, 131, 4]
abbrev dktJ5_add_0 : List UInt8 := dkwJ5_add_0 ++ dktJ5_add_1
theorem dksJ5_add_0 : cJ5_add.data.toList.drop 0 = dktJ5_add_0 := by decide +kernel
theorem dksJ5_add_1 : cJ5_add.data.toList.drop 24 = dktJ5_add_1 := dk_seg dksJ5_add_0 24 rfl rfl
theorem dJ5_add_0 : decode cJ5_add 0 = .ok (.aload_n 0, 1) := dk_42 (dk_at dksJ5_add_0 0 rfl rfl)
theorem dJ5_add_1 : decode cJ5_add 1 = .ok (.dup, 1) := dk_89 (dk_at dksJ5_add_0 1 rfl rfl)
theorem dJ5_add_2 : decode cJ5_add 2 = .ok (.getfield 63, 3) := dk_180 0 63 (dk_at dksJ5_add_0 2 rfl rfl)
theorem dJ5_add_5 : decode cJ5_add 5 = .ok (.iconst 1, 1) := dk_4 (dk_at dksJ5_add_0 5 rfl rfl)
theorem dJ5_add_6 : decode cJ5_add 6 = .ok (.iadd, 1) := dk_96 (dk_at dksJ5_add_0 6 rfl rfl)
theorem dJ5_add_7 : decode cJ5_add 7 = .ok (.putfield 63, 3) := dk_181 0 63 (dk_at dksJ5_add_0 7 rfl rfl)
theorem dJ5_add_10 : decode cJ5_add 10 = .ok (.aload_n 0, 1) := dk_42 (dk_at dksJ5_add_0 10 rfl rfl)
theorem dJ5_add_11 : decode cJ5_add 11 = .ok (.aload_n 1, 1) := dk_43 (dk_at dksJ5_add_0 11 rfl rfl)
theorem dJ5_add_12 : decode cJ5_add 12 = .ok (.aload_n 0, 1) := dk_42 (dk_at dksJ5_add_0 12 rfl rfl)
theorem dJ5_add_13 : decode cJ5_add 13 = .ok (.getfield 9, 3) := dk_180 0 9 (dk_at dksJ5_add_0 13 rfl rfl)
theorem dJ5_add_16 : decode cJ5_add 16 = .ok (.aload_n 0, 1) := dk_42 (dk_at dksJ5_add_0 16 rfl rfl)
theorem dJ5_add_17 : decode cJ5_add 17 = .ok (.getfield 48, 3) := dk_180 0 48 (dk_at dksJ5_add_0 17 rfl rfl)
theorem dJ5_add_20 : decode cJ5_add 20 = .ok (.invokevirtual 131, 3) := dk_182 0 131 (dk_at dksJ5_add_0 20 rfl rfl)
theorem dJ5_add_23 : decode cJ5_add 23 = .ok (.iconst 1, 1) := dk_4 (dk_at dksJ5_add_0 23 rfl rfl)
theorem dJ5_add_24 : decode cJ5_add 24 = .ok (.ireturn, 1) := dk_172 (dk_at dksJ5_add_1 0 rfl rfl)
abbrev cJ5_add_2 : ByteArray := prog_34_method_24_code
def yJ5_add_2 : MethodName := ⟨RJ5, "add", "(Ljava/lang/Object;[Ljava/lang/Object;I)V"⟩
def dkwJ5_add_2_0 : List UInt8 := [29, 44, 190, 160, 0, 8, 42, 182, 0, 129, 77, 44, 29, 43, 83, 42, 29, 4, 96, 181, 0, 48, 177]
abbrev dktJ5_add_2_0 : List UInt8 := dkwJ5_add_2_0 ++ []
theorem dksJ5_add_2_0 : cJ5_add_2.data.toList.drop 0 = dktJ5_add_2_0 := by decide +kernel
theorem dJ5_add_2_0 : decode cJ5_add_2 0 = .ok (.iload_n 3, 1) := dk_29 (dk_at dksJ5_add_2_0 0 rfl rfl)
theorem dJ5_add_2_1 : decode cJ5_add_2 1 = .ok (.aload_n 2, 1) := dk_44 (dk_at dksJ5_add_2_0 1 rfl rfl)
theorem dJ5_add_2_2 : decode cJ5_add_2 2 = .ok (.arraylength, 1) := dk_190 (dk_at dksJ5_add_2_0 2 rfl rfl)
theorem dJ5_add_2_3 : decode cJ5_add_2 3 = .ok (.if_icmp .ne 8, 3) := dk_160 0 8 (dk_at dksJ5_add_2_0 3 rfl rfl)
theorem dJ5_add_2_6 : decode cJ5_add_2 6 = .ok (.aload_n 0, 1) := dk_42 (dk_at dksJ5_add_2_0 6 rfl rfl)
theorem dJ5_add_2_7 : decode cJ5_add_2 7 = .ok (.invokevirtual 129, 3) := dk_182 0 129 (dk_at dksJ5_add_2_0 7 rfl rfl)
theorem dJ5_add_2_10 : decode cJ5_add_2 10 = .ok (.astore_n 2, 1) := dk_77 (dk_at dksJ5_add_2_0 10 rfl rfl)
theorem dJ5_add_2_11 : decode cJ5_add_2 11 = .ok (.aload_n 2, 1) := dk_44 (dk_at dksJ5_add_2_0 11 rfl rfl)
theorem dJ5_add_2_12 : decode cJ5_add_2 12 = .ok (.iload_n 3, 1) := dk_29 (dk_at dksJ5_add_2_0 12 rfl rfl)
theorem dJ5_add_2_13 : decode cJ5_add_2 13 = .ok (.aload_n 1, 1) := dk_43 (dk_at dksJ5_add_2_0 13 rfl rfl)
theorem dJ5_add_2_14 : decode cJ5_add_2 14 = .ok (.aastore, 1) := dk_83 (dk_at dksJ5_add_2_0 14 rfl rfl)
theorem dJ5_add_2_15 : decode cJ5_add_2 15 = .ok (.aload_n 0, 1) := dk_42 (dk_at dksJ5_add_2_0 15 rfl rfl)
theorem dJ5_add_2_16 : decode cJ5_add_2 16 = .ok (.iload_n 3, 1) := dk_29 (dk_at dksJ5_add_2_0 16 rfl rfl)
theorem dJ5_add_2_17 : decode cJ5_add_2 17 = .ok (.iconst 1, 1) := dk_4 (dk_at dksJ5_add_2_0 17 rfl rfl)
theorem dJ5_add_2_18 : decode cJ5_add_2 18 = .ok (.iadd, 1) := dk_96 (dk_at dksJ5_add_2_0 18 rfl rfl)
theorem dJ5_add_2_19 : decode cJ5_add_2 19 = .ok (.putfield 48, 3) := dk_181 0 48 (dk_at dksJ5_add_2_0 19 rfl rfl)
theorem dJ5_add_2_22 : decode cJ5_add_2 22 = .ok (.return_, 1) := dk_177 (dk_at dksJ5_add_2_0 22 rfl rfl)
abbrev cJ5_grow : ByteArray := prog_34_method_7_code
def yJ5_grow : MethodName := ⟨RJ5, "grow", "()[Ljava/lang/Object;"⟩
def dkwJ5_grow_0 : List UInt8 := [42, 42, 180, 0, 48, 4, 96, 182, 0, 69, 176]
abbrev dktJ5_grow_0 : List UInt8 := dkwJ5_grow_0 ++ []
theorem dksJ5_grow_0 : cJ5_grow.data.toList.drop 0 = dktJ5_grow_0 := by decide +kernel
theorem dJ5_grow_0 : decode cJ5_grow 0 = .ok (.aload_n 0, 1) := dk_42 (dk_at dksJ5_grow_0 0 rfl rfl)
theorem dJ5_grow_1 : decode cJ5_grow 1 = .ok (.aload_n 0, 1) := dk_42 (dk_at dksJ5_grow_0 1 rfl rfl)
theorem dJ5_grow_2 : decode cJ5_grow 2 = .ok (.getfield 48, 3) := dk_180 0 48 (dk_at dksJ5_grow_0 2 rfl rfl)
theorem dJ5_grow_5 : decode cJ5_grow 5 = .ok (.iconst 1, 1) := dk_4 (dk_at dksJ5_grow_0 5 rfl rfl)
theorem dJ5_grow_6 : decode cJ5_grow 6 = .ok (.iadd, 1) := dk_96 (dk_at dksJ5_grow_0 6 rfl rfl)
theorem dJ5_grow_7 : decode cJ5_grow 7 = .ok (.invokevirtual 69, 3) := dk_182 0 69 (dk_at dksJ5_grow_0 7 rfl rfl)
theorem dJ5_grow_10 : decode cJ5_grow 10 = .ok (.areturn, 1) := dk_176 (dk_at dksJ5_grow_0 10 rfl rfl)
abbrev cJ5_grow_2 : ByteArray := prog_34_method_6_code
def yJ5_grow_2 : MethodName := ⟨RJ5, "grow", "(I)[Ljava/lang/Object;"⟩
def dkwJ5_grow_2_2 : List UInt8 := [27, 184, 0, 79, 189, 0, 7, 90, 181, 0, 9, 176]
abbrev dktJ5_grow_2_2 : List UInt8 := dkwJ5_grow_2_2 ++ []
def dkwJ5_grow_2_1 : List UInt8 := [28, 4, 122, 184, 0, 73, 62, 42, 42, 180, 0, 9, 29, 184, 0, 66, 90, 181, 0, 9, 176, 42, 16, 10]
abbrev dktJ5_grow_2_1 : List UInt8 := dkwJ5_grow_2_1 ++ dktJ5_grow_2_2
def dkwJ5_grow_2_0 : List UInt8 := [42, 180, 0, 9, 190, 61, 28, 157, 0, 13, 42, 180, 0, 9, 178, 0, 39, 165, 0, 28, 28, 27, 28, 100]
abbrev dktJ5_grow_2_0 : List UInt8 := dkwJ5_grow_2_0 ++ dktJ5_grow_2_1
theorem dksJ5_grow_2_0 : cJ5_grow_2.data.toList.drop 0 = dktJ5_grow_2_0 := by decide +kernel
theorem dksJ5_grow_2_1 : cJ5_grow_2.data.toList.drop 24 = dktJ5_grow_2_1 := dk_seg dksJ5_grow_2_0 24 rfl rfl
theorem dksJ5_grow_2_2 : cJ5_grow_2.data.toList.drop 48 = dktJ5_grow_2_2 := dk_seg dksJ5_grow_2_1 24 rfl rfl
theorem dJ5_grow_2_0 : decode cJ5_grow_2 0 = .ok (.aload_n 0, 1) := dk_42 (dk_at dksJ5_grow_2_0 0 rfl rfl)
theorem dJ5_grow_2_1 : decode cJ5_grow_2 1 = .ok (.getfield 9, 3) := dk_180 0 9 (dk_at dksJ5_grow_2_0 1 rfl rfl)
theorem dJ5_grow_2_4 : decode cJ5_grow_2 4 = .ok (.arraylength, 1) := dk_190 (dk_at dksJ5_grow_2_0 4 rfl rfl)
theorem dJ5_grow_2_5 : decode cJ5_grow_2 5 = .ok (.istore_n 2, 1) := dk_61 (dk_at dksJ5_grow_2_0 5 rfl rfl)
theorem dJ5_grow_2_6 : decode cJ5_grow_2 6 = .ok (.iload_n 2, 1) := dk_28 (dk_at dksJ5_grow_2_0 6 rfl rfl)
theorem dJ5_grow_2_7 : decode cJ5_grow_2 7 = .ok (.ifCond .gt 13, 3) := dk_157 0 13 (dk_at dksJ5_grow_2_0 7 rfl rfl)
theorem dJ5_grow_2_10 : decode cJ5_grow_2 10 = .ok (.aload_n 0, 1) := dk_42 (dk_at dksJ5_grow_2_0 10 rfl rfl)
theorem dJ5_grow_2_11 : decode cJ5_grow_2 11 = .ok (.getfield 9, 3) := dk_180 0 9 (dk_at dksJ5_grow_2_0 11 rfl rfl)
theorem dJ5_grow_2_14 : decode cJ5_grow_2 14 = .ok (.getstatic 39, 3) := dk_178 0 39 (dk_at dksJ5_grow_2_0 14 rfl rfl)
theorem dJ5_grow_2_17 : decode cJ5_grow_2 17 = .ok (.if_acmp .eq 28, 3) := dk_165 0 28 (dk_at dksJ5_grow_2_0 17 rfl rfl)
theorem dJ5_grow_2_20 : decode cJ5_grow_2 20 = .ok (.iload_n 2, 1) := dk_28 (dk_at dksJ5_grow_2_0 20 rfl rfl)
theorem dJ5_grow_2_21 : decode cJ5_grow_2 21 = .ok (.iload_n 1, 1) := dk_27 (dk_at dksJ5_grow_2_0 21 rfl rfl)
theorem dJ5_grow_2_22 : decode cJ5_grow_2 22 = .ok (.iload_n 2, 1) := dk_28 (dk_at dksJ5_grow_2_0 22 rfl rfl)
theorem dJ5_grow_2_23 : decode cJ5_grow_2 23 = .ok (.isub, 1) := dk_100 (dk_at dksJ5_grow_2_0 23 rfl rfl)
theorem dJ5_grow_2_24 : decode cJ5_grow_2 24 = .ok (.iload_n 2, 1) := dk_28 (dk_at dksJ5_grow_2_1 0 rfl rfl)
theorem dJ5_grow_2_25 : decode cJ5_grow_2 25 = .ok (.iconst 1, 1) := dk_4 (dk_at dksJ5_grow_2_1 1 rfl rfl)
theorem dJ5_grow_2_26 : decode cJ5_grow_2 26 = .ok (.ishr, 1) := dk_122 (dk_at dksJ5_grow_2_1 2 rfl rfl)
theorem dJ5_grow_2_27 : decode cJ5_grow_2 27 = .ok (.invokestatic 73, 3) := dk_184 0 73 (dk_at dksJ5_grow_2_1 3 rfl rfl)
theorem dJ5_grow_2_30 : decode cJ5_grow_2 30 = .ok (.istore_n 3, 1) := dk_62 (dk_at dksJ5_grow_2_1 6 rfl rfl)
theorem dJ5_grow_2_31 : decode cJ5_grow_2 31 = .ok (.aload_n 0, 1) := dk_42 (dk_at dksJ5_grow_2_1 7 rfl rfl)
theorem dJ5_grow_2_32 : decode cJ5_grow_2 32 = .ok (.aload_n 0, 1) := dk_42 (dk_at dksJ5_grow_2_1 8 rfl rfl)
theorem dJ5_grow_2_33 : decode cJ5_grow_2 33 = .ok (.getfield 9, 3) := dk_180 0 9 (dk_at dksJ5_grow_2_1 9 rfl rfl)
theorem dJ5_grow_2_36 : decode cJ5_grow_2 36 = .ok (.iload_n 3, 1) := dk_29 (dk_at dksJ5_grow_2_1 12 rfl rfl)
theorem dJ5_grow_2_37 : decode cJ5_grow_2 37 = .ok (.invokestatic 66, 3) := dk_184 0 66 (dk_at dksJ5_grow_2_1 13 rfl rfl)
theorem dJ5_grow_2_40 : decode cJ5_grow_2 40 = .ok (.dup_x1, 1) := dk_90 (dk_at dksJ5_grow_2_1 16 rfl rfl)
theorem dJ5_grow_2_41 : decode cJ5_grow_2 41 = .ok (.putfield 9, 3) := dk_181 0 9 (dk_at dksJ5_grow_2_1 17 rfl rfl)
theorem dJ5_grow_2_44 : decode cJ5_grow_2 44 = .ok (.areturn, 1) := dk_176 (dk_at dksJ5_grow_2_1 20 rfl rfl)
theorem dJ5_grow_2_45 : decode cJ5_grow_2 45 = .ok (.aload_n 0, 1) := dk_42 (dk_at dksJ5_grow_2_1 21 rfl rfl)
theorem dJ5_grow_2_46 : decode cJ5_grow_2 46 = .ok (.bipush 10, 2) := dk_16 10 (dk_at dksJ5_grow_2_1 22 rfl rfl)
theorem dJ5_grow_2_48 : decode cJ5_grow_2 48 = .ok (.iload_n 1, 1) := dk_27 (dk_at dksJ5_grow_2_2 0 rfl rfl)
theorem dJ5_grow_2_49 : decode cJ5_grow_2 49 = .ok (.invokestatic 79, 3) := dk_184 0 79 (dk_at dksJ5_grow_2_2 1 rfl rfl)
theorem dJ5_grow_2_52 : decode cJ5_grow_2 52 = .ok (.anewarray 7, 3) := dk_189 0 7 (dk_at dksJ5_grow_2_2 4 rfl rfl)
theorem dJ5_grow_2_55 : decode cJ5_grow_2 55 = .ok (.dup_x1, 1) := dk_90 (dk_at dksJ5_grow_2_2 7 rfl rfl)
theorem dJ5_grow_2_56 : decode cJ5_grow_2 56 = .ok (.putfield 9, 3) := dk_181 0 9 (dk_at dksJ5_grow_2_2 8 rfl rfl)
theorem dJ5_grow_2_59 : decode cJ5_grow_2 59 = .ok (.areturn, 1) := dk_176 (dk_at dksJ5_grow_2_2 11 rfl rfl)
abbrev cJ5_clear : ByteArray := prog_34_method_40_code
def yJ5_clear : MethodName := ⟨RJ5, "clear", "()V"⟩
def dkwJ5_clear_1 : List UInt8 := [181, 0, 48, 62, 29, 28, 162, 0, 13, 43, 29, 1, 83, 132, 3, 1, 167, 255, 244, 177]
abbrev dktJ5_clear_1 : List UInt8 := dkwJ5_clear_1 ++ []
def dkwJ5_clear_0 : List UInt8 := [42, 89, 180, 0, 63, 4, 96, 181, 0, 63, 42, 180, 0, 9, 76, 42, 180, 0, 48, 61, 42, 3, 90]
abbrev dktJ5_clear_0 : List UInt8 := dkwJ5_clear_0 ++ dktJ5_clear_1
theorem dksJ5_clear_0 : cJ5_clear.data.toList.drop 0 = dktJ5_clear_0 := by decide +kernel
theorem dksJ5_clear_1 : cJ5_clear.data.toList.drop 23 = dktJ5_clear_1 := dk_seg dksJ5_clear_0 23 rfl rfl
theorem dJ5_clear_0 : decode cJ5_clear 0 = .ok (.aload_n 0, 1) := dk_42 (dk_at dksJ5_clear_0 0 rfl rfl)
theorem dJ5_clear_1 : decode cJ5_clear 1 = .ok (.dup, 1) := dk_89 (dk_at dksJ5_clear_0 1 rfl rfl)
theorem dJ5_clear_2 : decode cJ5_clear 2 = .ok (.getfield 63, 3) := dk_180 0 63 (dk_at dksJ5_clear_0 2 rfl rfl)
theorem dJ5_clear_5 : decode cJ5_clear 5 = .ok (.iconst 1, 1) := dk_4 (dk_at dksJ5_clear_0 5 rfl rfl)
theorem dJ5_clear_6 : decode cJ5_clear 6 = .ok (.iadd, 1) := dk_96 (dk_at dksJ5_clear_0 6 rfl rfl)
theorem dJ5_clear_7 : decode cJ5_clear 7 = .ok (.putfield 63, 3) := dk_181 0 63 (dk_at dksJ5_clear_0 7 rfl rfl)
theorem dJ5_clear_10 : decode cJ5_clear 10 = .ok (.aload_n 0, 1) := dk_42 (dk_at dksJ5_clear_0 10 rfl rfl)
theorem dJ5_clear_11 : decode cJ5_clear 11 = .ok (.getfield 9, 3) := dk_180 0 9 (dk_at dksJ5_clear_0 11 rfl rfl)
theorem dJ5_clear_14 : decode cJ5_clear 14 = .ok (.astore_n 1, 1) := dk_76 (dk_at dksJ5_clear_0 14 rfl rfl)
theorem dJ5_clear_15 : decode cJ5_clear 15 = .ok (.aload_n 0, 1) := dk_42 (dk_at dksJ5_clear_0 15 rfl rfl)
theorem dJ5_clear_16 : decode cJ5_clear 16 = .ok (.getfield 48, 3) := dk_180 0 48 (dk_at dksJ5_clear_0 16 rfl rfl)
theorem dJ5_clear_19 : decode cJ5_clear 19 = .ok (.istore_n 2, 1) := dk_61 (dk_at dksJ5_clear_0 19 rfl rfl)
theorem dJ5_clear_20 : decode cJ5_clear 20 = .ok (.aload_n 0, 1) := dk_42 (dk_at dksJ5_clear_0 20 rfl rfl)
theorem dJ5_clear_21 : decode cJ5_clear 21 = .ok (.iconst 0, 1) := dk_3 (dk_at dksJ5_clear_0 21 rfl rfl)
theorem dJ5_clear_22 : decode cJ5_clear 22 = .ok (.dup_x1, 1) := dk_90 (dk_at dksJ5_clear_0 22 rfl rfl)
theorem dJ5_clear_23 : decode cJ5_clear 23 = .ok (.putfield 48, 3) := dk_181 0 48 (dk_at dksJ5_clear_1 0 rfl rfl)
theorem dJ5_clear_26 : decode cJ5_clear 26 = .ok (.istore_n 3, 1) := dk_62 (dk_at dksJ5_clear_1 3 rfl rfl)
theorem dJ5_clear_27 : decode cJ5_clear 27 = .ok (.iload_n 3, 1) := dk_29 (dk_at dksJ5_clear_1 4 rfl rfl)
theorem dJ5_clear_28 : decode cJ5_clear 28 = .ok (.iload_n 2, 1) := dk_28 (dk_at dksJ5_clear_1 5 rfl rfl)
theorem dJ5_clear_29 : decode cJ5_clear 29 = .ok (.if_icmp .ge 13, 3) := dk_162 0 13 (dk_at dksJ5_clear_1 6 rfl rfl)
theorem dJ5_clear_32 : decode cJ5_clear 32 = .ok (.aload_n 1, 1) := dk_43 (dk_at dksJ5_clear_1 9 rfl rfl)
theorem dJ5_clear_33 : decode cJ5_clear 33 = .ok (.iload_n 3, 1) := dk_29 (dk_at dksJ5_clear_1 10 rfl rfl)
theorem dJ5_clear_34 : decode cJ5_clear 34 = .ok (.aconst_null, 1) := dk_1 (dk_at dksJ5_clear_1 11 rfl rfl)
theorem dJ5_clear_35 : decode cJ5_clear 35 = .ok (.aastore, 1) := dk_83 (dk_at dksJ5_clear_1 12 rfl rfl)
theorem dJ5_clear_36 : decode cJ5_clear 36 = .ok (.iinc 3 1, 3) := dk_132 3 1 (dk_at dksJ5_clear_1 13 rfl rfl)
theorem dJ5_clear_39 : decode cJ5_clear 39 = .ok (.goto (-12), 3) := dk_167 255 244 (dk_at dksJ5_clear_1 16 rfl rfl)
theorem dJ5_clear_42 : decode cJ5_clear 42 = .ok (.return_, 1) := dk_177 (dk_at dksJ5_clear_1 19 rfl rfl)
abbrev cJ5_get : ByteArray := prog_34_method_20_code
def yJ5_get : MethodName := ⟨RJ5, "get", "(I)Ljava/lang/Object;"⟩
def dkwJ5_get_0 : List UInt8 := [27, 42, 180, 0, 48, 184, 0, 118, 87, 42, 27, 182, 0, 123, 176]
abbrev dktJ5_get_0 : List UInt8 := dkwJ5_get_0 ++ []
theorem dksJ5_get_0 : cJ5_get.data.toList.drop 0 = dktJ5_get_0 := by decide +kernel
theorem dJ5_get_0 : decode cJ5_get 0 = .ok (.iload_n 1, 1) := dk_27 (dk_at dksJ5_get_0 0 rfl rfl)
theorem dJ5_get_1 : decode cJ5_get 1 = .ok (.aload_n 0, 1) := dk_42 (dk_at dksJ5_get_0 1 rfl rfl)
theorem dJ5_get_2 : decode cJ5_get 2 = .ok (.getfield 48, 3) := dk_180 0 48 (dk_at dksJ5_get_0 2 rfl rfl)
theorem dJ5_get_5 : decode cJ5_get 5 = .ok (.invokestatic 118, 3) := dk_184 0 118 (dk_at dksJ5_get_0 5 rfl rfl)
theorem dJ5_get_8 : decode cJ5_get 8 = .ok (.pop, 1) := dk_87 (dk_at dksJ5_get_0 8 rfl rfl)
theorem dJ5_get_9 : decode cJ5_get 9 = .ok (.aload_n 0, 1) := dk_42 (dk_at dksJ5_get_0 9 rfl rfl)
theorem dJ5_get_10 : decode cJ5_get 10 = .ok (.iload_n 1, 1) := dk_27 (dk_at dksJ5_get_0 10 rfl rfl)
theorem dJ5_get_11 : decode cJ5_get 11 = .ok (.invokevirtual 123, 3) := dk_182 0 123 (dk_at dksJ5_get_0 11 rfl rfl)
theorem dJ5_get_14 : decode cJ5_get 14 = .ok (.areturn, 1) := dk_176 (dk_at dksJ5_get_0 14 rfl rfl)
abbrev cJ5_elementData : ByteArray := prog_34_method_18_code
def yJ5_elementData : MethodName := ⟨RJ5, "elementData", "(I)Ljava/lang/Object;"⟩
def dkwJ5_elementData_0 : List UInt8 := [42, 180, 0, 9, 27, 50, 176]
abbrev dktJ5_elementData_0 : List UInt8 := dkwJ5_elementData_0 ++ []
theorem dksJ5_elementData_0 : cJ5_elementData.data.toList.drop 0 = dktJ5_elementData_0 := by decide +kernel
theorem dJ5_elementData_0 : decode cJ5_elementData 0 = .ok (.aload_n 0, 1) := dk_42 (dk_at dksJ5_elementData_0 0 rfl rfl)
theorem dJ5_elementData_1 : decode cJ5_elementData 1 = .ok (.getfield 9, 3) := dk_180 0 9 (dk_at dksJ5_elementData_0 1 rfl rfl)
theorem dJ5_elementData_4 : decode cJ5_elementData 4 = .ok (.iload_n 1, 1) := dk_27 (dk_at dksJ5_elementData_0 4 rfl rfl)
theorem dJ5_elementData_5 : decode cJ5_elementData 5 = .ok (.aaload, 1) := dk_50 (dk_at dksJ5_elementData_0 5 rfl rfl)
theorem dJ5_elementData_6 : decode cJ5_elementData 6 = .ok (.areturn, 1) := dk_176 (dk_at dksJ5_elementData_0 6 rfl rfl)
theorem q98 : (Jvm.Cond.initialized "java/util/ArrayList") ∈ lw_all := lw_g (lw_at lw_m1 11 rfl) rfl
theorem q287 : (Jvm.Cond.instantiable "java/util/ArrayList" (3 : Nat)) ∈ lw_all := lw_g (lw_at lw_m1 200 rfl) rfl
theorem q289 : (Jvm.Cond.instanceMethod ({ cls := "java/util/ArrayList", name := "<init>", desc := "()V" } : Jvm.MethodName)) ∈ lw_all := lw_g (lw_at lw_m1 202 rfl) rfl
theorem q290 : (Jvm.Cond.code ({ cls := "java/util/ArrayList", name := "<init>", desc := "()V" } : Jvm.MethodName) prog_34_method_2_code (1 : Nat) (Option.none : Option Jvm.ClassFile.FieldType)) ∈ lw_all := lw_g (lw_at lw_m1 203 rfl) rfl
theorem q291 : (Jvm.Cond.methodLink "java/util/ArrayList" (1 : Nat) ({ cls := "java/util/AbstractList", name := "<init>", desc := "()V" } : Jvm.MethodName)) ∈ lw_all := lw_g (lw_at lw_m1 204 rfl) rfl
theorem q298 : (Jvm.Cond.fieldLink "java/util/ArrayList" (39 : Nat) "java/util/ArrayList" "DEFAULTCAPACITY_EMPTY_ELEMENTDATA" "[Ljava/lang/Object;") ∈ lw_all := lw_g (lw_at lw_m1 211 rfl) rfl
theorem q299 : (Jvm.Cond.laysStatic "java/util/ArrayList" "DEFAULTCAPACITY_EMPTY_ELEMENTDATA" "[Ljava/lang/Object;") ∈ lw_tbl := lw_at lw_m1 212 rfl
theorem q300 : (Jvm.Cond.fieldLink "java/util/ArrayList" (9 : Nat) "java/util/ArrayList" "elementData" "[Ljava/lang/Object;") ∈ lw_all := lw_g (lw_at lw_m1 213 rfl) rfl
theorem q301 : (Jvm.Cond.fieldLink "java/util/ArrayList" (48 : Nat) "java/util/ArrayList" "size" "I") ∈ lw_all := lw_g (lw_at lw_m1 214 rfl) rfl
theorem q303 : (Jvm.Cond.fieldLink "java/util/ArrayList" (63 : Nat) "java/util/ArrayList" "modCount" "I") ∈ lw_all := lw_g (lw_at lw_m1 216 rfl) rfl
theorem q304 : (Jvm.Cond.sameField "java/util/ArrayList" "java/util/AbstractList" "modCount" "I") ∈ lw_all := lw_g (lw_at lw_m1 217 rfl) rfl
theorem q305 : (Jvm.Cond.lays "java/util/ArrayList" "java/util/ArrayList" "elementData" "[Ljava/lang/Object;") ∈ lw_all := lw_g (lw_at lw_m1 218 rfl) rfl
theorem q306 : (Jvm.Cond.soleField "java/util/ArrayList" "elementData") ∈ lw_all := lw_g (lw_at lw_m1 219 rfl) rfl
theorem q307 : (Jvm.Cond.lays "java/util/ArrayList" "java/util/ArrayList" "size" "I") ∈ lw_all := lw_g (lw_at lw_m1 220 rfl) rfl
theorem q308 : (Jvm.Cond.soleField "java/util/ArrayList" "size") ∈ lw_all := lw_g (lw_at lw_m1 221 rfl) rfl
theorem q309 : (Jvm.Cond.lays "java/util/ArrayList" "java/util/AbstractList" "modCount" "I") ∈ lw_all := lw_g (lw_at lw_m1 222 rfl) rfl
theorem q311 : (Jvm.Cond.superclass "java/util/ArrayList" "java/util/AbstractList") ∈ lw_all := lw_g (lw_at lw_m1 224 rfl) rfl
theorem q769 : (Jvm.Cond.instanceMethod ({ cls := "java/util/ArrayList", name := "size", desc := "()I" } : Jvm.MethodName)) ∈ lw_all := lw_g (lw_at lw_m3 202 rfl) rfl
theorem q770 : (Jvm.Cond.selects "java/util/ArrayList" ({ cls := "java/util/ArrayList", name := "size", desc := "()I" } : Jvm.MethodName) ({ cls := "java/util/ArrayList", name := "size", desc := "()I" } : Jvm.MethodName)) ∈ lw_all := lw_g (lw_at lw_m3 203 rfl) rfl
theorem q771 : (Jvm.Cond.code ({ cls := "java/util/ArrayList", name := "size", desc := "()I" } : Jvm.MethodName) prog_34_method_8_code (1 : Nat) (Option.some Jvm.ClassFile.FieldType.int)) ∈ lw_all := lw_g (lw_at lw_m3 204 rfl) rfl
theorem q827 : (Jvm.Cond.instanceMethod ({ cls := "java/util/ArrayList", name := "add", desc := "(Ljava/lang/Object;)Z" } : Jvm.MethodName)) ∈ lw_all := lw_g (lw_at lw_m4 20 rfl) rfl
theorem q828 : (Jvm.Cond.selects "java/util/ArrayList" ({ cls := "java/util/ArrayList", name := "add", desc := "(Ljava/lang/Object;)Z" } : Jvm.MethodName) ({ cls := "java/util/ArrayList", name := "add", desc := "(Ljava/lang/Object;)Z" } : Jvm.MethodName)) ∈ lw_all := lw_g (lw_at lw_m4 21 rfl) rfl
theorem q829 : (Jvm.Cond.code ({ cls := "java/util/ArrayList", name := "add", desc := "(Ljava/lang/Object;)Z" } : Jvm.MethodName) prog_34_method_25_code (2 : Nat) (Option.some Jvm.ClassFile.FieldType.boolean)) ∈ lw_all := lw_g (lw_at lw_m4 22 rfl) rfl
theorem q830 : (Jvm.Cond.methodLink "java/util/ArrayList" (131 : Nat) ({ cls := "java/util/ArrayList", name := "add", desc := "(Ljava/lang/Object;[Ljava/lang/Object;I)V" } : Jvm.MethodName)) ∈ lw_all := lw_g (lw_at lw_m4 23 rfl) rfl
theorem q831 : (Jvm.Cond.privateMethod ({ cls := "java/util/ArrayList", name := "add", desc := "(Ljava/lang/Object;[Ljava/lang/Object;I)V" } : Jvm.MethodName)) ∈ lw_tbl := lw_at lw_m4 24 rfl
theorem q832 : (Jvm.Cond.instanceMethod ({ cls := "java/util/ArrayList", name := "add", desc := "(Ljava/lang/Object;[Ljava/lang/Object;I)V" } : Jvm.MethodName)) ∈ lw_all := lw_g (lw_at lw_m4 25 rfl) rfl
theorem q833 : (Jvm.Cond.code ({ cls := "java/util/ArrayList", name := "add", desc := "(Ljava/lang/Object;[Ljava/lang/Object;I)V" } : Jvm.MethodName) prog_34_method_24_code (4 : Nat) (Option.none : Option Jvm.ClassFile.FieldType)) ∈ lw_all := lw_g (lw_at lw_m4 26 rfl) rfl
theorem q834 : (Jvm.Cond.methodLink "java/util/ArrayList" (129 : Nat) ({ cls := "java/util/ArrayList", name := "grow", desc := "()[Ljava/lang/Object;" } : Jvm.MethodName)) ∈ lw_all := lw_g (lw_at lw_m4 27 rfl) rfl
theorem q835 : (Jvm.Cond.privateMethod ({ cls := "java/util/ArrayList", name := "grow", desc := "()[Ljava/lang/Object;" } : Jvm.MethodName)) ∈ lw_tbl := lw_at lw_m4 28 rfl
theorem q836 : (Jvm.Cond.instanceMethod ({ cls := "java/util/ArrayList", name := "grow", desc := "()[Ljava/lang/Object;" } : Jvm.MethodName)) ∈ lw_all := lw_g (lw_at lw_m4 29 rfl) rfl
theorem q837 : (Jvm.Cond.code ({ cls := "java/util/ArrayList", name := "grow", desc := "()[Ljava/lang/Object;" } : Jvm.MethodName) prog_34_method_7_code (1 : Nat) (Option.some (Jvm.ClassFile.FieldType.array (Jvm.ClassFile.FieldType.object "java/lang/Object")))) ∈ lw_all := lw_g (lw_at lw_m4 30 rfl) rfl
theorem q838 : (Jvm.Cond.methodLink "java/util/ArrayList" (69 : Nat) ({ cls := "java/util/ArrayList", name := "grow", desc := "(I)[Ljava/lang/Object;" } : Jvm.MethodName)) ∈ lw_all := lw_g (lw_at lw_m4 31 rfl) rfl
theorem q839 : (Jvm.Cond.privateMethod ({ cls := "java/util/ArrayList", name := "grow", desc := "(I)[Ljava/lang/Object;" } : Jvm.MethodName)) ∈ lw_tbl := lw_at lw_m4 32 rfl
theorem q840 : (Jvm.Cond.instanceMethod ({ cls := "java/util/ArrayList", name := "grow", desc := "(I)[Ljava/lang/Object;" } : Jvm.MethodName)) ∈ lw_all := lw_g (lw_at lw_m4 33 rfl) rfl
theorem q841 : (Jvm.Cond.code ({ cls := "java/util/ArrayList", name := "grow", desc := "(I)[Ljava/lang/Object;" } : Jvm.MethodName) prog_34_method_6_code (4 : Nat) (Option.some (Jvm.ClassFile.FieldType.array (Jvm.ClassFile.FieldType.object "java/lang/Object")))) ∈ lw_all := lw_g (lw_at lw_m4 34 rfl) rfl
theorem q842 : (Jvm.Cond.methodLink "java/util/ArrayList" (73 : Nat) ({ cls := "jdk/internal/util/ArraysSupport", name := "newLength", desc := "(III)I" } : Jvm.MethodName)) ∈ lw_all := lw_g (lw_at lw_m4 35 rfl) rfl
theorem q852 : (Jvm.Cond.methodLink "java/util/ArrayList" (66 : Nat) ({ cls := "java/util/Arrays", name := "copyOf", desc := "([Ljava/lang/Object;I)[Ljava/lang/Object;" } : Jvm.MethodName)) ∈ lw_all := lw_g (lw_at lw_m4 45 rfl) rfl
theorem q872 : (Jvm.Cond.selects "java/util/ArrayList" ({ cls := "java/lang/Object", name := "getClass", desc := "()Ljava/lang/Class;" } : Jvm.MethodName) ({ cls := "java/lang/Object", name := "getClass", desc := "()Ljava/lang/Class;" } : Jvm.MethodName)) ∈ lw_all := lw_g (lw_at lw_m4 65 rfl) rfl
theorem q886 : (Jvm.Cond.methodLink "java/util/ArrayList" (79 : Nat) ({ cls := "java/lang/Math", name := "max", desc := "(II)I" } : Jvm.MethodName)) ∈ lw_all := lw_g (lw_at lw_m4 79 rfl) rfl
theorem q887 : (Jvm.Cond.classLink "java/util/ArrayList" (7 : Nat) "java/lang/Object") ∈ lw_all := lw_g (lw_at lw_m4 80 rfl) rfl
theorem q946 : (Jvm.Cond.instanceMethod ({ cls := "java/util/ArrayList", name := "clear", desc := "()V" } : Jvm.MethodName)) ∈ lw_all := lw_g (lw_at lw_m4 139 rfl) rfl
theorem q947 : (Jvm.Cond.selects "java/util/ArrayList" ({ cls := "java/util/ArrayList", name := "clear", desc := "()V" } : Jvm.MethodName) ({ cls := "java/util/ArrayList", name := "clear", desc := "()V" } : Jvm.MethodName)) ∈ lw_all := lw_g (lw_at lw_m4 140 rfl) rfl
theorem q948 : (Jvm.Cond.code ({ cls := "java/util/ArrayList", name := "clear", desc := "()V" } : Jvm.MethodName) prog_34_method_40_code (4 : Nat) (Option.none : Option Jvm.ClassFile.FieldType)) ∈ lw_all := lw_g (lw_at lw_m4 141 rfl) rfl
theorem q1044 : (Jvm.Cond.instanceMethod ({ cls := "java/util/ArrayList", name := "get", desc := "(I)Ljava/lang/Object;" } : Jvm.MethodName)) ∈ lw_all := lw_g (lw_at lw_m4 237 rfl) rfl
theorem q1045 : (Jvm.Cond.selects "java/util/ArrayList" ({ cls := "java/util/ArrayList", name := "get", desc := "(I)Ljava/lang/Object;" } : Jvm.MethodName) ({ cls := "java/util/ArrayList", name := "get", desc := "(I)Ljava/lang/Object;" } : Jvm.MethodName)) ∈ lw_all := lw_g (lw_at lw_m4 238 rfl) rfl
theorem q1046 : (Jvm.Cond.code ({ cls := "java/util/ArrayList", name := "get", desc := "(I)Ljava/lang/Object;" } : Jvm.MethodName) prog_34_method_20_code (2 : Nat) (Option.some (Jvm.ClassFile.FieldType.object "java/lang/Object"))) ∈ lw_all := lw_g (lw_at lw_m4 239 rfl) rfl
theorem q1047 : (Jvm.Cond.methodLink "java/util/ArrayList" (118 : Nat) ({ cls := "java/util/Objects", name := "checkIndex", desc := "(II)I" } : Jvm.MethodName)) ∈ lw_all := lw_g (lw_at lw_m5 0 rfl) rfl
theorem q1051 : (Jvm.Cond.methodLink "java/util/ArrayList" (123 : Nat) ({ cls := "java/util/ArrayList", name := "elementData", desc := "(I)Ljava/lang/Object;" } : Jvm.MethodName)) ∈ lw_all := lw_g (lw_at lw_m5 4 rfl) rfl
theorem q1052 : (Jvm.Cond.instanceMethod ({ cls := "java/util/ArrayList", name := "elementData", desc := "(I)Ljava/lang/Object;" } : Jvm.MethodName)) ∈ lw_all := lw_g (lw_at lw_m5 5 rfl) rfl
theorem q1053 : (Jvm.Cond.selects "java/util/ArrayList" ({ cls := "java/util/ArrayList", name := "elementData", desc := "(I)Ljava/lang/Object;" } : Jvm.MethodName) ({ cls := "java/util/ArrayList", name := "elementData", desc := "(I)Ljava/lang/Object;" } : Jvm.MethodName)) ∈ lw_all := lw_g (lw_at lw_m5 6 rfl) rfl
theorem q1054 : (Jvm.Cond.code ({ cls := "java/util/ArrayList", name := "elementData", desc := "(I)Ljava/lang/Object;" } : Jvm.MethodName) prog_34_method_18_code (2 : Nat) (Option.some (Jvm.ClassFile.FieldType.object "java/lang/Object"))) ∈ lw_all := lw_g (lw_at lw_m5 7 rfl) rfl
theorem q2011 : (Jvm.Cond.castable "java/util/ArrayList" "java/lang/Object") ∈ lw_tbl := lw_at lw_m9 4 rfl
theorem in_J5 : ∀ w ∈ wsJ50, w ∈ lw_all := lw_in wsJ50 [309, 305, 307] (by decide +kernel) (by decide +kernel)

/-! java/util/Arrays -/
set_option maxRecDepth 100000
def RJ6 : String := "java/util/Arrays"
abbrev cJ6_fill : ByteArray := prog_35_method_103_code
def yJ6_fill : MethodName := ⟨RJ6, "fill", "([II)V"⟩
def dkwJ6_fill_0 : List UInt8 := [3, 61, 42, 190, 62, 28, 29, 162, 0, 13, 42, 28, 27, 79, 132, 2, 1, 167, 255, 244, 177]
abbrev dktJ6_fill_0 : List UInt8 := dkwJ6_fill_0 ++ []
theorem dksJ6_fill_0 : cJ6_fill.data.toList.drop 0 = dktJ6_fill_0 := by decide +kernel
theorem dJ6_fill_0 : decode cJ6_fill 0 = .ok (.iconst 0, 1) := dk_3 (dk_at dksJ6_fill_0 0 rfl rfl)
theorem dJ6_fill_1 : decode cJ6_fill 1 = .ok (.istore_n 2, 1) := dk_61 (dk_at dksJ6_fill_0 1 rfl rfl)
theorem dJ6_fill_2 : decode cJ6_fill 2 = .ok (.aload_n 0, 1) := dk_42 (dk_at dksJ6_fill_0 2 rfl rfl)
theorem dJ6_fill_3 : decode cJ6_fill 3 = .ok (.arraylength, 1) := dk_190 (dk_at dksJ6_fill_0 3 rfl rfl)
theorem dJ6_fill_4 : decode cJ6_fill 4 = .ok (.istore_n 3, 1) := dk_62 (dk_at dksJ6_fill_0 4 rfl rfl)
theorem dJ6_fill_5 : decode cJ6_fill 5 = .ok (.iload_n 2, 1) := dk_28 (dk_at dksJ6_fill_0 5 rfl rfl)
theorem dJ6_fill_6 : decode cJ6_fill 6 = .ok (.iload_n 3, 1) := dk_29 (dk_at dksJ6_fill_0 6 rfl rfl)
theorem dJ6_fill_7 : decode cJ6_fill 7 = .ok (.if_icmp .ge 13, 3) := dk_162 0 13 (dk_at dksJ6_fill_0 7 rfl rfl)
theorem dJ6_fill_10 : decode cJ6_fill 10 = .ok (.aload_n 0, 1) := dk_42 (dk_at dksJ6_fill_0 10 rfl rfl)
theorem dJ6_fill_11 : decode cJ6_fill 11 = .ok (.iload_n 2, 1) := dk_28 (dk_at dksJ6_fill_0 11 rfl rfl)
theorem dJ6_fill_12 : decode cJ6_fill 12 = .ok (.iload_n 1, 1) := dk_27 (dk_at dksJ6_fill_0 12 rfl rfl)
theorem dJ6_fill_13 : decode cJ6_fill 13 = .ok (.iastore, 1) := dk_79 (dk_at dksJ6_fill_0 13 rfl rfl)
theorem dJ6_fill_14 : decode cJ6_fill 14 = .ok (.iinc 2 1, 3) := dk_132 2 1 (dk_at dksJ6_fill_0 14 rfl rfl)
theorem dJ6_fill_17 : decode cJ6_fill 17 = .ok (.goto (-12), 3) := dk_167 255 244 (dk_at dksJ6_fill_0 17 rfl rfl)
theorem dJ6_fill_20 : decode cJ6_fill 20 = .ok (.return_, 1) := dk_177 (dk_at dksJ6_fill_0 20 rfl rfl)
abbrev cJ6_fill_2 : ByteArray := prog_35_method_111_code
def yJ6_fill_2 : MethodName := ⟨RJ6, "fill", "([ZZ)V"⟩
def dkwJ6_fill_2_0 : List UInt8 := [3, 61, 42, 190, 62, 28, 29, 162, 0, 13, 42, 28, 27, 84, 132, 2, 1, 167, 255, 244, 177]
abbrev dktJ6_fill_2_0 : List UInt8 := dkwJ6_fill_2_0 ++ []
theorem dksJ6_fill_2_0 : cJ6_fill_2.data.toList.drop 0 = dktJ6_fill_2_0 := by decide +kernel
theorem dJ6_fill_2_0 : decode cJ6_fill_2 0 = .ok (.iconst 0, 1) := dk_3 (dk_at dksJ6_fill_2_0 0 rfl rfl)
theorem dJ6_fill_2_1 : decode cJ6_fill_2 1 = .ok (.istore_n 2, 1) := dk_61 (dk_at dksJ6_fill_2_0 1 rfl rfl)
theorem dJ6_fill_2_2 : decode cJ6_fill_2 2 = .ok (.aload_n 0, 1) := dk_42 (dk_at dksJ6_fill_2_0 2 rfl rfl)
theorem dJ6_fill_2_3 : decode cJ6_fill_2 3 = .ok (.arraylength, 1) := dk_190 (dk_at dksJ6_fill_2_0 3 rfl rfl)
theorem dJ6_fill_2_4 : decode cJ6_fill_2 4 = .ok (.istore_n 3, 1) := dk_62 (dk_at dksJ6_fill_2_0 4 rfl rfl)
theorem dJ6_fill_2_5 : decode cJ6_fill_2 5 = .ok (.iload_n 2, 1) := dk_28 (dk_at dksJ6_fill_2_0 5 rfl rfl)
theorem dJ6_fill_2_6 : decode cJ6_fill_2 6 = .ok (.iload_n 3, 1) := dk_29 (dk_at dksJ6_fill_2_0 6 rfl rfl)
theorem dJ6_fill_2_7 : decode cJ6_fill_2 7 = .ok (.if_icmp .ge 13, 3) := dk_162 0 13 (dk_at dksJ6_fill_2_0 7 rfl rfl)
theorem dJ6_fill_2_10 : decode cJ6_fill_2 10 = .ok (.aload_n 0, 1) := dk_42 (dk_at dksJ6_fill_2_0 10 rfl rfl)
theorem dJ6_fill_2_11 : decode cJ6_fill_2 11 = .ok (.iload_n 2, 1) := dk_28 (dk_at dksJ6_fill_2_0 11 rfl rfl)
theorem dJ6_fill_2_12 : decode cJ6_fill_2 12 = .ok (.iload_n 1, 1) := dk_27 (dk_at dksJ6_fill_2_0 12 rfl rfl)
theorem dJ6_fill_2_13 : decode cJ6_fill_2 13 = .ok (.bastore, 1) := dk_84 (dk_at dksJ6_fill_2_0 13 rfl rfl)
theorem dJ6_fill_2_14 : decode cJ6_fill_2 14 = .ok (.iinc 2 1, 3) := dk_132 2 1 (dk_at dksJ6_fill_2_0 14 rfl rfl)
theorem dJ6_fill_2_17 : decode cJ6_fill_2 17 = .ok (.goto (-12), 3) := dk_167 255 244 (dk_at dksJ6_fill_2_0 17 rfl rfl)
theorem dJ6_fill_2_20 : decode cJ6_fill_2 20 = .ok (.return_, 1) := dk_177 (dk_at dksJ6_fill_2_0 20 rfl rfl)
abbrev cJ6_copyOf : ByteArray := prog_35_method_119_code
def yJ6_copyOf : MethodName := ⟨RJ6, "copyOf", "([Ljava/lang/Object;I)[Ljava/lang/Object;"⟩
def dkwJ6_copyOf_0 : List UInt8 := [42, 27, 42, 182, 0, 86, 184, 1, 44, 176]
abbrev dktJ6_copyOf_0 : List UInt8 := dkwJ6_copyOf_0 ++ []
theorem dksJ6_copyOf_0 : cJ6_copyOf.data.toList.drop 0 = dktJ6_copyOf_0 := by decide +kernel
theorem dJ6_copyOf_0 : decode cJ6_copyOf 0 = .ok (.aload_n 0, 1) := dk_42 (dk_at dksJ6_copyOf_0 0 rfl rfl)
theorem dJ6_copyOf_1 : decode cJ6_copyOf 1 = .ok (.iload_n 1, 1) := dk_27 (dk_at dksJ6_copyOf_0 1 rfl rfl)
theorem dJ6_copyOf_2 : decode cJ6_copyOf 2 = .ok (.aload_n 0, 1) := dk_42 (dk_at dksJ6_copyOf_0 2 rfl rfl)
theorem dJ6_copyOf_3 : decode cJ6_copyOf 3 = .ok (.invokevirtual 86, 3) := dk_182 0 86 (dk_at dksJ6_copyOf_0 3 rfl rfl)
theorem dJ6_copyOf_6 : decode cJ6_copyOf 6 = .ok (.invokestatic 300, 3) := dk_184 1 44 (dk_at dksJ6_copyOf_0 6 rfl rfl)
theorem dJ6_copyOf_9 : decode cJ6_copyOf 9 = .ok (.areturn, 1) := dk_176 (dk_at dksJ6_copyOf_0 9 rfl rfl)
abbrev cJ6_copyOf_2 : ByteArray := prog_35_method_120_code
def yJ6_copyOf_2 : MethodName := ⟨RJ6, "copyOf", "([Ljava/lang/Object;ILjava/lang/Class;)[Ljava/lang/Object;"⟩
def dkwJ6_copyOf_2_1 : List UInt8 := [78, 42, 3, 45, 3, 42, 190, 27, 184, 1, 48, 184, 0, 150, 45, 176]
abbrev dktJ6_copyOf_2_1 : List UInt8 := dkwJ6_copyOf_2_1 ++ []
def dkwJ6_copyOf_2_0 : List UInt8 := [44, 18, 110, 166, 0, 10, 27, 189, 0, 2, 167, 0, 14, 44, 182, 0, 90, 27, 184, 0, 95, 192, 0, 110]
abbrev dktJ6_copyOf_2_0 : List UInt8 := dkwJ6_copyOf_2_0 ++ dktJ6_copyOf_2_1
theorem dksJ6_copyOf_2_0 : cJ6_copyOf_2.data.toList.drop 0 = dktJ6_copyOf_2_0 := by decide +kernel
theorem dksJ6_copyOf_2_1 : cJ6_copyOf_2.data.toList.drop 24 = dktJ6_copyOf_2_1 := dk_seg dksJ6_copyOf_2_0 24 rfl rfl
theorem dJ6_copyOf_2_0 : decode cJ6_copyOf_2 0 = .ok (.aload_n 2, 1) := dk_44 (dk_at dksJ6_copyOf_2_0 0 rfl rfl)
theorem dJ6_copyOf_2_1 : decode cJ6_copyOf_2 1 = .ok (.ldc 110, 2) := dk_18 110 (dk_at dksJ6_copyOf_2_0 1 rfl rfl)
theorem dJ6_copyOf_2_3 : decode cJ6_copyOf_2 3 = .ok (.if_acmp .ne 10, 3) := dk_166 0 10 (dk_at dksJ6_copyOf_2_0 3 rfl rfl)
theorem dJ6_copyOf_2_6 : decode cJ6_copyOf_2 6 = .ok (.iload_n 1, 1) := dk_27 (dk_at dksJ6_copyOf_2_0 6 rfl rfl)
theorem dJ6_copyOf_2_7 : decode cJ6_copyOf_2 7 = .ok (.anewarray 2, 3) := dk_189 0 2 (dk_at dksJ6_copyOf_2_0 7 rfl rfl)
theorem dJ6_copyOf_2_10 : decode cJ6_copyOf_2 10 = .ok (.goto 14, 3) := dk_167 0 14 (dk_at dksJ6_copyOf_2_0 10 rfl rfl)
theorem dJ6_copyOf_2_13 : decode cJ6_copyOf_2 13 = .ok (.aload_n 2, 1) := dk_44 (dk_at dksJ6_copyOf_2_0 13 rfl rfl)
theorem dJ6_copyOf_2_14 : decode cJ6_copyOf_2 14 = .ok (.invokevirtual 90, 3) := dk_182 0 90 (dk_at dksJ6_copyOf_2_0 14 rfl rfl)
theorem dJ6_copyOf_2_17 : decode cJ6_copyOf_2 17 = .ok (.iload_n 1, 1) := dk_27 (dk_at dksJ6_copyOf_2_0 17 rfl rfl)
theorem dJ6_copyOf_2_18 : decode cJ6_copyOf_2 18 = .ok (.invokestatic 95, 3) := dk_184 0 95 (dk_at dksJ6_copyOf_2_0 18 rfl rfl)
theorem dJ6_copyOf_2_21 : decode cJ6_copyOf_2 21 = .ok (.checkcast 110, 3) := dk_192 0 110 (dk_at dksJ6_copyOf_2_0 21 rfl rfl)
theorem dJ6_copyOf_2_24 : decode cJ6_copyOf_2 24 = .ok (.astore_n 3, 1) := dk_78 (dk_at dksJ6_copyOf_2_1 0 rfl rfl)
theorem dJ6_copyOf_2_25 : decode cJ6_copyOf_2 25 = .ok (.aload_n 0, 1) := dk_42 (dk_at dksJ6_copyOf_2_1 1 rfl rfl)
theorem dJ6_copyOf_2_26 : decode cJ6_copyOf_2 26 = .ok (.iconst 0, 1) := dk_3 (dk_at dksJ6_copyOf_2_1 2 rfl rfl)
theorem dJ6_copyOf_2_27 : decode cJ6_copyOf_2 27 = .ok (.aload_n 3, 1) := dk_45 (dk_at dksJ6_copyOf_2_1 3 rfl rfl)
theorem dJ6_copyOf_2_28 : decode cJ6_copyOf_2 28 = .ok (.iconst 0, 1) := dk_3 (dk_at dksJ6_copyOf_2_1 4 rfl rfl)
theorem dJ6_copyOf_2_29 : decode cJ6_copyOf_2 29 = .ok (.aload_n 0, 1) := dk_42 (dk_at dksJ6_copyOf_2_1 5 rfl rfl)
theorem dJ6_copyOf_2_30 : decode cJ6_copyOf_2 30 = .ok (.arraylength, 1) := dk_190 (dk_at dksJ6_copyOf_2_1 6 rfl rfl)
theorem dJ6_copyOf_2_31 : decode cJ6_copyOf_2 31 = .ok (.iload_n 1, 1) := dk_27 (dk_at dksJ6_copyOf_2_1 7 rfl rfl)
theorem dJ6_copyOf_2_32 : decode cJ6_copyOf_2 32 = .ok (.invokestatic 304, 3) := dk_184 1 48 (dk_at dksJ6_copyOf_2_1 8 rfl rfl)
theorem dJ6_copyOf_2_35 : decode cJ6_copyOf_2 35 = .ok (.invokestatic 150, 3) := dk_184 0 150 (dk_at dksJ6_copyOf_2_1 11 rfl rfl)
theorem dJ6_copyOf_2_38 : decode cJ6_copyOf_2 38 = .ok (.aload_n 3, 1) := dk_45 (dk_at dksJ6_copyOf_2_1 14 rfl rfl)
theorem dJ6_copyOf_2_39 : decode cJ6_copyOf_2 39 = .ok (.areturn, 1) := dk_176 (dk_at dksJ6_copyOf_2_1 15 rfl rfl)
theorem q100 : (Jvm.Cond.initialized "java/util/Arrays") ∈ lw_all := lw_g (lw_at lw_m1 13 rfl) rfl
theorem q444 : (Jvm.Cond.static ({ cls := "java/util/Arrays", name := "fill", desc := "([II)V" } : Jvm.MethodName)) ∈ lw_all := lw_g (lw_at lw_m2 117 rfl) rfl
theorem q445 : (Jvm.Cond.code ({ cls := "java/util/Arrays", name := "fill", desc := "([II)V" } : Jvm.MethodName) prog_35_method_103_code (4 : Nat) (Option.none : Option Jvm.ClassFile.FieldType)) ∈ lw_all := lw_g (lw_at lw_m2 118 rfl) rfl
theorem q447 : (Jvm.Cond.static ({ cls := "java/util/Arrays", name := "fill", desc := "([ZZ)V" } : Jvm.MethodName)) ∈ lw_all := lw_g (lw_at lw_m2 120 rfl) rfl
theorem q448 : (Jvm.Cond.code ({ cls := "java/util/Arrays", name := "fill", desc := "([ZZ)V" } : Jvm.MethodName) prog_35_method_111_code (4 : Nat) (Option.none : Option Jvm.ClassFile.FieldType)) ∈ lw_all := lw_g (lw_at lw_m2 121 rfl) rfl
theorem q853 : (Jvm.Cond.static ({ cls := "java/util/Arrays", name := "copyOf", desc := "([Ljava/lang/Object;I)[Ljava/lang/Object;" } : Jvm.MethodName)) ∈ lw_all := lw_g (lw_at lw_m4 46 rfl) rfl
theorem q854 : (Jvm.Cond.code ({ cls := "java/util/Arrays", name := "copyOf", desc := "([Ljava/lang/Object;I)[Ljava/lang/Object;" } : Jvm.MethodName) prog_35_method_119_code (2 : Nat) (Option.some (Jvm.ClassFile.FieldType.array (Jvm.ClassFile.FieldType.object "java/lang/Object")))) ∈ lw_all := lw_g (lw_at lw_m4 47 rfl) rfl
theorem q855 : (Jvm.Cond.methodLink "java/util/Arrays" (86 : Nat) ({ cls := "java/lang/Object", name := "getClass", desc := "()Ljava/lang/Class;" } : Jvm.MethodName)) ∈ lw_all := lw_g (lw_at lw_m4 48 rfl) rfl
theorem q874 : (Jvm.Cond.methodLink "java/util/Arrays" (300 : Nat) ({ cls := "java/util/Arrays", name := "copyOf", desc := "([Ljava/lang/Object;ILjava/lang/Class;)[Ljava/lang/Object;" } : Jvm.MethodName)) ∈ lw_all := lw_g (lw_at lw_m4 67 rfl) rfl
theorem q875 : (Jvm.Cond.static ({ cls := "java/util/Arrays", name := "copyOf", desc := "([Ljava/lang/Object;ILjava/lang/Class;)[Ljava/lang/Object;" } : Jvm.MethodName)) ∈ lw_all := lw_g (lw_at lw_m4 68 rfl) rfl
theorem q876 : (Jvm.Cond.code ({ cls := "java/util/Arrays", name := "copyOf", desc := "([Ljava/lang/Object;ILjava/lang/Class;)[Ljava/lang/Object;" } : Jvm.MethodName) prog_35_method_120_code (4 : Nat) (Option.some (Jvm.ClassFile.FieldType.array (Jvm.ClassFile.FieldType.object "java/lang/Object")))) ∈ lw_all := lw_g (lw_at lw_m4 69 rfl) rfl
theorem q877 : (Jvm.Cond.classLink "java/util/Arrays" (110 : Nat) "[Ljava/lang/Object;") ∈ lw_all := lw_g (lw_at lw_m4 70 rfl) rfl
theorem q879 : (Jvm.Cond.classLink "java/util/Arrays" (2 : Nat) "java/lang/Object") ∈ lw_all := lw_g (lw_at lw_m4 72 rfl) rfl
theorem q880 : (Jvm.Cond.methodLink "java/util/Arrays" (304 : Nat) ({ cls := "java/lang/Math", name := "min", desc := "(II)I" } : Jvm.MethodName)) ∈ lw_all := lw_g (lw_at lw_m4 73 rfl) rfl
theorem q883 : (Jvm.Cond.methodLink "java/util/Arrays" (150 : Nat) ({ cls := "java/lang/System", name := "arraycopy", desc := "(Ljava/lang/Object;ILjava/lang/Object;II)V" } : Jvm.MethodName)) ∈ lw_all := lw_g (lw_at lw_m4 76 rfl) rfl

/-! java/lang/String -/
set_option maxRecDepth 100000
def RJ7 : String := "java/lang/String"
abbrev cJ7_length : ByteArray := prog_25_method_54_code
def yJ7_length : MethodName := ⟨RJ7, "length", "()I"⟩
def dkwJ7_length_0 : List UInt8 := [42, 180, 0, 9, 190, 42, 182, 1, 79, 122, 172]
abbrev dktJ7_length_0 : List UInt8 := dkwJ7_length_0 ++ []
theorem dksJ7_length_0 : cJ7_length.data.toList.drop 0 = dktJ7_length_0 := by decide +kernel
theorem dJ7_length_0 : decode cJ7_length 0 = .ok (.aload_n 0, 1) := dk_42 (dk_at dksJ7_length_0 0 rfl rfl)
theorem dJ7_length_1 : decode cJ7_length 1 = .ok (.getfield 9, 3) := dk_180 0 9 (dk_at dksJ7_length_0 1 rfl rfl)
theorem dJ7_length_4 : decode cJ7_length 4 = .ok (.arraylength, 1) := dk_190 (dk_at dksJ7_length_0 4 rfl rfl)
theorem dJ7_length_5 : decode cJ7_length 5 = .ok (.aload_n 0, 1) := dk_42 (dk_at dksJ7_length_0 5 rfl rfl)
theorem dJ7_length_6 : decode cJ7_length 6 = .ok (.invokevirtual 335, 3) := dk_182 1 79 (dk_at dksJ7_length_0 6 rfl rfl)
theorem dJ7_length_9 : decode cJ7_length 9 = .ok (.ishr, 1) := dk_122 (dk_at dksJ7_length_0 9 rfl rfl)
theorem dJ7_length_10 : decode cJ7_length 10 = .ok (.ireturn, 1) := dk_172 (dk_at dksJ7_length_0 10 rfl rfl)
abbrev cJ7_coder : ByteArray := prog_25_method_152_code
def yJ7_coder : MethodName := ⟨RJ7, "coder", "()B"⟩
def dkwJ7_coder_0 : List UInt8 := [178, 0, 38, 153, 0, 10, 42, 180, 0, 15, 167, 0, 4, 4, 172]
abbrev dktJ7_coder_0 : List UInt8 := dkwJ7_coder_0 ++ []
theorem dksJ7_coder_0 : cJ7_coder.data.toList.drop 0 = dktJ7_coder_0 := by decide +kernel
theorem dJ7_coder_0 : decode cJ7_coder 0 = .ok (.getstatic 38, 3) := dk_178 0 38 (dk_at dksJ7_coder_0 0 rfl rfl)
theorem dJ7_coder_3 : decode cJ7_coder 3 = .ok (.ifCond .eq 10, 3) := dk_153 0 10 (dk_at dksJ7_coder_0 3 rfl rfl)
theorem dJ7_coder_6 : decode cJ7_coder 6 = .ok (.aload_n 0, 1) := dk_42 (dk_at dksJ7_coder_0 6 rfl rfl)
theorem dJ7_coder_7 : decode cJ7_coder 7 = .ok (.getfield 15, 3) := dk_180 0 15 (dk_at dksJ7_coder_0 7 rfl rfl)
theorem dJ7_coder_10 : decode cJ7_coder 10 = .ok (.goto 4, 3) := dk_167 0 4 (dk_at dksJ7_coder_0 10 rfl rfl)
theorem dJ7_coder_13 : decode cJ7_coder 13 = .ok (.iconst 1, 1) := dk_4 (dk_at dksJ7_coder_0 13 rfl rfl)
theorem dJ7_coder_14 : decode cJ7_coder 14 = .ok (.ireturn, 1) := dk_172 (dk_at dksJ7_coder_0 14 rfl rfl)
abbrev cJ7_charAt : ByteArray := prog_25_method_56_code
def yJ7_charAt : MethodName := ⟨RJ7, "charAt", "(I)C"⟩
def dkwJ7_charAt_1 : List UInt8 := [172]
abbrev dktJ7_charAt_1 : List UInt8 := dkwJ7_charAt_1 ++ []
def dkwJ7_charAt_0 : List UInt8 := [42, 182, 1, 236, 153, 0, 12, 42, 180, 0, 9, 27, 184, 1, 239, 172, 42, 180, 0, 9, 27, 184, 1, 242]
abbrev dktJ7_charAt_0 : List UInt8 := dkwJ7_charAt_0 ++ dktJ7_charAt_1
theorem dksJ7_charAt_0 : cJ7_charAt.data.toList.drop 0 = dktJ7_charAt_0 := by decide +kernel
theorem dksJ7_charAt_1 : cJ7_charAt.data.toList.drop 24 = dktJ7_charAt_1 := dk_seg dksJ7_charAt_0 24 rfl rfl
theorem dJ7_charAt_0 : decode cJ7_charAt 0 = .ok (.aload_n 0, 1) := dk_42 (dk_at dksJ7_charAt_0 0 rfl rfl)
theorem dJ7_charAt_1 : decode cJ7_charAt 1 = .ok (.invokevirtual 492, 3) := dk_182 1 236 (dk_at dksJ7_charAt_0 1 rfl rfl)
theorem dJ7_charAt_4 : decode cJ7_charAt 4 = .ok (.ifCond .eq 12, 3) := dk_153 0 12 (dk_at dksJ7_charAt_0 4 rfl rfl)
theorem dJ7_charAt_7 : decode cJ7_charAt 7 = .ok (.aload_n 0, 1) := dk_42 (dk_at dksJ7_charAt_0 7 rfl rfl)
theorem dJ7_charAt_8 : decode cJ7_charAt 8 = .ok (.getfield 9, 3) := dk_180 0 9 (dk_at dksJ7_charAt_0 8 rfl rfl)
theorem dJ7_charAt_11 : decode cJ7_charAt 11 = .ok (.iload_n 1, 1) := dk_27 (dk_at dksJ7_charAt_0 11 rfl rfl)
theorem dJ7_charAt_12 : decode cJ7_charAt 12 = .ok (.invokestatic 495, 3) := dk_184 1 239 (dk_at dksJ7_charAt_0 12 rfl rfl)
theorem dJ7_charAt_15 : decode cJ7_charAt 15 = .ok (.ireturn, 1) := dk_172 (dk_at dksJ7_charAt_0 15 rfl rfl)
theorem dJ7_charAt_16 : decode cJ7_charAt 16 = .ok (.aload_n 0, 1) := dk_42 (dk_at dksJ7_charAt_0 16 rfl rfl)
theorem dJ7_charAt_17 : decode cJ7_charAt 17 = .ok (.getfield 9, 3) := dk_180 0 9 (dk_at dksJ7_charAt_0 17 rfl rfl)
theorem dJ7_charAt_20 : decode cJ7_charAt 20 = .ok (.iload_n 1, 1) := dk_27 (dk_at dksJ7_charAt_0 20 rfl rfl)
theorem dJ7_charAt_21 : decode cJ7_charAt 21 = .ok (.invokestatic 498, 3) := dk_184 1 242 (dk_at dksJ7_charAt_0 21 rfl rfl)
theorem dJ7_charAt_24 : decode cJ7_charAt 24 = .ok (.ireturn, 1) := dk_172 (dk_at dksJ7_charAt_1 0 rfl rfl)
abbrev cJ7_isLatin1 : ByteArray := prog_25_method_154_code
def yJ7_isLatin1 : MethodName := ⟨RJ7, "isLatin1", "()Z"⟩
def dkwJ7_isLatin1_0 : List UInt8 := [178, 0, 38, 153, 0, 14, 42, 180, 0, 15, 154, 0, 7, 4, 167, 0, 4, 3, 172]
abbrev dktJ7_isLatin1_0 : List UInt8 := dkwJ7_isLatin1_0 ++ []
theorem dksJ7_isLatin1_0 : cJ7_isLatin1.data.toList.drop 0 = dktJ7_isLatin1_0 := by decide +kernel
theorem dJ7_isLatin1_0 : decode cJ7_isLatin1 0 = .ok (.getstatic 38, 3) := dk_178 0 38 (dk_at dksJ7_isLatin1_0 0 rfl rfl)
theorem dJ7_isLatin1_3 : decode cJ7_isLatin1 3 = .ok (.ifCond .eq 14, 3) := dk_153 0 14 (dk_at dksJ7_isLatin1_0 3 rfl rfl)
theorem dJ7_isLatin1_6 : decode cJ7_isLatin1 6 = .ok (.aload_n 0, 1) := dk_42 (dk_at dksJ7_isLatin1_0 6 rfl rfl)
theorem dJ7_isLatin1_7 : decode cJ7_isLatin1 7 = .ok (.getfield 15, 3) := dk_180 0 15 (dk_at dksJ7_isLatin1_0 7 rfl rfl)
theorem dJ7_isLatin1_10 : decode cJ7_isLatin1 10 = .ok (.ifCond .ne 7, 3) := dk_154 0 7 (dk_at dksJ7_isLatin1_0 10 rfl rfl)
theorem dJ7_isLatin1_13 : decode cJ7_isLatin1 13 = .ok (.iconst 1, 1) := dk_4 (dk_at dksJ7_isLatin1_0 13 rfl rfl)
theorem dJ7_isLatin1_14 : decode cJ7_isLatin1 14 = .ok (.goto 4, 3) := dk_167 0 4 (dk_at dksJ7_isLatin1_0 14 rfl rfl)
theorem dJ7_isLatin1_17 : decode cJ7_isLatin1 17 = .ok (.iconst 0, 1) := dk_3 (dk_at dksJ7_isLatin1_0 17 rfl rfl)
theorem dJ7_isLatin1_18 : decode cJ7_isLatin1 18 = .ok (.ireturn, 1) := dk_172 (dk_at dksJ7_isLatin1_0 18 rfl rfl)
abbrev cJ7_checkIndex : ByteArray := prog_25_method_155_code
def yJ7_checkIndex : MethodName := ⟨RJ7, "checkIndex", "(II)V"⟩
def dkwJ7_checkIndex_0 : List UInt8 := [26, 27, 178, 4, 29, 184, 4, 35, 87, 177]
abbrev dktJ7_checkIndex_0 : List UInt8 := dkwJ7_checkIndex_0 ++ []
theorem dksJ7_checkIndex_0 : cJ7_checkIndex.data.toList.drop 0 = dktJ7_checkIndex_0 := by decide +kernel
theorem dJ7_checkIndex_0 : decode cJ7_checkIndex 0 = .ok (.iload_n 0, 1) := dk_26 (dk_at dksJ7_checkIndex_0 0 rfl rfl)
theorem dJ7_checkIndex_1 : decode cJ7_checkIndex 1 = .ok (.iload_n 1, 1) := dk_27 (dk_at dksJ7_checkIndex_0 1 rfl rfl)
theorem dJ7_checkIndex_2 : decode cJ7_checkIndex 2 = .ok (.getstatic 1053, 3) := dk_178 4 29 (dk_at dksJ7_checkIndex_0 2 rfl rfl)
theorem dJ7_checkIndex_5 : decode cJ7_checkIndex 5 = .ok (.invokestatic 1059, 3) := dk_184 4 35 (dk_at dksJ7_checkIndex_0 5 rfl rfl)
theorem dJ7_checkIndex_8 : decode cJ7_checkIndex 8 = .ok (.pop, 1) := dk_87 (dk_at dksJ7_checkIndex_0 8 rfl rfl)
theorem dJ7_checkIndex_9 : decode cJ7_checkIndex 9 = .ok (.return_, 1) := dk_177 (dk_at dksJ7_checkIndex_0 9 rfl rfl)
theorem q104 : (Jvm.Cond.initialized "java/lang/String") ∈ lw_all := lw_g (lw_at lw_m1 17 rfl) rfl
theorem q657 : (Jvm.Cond.instanceMethod ({ cls := "java/lang/String", name := "length", desc := "()I" } : Jvm.MethodName)) ∈ lw_all := lw_g (lw_at lw_m3 90 rfl) rfl
theorem q658 : (Jvm.Cond.selects "java/lang/String" ({ cls := "java/lang/String", name := "length", desc := "()I" } : Jvm.MethodName) ({ cls := "java/lang/String", name := "length", desc := "()I" } : Jvm.MethodName)) ∈ lw_all := lw_g (lw_at lw_m3 91 rfl) rfl
theorem q659 : (Jvm.Cond.code ({ cls := "java/lang/String", name := "length", desc := "()I" } : Jvm.MethodName) prog_25_method_54_code (1 : Nat) (Option.some Jvm.ClassFile.FieldType.int)) ∈ lw_all := lw_g (lw_at lw_m3 92 rfl) rfl
theorem q660 : (Jvm.Cond.methodLink "java/lang/String" (335 : Nat) ({ cls := "java/lang/String", name := "coder", desc := "()B" } : Jvm.MethodName)) ∈ lw_all := lw_g (lw_at lw_m3 93 rfl) rfl
theorem q661 : (Jvm.Cond.instanceMethod ({ cls := "java/lang/String", name := "coder", desc := "()B" } : Jvm.MethodName)) ∈ lw_all := lw_g (lw_at lw_m3 94 rfl) rfl
theorem q662 : (Jvm.Cond.selects "java/lang/String" ({ cls := "java/lang/String", name := "coder", desc := "()B" } : Jvm.MethodName) ({ cls := "java/lang/String", name := "coder", desc := "()B" } : Jvm.MethodName)) ∈ lw_all := lw_g (lw_at lw_m3 95 rfl) rfl
theorem q663 : (Jvm.Cond.code ({ cls := "java/lang/String", name := "coder", desc := "()B" } : Jvm.MethodName) prog_25_method_152_code (1 : Nat) (Option.some Jvm.ClassFile.FieldType.byte)) ∈ lw_all := lw_g (lw_at lw_m3 96 rfl) rfl
theorem q664 : (Jvm.Cond.fieldLink "java/lang/String" (38 : Nat) "java/lang/String" "COMPACT_STRINGS" "Z") ∈ lw_all := lw_g (lw_at lw_m3 97 rfl) rfl
theorem q665 : (Jvm.Cond.laysStatic "java/lang/String" "COMPACT_STRINGS" "Z") ∈ lw_tbl := lw_at lw_m3 98 rfl
theorem q667 : (Jvm.Cond.instanceMethod ({ cls := "java/lang/String", name := "charAt", desc := "(I)C" } : Jvm.MethodName)) ∈ lw_all := lw_g (lw_at lw_m3 100 rfl) rfl
theorem q668 : (Jvm.Cond.selects "java/lang/String" ({ cls := "java/lang/String", name := "charAt", desc := "(I)C" } : Jvm.MethodName) ({ cls := "java/lang/String", name := "charAt", desc := "(I)C" } : Jvm.MethodName)) ∈ lw_all := lw_g (lw_at lw_m3 101 rfl) rfl
theorem q669 : (Jvm.Cond.code ({ cls := "java/lang/String", name := "charAt", desc := "(I)C" } : Jvm.MethodName) prog_25_method_56_code (2 : Nat) (Option.some Jvm.ClassFile.FieldType.char)) ∈ lw_all := lw_g (lw_at lw_m3 102 rfl) rfl
theorem q670 : (Jvm.Cond.methodLink "java/lang/String" (492 : Nat) ({ cls := "java/lang/String", name := "isLatin1", desc := "()Z" } : Jvm.MethodName)) ∈ lw_all := lw_g (lw_at lw_m3 103 rfl) rfl
theorem q671 : (Jvm.Cond.instanceMethod ({ cls := "java/lang/String", name := "isLatin1", desc := "()Z" } : Jvm.MethodName)) ∈ lw_all := lw_g (lw_at lw_m3 104 rfl) rfl
theorem q672 : (Jvm.Cond.selects "java/lang/String" ({ cls := "java/lang/String", name := "isLatin1", desc := "()Z" } : Jvm.MethodName) ({ cls := "java/lang/String", name := "isLatin1", desc := "()Z" } : Jvm.MethodName)) ∈ lw_all := lw_g (lw_at lw_m3 105 rfl) rfl
theorem q673 : (Jvm.Cond.code ({ cls := "java/lang/String", name := "isLatin1", desc := "()Z" } : Jvm.MethodName) prog_25_method_154_code (1 : Nat) (Option.some Jvm.ClassFile.FieldType.boolean)) ∈ lw_all := lw_g (lw_at lw_m3 106 rfl) rfl
theorem q674 : (Jvm.Cond.methodLink "java/lang/String" (495 : Nat) ({ cls := "java/lang/StringLatin1", name := "charAt", desc := "([BI)C" } : Jvm.MethodName)) ∈ lw_all := lw_g (lw_at lw_m3 107 rfl) rfl
theorem q678 : (Jvm.Cond.static ({ cls := "java/lang/String", name := "checkIndex", desc := "(II)V" } : Jvm.MethodName)) ∈ lw_all := lw_g (lw_at lw_m3 111 rfl) rfl
theorem q679 : (Jvm.Cond.code ({ cls := "java/lang/String", name := "checkIndex", desc := "(II)V" } : Jvm.MethodName) prog_25_method_155_code (2 : Nat) (Option.none : Option Jvm.ClassFile.FieldType)) ∈ lw_all := lw_g (lw_at lw_m3 112 rfl) rfl
theorem q680 : (Jvm.Cond.fieldLink "java/lang/String" (1053 : Nat) "jdk/internal/util/Preconditions" "SIOOBE_FORMATTER" "Ljava/util/function/BiFunction;") ∈ lw_all := lw_g (lw_at lw_m3 113 rfl) rfl
theorem q682 : (Jvm.Cond.methodLink "java/lang/String" (1059 : Nat) ({ cls := "jdk/internal/util/Preconditions", name := "checkIndex", desc := "(IILjava/util/function/BiFunction;)I" } : Jvm.MethodName)) ∈ lw_all := lw_g (lw_at lw_m3 115 rfl) rfl
theorem q685 : (Jvm.Cond.methodLink "java/lang/String" (498 : Nat) ({ cls := "java/lang/StringUTF16", name := "charAt", desc := "([BI)C" } : Jvm.MethodName)) ∈ lw_all := lw_g (lw_at lw_m3 118 rfl) rfl
theorem q2021 : (Jvm.Cond.castable "java/lang/String" "java/lang/Object") ∈ lw_tbl := lw_at lw_m9 14 rfl
theorem q2033 : (Jvm.Cond.fieldLink "java/lang/String" (9 : Nat) "java/lang/String" "value" "[B") ∈ lw_all := lw_g (lw_at lw_m9 26 rfl) rfl
theorem q2034 : (Jvm.Cond.fieldLink "java/lang/String" (15 : Nat) "java/lang/String" "coder" "B") ∈ lw_all := lw_g (lw_at lw_m9 27 rfl) rfl

/-! java/lang/StringLatin1 -/
set_option maxRecDepth 100000
def RJ8 : String := "java/lang/StringLatin1"
abbrev cJ8_charAt : ByteArray := prog_26_method_2_code
def yJ8_charAt : MethodName := ⟨RJ8, "charAt", "([BI)C"⟩
def dkwJ8_charAt_0 : List UInt8 := [27, 42, 190, 184, 0, 9, 42, 27, 51, 17, 0, 255, 126, 146, 172]
abbrev dktJ8_charAt_0 : List UInt8 := dkwJ8_charAt_0 ++ []
theorem dksJ8_charAt_0 : cJ8_charAt.data.toList.drop 0 = dktJ8_charAt_0 := by decide +kernel
theorem dJ8_charAt_0 : decode cJ8_charAt 0 = .ok (.iload_n 1, 1) := dk_27 (dk_at dksJ8_charAt_0 0 rfl rfl)
theorem dJ8_charAt_1 : decode cJ8_charAt 1 = .ok (.aload_n 0, 1) := dk_42 (dk_at dksJ8_charAt_0 1 rfl rfl)
theorem dJ8_charAt_2 : decode cJ8_charAt 2 = .ok (.arraylength, 1) := dk_190 (dk_at dksJ8_charAt_0 2 rfl rfl)
theorem dJ8_charAt_3 : decode cJ8_charAt 3 = .ok (.invokestatic 9, 3) := dk_184 0 9 (dk_at dksJ8_charAt_0 3 rfl rfl)
theorem dJ8_charAt_6 : decode cJ8_charAt 6 = .ok (.aload_n 0, 1) := dk_42 (dk_at dksJ8_charAt_0 6 rfl rfl)
theorem dJ8_charAt_7 : decode cJ8_charAt 7 = .ok (.iload_n 1, 1) := dk_27 (dk_at dksJ8_charAt_0 7 rfl rfl)
theorem dJ8_charAt_8 : decode cJ8_charAt 8 = .ok (.baload, 1) := dk_51 (dk_at dksJ8_charAt_0 8 rfl rfl)
theorem dJ8_charAt_9 : decode cJ8_charAt 9 = .ok (.sipush 255, 3) := dk_17 0 255 (dk_at dksJ8_charAt_0 9 rfl rfl)
theorem dJ8_charAt_12 : decode cJ8_charAt 12 = .ok (.iand, 1) := dk_126 (dk_at dksJ8_charAt_0 12 rfl rfl)
theorem dJ8_charAt_13 : decode cJ8_charAt 13 = .ok (.i2c, 1) := dk_146 (dk_at dksJ8_charAt_0 13 rfl rfl)
theorem dJ8_charAt_14 : decode cJ8_charAt 14 = .ok (.ireturn, 1) := dk_172 (dk_at dksJ8_charAt_0 14 rfl rfl)
theorem q105 : (Jvm.Cond.initialized "java/lang/StringLatin1") ∈ lw_all := lw_g (lw_at lw_m1 18 rfl) rfl
theorem q675 : (Jvm.Cond.static ({ cls := "java/lang/StringLatin1", name := "charAt", desc := "([BI)C" } : Jvm.MethodName)) ∈ lw_all := lw_g (lw_at lw_m3 108 rfl) rfl
theorem q676 : (Jvm.Cond.code ({ cls := "java/lang/StringLatin1", name := "charAt", desc := "([BI)C" } : Jvm.MethodName) prog_26_method_2_code (2 : Nat) (Option.some Jvm.ClassFile.FieldType.char)) ∈ lw_all := lw_g (lw_at lw_m3 109 rfl) rfl
theorem q677 : (Jvm.Cond.methodLink "java/lang/StringLatin1" (9 : Nat) ({ cls := "java/lang/String", name := "checkIndex", desc := "(II)V" } : Jvm.MethodName)) ∈ lw_all := lw_g (lw_at lw_m3 110 rfl) rfl

/-! jdk/internal/util/Preconditions -/
set_option maxRecDepth 100000
def RJ9 : String := "jdk/internal/util/Preconditions"
abbrev cJ9_checkIndex : ByteArray := prog_42_method_11_code
def yJ9_checkIndex : MethodName := ⟨RJ9, "checkIndex", "(IILjava/util/function/BiFunction;)I"⟩
def dkwJ9_checkIndex_0 : List UInt8 := [26, 155, 0, 8, 26, 27, 161, 0, 10, 44, 26, 27, 184, 0, 95, 191, 26, 172]
abbrev dktJ9_checkIndex_0 : List UInt8 := dkwJ9_checkIndex_0 ++ []
theorem dksJ9_checkIndex_0 : cJ9_checkIndex.data.toList.drop 0 = dktJ9_checkIndex_0 := by decide +kernel
theorem dJ9_checkIndex_0 : decode cJ9_checkIndex 0 = .ok (.iload_n 0, 1) := dk_26 (dk_at dksJ9_checkIndex_0 0 rfl rfl)
theorem dJ9_checkIndex_1 : decode cJ9_checkIndex 1 = .ok (.ifCond .lt 8, 3) := dk_155 0 8 (dk_at dksJ9_checkIndex_0 1 rfl rfl)
theorem dJ9_checkIndex_4 : decode cJ9_checkIndex 4 = .ok (.iload_n 0, 1) := dk_26 (dk_at dksJ9_checkIndex_0 4 rfl rfl)
theorem dJ9_checkIndex_5 : decode cJ9_checkIndex 5 = .ok (.iload_n 1, 1) := dk_27 (dk_at dksJ9_checkIndex_0 5 rfl rfl)
theorem dJ9_checkIndex_6 : decode cJ9_checkIndex 6 = .ok (.if_icmp .lt 10, 3) := dk_161 0 10 (dk_at dksJ9_checkIndex_0 6 rfl rfl)
theorem dJ9_checkIndex_9 : decode cJ9_checkIndex 9 = .ok (.aload_n 2, 1) := dk_44 (dk_at dksJ9_checkIndex_0 9 rfl rfl)
theorem dJ9_checkIndex_10 : decode cJ9_checkIndex 10 = .ok (.iload_n 0, 1) := dk_26 (dk_at dksJ9_checkIndex_0 10 rfl rfl)
theorem dJ9_checkIndex_11 : decode cJ9_checkIndex 11 = .ok (.iload_n 1, 1) := dk_27 (dk_at dksJ9_checkIndex_0 11 rfl rfl)
theorem dJ9_checkIndex_12 : decode cJ9_checkIndex 12 = .ok (.invokestatic 95, 3) := dk_184 0 95 (dk_at dksJ9_checkIndex_0 12 rfl rfl)
theorem dJ9_checkIndex_15 : decode cJ9_checkIndex 15 = .ok (.athrow, 1) := dk_191 (dk_at dksJ9_checkIndex_0 15 rfl rfl)
theorem dJ9_checkIndex_16 : decode cJ9_checkIndex 16 = .ok (.iload_n 0, 1) := dk_26 (dk_at dksJ9_checkIndex_0 16 rfl rfl)
theorem dJ9_checkIndex_17 : decode cJ9_checkIndex 17 = .ok (.ireturn, 1) := dk_172 (dk_at dksJ9_checkIndex_0 17 rfl rfl)
theorem q106 : (Jvm.Cond.initialized "jdk/internal/util/Preconditions") ∈ lw_all := lw_g (lw_at lw_m1 19 rfl) rfl
theorem q681 : (Jvm.Cond.laysStatic "jdk/internal/util/Preconditions" "SIOOBE_FORMATTER" "Ljava/util/function/BiFunction;") ∈ lw_tbl := lw_at lw_m3 114 rfl
theorem q683 : (Jvm.Cond.static ({ cls := "jdk/internal/util/Preconditions", name := "checkIndex", desc := "(IILjava/util/function/BiFunction;)I" } : Jvm.MethodName)) ∈ lw_all := lw_g (lw_at lw_m3 116 rfl) rfl
theorem q684 : (Jvm.Cond.code ({ cls := "jdk/internal/util/Preconditions", name := "checkIndex", desc := "(IILjava/util/function/BiFunction;)I" } : Jvm.MethodName) prog_42_method_11_code (3 : Nat) (Option.some Jvm.ClassFile.FieldType.int)) ∈ lw_all := lw_g (lw_at lw_m3 117 rfl) rfl

/-! TideKeep -/
set_option maxRecDepth 100000
def RX0 : String := "TideKeep"
def TX0 : u_T := fun k => match k with
  | 0 => ("TideKeep", "wrong", "LTideKeep$Wrong;", true)
  | 1 => ("TideKeep", "tape", "[B", true)
  | 2 => ("TideKeep", "taped", "I", false)
  | 3 => ("TideKeep", "faultKind", "I", false)
  | 4 => ("TideKeep", "faultPlace", "I", false)
  | 5 => ("TideKeep", "beach", "LTideKeep$Beach;", false)
  | 6 => ("TideKeep", "sea", "LTideKeep$Sea;", false)
  | 7 => ("TideKeep", "plans", "Ljava/util/ArrayList;", true)
  | 8 => ("TideKeep", "shore", "LTideKeep$Shore;", true)
  | 9 => ("TideKeep", "trial", "LTideKeep$Shore;", true)
  | 10 => ("TideKeep", "slots", "[LTideKeep$Shore;", true)
  | 11 => ("TideKeep", "isKept", "[Z", true)
  | 12 => ("TideKeep", "row", "[I", true)
  | 13 => ("TideKeep", "tried", "I", false)
  | 14 => ("TideKeep", "rights", "I", false)
  | 15 => ("TideKeep", "latestTold", "I", false)
  | 16 => ("TideKeep", "tTold", "[I", true)
  | 17 => ("TideKeep", "tWet", "[I", true)
  | 18 => ("TideKeep", "tSteep", "[I", true)
  | 19 => ("TideKeep", "tStood", "[I", true)
  | 20 => ("TideKeep", "rTold", "[I", true)
  | 21 => ("TideKeep", "rOf", "[I", true)
  | 22 => ("TideKeep", "rStood", "[I", true)
  | 23 => ("TideKeep", "fitting", "[I", true)
  | _ => ("TideKeep", "fits", "I", false)
def tyX0 : Nat → FieldType := fun k => match k with
  | 0 => .object "TideKeep$Wrong"
  | 1 => .array .byte
  | 2 => .int
  | 3 => .int
  | 4 => .int
  | 5 => .object "TideKeep$Beach"
  | 6 => .object "TideKeep$Sea"
  | 7 => .object "java/util/ArrayList"
  | 8 => .object "TideKeep$Shore"
  | 9 => .object "TideKeep$Shore"
  | 10 => .array (.object "TideKeep$Shore")
  | 11 => .array .boolean
  | 12 => .array .int
  | 13 => .int
  | 14 => .int
  | 15 => .int
  | 16 => .array .int
  | 17 => .array .int
  | 18 => .array .int
  | 19 => .array .int
  | 20 => .array .int
  | 21 => .array .int
  | 22 => .array .int
  | 23 => .array .int
  | _ => .int
abbrev wsX00 : List Cond := u_ws RX0 TX0 25
set_option maxRecDepth 100000 in
theorem nmX0 : ∀ a, a < 25 → ∀ b, b < 25 → a ≠ b → (TX0 a).2.1 ≠ (TX0 b).2.1 := by decide +kernel
set_option maxRecDepth 100000 in
theorem tyX0_ok : ∀ k, k < 25 → parseFieldDescriptor (TX0 k).2.2.1 = some (tyX0 k) := by decide +kernel
abbrev cX0_init : ByteArray := prog_1_method_2_code
def yX0_init : MethodName := ⟨RX0, "<init>", "()V"⟩
def dkwX0_init_9 : List UInt8 := [182, 0, 93, 177]
abbrev dktX0_init_9 : List UInt8 := dkwX0_init_9 ++ []
def dkwX0_init_8 : List UInt8 := [181, 0, 84, 42, 16, 20, 188, 10, 181, 0, 87, 42, 17, 6, 39, 188, 10, 181, 0, 90, 42, 180, 0, 50]
abbrev dktX0_init_8 : List UInt8 := dkwX0_init_8 ++ dktX0_init_9
def dkwX0_init_7 : List UInt8 := [181, 0, 75, 42, 16, 16, 188, 10, 181, 0, 78, 42, 16, 20, 188, 10, 181, 0, 81, 42, 16, 20, 188, 10]
abbrev dktX0_init_7 : List UInt8 := dkwX0_init_7 ++ dktX0_init_8
def dkwX0_init_6 : List UInt8 := [181, 0, 65, 42, 16, 16, 188, 10, 181, 0, 69, 42, 16, 16, 188, 10, 181, 0, 72, 42, 16, 16, 188, 10]
abbrev dktX0_init_6 : List UInt8 := dkwX0_init_6 ++ dktX0_init_7
def dkwX0_init_5 : List UInt8 := [187, 0, 45, 89, 42, 183, 0, 47, 83, 181, 0, 57, 42, 6, 188, 4, 181, 0, 61, 42, 16, 9, 188, 10]
abbrev dktX0_init_5 : List UInt8 := dkwX0_init_5 ++ dktX0_init_6
def dkwX0_init_4 : List UInt8 := [187, 0, 45, 89, 42, 183, 0, 47, 83, 89, 4, 187, 0, 45, 89, 42, 183, 0, 47, 83, 89, 5]
abbrev dktX0_init_4 : List UInt8 := dkwX0_init_4 ++ dktX0_init_5
def dkwX0_init_3 : List UInt8 := [181, 0, 50, 42, 187, 0, 45, 89, 42, 183, 0, 47, 181, 0, 54, 42, 6, 189, 0, 45, 89, 3]
abbrev dktX0_init_3 : List UInt8 := dkwX0_init_3 ++ dktX0_init_4
def dkwX0_init_2 : List UInt8 := [181, 0, 34, 42, 187, 0, 38, 89, 183, 0, 40, 181, 0, 41, 42, 187, 0, 45, 89, 42, 183, 0, 47]
abbrev dktX0_init_2 : List UInt8 := dkwX0_init_2 ++ dktX0_init_3
def dkwX0_init_1 : List UInt8 := [42, 2, 181, 0, 20, 42, 187, 0, 24, 89, 183, 0, 26, 181, 0, 27, 42, 187, 0, 31, 89, 183, 0, 33]
abbrev dktX0_init_1 : List UInt8 := dkwX0_init_1 ++ dktX0_init_2
def dkwX0_init_0 : List UInt8 := [42, 183, 0, 1, 42, 187, 0, 7, 89, 183, 0, 9, 181, 0, 10, 42, 17, 3, 132, 188, 8, 181, 0, 16]
abbrev dktX0_init_0 : List UInt8 := dkwX0_init_0 ++ dktX0_init_1
theorem dksX0_init_0 : cX0_init.data.toList.drop 0 = dktX0_init_0 := by decide +kernel
theorem dksX0_init_1 : cX0_init.data.toList.drop 24 = dktX0_init_1 := dk_seg dksX0_init_0 24 rfl rfl
theorem dksX0_init_2 : cX0_init.data.toList.drop 48 = dktX0_init_2 := dk_seg dksX0_init_1 24 rfl rfl
theorem dksX0_init_3 : cX0_init.data.toList.drop 71 = dktX0_init_3 := dk_seg dksX0_init_2 23 rfl rfl
theorem dksX0_init_4 : cX0_init.data.toList.drop 93 = dktX0_init_4 := dk_seg dksX0_init_3 22 rfl rfl
theorem dksX0_init_5 : cX0_init.data.toList.drop 115 = dktX0_init_5 := dk_seg dksX0_init_4 22 rfl rfl
theorem dksX0_init_6 : cX0_init.data.toList.drop 139 = dktX0_init_6 := dk_seg dksX0_init_5 24 rfl rfl
theorem dksX0_init_7 : cX0_init.data.toList.drop 163 = dktX0_init_7 := dk_seg dksX0_init_6 24 rfl rfl
theorem dksX0_init_8 : cX0_init.data.toList.drop 187 = dktX0_init_8 := dk_seg dksX0_init_7 24 rfl rfl
theorem dksX0_init_9 : cX0_init.data.toList.drop 211 = dktX0_init_9 := dk_seg dksX0_init_8 24 rfl rfl
theorem dX0_init_0 : decode cX0_init 0 = .ok (.aload_n 0, 1) := dk_42 (dk_at dksX0_init_0 0 rfl rfl)
theorem dX0_init_1 : decode cX0_init 1 = .ok (.invokespecial 1, 3) := dk_183 0 1 (dk_at dksX0_init_0 1 rfl rfl)
theorem dX0_init_4 : decode cX0_init 4 = .ok (.aload_n 0, 1) := dk_42 (dk_at dksX0_init_0 4 rfl rfl)
theorem dX0_init_5 : decode cX0_init 5 = .ok (.new 7, 3) := dk_187 0 7 (dk_at dksX0_init_0 5 rfl rfl)
theorem dX0_init_8 : decode cX0_init 8 = .ok (.dup, 1) := dk_89 (dk_at dksX0_init_0 8 rfl rfl)
theorem dX0_init_9 : decode cX0_init 9 = .ok (.invokespecial 9, 3) := dk_183 0 9 (dk_at dksX0_init_0 9 rfl rfl)
theorem dX0_init_12 : decode cX0_init 12 = .ok (.putfield 10, 3) := dk_181 0 10 (dk_at dksX0_init_0 12 rfl rfl)
theorem dX0_init_15 : decode cX0_init 15 = .ok (.aload_n 0, 1) := dk_42 (dk_at dksX0_init_0 15 rfl rfl)
theorem dX0_init_16 : decode cX0_init 16 = .ok (.sipush 900, 3) := dk_17 3 132 (dk_at dksX0_init_0 16 rfl rfl)
theorem dX0_init_19 : decode cX0_init 19 = .ok (.newarray .byte, 2) := dk_188_8 (dk_at dksX0_init_0 19 rfl rfl)
theorem dX0_init_21 : decode cX0_init 21 = .ok (.putfield 16, 3) := dk_181 0 16 (dk_at dksX0_init_0 21 rfl rfl)
theorem dX0_init_24 : decode cX0_init 24 = .ok (.aload_n 0, 1) := dk_42 (dk_at dksX0_init_1 0 rfl rfl)
theorem dX0_init_25 : decode cX0_init 25 = .ok (.iconst (-1), 1) := dk_2 (dk_at dksX0_init_1 1 rfl rfl)
theorem dX0_init_26 : decode cX0_init 26 = .ok (.putfield 20, 3) := dk_181 0 20 (dk_at dksX0_init_1 2 rfl rfl)
theorem dX0_init_29 : decode cX0_init 29 = .ok (.aload_n 0, 1) := dk_42 (dk_at dksX0_init_1 5 rfl rfl)
theorem dX0_init_30 : decode cX0_init 30 = .ok (.new 24, 3) := dk_187 0 24 (dk_at dksX0_init_1 6 rfl rfl)
theorem dX0_init_33 : decode cX0_init 33 = .ok (.dup, 1) := dk_89 (dk_at dksX0_init_1 9 rfl rfl)
theorem dX0_init_34 : decode cX0_init 34 = .ok (.invokespecial 26, 3) := dk_183 0 26 (dk_at dksX0_init_1 10 rfl rfl)
theorem dX0_init_37 : decode cX0_init 37 = .ok (.putfield 27, 3) := dk_181 0 27 (dk_at dksX0_init_1 13 rfl rfl)
theorem dX0_init_40 : decode cX0_init 40 = .ok (.aload_n 0, 1) := dk_42 (dk_at dksX0_init_1 16 rfl rfl)
theorem dX0_init_41 : decode cX0_init 41 = .ok (.new 31, 3) := dk_187 0 31 (dk_at dksX0_init_1 17 rfl rfl)
theorem dX0_init_44 : decode cX0_init 44 = .ok (.dup, 1) := dk_89 (dk_at dksX0_init_1 20 rfl rfl)
theorem dX0_init_45 : decode cX0_init 45 = .ok (.invokespecial 33, 3) := dk_183 0 33 (dk_at dksX0_init_1 21 rfl rfl)
theorem dX0_init_48 : decode cX0_init 48 = .ok (.putfield 34, 3) := dk_181 0 34 (dk_at dksX0_init_2 0 rfl rfl)
theorem dX0_init_51 : decode cX0_init 51 = .ok (.aload_n 0, 1) := dk_42 (dk_at dksX0_init_2 3 rfl rfl)
theorem dX0_init_52 : decode cX0_init 52 = .ok (.new 38, 3) := dk_187 0 38 (dk_at dksX0_init_2 4 rfl rfl)
theorem dX0_init_55 : decode cX0_init 55 = .ok (.dup, 1) := dk_89 (dk_at dksX0_init_2 7 rfl rfl)
theorem dX0_init_56 : decode cX0_init 56 = .ok (.invokespecial 40, 3) := dk_183 0 40 (dk_at dksX0_init_2 8 rfl rfl)
theorem dX0_init_59 : decode cX0_init 59 = .ok (.putfield 41, 3) := dk_181 0 41 (dk_at dksX0_init_2 11 rfl rfl)
theorem dX0_init_62 : decode cX0_init 62 = .ok (.aload_n 0, 1) := dk_42 (dk_at dksX0_init_2 14 rfl rfl)
theorem dX0_init_63 : decode cX0_init 63 = .ok (.new 45, 3) := dk_187 0 45 (dk_at dksX0_init_2 15 rfl rfl)
theorem dX0_init_66 : decode cX0_init 66 = .ok (.dup, 1) := dk_89 (dk_at dksX0_init_2 18 rfl rfl)
theorem dX0_init_67 : decode cX0_init 67 = .ok (.aload_n 0, 1) := dk_42 (dk_at dksX0_init_2 19 rfl rfl)
theorem dX0_init_68 : decode cX0_init 68 = .ok (.invokespecial 47, 3) := dk_183 0 47 (dk_at dksX0_init_2 20 rfl rfl)
theorem dX0_init_71 : decode cX0_init 71 = .ok (.putfield 50, 3) := dk_181 0 50 (dk_at dksX0_init_3 0 rfl rfl)
theorem dX0_init_74 : decode cX0_init 74 = .ok (.aload_n 0, 1) := dk_42 (dk_at dksX0_init_3 3 rfl rfl)
theorem dX0_init_75 : decode cX0_init 75 = .ok (.new 45, 3) := dk_187 0 45 (dk_at dksX0_init_3 4 rfl rfl)
theorem dX0_init_78 : decode cX0_init 78 = .ok (.dup, 1) := dk_89 (dk_at dksX0_init_3 7 rfl rfl)
theorem dX0_init_79 : decode cX0_init 79 = .ok (.aload_n 0, 1) := dk_42 (dk_at dksX0_init_3 8 rfl rfl)
theorem dX0_init_80 : decode cX0_init 80 = .ok (.invokespecial 47, 3) := dk_183 0 47 (dk_at dksX0_init_3 9 rfl rfl)
theorem dX0_init_83 : decode cX0_init 83 = .ok (.putfield 54, 3) := dk_181 0 54 (dk_at dksX0_init_3 12 rfl rfl)
theorem dX0_init_86 : decode cX0_init 86 = .ok (.aload_n 0, 1) := dk_42 (dk_at dksX0_init_3 15 rfl rfl)
theorem dX0_init_87 : decode cX0_init 87 = .ok (.iconst 3, 1) := dk_6 (dk_at dksX0_init_3 16 rfl rfl)
theorem dX0_init_88 : decode cX0_init 88 = .ok (.anewarray 45, 3) := dk_189 0 45 (dk_at dksX0_init_3 17 rfl rfl)
theorem dX0_init_91 : decode cX0_init 91 = .ok (.dup, 1) := dk_89 (dk_at dksX0_init_3 20 rfl rfl)
theorem dX0_init_92 : decode cX0_init 92 = .ok (.iconst 0, 1) := dk_3 (dk_at dksX0_init_3 21 rfl rfl)
theorem dX0_init_93 : decode cX0_init 93 = .ok (.new 45, 3) := dk_187 0 45 (dk_at dksX0_init_4 0 rfl rfl)
theorem dX0_init_96 : decode cX0_init 96 = .ok (.dup, 1) := dk_89 (dk_at dksX0_init_4 3 rfl rfl)
theorem dX0_init_97 : decode cX0_init 97 = .ok (.aload_n 0, 1) := dk_42 (dk_at dksX0_init_4 4 rfl rfl)
theorem dX0_init_98 : decode cX0_init 98 = .ok (.invokespecial 47, 3) := dk_183 0 47 (dk_at dksX0_init_4 5 rfl rfl)
theorem dX0_init_101 : decode cX0_init 101 = .ok (.aastore, 1) := dk_83 (dk_at dksX0_init_4 8 rfl rfl)
theorem dX0_init_102 : decode cX0_init 102 = .ok (.dup, 1) := dk_89 (dk_at dksX0_init_4 9 rfl rfl)
theorem dX0_init_103 : decode cX0_init 103 = .ok (.iconst 1, 1) := dk_4 (dk_at dksX0_init_4 10 rfl rfl)
theorem dX0_init_104 : decode cX0_init 104 = .ok (.new 45, 3) := dk_187 0 45 (dk_at dksX0_init_4 11 rfl rfl)
theorem dX0_init_107 : decode cX0_init 107 = .ok (.dup, 1) := dk_89 (dk_at dksX0_init_4 14 rfl rfl)
theorem dX0_init_108 : decode cX0_init 108 = .ok (.aload_n 0, 1) := dk_42 (dk_at dksX0_init_4 15 rfl rfl)
theorem dX0_init_109 : decode cX0_init 109 = .ok (.invokespecial 47, 3) := dk_183 0 47 (dk_at dksX0_init_4 16 rfl rfl)
theorem dX0_init_112 : decode cX0_init 112 = .ok (.aastore, 1) := dk_83 (dk_at dksX0_init_4 19 rfl rfl)
theorem dX0_init_113 : decode cX0_init 113 = .ok (.dup, 1) := dk_89 (dk_at dksX0_init_4 20 rfl rfl)
theorem dX0_init_114 : decode cX0_init 114 = .ok (.iconst 2, 1) := dk_5 (dk_at dksX0_init_4 21 rfl rfl)
theorem dX0_init_115 : decode cX0_init 115 = .ok (.new 45, 3) := dk_187 0 45 (dk_at dksX0_init_5 0 rfl rfl)
theorem dX0_init_118 : decode cX0_init 118 = .ok (.dup, 1) := dk_89 (dk_at dksX0_init_5 3 rfl rfl)
theorem dX0_init_119 : decode cX0_init 119 = .ok (.aload_n 0, 1) := dk_42 (dk_at dksX0_init_5 4 rfl rfl)
theorem dX0_init_120 : decode cX0_init 120 = .ok (.invokespecial 47, 3) := dk_183 0 47 (dk_at dksX0_init_5 5 rfl rfl)
theorem dX0_init_123 : decode cX0_init 123 = .ok (.aastore, 1) := dk_83 (dk_at dksX0_init_5 8 rfl rfl)
theorem dX0_init_124 : decode cX0_init 124 = .ok (.putfield 57, 3) := dk_181 0 57 (dk_at dksX0_init_5 9 rfl rfl)
theorem dX0_init_127 : decode cX0_init 127 = .ok (.aload_n 0, 1) := dk_42 (dk_at dksX0_init_5 12 rfl rfl)
theorem dX0_init_128 : decode cX0_init 128 = .ok (.iconst 3, 1) := dk_6 (dk_at dksX0_init_5 13 rfl rfl)
theorem dX0_init_129 : decode cX0_init 129 = .ok (.newarray .boolean, 2) := dk_188_4 (dk_at dksX0_init_5 14 rfl rfl)
theorem dX0_init_131 : decode cX0_init 131 = .ok (.putfield 61, 3) := dk_181 0 61 (dk_at dksX0_init_5 16 rfl rfl)
theorem dX0_init_134 : decode cX0_init 134 = .ok (.aload_n 0, 1) := dk_42 (dk_at dksX0_init_5 19 rfl rfl)
theorem dX0_init_135 : decode cX0_init 135 = .ok (.bipush 9, 2) := dk_16 9 (dk_at dksX0_init_5 20 rfl rfl)
theorem dX0_init_137 : decode cX0_init 137 = .ok (.newarray .int, 2) := dk_188_10 (dk_at dksX0_init_5 22 rfl rfl)
theorem dX0_init_139 : decode cX0_init 139 = .ok (.putfield 65, 3) := dk_181 0 65 (dk_at dksX0_init_6 0 rfl rfl)
theorem dX0_init_142 : decode cX0_init 142 = .ok (.aload_n 0, 1) := dk_42 (dk_at dksX0_init_6 3 rfl rfl)
theorem dX0_init_143 : decode cX0_init 143 = .ok (.bipush 16, 2) := dk_16 16 (dk_at dksX0_init_6 4 rfl rfl)
theorem dX0_init_145 : decode cX0_init 145 = .ok (.newarray .int, 2) := dk_188_10 (dk_at dksX0_init_6 6 rfl rfl)
theorem dX0_init_147 : decode cX0_init 147 = .ok (.putfield 69, 3) := dk_181 0 69 (dk_at dksX0_init_6 8 rfl rfl)
theorem dX0_init_150 : decode cX0_init 150 = .ok (.aload_n 0, 1) := dk_42 (dk_at dksX0_init_6 11 rfl rfl)
theorem dX0_init_151 : decode cX0_init 151 = .ok (.bipush 16, 2) := dk_16 16 (dk_at dksX0_init_6 12 rfl rfl)
theorem dX0_init_153 : decode cX0_init 153 = .ok (.newarray .int, 2) := dk_188_10 (dk_at dksX0_init_6 14 rfl rfl)
theorem dX0_init_155 : decode cX0_init 155 = .ok (.putfield 72, 3) := dk_181 0 72 (dk_at dksX0_init_6 16 rfl rfl)
theorem dX0_init_158 : decode cX0_init 158 = .ok (.aload_n 0, 1) := dk_42 (dk_at dksX0_init_6 19 rfl rfl)
theorem dX0_init_159 : decode cX0_init 159 = .ok (.bipush 16, 2) := dk_16 16 (dk_at dksX0_init_6 20 rfl rfl)
theorem dX0_init_161 : decode cX0_init 161 = .ok (.newarray .int, 2) := dk_188_10 (dk_at dksX0_init_6 22 rfl rfl)
theorem dX0_init_163 : decode cX0_init 163 = .ok (.putfield 75, 3) := dk_181 0 75 (dk_at dksX0_init_7 0 rfl rfl)
theorem dX0_init_166 : decode cX0_init 166 = .ok (.aload_n 0, 1) := dk_42 (dk_at dksX0_init_7 3 rfl rfl)
theorem dX0_init_167 : decode cX0_init 167 = .ok (.bipush 16, 2) := dk_16 16 (dk_at dksX0_init_7 4 rfl rfl)
theorem dX0_init_169 : decode cX0_init 169 = .ok (.newarray .int, 2) := dk_188_10 (dk_at dksX0_init_7 6 rfl rfl)
theorem dX0_init_171 : decode cX0_init 171 = .ok (.putfield 78, 3) := dk_181 0 78 (dk_at dksX0_init_7 8 rfl rfl)
theorem dX0_init_174 : decode cX0_init 174 = .ok (.aload_n 0, 1) := dk_42 (dk_at dksX0_init_7 11 rfl rfl)
theorem dX0_init_175 : decode cX0_init 175 = .ok (.bipush 20, 2) := dk_16 20 (dk_at dksX0_init_7 12 rfl rfl)
theorem dX0_init_177 : decode cX0_init 177 = .ok (.newarray .int, 2) := dk_188_10 (dk_at dksX0_init_7 14 rfl rfl)
theorem dX0_init_179 : decode cX0_init 179 = .ok (.putfield 81, 3) := dk_181 0 81 (dk_at dksX0_init_7 16 rfl rfl)
theorem dX0_init_182 : decode cX0_init 182 = .ok (.aload_n 0, 1) := dk_42 (dk_at dksX0_init_7 19 rfl rfl)
theorem dX0_init_183 : decode cX0_init 183 = .ok (.bipush 20, 2) := dk_16 20 (dk_at dksX0_init_7 20 rfl rfl)
theorem dX0_init_185 : decode cX0_init 185 = .ok (.newarray .int, 2) := dk_188_10 (dk_at dksX0_init_7 22 rfl rfl)
theorem dX0_init_187 : decode cX0_init 187 = .ok (.putfield 84, 3) := dk_181 0 84 (dk_at dksX0_init_8 0 rfl rfl)
theorem dX0_init_190 : decode cX0_init 190 = .ok (.aload_n 0, 1) := dk_42 (dk_at dksX0_init_8 3 rfl rfl)
theorem dX0_init_191 : decode cX0_init 191 = .ok (.bipush 20, 2) := dk_16 20 (dk_at dksX0_init_8 4 rfl rfl)
theorem dX0_init_193 : decode cX0_init 193 = .ok (.newarray .int, 2) := dk_188_10 (dk_at dksX0_init_8 6 rfl rfl)
theorem dX0_init_195 : decode cX0_init 195 = .ok (.putfield 87, 3) := dk_181 0 87 (dk_at dksX0_init_8 8 rfl rfl)
theorem dX0_init_198 : decode cX0_init 198 = .ok (.aload_n 0, 1) := dk_42 (dk_at dksX0_init_8 11 rfl rfl)
theorem dX0_init_199 : decode cX0_init 199 = .ok (.sipush 1575, 3) := dk_17 6 39 (dk_at dksX0_init_8 12 rfl rfl)
theorem dX0_init_202 : decode cX0_init 202 = .ok (.newarray .int, 2) := dk_188_10 (dk_at dksX0_init_8 15 rfl rfl)
theorem dX0_init_204 : decode cX0_init 204 = .ok (.putfield 90, 3) := dk_181 0 90 (dk_at dksX0_init_8 17 rfl rfl)
theorem dX0_init_207 : decode cX0_init 207 = .ok (.aload_n 0, 1) := dk_42 (dk_at dksX0_init_8 20 rfl rfl)
theorem dX0_init_208 : decode cX0_init 208 = .ok (.getfield 50, 3) := dk_180 0 50 (dk_at dksX0_init_8 21 rfl rfl)
theorem dX0_init_211 : decode cX0_init 211 = .ok (.invokevirtual 93, 3) := dk_182 0 93 (dk_at dksX0_init_9 0 rfl rfl)
theorem dX0_init_214 : decode cX0_init 214 = .ok (.return_, 1) := dk_177 (dk_at dksX0_init_9 3 rfl rfl)
abbrev cX0_feed : ByteArray := prog_1_method_4_code
def yX0_feed : MethodName := ⟨RX0, "feed", "(IIIII)I"⟩
def dkwX0_feed_2 : List UInt8 := [172]
abbrev dktX0_feed_2 : List UInt8 := dkwX0_feed_2 ++ []
def dkwX0_feed_1 : List UInt8 := [182, 0, 99, 42, 29, 182, 0, 99, 42, 21, 4, 182, 0, 99, 42, 21, 5, 182, 0, 99, 42, 180, 0, 96]
abbrev dktX0_feed_1 : List UInt8 := dkwX0_feed_1 ++ dktX0_feed_2
def dkwX0_feed_0 : List UInt8 := [42, 180, 0, 96, 16, 20, 96, 17, 3, 132, 164, 0, 6, 16, 253, 172, 42, 27, 182, 0, 99, 42, 28]
abbrev dktX0_feed_0 : List UInt8 := dkwX0_feed_0 ++ dktX0_feed_1
theorem dksX0_feed_0 : cX0_feed.data.toList.drop 0 = dktX0_feed_0 := by decide +kernel
theorem dksX0_feed_1 : cX0_feed.data.toList.drop 23 = dktX0_feed_1 := dk_seg dksX0_feed_0 23 rfl rfl
theorem dksX0_feed_2 : cX0_feed.data.toList.drop 47 = dktX0_feed_2 := dk_seg dksX0_feed_1 24 rfl rfl
theorem dX0_feed_0 : decode cX0_feed 0 = .ok (.aload_n 0, 1) := dk_42 (dk_at dksX0_feed_0 0 rfl rfl)
theorem dX0_feed_1 : decode cX0_feed 1 = .ok (.getfield 96, 3) := dk_180 0 96 (dk_at dksX0_feed_0 1 rfl rfl)
theorem dX0_feed_4 : decode cX0_feed 4 = .ok (.bipush 20, 2) := dk_16 20 (dk_at dksX0_feed_0 4 rfl rfl)
theorem dX0_feed_6 : decode cX0_feed 6 = .ok (.iadd, 1) := dk_96 (dk_at dksX0_feed_0 6 rfl rfl)
theorem dX0_feed_7 : decode cX0_feed 7 = .ok (.sipush 900, 3) := dk_17 3 132 (dk_at dksX0_feed_0 7 rfl rfl)
theorem dX0_feed_10 : decode cX0_feed 10 = .ok (.if_icmp .le 6, 3) := dk_164 0 6 (dk_at dksX0_feed_0 10 rfl rfl)
theorem dX0_feed_13 : decode cX0_feed 13 = .ok (.bipush (-3), 2) := dk_16 253 (dk_at dksX0_feed_0 13 rfl rfl)
theorem dX0_feed_15 : decode cX0_feed 15 = .ok (.ireturn, 1) := dk_172 (dk_at dksX0_feed_0 15 rfl rfl)
theorem dX0_feed_16 : decode cX0_feed 16 = .ok (.aload_n 0, 1) := dk_42 (dk_at dksX0_feed_0 16 rfl rfl)
theorem dX0_feed_17 : decode cX0_feed 17 = .ok (.iload_n 1, 1) := dk_27 (dk_at dksX0_feed_0 17 rfl rfl)
theorem dX0_feed_18 : decode cX0_feed 18 = .ok (.invokevirtual 99, 3) := dk_182 0 99 (dk_at dksX0_feed_0 18 rfl rfl)
theorem dX0_feed_21 : decode cX0_feed 21 = .ok (.aload_n 0, 1) := dk_42 (dk_at dksX0_feed_0 21 rfl rfl)
theorem dX0_feed_22 : decode cX0_feed 22 = .ok (.iload_n 2, 1) := dk_28 (dk_at dksX0_feed_0 22 rfl rfl)
theorem dX0_feed_23 : decode cX0_feed 23 = .ok (.invokevirtual 99, 3) := dk_182 0 99 (dk_at dksX0_feed_1 0 rfl rfl)
theorem dX0_feed_26 : decode cX0_feed 26 = .ok (.aload_n 0, 1) := dk_42 (dk_at dksX0_feed_1 3 rfl rfl)
theorem dX0_feed_27 : decode cX0_feed 27 = .ok (.iload_n 3, 1) := dk_29 (dk_at dksX0_feed_1 4 rfl rfl)
theorem dX0_feed_28 : decode cX0_feed 28 = .ok (.invokevirtual 99, 3) := dk_182 0 99 (dk_at dksX0_feed_1 5 rfl rfl)
theorem dX0_feed_31 : decode cX0_feed 31 = .ok (.aload_n 0, 1) := dk_42 (dk_at dksX0_feed_1 8 rfl rfl)
theorem dX0_feed_32 : decode cX0_feed 32 = .ok (.iload 4, 2) := dk_21 4 (dk_at dksX0_feed_1 9 rfl rfl)
theorem dX0_feed_34 : decode cX0_feed 34 = .ok (.invokevirtual 99, 3) := dk_182 0 99 (dk_at dksX0_feed_1 11 rfl rfl)
theorem dX0_feed_37 : decode cX0_feed 37 = .ok (.aload_n 0, 1) := dk_42 (dk_at dksX0_feed_1 14 rfl rfl)
theorem dX0_feed_38 : decode cX0_feed 38 = .ok (.iload 5, 2) := dk_21 5 (dk_at dksX0_feed_1 15 rfl rfl)
theorem dX0_feed_40 : decode cX0_feed 40 = .ok (.invokevirtual 99, 3) := dk_182 0 99 (dk_at dksX0_feed_1 17 rfl rfl)
theorem dX0_feed_43 : decode cX0_feed 43 = .ok (.aload_n 0, 1) := dk_42 (dk_at dksX0_feed_1 20 rfl rfl)
theorem dX0_feed_44 : decode cX0_feed 44 = .ok (.getfield 96, 3) := dk_180 0 96 (dk_at dksX0_feed_1 21 rfl rfl)
theorem dX0_feed_47 : decode cX0_feed 47 = .ok (.ireturn, 1) := dk_172 (dk_at dksX0_feed_2 0 rfl rfl)
abbrev cX0_four : ByteArray := prog_1_method_3_code
def yX0_four : MethodName := ⟨RX0, "four", "(I)V"⟩
def dkwX0_four_1 : List UInt8 := [180, 0, 96, 4, 96, 181, 0, 96, 132, 2, 248, 167, 255, 226, 177]
abbrev dktX0_four_1 : List UInt8 := dkwX0_four_1 ++ []
def dkwX0_four_0 : List UInt8 := [16, 24, 61, 28, 155, 0, 32, 42, 180, 0, 16, 42, 180, 0, 96, 27, 28, 122, 145, 84, 42, 89]
abbrev dktX0_four_0 : List UInt8 := dkwX0_four_0 ++ dktX0_four_1
theorem dksX0_four_0 : cX0_four.data.toList.drop 0 = dktX0_four_0 := by decide +kernel
theorem dksX0_four_1 : cX0_four.data.toList.drop 22 = dktX0_four_1 := dk_seg dksX0_four_0 22 rfl rfl
theorem dX0_four_0 : decode cX0_four 0 = .ok (.bipush 24, 2) := dk_16 24 (dk_at dksX0_four_0 0 rfl rfl)
theorem dX0_four_2 : decode cX0_four 2 = .ok (.istore_n 2, 1) := dk_61 (dk_at dksX0_four_0 2 rfl rfl)
theorem dX0_four_3 : decode cX0_four 3 = .ok (.iload_n 2, 1) := dk_28 (dk_at dksX0_four_0 3 rfl rfl)
theorem dX0_four_4 : decode cX0_four 4 = .ok (.ifCond .lt 32, 3) := dk_155 0 32 (dk_at dksX0_four_0 4 rfl rfl)
theorem dX0_four_7 : decode cX0_four 7 = .ok (.aload_n 0, 1) := dk_42 (dk_at dksX0_four_0 7 rfl rfl)
theorem dX0_four_8 : decode cX0_four 8 = .ok (.getfield 16, 3) := dk_180 0 16 (dk_at dksX0_four_0 8 rfl rfl)
theorem dX0_four_11 : decode cX0_four 11 = .ok (.aload_n 0, 1) := dk_42 (dk_at dksX0_four_0 11 rfl rfl)
theorem dX0_four_12 : decode cX0_four 12 = .ok (.getfield 96, 3) := dk_180 0 96 (dk_at dksX0_four_0 12 rfl rfl)
theorem dX0_four_15 : decode cX0_four 15 = .ok (.iload_n 1, 1) := dk_27 (dk_at dksX0_four_0 15 rfl rfl)
theorem dX0_four_16 : decode cX0_four 16 = .ok (.iload_n 2, 1) := dk_28 (dk_at dksX0_four_0 16 rfl rfl)
theorem dX0_four_17 : decode cX0_four 17 = .ok (.ishr, 1) := dk_122 (dk_at dksX0_four_0 17 rfl rfl)
theorem dX0_four_18 : decode cX0_four 18 = .ok (.i2b, 1) := dk_145 (dk_at dksX0_four_0 18 rfl rfl)
theorem dX0_four_19 : decode cX0_four 19 = .ok (.bastore, 1) := dk_84 (dk_at dksX0_four_0 19 rfl rfl)
theorem dX0_four_20 : decode cX0_four 20 = .ok (.aload_n 0, 1) := dk_42 (dk_at dksX0_four_0 20 rfl rfl)
theorem dX0_four_21 : decode cX0_four 21 = .ok (.dup, 1) := dk_89 (dk_at dksX0_four_0 21 rfl rfl)
theorem dX0_four_22 : decode cX0_four 22 = .ok (.getfield 96, 3) := dk_180 0 96 (dk_at dksX0_four_1 0 rfl rfl)
theorem dX0_four_25 : decode cX0_four 25 = .ok (.iconst 1, 1) := dk_4 (dk_at dksX0_four_1 3 rfl rfl)
theorem dX0_four_26 : decode cX0_four 26 = .ok (.iadd, 1) := dk_96 (dk_at dksX0_four_1 4 rfl rfl)
theorem dX0_four_27 : decode cX0_four 27 = .ok (.putfield 96, 3) := dk_181 0 96 (dk_at dksX0_four_1 5 rfl rfl)
theorem dX0_four_30 : decode cX0_four 30 = .ok (.iinc 2 (-8), 3) := dk_132 2 248 (dk_at dksX0_four_1 8 rfl rfl)
theorem dX0_four_33 : decode cX0_four 33 = .ok (.goto (-30), 3) := dk_167 255 226 (dk_at dksX0_four_1 11 rfl rfl)
theorem dX0_four_36 : decode cX0_four 36 = .ok (.return_, 1) := dk_177 (dk_at dksX0_four_1 14 rfl rfl)
abbrev cX0_end : ByteArray := prog_1_method_5_code
def yX0_end : MethodName := ⟨RX0, "end", "(I)I"⟩
def dkwX0_end_0 : List UInt8 := [27, 155, 0, 11, 27, 42, 180, 0, 96, 164, 0, 5, 2, 172, 42, 27, 181, 0, 96, 27, 172]
abbrev dktX0_end_0 : List UInt8 := dkwX0_end_0 ++ []
theorem dksX0_end_0 : cX0_end.data.toList.drop 0 = dktX0_end_0 := by decide +kernel
theorem dX0_end_0 : decode cX0_end 0 = .ok (.iload_n 1, 1) := dk_27 (dk_at dksX0_end_0 0 rfl rfl)
theorem dX0_end_1 : decode cX0_end 1 = .ok (.ifCond .lt 11, 3) := dk_155 0 11 (dk_at dksX0_end_0 1 rfl rfl)
theorem dX0_end_4 : decode cX0_end 4 = .ok (.iload_n 1, 1) := dk_27 (dk_at dksX0_end_0 4 rfl rfl)
theorem dX0_end_5 : decode cX0_end 5 = .ok (.aload_n 0, 1) := dk_42 (dk_at dksX0_end_0 5 rfl rfl)
theorem dX0_end_6 : decode cX0_end 6 = .ok (.getfield 96, 3) := dk_180 0 96 (dk_at dksX0_end_0 6 rfl rfl)
theorem dX0_end_9 : decode cX0_end 9 = .ok (.if_icmp .le 5, 3) := dk_164 0 5 (dk_at dksX0_end_0 9 rfl rfl)
theorem dX0_end_12 : decode cX0_end 12 = .ok (.iconst (-1), 1) := dk_2 (dk_at dksX0_end_0 12 rfl rfl)
theorem dX0_end_13 : decode cX0_end 13 = .ok (.ireturn, 1) := dk_172 (dk_at dksX0_end_0 13 rfl rfl)
theorem dX0_end_14 : decode cX0_end 14 = .ok (.aload_n 0, 1) := dk_42 (dk_at dksX0_end_0 14 rfl rfl)
theorem dX0_end_15 : decode cX0_end 15 = .ok (.iload_n 1, 1) := dk_27 (dk_at dksX0_end_0 15 rfl rfl)
theorem dX0_end_16 : decode cX0_end 16 = .ok (.putfield 96, 3) := dk_181 0 96 (dk_at dksX0_end_0 16 rfl rfl)
theorem dX0_end_19 : decode cX0_end 19 = .ok (.iload_n 1, 1) := dk_27 (dk_at dksX0_end_0 19 rfl rfl)
theorem dX0_end_20 : decode cX0_end 20 = .ok (.ireturn, 1) := dk_172 (dk_at dksX0_end_0 20 rfl rfl)
abbrev cX0_beach : ByteArray := prog_1_method_9_code
def yX0_beach : MethodName := ⟨RX0, "beach", "()I"⟩
def dkwX0_beach_2 : List UInt8 := [42, 180, 0, 61, 3, 184, 0, 135, 42, 180, 0, 27, 180, 0, 141, 172]
abbrev dktX0_beach_2 : List UInt8 := dkwX0_beach_2 ++ []
def dkwX0_beach_1 : List UInt8 := [167, 0, 10, 76, 42, 43, 182, 0, 128, 172, 42, 180, 0, 41, 182, 0, 132, 42, 180, 0, 50, 182, 0, 93]
abbrev dktX0_beach_1 : List UInt8 := dkwX0_beach_1 ++ dktX0_beach_2
def dkwX0_beach_0 : List UInt8 := [42, 182, 0, 112, 42, 187, 0, 115, 89, 42, 42, 182, 0, 117, 183, 0, 121, 182, 0, 124, 181, 0, 27]
abbrev dktX0_beach_0 : List UInt8 := dkwX0_beach_0 ++ dktX0_beach_1
theorem dksX0_beach_0 : cX0_beach.data.toList.drop 0 = dktX0_beach_0 := by decide +kernel
theorem dksX0_beach_1 : cX0_beach.data.toList.drop 23 = dktX0_beach_1 := dk_seg dksX0_beach_0 23 rfl rfl
theorem dksX0_beach_2 : cX0_beach.data.toList.drop 47 = dktX0_beach_2 := dk_seg dksX0_beach_1 24 rfl rfl
theorem dX0_beach_0 : decode cX0_beach 0 = .ok (.aload_n 0, 1) := dk_42 (dk_at dksX0_beach_0 0 rfl rfl)
theorem dX0_beach_1 : decode cX0_beach 1 = .ok (.invokevirtual 112, 3) := dk_182 0 112 (dk_at dksX0_beach_0 1 rfl rfl)
theorem dX0_beach_4 : decode cX0_beach 4 = .ok (.aload_n 0, 1) := dk_42 (dk_at dksX0_beach_0 4 rfl rfl)
theorem dX0_beach_5 : decode cX0_beach 5 = .ok (.new 115, 3) := dk_187 0 115 (dk_at dksX0_beach_0 5 rfl rfl)
theorem dX0_beach_8 : decode cX0_beach 8 = .ok (.dup, 1) := dk_89 (dk_at dksX0_beach_0 8 rfl rfl)
theorem dX0_beach_9 : decode cX0_beach 9 = .ok (.aload_n 0, 1) := dk_42 (dk_at dksX0_beach_0 9 rfl rfl)
theorem dX0_beach_10 : decode cX0_beach 10 = .ok (.aload_n 0, 1) := dk_42 (dk_at dksX0_beach_0 10 rfl rfl)
theorem dX0_beach_11 : decode cX0_beach 11 = .ok (.invokevirtual 117, 3) := dk_182 0 117 (dk_at dksX0_beach_0 11 rfl rfl)
theorem dX0_beach_14 : decode cX0_beach 14 = .ok (.invokespecial 121, 3) := dk_183 0 121 (dk_at dksX0_beach_0 14 rfl rfl)
theorem dX0_beach_17 : decode cX0_beach 17 = .ok (.invokevirtual 124, 3) := dk_182 0 124 (dk_at dksX0_beach_0 17 rfl rfl)
theorem dX0_beach_20 : decode cX0_beach 20 = .ok (.putfield 27, 3) := dk_181 0 27 (dk_at dksX0_beach_0 20 rfl rfl)
theorem dX0_beach_23 : decode cX0_beach 23 = .ok (.goto 10, 3) := dk_167 0 10 (dk_at dksX0_beach_1 0 rfl rfl)
theorem dX0_beach_26 : decode cX0_beach 26 = .ok (.astore_n 1, 1) := dk_76 (dk_at dksX0_beach_1 3 rfl rfl)
theorem dX0_beach_27 : decode cX0_beach 27 = .ok (.aload_n 0, 1) := dk_42 (dk_at dksX0_beach_1 4 rfl rfl)
theorem dX0_beach_28 : decode cX0_beach 28 = .ok (.aload_n 1, 1) := dk_43 (dk_at dksX0_beach_1 5 rfl rfl)
theorem dX0_beach_29 : decode cX0_beach 29 = .ok (.invokevirtual 128, 3) := dk_182 0 128 (dk_at dksX0_beach_1 6 rfl rfl)
theorem dX0_beach_32 : decode cX0_beach 32 = .ok (.ireturn, 1) := dk_172 (dk_at dksX0_beach_1 9 rfl rfl)
theorem dX0_beach_33 : decode cX0_beach 33 = .ok (.aload_n 0, 1) := dk_42 (dk_at dksX0_beach_1 10 rfl rfl)
theorem dX0_beach_34 : decode cX0_beach 34 = .ok (.getfield 41, 3) := dk_180 0 41 (dk_at dksX0_beach_1 11 rfl rfl)
theorem dX0_beach_37 : decode cX0_beach 37 = .ok (.invokevirtual 132, 3) := dk_182 0 132 (dk_at dksX0_beach_1 14 rfl rfl)
theorem dX0_beach_40 : decode cX0_beach 40 = .ok (.aload_n 0, 1) := dk_42 (dk_at dksX0_beach_1 17 rfl rfl)
theorem dX0_beach_41 : decode cX0_beach 41 = .ok (.getfield 50, 3) := dk_180 0 50 (dk_at dksX0_beach_1 18 rfl rfl)
theorem dX0_beach_44 : decode cX0_beach 44 = .ok (.invokevirtual 93, 3) := dk_182 0 93 (dk_at dksX0_beach_1 21 rfl rfl)
theorem dX0_beach_47 : decode cX0_beach 47 = .ok (.aload_n 0, 1) := dk_42 (dk_at dksX0_beach_2 0 rfl rfl)
theorem dX0_beach_48 : decode cX0_beach 48 = .ok (.getfield 61, 3) := dk_180 0 61 (dk_at dksX0_beach_2 1 rfl rfl)
theorem dX0_beach_51 : decode cX0_beach 51 = .ok (.iconst 0, 1) := dk_3 (dk_at dksX0_beach_2 4 rfl rfl)
theorem dX0_beach_52 : decode cX0_beach 52 = .ok (.invokestatic 135, 3) := dk_184 0 135 (dk_at dksX0_beach_2 5 rfl rfl)
theorem dX0_beach_55 : decode cX0_beach 55 = .ok (.aload_n 0, 1) := dk_42 (dk_at dksX0_beach_2 8 rfl rfl)
theorem dX0_beach_56 : decode cX0_beach 56 = .ok (.getfield 27, 3) := dk_180 0 27 (dk_at dksX0_beach_2 9 rfl rfl)
theorem dX0_beach_59 : decode cX0_beach 59 = .ok (.getfield 141, 3) := dk_180 0 141 (dk_at dksX0_beach_2 12 rfl rfl)
theorem dX0_beach_62 : decode cX0_beach 62 = .ok (.ireturn, 1) := dk_172 (dk_at dksX0_beach_2 15 rfl rfl)
abbrev cX0_noFault : ByteArray := prog_1_method_7_code
def yX0_noFault : MethodName := ⟨RX0, "noFault", "()V"⟩
def dkwX0_noFault_0 : List UInt8 := [42, 3, 181, 0, 103, 42, 2, 181, 0, 20, 177]
abbrev dktX0_noFault_0 : List UInt8 := dkwX0_noFault_0 ++ []
theorem dksX0_noFault_0 : cX0_noFault.data.toList.drop 0 = dktX0_noFault_0 := by decide +kernel
theorem dX0_noFault_0 : decode cX0_noFault 0 = .ok (.aload_n 0, 1) := dk_42 (dk_at dksX0_noFault_0 0 rfl rfl)
theorem dX0_noFault_1 : decode cX0_noFault 1 = .ok (.iconst 0, 1) := dk_3 (dk_at dksX0_noFault_0 1 rfl rfl)
theorem dX0_noFault_2 : decode cX0_noFault 2 = .ok (.putfield 103, 3) := dk_181 0 103 (dk_at dksX0_noFault_0 2 rfl rfl)
theorem dX0_noFault_5 : decode cX0_noFault 5 = .ok (.aload_n 0, 1) := dk_42 (dk_at dksX0_noFault_0 5 rfl rfl)
theorem dX0_noFault_6 : decode cX0_noFault 6 = .ok (.iconst (-1), 1) := dk_2 (dk_at dksX0_noFault_0 6 rfl rfl)
theorem dX0_noFault_7 : decode cX0_noFault 7 = .ok (.putfield 20, 3) := dk_181 0 20 (dk_at dksX0_noFault_0 7 rfl rfl)
theorem dX0_noFault_10 : decode cX0_noFault 10 = .ok (.return_, 1) := dk_177 (dk_at dksX0_noFault_0 10 rfl rfl)
abbrev cX0_takeTape : ByteArray := prog_1_method_6_code
def yX0_takeTape : MethodName := ⟨RX0, "takeTape", "()I"⟩
def dkwX0_takeTape_0 : List UInt8 := [42, 180, 0, 96, 60, 42, 3, 181, 0, 96, 27, 172]
abbrev dktX0_takeTape_0 : List UInt8 := dkwX0_takeTape_0 ++ []
theorem dksX0_takeTape_0 : cX0_takeTape.data.toList.drop 0 = dktX0_takeTape_0 := by decide +kernel
theorem dX0_takeTape_0 : decode cX0_takeTape 0 = .ok (.aload_n 0, 1) := dk_42 (dk_at dksX0_takeTape_0 0 rfl rfl)
theorem dX0_takeTape_1 : decode cX0_takeTape 1 = .ok (.getfield 96, 3) := dk_180 0 96 (dk_at dksX0_takeTape_0 1 rfl rfl)
theorem dX0_takeTape_4 : decode cX0_takeTape 4 = .ok (.istore_n 1, 1) := dk_60 (dk_at dksX0_takeTape_0 4 rfl rfl)
theorem dX0_takeTape_5 : decode cX0_takeTape 5 = .ok (.aload_n 0, 1) := dk_42 (dk_at dksX0_takeTape_0 5 rfl rfl)
theorem dX0_takeTape_6 : decode cX0_takeTape 6 = .ok (.iconst 0, 1) := dk_3 (dk_at dksX0_takeTape_0 6 rfl rfl)
theorem dX0_takeTape_7 : decode cX0_takeTape 7 = .ok (.putfield 96, 3) := dk_181 0 96 (dk_at dksX0_takeTape_0 7 rfl rfl)
theorem dX0_takeTape_10 : decode cX0_takeTape 10 = .ok (.iload_n 1, 1) := dk_27 (dk_at dksX0_takeTape_0 10 rfl rfl)
theorem dX0_takeTape_11 : decode cX0_takeTape 11 = .ok (.ireturn, 1) := dk_172 (dk_at dksX0_takeTape_0 11 rfl rfl)
abbrev cX0_in : ByteArray := prog_1_method_1_code
def yX0_in : MethodName := ⟨RX0, "in", "(III)Z"⟩
def dkwX0_in_0 : List UInt8 := [26, 27, 161, 0, 12, 26, 28, 163, 0, 7, 4, 167, 0, 4, 3, 172]
abbrev dktX0_in_0 : List UInt8 := dkwX0_in_0 ++ []
theorem dksX0_in_0 : cX0_in.data.toList.drop 0 = dktX0_in_0 := by decide +kernel
theorem dX0_in_0 : decode cX0_in 0 = .ok (.iload_n 0, 1) := dk_26 (dk_at dksX0_in_0 0 rfl rfl)
theorem dX0_in_1 : decode cX0_in 1 = .ok (.iload_n 1, 1) := dk_27 (dk_at dksX0_in_0 1 rfl rfl)
theorem dX0_in_2 : decode cX0_in 2 = .ok (.if_icmp .lt 12, 3) := dk_161 0 12 (dk_at dksX0_in_0 2 rfl rfl)
theorem dX0_in_5 : decode cX0_in 5 = .ok (.iload_n 0, 1) := dk_26 (dk_at dksX0_in_0 5 rfl rfl)
theorem dX0_in_6 : decode cX0_in 6 = .ok (.iload_n 2, 1) := dk_28 (dk_at dksX0_in_0 6 rfl rfl)
theorem dX0_in_7 : decode cX0_in 7 = .ok (.if_icmp .gt 7, 3) := dk_163 0 7 (dk_at dksX0_in_0 7 rfl rfl)
theorem dX0_in_10 : decode cX0_in 10 = .ok (.iconst 1, 1) := dk_4 (dk_at dksX0_in_0 10 rfl rfl)
theorem dX0_in_11 : decode cX0_in 11 = .ok (.goto 4, 3) := dk_167 0 4 (dk_at dksX0_in_0 11 rfl rfl)
theorem dX0_in_14 : decode cX0_in 14 = .ok (.iconst 0, 1) := dk_3 (dk_at dksX0_in_0 14 rfl rfl)
theorem dX0_in_15 : decode cX0_in 15 = .ok (.ireturn, 1) := dk_172 (dk_at dksX0_in_0 15 rfl rfl)
abbrev cX0_failed : ByteArray := prog_1_method_8_code
def yX0_failed : MethodName := ⟨RX0, "failed", "(LTideKeep$Wrong;)I"⟩
def dkwX0_failed_0 : List UInt8 := [42, 43, 180, 0, 106, 181, 0, 103, 42, 43, 180, 0, 109, 181, 0, 20, 2, 172]
abbrev dktX0_failed_0 : List UInt8 := dkwX0_failed_0 ++ []
theorem dksX0_failed_0 : cX0_failed.data.toList.drop 0 = dktX0_failed_0 := by decide +kernel
theorem dX0_failed_0 : decode cX0_failed 0 = .ok (.aload_n 0, 1) := dk_42 (dk_at dksX0_failed_0 0 rfl rfl)
theorem dX0_failed_1 : decode cX0_failed 1 = .ok (.aload_n 1, 1) := dk_43 (dk_at dksX0_failed_0 1 rfl rfl)
theorem dX0_failed_2 : decode cX0_failed 2 = .ok (.getfield 106, 3) := dk_180 0 106 (dk_at dksX0_failed_0 2 rfl rfl)
theorem dX0_failed_5 : decode cX0_failed 5 = .ok (.putfield 103, 3) := dk_181 0 103 (dk_at dksX0_failed_0 5 rfl rfl)
theorem dX0_failed_8 : decode cX0_failed 8 = .ok (.aload_n 0, 1) := dk_42 (dk_at dksX0_failed_0 8 rfl rfl)
theorem dX0_failed_9 : decode cX0_failed 9 = .ok (.aload_n 1, 1) := dk_43 (dk_at dksX0_failed_0 9 rfl rfl)
theorem dX0_failed_10 : decode cX0_failed 10 = .ok (.getfield 109, 3) := dk_180 0 109 (dk_at dksX0_failed_0 10 rfl rfl)
theorem dX0_failed_13 : decode cX0_failed 13 = .ok (.putfield 20, 3) := dk_181 0 20 (dk_at dksX0_failed_0 13 rfl rfl)
theorem dX0_failed_16 : decode cX0_failed 16 = .ok (.iconst (-1), 1) := dk_2 (dk_at dksX0_failed_0 16 rfl rfl)
theorem dX0_failed_17 : decode cX0_failed 17 = .ok (.ireturn, 1) := dk_172 (dk_at dksX0_failed_0 17 rfl rfl)
abbrev cX0_sea : ByteArray := prog_1_method_10_code
def yX0_sea : MethodName := ⟨RX0, "sea", "()I"⟩
def dkwX0_sea_1 : List UInt8 := [167, 0, 10, 76, 42, 43, 182, 0, 128, 172, 42, 180, 0, 34, 180, 0, 150, 172]
abbrev dktX0_sea_1 : List UInt8 := dkwX0_sea_1 ++ []
def dkwX0_sea_0 : List UInt8 := [42, 182, 0, 112, 42, 187, 0, 144, 89, 42, 42, 182, 0, 117, 183, 0, 146, 182, 0, 147, 181, 0, 34]
abbrev dktX0_sea_0 : List UInt8 := dkwX0_sea_0 ++ dktX0_sea_1
theorem dksX0_sea_0 : cX0_sea.data.toList.drop 0 = dktX0_sea_0 := by decide +kernel
theorem dksX0_sea_1 : cX0_sea.data.toList.drop 23 = dktX0_sea_1 := dk_seg dksX0_sea_0 23 rfl rfl
theorem dX0_sea_0 : decode cX0_sea 0 = .ok (.aload_n 0, 1) := dk_42 (dk_at dksX0_sea_0 0 rfl rfl)
theorem dX0_sea_1 : decode cX0_sea 1 = .ok (.invokevirtual 112, 3) := dk_182 0 112 (dk_at dksX0_sea_0 1 rfl rfl)
theorem dX0_sea_4 : decode cX0_sea 4 = .ok (.aload_n 0, 1) := dk_42 (dk_at dksX0_sea_0 4 rfl rfl)
theorem dX0_sea_5 : decode cX0_sea 5 = .ok (.new 144, 3) := dk_187 0 144 (dk_at dksX0_sea_0 5 rfl rfl)
theorem dX0_sea_8 : decode cX0_sea 8 = .ok (.dup, 1) := dk_89 (dk_at dksX0_sea_0 8 rfl rfl)
theorem dX0_sea_9 : decode cX0_sea 9 = .ok (.aload_n 0, 1) := dk_42 (dk_at dksX0_sea_0 9 rfl rfl)
theorem dX0_sea_10 : decode cX0_sea 10 = .ok (.aload_n 0, 1) := dk_42 (dk_at dksX0_sea_0 10 rfl rfl)
theorem dX0_sea_11 : decode cX0_sea 11 = .ok (.invokevirtual 117, 3) := dk_182 0 117 (dk_at dksX0_sea_0 11 rfl rfl)
theorem dX0_sea_14 : decode cX0_sea 14 = .ok (.invokespecial 146, 3) := dk_183 0 146 (dk_at dksX0_sea_0 14 rfl rfl)
theorem dX0_sea_17 : decode cX0_sea 17 = .ok (.invokevirtual 147, 3) := dk_182 0 147 (dk_at dksX0_sea_0 17 rfl rfl)
theorem dX0_sea_20 : decode cX0_sea 20 = .ok (.putfield 34, 3) := dk_181 0 34 (dk_at dksX0_sea_0 20 rfl rfl)
theorem dX0_sea_23 : decode cX0_sea 23 = .ok (.goto 10, 3) := dk_167 0 10 (dk_at dksX0_sea_1 0 rfl rfl)
theorem dX0_sea_26 : decode cX0_sea 26 = .ok (.astore_n 1, 1) := dk_76 (dk_at dksX0_sea_1 3 rfl rfl)
theorem dX0_sea_27 : decode cX0_sea 27 = .ok (.aload_n 0, 1) := dk_42 (dk_at dksX0_sea_1 4 rfl rfl)
theorem dX0_sea_28 : decode cX0_sea 28 = .ok (.aload_n 1, 1) := dk_43 (dk_at dksX0_sea_1 5 rfl rfl)
theorem dX0_sea_29 : decode cX0_sea 29 = .ok (.invokevirtual 128, 3) := dk_182 0 128 (dk_at dksX0_sea_1 6 rfl rfl)
theorem dX0_sea_32 : decode cX0_sea 32 = .ok (.ireturn, 1) := dk_172 (dk_at dksX0_sea_1 9 rfl rfl)
theorem dX0_sea_33 : decode cX0_sea 33 = .ok (.aload_n 0, 1) := dk_42 (dk_at dksX0_sea_1 10 rfl rfl)
theorem dX0_sea_34 : decode cX0_sea 34 = .ok (.getfield 34, 3) := dk_180 0 34 (dk_at dksX0_sea_1 11 rfl rfl)
theorem dX0_sea_37 : decode cX0_sea 37 = .ok (.getfield 150, 3) := dk_180 0 150 (dk_at dksX0_sea_1 14 rfl rfl)
theorem dX0_sea_40 : decode cX0_sea 40 = .ok (.ireturn, 1) := dk_172 (dk_at dksX0_sea_1 17 rfl rfl)
abbrev cX0_plan : ByteArray := prog_1_method_11_code
def yX0_plan : MethodName := ⟨RX0, "plan", "()I"⟩
def dkwX0_plan_2 : List UInt8 := [44, 182, 0, 128, 172, 42, 180, 0, 41, 182, 0, 151, 4, 100, 172]
abbrev dktX0_plan_2 : List UInt8 := dkwX0_plan_2 ++ []
def dkwX0_plan_1 : List UInt8 := [180, 0, 41, 187, 0, 154, 89, 42, 27, 183, 0, 156, 182, 0, 157, 182, 0, 160, 87, 167, 0, 10, 77, 42]
abbrev dktX0_plan_1 : List UInt8 := dkwX0_plan_1 ++ dktX0_plan_2
def dkwX0_plan_0 : List UInt8 := [42, 182, 0, 117, 60, 42, 180, 0, 41, 182, 0, 151, 6, 160, 0, 6, 16, 253, 172, 42, 182, 0, 112, 42]
abbrev dktX0_plan_0 : List UInt8 := dkwX0_plan_0 ++ dktX0_plan_1
theorem dksX0_plan_0 : cX0_plan.data.toList.drop 0 = dktX0_plan_0 := by decide +kernel
theorem dksX0_plan_1 : cX0_plan.data.toList.drop 24 = dktX0_plan_1 := dk_seg dksX0_plan_0 24 rfl rfl
theorem dksX0_plan_2 : cX0_plan.data.toList.drop 48 = dktX0_plan_2 := dk_seg dksX0_plan_1 24 rfl rfl
theorem dX0_plan_0 : decode cX0_plan 0 = .ok (.aload_n 0, 1) := dk_42 (dk_at dksX0_plan_0 0 rfl rfl)
theorem dX0_plan_1 : decode cX0_plan 1 = .ok (.invokevirtual 117, 3) := dk_182 0 117 (dk_at dksX0_plan_0 1 rfl rfl)
theorem dX0_plan_4 : decode cX0_plan 4 = .ok (.istore_n 1, 1) := dk_60 (dk_at dksX0_plan_0 4 rfl rfl)
theorem dX0_plan_5 : decode cX0_plan 5 = .ok (.aload_n 0, 1) := dk_42 (dk_at dksX0_plan_0 5 rfl rfl)
theorem dX0_plan_6 : decode cX0_plan 6 = .ok (.getfield 41, 3) := dk_180 0 41 (dk_at dksX0_plan_0 6 rfl rfl)
theorem dX0_plan_9 : decode cX0_plan 9 = .ok (.invokevirtual 151, 3) := dk_182 0 151 (dk_at dksX0_plan_0 9 rfl rfl)
theorem dX0_plan_12 : decode cX0_plan 12 = .ok (.iconst 3, 1) := dk_6 (dk_at dksX0_plan_0 12 rfl rfl)
theorem dX0_plan_13 : decode cX0_plan 13 = .ok (.if_icmp .ne 6, 3) := dk_160 0 6 (dk_at dksX0_plan_0 13 rfl rfl)
theorem dX0_plan_16 : decode cX0_plan 16 = .ok (.bipush (-3), 2) := dk_16 253 (dk_at dksX0_plan_0 16 rfl rfl)
theorem dX0_plan_18 : decode cX0_plan 18 = .ok (.ireturn, 1) := dk_172 (dk_at dksX0_plan_0 18 rfl rfl)
theorem dX0_plan_19 : decode cX0_plan 19 = .ok (.aload_n 0, 1) := dk_42 (dk_at dksX0_plan_0 19 rfl rfl)
theorem dX0_plan_20 : decode cX0_plan 20 = .ok (.invokevirtual 112, 3) := dk_182 0 112 (dk_at dksX0_plan_0 20 rfl rfl)
theorem dX0_plan_23 : decode cX0_plan 23 = .ok (.aload_n 0, 1) := dk_42 (dk_at dksX0_plan_0 23 rfl rfl)
theorem dX0_plan_24 : decode cX0_plan 24 = .ok (.getfield 41, 3) := dk_180 0 41 (dk_at dksX0_plan_1 0 rfl rfl)
theorem dX0_plan_27 : decode cX0_plan 27 = .ok (.new 154, 3) := dk_187 0 154 (dk_at dksX0_plan_1 3 rfl rfl)
theorem dX0_plan_30 : decode cX0_plan 30 = .ok (.dup, 1) := dk_89 (dk_at dksX0_plan_1 6 rfl rfl)
theorem dX0_plan_31 : decode cX0_plan 31 = .ok (.aload_n 0, 1) := dk_42 (dk_at dksX0_plan_1 7 rfl rfl)
theorem dX0_plan_32 : decode cX0_plan 32 = .ok (.iload_n 1, 1) := dk_27 (dk_at dksX0_plan_1 8 rfl rfl)
theorem dX0_plan_33 : decode cX0_plan 33 = .ok (.invokespecial 156, 3) := dk_183 0 156 (dk_at dksX0_plan_1 9 rfl rfl)
theorem dX0_plan_36 : decode cX0_plan 36 = .ok (.invokevirtual 157, 3) := dk_182 0 157 (dk_at dksX0_plan_1 12 rfl rfl)
theorem dX0_plan_39 : decode cX0_plan 39 = .ok (.invokevirtual 160, 3) := dk_182 0 160 (dk_at dksX0_plan_1 15 rfl rfl)
theorem dX0_plan_42 : decode cX0_plan 42 = .ok (.pop, 1) := dk_87 (dk_at dksX0_plan_1 18 rfl rfl)
theorem dX0_plan_43 : decode cX0_plan 43 = .ok (.goto 10, 3) := dk_167 0 10 (dk_at dksX0_plan_1 19 rfl rfl)
theorem dX0_plan_46 : decode cX0_plan 46 = .ok (.astore_n 2, 1) := dk_77 (dk_at dksX0_plan_1 22 rfl rfl)
theorem dX0_plan_47 : decode cX0_plan 47 = .ok (.aload_n 0, 1) := dk_42 (dk_at dksX0_plan_1 23 rfl rfl)
theorem dX0_plan_48 : decode cX0_plan 48 = .ok (.aload_n 2, 1) := dk_44 (dk_at dksX0_plan_2 0 rfl rfl)
theorem dX0_plan_49 : decode cX0_plan 49 = .ok (.invokevirtual 128, 3) := dk_182 0 128 (dk_at dksX0_plan_2 1 rfl rfl)
theorem dX0_plan_52 : decode cX0_plan 52 = .ok (.ireturn, 1) := dk_172 (dk_at dksX0_plan_2 4 rfl rfl)
theorem dX0_plan_53 : decode cX0_plan 53 = .ok (.aload_n 0, 1) := dk_42 (dk_at dksX0_plan_2 5 rfl rfl)
theorem dX0_plan_54 : decode cX0_plan 54 = .ok (.getfield 41, 3) := dk_180 0 41 (dk_at dksX0_plan_2 6 rfl rfl)
theorem dX0_plan_57 : decode cX0_plan 57 = .ok (.invokevirtual 151, 3) := dk_182 0 151 (dk_at dksX0_plan_2 9 rfl rfl)
theorem dX0_plan_60 : decode cX0_plan 60 = .ok (.iconst 1, 1) := dk_4 (dk_at dksX0_plan_2 12 rfl rfl)
theorem dX0_plan_61 : decode cX0_plan 61 = .ok (.isub, 1) := dk_100 (dk_at dksX0_plan_2 13 rfl rfl)
theorem dX0_plan_62 : decode cX0_plan 62 = .ok (.ireturn, 1) := dk_172 (dk_at dksX0_plan_2 14 rfl rfl)
abbrev cX0_fault : ByteArray := prog_1_method_12_code
def yX0_fault : MethodName := ⟨RX0, "fault", "(I)I"⟩
def dkwX0_fault_1 : List UInt8 := [172]
abbrev dktX0_fault_1 : List UInt8 := dkwX0_fault_1 ++ []
def dkwX0_fault_0 : List UInt8 := [27, 154, 0, 10, 42, 180, 0, 103, 167, 0, 16, 27, 4, 160, 0, 10, 42, 180, 0, 20, 167, 0, 4, 2]
abbrev dktX0_fault_0 : List UInt8 := dkwX0_fault_0 ++ dktX0_fault_1
theorem dksX0_fault_0 : cX0_fault.data.toList.drop 0 = dktX0_fault_0 := by decide +kernel
theorem dksX0_fault_1 : cX0_fault.data.toList.drop 24 = dktX0_fault_1 := dk_seg dksX0_fault_0 24 rfl rfl
theorem dX0_fault_0 : decode cX0_fault 0 = .ok (.iload_n 1, 1) := dk_27 (dk_at dksX0_fault_0 0 rfl rfl)
theorem dX0_fault_1 : decode cX0_fault 1 = .ok (.ifCond .ne 10, 3) := dk_154 0 10 (dk_at dksX0_fault_0 1 rfl rfl)
theorem dX0_fault_4 : decode cX0_fault 4 = .ok (.aload_n 0, 1) := dk_42 (dk_at dksX0_fault_0 4 rfl rfl)
theorem dX0_fault_5 : decode cX0_fault 5 = .ok (.getfield 103, 3) := dk_180 0 103 (dk_at dksX0_fault_0 5 rfl rfl)
theorem dX0_fault_8 : decode cX0_fault 8 = .ok (.goto 16, 3) := dk_167 0 16 (dk_at dksX0_fault_0 8 rfl rfl)
theorem dX0_fault_11 : decode cX0_fault 11 = .ok (.iload_n 1, 1) := dk_27 (dk_at dksX0_fault_0 11 rfl rfl)
theorem dX0_fault_12 : decode cX0_fault 12 = .ok (.iconst 1, 1) := dk_4 (dk_at dksX0_fault_0 12 rfl rfl)
theorem dX0_fault_13 : decode cX0_fault 13 = .ok (.if_icmp .ne 10, 3) := dk_160 0 10 (dk_at dksX0_fault_0 13 rfl rfl)
theorem dX0_fault_16 : decode cX0_fault 16 = .ok (.aload_n 0, 1) := dk_42 (dk_at dksX0_fault_0 16 rfl rfl)
theorem dX0_fault_17 : decode cX0_fault 17 = .ok (.getfield 20, 3) := dk_180 0 20 (dk_at dksX0_fault_0 17 rfl rfl)
theorem dX0_fault_20 : decode cX0_fault 20 = .ok (.goto 4, 3) := dk_167 0 4 (dk_at dksX0_fault_0 20 rfl rfl)
theorem dX0_fault_23 : decode cX0_fault 23 = .ok (.iconst (-1), 1) := dk_2 (dk_at dksX0_fault_0 23 rfl rfl)
theorem dX0_fault_24 : decode cX0_fault 24 = .ok (.ireturn, 1) := dk_172 (dk_at dksX0_fault_1 0 rfl rfl)
abbrev cX0_told : ByteArray := prog_1_method_16_code
def yX0_told : MethodName := ⟨RX0, "told", "(I)I"⟩
def dkwX0_told_7 : List UInt8 := [180, 0, 41, 182, 0, 151, 172, 42, 180, 0, 50, 180, 0, 204, 172, 2, 172]
abbrev dktX0_told_7 : List UInt8 := dkwX0_told_7 ++ []
def dkwX0_told_6 : List UInt8 := [42, 180, 0, 34, 180, 0, 198, 27, 16, 19, 100, 46, 172, 42, 180, 0, 34, 180, 0, 201, 172, 42]
abbrev dktX0_told_6 : List UInt8 := dkwX0_told_6 ++ dktX0_told_7
def dkwX0_told_5 : List UInt8 := [42, 180, 0, 34, 180, 0, 192, 182, 0, 151, 172, 42, 180, 0, 34, 180, 0, 195, 27, 16, 17, 100, 46, 172]
abbrev dktX0_told_5 : List UInt8 := dkwX0_told_5 ++ dktX0_told_6
def dkwX0_told_4 : List UInt8 := [42, 180, 0, 27, 180, 0, 186, 172, 42, 180, 0, 27, 180, 0, 189, 172, 42, 180, 0, 27, 180, 0, 168, 172]
abbrev dktX0_told_4 : List UInt8 := dkwX0_told_4 ++ dktX0_told_5
def dkwX0_told_3 : List UInt8 := [42, 180, 0, 27, 180, 0, 171, 172, 42, 180, 0, 27, 180, 0, 174, 172, 42, 180, 0, 27, 180, 0, 183, 172]
abbrev dktX0_told_3 : List UInt8 := dkwX0_told_3 ++ dktX0_told_4
def dkwX0_told_2 : List UInt8 := [170, 0, 0, 0, 218, 0, 0, 0, 0, 0, 0, 0, 23, 0, 0, 0, 109, 0, 0, 0, 117, 0, 0, 0, 218, 0, 0, 0, 218, 0, 0, 0, 218, 0, 0, 0, 218, 0, 0, 0, 218, 0, 0, 0, 218, 0, 0, 0, 125, 0, 0, 0, 133, 0, 0, 0, 141, 0, 0, 0, 149, 0, 0, 0, 157, 0, 0, 0, 218, 0, 0, 0, 218, 0, 0, 0, 218, 0, 0, 0, 218, 0, 0, 0, 168, 0, 0, 0, 168, 0, 0, 0, 181, 0, 0, 0, 181, 0, 0, 0, 194, 0, 0, 0, 202, 0, 0, 0, 210]
abbrev dktX0_told_2 : List UInt8 := dkwX0_told_2 ++ dktX0_told_3
def dkwX0_told_1 : List UInt8 := [16, 13, 16, 16, 184, 0, 164, 153, 0, 16, 42, 180, 0, 34, 180, 0, 180, 27, 16, 13, 100, 46, 172, 27]
abbrev dktX0_told_1 : List UInt8 := dkwX0_told_1 ++ dktX0_told_2
def dkwX0_told_0 : List UInt8 := [27, 5, 16, 7, 184, 0, 164, 153, 0, 15, 42, 180, 0, 27, 180, 0, 177, 27, 5, 100, 46, 172, 27]
abbrev dktX0_told_0 : List UInt8 := dkwX0_told_0 ++ dktX0_told_1
theorem dksX0_told_0 : cX0_told.data.toList.drop 0 = dktX0_told_0 := by decide +kernel
theorem dksX0_told_1 : cX0_told.data.toList.drop 23 = dktX0_told_1 := dk_seg dksX0_told_0 23 rfl rfl
theorem dksX0_told_2 : cX0_told.data.toList.drop 47 = dktX0_told_2 := dk_seg dksX0_told_1 24 rfl rfl
theorem dksX0_told_3 : cX0_told.data.toList.drop 156 = dktX0_told_3 := dk_seg dksX0_told_2 109 rfl rfl
theorem dksX0_told_4 : cX0_told.data.toList.drop 180 = dktX0_told_4 := dk_seg dksX0_told_3 24 rfl rfl
theorem dksX0_told_5 : cX0_told.data.toList.drop 204 = dktX0_told_5 := dk_seg dksX0_told_4 24 rfl rfl
theorem dksX0_told_6 : cX0_told.data.toList.drop 228 = dktX0_told_6 := dk_seg dksX0_told_5 24 rfl rfl
theorem dksX0_told_7 : cX0_told.data.toList.drop 250 = dktX0_told_7 := dk_seg dksX0_told_6 22 rfl rfl
theorem dX0_told_0 : decode cX0_told 0 = .ok (.iload_n 1, 1) := dk_27 (dk_at dksX0_told_0 0 rfl rfl)
theorem dX0_told_1 : decode cX0_told 1 = .ok (.iconst 2, 1) := dk_5 (dk_at dksX0_told_0 1 rfl rfl)
theorem dX0_told_2 : decode cX0_told 2 = .ok (.bipush 7, 2) := dk_16 7 (dk_at dksX0_told_0 2 rfl rfl)
theorem dX0_told_4 : decode cX0_told 4 = .ok (.invokestatic 164, 3) := dk_184 0 164 (dk_at dksX0_told_0 4 rfl rfl)
theorem dX0_told_7 : decode cX0_told 7 = .ok (.ifCond .eq 15, 3) := dk_153 0 15 (dk_at dksX0_told_0 7 rfl rfl)
theorem dX0_told_10 : decode cX0_told 10 = .ok (.aload_n 0, 1) := dk_42 (dk_at dksX0_told_0 10 rfl rfl)
theorem dX0_told_11 : decode cX0_told 11 = .ok (.getfield 27, 3) := dk_180 0 27 (dk_at dksX0_told_0 11 rfl rfl)
theorem dX0_told_14 : decode cX0_told 14 = .ok (.getfield 177, 3) := dk_180 0 177 (dk_at dksX0_told_0 14 rfl rfl)
theorem dX0_told_17 : decode cX0_told 17 = .ok (.iload_n 1, 1) := dk_27 (dk_at dksX0_told_0 17 rfl rfl)
theorem dX0_told_18 : decode cX0_told 18 = .ok (.iconst 2, 1) := dk_5 (dk_at dksX0_told_0 18 rfl rfl)
theorem dX0_told_19 : decode cX0_told 19 = .ok (.isub, 1) := dk_100 (dk_at dksX0_told_0 19 rfl rfl)
theorem dX0_told_20 : decode cX0_told 20 = .ok (.iaload, 1) := dk_46 (dk_at dksX0_told_0 20 rfl rfl)
theorem dX0_told_21 : decode cX0_told 21 = .ok (.ireturn, 1) := dk_172 (dk_at dksX0_told_0 21 rfl rfl)
theorem dX0_told_22 : decode cX0_told 22 = .ok (.iload_n 1, 1) := dk_27 (dk_at dksX0_told_0 22 rfl rfl)
theorem dX0_told_23 : decode cX0_told 23 = .ok (.bipush 13, 2) := dk_16 13 (dk_at dksX0_told_1 0 rfl rfl)
theorem dX0_told_25 : decode cX0_told 25 = .ok (.bipush 16, 2) := dk_16 16 (dk_at dksX0_told_1 2 rfl rfl)
theorem dX0_told_27 : decode cX0_told 27 = .ok (.invokestatic 164, 3) := dk_184 0 164 (dk_at dksX0_told_1 4 rfl rfl)
theorem dX0_told_30 : decode cX0_told 30 = .ok (.ifCond .eq 16, 3) := dk_153 0 16 (dk_at dksX0_told_1 7 rfl rfl)
theorem dX0_told_33 : decode cX0_told 33 = .ok (.aload_n 0, 1) := dk_42 (dk_at dksX0_told_1 10 rfl rfl)
theorem dX0_told_34 : decode cX0_told 34 = .ok (.getfield 34, 3) := dk_180 0 34 (dk_at dksX0_told_1 11 rfl rfl)
theorem dX0_told_37 : decode cX0_told 37 = .ok (.getfield 180, 3) := dk_180 0 180 (dk_at dksX0_told_1 14 rfl rfl)
theorem dX0_told_40 : decode cX0_told 40 = .ok (.iload_n 1, 1) := dk_27 (dk_at dksX0_told_1 17 rfl rfl)
theorem dX0_told_41 : decode cX0_told 41 = .ok (.bipush 13, 2) := dk_16 13 (dk_at dksX0_told_1 18 rfl rfl)
theorem dX0_told_43 : decode cX0_told 43 = .ok (.isub, 1) := dk_100 (dk_at dksX0_told_1 20 rfl rfl)
theorem dX0_told_44 : decode cX0_told 44 = .ok (.iaload, 1) := dk_46 (dk_at dksX0_told_1 21 rfl rfl)
theorem dX0_told_45 : decode cX0_told 45 = .ok (.ireturn, 1) := dk_172 (dk_at dksX0_told_1 22 rfl rfl)
theorem dX0_told_46 : decode cX0_told 46 = .ok (.iload_n 1, 1) := dk_27 (dk_at dksX0_told_1 23 rfl rfl)
theorem dX0_told_47 : decode cX0_told 47 = .ok (.tableswitch 218 0 23 #[109, 117, 218, 218, 218, 218, 218, 218, 125, 133, 141, 149, 157, 218, 218, 218, 218, 168, 168, 181, 181, 194, 202, 210], 109) := by decide +kernel
theorem dX0_told_156 : decode cX0_told 156 = .ok (.aload_n 0, 1) := dk_42 (dk_at dksX0_told_3 0 rfl rfl)
theorem dX0_told_157 : decode cX0_told 157 = .ok (.getfield 27, 3) := dk_180 0 27 (dk_at dksX0_told_3 1 rfl rfl)
theorem dX0_told_160 : decode cX0_told 160 = .ok (.getfield 171, 3) := dk_180 0 171 (dk_at dksX0_told_3 4 rfl rfl)
theorem dX0_told_163 : decode cX0_told 163 = .ok (.ireturn, 1) := dk_172 (dk_at dksX0_told_3 7 rfl rfl)
theorem dX0_told_164 : decode cX0_told 164 = .ok (.aload_n 0, 1) := dk_42 (dk_at dksX0_told_3 8 rfl rfl)
theorem dX0_told_165 : decode cX0_told 165 = .ok (.getfield 27, 3) := dk_180 0 27 (dk_at dksX0_told_3 9 rfl rfl)
theorem dX0_told_168 : decode cX0_told 168 = .ok (.getfield 174, 3) := dk_180 0 174 (dk_at dksX0_told_3 12 rfl rfl)
theorem dX0_told_171 : decode cX0_told 171 = .ok (.ireturn, 1) := dk_172 (dk_at dksX0_told_3 15 rfl rfl)
theorem dX0_told_172 : decode cX0_told 172 = .ok (.aload_n 0, 1) := dk_42 (dk_at dksX0_told_3 16 rfl rfl)
theorem dX0_told_173 : decode cX0_told 173 = .ok (.getfield 27, 3) := dk_180 0 27 (dk_at dksX0_told_3 17 rfl rfl)
theorem dX0_told_176 : decode cX0_told 176 = .ok (.getfield 183, 3) := dk_180 0 183 (dk_at dksX0_told_3 20 rfl rfl)
theorem dX0_told_179 : decode cX0_told 179 = .ok (.ireturn, 1) := dk_172 (dk_at dksX0_told_3 23 rfl rfl)
theorem dX0_told_180 : decode cX0_told 180 = .ok (.aload_n 0, 1) := dk_42 (dk_at dksX0_told_4 0 rfl rfl)
theorem dX0_told_181 : decode cX0_told 181 = .ok (.getfield 27, 3) := dk_180 0 27 (dk_at dksX0_told_4 1 rfl rfl)
theorem dX0_told_184 : decode cX0_told 184 = .ok (.getfield 186, 3) := dk_180 0 186 (dk_at dksX0_told_4 4 rfl rfl)
theorem dX0_told_187 : decode cX0_told 187 = .ok (.ireturn, 1) := dk_172 (dk_at dksX0_told_4 7 rfl rfl)
theorem dX0_told_188 : decode cX0_told 188 = .ok (.aload_n 0, 1) := dk_42 (dk_at dksX0_told_4 8 rfl rfl)
theorem dX0_told_189 : decode cX0_told 189 = .ok (.getfield 27, 3) := dk_180 0 27 (dk_at dksX0_told_4 9 rfl rfl)
theorem dX0_told_192 : decode cX0_told 192 = .ok (.getfield 189, 3) := dk_180 0 189 (dk_at dksX0_told_4 12 rfl rfl)
theorem dX0_told_195 : decode cX0_told 195 = .ok (.ireturn, 1) := dk_172 (dk_at dksX0_told_4 15 rfl rfl)
theorem dX0_told_196 : decode cX0_told 196 = .ok (.aload_n 0, 1) := dk_42 (dk_at dksX0_told_4 16 rfl rfl)
theorem dX0_told_197 : decode cX0_told 197 = .ok (.getfield 27, 3) := dk_180 0 27 (dk_at dksX0_told_4 17 rfl rfl)
theorem dX0_told_200 : decode cX0_told 200 = .ok (.getfield 168, 3) := dk_180 0 168 (dk_at dksX0_told_4 20 rfl rfl)
theorem dX0_told_203 : decode cX0_told 203 = .ok (.ireturn, 1) := dk_172 (dk_at dksX0_told_4 23 rfl rfl)
theorem dX0_told_204 : decode cX0_told 204 = .ok (.aload_n 0, 1) := dk_42 (dk_at dksX0_told_5 0 rfl rfl)
theorem dX0_told_205 : decode cX0_told 205 = .ok (.getfield 34, 3) := dk_180 0 34 (dk_at dksX0_told_5 1 rfl rfl)
theorem dX0_told_208 : decode cX0_told 208 = .ok (.getfield 192, 3) := dk_180 0 192 (dk_at dksX0_told_5 4 rfl rfl)
theorem dX0_told_211 : decode cX0_told 211 = .ok (.invokevirtual 151, 3) := dk_182 0 151 (dk_at dksX0_told_5 7 rfl rfl)
theorem dX0_told_214 : decode cX0_told 214 = .ok (.ireturn, 1) := dk_172 (dk_at dksX0_told_5 10 rfl rfl)
theorem dX0_told_215 : decode cX0_told 215 = .ok (.aload_n 0, 1) := dk_42 (dk_at dksX0_told_5 11 rfl rfl)
theorem dX0_told_216 : decode cX0_told 216 = .ok (.getfield 34, 3) := dk_180 0 34 (dk_at dksX0_told_5 12 rfl rfl)
theorem dX0_told_219 : decode cX0_told 219 = .ok (.getfield 195, 3) := dk_180 0 195 (dk_at dksX0_told_5 15 rfl rfl)
theorem dX0_told_222 : decode cX0_told 222 = .ok (.iload_n 1, 1) := dk_27 (dk_at dksX0_told_5 18 rfl rfl)
theorem dX0_told_223 : decode cX0_told 223 = .ok (.bipush 17, 2) := dk_16 17 (dk_at dksX0_told_5 19 rfl rfl)
theorem dX0_told_225 : decode cX0_told 225 = .ok (.isub, 1) := dk_100 (dk_at dksX0_told_5 21 rfl rfl)
theorem dX0_told_226 : decode cX0_told 226 = .ok (.iaload, 1) := dk_46 (dk_at dksX0_told_5 22 rfl rfl)
theorem dX0_told_227 : decode cX0_told 227 = .ok (.ireturn, 1) := dk_172 (dk_at dksX0_told_5 23 rfl rfl)
theorem dX0_told_228 : decode cX0_told 228 = .ok (.aload_n 0, 1) := dk_42 (dk_at dksX0_told_6 0 rfl rfl)
theorem dX0_told_229 : decode cX0_told 229 = .ok (.getfield 34, 3) := dk_180 0 34 (dk_at dksX0_told_6 1 rfl rfl)
theorem dX0_told_232 : decode cX0_told 232 = .ok (.getfield 198, 3) := dk_180 0 198 (dk_at dksX0_told_6 4 rfl rfl)
theorem dX0_told_235 : decode cX0_told 235 = .ok (.iload_n 1, 1) := dk_27 (dk_at dksX0_told_6 7 rfl rfl)
theorem dX0_told_236 : decode cX0_told 236 = .ok (.bipush 19, 2) := dk_16 19 (dk_at dksX0_told_6 8 rfl rfl)
theorem dX0_told_238 : decode cX0_told 238 = .ok (.isub, 1) := dk_100 (dk_at dksX0_told_6 10 rfl rfl)
theorem dX0_told_239 : decode cX0_told 239 = .ok (.iaload, 1) := dk_46 (dk_at dksX0_told_6 11 rfl rfl)
theorem dX0_told_240 : decode cX0_told 240 = .ok (.ireturn, 1) := dk_172 (dk_at dksX0_told_6 12 rfl rfl)
theorem dX0_told_241 : decode cX0_told 241 = .ok (.aload_n 0, 1) := dk_42 (dk_at dksX0_told_6 13 rfl rfl)
theorem dX0_told_242 : decode cX0_told 242 = .ok (.getfield 34, 3) := dk_180 0 34 (dk_at dksX0_told_6 14 rfl rfl)
theorem dX0_told_245 : decode cX0_told 245 = .ok (.getfield 201, 3) := dk_180 0 201 (dk_at dksX0_told_6 17 rfl rfl)
theorem dX0_told_248 : decode cX0_told 248 = .ok (.ireturn, 1) := dk_172 (dk_at dksX0_told_6 20 rfl rfl)
theorem dX0_told_249 : decode cX0_told 249 = .ok (.aload_n 0, 1) := dk_42 (dk_at dksX0_told_6 21 rfl rfl)
theorem dX0_told_250 : decode cX0_told 250 = .ok (.getfield 41, 3) := dk_180 0 41 (dk_at dksX0_told_7 0 rfl rfl)
theorem dX0_told_253 : decode cX0_told 253 = .ok (.invokevirtual 151, 3) := dk_182 0 151 (dk_at dksX0_told_7 3 rfl rfl)
theorem dX0_told_256 : decode cX0_told 256 = .ok (.ireturn, 1) := dk_172 (dk_at dksX0_told_7 6 rfl rfl)
theorem dX0_told_257 : decode cX0_told 257 = .ok (.aload_n 0, 1) := dk_42 (dk_at dksX0_told_7 7 rfl rfl)
theorem dX0_told_258 : decode cX0_told 258 = .ok (.getfield 50, 3) := dk_180 0 50 (dk_at dksX0_told_7 8 rfl rfl)
theorem dX0_told_261 : decode cX0_told 261 = .ok (.getfield 204, 3) := dk_180 0 204 (dk_at dksX0_told_7 11 rfl rfl)
theorem dX0_told_264 : decode cX0_told 264 = .ok (.ireturn, 1) := dk_172 (dk_at dksX0_told_7 14 rfl rfl)
theorem dX0_told_265 : decode cX0_told 265 = .ok (.iconst (-1), 1) := dk_2 (dk_at dksX0_told_7 15 rfl rfl)
theorem dX0_told_266 : decode cX0_told 266 = .ok (.ireturn, 1) := dk_172 (dk_at dksX0_told_7 16 rfl rfl)
abbrev cX0_wave : ByteArray := prog_1_method_17_code
def yX0_wave : MethodName := ⟨RX0, "wave", "(II)I"⟩
def dkwX0_wave_3 : List UInt8 := [180, 0, 218, 172]
abbrev dktX0_wave_3 : List UInt8 := dkwX0_wave_3 ++ []
def dkwX0_wave_2 : List UInt8 := [28, 154, 0, 10, 45, 180, 0, 213, 167, 0, 19, 28, 4, 160, 0, 10, 45, 180, 0, 216, 167, 0, 7, 45]
abbrev dktX0_wave_2 : List UInt8 := dkwX0_wave_2 ++ dktX0_wave_3
def dkwX0_wave_1 : List UInt8 := [184, 0, 164, 154, 0, 6, 16, 254, 172, 42, 180, 0, 34, 180, 0, 192, 27, 182, 0, 207, 192, 0, 211, 78]
abbrev dktX0_wave_1 : List UInt8 := dkwX0_wave_1 ++ dktX0_wave_2
def dkwX0_wave_0 : List UInt8 := [27, 3, 42, 180, 0, 34, 180, 0, 192, 182, 0, 151, 4, 100, 184, 0, 164, 153, 0, 12, 28, 3, 5]
abbrev dktX0_wave_0 : List UInt8 := dkwX0_wave_0 ++ dktX0_wave_1
theorem dksX0_wave_0 : cX0_wave.data.toList.drop 0 = dktX0_wave_0 := by decide +kernel
theorem dksX0_wave_1 : cX0_wave.data.toList.drop 23 = dktX0_wave_1 := dk_seg dksX0_wave_0 23 rfl rfl
theorem dksX0_wave_2 : cX0_wave.data.toList.drop 47 = dktX0_wave_2 := dk_seg dksX0_wave_1 24 rfl rfl
theorem dksX0_wave_3 : cX0_wave.data.toList.drop 71 = dktX0_wave_3 := dk_seg dksX0_wave_2 24 rfl rfl
theorem dX0_wave_0 : decode cX0_wave 0 = .ok (.iload_n 1, 1) := dk_27 (dk_at dksX0_wave_0 0 rfl rfl)
theorem dX0_wave_1 : decode cX0_wave 1 = .ok (.iconst 0, 1) := dk_3 (dk_at dksX0_wave_0 1 rfl rfl)
theorem dX0_wave_2 : decode cX0_wave 2 = .ok (.aload_n 0, 1) := dk_42 (dk_at dksX0_wave_0 2 rfl rfl)
theorem dX0_wave_3 : decode cX0_wave 3 = .ok (.getfield 34, 3) := dk_180 0 34 (dk_at dksX0_wave_0 3 rfl rfl)
theorem dX0_wave_6 : decode cX0_wave 6 = .ok (.getfield 192, 3) := dk_180 0 192 (dk_at dksX0_wave_0 6 rfl rfl)
theorem dX0_wave_9 : decode cX0_wave 9 = .ok (.invokevirtual 151, 3) := dk_182 0 151 (dk_at dksX0_wave_0 9 rfl rfl)
theorem dX0_wave_12 : decode cX0_wave 12 = .ok (.iconst 1, 1) := dk_4 (dk_at dksX0_wave_0 12 rfl rfl)
theorem dX0_wave_13 : decode cX0_wave 13 = .ok (.isub, 1) := dk_100 (dk_at dksX0_wave_0 13 rfl rfl)
theorem dX0_wave_14 : decode cX0_wave 14 = .ok (.invokestatic 164, 3) := dk_184 0 164 (dk_at dksX0_wave_0 14 rfl rfl)
theorem dX0_wave_17 : decode cX0_wave 17 = .ok (.ifCond .eq 12, 3) := dk_153 0 12 (dk_at dksX0_wave_0 17 rfl rfl)
theorem dX0_wave_20 : decode cX0_wave 20 = .ok (.iload_n 2, 1) := dk_28 (dk_at dksX0_wave_0 20 rfl rfl)
theorem dX0_wave_21 : decode cX0_wave 21 = .ok (.iconst 0, 1) := dk_3 (dk_at dksX0_wave_0 21 rfl rfl)
theorem dX0_wave_22 : decode cX0_wave 22 = .ok (.iconst 2, 1) := dk_5 (dk_at dksX0_wave_0 22 rfl rfl)
theorem dX0_wave_23 : decode cX0_wave 23 = .ok (.invokestatic 164, 3) := dk_184 0 164 (dk_at dksX0_wave_1 0 rfl rfl)
theorem dX0_wave_26 : decode cX0_wave 26 = .ok (.ifCond .ne 6, 3) := dk_154 0 6 (dk_at dksX0_wave_1 3 rfl rfl)
theorem dX0_wave_29 : decode cX0_wave 29 = .ok (.bipush (-2), 2) := dk_16 254 (dk_at dksX0_wave_1 6 rfl rfl)
theorem dX0_wave_31 : decode cX0_wave 31 = .ok (.ireturn, 1) := dk_172 (dk_at dksX0_wave_1 8 rfl rfl)
theorem dX0_wave_32 : decode cX0_wave 32 = .ok (.aload_n 0, 1) := dk_42 (dk_at dksX0_wave_1 9 rfl rfl)
theorem dX0_wave_33 : decode cX0_wave 33 = .ok (.getfield 34, 3) := dk_180 0 34 (dk_at dksX0_wave_1 10 rfl rfl)
theorem dX0_wave_36 : decode cX0_wave 36 = .ok (.getfield 192, 3) := dk_180 0 192 (dk_at dksX0_wave_1 13 rfl rfl)
theorem dX0_wave_39 : decode cX0_wave 39 = .ok (.iload_n 1, 1) := dk_27 (dk_at dksX0_wave_1 16 rfl rfl)
theorem dX0_wave_40 : decode cX0_wave 40 = .ok (.invokevirtual 207, 3) := dk_182 0 207 (dk_at dksX0_wave_1 17 rfl rfl)
theorem dX0_wave_43 : decode cX0_wave 43 = .ok (.checkcast 211, 3) := dk_192 0 211 (dk_at dksX0_wave_1 20 rfl rfl)
theorem dX0_wave_46 : decode cX0_wave 46 = .ok (.astore_n 3, 1) := dk_78 (dk_at dksX0_wave_1 23 rfl rfl)
theorem dX0_wave_47 : decode cX0_wave 47 = .ok (.iload_n 2, 1) := dk_28 (dk_at dksX0_wave_2 0 rfl rfl)
theorem dX0_wave_48 : decode cX0_wave 48 = .ok (.ifCond .ne 10, 3) := dk_154 0 10 (dk_at dksX0_wave_2 1 rfl rfl)
theorem dX0_wave_51 : decode cX0_wave 51 = .ok (.aload_n 3, 1) := dk_45 (dk_at dksX0_wave_2 4 rfl rfl)
theorem dX0_wave_52 : decode cX0_wave 52 = .ok (.getfield 213, 3) := dk_180 0 213 (dk_at dksX0_wave_2 5 rfl rfl)
theorem dX0_wave_55 : decode cX0_wave 55 = .ok (.goto 19, 3) := dk_167 0 19 (dk_at dksX0_wave_2 8 rfl rfl)
theorem dX0_wave_58 : decode cX0_wave 58 = .ok (.iload_n 2, 1) := dk_28 (dk_at dksX0_wave_2 11 rfl rfl)
theorem dX0_wave_59 : decode cX0_wave 59 = .ok (.iconst 1, 1) := dk_4 (dk_at dksX0_wave_2 12 rfl rfl)
theorem dX0_wave_60 : decode cX0_wave 60 = .ok (.if_icmp .ne 10, 3) := dk_160 0 10 (dk_at dksX0_wave_2 13 rfl rfl)
theorem dX0_wave_63 : decode cX0_wave 63 = .ok (.aload_n 3, 1) := dk_45 (dk_at dksX0_wave_2 16 rfl rfl)
theorem dX0_wave_64 : decode cX0_wave 64 = .ok (.getfield 216, 3) := dk_180 0 216 (dk_at dksX0_wave_2 17 rfl rfl)
theorem dX0_wave_67 : decode cX0_wave 67 = .ok (.goto 7, 3) := dk_167 0 7 (dk_at dksX0_wave_2 20 rfl rfl)
theorem dX0_wave_70 : decode cX0_wave 70 = .ok (.aload_n 3, 1) := dk_45 (dk_at dksX0_wave_2 23 rfl rfl)
theorem dX0_wave_71 : decode cX0_wave 71 = .ok (.getfield 218, 3) := dk_180 0 218 (dk_at dksX0_wave_3 0 rfl rfl)
theorem dX0_wave_74 : decode cX0_wave 74 = .ok (.ireturn, 1) := dk_172 (dk_at dksX0_wave_3 3 rfl rfl)
abbrev cX0_act : ByteArray := prog_1_method_18_code
def yX0_act : MethodName := ⟨RX0, "act", "(IIII)I"⟩
def dkwX0_act_6 : List UInt8 := [25, 7, 180, 0, 237, 167, 0, 8, 25, 7, 180, 0, 240, 172]
abbrev dktX0_act_6 : List UInt8 := dkwX0_act_6 ++ []
def dkwX0_act_5 : List UInt8 := [192, 0, 234, 58, 7, 21, 4, 154, 0, 11, 25, 7, 180, 0, 236, 167, 0, 22, 21, 4, 4, 160, 0, 11]
abbrev dktX0_act_5 : List UInt8 := dkwX0_act_5 ++ dktX0_act_6
def dkwX0_act_4 : List UInt8 := [153, 0, 13, 21, 4, 3, 5, 184, 0, 164, 154, 0, 6, 16, 254, 172, 25, 6, 29, 182, 0, 207]
abbrev dktX0_act_4 : List UInt8 := dkwX0_act_4 ++ dktX0_act_5
def dkwX0_act_3 : List UInt8 := [29, 2, 160, 0, 9, 25, 6, 182, 0, 151, 172, 29, 3, 25, 6, 182, 0, 151, 4, 100, 184, 0, 164]
abbrev dktX0_act_3 : List UInt8 := dkwX0_act_3 ++ dktX0_act_4
def dkwX0_act_2 : List UInt8 := [100, 184, 0, 164, 154, 0, 6, 16, 254, 172, 25, 5, 28, 182, 0, 207, 192, 0, 229, 180, 0, 231, 58, 6]
abbrev dktX0_act_2 : List UInt8 := dkwX0_act_2 ++ dktX0_act_3
def dkwX0_act_1 : List UInt8 := [180, 0, 226, 58, 5, 28, 2, 160, 0, 9, 25, 5, 182, 0, 151, 172, 28, 3, 25, 5, 182, 0, 151, 4]
abbrev dktX0_act_1 : List UInt8 := dkwX0_act_1 ++ dktX0_act_2
def dkwX0_act_0 : List UInt8 := [42, 27, 182, 0, 220, 154, 0, 6, 16, 254, 172, 42, 180, 0, 41, 27, 182, 0, 207, 192, 0, 224]
abbrev dktX0_act_0 : List UInt8 := dkwX0_act_0 ++ dktX0_act_1
theorem dksX0_act_0 : cX0_act.data.toList.drop 0 = dktX0_act_0 := by decide +kernel
theorem dksX0_act_1 : cX0_act.data.toList.drop 22 = dktX0_act_1 := dk_seg dksX0_act_0 22 rfl rfl
theorem dksX0_act_2 : cX0_act.data.toList.drop 46 = dktX0_act_2 := dk_seg dksX0_act_1 24 rfl rfl
theorem dksX0_act_3 : cX0_act.data.toList.drop 70 = dktX0_act_3 := dk_seg dksX0_act_2 24 rfl rfl
theorem dksX0_act_4 : cX0_act.data.toList.drop 93 = dktX0_act_4 := dk_seg dksX0_act_3 23 rfl rfl
theorem dksX0_act_5 : cX0_act.data.toList.drop 115 = dktX0_act_5 := dk_seg dksX0_act_4 22 rfl rfl
theorem dksX0_act_6 : cX0_act.data.toList.drop 139 = dktX0_act_6 := dk_seg dksX0_act_5 24 rfl rfl
theorem dX0_act_0 : decode cX0_act 0 = .ok (.aload_n 0, 1) := dk_42 (dk_at dksX0_act_0 0 rfl rfl)
theorem dX0_act_1 : decode cX0_act 1 = .ok (.iload_n 1, 1) := dk_27 (dk_at dksX0_act_0 1 rfl rfl)
theorem dX0_act_2 : decode cX0_act 2 = .ok (.invokevirtual 220, 3) := dk_182 0 220 (dk_at dksX0_act_0 2 rfl rfl)
theorem dX0_act_5 : decode cX0_act 5 = .ok (.ifCond .ne 6, 3) := dk_154 0 6 (dk_at dksX0_act_0 5 rfl rfl)
theorem dX0_act_8 : decode cX0_act 8 = .ok (.bipush (-2), 2) := dk_16 254 (dk_at dksX0_act_0 8 rfl rfl)
theorem dX0_act_10 : decode cX0_act 10 = .ok (.ireturn, 1) := dk_172 (dk_at dksX0_act_0 10 rfl rfl)
theorem dX0_act_11 : decode cX0_act 11 = .ok (.aload_n 0, 1) := dk_42 (dk_at dksX0_act_0 11 rfl rfl)
theorem dX0_act_12 : decode cX0_act 12 = .ok (.getfield 41, 3) := dk_180 0 41 (dk_at dksX0_act_0 12 rfl rfl)
theorem dX0_act_15 : decode cX0_act 15 = .ok (.iload_n 1, 1) := dk_27 (dk_at dksX0_act_0 15 rfl rfl)
theorem dX0_act_16 : decode cX0_act 16 = .ok (.invokevirtual 207, 3) := dk_182 0 207 (dk_at dksX0_act_0 16 rfl rfl)
theorem dX0_act_19 : decode cX0_act 19 = .ok (.checkcast 224, 3) := dk_192 0 224 (dk_at dksX0_act_0 19 rfl rfl)
theorem dX0_act_22 : decode cX0_act 22 = .ok (.getfield 226, 3) := dk_180 0 226 (dk_at dksX0_act_1 0 rfl rfl)
theorem dX0_act_25 : decode cX0_act 25 = .ok (.astore 5, 2) := dk_58 5 (dk_at dksX0_act_1 3 rfl rfl)
theorem dX0_act_27 : decode cX0_act 27 = .ok (.iload_n 2, 1) := dk_28 (dk_at dksX0_act_1 5 rfl rfl)
theorem dX0_act_28 : decode cX0_act 28 = .ok (.iconst (-1), 1) := dk_2 (dk_at dksX0_act_1 6 rfl rfl)
theorem dX0_act_29 : decode cX0_act 29 = .ok (.if_icmp .ne 9, 3) := dk_160 0 9 (dk_at dksX0_act_1 7 rfl rfl)
theorem dX0_act_32 : decode cX0_act 32 = .ok (.aload 5, 2) := dk_25 5 (dk_at dksX0_act_1 10 rfl rfl)
theorem dX0_act_34 : decode cX0_act 34 = .ok (.invokevirtual 151, 3) := dk_182 0 151 (dk_at dksX0_act_1 12 rfl rfl)
theorem dX0_act_37 : decode cX0_act 37 = .ok (.ireturn, 1) := dk_172 (dk_at dksX0_act_1 15 rfl rfl)
theorem dX0_act_38 : decode cX0_act 38 = .ok (.iload_n 2, 1) := dk_28 (dk_at dksX0_act_1 16 rfl rfl)
theorem dX0_act_39 : decode cX0_act 39 = .ok (.iconst 0, 1) := dk_3 (dk_at dksX0_act_1 17 rfl rfl)
theorem dX0_act_40 : decode cX0_act 40 = .ok (.aload 5, 2) := dk_25 5 (dk_at dksX0_act_1 18 rfl rfl)
theorem dX0_act_42 : decode cX0_act 42 = .ok (.invokevirtual 151, 3) := dk_182 0 151 (dk_at dksX0_act_1 20 rfl rfl)
theorem dX0_act_45 : decode cX0_act 45 = .ok (.iconst 1, 1) := dk_4 (dk_at dksX0_act_1 23 rfl rfl)
theorem dX0_act_46 : decode cX0_act 46 = .ok (.isub, 1) := dk_100 (dk_at dksX0_act_2 0 rfl rfl)
theorem dX0_act_47 : decode cX0_act 47 = .ok (.invokestatic 164, 3) := dk_184 0 164 (dk_at dksX0_act_2 1 rfl rfl)
theorem dX0_act_50 : decode cX0_act 50 = .ok (.ifCond .ne 6, 3) := dk_154 0 6 (dk_at dksX0_act_2 4 rfl rfl)
theorem dX0_act_53 : decode cX0_act 53 = .ok (.bipush (-2), 2) := dk_16 254 (dk_at dksX0_act_2 7 rfl rfl)
theorem dX0_act_55 : decode cX0_act 55 = .ok (.ireturn, 1) := dk_172 (dk_at dksX0_act_2 9 rfl rfl)
theorem dX0_act_56 : decode cX0_act 56 = .ok (.aload 5, 2) := dk_25 5 (dk_at dksX0_act_2 10 rfl rfl)
theorem dX0_act_58 : decode cX0_act 58 = .ok (.iload_n 2, 1) := dk_28 (dk_at dksX0_act_2 12 rfl rfl)
theorem dX0_act_59 : decode cX0_act 59 = .ok (.invokevirtual 207, 3) := dk_182 0 207 (dk_at dksX0_act_2 13 rfl rfl)
theorem dX0_act_62 : decode cX0_act 62 = .ok (.checkcast 229, 3) := dk_192 0 229 (dk_at dksX0_act_2 16 rfl rfl)
theorem dX0_act_65 : decode cX0_act 65 = .ok (.getfield 231, 3) := dk_180 0 231 (dk_at dksX0_act_2 19 rfl rfl)
theorem dX0_act_68 : decode cX0_act 68 = .ok (.astore 6, 2) := dk_58 6 (dk_at dksX0_act_2 22 rfl rfl)
theorem dX0_act_70 : decode cX0_act 70 = .ok (.iload_n 3, 1) := dk_29 (dk_at dksX0_act_3 0 rfl rfl)
theorem dX0_act_71 : decode cX0_act 71 = .ok (.iconst (-1), 1) := dk_2 (dk_at dksX0_act_3 1 rfl rfl)
theorem dX0_act_72 : decode cX0_act 72 = .ok (.if_icmp .ne 9, 3) := dk_160 0 9 (dk_at dksX0_act_3 2 rfl rfl)
theorem dX0_act_75 : decode cX0_act 75 = .ok (.aload 6, 2) := dk_25 6 (dk_at dksX0_act_3 5 rfl rfl)
theorem dX0_act_77 : decode cX0_act 77 = .ok (.invokevirtual 151, 3) := dk_182 0 151 (dk_at dksX0_act_3 7 rfl rfl)
theorem dX0_act_80 : decode cX0_act 80 = .ok (.ireturn, 1) := dk_172 (dk_at dksX0_act_3 10 rfl rfl)
theorem dX0_act_81 : decode cX0_act 81 = .ok (.iload_n 3, 1) := dk_29 (dk_at dksX0_act_3 11 rfl rfl)
theorem dX0_act_82 : decode cX0_act 82 = .ok (.iconst 0, 1) := dk_3 (dk_at dksX0_act_3 12 rfl rfl)
theorem dX0_act_83 : decode cX0_act 83 = .ok (.aload 6, 2) := dk_25 6 (dk_at dksX0_act_3 13 rfl rfl)
theorem dX0_act_85 : decode cX0_act 85 = .ok (.invokevirtual 151, 3) := dk_182 0 151 (dk_at dksX0_act_3 15 rfl rfl)
theorem dX0_act_88 : decode cX0_act 88 = .ok (.iconst 1, 1) := dk_4 (dk_at dksX0_act_3 18 rfl rfl)
theorem dX0_act_89 : decode cX0_act 89 = .ok (.isub, 1) := dk_100 (dk_at dksX0_act_3 19 rfl rfl)
theorem dX0_act_90 : decode cX0_act 90 = .ok (.invokestatic 164, 3) := dk_184 0 164 (dk_at dksX0_act_3 20 rfl rfl)
theorem dX0_act_93 : decode cX0_act 93 = .ok (.ifCond .eq 13, 3) := dk_153 0 13 (dk_at dksX0_act_4 0 rfl rfl)
theorem dX0_act_96 : decode cX0_act 96 = .ok (.iload 4, 2) := dk_21 4 (dk_at dksX0_act_4 3 rfl rfl)
theorem dX0_act_98 : decode cX0_act 98 = .ok (.iconst 0, 1) := dk_3 (dk_at dksX0_act_4 5 rfl rfl)
theorem dX0_act_99 : decode cX0_act 99 = .ok (.iconst 2, 1) := dk_5 (dk_at dksX0_act_4 6 rfl rfl)
theorem dX0_act_100 : decode cX0_act 100 = .ok (.invokestatic 164, 3) := dk_184 0 164 (dk_at dksX0_act_4 7 rfl rfl)
theorem dX0_act_103 : decode cX0_act 103 = .ok (.ifCond .ne 6, 3) := dk_154 0 6 (dk_at dksX0_act_4 10 rfl rfl)
theorem dX0_act_106 : decode cX0_act 106 = .ok (.bipush (-2), 2) := dk_16 254 (dk_at dksX0_act_4 13 rfl rfl)
theorem dX0_act_108 : decode cX0_act 108 = .ok (.ireturn, 1) := dk_172 (dk_at dksX0_act_4 15 rfl rfl)
theorem dX0_act_109 : decode cX0_act 109 = .ok (.aload 6, 2) := dk_25 6 (dk_at dksX0_act_4 16 rfl rfl)
theorem dX0_act_111 : decode cX0_act 111 = .ok (.iload_n 3, 1) := dk_29 (dk_at dksX0_act_4 18 rfl rfl)
theorem dX0_act_112 : decode cX0_act 112 = .ok (.invokevirtual 207, 3) := dk_182 0 207 (dk_at dksX0_act_4 19 rfl rfl)
theorem dX0_act_115 : decode cX0_act 115 = .ok (.checkcast 234, 3) := dk_192 0 234 (dk_at dksX0_act_5 0 rfl rfl)
theorem dX0_act_118 : decode cX0_act 118 = .ok (.astore 7, 2) := dk_58 7 (dk_at dksX0_act_5 3 rfl rfl)
theorem dX0_act_120 : decode cX0_act 120 = .ok (.iload 4, 2) := dk_21 4 (dk_at dksX0_act_5 5 rfl rfl)
theorem dX0_act_122 : decode cX0_act 122 = .ok (.ifCond .ne 11, 3) := dk_154 0 11 (dk_at dksX0_act_5 7 rfl rfl)
theorem dX0_act_125 : decode cX0_act 125 = .ok (.aload 7, 2) := dk_25 7 (dk_at dksX0_act_5 10 rfl rfl)
theorem dX0_act_127 : decode cX0_act 127 = .ok (.getfield 236, 3) := dk_180 0 236 (dk_at dksX0_act_5 12 rfl rfl)
theorem dX0_act_130 : decode cX0_act 130 = .ok (.goto 22, 3) := dk_167 0 22 (dk_at dksX0_act_5 15 rfl rfl)
theorem dX0_act_133 : decode cX0_act 133 = .ok (.iload 4, 2) := dk_21 4 (dk_at dksX0_act_5 18 rfl rfl)
theorem dX0_act_135 : decode cX0_act 135 = .ok (.iconst 1, 1) := dk_4 (dk_at dksX0_act_5 20 rfl rfl)
theorem dX0_act_136 : decode cX0_act 136 = .ok (.if_icmp .ne 11, 3) := dk_160 0 11 (dk_at dksX0_act_5 21 rfl rfl)
theorem dX0_act_139 : decode cX0_act 139 = .ok (.aload 7, 2) := dk_25 7 (dk_at dksX0_act_6 0 rfl rfl)
theorem dX0_act_141 : decode cX0_act 141 = .ok (.getfield 237, 3) := dk_180 0 237 (dk_at dksX0_act_6 2 rfl rfl)
theorem dX0_act_144 : decode cX0_act 144 = .ok (.goto 8, 3) := dk_167 0 8 (dk_at dksX0_act_6 5 rfl rfl)
theorem dX0_act_147 : decode cX0_act 147 = .ok (.aload 7, 2) := dk_25 7 (dk_at dksX0_act_6 8 rfl rfl)
theorem dX0_act_149 : decode cX0_act 149 = .ok (.getfield 240, 3) := dk_180 0 240 (dk_at dksX0_act_6 10 rfl rfl)
theorem dX0_act_152 : decode cX0_act 152 = .ok (.ireturn, 1) := dk_172 (dk_at dksX0_act_6 13 rfl rfl)
abbrev cX0_isPlan : ByteArray := prog_1_method_13_code
def yX0_isPlan : MethodName := ⟨RX0, "isPlan", "(I)Z"⟩
def dkwX0_isPlan_0 : List UInt8 := [27, 3, 42, 180, 0, 41, 182, 0, 151, 4, 100, 184, 0, 164, 172]
abbrev dktX0_isPlan_0 : List UInt8 := dkwX0_isPlan_0 ++ []
theorem dksX0_isPlan_0 : cX0_isPlan.data.toList.drop 0 = dktX0_isPlan_0 := by decide +kernel
theorem dX0_isPlan_0 : decode cX0_isPlan 0 = .ok (.iload_n 1, 1) := dk_27 (dk_at dksX0_isPlan_0 0 rfl rfl)
theorem dX0_isPlan_1 : decode cX0_isPlan 1 = .ok (.iconst 0, 1) := dk_3 (dk_at dksX0_isPlan_0 1 rfl rfl)
theorem dX0_isPlan_2 : decode cX0_isPlan 2 = .ok (.aload_n 0, 1) := dk_42 (dk_at dksX0_isPlan_0 2 rfl rfl)
theorem dX0_isPlan_3 : decode cX0_isPlan 3 = .ok (.getfield 41, 3) := dk_180 0 41 (dk_at dksX0_isPlan_0 3 rfl rfl)
theorem dX0_isPlan_6 : decode cX0_isPlan 6 = .ok (.invokevirtual 151, 3) := dk_182 0 151 (dk_at dksX0_isPlan_0 6 rfl rfl)
theorem dX0_isPlan_9 : decode cX0_isPlan 9 = .ok (.iconst 1, 1) := dk_4 (dk_at dksX0_isPlan_0 9 rfl rfl)
theorem dX0_isPlan_10 : decode cX0_isPlan 10 = .ok (.isub, 1) := dk_100 (dk_at dksX0_isPlan_0 10 rfl rfl)
theorem dX0_isPlan_11 : decode cX0_isPlan 11 = .ok (.invokestatic 164, 3) := dk_184 0 164 (dk_at dksX0_isPlan_0 11 rfl rfl)
theorem dX0_isPlan_14 : decode cX0_isPlan 14 = .ok (.ireturn, 1) := dk_172 (dk_at dksX0_isPlan_0 14 rfl rfl)
abbrev cX0_chance : ByteArray := prog_1_method_19_code
def yX0_chance : MethodName := ⟨RX0, "chance", "(I)I"⟩
def dkwX0_chance_0 : List UInt8 := [27, 156, 0, 6, 16, 254, 172, 42, 180, 0, 50, 27, 133, 181, 0, 243, 4, 172]
abbrev dktX0_chance_0 : List UInt8 := dkwX0_chance_0 ++ []
theorem dksX0_chance_0 : cX0_chance.data.toList.drop 0 = dktX0_chance_0 := by decide +kernel
theorem dX0_chance_0 : decode cX0_chance 0 = .ok (.iload_n 1, 1) := dk_27 (dk_at dksX0_chance_0 0 rfl rfl)
theorem dX0_chance_1 : decode cX0_chance 1 = .ok (.ifCond .ge 6, 3) := dk_156 0 6 (dk_at dksX0_chance_0 1 rfl rfl)
theorem dX0_chance_4 : decode cX0_chance 4 = .ok (.bipush (-2), 2) := dk_16 254 (dk_at dksX0_chance_0 4 rfl rfl)
theorem dX0_chance_6 : decode cX0_chance 6 = .ok (.ireturn, 1) := dk_172 (dk_at dksX0_chance_0 6 rfl rfl)
theorem dX0_chance_7 : decode cX0_chance 7 = .ok (.aload_n 0, 1) := dk_42 (dk_at dksX0_chance_0 7 rfl rfl)
theorem dX0_chance_8 : decode cX0_chance 8 = .ok (.getfield 50, 3) := dk_180 0 50 (dk_at dksX0_chance_0 8 rfl rfl)
theorem dX0_chance_11 : decode cX0_chance 11 = .ok (.iload_n 1, 1) := dk_27 (dk_at dksX0_chance_0 11 rfl rfl)
theorem dX0_chance_12 : decode cX0_chance 12 = .ok (.i2l, 1) := dk_133 (dk_at dksX0_chance_0 12 rfl rfl)
theorem dX0_chance_13 : decode cX0_chance 13 = .ok (.putfield 243, 3) := dk_181 0 243 (dk_at dksX0_chance_0 13 rfl rfl)
theorem dX0_chance_16 : decode cX0_chance 16 = .ok (.iconst 1, 1) := dk_4 (dk_at dksX0_chance_0 16 rfl rfl)
theorem dX0_chance_17 : decode cX0_chance 17 = .ok (.ireturn, 1) := dk_172 (dk_at dksX0_chance_0 17 rfl rfl)
abbrev cX0_work : ByteArray := prog_1_method_20_code
def yX0_work : MethodName := ⟨RX0, "work", "(I)I"⟩
def dkwX0_work_1 : List UInt8 := [4, 172]
abbrev dktX0_work_1 : List UInt8 := dkwX0_work_1 ++ []
def dkwX0_work_0 : List UInt8 := [27, 2, 159, 0, 14, 42, 27, 182, 0, 220, 154, 0, 6, 16, 254, 172, 42, 180, 0, 50, 27, 182, 0, 247]
abbrev dktX0_work_0 : List UInt8 := dkwX0_work_0 ++ dktX0_work_1
theorem dksX0_work_0 : cX0_work.data.toList.drop 0 = dktX0_work_0 := by decide +kernel
theorem dksX0_work_1 : cX0_work.data.toList.drop 24 = dktX0_work_1 := dk_seg dksX0_work_0 24 rfl rfl
theorem dX0_work_0 : decode cX0_work 0 = .ok (.iload_n 1, 1) := dk_27 (dk_at dksX0_work_0 0 rfl rfl)
theorem dX0_work_1 : decode cX0_work 1 = .ok (.iconst (-1), 1) := dk_2 (dk_at dksX0_work_0 1 rfl rfl)
theorem dX0_work_2 : decode cX0_work 2 = .ok (.if_icmp .eq 14, 3) := dk_159 0 14 (dk_at dksX0_work_0 2 rfl rfl)
theorem dX0_work_5 : decode cX0_work 5 = .ok (.aload_n 0, 1) := dk_42 (dk_at dksX0_work_0 5 rfl rfl)
theorem dX0_work_6 : decode cX0_work 6 = .ok (.iload_n 1, 1) := dk_27 (dk_at dksX0_work_0 6 rfl rfl)
theorem dX0_work_7 : decode cX0_work 7 = .ok (.invokevirtual 220, 3) := dk_182 0 220 (dk_at dksX0_work_0 7 rfl rfl)
theorem dX0_work_10 : decode cX0_work 10 = .ok (.ifCond .ne 6, 3) := dk_154 0 6 (dk_at dksX0_work_0 10 rfl rfl)
theorem dX0_work_13 : decode cX0_work 13 = .ok (.bipush (-2), 2) := dk_16 254 (dk_at dksX0_work_0 13 rfl rfl)
theorem dX0_work_15 : decode cX0_work 15 = .ok (.ireturn, 1) := dk_172 (dk_at dksX0_work_0 15 rfl rfl)
theorem dX0_work_16 : decode cX0_work 16 = .ok (.aload_n 0, 1) := dk_42 (dk_at dksX0_work_0 16 rfl rfl)
theorem dX0_work_17 : decode cX0_work 17 = .ok (.getfield 50, 3) := dk_180 0 50 (dk_at dksX0_work_0 17 rfl rfl)
theorem dX0_work_20 : decode cX0_work 20 = .ok (.iload_n 1, 1) := dk_27 (dk_at dksX0_work_0 20 rfl rfl)
theorem dX0_work_21 : decode cX0_work 21 = .ok (.invokevirtual 247, 3) := dk_182 0 247 (dk_at dksX0_work_0 21 rfl rfl)
theorem dX0_work_24 : decode cX0_work 24 = .ok (.iconst 1, 1) := dk_4 (dk_at dksX0_work_1 0 rfl rfl)
theorem dX0_work_25 : decode cX0_work 25 = .ok (.ireturn, 1) := dk_172 (dk_at dksX0_work_1 1 rfl rfl)
abbrev cX0_pass : ByteArray := prog_1_method_21_code
def yX0_pass : MethodName := ⟨RX0, "pass", "(I)I"⟩
def dkwX0_pass_1 : List UInt8 := [180, 0, 50, 182, 0, 250, 132, 2, 1, 167, 255, 241, 42, 180, 0, 50, 180, 0, 252, 172]
abbrev dktX0_pass_1 : List UInt8 := dkwX0_pass_1 ++ []
def dkwX0_pass_0 : List UInt8 := [27, 3, 17, 1, 104, 184, 0, 164, 154, 0, 6, 16, 254, 172, 3, 61, 28, 27, 162, 0, 16, 42]
abbrev dktX0_pass_0 : List UInt8 := dkwX0_pass_0 ++ dktX0_pass_1
theorem dksX0_pass_0 : cX0_pass.data.toList.drop 0 = dktX0_pass_0 := by decide +kernel
theorem dksX0_pass_1 : cX0_pass.data.toList.drop 22 = dktX0_pass_1 := dk_seg dksX0_pass_0 22 rfl rfl
theorem dX0_pass_0 : decode cX0_pass 0 = .ok (.iload_n 1, 1) := dk_27 (dk_at dksX0_pass_0 0 rfl rfl)
theorem dX0_pass_1 : decode cX0_pass 1 = .ok (.iconst 0, 1) := dk_3 (dk_at dksX0_pass_0 1 rfl rfl)
theorem dX0_pass_2 : decode cX0_pass 2 = .ok (.sipush 360, 3) := dk_17 1 104 (dk_at dksX0_pass_0 2 rfl rfl)
theorem dX0_pass_5 : decode cX0_pass 5 = .ok (.invokestatic 164, 3) := dk_184 0 164 (dk_at dksX0_pass_0 5 rfl rfl)
theorem dX0_pass_8 : decode cX0_pass 8 = .ok (.ifCond .ne 6, 3) := dk_154 0 6 (dk_at dksX0_pass_0 8 rfl rfl)
theorem dX0_pass_11 : decode cX0_pass 11 = .ok (.bipush (-2), 2) := dk_16 254 (dk_at dksX0_pass_0 11 rfl rfl)
theorem dX0_pass_13 : decode cX0_pass 13 = .ok (.ireturn, 1) := dk_172 (dk_at dksX0_pass_0 13 rfl rfl)
theorem dX0_pass_14 : decode cX0_pass 14 = .ok (.iconst 0, 1) := dk_3 (dk_at dksX0_pass_0 14 rfl rfl)
theorem dX0_pass_15 : decode cX0_pass 15 = .ok (.istore_n 2, 1) := dk_61 (dk_at dksX0_pass_0 15 rfl rfl)
theorem dX0_pass_16 : decode cX0_pass 16 = .ok (.iload_n 2, 1) := dk_28 (dk_at dksX0_pass_0 16 rfl rfl)
theorem dX0_pass_17 : decode cX0_pass 17 = .ok (.iload_n 1, 1) := dk_27 (dk_at dksX0_pass_0 17 rfl rfl)
theorem dX0_pass_18 : decode cX0_pass 18 = .ok (.if_icmp .ge 16, 3) := dk_162 0 16 (dk_at dksX0_pass_0 18 rfl rfl)
theorem dX0_pass_21 : decode cX0_pass 21 = .ok (.aload_n 0, 1) := dk_42 (dk_at dksX0_pass_0 21 rfl rfl)
theorem dX0_pass_22 : decode cX0_pass 22 = .ok (.getfield 50, 3) := dk_180 0 50 (dk_at dksX0_pass_1 0 rfl rfl)
theorem dX0_pass_25 : decode cX0_pass 25 = .ok (.invokevirtual 250, 3) := dk_182 0 250 (dk_at dksX0_pass_1 3 rfl rfl)
theorem dX0_pass_28 : decode cX0_pass 28 = .ok (.iinc 2 1, 3) := dk_132 2 1 (dk_at dksX0_pass_1 6 rfl rfl)
theorem dX0_pass_31 : decode cX0_pass 31 = .ok (.goto (-15), 3) := dk_167 255 241 (dk_at dksX0_pass_1 9 rfl rfl)
theorem dX0_pass_34 : decode cX0_pass 34 = .ok (.aload_n 0, 1) := dk_42 (dk_at dksX0_pass_1 12 rfl rfl)
theorem dX0_pass_35 : decode cX0_pass 35 = .ok (.getfield 50, 3) := dk_180 0 50 (dk_at dksX0_pass_1 13 rfl rfl)
theorem dX0_pass_38 : decode cX0_pass 38 = .ok (.getfield 252, 3) := dk_180 0 252 (dk_at dksX0_pass_1 16 rfl rfl)
theorem dX0_pass_41 : decode cX0_pass 41 = .ok (.ireturn, 1) := dk_172 (dk_at dksX0_pass_1 19 rfl rfl)
abbrev cX0_cell : ByteArray := prog_1_method_22_code
def yX0_cell : MethodName := ⟨RX0, "cell", "(III)I"⟩
def dkwX0_cell_5 : List UInt8 := [167, 0, 4, 3, 172, 42, 180, 0, 50, 21, 4, 182, 1, 13, 172, 16, 254, 172]
abbrev dktX0_cell_5 : List UInt8 := dkwX0_cell_5 ++ []
def dkwX0_cell_4 : List UInt8 := [180, 0, 50, 180, 1, 7, 21, 4, 46, 172, 42, 180, 0, 50, 180, 1, 10, 21, 4, 51, 153, 0, 7, 4]
abbrev dktX0_cell_4 : List UInt8 := dkwX0_cell_4 ++ dktX0_cell_5
def dkwX0_cell_3 : List UInt8 := [42, 180, 0, 50, 180, 1, 1, 21, 4, 46, 172, 42, 180, 0, 50, 180, 1, 4, 21, 4, 46, 172, 42]
abbrev dktX0_cell_3 : List UInt8 := dkwX0_cell_3 ++ dktX0_cell_4
def dkwX0_cell_2 : List UInt8 := [170, 0, 0, 0, 0, 96, 0, 0, 0, 0, 0, 0, 0, 4, 0, 0, 0, 34, 0, 0, 0, 45, 0, 0, 0, 56, 0, 0, 0, 67, 0, 0, 0, 86]
abbrev dktX0_cell_2 : List UInt8 := dkwX0_cell_2 ++ dktX0_cell_3
def dkwX0_cell_1 : List UInt8 := [54, 4, 29]
abbrev dktX0_cell_1 : List UInt8 := dkwX0_cell_1 ++ dktX0_cell_2
def dkwX0_cell_0 : List UInt8 := [42, 27, 28, 182, 0, 253, 154, 0, 6, 16, 254, 172, 42, 180, 0, 27, 180, 0, 171, 28, 104, 27, 96]
abbrev dktX0_cell_0 : List UInt8 := dkwX0_cell_0 ++ dktX0_cell_1
theorem dksX0_cell_0 : cX0_cell.data.toList.drop 0 = dktX0_cell_0 := by decide +kernel
theorem dksX0_cell_1 : cX0_cell.data.toList.drop 23 = dktX0_cell_1 := dk_seg dksX0_cell_0 23 rfl rfl
theorem dksX0_cell_2 : cX0_cell.data.toList.drop 26 = dktX0_cell_2 := dk_seg dksX0_cell_1 3 rfl rfl
theorem dksX0_cell_3 : cX0_cell.data.toList.drop 60 = dktX0_cell_3 := dk_seg dksX0_cell_2 34 rfl rfl
theorem dksX0_cell_4 : cX0_cell.data.toList.drop 83 = dktX0_cell_4 := dk_seg dksX0_cell_3 23 rfl rfl
theorem dksX0_cell_5 : cX0_cell.data.toList.drop 107 = dktX0_cell_5 := dk_seg dksX0_cell_4 24 rfl rfl
theorem dX0_cell_0 : decode cX0_cell 0 = .ok (.aload_n 0, 1) := dk_42 (dk_at dksX0_cell_0 0 rfl rfl)
theorem dX0_cell_1 : decode cX0_cell 1 = .ok (.iload_n 1, 1) := dk_27 (dk_at dksX0_cell_0 1 rfl rfl)
theorem dX0_cell_2 : decode cX0_cell 2 = .ok (.iload_n 2, 1) := dk_28 (dk_at dksX0_cell_0 2 rfl rfl)
theorem dX0_cell_3 : decode cX0_cell 3 = .ok (.invokevirtual 253, 3) := dk_182 0 253 (dk_at dksX0_cell_0 3 rfl rfl)
theorem dX0_cell_6 : decode cX0_cell 6 = .ok (.ifCond .ne 6, 3) := dk_154 0 6 (dk_at dksX0_cell_0 6 rfl rfl)
theorem dX0_cell_9 : decode cX0_cell 9 = .ok (.bipush (-2), 2) := dk_16 254 (dk_at dksX0_cell_0 9 rfl rfl)
theorem dX0_cell_11 : decode cX0_cell 11 = .ok (.ireturn, 1) := dk_172 (dk_at dksX0_cell_0 11 rfl rfl)
theorem dX0_cell_12 : decode cX0_cell 12 = .ok (.aload_n 0, 1) := dk_42 (dk_at dksX0_cell_0 12 rfl rfl)
theorem dX0_cell_13 : decode cX0_cell 13 = .ok (.getfield 27, 3) := dk_180 0 27 (dk_at dksX0_cell_0 13 rfl rfl)
theorem dX0_cell_16 : decode cX0_cell 16 = .ok (.getfield 171, 3) := dk_180 0 171 (dk_at dksX0_cell_0 16 rfl rfl)
theorem dX0_cell_19 : decode cX0_cell 19 = .ok (.iload_n 2, 1) := dk_28 (dk_at dksX0_cell_0 19 rfl rfl)
theorem dX0_cell_20 : decode cX0_cell 20 = .ok (.imul, 1) := dk_104 (dk_at dksX0_cell_0 20 rfl rfl)
theorem dX0_cell_21 : decode cX0_cell 21 = .ok (.iload_n 1, 1) := dk_27 (dk_at dksX0_cell_0 21 rfl rfl)
theorem dX0_cell_22 : decode cX0_cell 22 = .ok (.iadd, 1) := dk_96 (dk_at dksX0_cell_0 22 rfl rfl)
theorem dX0_cell_23 : decode cX0_cell 23 = .ok (.istore 4, 2) := dk_54 4 (dk_at dksX0_cell_1 0 rfl rfl)
theorem dX0_cell_25 : decode cX0_cell 25 = .ok (.iload_n 3, 1) := dk_29 (dk_at dksX0_cell_1 2 rfl rfl)
theorem dX0_cell_26 : decode cX0_cell 26 = .ok (.tableswitch 96 0 4 #[34, 45, 56, 67, 86], 34) := by decide +kernel
theorem dX0_cell_60 : decode cX0_cell 60 = .ok (.aload_n 0, 1) := dk_42 (dk_at dksX0_cell_3 0 rfl rfl)
theorem dX0_cell_61 : decode cX0_cell 61 = .ok (.getfield 50, 3) := dk_180 0 50 (dk_at dksX0_cell_3 1 rfl rfl)
theorem dX0_cell_64 : decode cX0_cell 64 = .ok (.getfield 257, 3) := dk_180 1 1 (dk_at dksX0_cell_3 4 rfl rfl)
theorem dX0_cell_67 : decode cX0_cell 67 = .ok (.iload 4, 2) := dk_21 4 (dk_at dksX0_cell_3 7 rfl rfl)
theorem dX0_cell_69 : decode cX0_cell 69 = .ok (.iaload, 1) := dk_46 (dk_at dksX0_cell_3 9 rfl rfl)
theorem dX0_cell_70 : decode cX0_cell 70 = .ok (.ireturn, 1) := dk_172 (dk_at dksX0_cell_3 10 rfl rfl)
theorem dX0_cell_71 : decode cX0_cell 71 = .ok (.aload_n 0, 1) := dk_42 (dk_at dksX0_cell_3 11 rfl rfl)
theorem dX0_cell_72 : decode cX0_cell 72 = .ok (.getfield 50, 3) := dk_180 0 50 (dk_at dksX0_cell_3 12 rfl rfl)
theorem dX0_cell_75 : decode cX0_cell 75 = .ok (.getfield 260, 3) := dk_180 1 4 (dk_at dksX0_cell_3 15 rfl rfl)
theorem dX0_cell_78 : decode cX0_cell 78 = .ok (.iload 4, 2) := dk_21 4 (dk_at dksX0_cell_3 18 rfl rfl)
theorem dX0_cell_80 : decode cX0_cell 80 = .ok (.iaload, 1) := dk_46 (dk_at dksX0_cell_3 20 rfl rfl)
theorem dX0_cell_81 : decode cX0_cell 81 = .ok (.ireturn, 1) := dk_172 (dk_at dksX0_cell_3 21 rfl rfl)
theorem dX0_cell_82 : decode cX0_cell 82 = .ok (.aload_n 0, 1) := dk_42 (dk_at dksX0_cell_3 22 rfl rfl)
theorem dX0_cell_83 : decode cX0_cell 83 = .ok (.getfield 50, 3) := dk_180 0 50 (dk_at dksX0_cell_4 0 rfl rfl)
theorem dX0_cell_86 : decode cX0_cell 86 = .ok (.getfield 263, 3) := dk_180 1 7 (dk_at dksX0_cell_4 3 rfl rfl)
theorem dX0_cell_89 : decode cX0_cell 89 = .ok (.iload 4, 2) := dk_21 4 (dk_at dksX0_cell_4 6 rfl rfl)
theorem dX0_cell_91 : decode cX0_cell 91 = .ok (.iaload, 1) := dk_46 (dk_at dksX0_cell_4 8 rfl rfl)
theorem dX0_cell_92 : decode cX0_cell 92 = .ok (.ireturn, 1) := dk_172 (dk_at dksX0_cell_4 9 rfl rfl)
theorem dX0_cell_93 : decode cX0_cell 93 = .ok (.aload_n 0, 1) := dk_42 (dk_at dksX0_cell_4 10 rfl rfl)
theorem dX0_cell_94 : decode cX0_cell 94 = .ok (.getfield 50, 3) := dk_180 0 50 (dk_at dksX0_cell_4 11 rfl rfl)
theorem dX0_cell_97 : decode cX0_cell 97 = .ok (.getfield 266, 3) := dk_180 1 10 (dk_at dksX0_cell_4 14 rfl rfl)
theorem dX0_cell_100 : decode cX0_cell 100 = .ok (.iload 4, 2) := dk_21 4 (dk_at dksX0_cell_4 17 rfl rfl)
theorem dX0_cell_102 : decode cX0_cell 102 = .ok (.baload, 1) := dk_51 (dk_at dksX0_cell_4 19 rfl rfl)
theorem dX0_cell_103 : decode cX0_cell 103 = .ok (.ifCond .eq 7, 3) := dk_153 0 7 (dk_at dksX0_cell_4 20 rfl rfl)
theorem dX0_cell_106 : decode cX0_cell 106 = .ok (.iconst 1, 1) := dk_4 (dk_at dksX0_cell_4 23 rfl rfl)
theorem dX0_cell_107 : decode cX0_cell 107 = .ok (.goto 4, 3) := dk_167 0 4 (dk_at dksX0_cell_5 0 rfl rfl)
theorem dX0_cell_110 : decode cX0_cell 110 = .ok (.iconst 0, 1) := dk_3 (dk_at dksX0_cell_5 3 rfl rfl)
theorem dX0_cell_111 : decode cX0_cell 111 = .ok (.ireturn, 1) := dk_172 (dk_at dksX0_cell_5 4 rfl rfl)
theorem dX0_cell_112 : decode cX0_cell 112 = .ok (.aload_n 0, 1) := dk_42 (dk_at dksX0_cell_5 5 rfl rfl)
theorem dX0_cell_113 : decode cX0_cell 113 = .ok (.getfield 50, 3) := dk_180 0 50 (dk_at dksX0_cell_5 6 rfl rfl)
theorem dX0_cell_116 : decode cX0_cell 116 = .ok (.iload 4, 2) := dk_21 4 (dk_at dksX0_cell_5 9 rfl rfl)
theorem dX0_cell_118 : decode cX0_cell 118 = .ok (.invokevirtual 269, 3) := dk_182 1 13 (dk_at dksX0_cell_5 11 rfl rfl)
theorem dX0_cell_121 : decode cX0_cell 121 = .ok (.ireturn, 1) := dk_172 (dk_at dksX0_cell_5 14 rfl rfl)
theorem dX0_cell_122 : decode cX0_cell 122 = .ok (.bipush (-2), 2) := dk_16 254 (dk_at dksX0_cell_5 15 rfl rfl)
theorem dX0_cell_124 : decode cX0_cell 124 = .ok (.ireturn, 1) := dk_172 (dk_at dksX0_cell_5 17 rfl rfl)
abbrev cX0_isCell : ByteArray := prog_1_method_15_code
def yX0_isCell : MethodName := ⟨RX0, "isCell", "(II)Z"⟩
def dkwX0_isCell_1 : List UInt8 := [180, 0, 174, 4, 100, 184, 0, 164, 153, 0, 7, 4, 167, 0, 4, 3, 172]
abbrev dktX0_isCell_1 : List UInt8 := dkwX0_isCell_1 ++ []
def dkwX0_isCell_0 : List UInt8 := [27, 3, 42, 180, 0, 27, 180, 0, 171, 4, 100, 184, 0, 164, 153, 0, 24, 28, 3, 42, 180, 0, 27]
abbrev dktX0_isCell_0 : List UInt8 := dkwX0_isCell_0 ++ dktX0_isCell_1
theorem dksX0_isCell_0 : cX0_isCell.data.toList.drop 0 = dktX0_isCell_0 := by decide +kernel
theorem dksX0_isCell_1 : cX0_isCell.data.toList.drop 23 = dktX0_isCell_1 := dk_seg dksX0_isCell_0 23 rfl rfl
theorem dX0_isCell_0 : decode cX0_isCell 0 = .ok (.iload_n 1, 1) := dk_27 (dk_at dksX0_isCell_0 0 rfl rfl)
theorem dX0_isCell_1 : decode cX0_isCell 1 = .ok (.iconst 0, 1) := dk_3 (dk_at dksX0_isCell_0 1 rfl rfl)
theorem dX0_isCell_2 : decode cX0_isCell 2 = .ok (.aload_n 0, 1) := dk_42 (dk_at dksX0_isCell_0 2 rfl rfl)
theorem dX0_isCell_3 : decode cX0_isCell 3 = .ok (.getfield 27, 3) := dk_180 0 27 (dk_at dksX0_isCell_0 3 rfl rfl)
theorem dX0_isCell_6 : decode cX0_isCell 6 = .ok (.getfield 171, 3) := dk_180 0 171 (dk_at dksX0_isCell_0 6 rfl rfl)
theorem dX0_isCell_9 : decode cX0_isCell 9 = .ok (.iconst 1, 1) := dk_4 (dk_at dksX0_isCell_0 9 rfl rfl)
theorem dX0_isCell_10 : decode cX0_isCell 10 = .ok (.isub, 1) := dk_100 (dk_at dksX0_isCell_0 10 rfl rfl)
theorem dX0_isCell_11 : decode cX0_isCell 11 = .ok (.invokestatic 164, 3) := dk_184 0 164 (dk_at dksX0_isCell_0 11 rfl rfl)
theorem dX0_isCell_14 : decode cX0_isCell 14 = .ok (.ifCond .eq 24, 3) := dk_153 0 24 (dk_at dksX0_isCell_0 14 rfl rfl)
theorem dX0_isCell_17 : decode cX0_isCell 17 = .ok (.iload_n 2, 1) := dk_28 (dk_at dksX0_isCell_0 17 rfl rfl)
theorem dX0_isCell_18 : decode cX0_isCell 18 = .ok (.iconst 0, 1) := dk_3 (dk_at dksX0_isCell_0 18 rfl rfl)
theorem dX0_isCell_19 : decode cX0_isCell 19 = .ok (.aload_n 0, 1) := dk_42 (dk_at dksX0_isCell_0 19 rfl rfl)
theorem dX0_isCell_20 : decode cX0_isCell 20 = .ok (.getfield 27, 3) := dk_180 0 27 (dk_at dksX0_isCell_0 20 rfl rfl)
theorem dX0_isCell_23 : decode cX0_isCell 23 = .ok (.getfield 174, 3) := dk_180 0 174 (dk_at dksX0_isCell_1 0 rfl rfl)
theorem dX0_isCell_26 : decode cX0_isCell 26 = .ok (.iconst 1, 1) := dk_4 (dk_at dksX0_isCell_1 3 rfl rfl)
theorem dX0_isCell_27 : decode cX0_isCell 27 = .ok (.isub, 1) := dk_100 (dk_at dksX0_isCell_1 4 rfl rfl)
theorem dX0_isCell_28 : decode cX0_isCell 28 = .ok (.invokestatic 164, 3) := dk_184 0 164 (dk_at dksX0_isCell_1 5 rfl rfl)
theorem dX0_isCell_31 : decode cX0_isCell 31 = .ok (.ifCond .eq 7, 3) := dk_153 0 7 (dk_at dksX0_isCell_1 8 rfl rfl)
theorem dX0_isCell_34 : decode cX0_isCell 34 = .ok (.iconst 1, 1) := dk_4 (dk_at dksX0_isCell_1 11 rfl rfl)
theorem dX0_isCell_35 : decode cX0_isCell 35 = .ok (.goto 4, 3) := dk_167 0 4 (dk_at dksX0_isCell_1 12 rfl rfl)
theorem dX0_isCell_38 : decode cX0_isCell 38 = .ok (.iconst 0, 1) := dk_3 (dk_at dksX0_isCell_1 15 rfl rfl)
theorem dX0_isCell_39 : decode cX0_isCell 39 = .ok (.ireturn, 1) := dk_172 (dk_at dksX0_isCell_1 16 rfl rfl)
abbrev cX0_flag : ByteArray := prog_1_method_23_code
def yX0_flag : MethodName := ⟨RX0, "flag", "(II)I"⟩
def dkwX0_flag_4 : List UInt8 := [46, 172, 16, 254, 172]
abbrev dktX0_flag_4 : List UInt8 := dkwX0_flag_4 ++ []
def dkwX0_flag_3 : List UInt8 := [180, 1, 23, 27, 46, 172, 42, 180, 0, 50, 180, 1, 26, 27, 46, 172, 42, 180, 0, 50, 180, 1, 20, 27]
abbrev dktX0_flag_3 : List UInt8 := dkwX0_flag_3 ++ dktX0_flag_4
def dkwX0_flag_2 : List UInt8 := [42, 180, 0, 50, 180, 1, 20, 27, 46, 2, 160, 0, 7, 4, 167, 0, 4, 3, 172, 42, 180, 0, 27]
abbrev dktX0_flag_2 : List UInt8 := dkwX0_flag_2 ++ dktX0_flag_3
def dkwX0_flag_1 : List UInt8 := [170, 0, 0, 0, 0, 0, 0, 81, 0, 0, 0, 0, 0, 0, 0, 3, 0, 0, 0, 32, 0, 0, 0, 51, 0, 0, 0, 61, 0, 0, 0, 71]
abbrev dktX0_flag_1 : List UInt8 := dkwX0_flag_1 ++ dktX0_flag_2
def dkwX0_flag_0 : List UInt8 := [42, 27, 182, 1, 17, 154, 0, 6, 16, 254, 172, 28]
abbrev dktX0_flag_0 : List UInt8 := dkwX0_flag_0 ++ dktX0_flag_1
theorem dksX0_flag_0 : cX0_flag.data.toList.drop 0 = dktX0_flag_0 := by decide +kernel
theorem dksX0_flag_1 : cX0_flag.data.toList.drop 12 = dktX0_flag_1 := dk_seg dksX0_flag_0 12 rfl rfl
theorem dksX0_flag_2 : cX0_flag.data.toList.drop 44 = dktX0_flag_2 := dk_seg dksX0_flag_1 32 rfl rfl
theorem dksX0_flag_3 : cX0_flag.data.toList.drop 67 = dktX0_flag_3 := dk_seg dksX0_flag_2 23 rfl rfl
theorem dksX0_flag_4 : cX0_flag.data.toList.drop 91 = dktX0_flag_4 := dk_seg dksX0_flag_3 24 rfl rfl
theorem dX0_flag_0 : decode cX0_flag 0 = .ok (.aload_n 0, 1) := dk_42 (dk_at dksX0_flag_0 0 rfl rfl)
theorem dX0_flag_1 : decode cX0_flag 1 = .ok (.iload_n 1, 1) := dk_27 (dk_at dksX0_flag_0 1 rfl rfl)
theorem dX0_flag_2 : decode cX0_flag 2 = .ok (.invokevirtual 273, 3) := dk_182 1 17 (dk_at dksX0_flag_0 2 rfl rfl)
theorem dX0_flag_5 : decode cX0_flag 5 = .ok (.ifCond .ne 6, 3) := dk_154 0 6 (dk_at dksX0_flag_0 5 rfl rfl)
theorem dX0_flag_8 : decode cX0_flag 8 = .ok (.bipush (-2), 2) := dk_16 254 (dk_at dksX0_flag_0 8 rfl rfl)
theorem dX0_flag_10 : decode cX0_flag 10 = .ok (.ireturn, 1) := dk_172 (dk_at dksX0_flag_0 10 rfl rfl)
theorem dX0_flag_11 : decode cX0_flag 11 = .ok (.iload_n 2, 1) := dk_28 (dk_at dksX0_flag_0 11 rfl rfl)
theorem dX0_flag_12 : decode cX0_flag 12 = .ok (.tableswitch 81 0 3 #[32, 51, 61, 71], 32) := by decide +kernel
theorem dX0_flag_44 : decode cX0_flag 44 = .ok (.aload_n 0, 1) := dk_42 (dk_at dksX0_flag_2 0 rfl rfl)
theorem dX0_flag_45 : decode cX0_flag 45 = .ok (.getfield 50, 3) := dk_180 0 50 (dk_at dksX0_flag_2 1 rfl rfl)
theorem dX0_flag_48 : decode cX0_flag 48 = .ok (.getfield 276, 3) := dk_180 1 20 (dk_at dksX0_flag_2 4 rfl rfl)
theorem dX0_flag_51 : decode cX0_flag 51 = .ok (.iload_n 1, 1) := dk_27 (dk_at dksX0_flag_2 7 rfl rfl)
theorem dX0_flag_52 : decode cX0_flag 52 = .ok (.iaload, 1) := dk_46 (dk_at dksX0_flag_2 8 rfl rfl)
theorem dX0_flag_53 : decode cX0_flag 53 = .ok (.iconst (-1), 1) := dk_2 (dk_at dksX0_flag_2 9 rfl rfl)
theorem dX0_flag_54 : decode cX0_flag 54 = .ok (.if_icmp .ne 7, 3) := dk_160 0 7 (dk_at dksX0_flag_2 10 rfl rfl)
theorem dX0_flag_57 : decode cX0_flag 57 = .ok (.iconst 1, 1) := dk_4 (dk_at dksX0_flag_2 13 rfl rfl)
theorem dX0_flag_58 : decode cX0_flag 58 = .ok (.goto 4, 3) := dk_167 0 4 (dk_at dksX0_flag_2 14 rfl rfl)
theorem dX0_flag_61 : decode cX0_flag 61 = .ok (.iconst 0, 1) := dk_3 (dk_at dksX0_flag_2 17 rfl rfl)
theorem dX0_flag_62 : decode cX0_flag 62 = .ok (.ireturn, 1) := dk_172 (dk_at dksX0_flag_2 18 rfl rfl)
theorem dX0_flag_63 : decode cX0_flag 63 = .ok (.aload_n 0, 1) := dk_42 (dk_at dksX0_flag_2 19 rfl rfl)
theorem dX0_flag_64 : decode cX0_flag 64 = .ok (.getfield 27, 3) := dk_180 0 27 (dk_at dksX0_flag_2 20 rfl rfl)
theorem dX0_flag_67 : decode cX0_flag 67 = .ok (.getfield 279, 3) := dk_180 1 23 (dk_at dksX0_flag_3 0 rfl rfl)
theorem dX0_flag_70 : decode cX0_flag 70 = .ok (.iload_n 1, 1) := dk_27 (dk_at dksX0_flag_3 3 rfl rfl)
theorem dX0_flag_71 : decode cX0_flag 71 = .ok (.iaload, 1) := dk_46 (dk_at dksX0_flag_3 4 rfl rfl)
theorem dX0_flag_72 : decode cX0_flag 72 = .ok (.ireturn, 1) := dk_172 (dk_at dksX0_flag_3 5 rfl rfl)
theorem dX0_flag_73 : decode cX0_flag 73 = .ok (.aload_n 0, 1) := dk_42 (dk_at dksX0_flag_3 6 rfl rfl)
theorem dX0_flag_74 : decode cX0_flag 74 = .ok (.getfield 50, 3) := dk_180 0 50 (dk_at dksX0_flag_3 7 rfl rfl)
theorem dX0_flag_77 : decode cX0_flag 77 = .ok (.getfield 282, 3) := dk_180 1 26 (dk_at dksX0_flag_3 10 rfl rfl)
theorem dX0_flag_80 : decode cX0_flag 80 = .ok (.iload_n 1, 1) := dk_27 (dk_at dksX0_flag_3 13 rfl rfl)
theorem dX0_flag_81 : decode cX0_flag 81 = .ok (.iaload, 1) := dk_46 (dk_at dksX0_flag_3 14 rfl rfl)
theorem dX0_flag_82 : decode cX0_flag 82 = .ok (.ireturn, 1) := dk_172 (dk_at dksX0_flag_3 15 rfl rfl)
theorem dX0_flag_83 : decode cX0_flag 83 = .ok (.aload_n 0, 1) := dk_42 (dk_at dksX0_flag_3 16 rfl rfl)
theorem dX0_flag_84 : decode cX0_flag 84 = .ok (.getfield 50, 3) := dk_180 0 50 (dk_at dksX0_flag_3 17 rfl rfl)
theorem dX0_flag_87 : decode cX0_flag 87 = .ok (.getfield 276, 3) := dk_180 1 20 (dk_at dksX0_flag_3 20 rfl rfl)
theorem dX0_flag_90 : decode cX0_flag 90 = .ok (.iload_n 1, 1) := dk_27 (dk_at dksX0_flag_3 23 rfl rfl)
theorem dX0_flag_91 : decode cX0_flag 91 = .ok (.iaload, 1) := dk_46 (dk_at dksX0_flag_4 0 rfl rfl)
theorem dX0_flag_92 : decode cX0_flag 92 = .ok (.ireturn, 1) := dk_172 (dk_at dksX0_flag_4 1 rfl rfl)
theorem dX0_flag_93 : decode cX0_flag 93 = .ok (.bipush (-2), 2) := dk_16 254 (dk_at dksX0_flag_4 2 rfl rfl)
theorem dX0_flag_95 : decode cX0_flag 95 = .ok (.ireturn, 1) := dk_172 (dk_at dksX0_flag_4 4 rfl rfl)
abbrev cX0_isFlag : ByteArray := prog_1_method_14_code
def yX0_isFlag : MethodName := ⟨RX0, "isFlag", "(I)Z"⟩
def dkwX0_isFlag_0 : List UInt8 := [27, 3, 42, 180, 0, 27, 180, 0, 168, 4, 100, 184, 0, 164, 172]
abbrev dktX0_isFlag_0 : List UInt8 := dkwX0_isFlag_0 ++ []
theorem dksX0_isFlag_0 : cX0_isFlag.data.toList.drop 0 = dktX0_isFlag_0 := by decide +kernel
theorem dX0_isFlag_0 : decode cX0_isFlag 0 = .ok (.iload_n 1, 1) := dk_27 (dk_at dksX0_isFlag_0 0 rfl rfl)
theorem dX0_isFlag_1 : decode cX0_isFlag 1 = .ok (.iconst 0, 1) := dk_3 (dk_at dksX0_isFlag_0 1 rfl rfl)
theorem dX0_isFlag_2 : decode cX0_isFlag 2 = .ok (.aload_n 0, 1) := dk_42 (dk_at dksX0_isFlag_0 2 rfl rfl)
theorem dX0_isFlag_3 : decode cX0_isFlag 3 = .ok (.getfield 27, 3) := dk_180 0 27 (dk_at dksX0_isFlag_0 3 rfl rfl)
theorem dX0_isFlag_6 : decode cX0_isFlag 6 = .ok (.getfield 168, 3) := dk_180 0 168 (dk_at dksX0_isFlag_0 6 rfl rfl)
theorem dX0_isFlag_9 : decode cX0_isFlag 9 = .ok (.iconst 1, 1) := dk_4 (dk_at dksX0_isFlag_0 9 rfl rfl)
theorem dX0_isFlag_10 : decode cX0_isFlag 10 = .ok (.isub, 1) := dk_100 (dk_at dksX0_isFlag_0 10 rfl rfl)
theorem dX0_isFlag_11 : decode cX0_isFlag 11 = .ok (.invokestatic 164, 3) := dk_184 0 164 (dk_at dksX0_isFlag_0 11 rfl rfl)
theorem dX0_isFlag_14 : decode cX0_isFlag 14 = .ok (.ireturn, 1) := dk_172 (dk_at dksX0_isFlag_0 14 rfl rfl)
abbrev cX0_sum : ByteArray := prog_1_method_24_code
def yX0_sum : MethodName := ⟨RX0, "sum", "(I)I"⟩
def dkwX0_sum_4 : List UInt8 := [42, 180, 0, 50, 180, 1, 44, 172, 2, 172]
abbrev dktX0_sum_4 : List UInt8 := dkwX0_sum_4 ++ []
def dkwX0_sum_3 : List UInt8 := [42, 180, 0, 50, 180, 1, 35, 172, 42, 180, 0, 50, 180, 1, 38, 172, 42, 180, 0, 50, 180, 1, 41, 172]
abbrev dktX0_sum_3 : List UInt8 := dkwX0_sum_3 ++ dktX0_sum_4
def dkwX0_sum_2 : List UInt8 := [42, 180, 0, 50, 182, 1, 29, 172, 42, 180, 0, 50, 180, 1, 32, 172, 42, 180, 0, 50, 180, 0, 252, 172]
abbrev dktX0_sum_2 : List UInt8 := dkwX0_sum_2 ++ dktX0_sum_3
def dkwX0_sum_1 : List UInt8 := [170, 0, 0, 0, 0, 0, 99, 0, 0, 0, 0, 0, 0, 0, 6, 0, 0, 0, 43, 0, 0, 0, 51, 0, 0, 0, 59, 0, 0, 0, 67, 0, 0, 0, 75, 0, 0, 0, 83, 0, 0, 0, 91]
abbrev dktX0_sum_1 : List UInt8 := dkwX0_sum_1 ++ dktX0_sum_2
def dkwX0_sum_0 : List UInt8 := [27]
abbrev dktX0_sum_0 : List UInt8 := dkwX0_sum_0 ++ dktX0_sum_1
theorem dksX0_sum_0 : cX0_sum.data.toList.drop 0 = dktX0_sum_0 := by decide +kernel
theorem dksX0_sum_1 : cX0_sum.data.toList.drop 1 = dktX0_sum_1 := dk_seg dksX0_sum_0 1 rfl rfl
theorem dksX0_sum_2 : cX0_sum.data.toList.drop 44 = dktX0_sum_2 := dk_seg dksX0_sum_1 43 rfl rfl
theorem dksX0_sum_3 : cX0_sum.data.toList.drop 68 = dktX0_sum_3 := dk_seg dksX0_sum_2 24 rfl rfl
theorem dksX0_sum_4 : cX0_sum.data.toList.drop 92 = dktX0_sum_4 := dk_seg dksX0_sum_3 24 rfl rfl
theorem dX0_sum_0 : decode cX0_sum 0 = .ok (.iload_n 1, 1) := dk_27 (dk_at dksX0_sum_0 0 rfl rfl)
theorem dX0_sum_1 : decode cX0_sum 1 = .ok (.tableswitch 99 0 6 #[43, 51, 59, 67, 75, 83, 91], 43) := by decide +kernel
theorem dX0_sum_44 : decode cX0_sum 44 = .ok (.aload_n 0, 1) := dk_42 (dk_at dksX0_sum_2 0 rfl rfl)
theorem dX0_sum_45 : decode cX0_sum 45 = .ok (.getfield 50, 3) := dk_180 0 50 (dk_at dksX0_sum_2 1 rfl rfl)
theorem dX0_sum_48 : decode cX0_sum 48 = .ok (.invokevirtual 285, 3) := dk_182 1 29 (dk_at dksX0_sum_2 4 rfl rfl)
theorem dX0_sum_51 : decode cX0_sum 51 = .ok (.ireturn, 1) := dk_172 (dk_at dksX0_sum_2 7 rfl rfl)
theorem dX0_sum_52 : decode cX0_sum 52 = .ok (.aload_n 0, 1) := dk_42 (dk_at dksX0_sum_2 8 rfl rfl)
theorem dX0_sum_53 : decode cX0_sum 53 = .ok (.getfield 50, 3) := dk_180 0 50 (dk_at dksX0_sum_2 9 rfl rfl)
theorem dX0_sum_56 : decode cX0_sum 56 = .ok (.getfield 288, 3) := dk_180 1 32 (dk_at dksX0_sum_2 12 rfl rfl)
theorem dX0_sum_59 : decode cX0_sum 59 = .ok (.ireturn, 1) := dk_172 (dk_at dksX0_sum_2 15 rfl rfl)
theorem dX0_sum_60 : decode cX0_sum 60 = .ok (.aload_n 0, 1) := dk_42 (dk_at dksX0_sum_2 16 rfl rfl)
theorem dX0_sum_61 : decode cX0_sum 61 = .ok (.getfield 50, 3) := dk_180 0 50 (dk_at dksX0_sum_2 17 rfl rfl)
theorem dX0_sum_64 : decode cX0_sum 64 = .ok (.getfield 252, 3) := dk_180 0 252 (dk_at dksX0_sum_2 20 rfl rfl)
theorem dX0_sum_67 : decode cX0_sum 67 = .ok (.ireturn, 1) := dk_172 (dk_at dksX0_sum_2 23 rfl rfl)
theorem dX0_sum_68 : decode cX0_sum 68 = .ok (.aload_n 0, 1) := dk_42 (dk_at dksX0_sum_3 0 rfl rfl)
theorem dX0_sum_69 : decode cX0_sum 69 = .ok (.getfield 50, 3) := dk_180 0 50 (dk_at dksX0_sum_3 1 rfl rfl)
theorem dX0_sum_72 : decode cX0_sum 72 = .ok (.getfield 291, 3) := dk_180 1 35 (dk_at dksX0_sum_3 4 rfl rfl)
theorem dX0_sum_75 : decode cX0_sum 75 = .ok (.ireturn, 1) := dk_172 (dk_at dksX0_sum_3 7 rfl rfl)
theorem dX0_sum_76 : decode cX0_sum 76 = .ok (.aload_n 0, 1) := dk_42 (dk_at dksX0_sum_3 8 rfl rfl)
theorem dX0_sum_77 : decode cX0_sum 77 = .ok (.getfield 50, 3) := dk_180 0 50 (dk_at dksX0_sum_3 9 rfl rfl)
theorem dX0_sum_80 : decode cX0_sum 80 = .ok (.getfield 294, 3) := dk_180 1 38 (dk_at dksX0_sum_3 12 rfl rfl)
theorem dX0_sum_83 : decode cX0_sum 83 = .ok (.ireturn, 1) := dk_172 (dk_at dksX0_sum_3 15 rfl rfl)
theorem dX0_sum_84 : decode cX0_sum 84 = .ok (.aload_n 0, 1) := dk_42 (dk_at dksX0_sum_3 16 rfl rfl)
theorem dX0_sum_85 : decode cX0_sum 85 = .ok (.getfield 50, 3) := dk_180 0 50 (dk_at dksX0_sum_3 17 rfl rfl)
theorem dX0_sum_88 : decode cX0_sum 88 = .ok (.getfield 297, 3) := dk_180 1 41 (dk_at dksX0_sum_3 20 rfl rfl)
theorem dX0_sum_91 : decode cX0_sum 91 = .ok (.ireturn, 1) := dk_172 (dk_at dksX0_sum_3 23 rfl rfl)
theorem dX0_sum_92 : decode cX0_sum 92 = .ok (.aload_n 0, 1) := dk_42 (dk_at dksX0_sum_4 0 rfl rfl)
theorem dX0_sum_93 : decode cX0_sum 93 = .ok (.getfield 50, 3) := dk_180 0 50 (dk_at dksX0_sum_4 1 rfl rfl)
theorem dX0_sum_96 : decode cX0_sum 96 = .ok (.getfield 300, 3) := dk_180 1 44 (dk_at dksX0_sum_4 4 rfl rfl)
theorem dX0_sum_99 : decode cX0_sum 99 = .ok (.ireturn, 1) := dk_172 (dk_at dksX0_sum_4 7 rfl rfl)
theorem dX0_sum_100 : decode cX0_sum 100 = .ok (.iconst (-1), 1) := dk_2 (dk_at dksX0_sum_4 8 rfl rfl)
theorem dX0_sum_101 : decode cX0_sum 101 = .ok (.ireturn, 1) := dk_172 (dk_at dksX0_sum_4 9 rfl rfl)
abbrev cX0_keep : ByteArray := prog_1_method_26_code
def yX0_keep : MethodName := ⟨RX0, "keep", "(I)I"⟩
def dkwX0_keep_1 : List UInt8 := [180, 0, 50, 182, 1, 50, 42, 180, 0, 50, 180, 0, 252, 172]
abbrev dktX0_keep_1 : List UInt8 := dkwX0_keep_1 ++ []
def dkwX0_keep_0 : List UInt8 := [27, 184, 1, 47, 154, 0, 6, 16, 254, 172, 42, 180, 0, 61, 27, 4, 84, 42, 180, 0, 57, 27, 50, 42]
abbrev dktX0_keep_0 : List UInt8 := dkwX0_keep_0 ++ dktX0_keep_1
theorem dksX0_keep_0 : cX0_keep.data.toList.drop 0 = dktX0_keep_0 := by decide +kernel
theorem dksX0_keep_1 : cX0_keep.data.toList.drop 24 = dktX0_keep_1 := dk_seg dksX0_keep_0 24 rfl rfl
theorem dX0_keep_0 : decode cX0_keep 0 = .ok (.iload_n 1, 1) := dk_27 (dk_at dksX0_keep_0 0 rfl rfl)
theorem dX0_keep_1 : decode cX0_keep 1 = .ok (.invokestatic 303, 3) := dk_184 1 47 (dk_at dksX0_keep_0 1 rfl rfl)
theorem dX0_keep_4 : decode cX0_keep 4 = .ok (.ifCond .ne 6, 3) := dk_154 0 6 (dk_at dksX0_keep_0 4 rfl rfl)
theorem dX0_keep_7 : decode cX0_keep 7 = .ok (.bipush (-2), 2) := dk_16 254 (dk_at dksX0_keep_0 7 rfl rfl)
theorem dX0_keep_9 : decode cX0_keep 9 = .ok (.ireturn, 1) := dk_172 (dk_at dksX0_keep_0 9 rfl rfl)
theorem dX0_keep_10 : decode cX0_keep 10 = .ok (.aload_n 0, 1) := dk_42 (dk_at dksX0_keep_0 10 rfl rfl)
theorem dX0_keep_11 : decode cX0_keep 11 = .ok (.getfield 61, 3) := dk_180 0 61 (dk_at dksX0_keep_0 11 rfl rfl)
theorem dX0_keep_14 : decode cX0_keep 14 = .ok (.iload_n 1, 1) := dk_27 (dk_at dksX0_keep_0 14 rfl rfl)
theorem dX0_keep_15 : decode cX0_keep 15 = .ok (.iconst 1, 1) := dk_4 (dk_at dksX0_keep_0 15 rfl rfl)
theorem dX0_keep_16 : decode cX0_keep 16 = .ok (.bastore, 1) := dk_84 (dk_at dksX0_keep_0 16 rfl rfl)
theorem dX0_keep_17 : decode cX0_keep 17 = .ok (.aload_n 0, 1) := dk_42 (dk_at dksX0_keep_0 17 rfl rfl)
theorem dX0_keep_18 : decode cX0_keep 18 = .ok (.getfield 57, 3) := dk_180 0 57 (dk_at dksX0_keep_0 18 rfl rfl)
theorem dX0_keep_21 : decode cX0_keep 21 = .ok (.iload_n 1, 1) := dk_27 (dk_at dksX0_keep_0 21 rfl rfl)
theorem dX0_keep_22 : decode cX0_keep 22 = .ok (.aaload, 1) := dk_50 (dk_at dksX0_keep_0 22 rfl rfl)
theorem dX0_keep_23 : decode cX0_keep 23 = .ok (.aload_n 0, 1) := dk_42 (dk_at dksX0_keep_0 23 rfl rfl)
theorem dX0_keep_24 : decode cX0_keep 24 = .ok (.getfield 50, 3) := dk_180 0 50 (dk_at dksX0_keep_1 0 rfl rfl)
theorem dX0_keep_27 : decode cX0_keep 27 = .ok (.invokevirtual 306, 3) := dk_182 1 50 (dk_at dksX0_keep_1 3 rfl rfl)
theorem dX0_keep_30 : decode cX0_keep 30 = .ok (.aload_n 0, 1) := dk_42 (dk_at dksX0_keep_1 6 rfl rfl)
theorem dX0_keep_31 : decode cX0_keep 31 = .ok (.getfield 50, 3) := dk_180 0 50 (dk_at dksX0_keep_1 7 rfl rfl)
theorem dX0_keep_34 : decode cX0_keep 34 = .ok (.getfield 252, 3) := dk_180 0 252 (dk_at dksX0_keep_1 10 rfl rfl)
theorem dX0_keep_37 : decode cX0_keep 37 = .ok (.ireturn, 1) := dk_172 (dk_at dksX0_keep_1 13 rfl rfl)
abbrev cX0_isSlot : ByteArray := prog_1_method_25_code
def yX0_isSlot : MethodName := ⟨RX0, "isSlot", "(I)Z"⟩
def dkwX0_isSlot_0 : List UInt8 := [26, 3, 5, 184, 0, 164, 172]
abbrev dktX0_isSlot_0 : List UInt8 := dkwX0_isSlot_0 ++ []
theorem dksX0_isSlot_0 : cX0_isSlot.data.toList.drop 0 = dktX0_isSlot_0 := by decide +kernel
theorem dX0_isSlot_0 : decode cX0_isSlot 0 = .ok (.iload_n 0, 1) := dk_26 (dk_at dksX0_isSlot_0 0 rfl rfl)
theorem dX0_isSlot_1 : decode cX0_isSlot 1 = .ok (.iconst 0, 1) := dk_3 (dk_at dksX0_isSlot_0 1 rfl rfl)
theorem dX0_isSlot_2 : decode cX0_isSlot 2 = .ok (.iconst 2, 1) := dk_5 (dk_at dksX0_isSlot_0 2 rfl rfl)
theorem dX0_isSlot_3 : decode cX0_isSlot 3 = .ok (.invokestatic 164, 3) := dk_184 0 164 (dk_at dksX0_isSlot_0 3 rfl rfl)
theorem dX0_isSlot_6 : decode cX0_isSlot 6 = .ok (.ireturn, 1) := dk_172 (dk_at dksX0_isSlot_0 6 rfl rfl)
abbrev cX0_take : ByteArray := prog_1_method_27_code
def yX0_take : MethodName := ⟨RX0, "take", "(I)I"⟩
def dkwX0_take_1 : List UInt8 := [180, 0, 50, 42, 180, 0, 57, 27, 50, 182, 1, 50, 42, 180, 0, 50, 180, 0, 252, 172]
abbrev dktX0_take_1 : List UInt8 := dkwX0_take_1 ++ []
def dkwX0_take_0 : List UInt8 := [27, 184, 1, 47, 154, 0, 6, 16, 254, 172, 42, 180, 0, 61, 27, 51, 154, 0, 6, 16, 252, 172, 42]
abbrev dktX0_take_0 : List UInt8 := dkwX0_take_0 ++ dktX0_take_1
theorem dksX0_take_0 : cX0_take.data.toList.drop 0 = dktX0_take_0 := by decide +kernel
theorem dksX0_take_1 : cX0_take.data.toList.drop 23 = dktX0_take_1 := dk_seg dksX0_take_0 23 rfl rfl
theorem dX0_take_0 : decode cX0_take 0 = .ok (.iload_n 1, 1) := dk_27 (dk_at dksX0_take_0 0 rfl rfl)
theorem dX0_take_1 : decode cX0_take 1 = .ok (.invokestatic 303, 3) := dk_184 1 47 (dk_at dksX0_take_0 1 rfl rfl)
theorem dX0_take_4 : decode cX0_take 4 = .ok (.ifCond .ne 6, 3) := dk_154 0 6 (dk_at dksX0_take_0 4 rfl rfl)
theorem dX0_take_7 : decode cX0_take 7 = .ok (.bipush (-2), 2) := dk_16 254 (dk_at dksX0_take_0 7 rfl rfl)
theorem dX0_take_9 : decode cX0_take 9 = .ok (.ireturn, 1) := dk_172 (dk_at dksX0_take_0 9 rfl rfl)
theorem dX0_take_10 : decode cX0_take 10 = .ok (.aload_n 0, 1) := dk_42 (dk_at dksX0_take_0 10 rfl rfl)
theorem dX0_take_11 : decode cX0_take 11 = .ok (.getfield 61, 3) := dk_180 0 61 (dk_at dksX0_take_0 11 rfl rfl)
theorem dX0_take_14 : decode cX0_take 14 = .ok (.iload_n 1, 1) := dk_27 (dk_at dksX0_take_0 14 rfl rfl)
theorem dX0_take_15 : decode cX0_take 15 = .ok (.baload, 1) := dk_51 (dk_at dksX0_take_0 15 rfl rfl)
theorem dX0_take_16 : decode cX0_take 16 = .ok (.ifCond .ne 6, 3) := dk_154 0 6 (dk_at dksX0_take_0 16 rfl rfl)
theorem dX0_take_19 : decode cX0_take 19 = .ok (.bipush (-4), 2) := dk_16 252 (dk_at dksX0_take_0 19 rfl rfl)
theorem dX0_take_21 : decode cX0_take 21 = .ok (.ireturn, 1) := dk_172 (dk_at dksX0_take_0 21 rfl rfl)
theorem dX0_take_22 : decode cX0_take 22 = .ok (.aload_n 0, 1) := dk_42 (dk_at dksX0_take_0 22 rfl rfl)
theorem dX0_take_23 : decode cX0_take 23 = .ok (.getfield 50, 3) := dk_180 0 50 (dk_at dksX0_take_1 0 rfl rfl)
theorem dX0_take_26 : decode cX0_take 26 = .ok (.aload_n 0, 1) := dk_42 (dk_at dksX0_take_1 3 rfl rfl)
theorem dX0_take_27 : decode cX0_take 27 = .ok (.getfield 57, 3) := dk_180 0 57 (dk_at dksX0_take_1 4 rfl rfl)
theorem dX0_take_30 : decode cX0_take 30 = .ok (.iload_n 1, 1) := dk_27 (dk_at dksX0_take_1 7 rfl rfl)
theorem dX0_take_31 : decode cX0_take 31 = .ok (.aaload, 1) := dk_50 (dk_at dksX0_take_1 8 rfl rfl)
theorem dX0_take_32 : decode cX0_take 32 = .ok (.invokevirtual 306, 3) := dk_182 1 50 (dk_at dksX0_take_1 9 rfl rfl)
theorem dX0_take_35 : decode cX0_take 35 = .ok (.aload_n 0, 1) := dk_42 (dk_at dksX0_take_1 12 rfl rfl)
theorem dX0_take_36 : decode cX0_take 36 = .ok (.getfield 50, 3) := dk_180 0 50 (dk_at dksX0_take_1 13 rfl rfl)
theorem dX0_take_39 : decode cX0_take 39 = .ok (.getfield 252, 3) := dk_180 0 252 (dk_at dksX0_take_1 16 rfl rfl)
theorem dX0_take_42 : decode cX0_take 42 = .ok (.ireturn, 1) := dk_172 (dk_at dksX0_take_1 19 rfl rfl)
abbrev cX0_holds : ByteArray := prog_1_method_29_code
def yX0_holds : MethodName := ⟨RX0, "holds", "(II)I"⟩
def dkwX0_holds_0 : List UInt8 := [27, 28, 184, 1, 54, 153, 0, 15, 42, 180, 0, 27, 27, 28, 182, 1, 57, 167, 0, 5, 16, 254, 172]
abbrev dktX0_holds_0 : List UInt8 := dkwX0_holds_0 ++ []
theorem dksX0_holds_0 : cX0_holds.data.toList.drop 0 = dktX0_holds_0 := by decide +kernel
theorem dX0_holds_0 : decode cX0_holds 0 = .ok (.iload_n 1, 1) := dk_27 (dk_at dksX0_holds_0 0 rfl rfl)
theorem dX0_holds_1 : decode cX0_holds 1 = .ok (.iload_n 2, 1) := dk_28 (dk_at dksX0_holds_0 1 rfl rfl)
theorem dX0_holds_2 : decode cX0_holds 2 = .ok (.invokestatic 310, 3) := dk_184 1 54 (dk_at dksX0_holds_0 2 rfl rfl)
theorem dX0_holds_5 : decode cX0_holds 5 = .ok (.ifCond .eq 15, 3) := dk_153 0 15 (dk_at dksX0_holds_0 5 rfl rfl)
theorem dX0_holds_8 : decode cX0_holds 8 = .ok (.aload_n 0, 1) := dk_42 (dk_at dksX0_holds_0 8 rfl rfl)
theorem dX0_holds_9 : decode cX0_holds 9 = .ok (.getfield 27, 3) := dk_180 0 27 (dk_at dksX0_holds_0 9 rfl rfl)
theorem dX0_holds_12 : decode cX0_holds 12 = .ok (.iload_n 1, 1) := dk_27 (dk_at dksX0_holds_0 12 rfl rfl)
theorem dX0_holds_13 : decode cX0_holds 13 = .ok (.iload_n 2, 1) := dk_28 (dk_at dksX0_holds_0 13 rfl rfl)
theorem dX0_holds_14 : decode cX0_holds 14 = .ok (.invokevirtual 313, 3) := dk_182 1 57 (dk_at dksX0_holds_0 14 rfl rfl)
theorem dX0_holds_17 : decode cX0_holds 17 = .ok (.goto 5, 3) := dk_167 0 5 (dk_at dksX0_holds_0 17 rfl rfl)
theorem dX0_holds_20 : decode cX0_holds 20 = .ok (.bipush (-2), 2) := dk_16 254 (dk_at dksX0_holds_0 20 rfl rfl)
theorem dX0_holds_22 : decode cX0_holds 22 = .ok (.ireturn, 1) := dk_172 (dk_at dksX0_holds_0 22 rfl rfl)
abbrev cX0_isSand : ByteArray := prog_1_method_28_code
def yX0_isSand : MethodName := ⟨RX0, "isSand", "(II)Z"⟩
def dkwX0_isSand_1 : List UInt8 := [172]
abbrev dktX0_isSand_1 : List UInt8 := dkwX0_isSand_1 ++ []
def dkwX0_isSand_0 : List UInt8 := [26, 3, 16, 16, 184, 0, 164, 153, 0, 16, 27, 3, 7, 184, 0, 164, 153, 0, 7, 4, 167, 0, 4, 3]
abbrev dktX0_isSand_0 : List UInt8 := dkwX0_isSand_0 ++ dktX0_isSand_1
theorem dksX0_isSand_0 : cX0_isSand.data.toList.drop 0 = dktX0_isSand_0 := by decide +kernel
theorem dksX0_isSand_1 : cX0_isSand.data.toList.drop 24 = dktX0_isSand_1 := dk_seg dksX0_isSand_0 24 rfl rfl
theorem dX0_isSand_0 : decode cX0_isSand 0 = .ok (.iload_n 0, 1) := dk_26 (dk_at dksX0_isSand_0 0 rfl rfl)
theorem dX0_isSand_1 : decode cX0_isSand 1 = .ok (.iconst 0, 1) := dk_3 (dk_at dksX0_isSand_0 1 rfl rfl)
theorem dX0_isSand_2 : decode cX0_isSand 2 = .ok (.bipush 16, 2) := dk_16 16 (dk_at dksX0_isSand_0 2 rfl rfl)
theorem dX0_isSand_4 : decode cX0_isSand 4 = .ok (.invokestatic 164, 3) := dk_184 0 164 (dk_at dksX0_isSand_0 4 rfl rfl)
theorem dX0_isSand_7 : decode cX0_isSand 7 = .ok (.ifCond .eq 16, 3) := dk_153 0 16 (dk_at dksX0_isSand_0 7 rfl rfl)
theorem dX0_isSand_10 : decode cX0_isSand 10 = .ok (.iload_n 1, 1) := dk_27 (dk_at dksX0_isSand_0 10 rfl rfl)
theorem dX0_isSand_11 : decode cX0_isSand 11 = .ok (.iconst 0, 1) := dk_3 (dk_at dksX0_isSand_0 11 rfl rfl)
theorem dX0_isSand_12 : decode cX0_isSand 12 = .ok (.iconst 4, 1) := dk_7 (dk_at dksX0_isSand_0 12 rfl rfl)
theorem dX0_isSand_13 : decode cX0_isSand 13 = .ok (.invokestatic 164, 3) := dk_184 0 164 (dk_at dksX0_isSand_0 13 rfl rfl)
theorem dX0_isSand_16 : decode cX0_isSand 16 = .ok (.ifCond .eq 7, 3) := dk_153 0 7 (dk_at dksX0_isSand_0 16 rfl rfl)
theorem dX0_isSand_19 : decode cX0_isSand 19 = .ok (.iconst 1, 1) := dk_4 (dk_at dksX0_isSand_0 19 rfl rfl)
theorem dX0_isSand_20 : decode cX0_isSand 20 = .ok (.goto 4, 3) := dk_167 0 4 (dk_at dksX0_isSand_0 20 rfl rfl)
theorem dX0_isSand_23 : decode cX0_isSand 23 = .ok (.iconst 0, 1) := dk_3 (dk_at dksX0_isSand_0 23 rfl rfl)
theorem dX0_isSand_24 : decode cX0_isSand 24 = .ok (.ireturn, 1) := dk_172 (dk_at dksX0_isSand_1 0 rfl rfl)
abbrev cX0_high : ByteArray := prog_1_method_30_code
def yX0_high : MethodName := ⟨RX0, "high", "(III)I"⟩
def dkwX0_high_1 : List UInt8 := [182, 1, 57, 27, 4, 96, 5, 108, 104, 167, 0, 5, 16, 254, 172]
abbrev dktX0_high_1 : List UInt8 := dkwX0_high_1 ++ []
def dkwX0_high_0 : List UInt8 := [27, 4, 16, 40, 184, 0, 164, 153, 0, 29, 28, 29, 184, 1, 54, 153, 0, 21, 42, 180, 0, 27, 28, 29]
abbrev dktX0_high_0 : List UInt8 := dkwX0_high_0 ++ dktX0_high_1
theorem dksX0_high_0 : cX0_high.data.toList.drop 0 = dktX0_high_0 := by decide +kernel
theorem dksX0_high_1 : cX0_high.data.toList.drop 24 = dktX0_high_1 := dk_seg dksX0_high_0 24 rfl rfl
theorem dX0_high_0 : decode cX0_high 0 = .ok (.iload_n 1, 1) := dk_27 (dk_at dksX0_high_0 0 rfl rfl)
theorem dX0_high_1 : decode cX0_high 1 = .ok (.iconst 1, 1) := dk_4 (dk_at dksX0_high_0 1 rfl rfl)
theorem dX0_high_2 : decode cX0_high 2 = .ok (.bipush 40, 2) := dk_16 40 (dk_at dksX0_high_0 2 rfl rfl)
theorem dX0_high_4 : decode cX0_high 4 = .ok (.invokestatic 164, 3) := dk_184 0 164 (dk_at dksX0_high_0 4 rfl rfl)
theorem dX0_high_7 : decode cX0_high 7 = .ok (.ifCond .eq 29, 3) := dk_153 0 29 (dk_at dksX0_high_0 7 rfl rfl)
theorem dX0_high_10 : decode cX0_high 10 = .ok (.iload_n 2, 1) := dk_28 (dk_at dksX0_high_0 10 rfl rfl)
theorem dX0_high_11 : decode cX0_high 11 = .ok (.iload_n 3, 1) := dk_29 (dk_at dksX0_high_0 11 rfl rfl)
theorem dX0_high_12 : decode cX0_high 12 = .ok (.invokestatic 310, 3) := dk_184 1 54 (dk_at dksX0_high_0 12 rfl rfl)
theorem dX0_high_15 : decode cX0_high 15 = .ok (.ifCond .eq 21, 3) := dk_153 0 21 (dk_at dksX0_high_0 15 rfl rfl)
theorem dX0_high_18 : decode cX0_high 18 = .ok (.aload_n 0, 1) := dk_42 (dk_at dksX0_high_0 18 rfl rfl)
theorem dX0_high_19 : decode cX0_high 19 = .ok (.getfield 27, 3) := dk_180 0 27 (dk_at dksX0_high_0 19 rfl rfl)
theorem dX0_high_22 : decode cX0_high 22 = .ok (.iload_n 2, 1) := dk_28 (dk_at dksX0_high_0 22 rfl rfl)
theorem dX0_high_23 : decode cX0_high 23 = .ok (.iload_n 3, 1) := dk_29 (dk_at dksX0_high_0 23 rfl rfl)
theorem dX0_high_24 : decode cX0_high 24 = .ok (.invokevirtual 313, 3) := dk_182 1 57 (dk_at dksX0_high_1 0 rfl rfl)
theorem dX0_high_27 : decode cX0_high 27 = .ok (.iload_n 1, 1) := dk_27 (dk_at dksX0_high_1 3 rfl rfl)
theorem dX0_high_28 : decode cX0_high 28 = .ok (.iconst 1, 1) := dk_4 (dk_at dksX0_high_1 4 rfl rfl)
theorem dX0_high_29 : decode cX0_high 29 = .ok (.iadd, 1) := dk_96 (dk_at dksX0_high_1 5 rfl rfl)
theorem dX0_high_30 : decode cX0_high 30 = .ok (.iconst 2, 1) := dk_5 (dk_at dksX0_high_1 6 rfl rfl)
theorem dX0_high_31 : decode cX0_high 31 = .ok (.idiv, 1) := dk_108 (dk_at dksX0_high_1 7 rfl rfl)
theorem dX0_high_32 : decode cX0_high 32 = .ok (.imul, 1) := dk_104 (dk_at dksX0_high_1 8 rfl rfl)
theorem dX0_high_33 : decode cX0_high 33 = .ok (.goto 5, 3) := dk_167 0 5 (dk_at dksX0_high_1 9 rfl rfl)
theorem dX0_high_36 : decode cX0_high 36 = .ok (.bipush (-2), 2) := dk_16 254 (dk_at dksX0_high_1 12 rfl rfl)
theorem dX0_high_38 : decode cX0_high 38 = .ok (.ireturn, 1) := dk_172 (dk_at dksX0_high_1 14 rfl rfl)
abbrev cX0_spill : ByteArray := prog_1_method_32_code
def yX0_spill : MethodName := ⟨RX0, "spill", "(IIII)I"⟩
def dkwX0_spill_6 : List UInt8 := [167, 255, 176, 42, 180, 0, 65, 21, 4, 46, 172]
abbrev dktX0_spill_6 : List UInt8 := dkwX0_spill_6 ++ []
def dkwX0_spill_5 : List UInt8 := [4, 100, 79, 42, 180, 0, 65, 21, 8, 92, 46, 4, 96, 79, 4, 54, 6, 132, 7, 1, 167, 255, 190]
abbrev dktX0_spill_5 : List UInt8 := dkwX0_spill_5 ++ dktX0_spill_6
def dkwX0_spill_4 : List UInt8 := [42, 180, 0, 65, 21, 8, 46, 100, 21, 5, 163, 0, 6, 167, 0, 28, 42, 180, 0, 65, 21, 7, 92, 46]
abbrev dktX0_spill_4 : List UInt8 := dkwX0_spill_4 ++ dktX0_spill_5
def dkwX0_spill_3 : List UInt8 := [54, 7, 21, 7, 16, 9, 162, 0, 65, 42, 21, 7, 182, 1, 63, 54, 8, 42, 180, 0, 65, 21, 7, 46]
abbrev dktX0_spill_3 : List UInt8 := dkwX0_spill_3 ++ dktX0_spill_4
def dkwX0_spill_2 : List UInt8 := [3, 184, 1, 60, 42, 180, 0, 65, 7, 27, 79, 4, 54, 6, 21, 6, 153, 0, 81, 3, 54, 6, 3]
abbrev dktX0_spill_2 : List UInt8 := dkwX0_spill_2 ++ dktX0_spill_3
def dkwX0_spill_1 : List UInt8 := [184, 0, 164, 154, 0, 6, 16, 254, 172, 42, 180, 0, 27, 28, 29, 182, 1, 57, 54, 5, 42, 180, 0, 65]
abbrev dktX0_spill_1 : List UInt8 := dkwX0_spill_1 ++ dktX0_spill_2
def dkwX0_spill_0 : List UInt8 := [27, 3, 16, 60, 184, 0, 164, 153, 0, 22, 28, 29, 184, 1, 54, 153, 0, 14, 21, 4, 3, 16, 8]
abbrev dktX0_spill_0 : List UInt8 := dkwX0_spill_0 ++ dktX0_spill_1
theorem dksX0_spill_0 : cX0_spill.data.toList.drop 0 = dktX0_spill_0 := by decide +kernel
theorem dksX0_spill_1 : cX0_spill.data.toList.drop 23 = dktX0_spill_1 := dk_seg dksX0_spill_0 23 rfl rfl
theorem dksX0_spill_2 : cX0_spill.data.toList.drop 47 = dktX0_spill_2 := dk_seg dksX0_spill_1 24 rfl rfl
theorem dksX0_spill_3 : cX0_spill.data.toList.drop 70 = dktX0_spill_3 := dk_seg dksX0_spill_2 23 rfl rfl
theorem dksX0_spill_4 : cX0_spill.data.toList.drop 94 = dktX0_spill_4 := dk_seg dksX0_spill_3 24 rfl rfl
theorem dksX0_spill_5 : cX0_spill.data.toList.drop 118 = dktX0_spill_5 := dk_seg dksX0_spill_4 24 rfl rfl
theorem dksX0_spill_6 : cX0_spill.data.toList.drop 141 = dktX0_spill_6 := dk_seg dksX0_spill_5 23 rfl rfl
theorem dX0_spill_0 : decode cX0_spill 0 = .ok (.iload_n 1, 1) := dk_27 (dk_at dksX0_spill_0 0 rfl rfl)
theorem dX0_spill_1 : decode cX0_spill 1 = .ok (.iconst 0, 1) := dk_3 (dk_at dksX0_spill_0 1 rfl rfl)
theorem dX0_spill_2 : decode cX0_spill 2 = .ok (.bipush 60, 2) := dk_16 60 (dk_at dksX0_spill_0 2 rfl rfl)
theorem dX0_spill_4 : decode cX0_spill 4 = .ok (.invokestatic 164, 3) := dk_184 0 164 (dk_at dksX0_spill_0 4 rfl rfl)
theorem dX0_spill_7 : decode cX0_spill 7 = .ok (.ifCond .eq 22, 3) := dk_153 0 22 (dk_at dksX0_spill_0 7 rfl rfl)
theorem dX0_spill_10 : decode cX0_spill 10 = .ok (.iload_n 2, 1) := dk_28 (dk_at dksX0_spill_0 10 rfl rfl)
theorem dX0_spill_11 : decode cX0_spill 11 = .ok (.iload_n 3, 1) := dk_29 (dk_at dksX0_spill_0 11 rfl rfl)
theorem dX0_spill_12 : decode cX0_spill 12 = .ok (.invokestatic 310, 3) := dk_184 1 54 (dk_at dksX0_spill_0 12 rfl rfl)
theorem dX0_spill_15 : decode cX0_spill 15 = .ok (.ifCond .eq 14, 3) := dk_153 0 14 (dk_at dksX0_spill_0 15 rfl rfl)
theorem dX0_spill_18 : decode cX0_spill 18 = .ok (.iload 4, 2) := dk_21 4 (dk_at dksX0_spill_0 18 rfl rfl)
theorem dX0_spill_20 : decode cX0_spill 20 = .ok (.iconst 0, 1) := dk_3 (dk_at dksX0_spill_0 20 rfl rfl)
theorem dX0_spill_21 : decode cX0_spill 21 = .ok (.bipush 8, 2) := dk_16 8 (dk_at dksX0_spill_0 21 rfl rfl)
theorem dX0_spill_23 : decode cX0_spill 23 = .ok (.invokestatic 164, 3) := dk_184 0 164 (dk_at dksX0_spill_1 0 rfl rfl)
theorem dX0_spill_26 : decode cX0_spill 26 = .ok (.ifCond .ne 6, 3) := dk_154 0 6 (dk_at dksX0_spill_1 3 rfl rfl)
theorem dX0_spill_29 : decode cX0_spill 29 = .ok (.bipush (-2), 2) := dk_16 254 (dk_at dksX0_spill_1 6 rfl rfl)
theorem dX0_spill_31 : decode cX0_spill 31 = .ok (.ireturn, 1) := dk_172 (dk_at dksX0_spill_1 8 rfl rfl)
theorem dX0_spill_32 : decode cX0_spill 32 = .ok (.aload_n 0, 1) := dk_42 (dk_at dksX0_spill_1 9 rfl rfl)
theorem dX0_spill_33 : decode cX0_spill 33 = .ok (.getfield 27, 3) := dk_180 0 27 (dk_at dksX0_spill_1 10 rfl rfl)
theorem dX0_spill_36 : decode cX0_spill 36 = .ok (.iload_n 2, 1) := dk_28 (dk_at dksX0_spill_1 13 rfl rfl)
theorem dX0_spill_37 : decode cX0_spill 37 = .ok (.iload_n 3, 1) := dk_29 (dk_at dksX0_spill_1 14 rfl rfl)
theorem dX0_spill_38 : decode cX0_spill 38 = .ok (.invokevirtual 313, 3) := dk_182 1 57 (dk_at dksX0_spill_1 15 rfl rfl)
theorem dX0_spill_41 : decode cX0_spill 41 = .ok (.istore 5, 2) := dk_54 5 (dk_at dksX0_spill_1 18 rfl rfl)
theorem dX0_spill_43 : decode cX0_spill 43 = .ok (.aload_n 0, 1) := dk_42 (dk_at dksX0_spill_1 20 rfl rfl)
theorem dX0_spill_44 : decode cX0_spill 44 = .ok (.getfield 65, 3) := dk_180 0 65 (dk_at dksX0_spill_1 21 rfl rfl)
theorem dX0_spill_47 : decode cX0_spill 47 = .ok (.iconst 0, 1) := dk_3 (dk_at dksX0_spill_2 0 rfl rfl)
theorem dX0_spill_48 : decode cX0_spill 48 = .ok (.invokestatic 316, 3) := dk_184 1 60 (dk_at dksX0_spill_2 1 rfl rfl)
theorem dX0_spill_51 : decode cX0_spill 51 = .ok (.aload_n 0, 1) := dk_42 (dk_at dksX0_spill_2 4 rfl rfl)
theorem dX0_spill_52 : decode cX0_spill 52 = .ok (.getfield 65, 3) := dk_180 0 65 (dk_at dksX0_spill_2 5 rfl rfl)
theorem dX0_spill_55 : decode cX0_spill 55 = .ok (.iconst 4, 1) := dk_7 (dk_at dksX0_spill_2 8 rfl rfl)
theorem dX0_spill_56 : decode cX0_spill 56 = .ok (.iload_n 1, 1) := dk_27 (dk_at dksX0_spill_2 9 rfl rfl)
theorem dX0_spill_57 : decode cX0_spill 57 = .ok (.iastore, 1) := dk_79 (dk_at dksX0_spill_2 10 rfl rfl)
theorem dX0_spill_58 : decode cX0_spill 58 = .ok (.iconst 1, 1) := dk_4 (dk_at dksX0_spill_2 11 rfl rfl)
theorem dX0_spill_59 : decode cX0_spill 59 = .ok (.istore 6, 2) := dk_54 6 (dk_at dksX0_spill_2 12 rfl rfl)
theorem dX0_spill_61 : decode cX0_spill 61 = .ok (.iload 6, 2) := dk_21 6 (dk_at dksX0_spill_2 14 rfl rfl)
theorem dX0_spill_63 : decode cX0_spill 63 = .ok (.ifCond .eq 81, 3) := dk_153 0 81 (dk_at dksX0_spill_2 16 rfl rfl)
theorem dX0_spill_66 : decode cX0_spill 66 = .ok (.iconst 0, 1) := dk_3 (dk_at dksX0_spill_2 19 rfl rfl)
theorem dX0_spill_67 : decode cX0_spill 67 = .ok (.istore 6, 2) := dk_54 6 (dk_at dksX0_spill_2 20 rfl rfl)
theorem dX0_spill_69 : decode cX0_spill 69 = .ok (.iconst 0, 1) := dk_3 (dk_at dksX0_spill_2 22 rfl rfl)
theorem dX0_spill_70 : decode cX0_spill 70 = .ok (.istore 7, 2) := dk_54 7 (dk_at dksX0_spill_3 0 rfl rfl)
theorem dX0_spill_72 : decode cX0_spill 72 = .ok (.iload 7, 2) := dk_21 7 (dk_at dksX0_spill_3 2 rfl rfl)
theorem dX0_spill_74 : decode cX0_spill 74 = .ok (.bipush 9, 2) := dk_16 9 (dk_at dksX0_spill_3 4 rfl rfl)
theorem dX0_spill_76 : decode cX0_spill 76 = .ok (.if_icmp .ge 65, 3) := dk_162 0 65 (dk_at dksX0_spill_3 6 rfl rfl)
theorem dX0_spill_79 : decode cX0_spill 79 = .ok (.aload_n 0, 1) := dk_42 (dk_at dksX0_spill_3 9 rfl rfl)
theorem dX0_spill_80 : decode cX0_spill 80 = .ok (.iload 7, 2) := dk_21 7 (dk_at dksX0_spill_3 10 rfl rfl)
theorem dX0_spill_82 : decode cX0_spill 82 = .ok (.invokevirtual 319, 3) := dk_182 1 63 (dk_at dksX0_spill_3 12 rfl rfl)
theorem dX0_spill_85 : decode cX0_spill 85 = .ok (.istore 8, 2) := dk_54 8 (dk_at dksX0_spill_3 15 rfl rfl)
theorem dX0_spill_87 : decode cX0_spill 87 = .ok (.aload_n 0, 1) := dk_42 (dk_at dksX0_spill_3 17 rfl rfl)
theorem dX0_spill_88 : decode cX0_spill 88 = .ok (.getfield 65, 3) := dk_180 0 65 (dk_at dksX0_spill_3 18 rfl rfl)
theorem dX0_spill_91 : decode cX0_spill 91 = .ok (.iload 7, 2) := dk_21 7 (dk_at dksX0_spill_3 21 rfl rfl)
theorem dX0_spill_93 : decode cX0_spill 93 = .ok (.iaload, 1) := dk_46 (dk_at dksX0_spill_3 23 rfl rfl)
theorem dX0_spill_94 : decode cX0_spill 94 = .ok (.aload_n 0, 1) := dk_42 (dk_at dksX0_spill_4 0 rfl rfl)
theorem dX0_spill_95 : decode cX0_spill 95 = .ok (.getfield 65, 3) := dk_180 0 65 (dk_at dksX0_spill_4 1 rfl rfl)
theorem dX0_spill_98 : decode cX0_spill 98 = .ok (.iload 8, 2) := dk_21 8 (dk_at dksX0_spill_4 4 rfl rfl)
theorem dX0_spill_100 : decode cX0_spill 100 = .ok (.iaload, 1) := dk_46 (dk_at dksX0_spill_4 6 rfl rfl)
theorem dX0_spill_101 : decode cX0_spill 101 = .ok (.isub, 1) := dk_100 (dk_at dksX0_spill_4 7 rfl rfl)
theorem dX0_spill_102 : decode cX0_spill 102 = .ok (.iload 5, 2) := dk_21 5 (dk_at dksX0_spill_4 8 rfl rfl)
theorem dX0_spill_104 : decode cX0_spill 104 = .ok (.if_icmp .gt 6, 3) := dk_163 0 6 (dk_at dksX0_spill_4 10 rfl rfl)
theorem dX0_spill_107 : decode cX0_spill 107 = .ok (.goto 28, 3) := dk_167 0 28 (dk_at dksX0_spill_4 13 rfl rfl)
theorem dX0_spill_110 : decode cX0_spill 110 = .ok (.aload_n 0, 1) := dk_42 (dk_at dksX0_spill_4 16 rfl rfl)
theorem dX0_spill_111 : decode cX0_spill 111 = .ok (.getfield 65, 3) := dk_180 0 65 (dk_at dksX0_spill_4 17 rfl rfl)
theorem dX0_spill_114 : decode cX0_spill 114 = .ok (.iload 7, 2) := dk_21 7 (dk_at dksX0_spill_4 20 rfl rfl)
theorem dX0_spill_116 : decode cX0_spill 116 = .ok (.dup2, 1) := dk_92 (dk_at dksX0_spill_4 22 rfl rfl)
theorem dX0_spill_117 : decode cX0_spill 117 = .ok (.iaload, 1) := dk_46 (dk_at dksX0_spill_4 23 rfl rfl)
theorem dX0_spill_118 : decode cX0_spill 118 = .ok (.iconst 1, 1) := dk_4 (dk_at dksX0_spill_5 0 rfl rfl)
theorem dX0_spill_119 : decode cX0_spill 119 = .ok (.isub, 1) := dk_100 (dk_at dksX0_spill_5 1 rfl rfl)
theorem dX0_spill_120 : decode cX0_spill 120 = .ok (.iastore, 1) := dk_79 (dk_at dksX0_spill_5 2 rfl rfl)
theorem dX0_spill_121 : decode cX0_spill 121 = .ok (.aload_n 0, 1) := dk_42 (dk_at dksX0_spill_5 3 rfl rfl)
theorem dX0_spill_122 : decode cX0_spill 122 = .ok (.getfield 65, 3) := dk_180 0 65 (dk_at dksX0_spill_5 4 rfl rfl)
theorem dX0_spill_125 : decode cX0_spill 125 = .ok (.iload 8, 2) := dk_21 8 (dk_at dksX0_spill_5 7 rfl rfl)
theorem dX0_spill_127 : decode cX0_spill 127 = .ok (.dup2, 1) := dk_92 (dk_at dksX0_spill_5 9 rfl rfl)
theorem dX0_spill_128 : decode cX0_spill 128 = .ok (.iaload, 1) := dk_46 (dk_at dksX0_spill_5 10 rfl rfl)
theorem dX0_spill_129 : decode cX0_spill 129 = .ok (.iconst 1, 1) := dk_4 (dk_at dksX0_spill_5 11 rfl rfl)
theorem dX0_spill_130 : decode cX0_spill 130 = .ok (.iadd, 1) := dk_96 (dk_at dksX0_spill_5 12 rfl rfl)
theorem dX0_spill_131 : decode cX0_spill 131 = .ok (.iastore, 1) := dk_79 (dk_at dksX0_spill_5 13 rfl rfl)
theorem dX0_spill_132 : decode cX0_spill 132 = .ok (.iconst 1, 1) := dk_4 (dk_at dksX0_spill_5 14 rfl rfl)
theorem dX0_spill_133 : decode cX0_spill 133 = .ok (.istore 6, 2) := dk_54 6 (dk_at dksX0_spill_5 15 rfl rfl)
theorem dX0_spill_135 : decode cX0_spill 135 = .ok (.iinc 7 1, 3) := dk_132 7 1 (dk_at dksX0_spill_5 17 rfl rfl)
theorem dX0_spill_138 : decode cX0_spill 138 = .ok (.goto (-66), 3) := dk_167 255 190 (dk_at dksX0_spill_5 20 rfl rfl)
theorem dX0_spill_141 : decode cX0_spill 141 = .ok (.goto (-80), 3) := dk_167 255 176 (dk_at dksX0_spill_6 0 rfl rfl)
theorem dX0_spill_144 : decode cX0_spill 144 = .ok (.aload_n 0, 1) := dk_42 (dk_at dksX0_spill_6 3 rfl rfl)
theorem dX0_spill_145 : decode cX0_spill 145 = .ok (.getfield 65, 3) := dk_180 0 65 (dk_at dksX0_spill_6 4 rfl rfl)
theorem dX0_spill_148 : decode cX0_spill 148 = .ok (.iload 4, 2) := dk_21 4 (dk_at dksX0_spill_6 7 rfl rfl)
theorem dX0_spill_150 : decode cX0_spill 150 = .ok (.iaload, 1) := dk_46 (dk_at dksX0_spill_6 9 rfl rfl)
theorem dX0_spill_151 : decode cX0_spill 151 = .ok (.ireturn, 1) := dk_172 (dk_at dksX0_spill_6 10 rfl rfl)
abbrev cX0_lowerBeside : ByteArray := prog_1_method_31_code
def yX0_lowerBeside : MethodName := ⟨RX0, "lowerBeside", "(I)I"⟩
def dkwX0_lowerBeside_1 : List UInt8 := [180, 0, 65, 27, 4, 96, 46, 163, 0, 9, 27, 4, 100, 167, 0, 6, 27, 4, 96, 172]
abbrev dktX0_lowerBeside_1 : List UInt8 := dkwX0_lowerBeside_1 ++ []
def dkwX0_lowerBeside_0 : List UInt8 := [27, 154, 0, 7, 4, 167, 0, 37, 27, 16, 8, 159, 0, 22, 42, 180, 0, 65, 27, 4, 100, 46, 42]
abbrev dktX0_lowerBeside_0 : List UInt8 := dkwX0_lowerBeside_0 ++ dktX0_lowerBeside_1
theorem dksX0_lowerBeside_0 : cX0_lowerBeside.data.toList.drop 0 = dktX0_lowerBeside_0 := by decide +kernel
theorem dksX0_lowerBeside_1 : cX0_lowerBeside.data.toList.drop 23 = dktX0_lowerBeside_1 := dk_seg dksX0_lowerBeside_0 23 rfl rfl
theorem dX0_lowerBeside_0 : decode cX0_lowerBeside 0 = .ok (.iload_n 1, 1) := dk_27 (dk_at dksX0_lowerBeside_0 0 rfl rfl)
theorem dX0_lowerBeside_1 : decode cX0_lowerBeside 1 = .ok (.ifCond .ne 7, 3) := dk_154 0 7 (dk_at dksX0_lowerBeside_0 1 rfl rfl)
theorem dX0_lowerBeside_4 : decode cX0_lowerBeside 4 = .ok (.iconst 1, 1) := dk_4 (dk_at dksX0_lowerBeside_0 4 rfl rfl)
theorem dX0_lowerBeside_5 : decode cX0_lowerBeside 5 = .ok (.goto 37, 3) := dk_167 0 37 (dk_at dksX0_lowerBeside_0 5 rfl rfl)
theorem dX0_lowerBeside_8 : decode cX0_lowerBeside 8 = .ok (.iload_n 1, 1) := dk_27 (dk_at dksX0_lowerBeside_0 8 rfl rfl)
theorem dX0_lowerBeside_9 : decode cX0_lowerBeside 9 = .ok (.bipush 8, 2) := dk_16 8 (dk_at dksX0_lowerBeside_0 9 rfl rfl)
theorem dX0_lowerBeside_11 : decode cX0_lowerBeside 11 = .ok (.if_icmp .eq 22, 3) := dk_159 0 22 (dk_at dksX0_lowerBeside_0 11 rfl rfl)
theorem dX0_lowerBeside_14 : decode cX0_lowerBeside 14 = .ok (.aload_n 0, 1) := dk_42 (dk_at dksX0_lowerBeside_0 14 rfl rfl)
theorem dX0_lowerBeside_15 : decode cX0_lowerBeside 15 = .ok (.getfield 65, 3) := dk_180 0 65 (dk_at dksX0_lowerBeside_0 15 rfl rfl)
theorem dX0_lowerBeside_18 : decode cX0_lowerBeside 18 = .ok (.iload_n 1, 1) := dk_27 (dk_at dksX0_lowerBeside_0 18 rfl rfl)
theorem dX0_lowerBeside_19 : decode cX0_lowerBeside 19 = .ok (.iconst 1, 1) := dk_4 (dk_at dksX0_lowerBeside_0 19 rfl rfl)
theorem dX0_lowerBeside_20 : decode cX0_lowerBeside 20 = .ok (.isub, 1) := dk_100 (dk_at dksX0_lowerBeside_0 20 rfl rfl)
theorem dX0_lowerBeside_21 : decode cX0_lowerBeside 21 = .ok (.iaload, 1) := dk_46 (dk_at dksX0_lowerBeside_0 21 rfl rfl)
theorem dX0_lowerBeside_22 : decode cX0_lowerBeside 22 = .ok (.aload_n 0, 1) := dk_42 (dk_at dksX0_lowerBeside_0 22 rfl rfl)
theorem dX0_lowerBeside_23 : decode cX0_lowerBeside 23 = .ok (.getfield 65, 3) := dk_180 0 65 (dk_at dksX0_lowerBeside_1 0 rfl rfl)
theorem dX0_lowerBeside_26 : decode cX0_lowerBeside 26 = .ok (.iload_n 1, 1) := dk_27 (dk_at dksX0_lowerBeside_1 3 rfl rfl)
theorem dX0_lowerBeside_27 : decode cX0_lowerBeside 27 = .ok (.iconst 1, 1) := dk_4 (dk_at dksX0_lowerBeside_1 4 rfl rfl)
theorem dX0_lowerBeside_28 : decode cX0_lowerBeside 28 = .ok (.iadd, 1) := dk_96 (dk_at dksX0_lowerBeside_1 5 rfl rfl)
theorem dX0_lowerBeside_29 : decode cX0_lowerBeside 29 = .ok (.iaload, 1) := dk_46 (dk_at dksX0_lowerBeside_1 6 rfl rfl)
theorem dX0_lowerBeside_30 : decode cX0_lowerBeside 30 = .ok (.if_icmp .gt 9, 3) := dk_163 0 9 (dk_at dksX0_lowerBeside_1 7 rfl rfl)
theorem dX0_lowerBeside_33 : decode cX0_lowerBeside 33 = .ok (.iload_n 1, 1) := dk_27 (dk_at dksX0_lowerBeside_1 10 rfl rfl)
theorem dX0_lowerBeside_34 : decode cX0_lowerBeside 34 = .ok (.iconst 1, 1) := dk_4 (dk_at dksX0_lowerBeside_1 11 rfl rfl)
theorem dX0_lowerBeside_35 : decode cX0_lowerBeside 35 = .ok (.isub, 1) := dk_100 (dk_at dksX0_lowerBeside_1 12 rfl rfl)
theorem dX0_lowerBeside_36 : decode cX0_lowerBeside 36 = .ok (.goto 6, 3) := dk_167 0 6 (dk_at dksX0_lowerBeside_1 13 rfl rfl)
theorem dX0_lowerBeside_39 : decode cX0_lowerBeside 39 = .ok (.iload_n 1, 1) := dk_27 (dk_at dksX0_lowerBeside_1 16 rfl rfl)
theorem dX0_lowerBeside_40 : decode cX0_lowerBeside 40 = .ok (.iconst 1, 1) := dk_4 (dk_at dksX0_lowerBeside_1 17 rfl rfl)
theorem dX0_lowerBeside_41 : decode cX0_lowerBeside 41 = .ok (.iadd, 1) := dk_96 (dk_at dksX0_lowerBeside_1 18 rfl rfl)
theorem dX0_lowerBeside_42 : decode cX0_lowerBeside 42 = .ok (.ireturn, 1) := dk_172 (dk_at dksX0_lowerBeside_1 19 rfl rfl)
abbrev cX0_trial : ByteArray := prog_1_method_33_code
def yX0_trial : MethodName := ⟨RX0, "trial", "(IIII)I"⟩
def dkwX0_trial_5 : List UInt8 := [4, 100, 172]
abbrev dktX0_trial_5 : List UInt8 := dkwX0_trial_5 ++ []
def dkwX0_trial_4 : List UInt8 := [180, 0, 78, 42, 180, 1, 69, 21, 4, 79, 42, 89, 180, 1, 69, 4, 96, 181, 1, 69, 42, 180, 1, 69]
abbrev dktX0_trial_4 : List UInt8 := dkwX0_trial_4 ++ dktX0_trial_5
def dkwX0_trial_3 : List UInt8 := [27, 79, 42, 180, 0, 72, 42, 180, 1, 69, 28, 79, 42, 180, 0, 75, 42, 180, 1, 69, 29, 79, 42]
abbrev dktX0_trial_3 : List UInt8 := dkwX0_trial_3 ++ dktX0_trial_4
def dkwX0_trial_2 : List UInt8 := [180, 1, 69, 16, 16, 160, 0, 6, 16, 253, 172, 42, 27, 181, 1, 66, 42, 180, 0, 69, 42, 180, 1, 69]
abbrev dktX0_trial_2 : List UInt8 := dkwX0_trial_2 ++ dktX0_trial_3
def dkwX0_trial_1 : List UInt8 := [29, 4, 16, 30, 184, 0, 164, 153, 0, 13, 21, 4, 3, 4, 184, 0, 164, 154, 0, 6, 16, 254, 172, 42]
abbrev dktX0_trial_1 : List UInt8 := dkwX0_trial_1 ++ dktX0_trial_2
def dkwX0_trial_0 : List UInt8 := [27, 42, 180, 1, 66, 17, 3, 231, 184, 0, 164, 153, 0, 33, 28, 4, 16, 15, 184, 0, 164, 153, 0, 23]
abbrev dktX0_trial_0 : List UInt8 := dkwX0_trial_0 ++ dktX0_trial_1
theorem dksX0_trial_0 : cX0_trial.data.toList.drop 0 = dktX0_trial_0 := by decide +kernel
theorem dksX0_trial_1 : cX0_trial.data.toList.drop 24 = dktX0_trial_1 := dk_seg dksX0_trial_0 24 rfl rfl
theorem dksX0_trial_2 : cX0_trial.data.toList.drop 48 = dktX0_trial_2 := dk_seg dksX0_trial_1 24 rfl rfl
theorem dksX0_trial_3 : cX0_trial.data.toList.drop 72 = dktX0_trial_3 := dk_seg dksX0_trial_2 24 rfl rfl
theorem dksX0_trial_4 : cX0_trial.data.toList.drop 95 = dktX0_trial_4 := dk_seg dksX0_trial_3 23 rfl rfl
theorem dksX0_trial_5 : cX0_trial.data.toList.drop 119 = dktX0_trial_5 := dk_seg dksX0_trial_4 24 rfl rfl
theorem dX0_trial_0 : decode cX0_trial 0 = .ok (.iload_n 1, 1) := dk_27 (dk_at dksX0_trial_0 0 rfl rfl)
theorem dX0_trial_1 : decode cX0_trial 1 = .ok (.aload_n 0, 1) := dk_42 (dk_at dksX0_trial_0 1 rfl rfl)
theorem dX0_trial_2 : decode cX0_trial 2 = .ok (.getfield 322, 3) := dk_180 1 66 (dk_at dksX0_trial_0 2 rfl rfl)
theorem dX0_trial_5 : decode cX0_trial 5 = .ok (.sipush 999, 3) := dk_17 3 231 (dk_at dksX0_trial_0 5 rfl rfl)
theorem dX0_trial_8 : decode cX0_trial 8 = .ok (.invokestatic 164, 3) := dk_184 0 164 (dk_at dksX0_trial_0 8 rfl rfl)
theorem dX0_trial_11 : decode cX0_trial 11 = .ok (.ifCond .eq 33, 3) := dk_153 0 33 (dk_at dksX0_trial_0 11 rfl rfl)
theorem dX0_trial_14 : decode cX0_trial 14 = .ok (.iload_n 2, 1) := dk_28 (dk_at dksX0_trial_0 14 rfl rfl)
theorem dX0_trial_15 : decode cX0_trial 15 = .ok (.iconst 1, 1) := dk_4 (dk_at dksX0_trial_0 15 rfl rfl)
theorem dX0_trial_16 : decode cX0_trial 16 = .ok (.bipush 15, 2) := dk_16 15 (dk_at dksX0_trial_0 16 rfl rfl)
theorem dX0_trial_18 : decode cX0_trial 18 = .ok (.invokestatic 164, 3) := dk_184 0 164 (dk_at dksX0_trial_0 18 rfl rfl)
theorem dX0_trial_21 : decode cX0_trial 21 = .ok (.ifCond .eq 23, 3) := dk_153 0 23 (dk_at dksX0_trial_0 21 rfl rfl)
theorem dX0_trial_24 : decode cX0_trial 24 = .ok (.iload_n 3, 1) := dk_29 (dk_at dksX0_trial_1 0 rfl rfl)
theorem dX0_trial_25 : decode cX0_trial 25 = .ok (.iconst 1, 1) := dk_4 (dk_at dksX0_trial_1 1 rfl rfl)
theorem dX0_trial_26 : decode cX0_trial 26 = .ok (.bipush 30, 2) := dk_16 30 (dk_at dksX0_trial_1 2 rfl rfl)
theorem dX0_trial_28 : decode cX0_trial 28 = .ok (.invokestatic 164, 3) := dk_184 0 164 (dk_at dksX0_trial_1 4 rfl rfl)
theorem dX0_trial_31 : decode cX0_trial 31 = .ok (.ifCond .eq 13, 3) := dk_153 0 13 (dk_at dksX0_trial_1 7 rfl rfl)
theorem dX0_trial_34 : decode cX0_trial 34 = .ok (.iload 4, 2) := dk_21 4 (dk_at dksX0_trial_1 10 rfl rfl)
theorem dX0_trial_36 : decode cX0_trial 36 = .ok (.iconst 0, 1) := dk_3 (dk_at dksX0_trial_1 12 rfl rfl)
theorem dX0_trial_37 : decode cX0_trial 37 = .ok (.iconst 1, 1) := dk_4 (dk_at dksX0_trial_1 13 rfl rfl)
theorem dX0_trial_38 : decode cX0_trial 38 = .ok (.invokestatic 164, 3) := dk_184 0 164 (dk_at dksX0_trial_1 14 rfl rfl)
theorem dX0_trial_41 : decode cX0_trial 41 = .ok (.ifCond .ne 6, 3) := dk_154 0 6 (dk_at dksX0_trial_1 17 rfl rfl)
theorem dX0_trial_44 : decode cX0_trial 44 = .ok (.bipush (-2), 2) := dk_16 254 (dk_at dksX0_trial_1 20 rfl rfl)
theorem dX0_trial_46 : decode cX0_trial 46 = .ok (.ireturn, 1) := dk_172 (dk_at dksX0_trial_1 22 rfl rfl)
theorem dX0_trial_47 : decode cX0_trial 47 = .ok (.aload_n 0, 1) := dk_42 (dk_at dksX0_trial_1 23 rfl rfl)
theorem dX0_trial_48 : decode cX0_trial 48 = .ok (.getfield 325, 3) := dk_180 1 69 (dk_at dksX0_trial_2 0 rfl rfl)
theorem dX0_trial_51 : decode cX0_trial 51 = .ok (.bipush 16, 2) := dk_16 16 (dk_at dksX0_trial_2 3 rfl rfl)
theorem dX0_trial_53 : decode cX0_trial 53 = .ok (.if_icmp .ne 6, 3) := dk_160 0 6 (dk_at dksX0_trial_2 5 rfl rfl)
theorem dX0_trial_56 : decode cX0_trial 56 = .ok (.bipush (-3), 2) := dk_16 253 (dk_at dksX0_trial_2 8 rfl rfl)
theorem dX0_trial_58 : decode cX0_trial 58 = .ok (.ireturn, 1) := dk_172 (dk_at dksX0_trial_2 10 rfl rfl)
theorem dX0_trial_59 : decode cX0_trial 59 = .ok (.aload_n 0, 1) := dk_42 (dk_at dksX0_trial_2 11 rfl rfl)
theorem dX0_trial_60 : decode cX0_trial 60 = .ok (.iload_n 1, 1) := dk_27 (dk_at dksX0_trial_2 12 rfl rfl)
theorem dX0_trial_61 : decode cX0_trial 61 = .ok (.putfield 322, 3) := dk_181 1 66 (dk_at dksX0_trial_2 13 rfl rfl)
theorem dX0_trial_64 : decode cX0_trial 64 = .ok (.aload_n 0, 1) := dk_42 (dk_at dksX0_trial_2 16 rfl rfl)
theorem dX0_trial_65 : decode cX0_trial 65 = .ok (.getfield 69, 3) := dk_180 0 69 (dk_at dksX0_trial_2 17 rfl rfl)
theorem dX0_trial_68 : decode cX0_trial 68 = .ok (.aload_n 0, 1) := dk_42 (dk_at dksX0_trial_2 20 rfl rfl)
theorem dX0_trial_69 : decode cX0_trial 69 = .ok (.getfield 325, 3) := dk_180 1 69 (dk_at dksX0_trial_2 21 rfl rfl)
theorem dX0_trial_72 : decode cX0_trial 72 = .ok (.iload_n 1, 1) := dk_27 (dk_at dksX0_trial_3 0 rfl rfl)
theorem dX0_trial_73 : decode cX0_trial 73 = .ok (.iastore, 1) := dk_79 (dk_at dksX0_trial_3 1 rfl rfl)
theorem dX0_trial_74 : decode cX0_trial 74 = .ok (.aload_n 0, 1) := dk_42 (dk_at dksX0_trial_3 2 rfl rfl)
theorem dX0_trial_75 : decode cX0_trial 75 = .ok (.getfield 72, 3) := dk_180 0 72 (dk_at dksX0_trial_3 3 rfl rfl)
theorem dX0_trial_78 : decode cX0_trial 78 = .ok (.aload_n 0, 1) := dk_42 (dk_at dksX0_trial_3 6 rfl rfl)
theorem dX0_trial_79 : decode cX0_trial 79 = .ok (.getfield 325, 3) := dk_180 1 69 (dk_at dksX0_trial_3 7 rfl rfl)
theorem dX0_trial_82 : decode cX0_trial 82 = .ok (.iload_n 2, 1) := dk_28 (dk_at dksX0_trial_3 10 rfl rfl)
theorem dX0_trial_83 : decode cX0_trial 83 = .ok (.iastore, 1) := dk_79 (dk_at dksX0_trial_3 11 rfl rfl)
theorem dX0_trial_84 : decode cX0_trial 84 = .ok (.aload_n 0, 1) := dk_42 (dk_at dksX0_trial_3 12 rfl rfl)
theorem dX0_trial_85 : decode cX0_trial 85 = .ok (.getfield 75, 3) := dk_180 0 75 (dk_at dksX0_trial_3 13 rfl rfl)
theorem dX0_trial_88 : decode cX0_trial 88 = .ok (.aload_n 0, 1) := dk_42 (dk_at dksX0_trial_3 16 rfl rfl)
theorem dX0_trial_89 : decode cX0_trial 89 = .ok (.getfield 325, 3) := dk_180 1 69 (dk_at dksX0_trial_3 17 rfl rfl)
theorem dX0_trial_92 : decode cX0_trial 92 = .ok (.iload_n 3, 1) := dk_29 (dk_at dksX0_trial_3 20 rfl rfl)
theorem dX0_trial_93 : decode cX0_trial 93 = .ok (.iastore, 1) := dk_79 (dk_at dksX0_trial_3 21 rfl rfl)
theorem dX0_trial_94 : decode cX0_trial 94 = .ok (.aload_n 0, 1) := dk_42 (dk_at dksX0_trial_3 22 rfl rfl)
theorem dX0_trial_95 : decode cX0_trial 95 = .ok (.getfield 78, 3) := dk_180 0 78 (dk_at dksX0_trial_4 0 rfl rfl)
theorem dX0_trial_98 : decode cX0_trial 98 = .ok (.aload_n 0, 1) := dk_42 (dk_at dksX0_trial_4 3 rfl rfl)
theorem dX0_trial_99 : decode cX0_trial 99 = .ok (.getfield 325, 3) := dk_180 1 69 (dk_at dksX0_trial_4 4 rfl rfl)
theorem dX0_trial_102 : decode cX0_trial 102 = .ok (.iload 4, 2) := dk_21 4 (dk_at dksX0_trial_4 7 rfl rfl)
theorem dX0_trial_104 : decode cX0_trial 104 = .ok (.iastore, 1) := dk_79 (dk_at dksX0_trial_4 9 rfl rfl)
theorem dX0_trial_105 : decode cX0_trial 105 = .ok (.aload_n 0, 1) := dk_42 (dk_at dksX0_trial_4 10 rfl rfl)
theorem dX0_trial_106 : decode cX0_trial 106 = .ok (.dup, 1) := dk_89 (dk_at dksX0_trial_4 11 rfl rfl)
theorem dX0_trial_107 : decode cX0_trial 107 = .ok (.getfield 325, 3) := dk_180 1 69 (dk_at dksX0_trial_4 12 rfl rfl)
theorem dX0_trial_110 : decode cX0_trial 110 = .ok (.iconst 1, 1) := dk_4 (dk_at dksX0_trial_4 15 rfl rfl)
theorem dX0_trial_111 : decode cX0_trial 111 = .ok (.iadd, 1) := dk_96 (dk_at dksX0_trial_4 16 rfl rfl)
theorem dX0_trial_112 : decode cX0_trial 112 = .ok (.putfield 325, 3) := dk_181 1 69 (dk_at dksX0_trial_4 17 rfl rfl)
theorem dX0_trial_115 : decode cX0_trial 115 = .ok (.aload_n 0, 1) := dk_42 (dk_at dksX0_trial_4 20 rfl rfl)
theorem dX0_trial_116 : decode cX0_trial 116 = .ok (.getfield 325, 3) := dk_180 1 69 (dk_at dksX0_trial_4 21 rfl rfl)
theorem dX0_trial_119 : decode cX0_trial 119 = .ok (.iconst 1, 1) := dk_4 (dk_at dksX0_trial_5 0 rfl rfl)
theorem dX0_trial_120 : decode cX0_trial 120 = .ok (.isub, 1) := dk_100 (dk_at dksX0_trial_5 1 rfl rfl)
theorem dX0_trial_121 : decode cX0_trial 121 = .ok (.ireturn, 1) := dk_172 (dk_at dksX0_trial_5 2 rfl rfl)
abbrev cX0_right : ByteArray := prog_1_method_34_code
def yX0_right : MethodName := ⟨RX0, "right", "(III)I"⟩
def dkwX0_right_6 : List UInt8 := [21, 4, 172]
abbrev dktX0_right_6 : List UInt8 := dkwX0_right_6 ++ []
def dkwX0_right_5 : List UInt8 := [180, 0, 84, 21, 5, 46, 28, 160, 0, 7, 4, 167, 0, 4, 3, 96, 54, 4, 132, 5, 1, 167, 255, 223]
abbrev dktX0_right_5 : List UInt8 := dkwX0_right_5 ++ dktX0_right_6
def dkwX0_right_4 : List UInt8 := [4, 96, 181, 1, 72, 3, 54, 4, 3, 54, 5, 21, 5, 42, 180, 1, 72, 162, 0, 30, 21, 4, 42]
abbrev dktX0_right_4 : List UInt8 := dkwX0_right_4 ++ dktX0_right_5
def dkwX0_right_3 : List UInt8 := [180, 0, 84, 42, 180, 1, 72, 28, 79, 42, 180, 0, 87, 42, 180, 1, 72, 29, 79, 42, 89, 180, 1, 72]
abbrev dktX0_right_3 : List UInt8 := dkwX0_right_3 ++ dktX0_right_4
def dkwX0_right_2 : List UInt8 := [160, 0, 6, 16, 253, 172, 42, 27, 181, 1, 66, 42, 180, 0, 81, 42, 180, 1, 72, 27, 79, 42]
abbrev dktX0_right_2 : List UInt8 := dkwX0_right_2 ++ dktX0_right_3
def dkwX0_right_1 : List UInt8 := [184, 0, 164, 153, 0, 12, 29, 3, 4, 184, 0, 164, 154, 0, 6, 16, 254, 172, 42, 180, 1, 72, 16, 20]
abbrev dktX0_right_1 : List UInt8 := dkwX0_right_1 ++ dktX0_right_2
def dkwX0_right_0 : List UInt8 := [27, 42, 180, 1, 66, 17, 3, 231, 184, 0, 164, 153, 0, 26, 28, 3, 42, 180, 1, 69, 4, 100]
abbrev dktX0_right_0 : List UInt8 := dkwX0_right_0 ++ dktX0_right_1
theorem dksX0_right_0 : cX0_right.data.toList.drop 0 = dktX0_right_0 := by decide +kernel
theorem dksX0_right_1 : cX0_right.data.toList.drop 22 = dktX0_right_1 := dk_seg dksX0_right_0 22 rfl rfl
theorem dksX0_right_2 : cX0_right.data.toList.drop 46 = dktX0_right_2 := dk_seg dksX0_right_1 24 rfl rfl
theorem dksX0_right_3 : cX0_right.data.toList.drop 68 = dktX0_right_3 := dk_seg dksX0_right_2 22 rfl rfl
theorem dksX0_right_4 : cX0_right.data.toList.drop 92 = dktX0_right_4 := dk_seg dksX0_right_3 24 rfl rfl
theorem dksX0_right_5 : cX0_right.data.toList.drop 115 = dktX0_right_5 := dk_seg dksX0_right_4 23 rfl rfl
theorem dksX0_right_6 : cX0_right.data.toList.drop 139 = dktX0_right_6 := dk_seg dksX0_right_5 24 rfl rfl
theorem dX0_right_0 : decode cX0_right 0 = .ok (.iload_n 1, 1) := dk_27 (dk_at dksX0_right_0 0 rfl rfl)
theorem dX0_right_1 : decode cX0_right 1 = .ok (.aload_n 0, 1) := dk_42 (dk_at dksX0_right_0 1 rfl rfl)
theorem dX0_right_2 : decode cX0_right 2 = .ok (.getfield 322, 3) := dk_180 1 66 (dk_at dksX0_right_0 2 rfl rfl)
theorem dX0_right_5 : decode cX0_right 5 = .ok (.sipush 999, 3) := dk_17 3 231 (dk_at dksX0_right_0 5 rfl rfl)
theorem dX0_right_8 : decode cX0_right 8 = .ok (.invokestatic 164, 3) := dk_184 0 164 (dk_at dksX0_right_0 8 rfl rfl)
theorem dX0_right_11 : decode cX0_right 11 = .ok (.ifCond .eq 26, 3) := dk_153 0 26 (dk_at dksX0_right_0 11 rfl rfl)
theorem dX0_right_14 : decode cX0_right 14 = .ok (.iload_n 2, 1) := dk_28 (dk_at dksX0_right_0 14 rfl rfl)
theorem dX0_right_15 : decode cX0_right 15 = .ok (.iconst 0, 1) := dk_3 (dk_at dksX0_right_0 15 rfl rfl)
theorem dX0_right_16 : decode cX0_right 16 = .ok (.aload_n 0, 1) := dk_42 (dk_at dksX0_right_0 16 rfl rfl)
theorem dX0_right_17 : decode cX0_right 17 = .ok (.getfield 325, 3) := dk_180 1 69 (dk_at dksX0_right_0 17 rfl rfl)
theorem dX0_right_20 : decode cX0_right 20 = .ok (.iconst 1, 1) := dk_4 (dk_at dksX0_right_0 20 rfl rfl)
theorem dX0_right_21 : decode cX0_right 21 = .ok (.isub, 1) := dk_100 (dk_at dksX0_right_0 21 rfl rfl)
theorem dX0_right_22 : decode cX0_right 22 = .ok (.invokestatic 164, 3) := dk_184 0 164 (dk_at dksX0_right_1 0 rfl rfl)
theorem dX0_right_25 : decode cX0_right 25 = .ok (.ifCond .eq 12, 3) := dk_153 0 12 (dk_at dksX0_right_1 3 rfl rfl)
theorem dX0_right_28 : decode cX0_right 28 = .ok (.iload_n 3, 1) := dk_29 (dk_at dksX0_right_1 6 rfl rfl)
theorem dX0_right_29 : decode cX0_right 29 = .ok (.iconst 0, 1) := dk_3 (dk_at dksX0_right_1 7 rfl rfl)
theorem dX0_right_30 : decode cX0_right 30 = .ok (.iconst 1, 1) := dk_4 (dk_at dksX0_right_1 8 rfl rfl)
theorem dX0_right_31 : decode cX0_right 31 = .ok (.invokestatic 164, 3) := dk_184 0 164 (dk_at dksX0_right_1 9 rfl rfl)
theorem dX0_right_34 : decode cX0_right 34 = .ok (.ifCond .ne 6, 3) := dk_154 0 6 (dk_at dksX0_right_1 12 rfl rfl)
theorem dX0_right_37 : decode cX0_right 37 = .ok (.bipush (-2), 2) := dk_16 254 (dk_at dksX0_right_1 15 rfl rfl)
theorem dX0_right_39 : decode cX0_right 39 = .ok (.ireturn, 1) := dk_172 (dk_at dksX0_right_1 17 rfl rfl)
theorem dX0_right_40 : decode cX0_right 40 = .ok (.aload_n 0, 1) := dk_42 (dk_at dksX0_right_1 18 rfl rfl)
theorem dX0_right_41 : decode cX0_right 41 = .ok (.getfield 328, 3) := dk_180 1 72 (dk_at dksX0_right_1 19 rfl rfl)
theorem dX0_right_44 : decode cX0_right 44 = .ok (.bipush 20, 2) := dk_16 20 (dk_at dksX0_right_1 22 rfl rfl)
theorem dX0_right_46 : decode cX0_right 46 = .ok (.if_icmp .ne 6, 3) := dk_160 0 6 (dk_at dksX0_right_2 0 rfl rfl)
theorem dX0_right_49 : decode cX0_right 49 = .ok (.bipush (-3), 2) := dk_16 253 (dk_at dksX0_right_2 3 rfl rfl)
theorem dX0_right_51 : decode cX0_right 51 = .ok (.ireturn, 1) := dk_172 (dk_at dksX0_right_2 5 rfl rfl)
theorem dX0_right_52 : decode cX0_right 52 = .ok (.aload_n 0, 1) := dk_42 (dk_at dksX0_right_2 6 rfl rfl)
theorem dX0_right_53 : decode cX0_right 53 = .ok (.iload_n 1, 1) := dk_27 (dk_at dksX0_right_2 7 rfl rfl)
theorem dX0_right_54 : decode cX0_right 54 = .ok (.putfield 322, 3) := dk_181 1 66 (dk_at dksX0_right_2 8 rfl rfl)
theorem dX0_right_57 : decode cX0_right 57 = .ok (.aload_n 0, 1) := dk_42 (dk_at dksX0_right_2 11 rfl rfl)
theorem dX0_right_58 : decode cX0_right 58 = .ok (.getfield 81, 3) := dk_180 0 81 (dk_at dksX0_right_2 12 rfl rfl)
theorem dX0_right_61 : decode cX0_right 61 = .ok (.aload_n 0, 1) := dk_42 (dk_at dksX0_right_2 15 rfl rfl)
theorem dX0_right_62 : decode cX0_right 62 = .ok (.getfield 328, 3) := dk_180 1 72 (dk_at dksX0_right_2 16 rfl rfl)
theorem dX0_right_65 : decode cX0_right 65 = .ok (.iload_n 1, 1) := dk_27 (dk_at dksX0_right_2 19 rfl rfl)
theorem dX0_right_66 : decode cX0_right 66 = .ok (.iastore, 1) := dk_79 (dk_at dksX0_right_2 20 rfl rfl)
theorem dX0_right_67 : decode cX0_right 67 = .ok (.aload_n 0, 1) := dk_42 (dk_at dksX0_right_2 21 rfl rfl)
theorem dX0_right_68 : decode cX0_right 68 = .ok (.getfield 84, 3) := dk_180 0 84 (dk_at dksX0_right_3 0 rfl rfl)
theorem dX0_right_71 : decode cX0_right 71 = .ok (.aload_n 0, 1) := dk_42 (dk_at dksX0_right_3 3 rfl rfl)
theorem dX0_right_72 : decode cX0_right 72 = .ok (.getfield 328, 3) := dk_180 1 72 (dk_at dksX0_right_3 4 rfl rfl)
theorem dX0_right_75 : decode cX0_right 75 = .ok (.iload_n 2, 1) := dk_28 (dk_at dksX0_right_3 7 rfl rfl)
theorem dX0_right_76 : decode cX0_right 76 = .ok (.iastore, 1) := dk_79 (dk_at dksX0_right_3 8 rfl rfl)
theorem dX0_right_77 : decode cX0_right 77 = .ok (.aload_n 0, 1) := dk_42 (dk_at dksX0_right_3 9 rfl rfl)
theorem dX0_right_78 : decode cX0_right 78 = .ok (.getfield 87, 3) := dk_180 0 87 (dk_at dksX0_right_3 10 rfl rfl)
theorem dX0_right_81 : decode cX0_right 81 = .ok (.aload_n 0, 1) := dk_42 (dk_at dksX0_right_3 13 rfl rfl)
theorem dX0_right_82 : decode cX0_right 82 = .ok (.getfield 328, 3) := dk_180 1 72 (dk_at dksX0_right_3 14 rfl rfl)
theorem dX0_right_85 : decode cX0_right 85 = .ok (.iload_n 3, 1) := dk_29 (dk_at dksX0_right_3 17 rfl rfl)
theorem dX0_right_86 : decode cX0_right 86 = .ok (.iastore, 1) := dk_79 (dk_at dksX0_right_3 18 rfl rfl)
theorem dX0_right_87 : decode cX0_right 87 = .ok (.aload_n 0, 1) := dk_42 (dk_at dksX0_right_3 19 rfl rfl)
theorem dX0_right_88 : decode cX0_right 88 = .ok (.dup, 1) := dk_89 (dk_at dksX0_right_3 20 rfl rfl)
theorem dX0_right_89 : decode cX0_right 89 = .ok (.getfield 328, 3) := dk_180 1 72 (dk_at dksX0_right_3 21 rfl rfl)
theorem dX0_right_92 : decode cX0_right 92 = .ok (.iconst 1, 1) := dk_4 (dk_at dksX0_right_4 0 rfl rfl)
theorem dX0_right_93 : decode cX0_right 93 = .ok (.iadd, 1) := dk_96 (dk_at dksX0_right_4 1 rfl rfl)
theorem dX0_right_94 : decode cX0_right 94 = .ok (.putfield 328, 3) := dk_181 1 72 (dk_at dksX0_right_4 2 rfl rfl)
theorem dX0_right_97 : decode cX0_right 97 = .ok (.iconst 0, 1) := dk_3 (dk_at dksX0_right_4 5 rfl rfl)
theorem dX0_right_98 : decode cX0_right 98 = .ok (.istore 4, 2) := dk_54 4 (dk_at dksX0_right_4 6 rfl rfl)
theorem dX0_right_100 : decode cX0_right 100 = .ok (.iconst 0, 1) := dk_3 (dk_at dksX0_right_4 8 rfl rfl)
theorem dX0_right_101 : decode cX0_right 101 = .ok (.istore 5, 2) := dk_54 5 (dk_at dksX0_right_4 9 rfl rfl)
theorem dX0_right_103 : decode cX0_right 103 = .ok (.iload 5, 2) := dk_21 5 (dk_at dksX0_right_4 11 rfl rfl)
theorem dX0_right_105 : decode cX0_right 105 = .ok (.aload_n 0, 1) := dk_42 (dk_at dksX0_right_4 13 rfl rfl)
theorem dX0_right_106 : decode cX0_right 106 = .ok (.getfield 328, 3) := dk_180 1 72 (dk_at dksX0_right_4 14 rfl rfl)
theorem dX0_right_109 : decode cX0_right 109 = .ok (.if_icmp .ge 30, 3) := dk_162 0 30 (dk_at dksX0_right_4 17 rfl rfl)
theorem dX0_right_112 : decode cX0_right 112 = .ok (.iload 4, 2) := dk_21 4 (dk_at dksX0_right_4 20 rfl rfl)
theorem dX0_right_114 : decode cX0_right 114 = .ok (.aload_n 0, 1) := dk_42 (dk_at dksX0_right_4 22 rfl rfl)
theorem dX0_right_115 : decode cX0_right 115 = .ok (.getfield 84, 3) := dk_180 0 84 (dk_at dksX0_right_5 0 rfl rfl)
theorem dX0_right_118 : decode cX0_right 118 = .ok (.iload 5, 2) := dk_21 5 (dk_at dksX0_right_5 3 rfl rfl)
theorem dX0_right_120 : decode cX0_right 120 = .ok (.iaload, 1) := dk_46 (dk_at dksX0_right_5 5 rfl rfl)
theorem dX0_right_121 : decode cX0_right 121 = .ok (.iload_n 2, 1) := dk_28 (dk_at dksX0_right_5 6 rfl rfl)
theorem dX0_right_122 : decode cX0_right 122 = .ok (.if_icmp .ne 7, 3) := dk_160 0 7 (dk_at dksX0_right_5 7 rfl rfl)
theorem dX0_right_125 : decode cX0_right 125 = .ok (.iconst 1, 1) := dk_4 (dk_at dksX0_right_5 10 rfl rfl)
theorem dX0_right_126 : decode cX0_right 126 = .ok (.goto 4, 3) := dk_167 0 4 (dk_at dksX0_right_5 11 rfl rfl)
theorem dX0_right_129 : decode cX0_right 129 = .ok (.iconst 0, 1) := dk_3 (dk_at dksX0_right_5 14 rfl rfl)
theorem dX0_right_130 : decode cX0_right 130 = .ok (.iadd, 1) := dk_96 (dk_at dksX0_right_5 15 rfl rfl)
theorem dX0_right_131 : decode cX0_right 131 = .ok (.istore 4, 2) := dk_54 4 (dk_at dksX0_right_5 16 rfl rfl)
theorem dX0_right_133 : decode cX0_right 133 = .ok (.iinc 5 1, 3) := dk_132 5 1 (dk_at dksX0_right_5 18 rfl rfl)
theorem dX0_right_136 : decode cX0_right 136 = .ok (.goto (-33), 3) := dk_167 255 223 (dk_at dksX0_right_5 21 rfl rfl)
theorem dX0_right_139 : decode cX0_right 139 = .ok (.iload 4, 2) := dk_21 4 (dk_at dksX0_right_6 0 rfl rfl)
theorem dX0_right_141 : decode cX0_right 141 = .ok (.ireturn, 1) := dk_172 (dk_at dksX0_right_6 2 rfl rfl)
abbrev cX0_humps : ByteArray := prog_1_method_40_code
def yX0_humps : MethodName := ⟨RX0, "humps", "(II)I"⟩
def dkwX0_humps_5 : List UInt8 := [29, 172]
abbrev dktX0_humps_5 : List UInt8 := dkwX0_humps_5 ++ []
def dkwX0_humps_4 : List UInt8 := [21, 5, 29, 162, 0, 15, 167, 0, 9, 21, 5, 29, 164, 0, 6, 21, 5, 62, 132, 4, 1, 167, 255, 184]
abbrev dktX0_humps_4 : List UInt8 := dkwX0_humps_4 ++ dktX0_humps_5
def dkwX0_humps_3 : List UInt8 := [180, 0, 90, 21, 4, 46, 184, 1, 78, 54, 5, 29, 2, 159, 0, 25, 28, 5, 112, 4, 160, 0, 12]
abbrev dktX0_humps_3 : List UInt8 := dkwX0_humps_3 ++ dktX0_humps_4
def dkwX0_humps_2 : List UInt8 := [162, 0, 69, 28, 6, 162, 0, 16, 42, 180, 0, 90, 21, 4, 46, 184, 1, 75, 167, 0, 13, 42]
abbrev dktX0_humps_2 : List UInt8 := dkwX0_humps_2 ++ dktX0_humps_3
def dkwX0_humps_1 : List UInt8 := [27, 182, 1, 94, 28, 154, 0, 8, 42, 180, 1, 88, 172, 2, 62, 3, 54, 4, 21, 4, 42, 180, 1, 88]
abbrev dktX0_humps_1 : List UInt8 := dkwX0_humps_1 ++ dktX0_humps_2
def dkwX0_humps_0 : List UInt8 := [27, 3, 17, 3, 231, 184, 0, 164, 153, 0, 12, 28, 3, 7, 184, 0, 164, 154, 0, 6, 16, 254, 172, 42]
abbrev dktX0_humps_0 : List UInt8 := dkwX0_humps_0 ++ dktX0_humps_1
theorem dksX0_humps_0 : cX0_humps.data.toList.drop 0 = dktX0_humps_0 := by decide +kernel
theorem dksX0_humps_1 : cX0_humps.data.toList.drop 24 = dktX0_humps_1 := dk_seg dksX0_humps_0 24 rfl rfl
theorem dksX0_humps_2 : cX0_humps.data.toList.drop 48 = dktX0_humps_2 := dk_seg dksX0_humps_1 24 rfl rfl
theorem dksX0_humps_3 : cX0_humps.data.toList.drop 70 = dktX0_humps_3 := dk_seg dksX0_humps_2 22 rfl rfl
theorem dksX0_humps_4 : cX0_humps.data.toList.drop 93 = dktX0_humps_4 := dk_seg dksX0_humps_3 23 rfl rfl
theorem dksX0_humps_5 : cX0_humps.data.toList.drop 117 = dktX0_humps_5 := dk_seg dksX0_humps_4 24 rfl rfl
theorem dX0_humps_0 : decode cX0_humps 0 = .ok (.iload_n 1, 1) := dk_27 (dk_at dksX0_humps_0 0 rfl rfl)
theorem dX0_humps_1 : decode cX0_humps 1 = .ok (.iconst 0, 1) := dk_3 (dk_at dksX0_humps_0 1 rfl rfl)
theorem dX0_humps_2 : decode cX0_humps 2 = .ok (.sipush 999, 3) := dk_17 3 231 (dk_at dksX0_humps_0 2 rfl rfl)
theorem dX0_humps_5 : decode cX0_humps 5 = .ok (.invokestatic 164, 3) := dk_184 0 164 (dk_at dksX0_humps_0 5 rfl rfl)
theorem dX0_humps_8 : decode cX0_humps 8 = .ok (.ifCond .eq 12, 3) := dk_153 0 12 (dk_at dksX0_humps_0 8 rfl rfl)
theorem dX0_humps_11 : decode cX0_humps 11 = .ok (.iload_n 2, 1) := dk_28 (dk_at dksX0_humps_0 11 rfl rfl)
theorem dX0_humps_12 : decode cX0_humps 12 = .ok (.iconst 0, 1) := dk_3 (dk_at dksX0_humps_0 12 rfl rfl)
theorem dX0_humps_13 : decode cX0_humps 13 = .ok (.iconst 4, 1) := dk_7 (dk_at dksX0_humps_0 13 rfl rfl)
theorem dX0_humps_14 : decode cX0_humps 14 = .ok (.invokestatic 164, 3) := dk_184 0 164 (dk_at dksX0_humps_0 14 rfl rfl)
theorem dX0_humps_17 : decode cX0_humps 17 = .ok (.ifCond .ne 6, 3) := dk_154 0 6 (dk_at dksX0_humps_0 17 rfl rfl)
theorem dX0_humps_20 : decode cX0_humps 20 = .ok (.bipush (-2), 2) := dk_16 254 (dk_at dksX0_humps_0 20 rfl rfl)
theorem dX0_humps_22 : decode cX0_humps 22 = .ok (.ireturn, 1) := dk_172 (dk_at dksX0_humps_0 22 rfl rfl)
theorem dX0_humps_23 : decode cX0_humps 23 = .ok (.aload_n 0, 1) := dk_42 (dk_at dksX0_humps_0 23 rfl rfl)
theorem dX0_humps_24 : decode cX0_humps 24 = .ok (.iload_n 1, 1) := dk_27 (dk_at dksX0_humps_1 0 rfl rfl)
theorem dX0_humps_25 : decode cX0_humps 25 = .ok (.invokevirtual 350, 3) := dk_182 1 94 (dk_at dksX0_humps_1 1 rfl rfl)
theorem dX0_humps_28 : decode cX0_humps 28 = .ok (.iload_n 2, 1) := dk_28 (dk_at dksX0_humps_1 4 rfl rfl)
theorem dX0_humps_29 : decode cX0_humps 29 = .ok (.ifCond .ne 8, 3) := dk_154 0 8 (dk_at dksX0_humps_1 5 rfl rfl)
theorem dX0_humps_32 : decode cX0_humps 32 = .ok (.aload_n 0, 1) := dk_42 (dk_at dksX0_humps_1 8 rfl rfl)
theorem dX0_humps_33 : decode cX0_humps 33 = .ok (.getfield 344, 3) := dk_180 1 88 (dk_at dksX0_humps_1 9 rfl rfl)
theorem dX0_humps_36 : decode cX0_humps 36 = .ok (.ireturn, 1) := dk_172 (dk_at dksX0_humps_1 12 rfl rfl)
theorem dX0_humps_37 : decode cX0_humps 37 = .ok (.iconst (-1), 1) := dk_2 (dk_at dksX0_humps_1 13 rfl rfl)
theorem dX0_humps_38 : decode cX0_humps 38 = .ok (.istore_n 3, 1) := dk_62 (dk_at dksX0_humps_1 14 rfl rfl)
theorem dX0_humps_39 : decode cX0_humps 39 = .ok (.iconst 0, 1) := dk_3 (dk_at dksX0_humps_1 15 rfl rfl)
theorem dX0_humps_40 : decode cX0_humps 40 = .ok (.istore 4, 2) := dk_54 4 (dk_at dksX0_humps_1 16 rfl rfl)
theorem dX0_humps_42 : decode cX0_humps 42 = .ok (.iload 4, 2) := dk_21 4 (dk_at dksX0_humps_1 18 rfl rfl)
theorem dX0_humps_44 : decode cX0_humps 44 = .ok (.aload_n 0, 1) := dk_42 (dk_at dksX0_humps_1 20 rfl rfl)
theorem dX0_humps_45 : decode cX0_humps 45 = .ok (.getfield 344, 3) := dk_180 1 88 (dk_at dksX0_humps_1 21 rfl rfl)
theorem dX0_humps_48 : decode cX0_humps 48 = .ok (.if_icmp .ge 69, 3) := dk_162 0 69 (dk_at dksX0_humps_2 0 rfl rfl)
theorem dX0_humps_51 : decode cX0_humps 51 = .ok (.iload_n 2, 1) := dk_28 (dk_at dksX0_humps_2 3 rfl rfl)
theorem dX0_humps_52 : decode cX0_humps 52 = .ok (.iconst 3, 1) := dk_6 (dk_at dksX0_humps_2 4 rfl rfl)
theorem dX0_humps_53 : decode cX0_humps 53 = .ok (.if_icmp .ge 16, 3) := dk_162 0 16 (dk_at dksX0_humps_2 5 rfl rfl)
theorem dX0_humps_56 : decode cX0_humps 56 = .ok (.aload_n 0, 1) := dk_42 (dk_at dksX0_humps_2 8 rfl rfl)
theorem dX0_humps_57 : decode cX0_humps 57 = .ok (.getfield 90, 3) := dk_180 0 90 (dk_at dksX0_humps_2 9 rfl rfl)
theorem dX0_humps_60 : decode cX0_humps 60 = .ok (.iload 4, 2) := dk_21 4 (dk_at dksX0_humps_2 12 rfl rfl)
theorem dX0_humps_62 : decode cX0_humps 62 = .ok (.iaload, 1) := dk_46 (dk_at dksX0_humps_2 14 rfl rfl)
theorem dX0_humps_63 : decode cX0_humps 63 = .ok (.invokestatic 331, 3) := dk_184 1 75 (dk_at dksX0_humps_2 15 rfl rfl)
theorem dX0_humps_66 : decode cX0_humps 66 = .ok (.goto 13, 3) := dk_167 0 13 (dk_at dksX0_humps_2 18 rfl rfl)
theorem dX0_humps_69 : decode cX0_humps 69 = .ok (.aload_n 0, 1) := dk_42 (dk_at dksX0_humps_2 21 rfl rfl)
theorem dX0_humps_70 : decode cX0_humps 70 = .ok (.getfield 90, 3) := dk_180 0 90 (dk_at dksX0_humps_3 0 rfl rfl)
theorem dX0_humps_73 : decode cX0_humps 73 = .ok (.iload 4, 2) := dk_21 4 (dk_at dksX0_humps_3 3 rfl rfl)
theorem dX0_humps_75 : decode cX0_humps 75 = .ok (.iaload, 1) := dk_46 (dk_at dksX0_humps_3 5 rfl rfl)
theorem dX0_humps_76 : decode cX0_humps 76 = .ok (.invokestatic 334, 3) := dk_184 1 78 (dk_at dksX0_humps_3 6 rfl rfl)
theorem dX0_humps_79 : decode cX0_humps 79 = .ok (.istore 5, 2) := dk_54 5 (dk_at dksX0_humps_3 9 rfl rfl)
theorem dX0_humps_81 : decode cX0_humps 81 = .ok (.iload_n 3, 1) := dk_29 (dk_at dksX0_humps_3 11 rfl rfl)
theorem dX0_humps_82 : decode cX0_humps 82 = .ok (.iconst (-1), 1) := dk_2 (dk_at dksX0_humps_3 12 rfl rfl)
theorem dX0_humps_83 : decode cX0_humps 83 = .ok (.if_icmp .eq 25, 3) := dk_159 0 25 (dk_at dksX0_humps_3 13 rfl rfl)
theorem dX0_humps_86 : decode cX0_humps 86 = .ok (.iload_n 2, 1) := dk_28 (dk_at dksX0_humps_3 16 rfl rfl)
theorem dX0_humps_87 : decode cX0_humps 87 = .ok (.iconst 2, 1) := dk_5 (dk_at dksX0_humps_3 17 rfl rfl)
theorem dX0_humps_88 : decode cX0_humps 88 = .ok (.irem, 1) := dk_112 (dk_at dksX0_humps_3 18 rfl rfl)
theorem dX0_humps_89 : decode cX0_humps 89 = .ok (.iconst 1, 1) := dk_4 (dk_at dksX0_humps_3 19 rfl rfl)
theorem dX0_humps_90 : decode cX0_humps 90 = .ok (.if_icmp .ne 12, 3) := dk_160 0 12 (dk_at dksX0_humps_3 20 rfl rfl)
theorem dX0_humps_93 : decode cX0_humps 93 = .ok (.iload 5, 2) := dk_21 5 (dk_at dksX0_humps_4 0 rfl rfl)
theorem dX0_humps_95 : decode cX0_humps 95 = .ok (.iload_n 3, 1) := dk_29 (dk_at dksX0_humps_4 2 rfl rfl)
theorem dX0_humps_96 : decode cX0_humps 96 = .ok (.if_icmp .ge 15, 3) := dk_162 0 15 (dk_at dksX0_humps_4 3 rfl rfl)
theorem dX0_humps_99 : decode cX0_humps 99 = .ok (.goto 9, 3) := dk_167 0 9 (dk_at dksX0_humps_4 6 rfl rfl)
theorem dX0_humps_102 : decode cX0_humps 102 = .ok (.iload 5, 2) := dk_21 5 (dk_at dksX0_humps_4 9 rfl rfl)
theorem dX0_humps_104 : decode cX0_humps 104 = .ok (.iload_n 3, 1) := dk_29 (dk_at dksX0_humps_4 11 rfl rfl)
theorem dX0_humps_105 : decode cX0_humps 105 = .ok (.if_icmp .le 6, 3) := dk_164 0 6 (dk_at dksX0_humps_4 12 rfl rfl)
theorem dX0_humps_108 : decode cX0_humps 108 = .ok (.iload 5, 2) := dk_21 5 (dk_at dksX0_humps_4 15 rfl rfl)
theorem dX0_humps_110 : decode cX0_humps 110 = .ok (.istore_n 3, 1) := dk_62 (dk_at dksX0_humps_4 17 rfl rfl)
theorem dX0_humps_111 : decode cX0_humps 111 = .ok (.iinc 4 1, 3) := dk_132 4 1 (dk_at dksX0_humps_4 18 rfl rfl)
theorem dX0_humps_114 : decode cX0_humps 114 = .ok (.goto (-72), 3) := dk_167 255 184 (dk_at dksX0_humps_4 21 rfl rfl)
theorem dX0_humps_117 : decode cX0_humps 117 = .ok (.iload_n 3, 1) := dk_29 (dk_at dksX0_humps_5 0 rfl rfl)
theorem dX0_humps_118 : decode cX0_humps 118 = .ok (.ireturn, 1) := dk_172 (dk_at dksX0_humps_5 1 rfl rfl)
abbrev cX0_findHumps : ByteArray := prog_1_method_39_code
def yX0_findHumps : MethodName := ⟨RX0, "findHumps", "(I)V"⟩
def dkwX0_findHumps_2 : List UInt8 := [132, 2, 1, 167, 255, 214, 177]
abbrev dktX0_findHumps_2 : List UInt8 := dkwX0_findHumps_2 ++ []
def dkwX0_findHumps_1 : List UInt8 := [167, 0, 23, 42, 180, 0, 90, 42, 180, 1, 88, 28, 79, 42, 89, 180, 1, 88, 4, 96, 181, 1, 88]
abbrev dktX0_findHumps_1 : List UInt8 := dkwX0_findHumps_1 ++ dktX0_findHumps_2
def dkwX0_findHumps_0 : List UInt8 := [42, 3, 181, 1, 88, 3, 61, 28, 17, 6, 39, 162, 0, 41, 42, 28, 27, 182, 1, 91, 154, 0, 6]
abbrev dktX0_findHumps_0 : List UInt8 := dkwX0_findHumps_0 ++ dktX0_findHumps_1
theorem dksX0_findHumps_0 : cX0_findHumps.data.toList.drop 0 = dktX0_findHumps_0 := by decide +kernel
theorem dksX0_findHumps_1 : cX0_findHumps.data.toList.drop 23 = dktX0_findHumps_1 := dk_seg dksX0_findHumps_0 23 rfl rfl
theorem dksX0_findHumps_2 : cX0_findHumps.data.toList.drop 46 = dktX0_findHumps_2 := dk_seg dksX0_findHumps_1 23 rfl rfl
theorem dX0_findHumps_0 : decode cX0_findHumps 0 = .ok (.aload_n 0, 1) := dk_42 (dk_at dksX0_findHumps_0 0 rfl rfl)
theorem dX0_findHumps_1 : decode cX0_findHumps 1 = .ok (.iconst 0, 1) := dk_3 (dk_at dksX0_findHumps_0 1 rfl rfl)
theorem dX0_findHumps_2 : decode cX0_findHumps 2 = .ok (.putfield 344, 3) := dk_181 1 88 (dk_at dksX0_findHumps_0 2 rfl rfl)
theorem dX0_findHumps_5 : decode cX0_findHumps 5 = .ok (.iconst 0, 1) := dk_3 (dk_at dksX0_findHumps_0 5 rfl rfl)
theorem dX0_findHumps_6 : decode cX0_findHumps 6 = .ok (.istore_n 2, 1) := dk_61 (dk_at dksX0_findHumps_0 6 rfl rfl)
theorem dX0_findHumps_7 : decode cX0_findHumps 7 = .ok (.iload_n 2, 1) := dk_28 (dk_at dksX0_findHumps_0 7 rfl rfl)
theorem dX0_findHumps_8 : decode cX0_findHumps 8 = .ok (.sipush 1575, 3) := dk_17 6 39 (dk_at dksX0_findHumps_0 8 rfl rfl)
theorem dX0_findHumps_11 : decode cX0_findHumps 11 = .ok (.if_icmp .ge 41, 3) := dk_162 0 41 (dk_at dksX0_findHumps_0 11 rfl rfl)
theorem dX0_findHumps_14 : decode cX0_findHumps 14 = .ok (.aload_n 0, 1) := dk_42 (dk_at dksX0_findHumps_0 14 rfl rfl)
theorem dX0_findHumps_15 : decode cX0_findHumps 15 = .ok (.iload_n 2, 1) := dk_28 (dk_at dksX0_findHumps_0 15 rfl rfl)
theorem dX0_findHumps_16 : decode cX0_findHumps 16 = .ok (.iload_n 1, 1) := dk_27 (dk_at dksX0_findHumps_0 16 rfl rfl)
theorem dX0_findHumps_17 : decode cX0_findHumps 17 = .ok (.invokevirtual 347, 3) := dk_182 1 91 (dk_at dksX0_findHumps_0 17 rfl rfl)
theorem dX0_findHumps_20 : decode cX0_findHumps 20 = .ok (.ifCond .ne 6, 3) := dk_154 0 6 (dk_at dksX0_findHumps_0 20 rfl rfl)
theorem dX0_findHumps_23 : decode cX0_findHumps 23 = .ok (.goto 23, 3) := dk_167 0 23 (dk_at dksX0_findHumps_1 0 rfl rfl)
theorem dX0_findHumps_26 : decode cX0_findHumps 26 = .ok (.aload_n 0, 1) := dk_42 (dk_at dksX0_findHumps_1 3 rfl rfl)
theorem dX0_findHumps_27 : decode cX0_findHumps 27 = .ok (.getfield 90, 3) := dk_180 0 90 (dk_at dksX0_findHumps_1 4 rfl rfl)
theorem dX0_findHumps_30 : decode cX0_findHumps 30 = .ok (.aload_n 0, 1) := dk_42 (dk_at dksX0_findHumps_1 7 rfl rfl)
theorem dX0_findHumps_31 : decode cX0_findHumps 31 = .ok (.getfield 344, 3) := dk_180 1 88 (dk_at dksX0_findHumps_1 8 rfl rfl)
theorem dX0_findHumps_34 : decode cX0_findHumps 34 = .ok (.iload_n 2, 1) := dk_28 (dk_at dksX0_findHumps_1 11 rfl rfl)
theorem dX0_findHumps_35 : decode cX0_findHumps 35 = .ok (.iastore, 1) := dk_79 (dk_at dksX0_findHumps_1 12 rfl rfl)
theorem dX0_findHumps_36 : decode cX0_findHumps 36 = .ok (.aload_n 0, 1) := dk_42 (dk_at dksX0_findHumps_1 13 rfl rfl)
theorem dX0_findHumps_37 : decode cX0_findHumps 37 = .ok (.dup, 1) := dk_89 (dk_at dksX0_findHumps_1 14 rfl rfl)
theorem dX0_findHumps_38 : decode cX0_findHumps 38 = .ok (.getfield 344, 3) := dk_180 1 88 (dk_at dksX0_findHumps_1 15 rfl rfl)
theorem dX0_findHumps_41 : decode cX0_findHumps 41 = .ok (.iconst 1, 1) := dk_4 (dk_at dksX0_findHumps_1 18 rfl rfl)
theorem dX0_findHumps_42 : decode cX0_findHumps 42 = .ok (.iadd, 1) := dk_96 (dk_at dksX0_findHumps_1 19 rfl rfl)
theorem dX0_findHumps_43 : decode cX0_findHumps 43 = .ok (.putfield 344, 3) := dk_181 1 88 (dk_at dksX0_findHumps_1 20 rfl rfl)
theorem dX0_findHumps_46 : decode cX0_findHumps 46 = .ok (.iinc 2 1, 3) := dk_132 2 1 (dk_at dksX0_findHumps_2 0 rfl rfl)
theorem dX0_findHumps_49 : decode cX0_findHumps 49 = .ok (.goto (-42), 3) := dk_167 255 214 (dk_at dksX0_findHumps_2 3 rfl rfl)
theorem dX0_findHumps_52 : decode cX0_findHumps 52 = .ok (.return_, 1) := dk_177 (dk_at dksX0_findHumps_2 6 rfl rfl)
abbrev cX0_fitsHump : ByteArray := prog_1_method_38_code
def yX0_fitsHump : MethodName := ⟨RX0, "fitsHump", "(II)Z"⟩
def dkwX0_fitsHump_5 : List UInt8 := [167, 255, 143, 4, 172]
abbrev dktX0_fitsHump_5 : List UInt8 := dkwX0_fitsHump_5 ++ []
def dkwX0_fitsHump_4 : List UInt8 := [184, 1, 85, 21, 4, 4, 160, 0, 7, 4, 167, 0, 4, 3, 159, 0, 5, 3, 172, 132, 3, 1]
abbrev dktX0_fitsHump_4 : List UInt8 := dkwX0_fitsHump_4 ++ dktX0_fitsHump_5
def dkwX0_fitsHump_3 : List UInt8 := [46, 54, 4, 132, 5, 1, 167, 255, 213, 27, 42, 180, 0, 72, 29, 46, 42, 180, 0, 75, 29, 46]
abbrev dktX0_fitsHump_3 : List UInt8 := dkwX0_fitsHump_3 ++ dktX0_fitsHump_4
def dkwX0_fitsHump_2 : List UInt8 := [21, 5, 46, 29, 160, 0, 23, 42, 180, 0, 81, 21, 5, 46, 28, 163, 0, 12, 42, 180, 0, 87, 21, 5]
abbrev dktX0_fitsHump_2 : List UInt8 := dkwX0_fitsHump_2 ++ dktX0_fitsHump_3
def dkwX0_fitsHump_1 : List UInt8 := [180, 0, 78, 29, 46, 54, 4, 3, 54, 5, 21, 5, 42, 180, 1, 72, 162, 0, 40, 42, 180, 0, 84]
abbrev dktX0_fitsHump_1 : List UInt8 := dkwX0_fitsHump_1 ++ dktX0_fitsHump_2
def dkwX0_fitsHump_0 : List UInt8 := [3, 62, 29, 42, 180, 1, 69, 162, 0, 111, 42, 180, 0, 69, 29, 46, 28, 164, 0, 6, 167, 0, 92, 42]
abbrev dktX0_fitsHump_0 : List UInt8 := dkwX0_fitsHump_0 ++ dktX0_fitsHump_1
theorem dksX0_fitsHump_0 : cX0_fitsHump.data.toList.drop 0 = dktX0_fitsHump_0 := by decide +kernel
theorem dksX0_fitsHump_1 : cX0_fitsHump.data.toList.drop 24 = dktX0_fitsHump_1 := dk_seg dksX0_fitsHump_0 24 rfl rfl
theorem dksX0_fitsHump_2 : cX0_fitsHump.data.toList.drop 47 = dktX0_fitsHump_2 := dk_seg dksX0_fitsHump_1 23 rfl rfl
theorem dksX0_fitsHump_3 : cX0_fitsHump.data.toList.drop 71 = dktX0_fitsHump_3 := dk_seg dksX0_fitsHump_2 24 rfl rfl
theorem dksX0_fitsHump_4 : cX0_fitsHump.data.toList.drop 93 = dktX0_fitsHump_4 := dk_seg dksX0_fitsHump_3 22 rfl rfl
theorem dksX0_fitsHump_5 : cX0_fitsHump.data.toList.drop 115 = dktX0_fitsHump_5 := dk_seg dksX0_fitsHump_4 22 rfl rfl
theorem dX0_fitsHump_0 : decode cX0_fitsHump 0 = .ok (.iconst 0, 1) := dk_3 (dk_at dksX0_fitsHump_0 0 rfl rfl)
theorem dX0_fitsHump_1 : decode cX0_fitsHump 1 = .ok (.istore_n 3, 1) := dk_62 (dk_at dksX0_fitsHump_0 1 rfl rfl)
theorem dX0_fitsHump_2 : decode cX0_fitsHump 2 = .ok (.iload_n 3, 1) := dk_29 (dk_at dksX0_fitsHump_0 2 rfl rfl)
theorem dX0_fitsHump_3 : decode cX0_fitsHump 3 = .ok (.aload_n 0, 1) := dk_42 (dk_at dksX0_fitsHump_0 3 rfl rfl)
theorem dX0_fitsHump_4 : decode cX0_fitsHump 4 = .ok (.getfield 325, 3) := dk_180 1 69 (dk_at dksX0_fitsHump_0 4 rfl rfl)
theorem dX0_fitsHump_7 : decode cX0_fitsHump 7 = .ok (.if_icmp .ge 111, 3) := dk_162 0 111 (dk_at dksX0_fitsHump_0 7 rfl rfl)
theorem dX0_fitsHump_10 : decode cX0_fitsHump 10 = .ok (.aload_n 0, 1) := dk_42 (dk_at dksX0_fitsHump_0 10 rfl rfl)
theorem dX0_fitsHump_11 : decode cX0_fitsHump 11 = .ok (.getfield 69, 3) := dk_180 0 69 (dk_at dksX0_fitsHump_0 11 rfl rfl)
theorem dX0_fitsHump_14 : decode cX0_fitsHump 14 = .ok (.iload_n 3, 1) := dk_29 (dk_at dksX0_fitsHump_0 14 rfl rfl)
theorem dX0_fitsHump_15 : decode cX0_fitsHump 15 = .ok (.iaload, 1) := dk_46 (dk_at dksX0_fitsHump_0 15 rfl rfl)
theorem dX0_fitsHump_16 : decode cX0_fitsHump 16 = .ok (.iload_n 2, 1) := dk_28 (dk_at dksX0_fitsHump_0 16 rfl rfl)
theorem dX0_fitsHump_17 : decode cX0_fitsHump 17 = .ok (.if_icmp .le 6, 3) := dk_164 0 6 (dk_at dksX0_fitsHump_0 17 rfl rfl)
theorem dX0_fitsHump_20 : decode cX0_fitsHump 20 = .ok (.goto 92, 3) := dk_167 0 92 (dk_at dksX0_fitsHump_0 20 rfl rfl)
theorem dX0_fitsHump_23 : decode cX0_fitsHump 23 = .ok (.aload_n 0, 1) := dk_42 (dk_at dksX0_fitsHump_0 23 rfl rfl)
theorem dX0_fitsHump_24 : decode cX0_fitsHump 24 = .ok (.getfield 78, 3) := dk_180 0 78 (dk_at dksX0_fitsHump_1 0 rfl rfl)
theorem dX0_fitsHump_27 : decode cX0_fitsHump 27 = .ok (.iload_n 3, 1) := dk_29 (dk_at dksX0_fitsHump_1 3 rfl rfl)
theorem dX0_fitsHump_28 : decode cX0_fitsHump 28 = .ok (.iaload, 1) := dk_46 (dk_at dksX0_fitsHump_1 4 rfl rfl)
theorem dX0_fitsHump_29 : decode cX0_fitsHump 29 = .ok (.istore 4, 2) := dk_54 4 (dk_at dksX0_fitsHump_1 5 rfl rfl)
theorem dX0_fitsHump_31 : decode cX0_fitsHump 31 = .ok (.iconst 0, 1) := dk_3 (dk_at dksX0_fitsHump_1 7 rfl rfl)
theorem dX0_fitsHump_32 : decode cX0_fitsHump 32 = .ok (.istore 5, 2) := dk_54 5 (dk_at dksX0_fitsHump_1 8 rfl rfl)
theorem dX0_fitsHump_34 : decode cX0_fitsHump 34 = .ok (.iload 5, 2) := dk_21 5 (dk_at dksX0_fitsHump_1 10 rfl rfl)
theorem dX0_fitsHump_36 : decode cX0_fitsHump 36 = .ok (.aload_n 0, 1) := dk_42 (dk_at dksX0_fitsHump_1 12 rfl rfl)
theorem dX0_fitsHump_37 : decode cX0_fitsHump 37 = .ok (.getfield 328, 3) := dk_180 1 72 (dk_at dksX0_fitsHump_1 13 rfl rfl)
theorem dX0_fitsHump_40 : decode cX0_fitsHump 40 = .ok (.if_icmp .ge 40, 3) := dk_162 0 40 (dk_at dksX0_fitsHump_1 16 rfl rfl)
theorem dX0_fitsHump_43 : decode cX0_fitsHump 43 = .ok (.aload_n 0, 1) := dk_42 (dk_at dksX0_fitsHump_1 19 rfl rfl)
theorem dX0_fitsHump_44 : decode cX0_fitsHump 44 = .ok (.getfield 84, 3) := dk_180 0 84 (dk_at dksX0_fitsHump_1 20 rfl rfl)
theorem dX0_fitsHump_47 : decode cX0_fitsHump 47 = .ok (.iload 5, 2) := dk_21 5 (dk_at dksX0_fitsHump_2 0 rfl rfl)
theorem dX0_fitsHump_49 : decode cX0_fitsHump 49 = .ok (.iaload, 1) := dk_46 (dk_at dksX0_fitsHump_2 2 rfl rfl)
theorem dX0_fitsHump_50 : decode cX0_fitsHump 50 = .ok (.iload_n 3, 1) := dk_29 (dk_at dksX0_fitsHump_2 3 rfl rfl)
theorem dX0_fitsHump_51 : decode cX0_fitsHump 51 = .ok (.if_icmp .ne 23, 3) := dk_160 0 23 (dk_at dksX0_fitsHump_2 4 rfl rfl)
theorem dX0_fitsHump_54 : decode cX0_fitsHump 54 = .ok (.aload_n 0, 1) := dk_42 (dk_at dksX0_fitsHump_2 7 rfl rfl)
theorem dX0_fitsHump_55 : decode cX0_fitsHump 55 = .ok (.getfield 81, 3) := dk_180 0 81 (dk_at dksX0_fitsHump_2 8 rfl rfl)
theorem dX0_fitsHump_58 : decode cX0_fitsHump 58 = .ok (.iload 5, 2) := dk_21 5 (dk_at dksX0_fitsHump_2 11 rfl rfl)
theorem dX0_fitsHump_60 : decode cX0_fitsHump 60 = .ok (.iaload, 1) := dk_46 (dk_at dksX0_fitsHump_2 13 rfl rfl)
theorem dX0_fitsHump_61 : decode cX0_fitsHump 61 = .ok (.iload_n 2, 1) := dk_28 (dk_at dksX0_fitsHump_2 14 rfl rfl)
theorem dX0_fitsHump_62 : decode cX0_fitsHump 62 = .ok (.if_icmp .gt 12, 3) := dk_163 0 12 (dk_at dksX0_fitsHump_2 15 rfl rfl)
theorem dX0_fitsHump_65 : decode cX0_fitsHump 65 = .ok (.aload_n 0, 1) := dk_42 (dk_at dksX0_fitsHump_2 18 rfl rfl)
theorem dX0_fitsHump_66 : decode cX0_fitsHump 66 = .ok (.getfield 87, 3) := dk_180 0 87 (dk_at dksX0_fitsHump_2 19 rfl rfl)
theorem dX0_fitsHump_69 : decode cX0_fitsHump 69 = .ok (.iload 5, 2) := dk_21 5 (dk_at dksX0_fitsHump_2 22 rfl rfl)
theorem dX0_fitsHump_71 : decode cX0_fitsHump 71 = .ok (.iaload, 1) := dk_46 (dk_at dksX0_fitsHump_3 0 rfl rfl)
theorem dX0_fitsHump_72 : decode cX0_fitsHump 72 = .ok (.istore 4, 2) := dk_54 4 (dk_at dksX0_fitsHump_3 1 rfl rfl)
theorem dX0_fitsHump_74 : decode cX0_fitsHump 74 = .ok (.iinc 5 1, 3) := dk_132 5 1 (dk_at dksX0_fitsHump_3 3 rfl rfl)
theorem dX0_fitsHump_77 : decode cX0_fitsHump 77 = .ok (.goto (-43), 3) := dk_167 255 213 (dk_at dksX0_fitsHump_3 6 rfl rfl)
theorem dX0_fitsHump_80 : decode cX0_fitsHump 80 = .ok (.iload_n 1, 1) := dk_27 (dk_at dksX0_fitsHump_3 9 rfl rfl)
theorem dX0_fitsHump_81 : decode cX0_fitsHump 81 = .ok (.aload_n 0, 1) := dk_42 (dk_at dksX0_fitsHump_3 10 rfl rfl)
theorem dX0_fitsHump_82 : decode cX0_fitsHump 82 = .ok (.getfield 72, 3) := dk_180 0 72 (dk_at dksX0_fitsHump_3 11 rfl rfl)
theorem dX0_fitsHump_85 : decode cX0_fitsHump 85 = .ok (.iload_n 3, 1) := dk_29 (dk_at dksX0_fitsHump_3 14 rfl rfl)
theorem dX0_fitsHump_86 : decode cX0_fitsHump 86 = .ok (.iaload, 1) := dk_46 (dk_at dksX0_fitsHump_3 15 rfl rfl)
theorem dX0_fitsHump_87 : decode cX0_fitsHump 87 = .ok (.aload_n 0, 1) := dk_42 (dk_at dksX0_fitsHump_3 16 rfl rfl)
theorem dX0_fitsHump_88 : decode cX0_fitsHump 88 = .ok (.getfield 75, 3) := dk_180 0 75 (dk_at dksX0_fitsHump_3 17 rfl rfl)
theorem dX0_fitsHump_91 : decode cX0_fitsHump 91 = .ok (.iload_n 3, 1) := dk_29 (dk_at dksX0_fitsHump_3 20 rfl rfl)
theorem dX0_fitsHump_92 : decode cX0_fitsHump 92 = .ok (.iaload, 1) := dk_46 (dk_at dksX0_fitsHump_3 21 rfl rfl)
theorem dX0_fitsHump_93 : decode cX0_fitsHump 93 = .ok (.invokestatic 341, 3) := dk_184 1 85 (dk_at dksX0_fitsHump_4 0 rfl rfl)
theorem dX0_fitsHump_96 : decode cX0_fitsHump 96 = .ok (.iload 4, 2) := dk_21 4 (dk_at dksX0_fitsHump_4 3 rfl rfl)
theorem dX0_fitsHump_98 : decode cX0_fitsHump 98 = .ok (.iconst 1, 1) := dk_4 (dk_at dksX0_fitsHump_4 5 rfl rfl)
theorem dX0_fitsHump_99 : decode cX0_fitsHump 99 = .ok (.if_icmp .ne 7, 3) := dk_160 0 7 (dk_at dksX0_fitsHump_4 6 rfl rfl)
theorem dX0_fitsHump_102 : decode cX0_fitsHump 102 = .ok (.iconst 1, 1) := dk_4 (dk_at dksX0_fitsHump_4 9 rfl rfl)
theorem dX0_fitsHump_103 : decode cX0_fitsHump 103 = .ok (.goto 4, 3) := dk_167 0 4 (dk_at dksX0_fitsHump_4 10 rfl rfl)
theorem dX0_fitsHump_106 : decode cX0_fitsHump 106 = .ok (.iconst 0, 1) := dk_3 (dk_at dksX0_fitsHump_4 13 rfl rfl)
theorem dX0_fitsHump_107 : decode cX0_fitsHump 107 = .ok (.if_icmp .eq 5, 3) := dk_159 0 5 (dk_at dksX0_fitsHump_4 14 rfl rfl)
theorem dX0_fitsHump_110 : decode cX0_fitsHump 110 = .ok (.iconst 0, 1) := dk_3 (dk_at dksX0_fitsHump_4 17 rfl rfl)
theorem dX0_fitsHump_111 : decode cX0_fitsHump 111 = .ok (.ireturn, 1) := dk_172 (dk_at dksX0_fitsHump_4 18 rfl rfl)
theorem dX0_fitsHump_112 : decode cX0_fitsHump 112 = .ok (.iinc 3 1, 3) := dk_132 3 1 (dk_at dksX0_fitsHump_4 19 rfl rfl)
theorem dX0_fitsHump_115 : decode cX0_fitsHump 115 = .ok (.goto (-113), 3) := dk_167 255 143 (dk_at dksX0_fitsHump_5 0 rfl rfl)
theorem dX0_fitsHump_118 : decode cX0_fitsHump 118 = .ok (.iconst 1, 1) := dk_4 (dk_at dksX0_fitsHump_5 3 rfl rfl)
theorem dX0_fitsHump_119 : decode cX0_fitsHump 119 = .ok (.ireturn, 1) := dk_172 (dk_at dksX0_fitsHump_5 4 rfl rfl)
abbrev cX0_stands : ByteArray := prog_1_method_37_code
def yX0_stands : MethodName := ⟨RX0, "stands", "(III)Z"⟩
def dkwX0_stands_1 : List UInt8 := [167, 0, 4, 3, 172]
abbrev dktX0_stands_1 : List UInt8 := dkwX0_stands_1 ++ []
def dkwX0_stands_0 : List UInt8 := [28, 4, 27, 26, 184, 1, 75, 26, 184, 1, 78, 4, 26, 8, 112, 96, 184, 1, 81, 96, 163, 0, 7, 4]
abbrev dktX0_stands_0 : List UInt8 := dkwX0_stands_0 ++ dktX0_stands_1
theorem dksX0_stands_0 : cX0_stands.data.toList.drop 0 = dktX0_stands_0 := by decide +kernel
theorem dksX0_stands_1 : cX0_stands.data.toList.drop 24 = dktX0_stands_1 := dk_seg dksX0_stands_0 24 rfl rfl
theorem dX0_stands_0 : decode cX0_stands 0 = .ok (.iload_n 2, 1) := dk_28 (dk_at dksX0_stands_0 0 rfl rfl)
theorem dX0_stands_1 : decode cX0_stands 1 = .ok (.iconst 1, 1) := dk_4 (dk_at dksX0_stands_0 1 rfl rfl)
theorem dX0_stands_2 : decode cX0_stands 2 = .ok (.iload_n 1, 1) := dk_27 (dk_at dksX0_stands_0 2 rfl rfl)
theorem dX0_stands_3 : decode cX0_stands 3 = .ok (.iload_n 0, 1) := dk_26 (dk_at dksX0_stands_0 3 rfl rfl)
theorem dX0_stands_4 : decode cX0_stands 4 = .ok (.invokestatic 331, 3) := dk_184 1 75 (dk_at dksX0_stands_0 4 rfl rfl)
theorem dX0_stands_7 : decode cX0_stands 7 = .ok (.iload_n 0, 1) := dk_26 (dk_at dksX0_stands_0 7 rfl rfl)
theorem dX0_stands_8 : decode cX0_stands 8 = .ok (.invokestatic 334, 3) := dk_184 1 78 (dk_at dksX0_stands_0 8 rfl rfl)
theorem dX0_stands_11 : decode cX0_stands 11 = .ok (.iconst 1, 1) := dk_4 (dk_at dksX0_stands_0 11 rfl rfl)
theorem dX0_stands_12 : decode cX0_stands 12 = .ok (.iload_n 0, 1) := dk_26 (dk_at dksX0_stands_0 12 rfl rfl)
theorem dX0_stands_13 : decode cX0_stands 13 = .ok (.iconst 5, 1) := dk_8 (dk_at dksX0_stands_0 13 rfl rfl)
theorem dX0_stands_14 : decode cX0_stands 14 = .ok (.irem, 1) := dk_112 (dk_at dksX0_stands_0 14 rfl rfl)
theorem dX0_stands_15 : decode cX0_stands 15 = .ok (.iadd, 1) := dk_96 (dk_at dksX0_stands_0 15 rfl rfl)
theorem dX0_stands_16 : decode cX0_stands 16 = .ok (.invokestatic 337, 3) := dk_184 1 81 (dk_at dksX0_stands_0 16 rfl rfl)
theorem dX0_stands_19 : decode cX0_stands 19 = .ok (.iadd, 1) := dk_96 (dk_at dksX0_stands_0 19 rfl rfl)
theorem dX0_stands_20 : decode cX0_stands 20 = .ok (.if_icmp .gt 7, 3) := dk_163 0 7 (dk_at dksX0_stands_0 20 rfl rfl)
theorem dX0_stands_23 : decode cX0_stands 23 = .ok (.iconst 1, 1) := dk_4 (dk_at dksX0_stands_0 23 rfl rfl)
theorem dX0_stands_24 : decode cX0_stands 24 = .ok (.goto 4, 3) := dk_167 0 4 (dk_at dksX0_stands_1 0 rfl rfl)
theorem dX0_stands_27 : decode cX0_stands 27 = .ok (.iconst 0, 1) := dk_3 (dk_at dksX0_stands_1 3 rfl rfl)
theorem dX0_stands_28 : decode cX0_stands 28 = .ok (.ireturn, 1) := dk_172 (dk_at dksX0_stands_1 4 rfl rfl)
abbrev cX0_bestOf : ByteArray := prog_1_method_35_code
def yX0_bestOf : MethodName := ⟨RX0, "bestOf", "(I)I"⟩
def dkwX0_bestOf_0 : List UInt8 := [4, 26, 16, 105, 108, 96, 172]
abbrev dktX0_bestOf_0 : List UInt8 := dkwX0_bestOf_0 ++ []
theorem dksX0_bestOf_0 : cX0_bestOf.data.toList.drop 0 = dktX0_bestOf_0 := by decide +kernel
theorem dX0_bestOf_0 : decode cX0_bestOf 0 = .ok (.iconst 1, 1) := dk_4 (dk_at dksX0_bestOf_0 0 rfl rfl)
theorem dX0_bestOf_1 : decode cX0_bestOf 1 = .ok (.iload_n 0, 1) := dk_26 (dk_at dksX0_bestOf_0 1 rfl rfl)
theorem dX0_bestOf_2 : decode cX0_bestOf 2 = .ok (.bipush 105, 2) := dk_16 105 (dk_at dksX0_bestOf_0 2 rfl rfl)
theorem dX0_bestOf_4 : decode cX0_bestOf 4 = .ok (.idiv, 1) := dk_108 (dk_at dksX0_bestOf_0 4 rfl rfl)
theorem dX0_bestOf_5 : decode cX0_bestOf 5 = .ok (.iadd, 1) := dk_96 (dk_at dksX0_bestOf_0 5 rfl rfl)
theorem dX0_bestOf_6 : decode cX0_bestOf 6 = .ok (.ireturn, 1) := dk_172 (dk_at dksX0_bestOf_0 6 rfl rfl)
abbrev cX0_topOf : ByteArray := prog_1_method_36_code
def yX0_topOf : MethodName := ⟨RX0, "topOf", "(I)I"⟩
def dkwX0_topOf_0 : List UInt8 := [26, 8, 108, 16, 21, 112, 172]
abbrev dktX0_topOf_0 : List UInt8 := dkwX0_topOf_0 ++ []
theorem dksX0_topOf_0 : cX0_topOf.data.toList.drop 0 = dktX0_topOf_0 := by decide +kernel
theorem dX0_topOf_0 : decode cX0_topOf 0 = .ok (.iload_n 0, 1) := dk_26 (dk_at dksX0_topOf_0 0 rfl rfl)
theorem dX0_topOf_1 : decode cX0_topOf 1 = .ok (.iconst 5, 1) := dk_8 (dk_at dksX0_topOf_0 1 rfl rfl)
theorem dX0_topOf_2 : decode cX0_topOf 2 = .ok (.idiv, 1) := dk_108 (dk_at dksX0_topOf_0 2 rfl rfl)
theorem dX0_topOf_3 : decode cX0_topOf 3 = .ok (.bipush 21, 2) := dk_16 21 (dk_at dksX0_topOf_0 3 rfl rfl)
theorem dX0_topOf_5 : decode cX0_topOf 5 = .ok (.irem, 1) := dk_112 (dk_at dksX0_topOf_0 5 rfl rfl)
theorem dX0_topOf_6 : decode cX0_topOf 6 = .ok (.ireturn, 1) := dk_172 (dk_at dksX0_topOf_0 6 rfl rfl)
abbrev cX0_next : ByteArray := prog_1_method_41_code
def yX0_next : MethodName := ⟨RX0, "next", "()I"⟩
def dkwX0_next_5 : List UInt8 := [132, 3, 1, 167, 255, 150, 27, 172]
abbrev dktX0_next_5 : List UInt8 := dkwX0_next_5 ++ []
def dkwX0_next_4 : List UInt8 := [28, 161, 0, 6, 167, 0, 14, 21, 6, 61, 16, 100, 29, 104, 21, 4, 96, 60, 132, 4, 1, 167, 255, 165]
abbrev dktX0_next_4 : List UInt8 := dkwX0_next_4 ++ dktX0_next_5
def dkwX0_next_3 : List UInt8 := [54, 5, 132, 6, 1, 167, 255, 218, 21, 5, 42, 180, 1, 88, 21, 5, 100, 184, 1, 97, 54, 6, 21, 6]
abbrev dktX0_next_3 : List UInt8 := dkwX0_next_3 ++ dktX0_next_4
def dkwX0_next_2 : List UInt8 := [21, 5, 42, 180, 0, 90, 21, 6, 46, 29, 21, 4, 184, 1, 85, 153, 0, 7, 4, 167, 0, 4, 3, 96]
abbrev dktX0_next_2 : List UInt8 := dkwX0_next_2 ++ dktX0_next_3
def dkwX0_next_1 : List UInt8 := [54, 4, 21, 4, 16, 30, 163, 0, 90, 3, 54, 5, 3, 54, 6, 21, 6, 42, 180, 1, 88, 162, 0, 35]
abbrev dktX0_next_1 : List UInt8 := dkwX0_next_1 ++ dktX0_next_2
def dkwX0_next_0 : List UInt8 := [42, 17, 3, 231, 182, 1, 94, 2, 60, 42, 180, 1, 88, 61, 4, 62, 29, 16, 15, 163, 0, 106, 4]
abbrev dktX0_next_0 : List UInt8 := dkwX0_next_0 ++ dktX0_next_1
theorem dksX0_next_0 : cX0_next.data.toList.drop 0 = dktX0_next_0 := by decide +kernel
theorem dksX0_next_1 : cX0_next.data.toList.drop 23 = dktX0_next_1 := dk_seg dksX0_next_0 23 rfl rfl
theorem dksX0_next_2 : cX0_next.data.toList.drop 47 = dktX0_next_2 := dk_seg dksX0_next_1 24 rfl rfl
theorem dksX0_next_3 : cX0_next.data.toList.drop 71 = dktX0_next_3 := dk_seg dksX0_next_2 24 rfl rfl
theorem dksX0_next_4 : cX0_next.data.toList.drop 95 = dktX0_next_4 := dk_seg dksX0_next_3 24 rfl rfl
theorem dksX0_next_5 : cX0_next.data.toList.drop 119 = dktX0_next_5 := dk_seg dksX0_next_4 24 rfl rfl
theorem dX0_next_0 : decode cX0_next 0 = .ok (.aload_n 0, 1) := dk_42 (dk_at dksX0_next_0 0 rfl rfl)
theorem dX0_next_1 : decode cX0_next 1 = .ok (.sipush 999, 3) := dk_17 3 231 (dk_at dksX0_next_0 1 rfl rfl)
theorem dX0_next_4 : decode cX0_next 4 = .ok (.invokevirtual 350, 3) := dk_182 1 94 (dk_at dksX0_next_0 4 rfl rfl)
theorem dX0_next_7 : decode cX0_next 7 = .ok (.iconst (-1), 1) := dk_2 (dk_at dksX0_next_0 7 rfl rfl)
theorem dX0_next_8 : decode cX0_next 8 = .ok (.istore_n 1, 1) := dk_60 (dk_at dksX0_next_0 8 rfl rfl)
theorem dX0_next_9 : decode cX0_next 9 = .ok (.aload_n 0, 1) := dk_42 (dk_at dksX0_next_0 9 rfl rfl)
theorem dX0_next_10 : decode cX0_next 10 = .ok (.getfield 344, 3) := dk_180 1 88 (dk_at dksX0_next_0 10 rfl rfl)
theorem dX0_next_13 : decode cX0_next 13 = .ok (.istore_n 2, 1) := dk_61 (dk_at dksX0_next_0 13 rfl rfl)
theorem dX0_next_14 : decode cX0_next 14 = .ok (.iconst 1, 1) := dk_4 (dk_at dksX0_next_0 14 rfl rfl)
theorem dX0_next_15 : decode cX0_next 15 = .ok (.istore_n 3, 1) := dk_62 (dk_at dksX0_next_0 15 rfl rfl)
theorem dX0_next_16 : decode cX0_next 16 = .ok (.iload_n 3, 1) := dk_29 (dk_at dksX0_next_0 16 rfl rfl)
theorem dX0_next_17 : decode cX0_next 17 = .ok (.bipush 15, 2) := dk_16 15 (dk_at dksX0_next_0 17 rfl rfl)
theorem dX0_next_19 : decode cX0_next 19 = .ok (.if_icmp .gt 106, 3) := dk_163 0 106 (dk_at dksX0_next_0 19 rfl rfl)
theorem dX0_next_22 : decode cX0_next 22 = .ok (.iconst 1, 1) := dk_4 (dk_at dksX0_next_0 22 rfl rfl)
theorem dX0_next_23 : decode cX0_next 23 = .ok (.istore 4, 2) := dk_54 4 (dk_at dksX0_next_1 0 rfl rfl)
theorem dX0_next_25 : decode cX0_next 25 = .ok (.iload 4, 2) := dk_21 4 (dk_at dksX0_next_1 2 rfl rfl)
theorem dX0_next_27 : decode cX0_next 27 = .ok (.bipush 30, 2) := dk_16 30 (dk_at dksX0_next_1 4 rfl rfl)
theorem dX0_next_29 : decode cX0_next 29 = .ok (.if_icmp .gt 90, 3) := dk_163 0 90 (dk_at dksX0_next_1 6 rfl rfl)
theorem dX0_next_32 : decode cX0_next 32 = .ok (.iconst 0, 1) := dk_3 (dk_at dksX0_next_1 9 rfl rfl)
theorem dX0_next_33 : decode cX0_next 33 = .ok (.istore 5, 2) := dk_54 5 (dk_at dksX0_next_1 10 rfl rfl)
theorem dX0_next_35 : decode cX0_next 35 = .ok (.iconst 0, 1) := dk_3 (dk_at dksX0_next_1 12 rfl rfl)
theorem dX0_next_36 : decode cX0_next 36 = .ok (.istore 6, 2) := dk_54 6 (dk_at dksX0_next_1 13 rfl rfl)
theorem dX0_next_38 : decode cX0_next 38 = .ok (.iload 6, 2) := dk_21 6 (dk_at dksX0_next_1 15 rfl rfl)
theorem dX0_next_40 : decode cX0_next 40 = .ok (.aload_n 0, 1) := dk_42 (dk_at dksX0_next_1 17 rfl rfl)
theorem dX0_next_41 : decode cX0_next 41 = .ok (.getfield 344, 3) := dk_180 1 88 (dk_at dksX0_next_1 18 rfl rfl)
theorem dX0_next_44 : decode cX0_next 44 = .ok (.if_icmp .ge 35, 3) := dk_162 0 35 (dk_at dksX0_next_1 21 rfl rfl)
theorem dX0_next_47 : decode cX0_next 47 = .ok (.iload 5, 2) := dk_21 5 (dk_at dksX0_next_2 0 rfl rfl)
theorem dX0_next_49 : decode cX0_next 49 = .ok (.aload_n 0, 1) := dk_42 (dk_at dksX0_next_2 2 rfl rfl)
theorem dX0_next_50 : decode cX0_next 50 = .ok (.getfield 90, 3) := dk_180 0 90 (dk_at dksX0_next_2 3 rfl rfl)
theorem dX0_next_53 : decode cX0_next 53 = .ok (.iload 6, 2) := dk_21 6 (dk_at dksX0_next_2 6 rfl rfl)
theorem dX0_next_55 : decode cX0_next 55 = .ok (.iaload, 1) := dk_46 (dk_at dksX0_next_2 8 rfl rfl)
theorem dX0_next_56 : decode cX0_next 56 = .ok (.iload_n 3, 1) := dk_29 (dk_at dksX0_next_2 9 rfl rfl)
theorem dX0_next_57 : decode cX0_next 57 = .ok (.iload 4, 2) := dk_21 4 (dk_at dksX0_next_2 10 rfl rfl)
theorem dX0_next_59 : decode cX0_next 59 = .ok (.invokestatic 341, 3) := dk_184 1 85 (dk_at dksX0_next_2 12 rfl rfl)
theorem dX0_next_62 : decode cX0_next 62 = .ok (.ifCond .eq 7, 3) := dk_153 0 7 (dk_at dksX0_next_2 15 rfl rfl)
theorem dX0_next_65 : decode cX0_next 65 = .ok (.iconst 1, 1) := dk_4 (dk_at dksX0_next_2 18 rfl rfl)
theorem dX0_next_66 : decode cX0_next 66 = .ok (.goto 4, 3) := dk_167 0 4 (dk_at dksX0_next_2 19 rfl rfl)
theorem dX0_next_69 : decode cX0_next 69 = .ok (.iconst 0, 1) := dk_3 (dk_at dksX0_next_2 22 rfl rfl)
theorem dX0_next_70 : decode cX0_next 70 = .ok (.iadd, 1) := dk_96 (dk_at dksX0_next_2 23 rfl rfl)
theorem dX0_next_71 : decode cX0_next 71 = .ok (.istore 5, 2) := dk_54 5 (dk_at dksX0_next_3 0 rfl rfl)
theorem dX0_next_73 : decode cX0_next 73 = .ok (.iinc 6 1, 3) := dk_132 6 1 (dk_at dksX0_next_3 2 rfl rfl)
theorem dX0_next_76 : decode cX0_next 76 = .ok (.goto (-38), 3) := dk_167 255 218 (dk_at dksX0_next_3 5 rfl rfl)
theorem dX0_next_79 : decode cX0_next 79 = .ok (.iload 5, 2) := dk_21 5 (dk_at dksX0_next_3 8 rfl rfl)
theorem dX0_next_81 : decode cX0_next 81 = .ok (.aload_n 0, 1) := dk_42 (dk_at dksX0_next_3 10 rfl rfl)
theorem dX0_next_82 : decode cX0_next 82 = .ok (.getfield 344, 3) := dk_180 1 88 (dk_at dksX0_next_3 11 rfl rfl)
theorem dX0_next_85 : decode cX0_next 85 = .ok (.iload 5, 2) := dk_21 5 (dk_at dksX0_next_3 14 rfl rfl)
theorem dX0_next_87 : decode cX0_next 87 = .ok (.isub, 1) := dk_100 (dk_at dksX0_next_3 16 rfl rfl)
theorem dX0_next_88 : decode cX0_next 88 = .ok (.invokestatic 353, 3) := dk_184 1 97 (dk_at dksX0_next_3 17 rfl rfl)
theorem dX0_next_91 : decode cX0_next 91 = .ok (.istore 6, 2) := dk_54 6 (dk_at dksX0_next_3 20 rfl rfl)
theorem dX0_next_93 : decode cX0_next 93 = .ok (.iload 6, 2) := dk_21 6 (dk_at dksX0_next_3 22 rfl rfl)
theorem dX0_next_95 : decode cX0_next 95 = .ok (.iload_n 2, 1) := dk_28 (dk_at dksX0_next_4 0 rfl rfl)
theorem dX0_next_96 : decode cX0_next 96 = .ok (.if_icmp .lt 6, 3) := dk_161 0 6 (dk_at dksX0_next_4 1 rfl rfl)
theorem dX0_next_99 : decode cX0_next 99 = .ok (.goto 14, 3) := dk_167 0 14 (dk_at dksX0_next_4 4 rfl rfl)
theorem dX0_next_102 : decode cX0_next 102 = .ok (.iload 6, 2) := dk_21 6 (dk_at dksX0_next_4 7 rfl rfl)
theorem dX0_next_104 : decode cX0_next 104 = .ok (.istore_n 2, 1) := dk_61 (dk_at dksX0_next_4 9 rfl rfl)
theorem dX0_next_105 : decode cX0_next 105 = .ok (.bipush 100, 2) := dk_16 100 (dk_at dksX0_next_4 10 rfl rfl)
theorem dX0_next_107 : decode cX0_next 107 = .ok (.iload_n 3, 1) := dk_29 (dk_at dksX0_next_4 12 rfl rfl)
theorem dX0_next_108 : decode cX0_next 108 = .ok (.imul, 1) := dk_104 (dk_at dksX0_next_4 13 rfl rfl)
theorem dX0_next_109 : decode cX0_next 109 = .ok (.iload 4, 2) := dk_21 4 (dk_at dksX0_next_4 14 rfl rfl)
theorem dX0_next_111 : decode cX0_next 111 = .ok (.iadd, 1) := dk_96 (dk_at dksX0_next_4 16 rfl rfl)
theorem dX0_next_112 : decode cX0_next 112 = .ok (.istore_n 1, 1) := dk_60 (dk_at dksX0_next_4 17 rfl rfl)
theorem dX0_next_113 : decode cX0_next 113 = .ok (.iinc 4 1, 3) := dk_132 4 1 (dk_at dksX0_next_4 18 rfl rfl)
theorem dX0_next_116 : decode cX0_next 116 = .ok (.goto (-91), 3) := dk_167 255 165 (dk_at dksX0_next_4 21 rfl rfl)
theorem dX0_next_119 : decode cX0_next 119 = .ok (.iinc 3 1, 3) := dk_132 3 1 (dk_at dksX0_next_5 0 rfl rfl)
theorem dX0_next_122 : decode cX0_next 122 = .ok (.goto (-106), 3) := dk_167 255 150 (dk_at dksX0_next_5 3 rfl rfl)
theorem dX0_next_125 : decode cX0_next 125 = .ok (.iload_n 1, 1) := dk_27 (dk_at dksX0_next_5 6 rfl rfl)
theorem dX0_next_126 : decode cX0_next 126 = .ok (.ireturn, 1) := dk_172 (dk_at dksX0_next_5 7 rfl rfl)
abbrev cX0_last : ByteArray := prog_1_method_46_code
def yX0_last : MethodName := ⟨RX0, "last", "(IIII)I"⟩
def dkwX0_last_1 : List UInt8 := [184, 1, 109, 153, 0, 15, 42, 27, 28, 29, 21, 4, 182, 1, 112, 167, 0, 5, 16, 254, 172]
abbrev dktX0_last_1 : List UInt8 := dkwX0_last_1 ++ []
def dkwX0_last_0 : List UInt8 := [42, 27, 182, 1, 17, 153, 0, 37, 28, 2, 159, 0, 11, 42, 28, 182, 0, 220, 153, 0, 24, 29, 21, 4]
abbrev dktX0_last_0 : List UInt8 := dkwX0_last_0 ++ dktX0_last_1
theorem dksX0_last_0 : cX0_last.data.toList.drop 0 = dktX0_last_0 := by decide +kernel
theorem dksX0_last_1 : cX0_last.data.toList.drop 24 = dktX0_last_1 := dk_seg dksX0_last_0 24 rfl rfl
theorem dX0_last_0 : decode cX0_last 0 = .ok (.aload_n 0, 1) := dk_42 (dk_at dksX0_last_0 0 rfl rfl)
theorem dX0_last_1 : decode cX0_last 1 = .ok (.iload_n 1, 1) := dk_27 (dk_at dksX0_last_0 1 rfl rfl)
theorem dX0_last_2 : decode cX0_last 2 = .ok (.invokevirtual 273, 3) := dk_182 1 17 (dk_at dksX0_last_0 2 rfl rfl)
theorem dX0_last_5 : decode cX0_last 5 = .ok (.ifCond .eq 37, 3) := dk_153 0 37 (dk_at dksX0_last_0 5 rfl rfl)
theorem dX0_last_8 : decode cX0_last 8 = .ok (.iload_n 2, 1) := dk_28 (dk_at dksX0_last_0 8 rfl rfl)
theorem dX0_last_9 : decode cX0_last 9 = .ok (.iconst (-1), 1) := dk_2 (dk_at dksX0_last_0 9 rfl rfl)
theorem dX0_last_10 : decode cX0_last 10 = .ok (.if_icmp .eq 11, 3) := dk_159 0 11 (dk_at dksX0_last_0 10 rfl rfl)
theorem dX0_last_13 : decode cX0_last 13 = .ok (.aload_n 0, 1) := dk_42 (dk_at dksX0_last_0 13 rfl rfl)
theorem dX0_last_14 : decode cX0_last 14 = .ok (.iload_n 2, 1) := dk_28 (dk_at dksX0_last_0 14 rfl rfl)
theorem dX0_last_15 : decode cX0_last 15 = .ok (.invokevirtual 220, 3) := dk_182 0 220 (dk_at dksX0_last_0 15 rfl rfl)
theorem dX0_last_18 : decode cX0_last 18 = .ok (.ifCond .eq 24, 3) := dk_153 0 24 (dk_at dksX0_last_0 18 rfl rfl)
theorem dX0_last_21 : decode cX0_last 21 = .ok (.iload_n 3, 1) := dk_29 (dk_at dksX0_last_0 21 rfl rfl)
theorem dX0_last_22 : decode cX0_last 22 = .ok (.iload 4, 2) := dk_21 4 (dk_at dksX0_last_0 22 rfl rfl)
theorem dX0_last_24 : decode cX0_last 24 = .ok (.invokestatic 365, 3) := dk_184 1 109 (dk_at dksX0_last_1 0 rfl rfl)
theorem dX0_last_27 : decode cX0_last 27 = .ok (.ifCond .eq 15, 3) := dk_153 0 15 (dk_at dksX0_last_1 3 rfl rfl)
theorem dX0_last_30 : decode cX0_last 30 = .ok (.aload_n 0, 1) := dk_42 (dk_at dksX0_last_1 6 rfl rfl)
theorem dX0_last_31 : decode cX0_last 31 = .ok (.iload_n 1, 1) := dk_27 (dk_at dksX0_last_1 7 rfl rfl)
theorem dX0_last_32 : decode cX0_last 32 = .ok (.iload_n 2, 1) := dk_28 (dk_at dksX0_last_1 8 rfl rfl)
theorem dX0_last_33 : decode cX0_last 33 = .ok (.iload_n 3, 1) := dk_29 (dk_at dksX0_last_1 9 rfl rfl)
theorem dX0_last_34 : decode cX0_last 34 = .ok (.iload 4, 2) := dk_21 4 (dk_at dksX0_last_1 10 rfl rfl)
theorem dX0_last_36 : decode cX0_last 36 = .ok (.invokevirtual 368, 3) := dk_182 1 112 (dk_at dksX0_last_1 12 rfl rfl)
theorem dX0_last_39 : decode cX0_last 39 = .ok (.goto 5, 3) := dk_167 0 5 (dk_at dksX0_last_1 15 rfl rfl)
theorem dX0_last_42 : decode cX0_last 42 = .ok (.bipush (-2), 2) := dk_16 254 (dk_at dksX0_last_1 18 rfl rfl)
theorem dX0_last_44 : decode cX0_last 44 = .ok (.ireturn, 1) := dk_172 (dk_at dksX0_last_1 20 rfl rfl)
abbrev cX0_isTrial : ByteArray := prog_1_method_42_code
def yX0_isTrial : MethodName := ⟨RX0, "isTrial", "(II)Z"⟩
def dkwX0_isTrial_0 : List UInt8 := [26, 155, 0, 17, 27, 4, 16, 99, 184, 0, 164, 153, 0, 7, 4, 167, 0, 4, 3, 172]
abbrev dktX0_isTrial_0 : List UInt8 := dkwX0_isTrial_0 ++ []
theorem dksX0_isTrial_0 : cX0_isTrial.data.toList.drop 0 = dktX0_isTrial_0 := by decide +kernel
theorem dX0_isTrial_0 : decode cX0_isTrial 0 = .ok (.iload_n 0, 1) := dk_26 (dk_at dksX0_isTrial_0 0 rfl rfl)
theorem dX0_isTrial_1 : decode cX0_isTrial 1 = .ok (.ifCond .lt 17, 3) := dk_155 0 17 (dk_at dksX0_isTrial_0 1 rfl rfl)
theorem dX0_isTrial_4 : decode cX0_isTrial 4 = .ok (.iload_n 1, 1) := dk_27 (dk_at dksX0_isTrial_0 4 rfl rfl)
theorem dX0_isTrial_5 : decode cX0_isTrial 5 = .ok (.iconst 1, 1) := dk_4 (dk_at dksX0_isTrial_0 5 rfl rfl)
theorem dX0_isTrial_6 : decode cX0_isTrial 6 = .ok (.bipush 99, 2) := dk_16 99 (dk_at dksX0_isTrial_0 6 rfl rfl)
theorem dX0_isTrial_8 : decode cX0_isTrial 8 = .ok (.invokestatic 164, 3) := dk_184 0 164 (dk_at dksX0_isTrial_0 8 rfl rfl)
theorem dX0_isTrial_11 : decode cX0_isTrial 11 = .ok (.ifCond .eq 7, 3) := dk_153 0 7 (dk_at dksX0_isTrial_0 11 rfl rfl)
theorem dX0_isTrial_14 : decode cX0_isTrial 14 = .ok (.iconst 1, 1) := dk_4 (dk_at dksX0_isTrial_0 14 rfl rfl)
theorem dX0_isTrial_15 : decode cX0_isTrial 15 = .ok (.goto 4, 3) := dk_167 0 4 (dk_at dksX0_isTrial_0 15 rfl rfl)
theorem dX0_isTrial_18 : decode cX0_isTrial 18 = .ok (.iconst 0, 1) := dk_3 (dk_at dksX0_isTrial_0 18 rfl rfl)
theorem dX0_isTrial_19 : decode cX0_isTrial 19 = .ok (.ireturn, 1) := dk_172 (dk_at dksX0_isTrial_0 19 rfl rfl)
abbrev cX0_lastBy : ByteArray := prog_1_method_45_code
def yX0_lastBy : MethodName := ⟨RX0, "lastBy", "(IIII)I"⟩
def dkwX0_lastBy_1 : List UInt8 := [132, 5, 1, 167, 255, 239, 42, 27, 21, 4, 182, 1, 106, 172]
abbrev dktX0_lastBy_1 : List UInt8 := dkwX0_lastBy_1 ++ []
def dkwX0_lastBy_0 : List UInt8 := [42, 28, 29, 182, 1, 102, 3, 54, 5, 21, 5, 21, 4, 162, 0, 16, 42, 180, 0, 54, 182, 0, 250]
abbrev dktX0_lastBy_0 : List UInt8 := dkwX0_lastBy_0 ++ dktX0_lastBy_1
theorem dksX0_lastBy_0 : cX0_lastBy.data.toList.drop 0 = dktX0_lastBy_0 := by decide +kernel
theorem dksX0_lastBy_1 : cX0_lastBy.data.toList.drop 23 = dktX0_lastBy_1 := dk_seg dksX0_lastBy_0 23 rfl rfl
theorem dX0_lastBy_0 : decode cX0_lastBy 0 = .ok (.aload_n 0, 1) := dk_42 (dk_at dksX0_lastBy_0 0 rfl rfl)
theorem dX0_lastBy_1 : decode cX0_lastBy 1 = .ok (.iload_n 2, 1) := dk_28 (dk_at dksX0_lastBy_0 1 rfl rfl)
theorem dX0_lastBy_2 : decode cX0_lastBy 2 = .ok (.iload_n 3, 1) := dk_29 (dk_at dksX0_lastBy_0 2 rfl rfl)
theorem dX0_lastBy_3 : decode cX0_lastBy 3 = .ok (.invokevirtual 358, 3) := dk_182 1 102 (dk_at dksX0_lastBy_0 3 rfl rfl)
theorem dX0_lastBy_6 : decode cX0_lastBy 6 = .ok (.iconst 0, 1) := dk_3 (dk_at dksX0_lastBy_0 6 rfl rfl)
theorem dX0_lastBy_7 : decode cX0_lastBy 7 = .ok (.istore 5, 2) := dk_54 5 (dk_at dksX0_lastBy_0 7 rfl rfl)
theorem dX0_lastBy_9 : decode cX0_lastBy 9 = .ok (.iload 5, 2) := dk_21 5 (dk_at dksX0_lastBy_0 9 rfl rfl)
theorem dX0_lastBy_11 : decode cX0_lastBy 11 = .ok (.iload 4, 2) := dk_21 4 (dk_at dksX0_lastBy_0 11 rfl rfl)
theorem dX0_lastBy_13 : decode cX0_lastBy 13 = .ok (.if_icmp .ge 16, 3) := dk_162 0 16 (dk_at dksX0_lastBy_0 13 rfl rfl)
theorem dX0_lastBy_16 : decode cX0_lastBy 16 = .ok (.aload_n 0, 1) := dk_42 (dk_at dksX0_lastBy_0 16 rfl rfl)
theorem dX0_lastBy_17 : decode cX0_lastBy 17 = .ok (.getfield 54, 3) := dk_180 0 54 (dk_at dksX0_lastBy_0 17 rfl rfl)
theorem dX0_lastBy_20 : decode cX0_lastBy 20 = .ok (.invokevirtual 250, 3) := dk_182 0 250 (dk_at dksX0_lastBy_0 20 rfl rfl)
theorem dX0_lastBy_23 : decode cX0_lastBy 23 = .ok (.iinc 5 1, 3) := dk_132 5 1 (dk_at dksX0_lastBy_1 0 rfl rfl)
theorem dX0_lastBy_26 : decode cX0_lastBy 26 = .ok (.goto (-17), 3) := dk_167 255 239 (dk_at dksX0_lastBy_1 3 rfl rfl)
theorem dX0_lastBy_29 : decode cX0_lastBy 29 = .ok (.aload_n 0, 1) := dk_42 (dk_at dksX0_lastBy_1 6 rfl rfl)
theorem dX0_lastBy_30 : decode cX0_lastBy 30 = .ok (.iload_n 1, 1) := dk_27 (dk_at dksX0_lastBy_1 7 rfl rfl)
theorem dX0_lastBy_31 : decode cX0_lastBy 31 = .ok (.iload 4, 2) := dk_21 4 (dk_at dksX0_lastBy_1 8 rfl rfl)
theorem dX0_lastBy_33 : decode cX0_lastBy 33 = .ok (.invokevirtual 362, 3) := dk_182 1 106 (dk_at dksX0_lastBy_1 10 rfl rfl)
theorem dX0_lastBy_36 : decode cX0_lastBy 36 = .ok (.ireturn, 1) := dk_172 (dk_at dksX0_lastBy_1 13 rfl rfl)
abbrev cX0_beginTrial : ByteArray := prog_1_method_43_code
def yX0_beginTrial : MethodName := ⟨RX0, "beginTrial", "(II)V"⟩
def dkwX0_beginTrial_1 : List UInt8 := [133, 181, 0, 243, 177]
abbrev dktX0_beginTrial_1 : List UInt8 := dkwX0_beginTrial_1 ++ []
def dkwX0_beginTrial_0 : List UInt8 := [42, 180, 0, 54, 42, 180, 0, 50, 182, 1, 50, 42, 180, 0, 54, 27, 182, 0, 247, 42, 180, 0, 54, 28]
abbrev dktX0_beginTrial_0 : List UInt8 := dkwX0_beginTrial_0 ++ dktX0_beginTrial_1
theorem dksX0_beginTrial_0 : cX0_beginTrial.data.toList.drop 0 = dktX0_beginTrial_0 := by decide +kernel
theorem dksX0_beginTrial_1 : cX0_beginTrial.data.toList.drop 24 = dktX0_beginTrial_1 := dk_seg dksX0_beginTrial_0 24 rfl rfl
theorem dX0_beginTrial_0 : decode cX0_beginTrial 0 = .ok (.aload_n 0, 1) := dk_42 (dk_at dksX0_beginTrial_0 0 rfl rfl)
theorem dX0_beginTrial_1 : decode cX0_beginTrial 1 = .ok (.getfield 54, 3) := dk_180 0 54 (dk_at dksX0_beginTrial_0 1 rfl rfl)
theorem dX0_beginTrial_4 : decode cX0_beginTrial 4 = .ok (.aload_n 0, 1) := dk_42 (dk_at dksX0_beginTrial_0 4 rfl rfl)
theorem dX0_beginTrial_5 : decode cX0_beginTrial 5 = .ok (.getfield 50, 3) := dk_180 0 50 (dk_at dksX0_beginTrial_0 5 rfl rfl)
theorem dX0_beginTrial_8 : decode cX0_beginTrial 8 = .ok (.invokevirtual 306, 3) := dk_182 1 50 (dk_at dksX0_beginTrial_0 8 rfl rfl)
theorem dX0_beginTrial_11 : decode cX0_beginTrial 11 = .ok (.aload_n 0, 1) := dk_42 (dk_at dksX0_beginTrial_0 11 rfl rfl)
theorem dX0_beginTrial_12 : decode cX0_beginTrial 12 = .ok (.getfield 54, 3) := dk_180 0 54 (dk_at dksX0_beginTrial_0 12 rfl rfl)
theorem dX0_beginTrial_15 : decode cX0_beginTrial 15 = .ok (.iload_n 1, 1) := dk_27 (dk_at dksX0_beginTrial_0 15 rfl rfl)
theorem dX0_beginTrial_16 : decode cX0_beginTrial 16 = .ok (.invokevirtual 247, 3) := dk_182 0 247 (dk_at dksX0_beginTrial_0 16 rfl rfl)
theorem dX0_beginTrial_19 : decode cX0_beginTrial 19 = .ok (.aload_n 0, 1) := dk_42 (dk_at dksX0_beginTrial_0 19 rfl rfl)
theorem dX0_beginTrial_20 : decode cX0_beginTrial 20 = .ok (.getfield 54, 3) := dk_180 0 54 (dk_at dksX0_beginTrial_0 20 rfl rfl)
theorem dX0_beginTrial_23 : decode cX0_beginTrial 23 = .ok (.iload_n 2, 1) := dk_28 (dk_at dksX0_beginTrial_0 23 rfl rfl)
theorem dX0_beginTrial_24 : decode cX0_beginTrial 24 = .ok (.i2l, 1) := dk_133 (dk_at dksX0_beginTrial_1 0 rfl rfl)
theorem dX0_beginTrial_25 : decode cX0_beginTrial 25 = .ok (.putfield 243, 3) := dk_181 0 243 (dk_at dksX0_beginTrial_1 1 rfl rfl)
theorem dX0_beginTrial_28 : decode cX0_beginTrial 28 = .ok (.return_, 1) := dk_177 (dk_at dksX0_beginTrial_1 4 rfl rfl)
abbrev cX0_lastOf : ByteArray := prog_1_method_44_code
def yX0_lastOf : MethodName := ⟨RX0, "lastOf", "(II)I"⟩
def dkwX0_lastOf_1 : List UInt8 := [180, 1, 20, 27, 46, 42, 180, 0, 50, 180, 0, 252, 100, 184, 1, 97, 172]
abbrev dktX0_lastOf_1 : List UInt8 := dkwX0_lastOf_1 ++ []
def dkwX0_lastOf_0 : List UInt8 := [42, 180, 0, 54, 180, 1, 20, 27, 46, 2, 160, 0, 7, 28, 167, 0, 24, 3, 42, 180, 0, 54]
abbrev dktX0_lastOf_0 : List UInt8 := dkwX0_lastOf_0 ++ dktX0_lastOf_1
theorem dksX0_lastOf_0 : cX0_lastOf.data.toList.drop 0 = dktX0_lastOf_0 := by decide +kernel
theorem dksX0_lastOf_1 : cX0_lastOf.data.toList.drop 22 = dktX0_lastOf_1 := dk_seg dksX0_lastOf_0 22 rfl rfl
theorem dX0_lastOf_0 : decode cX0_lastOf 0 = .ok (.aload_n 0, 1) := dk_42 (dk_at dksX0_lastOf_0 0 rfl rfl)
theorem dX0_lastOf_1 : decode cX0_lastOf 1 = .ok (.getfield 54, 3) := dk_180 0 54 (dk_at dksX0_lastOf_0 1 rfl rfl)
theorem dX0_lastOf_4 : decode cX0_lastOf 4 = .ok (.getfield 276, 3) := dk_180 1 20 (dk_at dksX0_lastOf_0 4 rfl rfl)
theorem dX0_lastOf_7 : decode cX0_lastOf 7 = .ok (.iload_n 1, 1) := dk_27 (dk_at dksX0_lastOf_0 7 rfl rfl)
theorem dX0_lastOf_8 : decode cX0_lastOf 8 = .ok (.iaload, 1) := dk_46 (dk_at dksX0_lastOf_0 8 rfl rfl)
theorem dX0_lastOf_9 : decode cX0_lastOf 9 = .ok (.iconst (-1), 1) := dk_2 (dk_at dksX0_lastOf_0 9 rfl rfl)
theorem dX0_lastOf_10 : decode cX0_lastOf 10 = .ok (.if_icmp .ne 7, 3) := dk_160 0 7 (dk_at dksX0_lastOf_0 10 rfl rfl)
theorem dX0_lastOf_13 : decode cX0_lastOf 13 = .ok (.iload_n 2, 1) := dk_28 (dk_at dksX0_lastOf_0 13 rfl rfl)
theorem dX0_lastOf_14 : decode cX0_lastOf 14 = .ok (.goto 24, 3) := dk_167 0 24 (dk_at dksX0_lastOf_0 14 rfl rfl)
theorem dX0_lastOf_17 : decode cX0_lastOf 17 = .ok (.iconst 0, 1) := dk_3 (dk_at dksX0_lastOf_0 17 rfl rfl)
theorem dX0_lastOf_18 : decode cX0_lastOf 18 = .ok (.aload_n 0, 1) := dk_42 (dk_at dksX0_lastOf_0 18 rfl rfl)
theorem dX0_lastOf_19 : decode cX0_lastOf 19 = .ok (.getfield 54, 3) := dk_180 0 54 (dk_at dksX0_lastOf_0 19 rfl rfl)
theorem dX0_lastOf_22 : decode cX0_lastOf 22 = .ok (.getfield 276, 3) := dk_180 1 20 (dk_at dksX0_lastOf_1 0 rfl rfl)
theorem dX0_lastOf_25 : decode cX0_lastOf 25 = .ok (.iload_n 1, 1) := dk_27 (dk_at dksX0_lastOf_1 3 rfl rfl)
theorem dX0_lastOf_26 : decode cX0_lastOf 26 = .ok (.iaload, 1) := dk_46 (dk_at dksX0_lastOf_1 4 rfl rfl)
theorem dX0_lastOf_27 : decode cX0_lastOf 27 = .ok (.aload_n 0, 1) := dk_42 (dk_at dksX0_lastOf_1 5 rfl rfl)
theorem dX0_lastOf_28 : decode cX0_lastOf 28 = .ok (.getfield 50, 3) := dk_180 0 50 (dk_at dksX0_lastOf_1 6 rfl rfl)
theorem dX0_lastOf_31 : decode cX0_lastOf 31 = .ok (.getfield 252, 3) := dk_180 0 252 (dk_at dksX0_lastOf_1 9 rfl rfl)
theorem dX0_lastOf_34 : decode cX0_lastOf 34 = .ok (.isub, 1) := dk_100 (dk_at dksX0_lastOf_1 12 rfl rfl)
theorem dX0_lastOf_35 : decode cX0_lastOf 35 = .ok (.invokestatic 353, 3) := dk_184 1 97 (dk_at dksX0_lastOf_1 13 rfl rfl)
theorem dX0_lastOf_38 : decode cX0_lastOf 38 = .ok (.ireturn, 1) := dk_172 (dk_at dksX0_lastOf_1 16 rfl rfl)
abbrev cX0_pail : ByteArray := prog_1_method_50_code
def yX0_pail : MethodName := ⟨RX0, "pail", "(III)I"⟩
def dkwX0_pail_1 : List UInt8 := [167, 0, 5, 16, 254, 172]
abbrev dktX0_pail_1 : List UInt8 := dkwX0_pail_1 ++ []
def dkwX0_pail_0 : List UInt8 := [42, 27, 182, 1, 17, 153, 0, 22, 28, 29, 184, 1, 109, 153, 0, 14, 42, 27, 5, 28, 29, 182, 1, 129]
abbrev dktX0_pail_0 : List UInt8 := dkwX0_pail_0 ++ dktX0_pail_1
theorem dksX0_pail_0 : cX0_pail.data.toList.drop 0 = dktX0_pail_0 := by decide +kernel
theorem dksX0_pail_1 : cX0_pail.data.toList.drop 24 = dktX0_pail_1 := dk_seg dksX0_pail_0 24 rfl rfl
theorem dX0_pail_0 : decode cX0_pail 0 = .ok (.aload_n 0, 1) := dk_42 (dk_at dksX0_pail_0 0 rfl rfl)
theorem dX0_pail_1 : decode cX0_pail 1 = .ok (.iload_n 1, 1) := dk_27 (dk_at dksX0_pail_0 1 rfl rfl)
theorem dX0_pail_2 : decode cX0_pail 2 = .ok (.invokevirtual 273, 3) := dk_182 1 17 (dk_at dksX0_pail_0 2 rfl rfl)
theorem dX0_pail_5 : decode cX0_pail 5 = .ok (.ifCond .eq 22, 3) := dk_153 0 22 (dk_at dksX0_pail_0 5 rfl rfl)
theorem dX0_pail_8 : decode cX0_pail 8 = .ok (.iload_n 2, 1) := dk_28 (dk_at dksX0_pail_0 8 rfl rfl)
theorem dX0_pail_9 : decode cX0_pail 9 = .ok (.iload_n 3, 1) := dk_29 (dk_at dksX0_pail_0 9 rfl rfl)
theorem dX0_pail_10 : decode cX0_pail 10 = .ok (.invokestatic 365, 3) := dk_184 1 109 (dk_at dksX0_pail_0 10 rfl rfl)
theorem dX0_pail_13 : decode cX0_pail 13 = .ok (.ifCond .eq 14, 3) := dk_153 0 14 (dk_at dksX0_pail_0 13 rfl rfl)
theorem dX0_pail_16 : decode cX0_pail 16 = .ok (.aload_n 0, 1) := dk_42 (dk_at dksX0_pail_0 16 rfl rfl)
theorem dX0_pail_17 : decode cX0_pail 17 = .ok (.iload_n 1, 1) := dk_27 (dk_at dksX0_pail_0 17 rfl rfl)
theorem dX0_pail_18 : decode cX0_pail 18 = .ok (.iconst 2, 1) := dk_5 (dk_at dksX0_pail_0 18 rfl rfl)
theorem dX0_pail_19 : decode cX0_pail 19 = .ok (.iload_n 2, 1) := dk_28 (dk_at dksX0_pail_0 19 rfl rfl)
theorem dX0_pail_20 : decode cX0_pail 20 = .ok (.iload_n 3, 1) := dk_29 (dk_at dksX0_pail_0 20 rfl rfl)
theorem dX0_pail_21 : decode cX0_pail 21 = .ok (.invokevirtual 385, 3) := dk_182 1 129 (dk_at dksX0_pail_0 21 rfl rfl)
theorem dX0_pail_24 : decode cX0_pail 24 = .ok (.goto 5, 3) := dk_167 0 5 (dk_at dksX0_pail_1 0 rfl rfl)
theorem dX0_pail_27 : decode cX0_pail 27 = .ok (.bipush (-2), 2) := dk_16 254 (dk_at dksX0_pail_1 3 rfl rfl)
theorem dX0_pail_29 : decode cX0_pail 29 = .ok (.ireturn, 1) := dk_172 (dk_at dksX0_pail_1 5 rfl rfl)
abbrev cX0_bestRow : ByteArray := prog_1_method_49_code
def yX0_bestRow : MethodName := ⟨RX0, "bestRow", "(IIII)I"⟩
def dkwX0_bestRow_4 : List UInt8 := [167, 255, 231, 21, 7, 172]
abbrev dktX0_bestRow_4 : List UInt8 := dkwX0_bestRow_4 ++ []
def dkwX0_bestRow_3 : List UInt8 := [155, 0, 26, 16, 10, 21, 7, 104, 21, 5, 5, 21, 8, 104, 122, 6, 126, 96, 54, 7, 132, 8, 255]
abbrev dktX0_bestRow_3 : List UInt8 := dkwX0_bestRow_3 ++ dktX0_bestRow_4
def dkwX0_bestRow_2 : List UInt8 := [21, 7, 54, 5, 21, 8, 54, 6, 132, 7, 1, 167, 255, 206, 3, 54, 7, 28, 4, 100, 54, 8, 21, 8]
abbrev dktX0_bestRow_2 : List UInt8 := dkwX0_bestRow_2 ++ dktX0_bestRow_3
def dkwX0_bestRow_1 : List UInt8 := [29, 21, 4, 182, 1, 125, 54, 8, 21, 5, 2, 159, 0, 13, 21, 8, 21, 6, 163, 0, 6, 167, 0, 11]
abbrev dktX0_bestRow_1 : List UInt8 := dkwX0_bestRow_1 ++ dktX0_bestRow_2
def dkwX0_bestRow_0 : List UInt8 := [2, 54, 5, 3, 54, 6, 3, 54, 7, 21, 7, 4, 5, 28, 104, 120, 162, 0, 46, 42, 27, 21, 7, 28]
abbrev dktX0_bestRow_0 : List UInt8 := dkwX0_bestRow_0 ++ dktX0_bestRow_1
theorem dksX0_bestRow_0 : cX0_bestRow.data.toList.drop 0 = dktX0_bestRow_0 := by decide +kernel
theorem dksX0_bestRow_1 : cX0_bestRow.data.toList.drop 24 = dktX0_bestRow_1 := dk_seg dksX0_bestRow_0 24 rfl rfl
theorem dksX0_bestRow_2 : cX0_bestRow.data.toList.drop 48 = dktX0_bestRow_2 := dk_seg dksX0_bestRow_1 24 rfl rfl
theorem dksX0_bestRow_3 : cX0_bestRow.data.toList.drop 72 = dktX0_bestRow_3 := dk_seg dksX0_bestRow_2 24 rfl rfl
theorem dksX0_bestRow_4 : cX0_bestRow.data.toList.drop 95 = dktX0_bestRow_4 := dk_seg dksX0_bestRow_3 23 rfl rfl
theorem dX0_bestRow_0 : decode cX0_bestRow 0 = .ok (.iconst (-1), 1) := dk_2 (dk_at dksX0_bestRow_0 0 rfl rfl)
theorem dX0_bestRow_1 : decode cX0_bestRow 1 = .ok (.istore 5, 2) := dk_54 5 (dk_at dksX0_bestRow_0 1 rfl rfl)
theorem dX0_bestRow_3 : decode cX0_bestRow 3 = .ok (.iconst 0, 1) := dk_3 (dk_at dksX0_bestRow_0 3 rfl rfl)
theorem dX0_bestRow_4 : decode cX0_bestRow 4 = .ok (.istore 6, 2) := dk_54 6 (dk_at dksX0_bestRow_0 4 rfl rfl)
theorem dX0_bestRow_6 : decode cX0_bestRow 6 = .ok (.iconst 0, 1) := dk_3 (dk_at dksX0_bestRow_0 6 rfl rfl)
theorem dX0_bestRow_7 : decode cX0_bestRow 7 = .ok (.istore 7, 2) := dk_54 7 (dk_at dksX0_bestRow_0 7 rfl rfl)
theorem dX0_bestRow_9 : decode cX0_bestRow 9 = .ok (.iload 7, 2) := dk_21 7 (dk_at dksX0_bestRow_0 9 rfl rfl)
theorem dX0_bestRow_11 : decode cX0_bestRow 11 = .ok (.iconst 1, 1) := dk_4 (dk_at dksX0_bestRow_0 11 rfl rfl)
theorem dX0_bestRow_12 : decode cX0_bestRow 12 = .ok (.iconst 2, 1) := dk_5 (dk_at dksX0_bestRow_0 12 rfl rfl)
theorem dX0_bestRow_13 : decode cX0_bestRow 13 = .ok (.iload_n 2, 1) := dk_28 (dk_at dksX0_bestRow_0 13 rfl rfl)
theorem dX0_bestRow_14 : decode cX0_bestRow 14 = .ok (.imul, 1) := dk_104 (dk_at dksX0_bestRow_0 14 rfl rfl)
theorem dX0_bestRow_15 : decode cX0_bestRow 15 = .ok (.ishl, 1) := dk_120 (dk_at dksX0_bestRow_0 15 rfl rfl)
theorem dX0_bestRow_16 : decode cX0_bestRow 16 = .ok (.if_icmp .ge 46, 3) := dk_162 0 46 (dk_at dksX0_bestRow_0 16 rfl rfl)
theorem dX0_bestRow_19 : decode cX0_bestRow 19 = .ok (.aload_n 0, 1) := dk_42 (dk_at dksX0_bestRow_0 19 rfl rfl)
theorem dX0_bestRow_20 : decode cX0_bestRow 20 = .ok (.iload_n 1, 1) := dk_27 (dk_at dksX0_bestRow_0 20 rfl rfl)
theorem dX0_bestRow_21 : decode cX0_bestRow 21 = .ok (.iload 7, 2) := dk_21 7 (dk_at dksX0_bestRow_0 21 rfl rfl)
theorem dX0_bestRow_23 : decode cX0_bestRow 23 = .ok (.iload_n 2, 1) := dk_28 (dk_at dksX0_bestRow_0 23 rfl rfl)
theorem dX0_bestRow_24 : decode cX0_bestRow 24 = .ok (.iload_n 3, 1) := dk_29 (dk_at dksX0_bestRow_1 0 rfl rfl)
theorem dX0_bestRow_25 : decode cX0_bestRow 25 = .ok (.iload 4, 2) := dk_21 4 (dk_at dksX0_bestRow_1 1 rfl rfl)
theorem dX0_bestRow_27 : decode cX0_bestRow 27 = .ok (.invokevirtual 381, 3) := dk_182 1 125 (dk_at dksX0_bestRow_1 3 rfl rfl)
theorem dX0_bestRow_30 : decode cX0_bestRow 30 = .ok (.istore 8, 2) := dk_54 8 (dk_at dksX0_bestRow_1 6 rfl rfl)
theorem dX0_bestRow_32 : decode cX0_bestRow 32 = .ok (.iload 5, 2) := dk_21 5 (dk_at dksX0_bestRow_1 8 rfl rfl)
theorem dX0_bestRow_34 : decode cX0_bestRow 34 = .ok (.iconst (-1), 1) := dk_2 (dk_at dksX0_bestRow_1 10 rfl rfl)
theorem dX0_bestRow_35 : decode cX0_bestRow 35 = .ok (.if_icmp .eq 13, 3) := dk_159 0 13 (dk_at dksX0_bestRow_1 11 rfl rfl)
theorem dX0_bestRow_38 : decode cX0_bestRow 38 = .ok (.iload 8, 2) := dk_21 8 (dk_at dksX0_bestRow_1 14 rfl rfl)
theorem dX0_bestRow_40 : decode cX0_bestRow 40 = .ok (.iload 6, 2) := dk_21 6 (dk_at dksX0_bestRow_1 16 rfl rfl)
theorem dX0_bestRow_42 : decode cX0_bestRow 42 = .ok (.if_icmp .gt 6, 3) := dk_163 0 6 (dk_at dksX0_bestRow_1 18 rfl rfl)
theorem dX0_bestRow_45 : decode cX0_bestRow 45 = .ok (.goto 11, 3) := dk_167 0 11 (dk_at dksX0_bestRow_1 21 rfl rfl)
theorem dX0_bestRow_48 : decode cX0_bestRow 48 = .ok (.iload 7, 2) := dk_21 7 (dk_at dksX0_bestRow_2 0 rfl rfl)
theorem dX0_bestRow_50 : decode cX0_bestRow 50 = .ok (.istore 5, 2) := dk_54 5 (dk_at dksX0_bestRow_2 2 rfl rfl)
theorem dX0_bestRow_52 : decode cX0_bestRow 52 = .ok (.iload 8, 2) := dk_21 8 (dk_at dksX0_bestRow_2 4 rfl rfl)
theorem dX0_bestRow_54 : decode cX0_bestRow 54 = .ok (.istore 6, 2) := dk_54 6 (dk_at dksX0_bestRow_2 6 rfl rfl)
theorem dX0_bestRow_56 : decode cX0_bestRow 56 = .ok (.iinc 7 1, 3) := dk_132 7 1 (dk_at dksX0_bestRow_2 8 rfl rfl)
theorem dX0_bestRow_59 : decode cX0_bestRow 59 = .ok (.goto (-50), 3) := dk_167 255 206 (dk_at dksX0_bestRow_2 11 rfl rfl)
theorem dX0_bestRow_62 : decode cX0_bestRow 62 = .ok (.iconst 0, 1) := dk_3 (dk_at dksX0_bestRow_2 14 rfl rfl)
theorem dX0_bestRow_63 : decode cX0_bestRow 63 = .ok (.istore 7, 2) := dk_54 7 (dk_at dksX0_bestRow_2 15 rfl rfl)
theorem dX0_bestRow_65 : decode cX0_bestRow 65 = .ok (.iload_n 2, 1) := dk_28 (dk_at dksX0_bestRow_2 17 rfl rfl)
theorem dX0_bestRow_66 : decode cX0_bestRow 66 = .ok (.iconst 1, 1) := dk_4 (dk_at dksX0_bestRow_2 18 rfl rfl)
theorem dX0_bestRow_67 : decode cX0_bestRow 67 = .ok (.isub, 1) := dk_100 (dk_at dksX0_bestRow_2 19 rfl rfl)
theorem dX0_bestRow_68 : decode cX0_bestRow 68 = .ok (.istore 8, 2) := dk_54 8 (dk_at dksX0_bestRow_2 20 rfl rfl)
theorem dX0_bestRow_70 : decode cX0_bestRow 70 = .ok (.iload 8, 2) := dk_21 8 (dk_at dksX0_bestRow_2 22 rfl rfl)
theorem dX0_bestRow_72 : decode cX0_bestRow 72 = .ok (.ifCond .lt 26, 3) := dk_155 0 26 (dk_at dksX0_bestRow_3 0 rfl rfl)
theorem dX0_bestRow_75 : decode cX0_bestRow 75 = .ok (.bipush 10, 2) := dk_16 10 (dk_at dksX0_bestRow_3 3 rfl rfl)
theorem dX0_bestRow_77 : decode cX0_bestRow 77 = .ok (.iload 7, 2) := dk_21 7 (dk_at dksX0_bestRow_3 5 rfl rfl)
theorem dX0_bestRow_79 : decode cX0_bestRow 79 = .ok (.imul, 1) := dk_104 (dk_at dksX0_bestRow_3 7 rfl rfl)
theorem dX0_bestRow_80 : decode cX0_bestRow 80 = .ok (.iload 5, 2) := dk_21 5 (dk_at dksX0_bestRow_3 8 rfl rfl)
theorem dX0_bestRow_82 : decode cX0_bestRow 82 = .ok (.iconst 2, 1) := dk_5 (dk_at dksX0_bestRow_3 10 rfl rfl)
theorem dX0_bestRow_83 : decode cX0_bestRow 83 = .ok (.iload 8, 2) := dk_21 8 (dk_at dksX0_bestRow_3 11 rfl rfl)
theorem dX0_bestRow_85 : decode cX0_bestRow 85 = .ok (.imul, 1) := dk_104 (dk_at dksX0_bestRow_3 13 rfl rfl)
theorem dX0_bestRow_86 : decode cX0_bestRow 86 = .ok (.ishr, 1) := dk_122 (dk_at dksX0_bestRow_3 14 rfl rfl)
theorem dX0_bestRow_87 : decode cX0_bestRow 87 = .ok (.iconst 3, 1) := dk_6 (dk_at dksX0_bestRow_3 15 rfl rfl)
theorem dX0_bestRow_88 : decode cX0_bestRow 88 = .ok (.iand, 1) := dk_126 (dk_at dksX0_bestRow_3 16 rfl rfl)
theorem dX0_bestRow_89 : decode cX0_bestRow 89 = .ok (.iadd, 1) := dk_96 (dk_at dksX0_bestRow_3 17 rfl rfl)
theorem dX0_bestRow_90 : decode cX0_bestRow 90 = .ok (.istore 7, 2) := dk_54 7 (dk_at dksX0_bestRow_3 18 rfl rfl)
theorem dX0_bestRow_92 : decode cX0_bestRow 92 = .ok (.iinc 8 (-1), 3) := dk_132 8 255 (dk_at dksX0_bestRow_3 20 rfl rfl)
theorem dX0_bestRow_95 : decode cX0_bestRow 95 = .ok (.goto (-25), 3) := dk_167 255 231 (dk_at dksX0_bestRow_4 0 rfl rfl)
theorem dX0_bestRow_98 : decode cX0_bestRow 98 = .ok (.iload 7, 2) := dk_21 7 (dk_at dksX0_bestRow_4 3 rfl rfl)
theorem dX0_bestRow_100 : decode cX0_bestRow 100 = .ok (.ireturn, 1) := dk_172 (dk_at dksX0_bestRow_4 5 rfl rfl)
abbrev cX0_lastByRow : ByteArray := prog_1_method_48_code
def yX0_lastByRow : MethodName := ⟨RX0, "lastByRow", "(IIIII)I"⟩
def dkwX0_lastByRow_2 : List UInt8 := [42, 180, 0, 54, 182, 0, 250, 132, 6, 1, 167, 255, 208, 42, 27, 21, 5, 182, 1, 106, 172]
abbrev dktX0_lastByRow_2 : List UInt8 := dkwX0_lastByRow_2 ++ []
def dkwX0_lastByRow_1 : List UInt8 := [42, 180, 0, 27, 180, 1, 23, 27, 46, 28, 5, 29, 4, 100, 21, 6, 100, 104, 122, 6, 126, 182, 1, 122]
abbrev dktX0_lastByRow_1 : List UInt8 := dkwX0_lastByRow_1 ++ dktX0_lastByRow_2
def dkwX0_lastByRow_0 : List UInt8 := [42, 2, 21, 4, 182, 1, 102, 3, 54, 6, 21, 6, 21, 5, 162, 0, 47, 21, 6, 29, 162, 0, 28, 42]
abbrev dktX0_lastByRow_0 : List UInt8 := dkwX0_lastByRow_0 ++ dktX0_lastByRow_1
theorem dksX0_lastByRow_0 : cX0_lastByRow.data.toList.drop 0 = dktX0_lastByRow_0 := by decide +kernel
theorem dksX0_lastByRow_1 : cX0_lastByRow.data.toList.drop 24 = dktX0_lastByRow_1 := dk_seg dksX0_lastByRow_0 24 rfl rfl
theorem dksX0_lastByRow_2 : cX0_lastByRow.data.toList.drop 48 = dktX0_lastByRow_2 := dk_seg dksX0_lastByRow_1 24 rfl rfl
theorem dX0_lastByRow_0 : decode cX0_lastByRow 0 = .ok (.aload_n 0, 1) := dk_42 (dk_at dksX0_lastByRow_0 0 rfl rfl)
theorem dX0_lastByRow_1 : decode cX0_lastByRow 1 = .ok (.iconst (-1), 1) := dk_2 (dk_at dksX0_lastByRow_0 1 rfl rfl)
theorem dX0_lastByRow_2 : decode cX0_lastByRow 2 = .ok (.iload 4, 2) := dk_21 4 (dk_at dksX0_lastByRow_0 2 rfl rfl)
theorem dX0_lastByRow_4 : decode cX0_lastByRow 4 = .ok (.invokevirtual 358, 3) := dk_182 1 102 (dk_at dksX0_lastByRow_0 4 rfl rfl)
theorem dX0_lastByRow_7 : decode cX0_lastByRow 7 = .ok (.iconst 0, 1) := dk_3 (dk_at dksX0_lastByRow_0 7 rfl rfl)
theorem dX0_lastByRow_8 : decode cX0_lastByRow 8 = .ok (.istore 6, 2) := dk_54 6 (dk_at dksX0_lastByRow_0 8 rfl rfl)
theorem dX0_lastByRow_10 : decode cX0_lastByRow 10 = .ok (.iload 6, 2) := dk_21 6 (dk_at dksX0_lastByRow_0 10 rfl rfl)
theorem dX0_lastByRow_12 : decode cX0_lastByRow 12 = .ok (.iload 5, 2) := dk_21 5 (dk_at dksX0_lastByRow_0 12 rfl rfl)
theorem dX0_lastByRow_14 : decode cX0_lastByRow 14 = .ok (.if_icmp .ge 47, 3) := dk_162 0 47 (dk_at dksX0_lastByRow_0 14 rfl rfl)
theorem dX0_lastByRow_17 : decode cX0_lastByRow 17 = .ok (.iload 6, 2) := dk_21 6 (dk_at dksX0_lastByRow_0 17 rfl rfl)
theorem dX0_lastByRow_19 : decode cX0_lastByRow 19 = .ok (.iload_n 3, 1) := dk_29 (dk_at dksX0_lastByRow_0 19 rfl rfl)
theorem dX0_lastByRow_20 : decode cX0_lastByRow 20 = .ok (.if_icmp .ge 28, 3) := dk_162 0 28 (dk_at dksX0_lastByRow_0 20 rfl rfl)
theorem dX0_lastByRow_23 : decode cX0_lastByRow 23 = .ok (.aload_n 0, 1) := dk_42 (dk_at dksX0_lastByRow_0 23 rfl rfl)
theorem dX0_lastByRow_24 : decode cX0_lastByRow 24 = .ok (.aload_n 0, 1) := dk_42 (dk_at dksX0_lastByRow_1 0 rfl rfl)
theorem dX0_lastByRow_25 : decode cX0_lastByRow 25 = .ok (.getfield 27, 3) := dk_180 0 27 (dk_at dksX0_lastByRow_1 1 rfl rfl)
theorem dX0_lastByRow_28 : decode cX0_lastByRow 28 = .ok (.getfield 279, 3) := dk_180 1 23 (dk_at dksX0_lastByRow_1 4 rfl rfl)
theorem dX0_lastByRow_31 : decode cX0_lastByRow 31 = .ok (.iload_n 1, 1) := dk_27 (dk_at dksX0_lastByRow_1 7 rfl rfl)
theorem dX0_lastByRow_32 : decode cX0_lastByRow 32 = .ok (.iaload, 1) := dk_46 (dk_at dksX0_lastByRow_1 8 rfl rfl)
theorem dX0_lastByRow_33 : decode cX0_lastByRow 33 = .ok (.iload_n 2, 1) := dk_28 (dk_at dksX0_lastByRow_1 9 rfl rfl)
theorem dX0_lastByRow_34 : decode cX0_lastByRow 34 = .ok (.iconst 2, 1) := dk_5 (dk_at dksX0_lastByRow_1 10 rfl rfl)
theorem dX0_lastByRow_35 : decode cX0_lastByRow 35 = .ok (.iload_n 3, 1) := dk_29 (dk_at dksX0_lastByRow_1 11 rfl rfl)
theorem dX0_lastByRow_36 : decode cX0_lastByRow 36 = .ok (.iconst 1, 1) := dk_4 (dk_at dksX0_lastByRow_1 12 rfl rfl)
theorem dX0_lastByRow_37 : decode cX0_lastByRow 37 = .ok (.isub, 1) := dk_100 (dk_at dksX0_lastByRow_1 13 rfl rfl)
theorem dX0_lastByRow_38 : decode cX0_lastByRow 38 = .ok (.iload 6, 2) := dk_21 6 (dk_at dksX0_lastByRow_1 14 rfl rfl)
theorem dX0_lastByRow_40 : decode cX0_lastByRow 40 = .ok (.isub, 1) := dk_100 (dk_at dksX0_lastByRow_1 16 rfl rfl)
theorem dX0_lastByRow_41 : decode cX0_lastByRow 41 = .ok (.imul, 1) := dk_104 (dk_at dksX0_lastByRow_1 17 rfl rfl)
theorem dX0_lastByRow_42 : decode cX0_lastByRow 42 = .ok (.ishr, 1) := dk_122 (dk_at dksX0_lastByRow_1 18 rfl rfl)
theorem dX0_lastByRow_43 : decode cX0_lastByRow 43 = .ok (.iconst 3, 1) := dk_6 (dk_at dksX0_lastByRow_1 19 rfl rfl)
theorem dX0_lastByRow_44 : decode cX0_lastByRow 44 = .ok (.iand, 1) := dk_126 (dk_at dksX0_lastByRow_1 20 rfl rfl)
theorem dX0_lastByRow_45 : decode cX0_lastByRow 45 = .ok (.invokevirtual 378, 3) := dk_182 1 122 (dk_at dksX0_lastByRow_1 21 rfl rfl)
theorem dX0_lastByRow_48 : decode cX0_lastByRow 48 = .ok (.aload_n 0, 1) := dk_42 (dk_at dksX0_lastByRow_2 0 rfl rfl)
theorem dX0_lastByRow_49 : decode cX0_lastByRow 49 = .ok (.getfield 54, 3) := dk_180 0 54 (dk_at dksX0_lastByRow_2 1 rfl rfl)
theorem dX0_lastByRow_52 : decode cX0_lastByRow 52 = .ok (.invokevirtual 250, 3) := dk_182 0 250 (dk_at dksX0_lastByRow_2 4 rfl rfl)
theorem dX0_lastByRow_55 : decode cX0_lastByRow 55 = .ok (.iinc 6 1, 3) := dk_132 6 1 (dk_at dksX0_lastByRow_2 7 rfl rfl)
theorem dX0_lastByRow_58 : decode cX0_lastByRow 58 = .ok (.goto (-48), 3) := dk_167 255 208 (dk_at dksX0_lastByRow_2 10 rfl rfl)
theorem dX0_lastByRow_61 : decode cX0_lastByRow 61 = .ok (.aload_n 0, 1) := dk_42 (dk_at dksX0_lastByRow_2 13 rfl rfl)
theorem dX0_lastByRow_62 : decode cX0_lastByRow 62 = .ok (.iload_n 1, 1) := dk_27 (dk_at dksX0_lastByRow_2 14 rfl rfl)
theorem dX0_lastByRow_63 : decode cX0_lastByRow 63 = .ok (.iload 5, 2) := dk_21 5 (dk_at dksX0_lastByRow_2 15 rfl rfl)
theorem dX0_lastByRow_65 : decode cX0_lastByRow 65 = .ok (.invokevirtual 362, 3) := dk_182 1 106 (dk_at dksX0_lastByRow_2 17 rfl rfl)
theorem dX0_lastByRow_68 : decode cX0_lastByRow 68 = .ok (.ireturn, 1) := dk_172 (dk_at dksX0_lastByRow_2 20 rfl rfl)
abbrev cX0_workFor : ByteArray := prog_1_method_47_code
def yX0_workFor : MethodName := ⟨RX0, "workFor", "(II)V"⟩
def dkwX0_workFor_4 : List UInt8 := [180, 0, 54, 5, 27, 2, 182, 1, 115, 177]
abbrev dktX0_workFor_4 : List UInt8 := dkwX0_workFor_4 ++ []
def dkwX0_workFor_3 : List UInt8 := [182, 1, 119, 162, 0, 14, 42, 180, 0, 54, 3, 21, 4, 27, 182, 1, 115, 28, 6, 160, 0, 13, 42]
abbrev dktX0_workFor_3 : List UInt8 := dkwX0_workFor_3 ++ dktX0_workFor_4
def dkwX0_workFor_2 : List UInt8 := [155, 0, 13, 42, 180, 0, 54, 3, 29, 27, 182, 1, 115, 28, 5, 160, 0, 26, 21, 4, 42, 180, 0, 27]
abbrev dktX0_workFor_2 : List UInt8 := dkwX0_workFor_2 ++ dktX0_workFor_3
def dkwX0_workFor_1 : List UInt8 := [154, 0, 17, 29, 155, 0, 13, 42, 180, 0, 54, 6, 29, 2, 182, 1, 115, 28, 4, 160, 0, 17, 29]
abbrev dktX0_workFor_1 : List UInt8 := dkwX0_workFor_1 ++ dktX0_workFor_2
def dkwX0_workFor_0 : List UInt8 := [27, 42, 180, 0, 27, 180, 0, 171, 100, 62, 27, 42, 180, 0, 27, 180, 0, 171, 96, 54, 4, 28]
abbrev dktX0_workFor_0 : List UInt8 := dkwX0_workFor_0 ++ dktX0_workFor_1
theorem dksX0_workFor_0 : cX0_workFor.data.toList.drop 0 = dktX0_workFor_0 := by decide +kernel
theorem dksX0_workFor_1 : cX0_workFor.data.toList.drop 22 = dktX0_workFor_1 := dk_seg dksX0_workFor_0 22 rfl rfl
theorem dksX0_workFor_2 : cX0_workFor.data.toList.drop 45 = dktX0_workFor_2 := dk_seg dksX0_workFor_1 23 rfl rfl
theorem dksX0_workFor_3 : cX0_workFor.data.toList.drop 69 = dktX0_workFor_3 := dk_seg dksX0_workFor_2 24 rfl rfl
theorem dksX0_workFor_4 : cX0_workFor.data.toList.drop 92 = dktX0_workFor_4 := dk_seg dksX0_workFor_3 23 rfl rfl
theorem dX0_workFor_0 : decode cX0_workFor 0 = .ok (.iload_n 1, 1) := dk_27 (dk_at dksX0_workFor_0 0 rfl rfl)
theorem dX0_workFor_1 : decode cX0_workFor 1 = .ok (.aload_n 0, 1) := dk_42 (dk_at dksX0_workFor_0 1 rfl rfl)
theorem dX0_workFor_2 : decode cX0_workFor 2 = .ok (.getfield 27, 3) := dk_180 0 27 (dk_at dksX0_workFor_0 2 rfl rfl)
theorem dX0_workFor_5 : decode cX0_workFor 5 = .ok (.getfield 171, 3) := dk_180 0 171 (dk_at dksX0_workFor_0 5 rfl rfl)
theorem dX0_workFor_8 : decode cX0_workFor 8 = .ok (.isub, 1) := dk_100 (dk_at dksX0_workFor_0 8 rfl rfl)
theorem dX0_workFor_9 : decode cX0_workFor 9 = .ok (.istore_n 3, 1) := dk_62 (dk_at dksX0_workFor_0 9 rfl rfl)
theorem dX0_workFor_10 : decode cX0_workFor 10 = .ok (.iload_n 1, 1) := dk_27 (dk_at dksX0_workFor_0 10 rfl rfl)
theorem dX0_workFor_11 : decode cX0_workFor 11 = .ok (.aload_n 0, 1) := dk_42 (dk_at dksX0_workFor_0 11 rfl rfl)
theorem dX0_workFor_12 : decode cX0_workFor 12 = .ok (.getfield 27, 3) := dk_180 0 27 (dk_at dksX0_workFor_0 12 rfl rfl)
theorem dX0_workFor_15 : decode cX0_workFor 15 = .ok (.getfield 171, 3) := dk_180 0 171 (dk_at dksX0_workFor_0 15 rfl rfl)
theorem dX0_workFor_18 : decode cX0_workFor 18 = .ok (.iadd, 1) := dk_96 (dk_at dksX0_workFor_0 18 rfl rfl)
theorem dX0_workFor_19 : decode cX0_workFor 19 = .ok (.istore 4, 2) := dk_54 4 (dk_at dksX0_workFor_0 19 rfl rfl)
theorem dX0_workFor_21 : decode cX0_workFor 21 = .ok (.iload_n 2, 1) := dk_28 (dk_at dksX0_workFor_0 21 rfl rfl)
theorem dX0_workFor_22 : decode cX0_workFor 22 = .ok (.ifCond .ne 17, 3) := dk_154 0 17 (dk_at dksX0_workFor_1 0 rfl rfl)
theorem dX0_workFor_25 : decode cX0_workFor 25 = .ok (.iload_n 3, 1) := dk_29 (dk_at dksX0_workFor_1 3 rfl rfl)
theorem dX0_workFor_26 : decode cX0_workFor 26 = .ok (.ifCond .lt 13, 3) := dk_155 0 13 (dk_at dksX0_workFor_1 4 rfl rfl)
theorem dX0_workFor_29 : decode cX0_workFor 29 = .ok (.aload_n 0, 1) := dk_42 (dk_at dksX0_workFor_1 7 rfl rfl)
theorem dX0_workFor_30 : decode cX0_workFor 30 = .ok (.getfield 54, 3) := dk_180 0 54 (dk_at dksX0_workFor_1 8 rfl rfl)
theorem dX0_workFor_33 : decode cX0_workFor 33 = .ok (.iconst 3, 1) := dk_6 (dk_at dksX0_workFor_1 11 rfl rfl)
theorem dX0_workFor_34 : decode cX0_workFor 34 = .ok (.iload_n 3, 1) := dk_29 (dk_at dksX0_workFor_1 12 rfl rfl)
theorem dX0_workFor_35 : decode cX0_workFor 35 = .ok (.iconst (-1), 1) := dk_2 (dk_at dksX0_workFor_1 13 rfl rfl)
theorem dX0_workFor_36 : decode cX0_workFor 36 = .ok (.invokevirtual 371, 3) := dk_182 1 115 (dk_at dksX0_workFor_1 14 rfl rfl)
theorem dX0_workFor_39 : decode cX0_workFor 39 = .ok (.iload_n 2, 1) := dk_28 (dk_at dksX0_workFor_1 17 rfl rfl)
theorem dX0_workFor_40 : decode cX0_workFor 40 = .ok (.iconst 1, 1) := dk_4 (dk_at dksX0_workFor_1 18 rfl rfl)
theorem dX0_workFor_41 : decode cX0_workFor 41 = .ok (.if_icmp .ne 17, 3) := dk_160 0 17 (dk_at dksX0_workFor_1 19 rfl rfl)
theorem dX0_workFor_44 : decode cX0_workFor 44 = .ok (.iload_n 3, 1) := dk_29 (dk_at dksX0_workFor_1 22 rfl rfl)
theorem dX0_workFor_45 : decode cX0_workFor 45 = .ok (.ifCond .lt 13, 3) := dk_155 0 13 (dk_at dksX0_workFor_2 0 rfl rfl)
theorem dX0_workFor_48 : decode cX0_workFor 48 = .ok (.aload_n 0, 1) := dk_42 (dk_at dksX0_workFor_2 3 rfl rfl)
theorem dX0_workFor_49 : decode cX0_workFor 49 = .ok (.getfield 54, 3) := dk_180 0 54 (dk_at dksX0_workFor_2 4 rfl rfl)
theorem dX0_workFor_52 : decode cX0_workFor 52 = .ok (.iconst 0, 1) := dk_3 (dk_at dksX0_workFor_2 7 rfl rfl)
theorem dX0_workFor_53 : decode cX0_workFor 53 = .ok (.iload_n 3, 1) := dk_29 (dk_at dksX0_workFor_2 8 rfl rfl)
theorem dX0_workFor_54 : decode cX0_workFor 54 = .ok (.iload_n 1, 1) := dk_27 (dk_at dksX0_workFor_2 9 rfl rfl)
theorem dX0_workFor_55 : decode cX0_workFor 55 = .ok (.invokevirtual 371, 3) := dk_182 1 115 (dk_at dksX0_workFor_2 10 rfl rfl)
theorem dX0_workFor_58 : decode cX0_workFor 58 = .ok (.iload_n 2, 1) := dk_28 (dk_at dksX0_workFor_2 13 rfl rfl)
theorem dX0_workFor_59 : decode cX0_workFor 59 = .ok (.iconst 2, 1) := dk_5 (dk_at dksX0_workFor_2 14 rfl rfl)
theorem dX0_workFor_60 : decode cX0_workFor 60 = .ok (.if_icmp .ne 26, 3) := dk_160 0 26 (dk_at dksX0_workFor_2 15 rfl rfl)
theorem dX0_workFor_63 : decode cX0_workFor 63 = .ok (.iload 4, 2) := dk_21 4 (dk_at dksX0_workFor_2 18 rfl rfl)
theorem dX0_workFor_65 : decode cX0_workFor 65 = .ok (.aload_n 0, 1) := dk_42 (dk_at dksX0_workFor_2 20 rfl rfl)
theorem dX0_workFor_66 : decode cX0_workFor 66 = .ok (.getfield 27, 3) := dk_180 0 27 (dk_at dksX0_workFor_2 21 rfl rfl)
theorem dX0_workFor_69 : decode cX0_workFor 69 = .ok (.invokevirtual 375, 3) := dk_182 1 119 (dk_at dksX0_workFor_3 0 rfl rfl)
theorem dX0_workFor_72 : decode cX0_workFor 72 = .ok (.if_icmp .ge 14, 3) := dk_162 0 14 (dk_at dksX0_workFor_3 3 rfl rfl)
theorem dX0_workFor_75 : decode cX0_workFor 75 = .ok (.aload_n 0, 1) := dk_42 (dk_at dksX0_workFor_3 6 rfl rfl)
theorem dX0_workFor_76 : decode cX0_workFor 76 = .ok (.getfield 54, 3) := dk_180 0 54 (dk_at dksX0_workFor_3 7 rfl rfl)
theorem dX0_workFor_79 : decode cX0_workFor 79 = .ok (.iconst 0, 1) := dk_3 (dk_at dksX0_workFor_3 10 rfl rfl)
theorem dX0_workFor_80 : decode cX0_workFor 80 = .ok (.iload 4, 2) := dk_21 4 (dk_at dksX0_workFor_3 11 rfl rfl)
theorem dX0_workFor_82 : decode cX0_workFor 82 = .ok (.iload_n 1, 1) := dk_27 (dk_at dksX0_workFor_3 13 rfl rfl)
theorem dX0_workFor_83 : decode cX0_workFor 83 = .ok (.invokevirtual 371, 3) := dk_182 1 115 (dk_at dksX0_workFor_3 14 rfl rfl)
theorem dX0_workFor_86 : decode cX0_workFor 86 = .ok (.iload_n 2, 1) := dk_28 (dk_at dksX0_workFor_3 17 rfl rfl)
theorem dX0_workFor_87 : decode cX0_workFor 87 = .ok (.iconst 3, 1) := dk_6 (dk_at dksX0_workFor_3 18 rfl rfl)
theorem dX0_workFor_88 : decode cX0_workFor 88 = .ok (.if_icmp .ne 13, 3) := dk_160 0 13 (dk_at dksX0_workFor_3 19 rfl rfl)
theorem dX0_workFor_91 : decode cX0_workFor 91 = .ok (.aload_n 0, 1) := dk_42 (dk_at dksX0_workFor_3 22 rfl rfl)
theorem dX0_workFor_92 : decode cX0_workFor 92 = .ok (.getfield 54, 3) := dk_180 0 54 (dk_at dksX0_workFor_4 0 rfl rfl)
theorem dX0_workFor_95 : decode cX0_workFor 95 = .ok (.iconst 2, 1) := dk_5 (dk_at dksX0_workFor_4 3 rfl rfl)
theorem dX0_workFor_96 : decode cX0_workFor 96 = .ok (.iload_n 1, 1) := dk_27 (dk_at dksX0_workFor_4 4 rfl rfl)
theorem dX0_workFor_97 : decode cX0_workFor 97 = .ok (.iconst (-1), 1) := dk_2 (dk_at dksX0_workFor_4 5 rfl rfl)
theorem dX0_workFor_98 : decode cX0_workFor 98 = .ok (.invokevirtual 371, 3) := dk_182 1 115 (dk_at dksX0_workFor_4 6 rfl rfl)
theorem dX0_workFor_101 : decode cX0_workFor 101 = .ok (.return_, 1) := dk_177 (dk_at dksX0_workFor_4 9 rfl rfl)
abbrev cX0_row : ByteArray := prog_1_method_51_code
def yX0_row : MethodName := ⟨RX0, "row", "(IIII)I"⟩
def dkwX0_row_1 : List UInt8 := [153, 0, 15, 42, 27, 28, 29, 21, 4, 182, 1, 129, 167, 0, 5, 16, 254, 172]
abbrev dktX0_row_1 : List UInt8 := dkwX0_row_1 ++ []
def dkwX0_row_0 : List UInt8 := [42, 27, 182, 1, 17, 153, 0, 33, 28, 4, 7, 184, 0, 164, 153, 0, 24, 29, 21, 4, 184, 1, 109]
abbrev dktX0_row_0 : List UInt8 := dkwX0_row_0 ++ dktX0_row_1
theorem dksX0_row_0 : cX0_row.data.toList.drop 0 = dktX0_row_0 := by decide +kernel
theorem dksX0_row_1 : cX0_row.data.toList.drop 23 = dktX0_row_1 := dk_seg dksX0_row_0 23 rfl rfl
theorem dX0_row_0 : decode cX0_row 0 = .ok (.aload_n 0, 1) := dk_42 (dk_at dksX0_row_0 0 rfl rfl)
theorem dX0_row_1 : decode cX0_row 1 = .ok (.iload_n 1, 1) := dk_27 (dk_at dksX0_row_0 1 rfl rfl)
theorem dX0_row_2 : decode cX0_row 2 = .ok (.invokevirtual 273, 3) := dk_182 1 17 (dk_at dksX0_row_0 2 rfl rfl)
theorem dX0_row_5 : decode cX0_row 5 = .ok (.ifCond .eq 33, 3) := dk_153 0 33 (dk_at dksX0_row_0 5 rfl rfl)
theorem dX0_row_8 : decode cX0_row 8 = .ok (.iload_n 2, 1) := dk_28 (dk_at dksX0_row_0 8 rfl rfl)
theorem dX0_row_9 : decode cX0_row 9 = .ok (.iconst 1, 1) := dk_4 (dk_at dksX0_row_0 9 rfl rfl)
theorem dX0_row_10 : decode cX0_row 10 = .ok (.iconst 4, 1) := dk_7 (dk_at dksX0_row_0 10 rfl rfl)
theorem dX0_row_11 : decode cX0_row 11 = .ok (.invokestatic 164, 3) := dk_184 0 164 (dk_at dksX0_row_0 11 rfl rfl)
theorem dX0_row_14 : decode cX0_row 14 = .ok (.ifCond .eq 24, 3) := dk_153 0 24 (dk_at dksX0_row_0 14 rfl rfl)
theorem dX0_row_17 : decode cX0_row 17 = .ok (.iload_n 3, 1) := dk_29 (dk_at dksX0_row_0 17 rfl rfl)
theorem dX0_row_18 : decode cX0_row 18 = .ok (.iload 4, 2) := dk_21 4 (dk_at dksX0_row_0 18 rfl rfl)
theorem dX0_row_20 : decode cX0_row 20 = .ok (.invokestatic 365, 3) := dk_184 1 109 (dk_at dksX0_row_0 20 rfl rfl)
theorem dX0_row_23 : decode cX0_row 23 = .ok (.ifCond .eq 15, 3) := dk_153 0 15 (dk_at dksX0_row_1 0 rfl rfl)
theorem dX0_row_26 : decode cX0_row 26 = .ok (.aload_n 0, 1) := dk_42 (dk_at dksX0_row_1 3 rfl rfl)
theorem dX0_row_27 : decode cX0_row 27 = .ok (.iload_n 1, 1) := dk_27 (dk_at dksX0_row_1 4 rfl rfl)
theorem dX0_row_28 : decode cX0_row 28 = .ok (.iload_n 2, 1) := dk_28 (dk_at dksX0_row_1 5 rfl rfl)
theorem dX0_row_29 : decode cX0_row 29 = .ok (.iload_n 3, 1) := dk_29 (dk_at dksX0_row_1 6 rfl rfl)
theorem dX0_row_30 : decode cX0_row 30 = .ok (.iload 4, 2) := dk_21 4 (dk_at dksX0_row_1 7 rfl rfl)
theorem dX0_row_32 : decode cX0_row 32 = .ok (.invokevirtual 385, 3) := dk_182 1 129 (dk_at dksX0_row_1 9 rfl rfl)
theorem dX0_row_35 : decode cX0_row 35 = .ok (.goto 5, 3) := dk_167 0 5 (dk_at dksX0_row_1 12 rfl rfl)
theorem dX0_row_38 : decode cX0_row 38 = .ok (.bipush (-2), 2) := dk_16 254 (dk_at dksX0_row_1 15 rfl rfl)
theorem dX0_row_40 : decode cX0_row 40 = .ok (.ireturn, 1) := dk_172 (dk_at dksX0_row_1 17 rfl rfl)
abbrev cX0_again : ByteArray := prog_1_method_52_code
def yX0_again : MethodName := ⟨RX0, "again", "(III)I"⟩
def dkwX0_again_5 : List UInt8 := [132, 6, 1, 167, 255, 168, 21, 5, 172]
abbrev dktX0_again_5 : List UInt8 := dkwX0_again_5 ++ []
def dkwX0_again_4 : List UInt8 := [29, 182, 1, 106, 54, 7, 21, 7, 21, 4, 163, 0, 6, 167, 0, 11, 21, 7, 54, 4, 21, 6, 54, 5]
abbrev dktX0_again_4 : List UInt8 := dkwX0_again_4 ++ dktX0_again_5
def dkwX0_again_3 : List UInt8 := [180, 1, 23, 27, 46, 2, 182, 1, 115, 42, 180, 0, 54, 182, 0, 250, 132, 7, 1, 167, 255, 215, 42, 27]
abbrev dktX0_again_3 : List UInt8 := dkwX0_again_3 ++ dktX0_again_4
def dkwX0_again_2 : List UInt8 := [54, 7, 21, 7, 29, 162, 0, 41, 21, 7, 21, 6, 160, 0, 21, 42, 180, 0, 54, 5, 42, 180, 0, 27]
abbrev dktX0_again_2 : List UInt8 := dkwX0_again_2 ++ dktX0_again_3
def dkwX0_again_1 : List UInt8 := [182, 1, 112, 54, 4, 2, 54, 5, 3, 54, 6, 21, 6, 29, 162, 0, 88, 42, 2, 28, 182, 1, 102, 3]
abbrev dktX0_again_1 : List UInt8 := dkwX0_again_1 ++ dktX0_again_2
def dkwX0_again_0 : List UInt8 := [42, 27, 182, 1, 17, 153, 0, 11, 28, 29, 184, 1, 109, 154, 0, 6, 16, 254, 172, 42, 27, 2, 28, 29]
abbrev dktX0_again_0 : List UInt8 := dkwX0_again_0 ++ dktX0_again_1
theorem dksX0_again_0 : cX0_again.data.toList.drop 0 = dktX0_again_0 := by decide +kernel
theorem dksX0_again_1 : cX0_again.data.toList.drop 24 = dktX0_again_1 := dk_seg dksX0_again_0 24 rfl rfl
theorem dksX0_again_2 : cX0_again.data.toList.drop 48 = dktX0_again_2 := dk_seg dksX0_again_1 24 rfl rfl
theorem dksX0_again_3 : cX0_again.data.toList.drop 72 = dktX0_again_3 := dk_seg dksX0_again_2 24 rfl rfl
theorem dksX0_again_4 : cX0_again.data.toList.drop 96 = dktX0_again_4 := dk_seg dksX0_again_3 24 rfl rfl
theorem dksX0_again_5 : cX0_again.data.toList.drop 120 = dktX0_again_5 := dk_seg dksX0_again_4 24 rfl rfl
theorem dX0_again_0 : decode cX0_again 0 = .ok (.aload_n 0, 1) := dk_42 (dk_at dksX0_again_0 0 rfl rfl)
theorem dX0_again_1 : decode cX0_again 1 = .ok (.iload_n 1, 1) := dk_27 (dk_at dksX0_again_0 1 rfl rfl)
theorem dX0_again_2 : decode cX0_again 2 = .ok (.invokevirtual 273, 3) := dk_182 1 17 (dk_at dksX0_again_0 2 rfl rfl)
theorem dX0_again_5 : decode cX0_again 5 = .ok (.ifCond .eq 11, 3) := dk_153 0 11 (dk_at dksX0_again_0 5 rfl rfl)
theorem dX0_again_8 : decode cX0_again 8 = .ok (.iload_n 2, 1) := dk_28 (dk_at dksX0_again_0 8 rfl rfl)
theorem dX0_again_9 : decode cX0_again 9 = .ok (.iload_n 3, 1) := dk_29 (dk_at dksX0_again_0 9 rfl rfl)
theorem dX0_again_10 : decode cX0_again 10 = .ok (.invokestatic 365, 3) := dk_184 1 109 (dk_at dksX0_again_0 10 rfl rfl)
theorem dX0_again_13 : decode cX0_again 13 = .ok (.ifCond .ne 6, 3) := dk_154 0 6 (dk_at dksX0_again_0 13 rfl rfl)
theorem dX0_again_16 : decode cX0_again 16 = .ok (.bipush (-2), 2) := dk_16 254 (dk_at dksX0_again_0 16 rfl rfl)
theorem dX0_again_18 : decode cX0_again 18 = .ok (.ireturn, 1) := dk_172 (dk_at dksX0_again_0 18 rfl rfl)
theorem dX0_again_19 : decode cX0_again 19 = .ok (.aload_n 0, 1) := dk_42 (dk_at dksX0_again_0 19 rfl rfl)
theorem dX0_again_20 : decode cX0_again 20 = .ok (.iload_n 1, 1) := dk_27 (dk_at dksX0_again_0 20 rfl rfl)
theorem dX0_again_21 : decode cX0_again 21 = .ok (.iconst (-1), 1) := dk_2 (dk_at dksX0_again_0 21 rfl rfl)
theorem dX0_again_22 : decode cX0_again 22 = .ok (.iload_n 2, 1) := dk_28 (dk_at dksX0_again_0 22 rfl rfl)
theorem dX0_again_23 : decode cX0_again 23 = .ok (.iload_n 3, 1) := dk_29 (dk_at dksX0_again_0 23 rfl rfl)
theorem dX0_again_24 : decode cX0_again 24 = .ok (.invokevirtual 368, 3) := dk_182 1 112 (dk_at dksX0_again_1 0 rfl rfl)
theorem dX0_again_27 : decode cX0_again 27 = .ok (.istore 4, 2) := dk_54 4 (dk_at dksX0_again_1 3 rfl rfl)
theorem dX0_again_29 : decode cX0_again 29 = .ok (.iconst (-1), 1) := dk_2 (dk_at dksX0_again_1 5 rfl rfl)
theorem dX0_again_30 : decode cX0_again 30 = .ok (.istore 5, 2) := dk_54 5 (dk_at dksX0_again_1 6 rfl rfl)
theorem dX0_again_32 : decode cX0_again 32 = .ok (.iconst 0, 1) := dk_3 (dk_at dksX0_again_1 8 rfl rfl)
theorem dX0_again_33 : decode cX0_again 33 = .ok (.istore 6, 2) := dk_54 6 (dk_at dksX0_again_1 9 rfl rfl)
theorem dX0_again_35 : decode cX0_again 35 = .ok (.iload 6, 2) := dk_21 6 (dk_at dksX0_again_1 11 rfl rfl)
theorem dX0_again_37 : decode cX0_again 37 = .ok (.iload_n 3, 1) := dk_29 (dk_at dksX0_again_1 13 rfl rfl)
theorem dX0_again_38 : decode cX0_again 38 = .ok (.if_icmp .ge 88, 3) := dk_162 0 88 (dk_at dksX0_again_1 14 rfl rfl)
theorem dX0_again_41 : decode cX0_again 41 = .ok (.aload_n 0, 1) := dk_42 (dk_at dksX0_again_1 17 rfl rfl)
theorem dX0_again_42 : decode cX0_again 42 = .ok (.iconst (-1), 1) := dk_2 (dk_at dksX0_again_1 18 rfl rfl)
theorem dX0_again_43 : decode cX0_again 43 = .ok (.iload_n 2, 1) := dk_28 (dk_at dksX0_again_1 19 rfl rfl)
theorem dX0_again_44 : decode cX0_again 44 = .ok (.invokevirtual 358, 3) := dk_182 1 102 (dk_at dksX0_again_1 20 rfl rfl)
theorem dX0_again_47 : decode cX0_again 47 = .ok (.iconst 0, 1) := dk_3 (dk_at dksX0_again_1 23 rfl rfl)
theorem dX0_again_48 : decode cX0_again 48 = .ok (.istore 7, 2) := dk_54 7 (dk_at dksX0_again_2 0 rfl rfl)
theorem dX0_again_50 : decode cX0_again 50 = .ok (.iload 7, 2) := dk_21 7 (dk_at dksX0_again_2 2 rfl rfl)
theorem dX0_again_52 : decode cX0_again 52 = .ok (.iload_n 3, 1) := dk_29 (dk_at dksX0_again_2 4 rfl rfl)
theorem dX0_again_53 : decode cX0_again 53 = .ok (.if_icmp .ge 41, 3) := dk_162 0 41 (dk_at dksX0_again_2 5 rfl rfl)
theorem dX0_again_56 : decode cX0_again 56 = .ok (.iload 7, 2) := dk_21 7 (dk_at dksX0_again_2 8 rfl rfl)
theorem dX0_again_58 : decode cX0_again 58 = .ok (.iload 6, 2) := dk_21 6 (dk_at dksX0_again_2 10 rfl rfl)
theorem dX0_again_60 : decode cX0_again 60 = .ok (.if_icmp .ne 21, 3) := dk_160 0 21 (dk_at dksX0_again_2 12 rfl rfl)
theorem dX0_again_63 : decode cX0_again 63 = .ok (.aload_n 0, 1) := dk_42 (dk_at dksX0_again_2 15 rfl rfl)
theorem dX0_again_64 : decode cX0_again 64 = .ok (.getfield 54, 3) := dk_180 0 54 (dk_at dksX0_again_2 16 rfl rfl)
theorem dX0_again_67 : decode cX0_again 67 = .ok (.iconst 2, 1) := dk_5 (dk_at dksX0_again_2 19 rfl rfl)
theorem dX0_again_68 : decode cX0_again 68 = .ok (.aload_n 0, 1) := dk_42 (dk_at dksX0_again_2 20 rfl rfl)
theorem dX0_again_69 : decode cX0_again 69 = .ok (.getfield 27, 3) := dk_180 0 27 (dk_at dksX0_again_2 21 rfl rfl)
theorem dX0_again_72 : decode cX0_again 72 = .ok (.getfield 279, 3) := dk_180 1 23 (dk_at dksX0_again_3 0 rfl rfl)
theorem dX0_again_75 : decode cX0_again 75 = .ok (.iload_n 1, 1) := dk_27 (dk_at dksX0_again_3 3 rfl rfl)
theorem dX0_again_76 : decode cX0_again 76 = .ok (.iaload, 1) := dk_46 (dk_at dksX0_again_3 4 rfl rfl)
theorem dX0_again_77 : decode cX0_again 77 = .ok (.iconst (-1), 1) := dk_2 (dk_at dksX0_again_3 5 rfl rfl)
theorem dX0_again_78 : decode cX0_again 78 = .ok (.invokevirtual 371, 3) := dk_182 1 115 (dk_at dksX0_again_3 6 rfl rfl)
theorem dX0_again_81 : decode cX0_again 81 = .ok (.aload_n 0, 1) := dk_42 (dk_at dksX0_again_3 9 rfl rfl)
theorem dX0_again_82 : decode cX0_again 82 = .ok (.getfield 54, 3) := dk_180 0 54 (dk_at dksX0_again_3 10 rfl rfl)
theorem dX0_again_85 : decode cX0_again 85 = .ok (.invokevirtual 250, 3) := dk_182 0 250 (dk_at dksX0_again_3 13 rfl rfl)
theorem dX0_again_88 : decode cX0_again 88 = .ok (.iinc 7 1, 3) := dk_132 7 1 (dk_at dksX0_again_3 16 rfl rfl)
theorem dX0_again_91 : decode cX0_again 91 = .ok (.goto (-41), 3) := dk_167 255 215 (dk_at dksX0_again_3 19 rfl rfl)
theorem dX0_again_94 : decode cX0_again 94 = .ok (.aload_n 0, 1) := dk_42 (dk_at dksX0_again_3 22 rfl rfl)
theorem dX0_again_95 : decode cX0_again 95 = .ok (.iload_n 1, 1) := dk_27 (dk_at dksX0_again_3 23 rfl rfl)
theorem dX0_again_96 : decode cX0_again 96 = .ok (.iload_n 3, 1) := dk_29 (dk_at dksX0_again_4 0 rfl rfl)
theorem dX0_again_97 : decode cX0_again 97 = .ok (.invokevirtual 362, 3) := dk_182 1 106 (dk_at dksX0_again_4 1 rfl rfl)
theorem dX0_again_100 : decode cX0_again 100 = .ok (.istore 7, 2) := dk_54 7 (dk_at dksX0_again_4 4 rfl rfl)
theorem dX0_again_102 : decode cX0_again 102 = .ok (.iload 7, 2) := dk_21 7 (dk_at dksX0_again_4 6 rfl rfl)
theorem dX0_again_104 : decode cX0_again 104 = .ok (.iload 4, 2) := dk_21 4 (dk_at dksX0_again_4 8 rfl rfl)
theorem dX0_again_106 : decode cX0_again 106 = .ok (.if_icmp .gt 6, 3) := dk_163 0 6 (dk_at dksX0_again_4 10 rfl rfl)
theorem dX0_again_109 : decode cX0_again 109 = .ok (.goto 11, 3) := dk_167 0 11 (dk_at dksX0_again_4 13 rfl rfl)
theorem dX0_again_112 : decode cX0_again 112 = .ok (.iload 7, 2) := dk_21 7 (dk_at dksX0_again_4 16 rfl rfl)
theorem dX0_again_114 : decode cX0_again 114 = .ok (.istore 4, 2) := dk_54 4 (dk_at dksX0_again_4 18 rfl rfl)
theorem dX0_again_116 : decode cX0_again 116 = .ok (.iload 6, 2) := dk_21 6 (dk_at dksX0_again_4 20 rfl rfl)
theorem dX0_again_118 : decode cX0_again 118 = .ok (.istore 5, 2) := dk_54 5 (dk_at dksX0_again_4 22 rfl rfl)
theorem dX0_again_120 : decode cX0_again 120 = .ok (.iinc 6 1, 3) := dk_132 6 1 (dk_at dksX0_again_5 0 rfl rfl)
theorem dX0_again_123 : decode cX0_again 123 = .ok (.goto (-88), 3) := dk_167 255 168 (dk_at dksX0_again_5 3 rfl rfl)
theorem dX0_again_126 : decode cX0_again 126 = .ok (.iload 5, 2) := dk_21 5 (dk_at dksX0_again_5 6 rfl rfl)
theorem dX0_again_128 : decode cX0_again 128 = .ok (.ireturn, 1) := dk_172 (dk_at dksX0_again_5 8 rfl rfl)
abbrev cX0_stand : ByteArray := prog_1_method_55_code
def yX0_stand : MethodName := ⟨RX0, "stand", "(III)I"⟩
def dkwX0_stand_5 : List UInt8 := [54, 4, 21, 7, 54, 5, 132, 6, 1, 167, 255, 168, 21, 4, 172]
abbrev dktX0_stand_5 : List UInt8 := dkwX0_stand_5 ++ []
def dkwX0_stand_4 : List UInt8 := [132, 8, 1, 167, 255, 232, 21, 4, 2, 159, 0, 13, 21, 7, 21, 5, 163, 0, 6, 167, 0, 11, 21, 6]
abbrev dktX0_stand_4 : List UInt8 := dkwX0_stand_4 ++ dktX0_stand_5
def dkwX0_stand_3 : List UInt8 := [54, 8, 21, 8, 28, 163, 0, 24, 21, 7, 42, 21, 6, 27, 21, 8, 29, 182, 1, 145, 96, 54, 7]
abbrev dktX0_stand_3 : List UInt8 := dkwX0_stand_3 ++ dktX0_stand_4
def dkwX0_stand_2 : List UInt8 := [162, 0, 82, 42, 180, 0, 50, 180, 1, 10, 21, 6, 51, 153, 0, 6, 167, 0, 60, 3, 54, 7, 4]
abbrev dktX0_stand_2 : List UInt8 := dkwX0_stand_2 ++ dktX0_stand_3
def dkwX0_stand_1 : List UInt8 := [154, 0, 6, 16, 254, 172, 2, 54, 4, 3, 54, 5, 3, 54, 6, 21, 6, 42, 180, 0, 27, 182, 1, 119]
abbrev dktX0_stand_1 : List UInt8 := dkwX0_stand_1 ++ dktX0_stand_2
def dkwX0_stand_0 : List UInt8 := [27, 4, 16, 30, 184, 0, 164, 153, 0, 18, 28, 184, 1, 142, 153, 0, 11, 3, 29, 184, 1, 109]
abbrev dktX0_stand_0 : List UInt8 := dkwX0_stand_0 ++ dktX0_stand_1
theorem dksX0_stand_0 : cX0_stand.data.toList.drop 0 = dktX0_stand_0 := by decide +kernel
theorem dksX0_stand_1 : cX0_stand.data.toList.drop 22 = dktX0_stand_1 := dk_seg dksX0_stand_0 22 rfl rfl
theorem dksX0_stand_2 : cX0_stand.data.toList.drop 46 = dktX0_stand_2 := dk_seg dksX0_stand_1 24 rfl rfl
theorem dksX0_stand_3 : cX0_stand.data.toList.drop 69 = dktX0_stand_3 := dk_seg dksX0_stand_2 23 rfl rfl
theorem dksX0_stand_4 : cX0_stand.data.toList.drop 92 = dktX0_stand_4 := dk_seg dksX0_stand_3 23 rfl rfl
theorem dksX0_stand_5 : cX0_stand.data.toList.drop 116 = dktX0_stand_5 := dk_seg dksX0_stand_4 24 rfl rfl
theorem dX0_stand_0 : decode cX0_stand 0 = .ok (.iload_n 1, 1) := dk_27 (dk_at dksX0_stand_0 0 rfl rfl)
theorem dX0_stand_1 : decode cX0_stand 1 = .ok (.iconst 1, 1) := dk_4 (dk_at dksX0_stand_0 1 rfl rfl)
theorem dX0_stand_2 : decode cX0_stand 2 = .ok (.bipush 30, 2) := dk_16 30 (dk_at dksX0_stand_0 2 rfl rfl)
theorem dX0_stand_4 : decode cX0_stand 4 = .ok (.invokestatic 164, 3) := dk_184 0 164 (dk_at dksX0_stand_0 4 rfl rfl)
theorem dX0_stand_7 : decode cX0_stand 7 = .ok (.ifCond .eq 18, 3) := dk_153 0 18 (dk_at dksX0_stand_0 7 rfl rfl)
theorem dX0_stand_10 : decode cX0_stand 10 = .ok (.iload_n 2, 1) := dk_28 (dk_at dksX0_stand_0 10 rfl rfl)
theorem dX0_stand_11 : decode cX0_stand 11 = .ok (.invokestatic 398, 3) := dk_184 1 142 (dk_at dksX0_stand_0 11 rfl rfl)
theorem dX0_stand_14 : decode cX0_stand 14 = .ok (.ifCond .eq 11, 3) := dk_153 0 11 (dk_at dksX0_stand_0 14 rfl rfl)
theorem dX0_stand_17 : decode cX0_stand 17 = .ok (.iconst 0, 1) := dk_3 (dk_at dksX0_stand_0 17 rfl rfl)
theorem dX0_stand_18 : decode cX0_stand 18 = .ok (.iload_n 3, 1) := dk_29 (dk_at dksX0_stand_0 18 rfl rfl)
theorem dX0_stand_19 : decode cX0_stand 19 = .ok (.invokestatic 365, 3) := dk_184 1 109 (dk_at dksX0_stand_0 19 rfl rfl)
theorem dX0_stand_22 : decode cX0_stand 22 = .ok (.ifCond .ne 6, 3) := dk_154 0 6 (dk_at dksX0_stand_1 0 rfl rfl)
theorem dX0_stand_25 : decode cX0_stand 25 = .ok (.bipush (-2), 2) := dk_16 254 (dk_at dksX0_stand_1 3 rfl rfl)
theorem dX0_stand_27 : decode cX0_stand 27 = .ok (.ireturn, 1) := dk_172 (dk_at dksX0_stand_1 5 rfl rfl)
theorem dX0_stand_28 : decode cX0_stand 28 = .ok (.iconst (-1), 1) := dk_2 (dk_at dksX0_stand_1 6 rfl rfl)
theorem dX0_stand_29 : decode cX0_stand 29 = .ok (.istore 4, 2) := dk_54 4 (dk_at dksX0_stand_1 7 rfl rfl)
theorem dX0_stand_31 : decode cX0_stand 31 = .ok (.iconst 0, 1) := dk_3 (dk_at dksX0_stand_1 9 rfl rfl)
theorem dX0_stand_32 : decode cX0_stand 32 = .ok (.istore 5, 2) := dk_54 5 (dk_at dksX0_stand_1 10 rfl rfl)
theorem dX0_stand_34 : decode cX0_stand 34 = .ok (.iconst 0, 1) := dk_3 (dk_at dksX0_stand_1 12 rfl rfl)
theorem dX0_stand_35 : decode cX0_stand 35 = .ok (.istore 6, 2) := dk_54 6 (dk_at dksX0_stand_1 13 rfl rfl)
theorem dX0_stand_37 : decode cX0_stand 37 = .ok (.iload 6, 2) := dk_21 6 (dk_at dksX0_stand_1 15 rfl rfl)
theorem dX0_stand_39 : decode cX0_stand 39 = .ok (.aload_n 0, 1) := dk_42 (dk_at dksX0_stand_1 17 rfl rfl)
theorem dX0_stand_40 : decode cX0_stand 40 = .ok (.getfield 27, 3) := dk_180 0 27 (dk_at dksX0_stand_1 18 rfl rfl)
theorem dX0_stand_43 : decode cX0_stand 43 = .ok (.invokevirtual 375, 3) := dk_182 1 119 (dk_at dksX0_stand_1 21 rfl rfl)
theorem dX0_stand_46 : decode cX0_stand 46 = .ok (.if_icmp .ge 82, 3) := dk_162 0 82 (dk_at dksX0_stand_2 0 rfl rfl)
theorem dX0_stand_49 : decode cX0_stand 49 = .ok (.aload_n 0, 1) := dk_42 (dk_at dksX0_stand_2 3 rfl rfl)
theorem dX0_stand_50 : decode cX0_stand 50 = .ok (.getfield 50, 3) := dk_180 0 50 (dk_at dksX0_stand_2 4 rfl rfl)
theorem dX0_stand_53 : decode cX0_stand 53 = .ok (.getfield 266, 3) := dk_180 1 10 (dk_at dksX0_stand_2 7 rfl rfl)
theorem dX0_stand_56 : decode cX0_stand 56 = .ok (.iload 6, 2) := dk_21 6 (dk_at dksX0_stand_2 10 rfl rfl)
theorem dX0_stand_58 : decode cX0_stand 58 = .ok (.baload, 1) := dk_51 (dk_at dksX0_stand_2 12 rfl rfl)
theorem dX0_stand_59 : decode cX0_stand 59 = .ok (.ifCond .eq 6, 3) := dk_153 0 6 (dk_at dksX0_stand_2 13 rfl rfl)
theorem dX0_stand_62 : decode cX0_stand 62 = .ok (.goto 60, 3) := dk_167 0 60 (dk_at dksX0_stand_2 16 rfl rfl)
theorem dX0_stand_65 : decode cX0_stand 65 = .ok (.iconst 0, 1) := dk_3 (dk_at dksX0_stand_2 19 rfl rfl)
theorem dX0_stand_66 : decode cX0_stand 66 = .ok (.istore 7, 2) := dk_54 7 (dk_at dksX0_stand_2 20 rfl rfl)
theorem dX0_stand_68 : decode cX0_stand 68 = .ok (.iconst 1, 1) := dk_4 (dk_at dksX0_stand_2 22 rfl rfl)
theorem dX0_stand_69 : decode cX0_stand 69 = .ok (.istore 8, 2) := dk_54 8 (dk_at dksX0_stand_3 0 rfl rfl)
theorem dX0_stand_71 : decode cX0_stand 71 = .ok (.iload 8, 2) := dk_21 8 (dk_at dksX0_stand_3 2 rfl rfl)
theorem dX0_stand_73 : decode cX0_stand 73 = .ok (.iload_n 2, 1) := dk_28 (dk_at dksX0_stand_3 4 rfl rfl)
theorem dX0_stand_74 : decode cX0_stand 74 = .ok (.if_icmp .gt 24, 3) := dk_163 0 24 (dk_at dksX0_stand_3 5 rfl rfl)
theorem dX0_stand_77 : decode cX0_stand 77 = .ok (.iload 7, 2) := dk_21 7 (dk_at dksX0_stand_3 8 rfl rfl)
theorem dX0_stand_79 : decode cX0_stand 79 = .ok (.aload_n 0, 1) := dk_42 (dk_at dksX0_stand_3 10 rfl rfl)
theorem dX0_stand_80 : decode cX0_stand 80 = .ok (.iload 6, 2) := dk_21 6 (dk_at dksX0_stand_3 11 rfl rfl)
theorem dX0_stand_82 : decode cX0_stand 82 = .ok (.iload_n 1, 1) := dk_27 (dk_at dksX0_stand_3 13 rfl rfl)
theorem dX0_stand_83 : decode cX0_stand 83 = .ok (.iload 8, 2) := dk_21 8 (dk_at dksX0_stand_3 14 rfl rfl)
theorem dX0_stand_85 : decode cX0_stand 85 = .ok (.iload_n 3, 1) := dk_29 (dk_at dksX0_stand_3 16 rfl rfl)
theorem dX0_stand_86 : decode cX0_stand 86 = .ok (.invokevirtual 401, 3) := dk_182 1 145 (dk_at dksX0_stand_3 17 rfl rfl)
theorem dX0_stand_89 : decode cX0_stand 89 = .ok (.iadd, 1) := dk_96 (dk_at dksX0_stand_3 20 rfl rfl)
theorem dX0_stand_90 : decode cX0_stand 90 = .ok (.istore 7, 2) := dk_54 7 (dk_at dksX0_stand_3 21 rfl rfl)
theorem dX0_stand_92 : decode cX0_stand 92 = .ok (.iinc 8 1, 3) := dk_132 8 1 (dk_at dksX0_stand_4 0 rfl rfl)
theorem dX0_stand_95 : decode cX0_stand 95 = .ok (.goto (-24), 3) := dk_167 255 232 (dk_at dksX0_stand_4 3 rfl rfl)
theorem dX0_stand_98 : decode cX0_stand 98 = .ok (.iload 4, 2) := dk_21 4 (dk_at dksX0_stand_4 6 rfl rfl)
theorem dX0_stand_100 : decode cX0_stand 100 = .ok (.iconst (-1), 1) := dk_2 (dk_at dksX0_stand_4 8 rfl rfl)
theorem dX0_stand_101 : decode cX0_stand 101 = .ok (.if_icmp .eq 13, 3) := dk_159 0 13 (dk_at dksX0_stand_4 9 rfl rfl)
theorem dX0_stand_104 : decode cX0_stand 104 = .ok (.iload 7, 2) := dk_21 7 (dk_at dksX0_stand_4 12 rfl rfl)
theorem dX0_stand_106 : decode cX0_stand 106 = .ok (.iload 5, 2) := dk_21 5 (dk_at dksX0_stand_4 14 rfl rfl)
theorem dX0_stand_108 : decode cX0_stand 108 = .ok (.if_icmp .gt 6, 3) := dk_163 0 6 (dk_at dksX0_stand_4 16 rfl rfl)
theorem dX0_stand_111 : decode cX0_stand 111 = .ok (.goto 11, 3) := dk_167 0 11 (dk_at dksX0_stand_4 19 rfl rfl)
theorem dX0_stand_114 : decode cX0_stand 114 = .ok (.iload 6, 2) := dk_21 6 (dk_at dksX0_stand_4 22 rfl rfl)
theorem dX0_stand_116 : decode cX0_stand 116 = .ok (.istore 4, 2) := dk_54 4 (dk_at dksX0_stand_5 0 rfl rfl)
theorem dX0_stand_118 : decode cX0_stand 118 = .ok (.iload 7, 2) := dk_21 7 (dk_at dksX0_stand_5 2 rfl rfl)
theorem dX0_stand_120 : decode cX0_stand 120 = .ok (.istore 5, 2) := dk_54 5 (dk_at dksX0_stand_5 4 rfl rfl)
theorem dX0_stand_122 : decode cX0_stand 122 = .ok (.iinc 6 1, 3) := dk_132 6 1 (dk_at dksX0_stand_5 6 rfl rfl)
theorem dX0_stand_125 : decode cX0_stand 125 = .ok (.goto (-88), 3) := dk_167 255 168 (dk_at dksX0_stand_5 9 rfl rfl)
theorem dX0_stand_128 : decode cX0_stand 128 = .ok (.iload 4, 2) := dk_21 4 (dk_at dksX0_stand_5 12 rfl rfl)
theorem dX0_stand_130 : decode cX0_stand 130 = .ok (.ireturn, 1) := dk_172 (dk_at dksX0_stand_5 14 rfl rfl)
abbrev cX0_areSeeds : ByteArray := prog_1_method_54_code
def yX0_areSeeds : MethodName := ⟨RX0, "areSeeds", "(I)Z"⟩
def dkwX0_areSeeds_0 : List UInt8 := [26, 4, 16, 9, 184, 0, 164, 172]
abbrev dktX0_areSeeds_0 : List UInt8 := dkwX0_areSeeds_0 ++ []
theorem dksX0_areSeeds_0 : cX0_areSeeds.data.toList.drop 0 = dktX0_areSeeds_0 := by decide +kernel
theorem dX0_areSeeds_0 : decode cX0_areSeeds 0 = .ok (.iload_n 0, 1) := dk_26 (dk_at dksX0_areSeeds_0 0 rfl rfl)
theorem dX0_areSeeds_1 : decode cX0_areSeeds 1 = .ok (.iconst 1, 1) := dk_4 (dk_at dksX0_areSeeds_0 1 rfl rfl)
theorem dX0_areSeeds_2 : decode cX0_areSeeds 2 = .ok (.bipush 9, 2) := dk_16 9 (dk_at dksX0_areSeeds_0 2 rfl rfl)
theorem dX0_areSeeds_4 : decode cX0_areSeeds 4 = .ok (.invokestatic 164, 3) := dk_184 0 164 (dk_at dksX0_areSeeds_0 4 rfl rfl)
theorem dX0_areSeeds_7 : decode cX0_areSeeds 7 = .ok (.ireturn, 1) := dk_172 (dk_at dksX0_areSeeds_0 7 rfl rfl)
abbrev cX0_towerLast : ByteArray := prog_1_method_53_code
def yX0_towerLast : MethodName := ⟨RX0, "towerLast", "(IIII)I"⟩
def dkwX0_towerLast_3 : List UInt8 := [162, 0, 6, 21, 6, 172, 132, 6, 1, 167, 255, 211, 21, 4, 172]
abbrev dktX0_towerLast_3 : List UInt8 := dkwX0_towerLast_3 ++ []
def dkwX0_towerLast_2 : List UInt8 := [42, 180, 0, 54, 180, 1, 1, 27, 46, 21, 5, 42, 180, 0, 27, 178, 1, 132, 182, 1, 138, 100]
abbrev dktX0_towerLast_2 : List UInt8 := dkwX0_towerLast_2 ++ dktX0_towerLast_3
def dkwX0_towerLast_1 : List UInt8 := [180, 1, 1, 27, 46, 54, 5, 3, 54, 6, 21, 6, 21, 4, 162, 0, 44, 42, 180, 0, 54, 182, 0, 250]
abbrev dktX0_towerLast_1 : List UInt8 := dkwX0_towerLast_1 ++ dktX0_towerLast_2
def dkwX0_towerLast_0 : List UInt8 := [42, 2, 29, 182, 1, 102, 42, 180, 0, 54, 180, 1, 1, 27, 92, 46, 28, 96, 79, 42, 180, 0, 54]
abbrev dktX0_towerLast_0 : List UInt8 := dkwX0_towerLast_0 ++ dktX0_towerLast_1
theorem dksX0_towerLast_0 : cX0_towerLast.data.toList.drop 0 = dktX0_towerLast_0 := by decide +kernel
theorem dksX0_towerLast_1 : cX0_towerLast.data.toList.drop 23 = dktX0_towerLast_1 := dk_seg dksX0_towerLast_0 23 rfl rfl
theorem dksX0_towerLast_2 : cX0_towerLast.data.toList.drop 47 = dktX0_towerLast_2 := dk_seg dksX0_towerLast_1 24 rfl rfl
theorem dksX0_towerLast_3 : cX0_towerLast.data.toList.drop 69 = dktX0_towerLast_3 := dk_seg dksX0_towerLast_2 22 rfl rfl
theorem dX0_towerLast_0 : decode cX0_towerLast 0 = .ok (.aload_n 0, 1) := dk_42 (dk_at dksX0_towerLast_0 0 rfl rfl)
theorem dX0_towerLast_1 : decode cX0_towerLast 1 = .ok (.iconst (-1), 1) := dk_2 (dk_at dksX0_towerLast_0 1 rfl rfl)
theorem dX0_towerLast_2 : decode cX0_towerLast 2 = .ok (.iload_n 3, 1) := dk_29 (dk_at dksX0_towerLast_0 2 rfl rfl)
theorem dX0_towerLast_3 : decode cX0_towerLast 3 = .ok (.invokevirtual 358, 3) := dk_182 1 102 (dk_at dksX0_towerLast_0 3 rfl rfl)
theorem dX0_towerLast_6 : decode cX0_towerLast 6 = .ok (.aload_n 0, 1) := dk_42 (dk_at dksX0_towerLast_0 6 rfl rfl)
theorem dX0_towerLast_7 : decode cX0_towerLast 7 = .ok (.getfield 54, 3) := dk_180 0 54 (dk_at dksX0_towerLast_0 7 rfl rfl)
theorem dX0_towerLast_10 : decode cX0_towerLast 10 = .ok (.getfield 257, 3) := dk_180 1 1 (dk_at dksX0_towerLast_0 10 rfl rfl)
theorem dX0_towerLast_13 : decode cX0_towerLast 13 = .ok (.iload_n 1, 1) := dk_27 (dk_at dksX0_towerLast_0 13 rfl rfl)
theorem dX0_towerLast_14 : decode cX0_towerLast 14 = .ok (.dup2, 1) := dk_92 (dk_at dksX0_towerLast_0 14 rfl rfl)
theorem dX0_towerLast_15 : decode cX0_towerLast 15 = .ok (.iaload, 1) := dk_46 (dk_at dksX0_towerLast_0 15 rfl rfl)
theorem dX0_towerLast_16 : decode cX0_towerLast 16 = .ok (.iload_n 2, 1) := dk_28 (dk_at dksX0_towerLast_0 16 rfl rfl)
theorem dX0_towerLast_17 : decode cX0_towerLast 17 = .ok (.iadd, 1) := dk_96 (dk_at dksX0_towerLast_0 17 rfl rfl)
theorem dX0_towerLast_18 : decode cX0_towerLast 18 = .ok (.iastore, 1) := dk_79 (dk_at dksX0_towerLast_0 18 rfl rfl)
theorem dX0_towerLast_19 : decode cX0_towerLast 19 = .ok (.aload_n 0, 1) := dk_42 (dk_at dksX0_towerLast_0 19 rfl rfl)
theorem dX0_towerLast_20 : decode cX0_towerLast 20 = .ok (.getfield 54, 3) := dk_180 0 54 (dk_at dksX0_towerLast_0 20 rfl rfl)
theorem dX0_towerLast_23 : decode cX0_towerLast 23 = .ok (.getfield 257, 3) := dk_180 1 1 (dk_at dksX0_towerLast_1 0 rfl rfl)
theorem dX0_towerLast_26 : decode cX0_towerLast 26 = .ok (.iload_n 1, 1) := dk_27 (dk_at dksX0_towerLast_1 3 rfl rfl)
theorem dX0_towerLast_27 : decode cX0_towerLast 27 = .ok (.iaload, 1) := dk_46 (dk_at dksX0_towerLast_1 4 rfl rfl)
theorem dX0_towerLast_28 : decode cX0_towerLast 28 = .ok (.istore 5, 2) := dk_54 5 (dk_at dksX0_towerLast_1 5 rfl rfl)
theorem dX0_towerLast_30 : decode cX0_towerLast 30 = .ok (.iconst 0, 1) := dk_3 (dk_at dksX0_towerLast_1 7 rfl rfl)
theorem dX0_towerLast_31 : decode cX0_towerLast 31 = .ok (.istore 6, 2) := dk_54 6 (dk_at dksX0_towerLast_1 8 rfl rfl)
theorem dX0_towerLast_33 : decode cX0_towerLast 33 = .ok (.iload 6, 2) := dk_21 6 (dk_at dksX0_towerLast_1 10 rfl rfl)
theorem dX0_towerLast_35 : decode cX0_towerLast 35 = .ok (.iload 4, 2) := dk_21 4 (dk_at dksX0_towerLast_1 12 rfl rfl)
theorem dX0_towerLast_37 : decode cX0_towerLast 37 = .ok (.if_icmp .ge 44, 3) := dk_162 0 44 (dk_at dksX0_towerLast_1 14 rfl rfl)
theorem dX0_towerLast_40 : decode cX0_towerLast 40 = .ok (.aload_n 0, 1) := dk_42 (dk_at dksX0_towerLast_1 17 rfl rfl)
theorem dX0_towerLast_41 : decode cX0_towerLast 41 = .ok (.getfield 54, 3) := dk_180 0 54 (dk_at dksX0_towerLast_1 18 rfl rfl)
theorem dX0_towerLast_44 : decode cX0_towerLast 44 = .ok (.invokevirtual 250, 3) := dk_182 0 250 (dk_at dksX0_towerLast_1 21 rfl rfl)
theorem dX0_towerLast_47 : decode cX0_towerLast 47 = .ok (.aload_n 0, 1) := dk_42 (dk_at dksX0_towerLast_2 0 rfl rfl)
theorem dX0_towerLast_48 : decode cX0_towerLast 48 = .ok (.getfield 54, 3) := dk_180 0 54 (dk_at dksX0_towerLast_2 1 rfl rfl)
theorem dX0_towerLast_51 : decode cX0_towerLast 51 = .ok (.getfield 257, 3) := dk_180 1 1 (dk_at dksX0_towerLast_2 4 rfl rfl)
theorem dX0_towerLast_54 : decode cX0_towerLast 54 = .ok (.iload_n 1, 1) := dk_27 (dk_at dksX0_towerLast_2 7 rfl rfl)
theorem dX0_towerLast_55 : decode cX0_towerLast 55 = .ok (.iaload, 1) := dk_46 (dk_at dksX0_towerLast_2 8 rfl rfl)
theorem dX0_towerLast_56 : decode cX0_towerLast 56 = .ok (.iload 5, 2) := dk_21 5 (dk_at dksX0_towerLast_2 9 rfl rfl)
theorem dX0_towerLast_58 : decode cX0_towerLast 58 = .ok (.aload_n 0, 1) := dk_42 (dk_at dksX0_towerLast_2 11 rfl rfl)
theorem dX0_towerLast_59 : decode cX0_towerLast 59 = .ok (.getfield 27, 3) := dk_180 0 27 (dk_at dksX0_towerLast_2 12 rfl rfl)
theorem dX0_towerLast_62 : decode cX0_towerLast 62 = .ok (.getstatic 388, 3) := dk_178 1 132 (dk_at dksX0_towerLast_2 15 rfl rfl)
theorem dX0_towerLast_65 : decode cX0_towerLast 65 = .ok (.invokevirtual 394, 3) := dk_182 1 138 (dk_at dksX0_towerLast_2 18 rfl rfl)
theorem dX0_towerLast_68 : decode cX0_towerLast 68 = .ok (.isub, 1) := dk_100 (dk_at dksX0_towerLast_2 21 rfl rfl)
theorem dX0_towerLast_69 : decode cX0_towerLast 69 = .ok (.if_icmp .ge 6, 3) := dk_162 0 6 (dk_at dksX0_towerLast_3 0 rfl rfl)
theorem dX0_towerLast_72 : decode cX0_towerLast 72 = .ok (.iload 6, 2) := dk_21 6 (dk_at dksX0_towerLast_3 3 rfl rfl)
theorem dX0_towerLast_74 : decode cX0_towerLast 74 = .ok (.ireturn, 1) := dk_172 (dk_at dksX0_towerLast_3 5 rfl rfl)
theorem dX0_towerLast_75 : decode cX0_towerLast 75 = .ok (.iinc 6 1, 3) := dk_132 6 1 (dk_at dksX0_towerLast_3 6 rfl rfl)
theorem dX0_towerLast_78 : decode cX0_towerLast 78 = .ok (.goto (-45), 3) := dk_167 255 211 (dk_at dksX0_towerLast_3 9 rfl rfl)
theorem dX0_towerLast_81 : decode cX0_towerLast 81 = .ok (.iload 4, 2) := dk_21 4 (dk_at dksX0_towerLast_3 12 rfl rfl)
theorem dX0_towerLast_83 : decode cX0_towerLast 83 = .ok (.ireturn, 1) := dk_172 (dk_at dksX0_towerLast_3 14 rfl rfl)
abbrev cX0_outlasts : ByteArray := prog_1_method_57_code
def yX0_outlasts : MethodName := ⟨RX0, "outlasts", "(IIIIZ)I"⟩
def dkwX0_outlasts_4 : List UInt8 := [153, 0, 7, 29, 167, 0, 5, 21, 6, 21, 6, 29, 184, 1, 148, 108, 172]
abbrev dktX0_outlasts_4 : List UInt8 := dkwX0_outlasts_4 ++ []
def dkwX0_outlasts_3 : List UInt8 := [182, 1, 106, 164, 0, 7, 4, 167, 0, 4, 3, 96, 54, 6, 132, 7, 1, 167, 255, 217, 21, 5]
abbrev dktX0_outlasts_3 : List UInt8 := dkwX0_outlasts_3 ++ dktX0_outlasts_4
def dkwX0_outlasts_2 : List UInt8 := [21, 7, 29, 163, 0, 39, 21, 6, 42, 27, 2, 21, 7, 21, 4, 182, 1, 112, 42, 28, 21, 4]
abbrev dktX0_outlasts_2 : List UInt8 := dkwX0_outlasts_2 ++ dktX0_outlasts_3
def dkwX0_outlasts_1 : List UInt8 := [184, 1, 142, 153, 0, 12, 3, 21, 4, 184, 1, 109, 154, 0, 6, 16, 254, 172, 3, 54, 6, 4, 54, 7]
abbrev dktX0_outlasts_1 : List UInt8 := dkwX0_outlasts_1 ++ dktX0_outlasts_2
def dkwX0_outlasts_0 : List UInt8 := [42, 27, 182, 1, 17, 153, 0, 32, 42, 28, 182, 1, 17, 153, 0, 24, 27, 28, 159, 0, 19, 29]
abbrev dktX0_outlasts_0 : List UInt8 := dkwX0_outlasts_0 ++ dktX0_outlasts_1
theorem dksX0_outlasts_0 : cX0_outlasts.data.toList.drop 0 = dktX0_outlasts_0 := by decide +kernel
theorem dksX0_outlasts_1 : cX0_outlasts.data.toList.drop 22 = dktX0_outlasts_1 := dk_seg dksX0_outlasts_0 22 rfl rfl
theorem dksX0_outlasts_2 : cX0_outlasts.data.toList.drop 46 = dktX0_outlasts_2 := dk_seg dksX0_outlasts_1 24 rfl rfl
theorem dksX0_outlasts_3 : cX0_outlasts.data.toList.drop 68 = dktX0_outlasts_3 := dk_seg dksX0_outlasts_2 22 rfl rfl
theorem dksX0_outlasts_4 : cX0_outlasts.data.toList.drop 90 = dktX0_outlasts_4 := dk_seg dksX0_outlasts_3 22 rfl rfl
theorem dX0_outlasts_0 : decode cX0_outlasts 0 = .ok (.aload_n 0, 1) := dk_42 (dk_at dksX0_outlasts_0 0 rfl rfl)
theorem dX0_outlasts_1 : decode cX0_outlasts 1 = .ok (.iload_n 1, 1) := dk_27 (dk_at dksX0_outlasts_0 1 rfl rfl)
theorem dX0_outlasts_2 : decode cX0_outlasts 2 = .ok (.invokevirtual 273, 3) := dk_182 1 17 (dk_at dksX0_outlasts_0 2 rfl rfl)
theorem dX0_outlasts_5 : decode cX0_outlasts 5 = .ok (.ifCond .eq 32, 3) := dk_153 0 32 (dk_at dksX0_outlasts_0 5 rfl rfl)
theorem dX0_outlasts_8 : decode cX0_outlasts 8 = .ok (.aload_n 0, 1) := dk_42 (dk_at dksX0_outlasts_0 8 rfl rfl)
theorem dX0_outlasts_9 : decode cX0_outlasts 9 = .ok (.iload_n 2, 1) := dk_28 (dk_at dksX0_outlasts_0 9 rfl rfl)
theorem dX0_outlasts_10 : decode cX0_outlasts 10 = .ok (.invokevirtual 273, 3) := dk_182 1 17 (dk_at dksX0_outlasts_0 10 rfl rfl)
theorem dX0_outlasts_13 : decode cX0_outlasts 13 = .ok (.ifCond .eq 24, 3) := dk_153 0 24 (dk_at dksX0_outlasts_0 13 rfl rfl)
theorem dX0_outlasts_16 : decode cX0_outlasts 16 = .ok (.iload_n 1, 1) := dk_27 (dk_at dksX0_outlasts_0 16 rfl rfl)
theorem dX0_outlasts_17 : decode cX0_outlasts 17 = .ok (.iload_n 2, 1) := dk_28 (dk_at dksX0_outlasts_0 17 rfl rfl)
theorem dX0_outlasts_18 : decode cX0_outlasts 18 = .ok (.if_icmp .eq 19, 3) := dk_159 0 19 (dk_at dksX0_outlasts_0 18 rfl rfl)
theorem dX0_outlasts_21 : decode cX0_outlasts 21 = .ok (.iload_n 3, 1) := dk_29 (dk_at dksX0_outlasts_0 21 rfl rfl)
theorem dX0_outlasts_22 : decode cX0_outlasts 22 = .ok (.invokestatic 398, 3) := dk_184 1 142 (dk_at dksX0_outlasts_1 0 rfl rfl)
theorem dX0_outlasts_25 : decode cX0_outlasts 25 = .ok (.ifCond .eq 12, 3) := dk_153 0 12 (dk_at dksX0_outlasts_1 3 rfl rfl)
theorem dX0_outlasts_28 : decode cX0_outlasts 28 = .ok (.iconst 0, 1) := dk_3 (dk_at dksX0_outlasts_1 6 rfl rfl)
theorem dX0_outlasts_29 : decode cX0_outlasts 29 = .ok (.iload 4, 2) := dk_21 4 (dk_at dksX0_outlasts_1 7 rfl rfl)
theorem dX0_outlasts_31 : decode cX0_outlasts 31 = .ok (.invokestatic 365, 3) := dk_184 1 109 (dk_at dksX0_outlasts_1 9 rfl rfl)
theorem dX0_outlasts_34 : decode cX0_outlasts 34 = .ok (.ifCond .ne 6, 3) := dk_154 0 6 (dk_at dksX0_outlasts_1 12 rfl rfl)
theorem dX0_outlasts_37 : decode cX0_outlasts 37 = .ok (.bipush (-2), 2) := dk_16 254 (dk_at dksX0_outlasts_1 15 rfl rfl)
theorem dX0_outlasts_39 : decode cX0_outlasts 39 = .ok (.ireturn, 1) := dk_172 (dk_at dksX0_outlasts_1 17 rfl rfl)
theorem dX0_outlasts_40 : decode cX0_outlasts 40 = .ok (.iconst 0, 1) := dk_3 (dk_at dksX0_outlasts_1 18 rfl rfl)
theorem dX0_outlasts_41 : decode cX0_outlasts 41 = .ok (.istore 6, 2) := dk_54 6 (dk_at dksX0_outlasts_1 19 rfl rfl)
theorem dX0_outlasts_43 : decode cX0_outlasts 43 = .ok (.iconst 1, 1) := dk_4 (dk_at dksX0_outlasts_1 21 rfl rfl)
theorem dX0_outlasts_44 : decode cX0_outlasts 44 = .ok (.istore 7, 2) := dk_54 7 (dk_at dksX0_outlasts_1 22 rfl rfl)
theorem dX0_outlasts_46 : decode cX0_outlasts 46 = .ok (.iload 7, 2) := dk_21 7 (dk_at dksX0_outlasts_2 0 rfl rfl)
theorem dX0_outlasts_48 : decode cX0_outlasts 48 = .ok (.iload_n 3, 1) := dk_29 (dk_at dksX0_outlasts_2 2 rfl rfl)
theorem dX0_outlasts_49 : decode cX0_outlasts 49 = .ok (.if_icmp .gt 39, 3) := dk_163 0 39 (dk_at dksX0_outlasts_2 3 rfl rfl)
theorem dX0_outlasts_52 : decode cX0_outlasts 52 = .ok (.iload 6, 2) := dk_21 6 (dk_at dksX0_outlasts_2 6 rfl rfl)
theorem dX0_outlasts_54 : decode cX0_outlasts 54 = .ok (.aload_n 0, 1) := dk_42 (dk_at dksX0_outlasts_2 8 rfl rfl)
theorem dX0_outlasts_55 : decode cX0_outlasts 55 = .ok (.iload_n 1, 1) := dk_27 (dk_at dksX0_outlasts_2 9 rfl rfl)
theorem dX0_outlasts_56 : decode cX0_outlasts 56 = .ok (.iconst (-1), 1) := dk_2 (dk_at dksX0_outlasts_2 10 rfl rfl)
theorem dX0_outlasts_57 : decode cX0_outlasts 57 = .ok (.iload 7, 2) := dk_21 7 (dk_at dksX0_outlasts_2 11 rfl rfl)
theorem dX0_outlasts_59 : decode cX0_outlasts 59 = .ok (.iload 4, 2) := dk_21 4 (dk_at dksX0_outlasts_2 13 rfl rfl)
theorem dX0_outlasts_61 : decode cX0_outlasts 61 = .ok (.invokevirtual 368, 3) := dk_182 1 112 (dk_at dksX0_outlasts_2 15 rfl rfl)
theorem dX0_outlasts_64 : decode cX0_outlasts 64 = .ok (.aload_n 0, 1) := dk_42 (dk_at dksX0_outlasts_2 18 rfl rfl)
theorem dX0_outlasts_65 : decode cX0_outlasts 65 = .ok (.iload_n 2, 1) := dk_28 (dk_at dksX0_outlasts_2 19 rfl rfl)
theorem dX0_outlasts_66 : decode cX0_outlasts 66 = .ok (.iload 4, 2) := dk_21 4 (dk_at dksX0_outlasts_2 20 rfl rfl)
theorem dX0_outlasts_68 : decode cX0_outlasts 68 = .ok (.invokevirtual 362, 3) := dk_182 1 106 (dk_at dksX0_outlasts_3 0 rfl rfl)
theorem dX0_outlasts_71 : decode cX0_outlasts 71 = .ok (.if_icmp .le 7, 3) := dk_164 0 7 (dk_at dksX0_outlasts_3 3 rfl rfl)
theorem dX0_outlasts_74 : decode cX0_outlasts 74 = .ok (.iconst 1, 1) := dk_4 (dk_at dksX0_outlasts_3 6 rfl rfl)
theorem dX0_outlasts_75 : decode cX0_outlasts 75 = .ok (.goto 4, 3) := dk_167 0 4 (dk_at dksX0_outlasts_3 7 rfl rfl)
theorem dX0_outlasts_78 : decode cX0_outlasts 78 = .ok (.iconst 0, 1) := dk_3 (dk_at dksX0_outlasts_3 10 rfl rfl)
theorem dX0_outlasts_79 : decode cX0_outlasts 79 = .ok (.iadd, 1) := dk_96 (dk_at dksX0_outlasts_3 11 rfl rfl)
theorem dX0_outlasts_80 : decode cX0_outlasts 80 = .ok (.istore 6, 2) := dk_54 6 (dk_at dksX0_outlasts_3 12 rfl rfl)
theorem dX0_outlasts_82 : decode cX0_outlasts 82 = .ok (.iinc 7 1, 3) := dk_132 7 1 (dk_at dksX0_outlasts_3 14 rfl rfl)
theorem dX0_outlasts_85 : decode cX0_outlasts 85 = .ok (.goto (-39), 3) := dk_167 255 217 (dk_at dksX0_outlasts_3 17 rfl rfl)
theorem dX0_outlasts_88 : decode cX0_outlasts 88 = .ok (.iload 5, 2) := dk_21 5 (dk_at dksX0_outlasts_3 20 rfl rfl)
theorem dX0_outlasts_90 : decode cX0_outlasts 90 = .ok (.ifCond .eq 7, 3) := dk_153 0 7 (dk_at dksX0_outlasts_4 0 rfl rfl)
theorem dX0_outlasts_93 : decode cX0_outlasts 93 = .ok (.iload_n 3, 1) := dk_29 (dk_at dksX0_outlasts_4 3 rfl rfl)
theorem dX0_outlasts_94 : decode cX0_outlasts 94 = .ok (.goto 5, 3) := dk_167 0 5 (dk_at dksX0_outlasts_4 4 rfl rfl)
theorem dX0_outlasts_97 : decode cX0_outlasts 97 = .ok (.iload 6, 2) := dk_21 6 (dk_at dksX0_outlasts_4 7 rfl rfl)
theorem dX0_outlasts_99 : decode cX0_outlasts 99 = .ok (.iload 6, 2) := dk_21 6 (dk_at dksX0_outlasts_4 9 rfl rfl)
theorem dX0_outlasts_101 : decode cX0_outlasts 101 = .ok (.iload_n 3, 1) := dk_29 (dk_at dksX0_outlasts_4 11 rfl rfl)
theorem dX0_outlasts_102 : decode cX0_outlasts 102 = .ok (.invokestatic 404, 3) := dk_184 1 148 (dk_at dksX0_outlasts_4 12 rfl rfl)
theorem dX0_outlasts_105 : decode cX0_outlasts 105 = .ok (.idiv, 1) := dk_108 (dk_at dksX0_outlasts_4 15 rfl rfl)
theorem dX0_outlasts_106 : decode cX0_outlasts 106 = .ok (.ireturn, 1) := dk_172 (dk_at dksX0_outlasts_4 16 rfl rfl)
abbrev cX0_common : ByteArray := prog_1_method_56_code
def yX0_common : MethodName := ⟨RX0, "common", "(II)I"⟩
def dkwX0_common_0 : List UInt8 := [27, 154, 0, 7, 26, 167, 0, 10, 27, 26, 27, 112, 184, 1, 148, 172]
abbrev dktX0_common_0 : List UInt8 := dkwX0_common_0 ++ []
theorem dksX0_common_0 : cX0_common.data.toList.drop 0 = dktX0_common_0 := by decide +kernel
theorem dX0_common_0 : decode cX0_common 0 = .ok (.iload_n 1, 1) := dk_27 (dk_at dksX0_common_0 0 rfl rfl)
theorem dX0_common_1 : decode cX0_common 1 = .ok (.ifCond .ne 7, 3) := dk_154 0 7 (dk_at dksX0_common_0 1 rfl rfl)
theorem dX0_common_4 : decode cX0_common 4 = .ok (.iload_n 0, 1) := dk_26 (dk_at dksX0_common_0 4 rfl rfl)
theorem dX0_common_5 : decode cX0_common 5 = .ok (.goto 10, 3) := dk_167 0 10 (dk_at dksX0_common_0 5 rfl rfl)
theorem dX0_common_8 : decode cX0_common 8 = .ok (.iload_n 1, 1) := dk_27 (dk_at dksX0_common_0 8 rfl rfl)
theorem dX0_common_9 : decode cX0_common 9 = .ok (.iload_n 0, 1) := dk_26 (dk_at dksX0_common_0 9 rfl rfl)
theorem dX0_common_10 : decode cX0_common 10 = .ok (.iload_n 1, 1) := dk_27 (dk_at dksX0_common_0 10 rfl rfl)
theorem dX0_common_11 : decode cX0_common 11 = .ok (.irem, 1) := dk_112 (dk_at dksX0_common_0 11 rfl rfl)
theorem dX0_common_12 : decode cX0_common 12 = .ok (.invokestatic 404, 3) := dk_184 1 148 (dk_at dksX0_common_0 12 rfl rfl)
theorem dX0_common_15 : decode cX0_common 15 = .ok (.ireturn, 1) := dk_172 (dk_at dksX0_common_0 15 rfl rfl)
abbrev cX0_contest : ByteArray := prog_1_method_58_code
def yX0_contest : MethodName := ⟨RX0, "contest", "(III)I"⟩
def dkwX0_contest_6 : List UInt8 := [54, 4, 21, 7, 54, 5, 132, 6, 1, 167, 255, 156, 21, 4, 172]
abbrev dktX0_contest_6 : List UInt8 := dkwX0_contest_6 ++ []
def dkwX0_contest_5 : List UInt8 := [132, 8, 1, 167, 255, 204, 21, 4, 2, 159, 0, 13, 21, 7, 21, 5, 163, 0, 6, 167, 0, 11, 21, 6]
abbrev dktX0_contest_5 : List UInt8 := dkwX0_contest_5 ++ dktX0_contest_6
def dkwX0_contest_4 : List UInt8 := [167, 0, 20, 42, 180, 0, 54, 180, 1, 1, 42, 180, 0, 27, 180, 1, 23, 3, 46, 46, 96, 54, 7]
abbrev dktX0_contest_4 : List UInt8 := dkwX0_contest_4 ++ dktX0_contest_5
def dkwX0_contest_3 : List UInt8 := [163, 0, 52, 42, 3, 21, 6, 21, 8, 29, 182, 1, 112, 54, 9, 21, 7, 27, 154, 0, 8, 21, 9]
abbrev dktX0_contest_3 : List UInt8 := dkwX0_contest_3 ++ dktX0_contest_4
def dkwX0_contest_2 : List UInt8 := [54, 6, 21, 6, 42, 180, 0, 41, 182, 0, 151, 162, 0, 94, 3, 54, 7, 4, 54, 8, 21, 8, 28]
abbrev dktX0_contest_2 : List UInt8 := dkwX0_contest_2 ++ dktX0_contest_3
def dkwX0_contest_1 : List UInt8 := [16, 254, 172, 42, 180, 0, 27, 180, 0, 168, 154, 0, 6, 16, 252, 172, 2, 54, 4, 3, 54, 5, 3]
abbrev dktX0_contest_1 : List UInt8 := dkwX0_contest_1 ++ dktX0_contest_2
def dkwX0_contest_0 : List UInt8 := [27, 3, 4, 184, 0, 164, 153, 0, 18, 28, 184, 1, 142, 153, 0, 11, 3, 29, 184, 1, 109, 154, 0, 6]
abbrev dktX0_contest_0 : List UInt8 := dkwX0_contest_0 ++ dktX0_contest_1
theorem dksX0_contest_0 : cX0_contest.data.toList.drop 0 = dktX0_contest_0 := by decide +kernel
theorem dksX0_contest_1 : cX0_contest.data.toList.drop 24 = dktX0_contest_1 := dk_seg dksX0_contest_0 24 rfl rfl
theorem dksX0_contest_2 : cX0_contest.data.toList.drop 47 = dktX0_contest_2 := dk_seg dksX0_contest_1 23 rfl rfl
theorem dksX0_contest_3 : cX0_contest.data.toList.drop 70 = dktX0_contest_3 := dk_seg dksX0_contest_2 23 rfl rfl
theorem dksX0_contest_4 : cX0_contest.data.toList.drop 93 = dktX0_contest_4 := dk_seg dksX0_contest_3 23 rfl rfl
theorem dksX0_contest_5 : cX0_contest.data.toList.drop 116 = dktX0_contest_5 := dk_seg dksX0_contest_4 23 rfl rfl
theorem dksX0_contest_6 : cX0_contest.data.toList.drop 140 = dktX0_contest_6 := dk_seg dksX0_contest_5 24 rfl rfl
theorem dX0_contest_0 : decode cX0_contest 0 = .ok (.iload_n 1, 1) := dk_27 (dk_at dksX0_contest_0 0 rfl rfl)
theorem dX0_contest_1 : decode cX0_contest 1 = .ok (.iconst 0, 1) := dk_3 (dk_at dksX0_contest_0 1 rfl rfl)
theorem dX0_contest_2 : decode cX0_contest 2 = .ok (.iconst 1, 1) := dk_4 (dk_at dksX0_contest_0 2 rfl rfl)
theorem dX0_contest_3 : decode cX0_contest 3 = .ok (.invokestatic 164, 3) := dk_184 0 164 (dk_at dksX0_contest_0 3 rfl rfl)
theorem dX0_contest_6 : decode cX0_contest 6 = .ok (.ifCond .eq 18, 3) := dk_153 0 18 (dk_at dksX0_contest_0 6 rfl rfl)
theorem dX0_contest_9 : decode cX0_contest 9 = .ok (.iload_n 2, 1) := dk_28 (dk_at dksX0_contest_0 9 rfl rfl)
theorem dX0_contest_10 : decode cX0_contest 10 = .ok (.invokestatic 398, 3) := dk_184 1 142 (dk_at dksX0_contest_0 10 rfl rfl)
theorem dX0_contest_13 : decode cX0_contest 13 = .ok (.ifCond .eq 11, 3) := dk_153 0 11 (dk_at dksX0_contest_0 13 rfl rfl)
theorem dX0_contest_16 : decode cX0_contest 16 = .ok (.iconst 0, 1) := dk_3 (dk_at dksX0_contest_0 16 rfl rfl)
theorem dX0_contest_17 : decode cX0_contest 17 = .ok (.iload_n 3, 1) := dk_29 (dk_at dksX0_contest_0 17 rfl rfl)
theorem dX0_contest_18 : decode cX0_contest 18 = .ok (.invokestatic 365, 3) := dk_184 1 109 (dk_at dksX0_contest_0 18 rfl rfl)
theorem dX0_contest_21 : decode cX0_contest 21 = .ok (.ifCond .ne 6, 3) := dk_154 0 6 (dk_at dksX0_contest_0 21 rfl rfl)
theorem dX0_contest_24 : decode cX0_contest 24 = .ok (.bipush (-2), 2) := dk_16 254 (dk_at dksX0_contest_1 0 rfl rfl)
theorem dX0_contest_26 : decode cX0_contest 26 = .ok (.ireturn, 1) := dk_172 (dk_at dksX0_contest_1 2 rfl rfl)
theorem dX0_contest_27 : decode cX0_contest 27 = .ok (.aload_n 0, 1) := dk_42 (dk_at dksX0_contest_1 3 rfl rfl)
theorem dX0_contest_28 : decode cX0_contest 28 = .ok (.getfield 27, 3) := dk_180 0 27 (dk_at dksX0_contest_1 4 rfl rfl)
theorem dX0_contest_31 : decode cX0_contest 31 = .ok (.getfield 168, 3) := dk_180 0 168 (dk_at dksX0_contest_1 7 rfl rfl)
theorem dX0_contest_34 : decode cX0_contest 34 = .ok (.ifCond .ne 6, 3) := dk_154 0 6 (dk_at dksX0_contest_1 10 rfl rfl)
theorem dX0_contest_37 : decode cX0_contest 37 = .ok (.bipush (-4), 2) := dk_16 252 (dk_at dksX0_contest_1 13 rfl rfl)
theorem dX0_contest_39 : decode cX0_contest 39 = .ok (.ireturn, 1) := dk_172 (dk_at dksX0_contest_1 15 rfl rfl)
theorem dX0_contest_40 : decode cX0_contest 40 = .ok (.iconst (-1), 1) := dk_2 (dk_at dksX0_contest_1 16 rfl rfl)
theorem dX0_contest_41 : decode cX0_contest 41 = .ok (.istore 4, 2) := dk_54 4 (dk_at dksX0_contest_1 17 rfl rfl)
theorem dX0_contest_43 : decode cX0_contest 43 = .ok (.iconst 0, 1) := dk_3 (dk_at dksX0_contest_1 19 rfl rfl)
theorem dX0_contest_44 : decode cX0_contest 44 = .ok (.istore 5, 2) := dk_54 5 (dk_at dksX0_contest_1 20 rfl rfl)
theorem dX0_contest_46 : decode cX0_contest 46 = .ok (.iconst 0, 1) := dk_3 (dk_at dksX0_contest_1 22 rfl rfl)
theorem dX0_contest_47 : decode cX0_contest 47 = .ok (.istore 6, 2) := dk_54 6 (dk_at dksX0_contest_2 0 rfl rfl)
theorem dX0_contest_49 : decode cX0_contest 49 = .ok (.iload 6, 2) := dk_21 6 (dk_at dksX0_contest_2 2 rfl rfl)
theorem dX0_contest_51 : decode cX0_contest 51 = .ok (.aload_n 0, 1) := dk_42 (dk_at dksX0_contest_2 4 rfl rfl)
theorem dX0_contest_52 : decode cX0_contest 52 = .ok (.getfield 41, 3) := dk_180 0 41 (dk_at dksX0_contest_2 5 rfl rfl)
theorem dX0_contest_55 : decode cX0_contest 55 = .ok (.invokevirtual 151, 3) := dk_182 0 151 (dk_at dksX0_contest_2 8 rfl rfl)
theorem dX0_contest_58 : decode cX0_contest 58 = .ok (.if_icmp .ge 94, 3) := dk_162 0 94 (dk_at dksX0_contest_2 11 rfl rfl)
theorem dX0_contest_61 : decode cX0_contest 61 = .ok (.iconst 0, 1) := dk_3 (dk_at dksX0_contest_2 14 rfl rfl)
theorem dX0_contest_62 : decode cX0_contest 62 = .ok (.istore 7, 2) := dk_54 7 (dk_at dksX0_contest_2 15 rfl rfl)
theorem dX0_contest_64 : decode cX0_contest 64 = .ok (.iconst 1, 1) := dk_4 (dk_at dksX0_contest_2 17 rfl rfl)
theorem dX0_contest_65 : decode cX0_contest 65 = .ok (.istore 8, 2) := dk_54 8 (dk_at dksX0_contest_2 18 rfl rfl)
theorem dX0_contest_67 : decode cX0_contest 67 = .ok (.iload 8, 2) := dk_21 8 (dk_at dksX0_contest_2 20 rfl rfl)
theorem dX0_contest_69 : decode cX0_contest 69 = .ok (.iload_n 2, 1) := dk_28 (dk_at dksX0_contest_2 22 rfl rfl)
theorem dX0_contest_70 : decode cX0_contest 70 = .ok (.if_icmp .gt 52, 3) := dk_163 0 52 (dk_at dksX0_contest_3 0 rfl rfl)
theorem dX0_contest_73 : decode cX0_contest 73 = .ok (.aload_n 0, 1) := dk_42 (dk_at dksX0_contest_3 3 rfl rfl)
theorem dX0_contest_74 : decode cX0_contest 74 = .ok (.iconst 0, 1) := dk_3 (dk_at dksX0_contest_3 4 rfl rfl)
theorem dX0_contest_75 : decode cX0_contest 75 = .ok (.iload 6, 2) := dk_21 6 (dk_at dksX0_contest_3 5 rfl rfl)
theorem dX0_contest_77 : decode cX0_contest 77 = .ok (.iload 8, 2) := dk_21 8 (dk_at dksX0_contest_3 7 rfl rfl)
theorem dX0_contest_79 : decode cX0_contest 79 = .ok (.iload_n 3, 1) := dk_29 (dk_at dksX0_contest_3 9 rfl rfl)
theorem dX0_contest_80 : decode cX0_contest 80 = .ok (.invokevirtual 368, 3) := dk_182 1 112 (dk_at dksX0_contest_3 10 rfl rfl)
theorem dX0_contest_83 : decode cX0_contest 83 = .ok (.istore 9, 2) := dk_54 9 (dk_at dksX0_contest_3 13 rfl rfl)
theorem dX0_contest_85 : decode cX0_contest 85 = .ok (.iload 7, 2) := dk_21 7 (dk_at dksX0_contest_3 15 rfl rfl)
theorem dX0_contest_87 : decode cX0_contest 87 = .ok (.iload_n 1, 1) := dk_27 (dk_at dksX0_contest_3 17 rfl rfl)
theorem dX0_contest_88 : decode cX0_contest 88 = .ok (.ifCond .ne 8, 3) := dk_154 0 8 (dk_at dksX0_contest_3 18 rfl rfl)
theorem dX0_contest_91 : decode cX0_contest 91 = .ok (.iload 9, 2) := dk_21 9 (dk_at dksX0_contest_3 21 rfl rfl)
theorem dX0_contest_93 : decode cX0_contest 93 = .ok (.goto 20, 3) := dk_167 0 20 (dk_at dksX0_contest_4 0 rfl rfl)
theorem dX0_contest_96 : decode cX0_contest 96 = .ok (.aload_n 0, 1) := dk_42 (dk_at dksX0_contest_4 3 rfl rfl)
theorem dX0_contest_97 : decode cX0_contest 97 = .ok (.getfield 54, 3) := dk_180 0 54 (dk_at dksX0_contest_4 4 rfl rfl)
theorem dX0_contest_100 : decode cX0_contest 100 = .ok (.getfield 257, 3) := dk_180 1 1 (dk_at dksX0_contest_4 7 rfl rfl)
theorem dX0_contest_103 : decode cX0_contest 103 = .ok (.aload_n 0, 1) := dk_42 (dk_at dksX0_contest_4 10 rfl rfl)
theorem dX0_contest_104 : decode cX0_contest 104 = .ok (.getfield 27, 3) := dk_180 0 27 (dk_at dksX0_contest_4 11 rfl rfl)
theorem dX0_contest_107 : decode cX0_contest 107 = .ok (.getfield 279, 3) := dk_180 1 23 (dk_at dksX0_contest_4 14 rfl rfl)
theorem dX0_contest_110 : decode cX0_contest 110 = .ok (.iconst 0, 1) := dk_3 (dk_at dksX0_contest_4 17 rfl rfl)
theorem dX0_contest_111 : decode cX0_contest 111 = .ok (.iaload, 1) := dk_46 (dk_at dksX0_contest_4 18 rfl rfl)
theorem dX0_contest_112 : decode cX0_contest 112 = .ok (.iaload, 1) := dk_46 (dk_at dksX0_contest_4 19 rfl rfl)
theorem dX0_contest_113 : decode cX0_contest 113 = .ok (.iadd, 1) := dk_96 (dk_at dksX0_contest_4 20 rfl rfl)
theorem dX0_contest_114 : decode cX0_contest 114 = .ok (.istore 7, 2) := dk_54 7 (dk_at dksX0_contest_4 21 rfl rfl)
theorem dX0_contest_116 : decode cX0_contest 116 = .ok (.iinc 8 1, 3) := dk_132 8 1 (dk_at dksX0_contest_5 0 rfl rfl)
theorem dX0_contest_119 : decode cX0_contest 119 = .ok (.goto (-52), 3) := dk_167 255 204 (dk_at dksX0_contest_5 3 rfl rfl)
theorem dX0_contest_122 : decode cX0_contest 122 = .ok (.iload 4, 2) := dk_21 4 (dk_at dksX0_contest_5 6 rfl rfl)
theorem dX0_contest_124 : decode cX0_contest 124 = .ok (.iconst (-1), 1) := dk_2 (dk_at dksX0_contest_5 8 rfl rfl)
theorem dX0_contest_125 : decode cX0_contest 125 = .ok (.if_icmp .eq 13, 3) := dk_159 0 13 (dk_at dksX0_contest_5 9 rfl rfl)
theorem dX0_contest_128 : decode cX0_contest 128 = .ok (.iload 7, 2) := dk_21 7 (dk_at dksX0_contest_5 12 rfl rfl)
theorem dX0_contest_130 : decode cX0_contest 130 = .ok (.iload 5, 2) := dk_21 5 (dk_at dksX0_contest_5 14 rfl rfl)
theorem dX0_contest_132 : decode cX0_contest 132 = .ok (.if_icmp .gt 6, 3) := dk_163 0 6 (dk_at dksX0_contest_5 16 rfl rfl)
theorem dX0_contest_135 : decode cX0_contest 135 = .ok (.goto 11, 3) := dk_167 0 11 (dk_at dksX0_contest_5 19 rfl rfl)
theorem dX0_contest_138 : decode cX0_contest 138 = .ok (.iload 6, 2) := dk_21 6 (dk_at dksX0_contest_5 22 rfl rfl)
theorem dX0_contest_140 : decode cX0_contest 140 = .ok (.istore 4, 2) := dk_54 4 (dk_at dksX0_contest_6 0 rfl rfl)
theorem dX0_contest_142 : decode cX0_contest 142 = .ok (.iload 7, 2) := dk_21 7 (dk_at dksX0_contest_6 2 rfl rfl)
theorem dX0_contest_144 : decode cX0_contest 144 = .ok (.istore 5, 2) := dk_54 5 (dk_at dksX0_contest_6 4 rfl rfl)
theorem dX0_contest_146 : decode cX0_contest 146 = .ok (.iinc 6 1, 3) := dk_132 6 1 (dk_at dksX0_contest_6 6 rfl rfl)
theorem dX0_contest_149 : decode cX0_contest 149 = .ok (.goto (-100), 3) := dk_167 255 156 (dk_at dksX0_contest_6 9 rfl rfl)
theorem dX0_contest_152 : decode cX0_contest 152 = .ok (.iload 4, 2) := dk_21 4 (dk_at dksX0_contest_6 12 rfl rfl)
theorem dX0_contest_154 : decode cX0_contest 154 = .ok (.ireturn, 1) := dk_172 (dk_at dksX0_contest_6 14 rfl rfl)
abbrev cX0_which : ByteArray := prog_1_method_59_code
def yX0_which : MethodName := ⟨RX0, "which", "()I"⟩
def dkwX0_which_8 : List UInt8 := [153, 0, 9, 4, 29, 120, 167, 0, 4, 3, 128, 61, 132, 3, 1, 167, 255, 112, 28, 172]
abbrev dktX0_which_8 : List UInt8 := dkwX0_which_8 ++ []
def dkwX0_which_7 : List UInt8 := [51, 16, 32, 100, 160, 0, 7, 4, 167, 0, 4, 3, 54, 4, 132, 5, 1, 167, 255, 212, 28, 21, 4]
abbrev dktX0_which_7 : List UInt8 := dkwX0_which_7 ++ dktX0_which_8
def dkwX0_which_6 : List UInt8 := [162, 0, 44, 21, 4, 153, 0, 30, 42, 180, 0, 54, 180, 1, 1, 21, 5, 46, 42, 180, 0, 16, 21, 5]
abbrev dktX0_which_6 : List UInt8 := dkwX0_which_6 ++ dktX0_which_7
def dkwX0_which_5 : List UInt8 := [180, 0, 218, 182, 1, 151, 42, 180, 0, 54, 182, 1, 154, 4, 54, 4, 3, 54, 5, 21, 5, 27]
abbrev dktX0_which_5 : List UInt8 := dkwX0_which_5 ++ dktX0_which_6
def dkwX0_which_4 : List UInt8 := [182, 0, 207, 192, 0, 211, 180, 0, 216, 42, 180, 0, 34, 180, 0, 192, 29, 182, 0, 207, 192, 0, 211]
abbrev dktX0_which_4 : List UInt8 := dkwX0_which_4 ++ dktX0_which_5
def dkwX0_which_3 : List UInt8 := [180, 0, 54, 42, 180, 0, 50, 182, 1, 50, 42, 180, 0, 54, 42, 180, 0, 34, 180, 0, 192, 29]
abbrev dktX0_which_3 : List UInt8 := dkwX0_which_3 ++ dktX0_which_4
def dkwX0_which_2 : List UInt8 := [167, 255, 230, 3, 61, 3, 62, 29, 42, 180, 0, 34, 180, 0, 192, 182, 0, 151, 162, 0, 136, 42]
abbrev dktX0_which_2 : List UInt8 := dkwX0_which_2 ++ dktX0_which_3
def dkwX0_which_1 : List UInt8 := [162, 0, 27, 42, 180, 0, 16, 28, 51, 16, 32, 16, 126, 184, 0, 164, 154, 0, 5, 2, 172, 132, 2, 1]
abbrev dktX0_which_1 : List UInt8 := dkwX0_which_1 ++ dktX0_which_2
def dkwX0_which_0 : List UInt8 := [42, 182, 0, 117, 60, 27, 42, 180, 0, 27, 182, 1, 119, 159, 0, 5, 2, 172, 3, 61, 28, 27]
abbrev dktX0_which_0 : List UInt8 := dkwX0_which_0 ++ dktX0_which_1
theorem dksX0_which_0 : cX0_which.data.toList.drop 0 = dktX0_which_0 := by decide +kernel
theorem dksX0_which_1 : cX0_which.data.toList.drop 22 = dktX0_which_1 := dk_seg dksX0_which_0 22 rfl rfl
theorem dksX0_which_2 : cX0_which.data.toList.drop 46 = dktX0_which_2 := dk_seg dksX0_which_1 24 rfl rfl
theorem dksX0_which_3 : cX0_which.data.toList.drop 68 = dktX0_which_3 := dk_seg dksX0_which_2 22 rfl rfl
theorem dksX0_which_4 : cX0_which.data.toList.drop 90 = dktX0_which_4 := dk_seg dksX0_which_3 22 rfl rfl
theorem dksX0_which_5 : cX0_which.data.toList.drop 113 = dktX0_which_5 := dk_seg dksX0_which_4 23 rfl rfl
theorem dksX0_which_6 : cX0_which.data.toList.drop 135 = dktX0_which_6 := dk_seg dksX0_which_5 22 rfl rfl
theorem dksX0_which_7 : cX0_which.data.toList.drop 159 = dktX0_which_7 := dk_seg dksX0_which_6 24 rfl rfl
theorem dksX0_which_8 : cX0_which.data.toList.drop 182 = dktX0_which_8 := dk_seg dksX0_which_7 23 rfl rfl
theorem dX0_which_0 : decode cX0_which 0 = .ok (.aload_n 0, 1) := dk_42 (dk_at dksX0_which_0 0 rfl rfl)
theorem dX0_which_1 : decode cX0_which 1 = .ok (.invokevirtual 117, 3) := dk_182 0 117 (dk_at dksX0_which_0 1 rfl rfl)
theorem dX0_which_4 : decode cX0_which 4 = .ok (.istore_n 1, 1) := dk_60 (dk_at dksX0_which_0 4 rfl rfl)
theorem dX0_which_5 : decode cX0_which 5 = .ok (.iload_n 1, 1) := dk_27 (dk_at dksX0_which_0 5 rfl rfl)
theorem dX0_which_6 : decode cX0_which 6 = .ok (.aload_n 0, 1) := dk_42 (dk_at dksX0_which_0 6 rfl rfl)
theorem dX0_which_7 : decode cX0_which 7 = .ok (.getfield 27, 3) := dk_180 0 27 (dk_at dksX0_which_0 7 rfl rfl)
theorem dX0_which_10 : decode cX0_which 10 = .ok (.invokevirtual 375, 3) := dk_182 1 119 (dk_at dksX0_which_0 10 rfl rfl)
theorem dX0_which_13 : decode cX0_which 13 = .ok (.if_icmp .eq 5, 3) := dk_159 0 5 (dk_at dksX0_which_0 13 rfl rfl)
theorem dX0_which_16 : decode cX0_which 16 = .ok (.iconst (-1), 1) := dk_2 (dk_at dksX0_which_0 16 rfl rfl)
theorem dX0_which_17 : decode cX0_which 17 = .ok (.ireturn, 1) := dk_172 (dk_at dksX0_which_0 17 rfl rfl)
theorem dX0_which_18 : decode cX0_which 18 = .ok (.iconst 0, 1) := dk_3 (dk_at dksX0_which_0 18 rfl rfl)
theorem dX0_which_19 : decode cX0_which 19 = .ok (.istore_n 2, 1) := dk_61 (dk_at dksX0_which_0 19 rfl rfl)
theorem dX0_which_20 : decode cX0_which 20 = .ok (.iload_n 2, 1) := dk_28 (dk_at dksX0_which_0 20 rfl rfl)
theorem dX0_which_21 : decode cX0_which 21 = .ok (.iload_n 1, 1) := dk_27 (dk_at dksX0_which_0 21 rfl rfl)
theorem dX0_which_22 : decode cX0_which 22 = .ok (.if_icmp .ge 27, 3) := dk_162 0 27 (dk_at dksX0_which_1 0 rfl rfl)
theorem dX0_which_25 : decode cX0_which 25 = .ok (.aload_n 0, 1) := dk_42 (dk_at dksX0_which_1 3 rfl rfl)
theorem dX0_which_26 : decode cX0_which 26 = .ok (.getfield 16, 3) := dk_180 0 16 (dk_at dksX0_which_1 4 rfl rfl)
theorem dX0_which_29 : decode cX0_which 29 = .ok (.iload_n 2, 1) := dk_28 (dk_at dksX0_which_1 7 rfl rfl)
theorem dX0_which_30 : decode cX0_which 30 = .ok (.baload, 1) := dk_51 (dk_at dksX0_which_1 8 rfl rfl)
theorem dX0_which_31 : decode cX0_which 31 = .ok (.bipush 32, 2) := dk_16 32 (dk_at dksX0_which_1 9 rfl rfl)
theorem dX0_which_33 : decode cX0_which 33 = .ok (.bipush 126, 2) := dk_16 126 (dk_at dksX0_which_1 11 rfl rfl)
theorem dX0_which_35 : decode cX0_which 35 = .ok (.invokestatic 164, 3) := dk_184 0 164 (dk_at dksX0_which_1 13 rfl rfl)
theorem dX0_which_38 : decode cX0_which 38 = .ok (.ifCond .ne 5, 3) := dk_154 0 5 (dk_at dksX0_which_1 16 rfl rfl)
theorem dX0_which_41 : decode cX0_which 41 = .ok (.iconst (-1), 1) := dk_2 (dk_at dksX0_which_1 19 rfl rfl)
theorem dX0_which_42 : decode cX0_which 42 = .ok (.ireturn, 1) := dk_172 (dk_at dksX0_which_1 20 rfl rfl)
theorem dX0_which_43 : decode cX0_which 43 = .ok (.iinc 2 1, 3) := dk_132 2 1 (dk_at dksX0_which_1 21 rfl rfl)
theorem dX0_which_46 : decode cX0_which 46 = .ok (.goto (-26), 3) := dk_167 255 230 (dk_at dksX0_which_2 0 rfl rfl)
theorem dX0_which_49 : decode cX0_which 49 = .ok (.iconst 0, 1) := dk_3 (dk_at dksX0_which_2 3 rfl rfl)
theorem dX0_which_50 : decode cX0_which 50 = .ok (.istore_n 2, 1) := dk_61 (dk_at dksX0_which_2 4 rfl rfl)
theorem dX0_which_51 : decode cX0_which 51 = .ok (.iconst 0, 1) := dk_3 (dk_at dksX0_which_2 5 rfl rfl)
theorem dX0_which_52 : decode cX0_which 52 = .ok (.istore_n 3, 1) := dk_62 (dk_at dksX0_which_2 6 rfl rfl)
theorem dX0_which_53 : decode cX0_which 53 = .ok (.iload_n 3, 1) := dk_29 (dk_at dksX0_which_2 7 rfl rfl)
theorem dX0_which_54 : decode cX0_which 54 = .ok (.aload_n 0, 1) := dk_42 (dk_at dksX0_which_2 8 rfl rfl)
theorem dX0_which_55 : decode cX0_which 55 = .ok (.getfield 34, 3) := dk_180 0 34 (dk_at dksX0_which_2 9 rfl rfl)
theorem dX0_which_58 : decode cX0_which 58 = .ok (.getfield 192, 3) := dk_180 0 192 (dk_at dksX0_which_2 12 rfl rfl)
theorem dX0_which_61 : decode cX0_which 61 = .ok (.invokevirtual 151, 3) := dk_182 0 151 (dk_at dksX0_which_2 15 rfl rfl)
theorem dX0_which_64 : decode cX0_which 64 = .ok (.if_icmp .ge 136, 3) := dk_162 0 136 (dk_at dksX0_which_2 18 rfl rfl)
theorem dX0_which_67 : decode cX0_which 67 = .ok (.aload_n 0, 1) := dk_42 (dk_at dksX0_which_2 21 rfl rfl)
theorem dX0_which_68 : decode cX0_which 68 = .ok (.getfield 54, 3) := dk_180 0 54 (dk_at dksX0_which_3 0 rfl rfl)
theorem dX0_which_71 : decode cX0_which 71 = .ok (.aload_n 0, 1) := dk_42 (dk_at dksX0_which_3 3 rfl rfl)
theorem dX0_which_72 : decode cX0_which 72 = .ok (.getfield 50, 3) := dk_180 0 50 (dk_at dksX0_which_3 4 rfl rfl)
theorem dX0_which_75 : decode cX0_which 75 = .ok (.invokevirtual 306, 3) := dk_182 1 50 (dk_at dksX0_which_3 7 rfl rfl)
theorem dX0_which_78 : decode cX0_which 78 = .ok (.aload_n 0, 1) := dk_42 (dk_at dksX0_which_3 10 rfl rfl)
theorem dX0_which_79 : decode cX0_which 79 = .ok (.getfield 54, 3) := dk_180 0 54 (dk_at dksX0_which_3 11 rfl rfl)
theorem dX0_which_82 : decode cX0_which 82 = .ok (.aload_n 0, 1) := dk_42 (dk_at dksX0_which_3 14 rfl rfl)
theorem dX0_which_83 : decode cX0_which 83 = .ok (.getfield 34, 3) := dk_180 0 34 (dk_at dksX0_which_3 15 rfl rfl)
theorem dX0_which_86 : decode cX0_which 86 = .ok (.getfield 192, 3) := dk_180 0 192 (dk_at dksX0_which_3 18 rfl rfl)
theorem dX0_which_89 : decode cX0_which 89 = .ok (.iload_n 3, 1) := dk_29 (dk_at dksX0_which_3 21 rfl rfl)
theorem dX0_which_90 : decode cX0_which 90 = .ok (.invokevirtual 207, 3) := dk_182 0 207 (dk_at dksX0_which_4 0 rfl rfl)
theorem dX0_which_93 : decode cX0_which 93 = .ok (.checkcast 211, 3) := dk_192 0 211 (dk_at dksX0_which_4 3 rfl rfl)
theorem dX0_which_96 : decode cX0_which 96 = .ok (.getfield 216, 3) := dk_180 0 216 (dk_at dksX0_which_4 6 rfl rfl)
theorem dX0_which_99 : decode cX0_which 99 = .ok (.aload_n 0, 1) := dk_42 (dk_at dksX0_which_4 9 rfl rfl)
theorem dX0_which_100 : decode cX0_which 100 = .ok (.getfield 34, 3) := dk_180 0 34 (dk_at dksX0_which_4 10 rfl rfl)
theorem dX0_which_103 : decode cX0_which 103 = .ok (.getfield 192, 3) := dk_180 0 192 (dk_at dksX0_which_4 13 rfl rfl)
theorem dX0_which_106 : decode cX0_which 106 = .ok (.iload_n 3, 1) := dk_29 (dk_at dksX0_which_4 16 rfl rfl)
theorem dX0_which_107 : decode cX0_which 107 = .ok (.invokevirtual 207, 3) := dk_182 0 207 (dk_at dksX0_which_4 17 rfl rfl)
theorem dX0_which_110 : decode cX0_which 110 = .ok (.checkcast 211, 3) := dk_192 0 211 (dk_at dksX0_which_4 20 rfl rfl)
theorem dX0_which_113 : decode cX0_which 113 = .ok (.getfield 218, 3) := dk_180 0 218 (dk_at dksX0_which_5 0 rfl rfl)
theorem dX0_which_116 : decode cX0_which 116 = .ok (.invokevirtual 407, 3) := dk_182 1 151 (dk_at dksX0_which_5 3 rfl rfl)
theorem dX0_which_119 : decode cX0_which 119 = .ok (.aload_n 0, 1) := dk_42 (dk_at dksX0_which_5 6 rfl rfl)
theorem dX0_which_120 : decode cX0_which 120 = .ok (.getfield 54, 3) := dk_180 0 54 (dk_at dksX0_which_5 7 rfl rfl)
theorem dX0_which_123 : decode cX0_which 123 = .ok (.invokevirtual 410, 3) := dk_182 1 154 (dk_at dksX0_which_5 10 rfl rfl)
theorem dX0_which_126 : decode cX0_which 126 = .ok (.iconst 1, 1) := dk_4 (dk_at dksX0_which_5 13 rfl rfl)
theorem dX0_which_127 : decode cX0_which 127 = .ok (.istore 4, 2) := dk_54 4 (dk_at dksX0_which_5 14 rfl rfl)
theorem dX0_which_129 : decode cX0_which 129 = .ok (.iconst 0, 1) := dk_3 (dk_at dksX0_which_5 16 rfl rfl)
theorem dX0_which_130 : decode cX0_which 130 = .ok (.istore 5, 2) := dk_54 5 (dk_at dksX0_which_5 17 rfl rfl)
theorem dX0_which_132 : decode cX0_which 132 = .ok (.iload 5, 2) := dk_21 5 (dk_at dksX0_which_5 19 rfl rfl)
theorem dX0_which_134 : decode cX0_which 134 = .ok (.iload_n 1, 1) := dk_27 (dk_at dksX0_which_5 21 rfl rfl)
theorem dX0_which_135 : decode cX0_which 135 = .ok (.if_icmp .ge 44, 3) := dk_162 0 44 (dk_at dksX0_which_6 0 rfl rfl)
theorem dX0_which_138 : decode cX0_which 138 = .ok (.iload 4, 2) := dk_21 4 (dk_at dksX0_which_6 3 rfl rfl)
theorem dX0_which_140 : decode cX0_which 140 = .ok (.ifCond .eq 30, 3) := dk_153 0 30 (dk_at dksX0_which_6 5 rfl rfl)
theorem dX0_which_143 : decode cX0_which 143 = .ok (.aload_n 0, 1) := dk_42 (dk_at dksX0_which_6 8 rfl rfl)
theorem dX0_which_144 : decode cX0_which 144 = .ok (.getfield 54, 3) := dk_180 0 54 (dk_at dksX0_which_6 9 rfl rfl)
theorem dX0_which_147 : decode cX0_which 147 = .ok (.getfield 257, 3) := dk_180 1 1 (dk_at dksX0_which_6 12 rfl rfl)
theorem dX0_which_150 : decode cX0_which 150 = .ok (.iload 5, 2) := dk_21 5 (dk_at dksX0_which_6 15 rfl rfl)
theorem dX0_which_152 : decode cX0_which 152 = .ok (.iaload, 1) := dk_46 (dk_at dksX0_which_6 17 rfl rfl)
theorem dX0_which_153 : decode cX0_which 153 = .ok (.aload_n 0, 1) := dk_42 (dk_at dksX0_which_6 18 rfl rfl)
theorem dX0_which_154 : decode cX0_which 154 = .ok (.getfield 16, 3) := dk_180 0 16 (dk_at dksX0_which_6 19 rfl rfl)
theorem dX0_which_157 : decode cX0_which 157 = .ok (.iload 5, 2) := dk_21 5 (dk_at dksX0_which_6 22 rfl rfl)
theorem dX0_which_159 : decode cX0_which 159 = .ok (.baload, 1) := dk_51 (dk_at dksX0_which_7 0 rfl rfl)
theorem dX0_which_160 : decode cX0_which 160 = .ok (.bipush 32, 2) := dk_16 32 (dk_at dksX0_which_7 1 rfl rfl)
theorem dX0_which_162 : decode cX0_which 162 = .ok (.isub, 1) := dk_100 (dk_at dksX0_which_7 3 rfl rfl)
theorem dX0_which_163 : decode cX0_which 163 = .ok (.if_icmp .ne 7, 3) := dk_160 0 7 (dk_at dksX0_which_7 4 rfl rfl)
theorem dX0_which_166 : decode cX0_which 166 = .ok (.iconst 1, 1) := dk_4 (dk_at dksX0_which_7 7 rfl rfl)
theorem dX0_which_167 : decode cX0_which 167 = .ok (.goto 4, 3) := dk_167 0 4 (dk_at dksX0_which_7 8 rfl rfl)
theorem dX0_which_170 : decode cX0_which 170 = .ok (.iconst 0, 1) := dk_3 (dk_at dksX0_which_7 11 rfl rfl)
theorem dX0_which_171 : decode cX0_which 171 = .ok (.istore 4, 2) := dk_54 4 (dk_at dksX0_which_7 12 rfl rfl)
theorem dX0_which_173 : decode cX0_which 173 = .ok (.iinc 5 1, 3) := dk_132 5 1 (dk_at dksX0_which_7 14 rfl rfl)
theorem dX0_which_176 : decode cX0_which 176 = .ok (.goto (-44), 3) := dk_167 255 212 (dk_at dksX0_which_7 17 rfl rfl)
theorem dX0_which_179 : decode cX0_which 179 = .ok (.iload_n 2, 1) := dk_28 (dk_at dksX0_which_7 20 rfl rfl)
theorem dX0_which_180 : decode cX0_which 180 = .ok (.iload 4, 2) := dk_21 4 (dk_at dksX0_which_7 21 rfl rfl)
theorem dX0_which_182 : decode cX0_which 182 = .ok (.ifCond .eq 9, 3) := dk_153 0 9 (dk_at dksX0_which_8 0 rfl rfl)
theorem dX0_which_185 : decode cX0_which 185 = .ok (.iconst 1, 1) := dk_4 (dk_at dksX0_which_8 3 rfl rfl)
theorem dX0_which_186 : decode cX0_which 186 = .ok (.iload_n 3, 1) := dk_29 (dk_at dksX0_which_8 4 rfl rfl)
theorem dX0_which_187 : decode cX0_which 187 = .ok (.ishl, 1) := dk_120 (dk_at dksX0_which_8 5 rfl rfl)
theorem dX0_which_188 : decode cX0_which 188 = .ok (.goto 4, 3) := dk_167 0 4 (dk_at dksX0_which_8 6 rfl rfl)
theorem dX0_which_191 : decode cX0_which 191 = .ok (.iconst 0, 1) := dk_3 (dk_at dksX0_which_8 9 rfl rfl)
theorem dX0_which_192 : decode cX0_which 192 = .ok (.ior, 1) := dk_128 (dk_at dksX0_which_8 10 rfl rfl)
theorem dX0_which_193 : decode cX0_which 193 = .ok (.istore_n 2, 1) := dk_61 (dk_at dksX0_which_8 11 rfl rfl)
theorem dX0_which_194 : decode cX0_which 194 = .ok (.iinc 3 1, 3) := dk_132 3 1 (dk_at dksX0_which_8 12 rfl rfl)
theorem dX0_which_197 : decode cX0_which 197 = .ok (.goto (-144), 3) := dk_167 255 112 (dk_at dksX0_which_8 15 rfl rfl)
theorem dX0_which_200 : decode cX0_which 200 = .ok (.iload_n 2, 1) := dk_28 (dk_at dksX0_which_8 18 rfl rfl)
theorem dX0_which_201 : decode cX0_which 201 = .ok (.ireturn, 1) := dk_172 (dk_at dksX0_which_8 19 rfl rfl)
abbrev cX0_join : ByteArray := prog_1_method_62_code
def yX0_join : MethodName := ⟨RX0, "join", "(IIIIII)I"⟩
def dkwX0_join_6 : List UInt8 := [21, 8, 184, 1, 160, 172]
abbrev dktX0_join_6 : List UInt8 := dkwX0_join_6 ++ []
def dkwX0_join_5 : List UInt8 := [132, 9, 1, 167, 255, 215, 21, 6, 154, 0, 8, 21, 8, 167, 0, 15, 21, 7, 29, 21, 4, 21, 5]
abbrev dktX0_join_5 : List UInt8 := dkwX0_join_5 ++ dktX0_join_6
def dkwX0_join_4 : List UInt8 := [184, 1, 160, 21, 7, 29, 21, 4, 21, 5, 21, 8, 184, 1, 160, 162, 0, 7, 21, 9, 54, 8]
abbrev dktX0_join_4 : List UInt8 := dkwX0_join_4 ++ dktX0_join_5
def dkwX0_join_3 : List UInt8 := [54, 7, 3, 54, 8, 4, 54, 9, 21, 9, 16, 100, 162, 0, 40, 21, 7, 29, 21, 4, 21, 5, 21, 9]
abbrev dktX0_join_3 : List UInt8 := dkwX0_join_3 ++ dktX0_join_4
def dkwX0_join_2 : List UInt8 := [184, 0, 164, 153, 0, 13, 21, 6, 3, 4, 184, 0, 164, 154, 0, 6, 16, 254, 172, 27, 28, 184, 1, 157]
abbrev dktX0_join_2 : List UInt8 := dkwX0_join_2 ++ dktX0_join_3
def dkwX0_join_1 : List UInt8 := [184, 0, 164, 153, 0, 35, 21, 4, 4, 16, 50, 184, 0, 164, 153, 0, 24, 21, 5, 4, 16, 100]
abbrev dktX0_join_1 : List UInt8 := dkwX0_join_1 ++ dktX0_join_2
def dkwX0_join_0 : List UInt8 := [27, 4, 16, 99, 184, 0, 164, 153, 0, 55, 28, 4, 16, 99, 184, 0, 164, 153, 0, 45, 29, 4, 16, 50]
abbrev dktX0_join_0 : List UInt8 := dkwX0_join_0 ++ dktX0_join_1
theorem dksX0_join_0 : cX0_join.data.toList.drop 0 = dktX0_join_0 := by decide +kernel
theorem dksX0_join_1 : cX0_join.data.toList.drop 24 = dktX0_join_1 := dk_seg dksX0_join_0 24 rfl rfl
theorem dksX0_join_2 : cX0_join.data.toList.drop 46 = dktX0_join_2 := dk_seg dksX0_join_1 22 rfl rfl
theorem dksX0_join_3 : cX0_join.data.toList.drop 70 = dktX0_join_3 := dk_seg dksX0_join_2 24 rfl rfl
theorem dksX0_join_4 : cX0_join.data.toList.drop 94 = dktX0_join_4 := dk_seg dksX0_join_3 24 rfl rfl
theorem dksX0_join_5 : cX0_join.data.toList.drop 116 = dktX0_join_5 := dk_seg dksX0_join_4 22 rfl rfl
theorem dksX0_join_6 : cX0_join.data.toList.drop 139 = dktX0_join_6 := dk_seg dksX0_join_5 23 rfl rfl
theorem dX0_join_0 : decode cX0_join 0 = .ok (.iload_n 1, 1) := dk_27 (dk_at dksX0_join_0 0 rfl rfl)
theorem dX0_join_1 : decode cX0_join 1 = .ok (.iconst 1, 1) := dk_4 (dk_at dksX0_join_0 1 rfl rfl)
theorem dX0_join_2 : decode cX0_join 2 = .ok (.bipush 99, 2) := dk_16 99 (dk_at dksX0_join_0 2 rfl rfl)
theorem dX0_join_4 : decode cX0_join 4 = .ok (.invokestatic 164, 3) := dk_184 0 164 (dk_at dksX0_join_0 4 rfl rfl)
theorem dX0_join_7 : decode cX0_join 7 = .ok (.ifCond .eq 55, 3) := dk_153 0 55 (dk_at dksX0_join_0 7 rfl rfl)
theorem dX0_join_10 : decode cX0_join 10 = .ok (.iload_n 2, 1) := dk_28 (dk_at dksX0_join_0 10 rfl rfl)
theorem dX0_join_11 : decode cX0_join 11 = .ok (.iconst 1, 1) := dk_4 (dk_at dksX0_join_0 11 rfl rfl)
theorem dX0_join_12 : decode cX0_join 12 = .ok (.bipush 99, 2) := dk_16 99 (dk_at dksX0_join_0 12 rfl rfl)
theorem dX0_join_14 : decode cX0_join 14 = .ok (.invokestatic 164, 3) := dk_184 0 164 (dk_at dksX0_join_0 14 rfl rfl)
theorem dX0_join_17 : decode cX0_join 17 = .ok (.ifCond .eq 45, 3) := dk_153 0 45 (dk_at dksX0_join_0 17 rfl rfl)
theorem dX0_join_20 : decode cX0_join 20 = .ok (.iload_n 3, 1) := dk_29 (dk_at dksX0_join_0 20 rfl rfl)
theorem dX0_join_21 : decode cX0_join 21 = .ok (.iconst 1, 1) := dk_4 (dk_at dksX0_join_0 21 rfl rfl)
theorem dX0_join_22 : decode cX0_join 22 = .ok (.bipush 50, 2) := dk_16 50 (dk_at dksX0_join_0 22 rfl rfl)
theorem dX0_join_24 : decode cX0_join 24 = .ok (.invokestatic 164, 3) := dk_184 0 164 (dk_at dksX0_join_1 0 rfl rfl)
theorem dX0_join_27 : decode cX0_join 27 = .ok (.ifCond .eq 35, 3) := dk_153 0 35 (dk_at dksX0_join_1 3 rfl rfl)
theorem dX0_join_30 : decode cX0_join 30 = .ok (.iload 4, 2) := dk_21 4 (dk_at dksX0_join_1 6 rfl rfl)
theorem dX0_join_32 : decode cX0_join 32 = .ok (.iconst 1, 1) := dk_4 (dk_at dksX0_join_1 8 rfl rfl)
theorem dX0_join_33 : decode cX0_join 33 = .ok (.bipush 50, 2) := dk_16 50 (dk_at dksX0_join_1 9 rfl rfl)
theorem dX0_join_35 : decode cX0_join 35 = .ok (.invokestatic 164, 3) := dk_184 0 164 (dk_at dksX0_join_1 11 rfl rfl)
theorem dX0_join_38 : decode cX0_join 38 = .ok (.ifCond .eq 24, 3) := dk_153 0 24 (dk_at dksX0_join_1 14 rfl rfl)
theorem dX0_join_41 : decode cX0_join 41 = .ok (.iload 5, 2) := dk_21 5 (dk_at dksX0_join_1 17 rfl rfl)
theorem dX0_join_43 : decode cX0_join 43 = .ok (.iconst 1, 1) := dk_4 (dk_at dksX0_join_1 19 rfl rfl)
theorem dX0_join_44 : decode cX0_join 44 = .ok (.bipush 100, 2) := dk_16 100 (dk_at dksX0_join_1 20 rfl rfl)
theorem dX0_join_46 : decode cX0_join 46 = .ok (.invokestatic 164, 3) := dk_184 0 164 (dk_at dksX0_join_2 0 rfl rfl)
theorem dX0_join_49 : decode cX0_join 49 = .ok (.ifCond .eq 13, 3) := dk_153 0 13 (dk_at dksX0_join_2 3 rfl rfl)
theorem dX0_join_52 : decode cX0_join 52 = .ok (.iload 6, 2) := dk_21 6 (dk_at dksX0_join_2 6 rfl rfl)
theorem dX0_join_54 : decode cX0_join 54 = .ok (.iconst 0, 1) := dk_3 (dk_at dksX0_join_2 8 rfl rfl)
theorem dX0_join_55 : decode cX0_join 55 = .ok (.iconst 1, 1) := dk_4 (dk_at dksX0_join_2 9 rfl rfl)
theorem dX0_join_56 : decode cX0_join 56 = .ok (.invokestatic 164, 3) := dk_184 0 164 (dk_at dksX0_join_2 10 rfl rfl)
theorem dX0_join_59 : decode cX0_join 59 = .ok (.ifCond .ne 6, 3) := dk_154 0 6 (dk_at dksX0_join_2 13 rfl rfl)
theorem dX0_join_62 : decode cX0_join 62 = .ok (.bipush (-2), 2) := dk_16 254 (dk_at dksX0_join_2 16 rfl rfl)
theorem dX0_join_64 : decode cX0_join 64 = .ok (.ireturn, 1) := dk_172 (dk_at dksX0_join_2 18 rfl rfl)
theorem dX0_join_65 : decode cX0_join 65 = .ok (.iload_n 1, 1) := dk_27 (dk_at dksX0_join_2 19 rfl rfl)
theorem dX0_join_66 : decode cX0_join 66 = .ok (.iload_n 2, 1) := dk_28 (dk_at dksX0_join_2 20 rfl rfl)
theorem dX0_join_67 : decode cX0_join 67 = .ok (.invokestatic 413, 3) := dk_184 1 157 (dk_at dksX0_join_2 21 rfl rfl)
theorem dX0_join_70 : decode cX0_join 70 = .ok (.istore 7, 2) := dk_54 7 (dk_at dksX0_join_3 0 rfl rfl)
theorem dX0_join_72 : decode cX0_join 72 = .ok (.iconst 0, 1) := dk_3 (dk_at dksX0_join_3 2 rfl rfl)
theorem dX0_join_73 : decode cX0_join 73 = .ok (.istore 8, 2) := dk_54 8 (dk_at dksX0_join_3 3 rfl rfl)
theorem dX0_join_75 : decode cX0_join 75 = .ok (.iconst 1, 1) := dk_4 (dk_at dksX0_join_3 5 rfl rfl)
theorem dX0_join_76 : decode cX0_join 76 = .ok (.istore 9, 2) := dk_54 9 (dk_at dksX0_join_3 6 rfl rfl)
theorem dX0_join_78 : decode cX0_join 78 = .ok (.iload 9, 2) := dk_21 9 (dk_at dksX0_join_3 8 rfl rfl)
theorem dX0_join_80 : decode cX0_join 80 = .ok (.bipush 100, 2) := dk_16 100 (dk_at dksX0_join_3 10 rfl rfl)
theorem dX0_join_82 : decode cX0_join 82 = .ok (.if_icmp .ge 40, 3) := dk_162 0 40 (dk_at dksX0_join_3 12 rfl rfl)
theorem dX0_join_85 : decode cX0_join 85 = .ok (.iload 7, 2) := dk_21 7 (dk_at dksX0_join_3 15 rfl rfl)
theorem dX0_join_87 : decode cX0_join 87 = .ok (.iload_n 3, 1) := dk_29 (dk_at dksX0_join_3 17 rfl rfl)
theorem dX0_join_88 : decode cX0_join 88 = .ok (.iload 4, 2) := dk_21 4 (dk_at dksX0_join_3 18 rfl rfl)
theorem dX0_join_90 : decode cX0_join 90 = .ok (.iload 5, 2) := dk_21 5 (dk_at dksX0_join_3 20 rfl rfl)
theorem dX0_join_92 : decode cX0_join 92 = .ok (.iload 9, 2) := dk_21 9 (dk_at dksX0_join_3 22 rfl rfl)
theorem dX0_join_94 : decode cX0_join 94 = .ok (.invokestatic 416, 3) := dk_184 1 160 (dk_at dksX0_join_4 0 rfl rfl)
theorem dX0_join_97 : decode cX0_join 97 = .ok (.iload 7, 2) := dk_21 7 (dk_at dksX0_join_4 3 rfl rfl)
theorem dX0_join_99 : decode cX0_join 99 = .ok (.iload_n 3, 1) := dk_29 (dk_at dksX0_join_4 5 rfl rfl)
theorem dX0_join_100 : decode cX0_join 100 = .ok (.iload 4, 2) := dk_21 4 (dk_at dksX0_join_4 6 rfl rfl)
theorem dX0_join_102 : decode cX0_join 102 = .ok (.iload 5, 2) := dk_21 5 (dk_at dksX0_join_4 8 rfl rfl)
theorem dX0_join_104 : decode cX0_join 104 = .ok (.iload 8, 2) := dk_21 8 (dk_at dksX0_join_4 10 rfl rfl)
theorem dX0_join_106 : decode cX0_join 106 = .ok (.invokestatic 416, 3) := dk_184 1 160 (dk_at dksX0_join_4 12 rfl rfl)
theorem dX0_join_109 : decode cX0_join 109 = .ok (.if_icmp .ge 7, 3) := dk_162 0 7 (dk_at dksX0_join_4 15 rfl rfl)
theorem dX0_join_112 : decode cX0_join 112 = .ok (.iload 9, 2) := dk_21 9 (dk_at dksX0_join_4 18 rfl rfl)
theorem dX0_join_114 : decode cX0_join 114 = .ok (.istore 8, 2) := dk_54 8 (dk_at dksX0_join_4 20 rfl rfl)
theorem dX0_join_116 : decode cX0_join 116 = .ok (.iinc 9 1, 3) := dk_132 9 1 (dk_at dksX0_join_5 0 rfl rfl)
theorem dX0_join_119 : decode cX0_join 119 = .ok (.goto (-41), 3) := dk_167 255 215 (dk_at dksX0_join_5 3 rfl rfl)
theorem dX0_join_122 : decode cX0_join 122 = .ok (.iload 6, 2) := dk_21 6 (dk_at dksX0_join_5 6 rfl rfl)
theorem dX0_join_124 : decode cX0_join 124 = .ok (.ifCond .ne 8, 3) := dk_154 0 8 (dk_at dksX0_join_5 8 rfl rfl)
theorem dX0_join_127 : decode cX0_join 127 = .ok (.iload 8, 2) := dk_21 8 (dk_at dksX0_join_5 11 rfl rfl)
theorem dX0_join_129 : decode cX0_join 129 = .ok (.goto 15, 3) := dk_167 0 15 (dk_at dksX0_join_5 13 rfl rfl)
theorem dX0_join_132 : decode cX0_join 132 = .ok (.iload 7, 2) := dk_21 7 (dk_at dksX0_join_5 16 rfl rfl)
theorem dX0_join_134 : decode cX0_join 134 = .ok (.iload_n 3, 1) := dk_29 (dk_at dksX0_join_5 18 rfl rfl)
theorem dX0_join_135 : decode cX0_join 135 = .ok (.iload 4, 2) := dk_21 4 (dk_at dksX0_join_5 19 rfl rfl)
theorem dX0_join_137 : decode cX0_join 137 = .ok (.iload 5, 2) := dk_21 5 (dk_at dksX0_join_5 21 rfl rfl)
theorem dX0_join_139 : decode cX0_join 139 = .ok (.iload 8, 2) := dk_21 8 (dk_at dksX0_join_6 0 rfl rfl)
theorem dX0_join_141 : decode cX0_join 141 = .ok (.invokestatic 416, 3) := dk_184 1 160 (dk_at dksX0_join_6 2 rfl rfl)
theorem dX0_join_144 : decode cX0_join 144 = .ok (.ireturn, 1) := dk_172 (dk_at dksX0_join_6 5 rfl rfl)
abbrev cX0_units : ByteArray := prog_1_method_60_code
def yX0_units : MethodName := ⟨RX0, "units", "(II)I"⟩
def dkwX0_units_1 : List UInt8 := [172]
abbrev dktX0_units_1 : List UInt8 := dkwX0_units_1 ++ []
def dkwX0_units_0 : List UInt8 := [26, 61, 26, 27, 100, 62, 29, 158, 0, 16, 28, 5, 29, 104, 96, 61, 29, 27, 100, 62, 167, 255, 242, 28]
abbrev dktX0_units_0 : List UInt8 := dkwX0_units_0 ++ dktX0_units_1
theorem dksX0_units_0 : cX0_units.data.toList.drop 0 = dktX0_units_0 := by decide +kernel
theorem dksX0_units_1 : cX0_units.data.toList.drop 24 = dktX0_units_1 := dk_seg dksX0_units_0 24 rfl rfl
theorem dX0_units_0 : decode cX0_units 0 = .ok (.iload_n 0, 1) := dk_26 (dk_at dksX0_units_0 0 rfl rfl)
theorem dX0_units_1 : decode cX0_units 1 = .ok (.istore_n 2, 1) := dk_61 (dk_at dksX0_units_0 1 rfl rfl)
theorem dX0_units_2 : decode cX0_units 2 = .ok (.iload_n 0, 1) := dk_26 (dk_at dksX0_units_0 2 rfl rfl)
theorem dX0_units_3 : decode cX0_units 3 = .ok (.iload_n 1, 1) := dk_27 (dk_at dksX0_units_0 3 rfl rfl)
theorem dX0_units_4 : decode cX0_units 4 = .ok (.isub, 1) := dk_100 (dk_at dksX0_units_0 4 rfl rfl)
theorem dX0_units_5 : decode cX0_units 5 = .ok (.istore_n 3, 1) := dk_62 (dk_at dksX0_units_0 5 rfl rfl)
theorem dX0_units_6 : decode cX0_units 6 = .ok (.iload_n 3, 1) := dk_29 (dk_at dksX0_units_0 6 rfl rfl)
theorem dX0_units_7 : decode cX0_units 7 = .ok (.ifCond .le 16, 3) := dk_158 0 16 (dk_at dksX0_units_0 7 rfl rfl)
theorem dX0_units_10 : decode cX0_units 10 = .ok (.iload_n 2, 1) := dk_28 (dk_at dksX0_units_0 10 rfl rfl)
theorem dX0_units_11 : decode cX0_units 11 = .ok (.iconst 2, 1) := dk_5 (dk_at dksX0_units_0 11 rfl rfl)
theorem dX0_units_12 : decode cX0_units 12 = .ok (.iload_n 3, 1) := dk_29 (dk_at dksX0_units_0 12 rfl rfl)
theorem dX0_units_13 : decode cX0_units 13 = .ok (.imul, 1) := dk_104 (dk_at dksX0_units_0 13 rfl rfl)
theorem dX0_units_14 : decode cX0_units 14 = .ok (.iadd, 1) := dk_96 (dk_at dksX0_units_0 14 rfl rfl)
theorem dX0_units_15 : decode cX0_units 15 = .ok (.istore_n 2, 1) := dk_61 (dk_at dksX0_units_0 15 rfl rfl)
theorem dX0_units_16 : decode cX0_units 16 = .ok (.iload_n 3, 1) := dk_29 (dk_at dksX0_units_0 16 rfl rfl)
theorem dX0_units_17 : decode cX0_units 17 = .ok (.iload_n 1, 1) := dk_27 (dk_at dksX0_units_0 17 rfl rfl)
theorem dX0_units_18 : decode cX0_units 18 = .ok (.isub, 1) := dk_100 (dk_at dksX0_units_0 18 rfl rfl)
theorem dX0_units_19 : decode cX0_units 19 = .ok (.istore_n 3, 1) := dk_62 (dk_at dksX0_units_0 19 rfl rfl)
theorem dX0_units_20 : decode cX0_units 20 = .ok (.goto (-14), 3) := dk_167 255 242 (dk_at dksX0_units_0 20 rfl rfl)
theorem dX0_units_23 : decode cX0_units 23 = .ok (.iload_n 2, 1) := dk_28 (dk_at dksX0_units_0 23 rfl rfl)
theorem dX0_units_24 : decode cX0_units 24 = .ok (.ireturn, 1) := dk_172 (dk_at dksX0_units_1 0 rfl rfl)
abbrev cX0_doneAt : ByteArray := prog_1_method_61_code
def yX0_doneAt : MethodName := ⟨RX0, "doneAt", "(IIIII)I"⟩
def dkwX0_doneAt_1 : List UInt8 := [28, 96, 29, 104, 54, 6, 21, 4, 16, 100, 21, 5, 104, 21, 6, 96, 4, 100, 21, 6, 108, 96, 172]
abbrev dktX0_doneAt_1 : List UInt8 := dkwX0_doneAt_1 ++ []
def dkwX0_doneAt_0 : List UInt8 := [3, 26, 27, 21, 4, 104, 100, 184, 1, 97, 3, 26, 28, 21, 4, 104, 100, 184, 1, 97, 96, 54, 5, 27]
abbrev dktX0_doneAt_0 : List UInt8 := dkwX0_doneAt_0 ++ dktX0_doneAt_1
theorem dksX0_doneAt_0 : cX0_doneAt.data.toList.drop 0 = dktX0_doneAt_0 := by decide +kernel
theorem dksX0_doneAt_1 : cX0_doneAt.data.toList.drop 24 = dktX0_doneAt_1 := dk_seg dksX0_doneAt_0 24 rfl rfl
theorem dX0_doneAt_0 : decode cX0_doneAt 0 = .ok (.iconst 0, 1) := dk_3 (dk_at dksX0_doneAt_0 0 rfl rfl)
theorem dX0_doneAt_1 : decode cX0_doneAt 1 = .ok (.iload_n 0, 1) := dk_26 (dk_at dksX0_doneAt_0 1 rfl rfl)
theorem dX0_doneAt_2 : decode cX0_doneAt 2 = .ok (.iload_n 1, 1) := dk_27 (dk_at dksX0_doneAt_0 2 rfl rfl)
theorem dX0_doneAt_3 : decode cX0_doneAt 3 = .ok (.iload 4, 2) := dk_21 4 (dk_at dksX0_doneAt_0 3 rfl rfl)
theorem dX0_doneAt_5 : decode cX0_doneAt 5 = .ok (.imul, 1) := dk_104 (dk_at dksX0_doneAt_0 5 rfl rfl)
theorem dX0_doneAt_6 : decode cX0_doneAt 6 = .ok (.isub, 1) := dk_100 (dk_at dksX0_doneAt_0 6 rfl rfl)
theorem dX0_doneAt_7 : decode cX0_doneAt 7 = .ok (.invokestatic 353, 3) := dk_184 1 97 (dk_at dksX0_doneAt_0 7 rfl rfl)
theorem dX0_doneAt_10 : decode cX0_doneAt 10 = .ok (.iconst 0, 1) := dk_3 (dk_at dksX0_doneAt_0 10 rfl rfl)
theorem dX0_doneAt_11 : decode cX0_doneAt 11 = .ok (.iload_n 0, 1) := dk_26 (dk_at dksX0_doneAt_0 11 rfl rfl)
theorem dX0_doneAt_12 : decode cX0_doneAt 12 = .ok (.iload_n 2, 1) := dk_28 (dk_at dksX0_doneAt_0 12 rfl rfl)
theorem dX0_doneAt_13 : decode cX0_doneAt 13 = .ok (.iload 4, 2) := dk_21 4 (dk_at dksX0_doneAt_0 13 rfl rfl)
theorem dX0_doneAt_15 : decode cX0_doneAt 15 = .ok (.imul, 1) := dk_104 (dk_at dksX0_doneAt_0 15 rfl rfl)
theorem dX0_doneAt_16 : decode cX0_doneAt 16 = .ok (.isub, 1) := dk_100 (dk_at dksX0_doneAt_0 16 rfl rfl)
theorem dX0_doneAt_17 : decode cX0_doneAt 17 = .ok (.invokestatic 353, 3) := dk_184 1 97 (dk_at dksX0_doneAt_0 17 rfl rfl)
theorem dX0_doneAt_20 : decode cX0_doneAt 20 = .ok (.iadd, 1) := dk_96 (dk_at dksX0_doneAt_0 20 rfl rfl)
theorem dX0_doneAt_21 : decode cX0_doneAt 21 = .ok (.istore 5, 2) := dk_54 5 (dk_at dksX0_doneAt_0 21 rfl rfl)
theorem dX0_doneAt_23 : decode cX0_doneAt 23 = .ok (.iload_n 1, 1) := dk_27 (dk_at dksX0_doneAt_0 23 rfl rfl)
theorem dX0_doneAt_24 : decode cX0_doneAt 24 = .ok (.iload_n 2, 1) := dk_28 (dk_at dksX0_doneAt_1 0 rfl rfl)
theorem dX0_doneAt_25 : decode cX0_doneAt 25 = .ok (.iadd, 1) := dk_96 (dk_at dksX0_doneAt_1 1 rfl rfl)
theorem dX0_doneAt_26 : decode cX0_doneAt 26 = .ok (.iload_n 3, 1) := dk_29 (dk_at dksX0_doneAt_1 2 rfl rfl)
theorem dX0_doneAt_27 : decode cX0_doneAt 27 = .ok (.imul, 1) := dk_104 (dk_at dksX0_doneAt_1 3 rfl rfl)
theorem dX0_doneAt_28 : decode cX0_doneAt 28 = .ok (.istore 6, 2) := dk_54 6 (dk_at dksX0_doneAt_1 4 rfl rfl)
theorem dX0_doneAt_30 : decode cX0_doneAt 30 = .ok (.iload 4, 2) := dk_21 4 (dk_at dksX0_doneAt_1 6 rfl rfl)
theorem dX0_doneAt_32 : decode cX0_doneAt 32 = .ok (.bipush 100, 2) := dk_16 100 (dk_at dksX0_doneAt_1 8 rfl rfl)
theorem dX0_doneAt_34 : decode cX0_doneAt 34 = .ok (.iload 5, 2) := dk_21 5 (dk_at dksX0_doneAt_1 10 rfl rfl)
theorem dX0_doneAt_36 : decode cX0_doneAt 36 = .ok (.imul, 1) := dk_104 (dk_at dksX0_doneAt_1 12 rfl rfl)
theorem dX0_doneAt_37 : decode cX0_doneAt 37 = .ok (.iload 6, 2) := dk_21 6 (dk_at dksX0_doneAt_1 13 rfl rfl)
theorem dX0_doneAt_39 : decode cX0_doneAt 39 = .ok (.iadd, 1) := dk_96 (dk_at dksX0_doneAt_1 15 rfl rfl)
theorem dX0_doneAt_40 : decode cX0_doneAt 40 = .ok (.iconst 1, 1) := dk_4 (dk_at dksX0_doneAt_1 16 rfl rfl)
theorem dX0_doneAt_41 : decode cX0_doneAt 41 = .ok (.isub, 1) := dk_100 (dk_at dksX0_doneAt_1 17 rfl rfl)
theorem dX0_doneAt_42 : decode cX0_doneAt 42 = .ok (.iload 6, 2) := dk_21 6 (dk_at dksX0_doneAt_1 18 rfl rfl)
theorem dX0_doneAt_44 : decode cX0_doneAt 44 = .ok (.idiv, 1) := dk_108 (dk_at dksX0_doneAt_1 20 rfl rfl)
theorem dX0_doneAt_45 : decode cX0_doneAt 45 = .ok (.iadd, 1) := dk_96 (dk_at dksX0_doneAt_1 21 rfl rfl)
theorem dX0_doneAt_46 : decode cX0_doneAt 46 = .ok (.ireturn, 1) := dk_172 (dk_at dksX0_doneAt_1 22 rfl rfl)
abbrev cX0_count : ByteArray := prog_1_method_63_code
def yX0_count : MethodName := ⟨RX0, "count", "(I)I"⟩
def dkwX0_count_3 : List UInt8 := [180, 1, 72, 172, 42, 180, 0, 96, 172, 2, 172]
abbrev dktX0_count_3 : List UInt8 := dkwX0_count_3 ++ []
def dkwX0_count_2 : List UInt8 := [42, 180, 0, 27, 180, 0, 141, 172, 42, 180, 0, 34, 180, 0, 150, 172, 42, 180, 1, 69, 172, 42]
abbrev dktX0_count_2 : List UInt8 := dkwX0_count_2 ++ dktX0_count_3
def dkwX0_count_1 : List UInt8 := [170, 0, 0, 0, 0, 0, 66, 0, 0, 0, 0, 0, 0, 0, 4, 0, 0, 0, 35, 0, 0, 0, 43, 0, 0, 0, 51, 0, 0, 0, 56, 0, 0, 0, 61]
abbrev dktX0_count_1 : List UInt8 := dkwX0_count_1 ++ dktX0_count_2
def dkwX0_count_0 : List UInt8 := [27]
abbrev dktX0_count_0 : List UInt8 := dkwX0_count_0 ++ dktX0_count_1
theorem dksX0_count_0 : cX0_count.data.toList.drop 0 = dktX0_count_0 := by decide +kernel
theorem dksX0_count_1 : cX0_count.data.toList.drop 1 = dktX0_count_1 := dk_seg dksX0_count_0 1 rfl rfl
theorem dksX0_count_2 : cX0_count.data.toList.drop 36 = dktX0_count_2 := dk_seg dksX0_count_1 35 rfl rfl
theorem dksX0_count_3 : cX0_count.data.toList.drop 58 = dktX0_count_3 := dk_seg dksX0_count_2 22 rfl rfl
theorem dX0_count_0 : decode cX0_count 0 = .ok (.iload_n 1, 1) := dk_27 (dk_at dksX0_count_0 0 rfl rfl)
theorem dX0_count_1 : decode cX0_count 1 = .ok (.tableswitch 66 0 4 #[35, 43, 51, 56, 61], 35) := by decide +kernel
theorem dX0_count_36 : decode cX0_count 36 = .ok (.aload_n 0, 1) := dk_42 (dk_at dksX0_count_2 0 rfl rfl)
theorem dX0_count_37 : decode cX0_count 37 = .ok (.getfield 27, 3) := dk_180 0 27 (dk_at dksX0_count_2 1 rfl rfl)
theorem dX0_count_40 : decode cX0_count 40 = .ok (.getfield 141, 3) := dk_180 0 141 (dk_at dksX0_count_2 4 rfl rfl)
theorem dX0_count_43 : decode cX0_count 43 = .ok (.ireturn, 1) := dk_172 (dk_at dksX0_count_2 7 rfl rfl)
theorem dX0_count_44 : decode cX0_count 44 = .ok (.aload_n 0, 1) := dk_42 (dk_at dksX0_count_2 8 rfl rfl)
theorem dX0_count_45 : decode cX0_count 45 = .ok (.getfield 34, 3) := dk_180 0 34 (dk_at dksX0_count_2 9 rfl rfl)
theorem dX0_count_48 : decode cX0_count 48 = .ok (.getfield 150, 3) := dk_180 0 150 (dk_at dksX0_count_2 12 rfl rfl)
theorem dX0_count_51 : decode cX0_count 51 = .ok (.ireturn, 1) := dk_172 (dk_at dksX0_count_2 15 rfl rfl)
theorem dX0_count_52 : decode cX0_count 52 = .ok (.aload_n 0, 1) := dk_42 (dk_at dksX0_count_2 16 rfl rfl)
theorem dX0_count_53 : decode cX0_count 53 = .ok (.getfield 325, 3) := dk_180 1 69 (dk_at dksX0_count_2 17 rfl rfl)
theorem dX0_count_56 : decode cX0_count 56 = .ok (.ireturn, 1) := dk_172 (dk_at dksX0_count_2 20 rfl rfl)
theorem dX0_count_57 : decode cX0_count 57 = .ok (.aload_n 0, 1) := dk_42 (dk_at dksX0_count_2 21 rfl rfl)
theorem dX0_count_58 : decode cX0_count 58 = .ok (.getfield 328, 3) := dk_180 1 72 (dk_at dksX0_count_3 0 rfl rfl)
theorem dX0_count_61 : decode cX0_count 61 = .ok (.ireturn, 1) := dk_172 (dk_at dksX0_count_3 3 rfl rfl)
theorem dX0_count_62 : decode cX0_count 62 = .ok (.aload_n 0, 1) := dk_42 (dk_at dksX0_count_3 4 rfl rfl)
theorem dX0_count_63 : decode cX0_count 63 = .ok (.getfield 96, 3) := dk_180 0 96 (dk_at dksX0_count_3 5 rfl rfl)
theorem dX0_count_66 : decode cX0_count 66 = .ok (.ireturn, 1) := dk_172 (dk_at dksX0_count_3 8 rfl rfl)
theorem dX0_count_67 : decode cX0_count 67 = .ok (.iconst (-1), 1) := dk_2 (dk_at dksX0_count_3 9 rfl rfl)
theorem dX0_count_68 : decode cX0_count 68 = .ok (.ireturn, 1) := dk_172 (dk_at dksX0_count_3 10 rfl rfl)
theorem q88 : (Jvm.Cond.initialized "TideKeep") ∈ lw_all := lw_g (lw_at lw_m1 1 rfl) rfl
theorem q119 : (Jvm.Cond.instantiable "TideKeep" (25 : Nat)) ∈ lw_all := lw_g (lw_at lw_m1 32 rfl) rfl
theorem q121 : (Jvm.Cond.instanceMethod ({ cls := "TideKeep", name := "<init>", desc := "()V" } : Jvm.MethodName)) ∈ lw_all := lw_g (lw_at lw_m1 34 rfl) rfl
theorem q122 : (Jvm.Cond.code ({ cls := "TideKeep", name := "<init>", desc := "()V" } : Jvm.MethodName) prog_1_method_2_code (1 : Nat) (Option.none : Option Jvm.ClassFile.FieldType)) ∈ lw_all := lw_g (lw_at lw_m1 35 rfl) rfl
theorem q123 : (Jvm.Cond.methodLink "TideKeep" (1 : Nat) ({ cls := "java/lang/Object", name := "<init>", desc := "()V" } : Jvm.MethodName)) ∈ lw_all := lw_g (lw_at lw_m1 36 rfl) rfl
theorem q126 : (Jvm.Cond.classLink "TideKeep" (7 : Nat) "TideKeep$Wrong") ∈ lw_all := lw_g (lw_at lw_m1 39 rfl) rfl
theorem q163 : (Jvm.Cond.methodLink "TideKeep" (9 : Nat) ({ cls := "TideKeep$Wrong", name := "<init>", desc := "()V" } : Jvm.MethodName)) ∈ lw_all := lw_g (lw_at lw_m1 76 rfl) rfl
theorem q173 : (Jvm.Cond.fieldLinkNest "TideKeep" (106 : Nat) "TideKeep$Wrong" "kind" "I" "TideKeep") ∈ lw_tbl := lw_at lw_m1 86 rfl
theorem q175 : (Jvm.Cond.fieldLinkNest "TideKeep" (109 : Nat) "TideKeep$Wrong" "place" "I" "TideKeep") ∈ lw_tbl := lw_at lw_m1 88 rfl
theorem q193 : (Jvm.Cond.classLink "TideKeep" (24 : Nat) "TideKeep$Beach") ∈ lw_all := lw_g (lw_at lw_m1 106 rfl) rfl
theorem q195 : (Jvm.Cond.methodLink "TideKeep" (26 : Nat) ({ cls := "TideKeep$Beach", name := "<init>", desc := "()V" } : Jvm.MethodName)) ∈ lw_all := lw_g (lw_at lw_m1 108 rfl) rfl
theorem q221 : (Jvm.Cond.fieldLinkNest "TideKeep" (171 : Nat) "TideKeep$Beach" "columns" "I" "TideKeep") ∈ lw_tbl := lw_at lw_m1 134 rfl
theorem q226 : (Jvm.Cond.fieldLinkNest "TideKeep" (174 : Nat) "TideKeep$Beach" "rows" "I" "TideKeep") ∈ lw_tbl := lw_at lw_m1 139 rfl
theorem q229 : (Jvm.Cond.fieldLinkNest "TideKeep" (183 : Nat) "TideKeep$Beach" "best" "I" "TideKeep") ∈ lw_tbl := lw_at lw_m1 142 rfl
theorem q232 : (Jvm.Cond.fieldLinkNest "TideKeep" (186 : Nat) "TideKeep$Beach" "top" "I" "TideKeep") ∈ lw_tbl := lw_at lw_m1 145 rfl
theorem q235 : (Jvm.Cond.fieldLinkNest "TideKeep" (189 : Nat) "TideKeep$Beach" "loss" "I" "TideKeep") ∈ lw_tbl := lw_at lw_m1 148 rfl
theorem q238 : (Jvm.Cond.fieldLinkNest "TideKeep" (168 : Nat) "TideKeep$Beach" "flags" "I" "TideKeep") ∈ lw_tbl := lw_at lw_m1 151 rfl
theorem q240 : (Jvm.Cond.fieldLinkNest "TideKeep" (141 : Nat) "TideKeep$Beach" "clauses" "I" "TideKeep") ∈ lw_tbl := lw_at lw_m1 153 rfl
theorem q243 : (Jvm.Cond.fieldLinkNest "TideKeep" (177 : Nat) "TideKeep$Beach" "numbers" "[I" "TideKeep") ∈ lw_tbl := lw_at lw_m1 156 rfl
theorem q250 : (Jvm.Cond.fieldLinkNest "TideKeep" (279 : Nat) "TideKeep$Beach" "flagCell" "[I" "TideKeep") ∈ lw_tbl := lw_at lw_m1 163 rfl
theorem q280 : (Jvm.Cond.classLink "TideKeep" (31 : Nat) "TideKeep$Sea") ∈ lw_all := lw_g (lw_at lw_m1 193 rfl) rfl
theorem q282 : (Jvm.Cond.methodLinkNest "TideKeep" (33 : Nat) ({ cls := "TideKeep$Sea", name := "<init>", desc := "()V" } : Jvm.MethodName) "TideKeep") ∈ lw_tbl := lw_at lw_m1 195 rfl
theorem q315 : (Jvm.Cond.fieldLinkNest "TideKeep" (192 : Nat) "TideKeep$Sea" "waves" "Ljava/util/ArrayList;" "TideKeep") ∈ lw_tbl := lw_at lw_m1 228 rfl
theorem q319 : (Jvm.Cond.fieldLinkNest "TideKeep" (180 : Nat) "TideKeep$Sea" "tide" "[I" "TideKeep") ∈ lw_tbl := lw_at lw_m1 232 rfl
theorem q323 : (Jvm.Cond.fieldLinkNest "TideKeep" (195 : Nat) "TideKeep$Sea" "reach" "[I" "TideKeep") ∈ lw_tbl := lw_at lw_m1 236 rfl
theorem q327 : (Jvm.Cond.fieldLinkNest "TideKeep" (198 : Nat) "TideKeep$Sea" "level" "[I" "TideKeep") ∈ lw_tbl := lw_at lw_m2 0 rfl
theorem q331 : (Jvm.Cond.fieldLinkNest "TideKeep" (201 : Nat) "TideKeep$Sea" "cut" "I" "TideKeep") ∈ lw_tbl := lw_at lw_m2 4 rfl
theorem q333 : (Jvm.Cond.fieldLinkNest "TideKeep" (150 : Nat) "TideKeep$Sea" "clauses" "I" "TideKeep") ∈ lw_tbl := lw_at lw_m2 6 rfl
theorem q347 : (Jvm.Cond.classLink "TideKeep" (38 : Nat) "java/util/ArrayList") ∈ lw_all := lw_g (lw_at lw_m2 20 rfl) rfl
theorem q348 : (Jvm.Cond.methodLink "TideKeep" (40 : Nat) ({ cls := "java/util/ArrayList", name := "<init>", desc := "()V" } : Jvm.MethodName)) ∈ lw_all := lw_g (lw_at lw_m2 21 rfl) rfl
theorem q349 : (Jvm.Cond.classLink "TideKeep" (45 : Nat) "TideKeep$Shore") ∈ lw_all := lw_g (lw_at lw_m2 22 rfl) rfl
theorem q351 : (Jvm.Cond.methodLinkNest "TideKeep" (47 : Nat) ({ cls := "TideKeep$Shore", name := "<init>", desc := "(LTideKeep;)V" } : Jvm.MethodName) "TideKeep") ∈ lw_tbl := lw_at lw_m2 24 rfl
theorem q356 : (Jvm.Cond.fieldLinkNest "TideKeep" (257 : Nat) "TideKeep$Shore" "height" "[I" "TideKeep") ∈ lw_tbl := lw_at lw_m2 29 rfl
theorem q358 : (Jvm.Cond.fieldLinkNest "TideKeep" (260 : Nat) "TideKeep$Shore" "wet" "[I" "TideKeep") ∈ lw_tbl := lw_at lw_m2 31 rfl
theorem q360 : (Jvm.Cond.fieldLinkNest "TideKeep" (263 : Nat) "TideKeep$Shore" "pack" "[I" "TideKeep") ∈ lw_tbl := lw_at lw_m2 33 rfl
theorem q364 : (Jvm.Cond.fieldLinkNest "TideKeep" (282 : Nat) "TideKeep$Shore" "putUp" "[I" "TideKeep") ∈ lw_tbl := lw_at lw_m2 37 rfl
theorem q366 : (Jvm.Cond.fieldLinkNest "TideKeep" (276 : Nat) "TideKeep$Shore" "fell" "[I" "TideKeep") ∈ lw_tbl := lw_at lw_m2 39 rfl
theorem q368 : (Jvm.Cond.fieldLinkNest "TideKeep" (266 : Nat) "TideKeep$Shore" "stone" "[Z" "TideKeep") ∈ lw_tbl := lw_at lw_m2 41 rfl
theorem q371 : (Jvm.Cond.fieldLinkNest "TideKeep" (252 : Nat) "TideKeep$Shore" "minute" "I" "TideKeep") ∈ lw_tbl := lw_at lw_m2 44 rfl
theorem q373 : (Jvm.Cond.fieldLinkNest "TideKeep" (288 : Nat) "TideKeep$Shore" "lost" "I" "TideKeep") ∈ lw_tbl := lw_at lw_m2 46 rfl
theorem q375 : (Jvm.Cond.fieldLinkNest "TideKeep" (291 : Nat) "TideKeep$Shore" "slid" "I" "TideKeep") ∈ lw_tbl := lw_at lw_m2 48 rfl
theorem q377 : (Jvm.Cond.fieldLinkNest "TideKeep" (294 : Nat) "TideKeep$Shore" "slidNow" "I" "TideKeep") ∈ lw_tbl := lw_at lw_m2 50 rfl
theorem q379 : (Jvm.Cond.fieldLinkNest "TideKeep" (297 : Nat) "TideKeep$Shore" "rounds" "I" "TideKeep") ∈ lw_tbl := lw_at lw_m2 52 rfl
theorem q381 : (Jvm.Cond.fieldLinkNest "TideKeep" (300 : Nat) "TideKeep$Shore" "came" "I" "TideKeep") ∈ lw_tbl := lw_at lw_m2 54 rfl
theorem q383 : (Jvm.Cond.fieldLinkNest "TideKeep" (204 : Nat) "TideKeep$Shore" "plan" "I" "TideKeep") ∈ lw_tbl := lw_at lw_m2 56 rfl
theorem q385 : (Jvm.Cond.fieldLinkNest "TideKeep" (243 : Nat) "TideKeep$Shore" "chance" "J" "TideKeep") ∈ lw_tbl := lw_at lw_m2 58 rfl
theorem q425 : (Jvm.Cond.methodLink "TideKeep" (93 : Nat) ({ cls := "TideKeep$Shore", name := "begin", desc := "()V" } : Jvm.MethodName)) ∈ lw_all := lw_g (lw_at lw_m2 98 rfl) rfl
theorem q449 : (Jvm.Cond.fieldLink "TideKeep" (10 : Nat) "TideKeep" "wrong" "LTideKeep$Wrong;") ∈ lw_all := lw_g (lw_at lw_m2 122 rfl) rfl
theorem q452 : (Jvm.Cond.fieldLink "TideKeep" (16 : Nat) "TideKeep" "tape" "[B") ∈ lw_all := lw_g (lw_at lw_m2 125 rfl) rfl
theorem q453 : (Jvm.Cond.fieldLink "TideKeep" (96 : Nat) "TideKeep" "taped" "I") ∈ lw_all := lw_g (lw_at lw_m2 126 rfl) rfl
theorem q454 : (Jvm.Cond.fieldLink "TideKeep" (103 : Nat) "TideKeep" "faultKind" "I") ∈ lw_all := lw_g (lw_at lw_m2 127 rfl) rfl
theorem q455 : (Jvm.Cond.fieldLink "TideKeep" (20 : Nat) "TideKeep" "faultPlace" "I") ∈ lw_all := lw_g (lw_at lw_m2 128 rfl) rfl
theorem q457 : (Jvm.Cond.fieldLink "TideKeep" (27 : Nat) "TideKeep" "beach" "LTideKeep$Beach;") ∈ lw_all := lw_g (lw_at lw_m2 130 rfl) rfl
theorem q459 : (Jvm.Cond.fieldLink "TideKeep" (34 : Nat) "TideKeep" "sea" "LTideKeep$Sea;") ∈ lw_all := lw_g (lw_at lw_m2 132 rfl) rfl
theorem q461 : (Jvm.Cond.fieldLink "TideKeep" (41 : Nat) "TideKeep" "plans" "Ljava/util/ArrayList;") ∈ lw_all := lw_g (lw_at lw_m2 134 rfl) rfl
theorem q463 : (Jvm.Cond.fieldLink "TideKeep" (50 : Nat) "TideKeep" "shore" "LTideKeep$Shore;") ∈ lw_all := lw_g (lw_at lw_m2 136 rfl) rfl
theorem q464 : (Jvm.Cond.fieldLink "TideKeep" (54 : Nat) "TideKeep" "trial" "LTideKeep$Shore;") ∈ lw_all := lw_g (lw_at lw_m2 137 rfl) rfl
theorem q465 : (Jvm.Cond.fieldLink "TideKeep" (57 : Nat) "TideKeep" "slots" "[LTideKeep$Shore;") ∈ lw_all := lw_g (lw_at lw_m2 138 rfl) rfl
theorem q466 : (Jvm.Cond.fieldLink "TideKeep" (61 : Nat) "TideKeep" "isKept" "[Z") ∈ lw_all := lw_g (lw_at lw_m2 139 rfl) rfl
theorem q467 : (Jvm.Cond.fieldLink "TideKeep" (65 : Nat) "TideKeep" "row" "[I") ∈ lw_all := lw_g (lw_at lw_m2 140 rfl) rfl
theorem q468 : (Jvm.Cond.fieldLink "TideKeep" (325 : Nat) "TideKeep" "tried" "I") ∈ lw_all := lw_g (lw_at lw_m2 141 rfl) rfl
theorem q469 : (Jvm.Cond.fieldLink "TideKeep" (328 : Nat) "TideKeep" "rights" "I") ∈ lw_all := lw_g (lw_at lw_m2 142 rfl) rfl
theorem q470 : (Jvm.Cond.fieldLink "TideKeep" (322 : Nat) "TideKeep" "latestTold" "I") ∈ lw_all := lw_g (lw_at lw_m2 143 rfl) rfl
theorem q471 : (Jvm.Cond.fieldLink "TideKeep" (69 : Nat) "TideKeep" "tTold" "[I") ∈ lw_all := lw_g (lw_at lw_m2 144 rfl) rfl
theorem q472 : (Jvm.Cond.fieldLink "TideKeep" (72 : Nat) "TideKeep" "tWet" "[I") ∈ lw_all := lw_g (lw_at lw_m2 145 rfl) rfl
theorem q473 : (Jvm.Cond.fieldLink "TideKeep" (75 : Nat) "TideKeep" "tSteep" "[I") ∈ lw_all := lw_g (lw_at lw_m2 146 rfl) rfl
theorem q474 : (Jvm.Cond.fieldLink "TideKeep" (78 : Nat) "TideKeep" "tStood" "[I") ∈ lw_all := lw_g (lw_at lw_m2 147 rfl) rfl
theorem q475 : (Jvm.Cond.fieldLink "TideKeep" (81 : Nat) "TideKeep" "rTold" "[I") ∈ lw_all := lw_g (lw_at lw_m2 148 rfl) rfl
theorem q476 : (Jvm.Cond.fieldLink "TideKeep" (84 : Nat) "TideKeep" "rOf" "[I") ∈ lw_all := lw_g (lw_at lw_m2 149 rfl) rfl
theorem q477 : (Jvm.Cond.fieldLink "TideKeep" (87 : Nat) "TideKeep" "rStood" "[I") ∈ lw_all := lw_g (lw_at lw_m2 150 rfl) rfl
theorem q478 : (Jvm.Cond.fieldLink "TideKeep" (90 : Nat) "TideKeep" "fitting" "[I") ∈ lw_all := lw_g (lw_at lw_m2 151 rfl) rfl
theorem q479 : (Jvm.Cond.fieldLink "TideKeep" (344 : Nat) "TideKeep" "fits" "I") ∈ lw_all := lw_g (lw_at lw_m2 152 rfl) rfl
theorem q480 : (Jvm.Cond.laysFinal "TideKeep" "TideKeep" "wrong" "LTideKeep$Wrong;") ∈ lw_all := lw_g (lw_at lw_m2 153 rfl) rfl
theorem q481 : (Jvm.Cond.soleField "TideKeep" "wrong") ∈ lw_all := lw_g (lw_at lw_m2 154 rfl) rfl
theorem q482 : (Jvm.Cond.laysFinal "TideKeep" "TideKeep" "tape" "[B") ∈ lw_all := lw_g (lw_at lw_m2 155 rfl) rfl
theorem q483 : (Jvm.Cond.soleField "TideKeep" "tape") ∈ lw_all := lw_g (lw_at lw_m2 156 rfl) rfl
theorem q484 : (Jvm.Cond.lays "TideKeep" "TideKeep" "taped" "I") ∈ lw_all := lw_g (lw_at lw_m2 157 rfl) rfl
theorem q485 : (Jvm.Cond.soleField "TideKeep" "taped") ∈ lw_all := lw_g (lw_at lw_m2 158 rfl) rfl
theorem q486 : (Jvm.Cond.lays "TideKeep" "TideKeep" "faultKind" "I") ∈ lw_all := lw_g (lw_at lw_m2 159 rfl) rfl
theorem q487 : (Jvm.Cond.soleField "TideKeep" "faultKind") ∈ lw_all := lw_g (lw_at lw_m2 160 rfl) rfl
theorem q488 : (Jvm.Cond.lays "TideKeep" "TideKeep" "faultPlace" "I") ∈ lw_all := lw_g (lw_at lw_m2 161 rfl) rfl
theorem q489 : (Jvm.Cond.soleField "TideKeep" "faultPlace") ∈ lw_all := lw_g (lw_at lw_m2 162 rfl) rfl
theorem q490 : (Jvm.Cond.lays "TideKeep" "TideKeep" "beach" "LTideKeep$Beach;") ∈ lw_all := lw_g (lw_at lw_m2 163 rfl) rfl
theorem q491 : (Jvm.Cond.soleField "TideKeep" "beach") ∈ lw_all := lw_g (lw_at lw_m2 164 rfl) rfl
theorem q492 : (Jvm.Cond.lays "TideKeep" "TideKeep" "sea" "LTideKeep$Sea;") ∈ lw_all := lw_g (lw_at lw_m2 165 rfl) rfl
theorem q493 : (Jvm.Cond.soleField "TideKeep" "sea") ∈ lw_all := lw_g (lw_at lw_m2 166 rfl) rfl
theorem q494 : (Jvm.Cond.laysFinal "TideKeep" "TideKeep" "plans" "Ljava/util/ArrayList;") ∈ lw_all := lw_g (lw_at lw_m2 167 rfl) rfl
theorem q495 : (Jvm.Cond.soleField "TideKeep" "plans") ∈ lw_all := lw_g (lw_at lw_m2 168 rfl) rfl
theorem q496 : (Jvm.Cond.laysFinal "TideKeep" "TideKeep" "shore" "LTideKeep$Shore;") ∈ lw_all := lw_g (lw_at lw_m2 169 rfl) rfl
theorem q497 : (Jvm.Cond.soleField "TideKeep" "shore") ∈ lw_all := lw_g (lw_at lw_m2 170 rfl) rfl
theorem q498 : (Jvm.Cond.laysFinal "TideKeep" "TideKeep" "trial" "LTideKeep$Shore;") ∈ lw_all := lw_g (lw_at lw_m2 171 rfl) rfl
theorem q499 : (Jvm.Cond.soleField "TideKeep" "trial") ∈ lw_all := lw_g (lw_at lw_m2 172 rfl) rfl
theorem q500 : (Jvm.Cond.laysFinal "TideKeep" "TideKeep" "slots" "[LTideKeep$Shore;") ∈ lw_all := lw_g (lw_at lw_m2 173 rfl) rfl
theorem q501 : (Jvm.Cond.soleField "TideKeep" "slots") ∈ lw_all := lw_g (lw_at lw_m2 174 rfl) rfl
theorem q502 : (Jvm.Cond.laysFinal "TideKeep" "TideKeep" "isKept" "[Z") ∈ lw_all := lw_g (lw_at lw_m2 175 rfl) rfl
theorem q503 : (Jvm.Cond.soleField "TideKeep" "isKept") ∈ lw_all := lw_g (lw_at lw_m2 176 rfl) rfl
theorem q504 : (Jvm.Cond.laysFinal "TideKeep" "TideKeep" "row" "[I") ∈ lw_all := lw_g (lw_at lw_m2 177 rfl) rfl
theorem q505 : (Jvm.Cond.soleField "TideKeep" "row") ∈ lw_all := lw_g (lw_at lw_m2 178 rfl) rfl
theorem q506 : (Jvm.Cond.lays "TideKeep" "TideKeep" "tried" "I") ∈ lw_all := lw_g (lw_at lw_m2 179 rfl) rfl
theorem q507 : (Jvm.Cond.soleField "TideKeep" "tried") ∈ lw_all := lw_g (lw_at lw_m2 180 rfl) rfl
theorem q508 : (Jvm.Cond.lays "TideKeep" "TideKeep" "rights" "I") ∈ lw_all := lw_g (lw_at lw_m2 181 rfl) rfl
theorem q509 : (Jvm.Cond.soleField "TideKeep" "rights") ∈ lw_all := lw_g (lw_at lw_m2 182 rfl) rfl
theorem q510 : (Jvm.Cond.lays "TideKeep" "TideKeep" "latestTold" "I") ∈ lw_all := lw_g (lw_at lw_m2 183 rfl) rfl
theorem q511 : (Jvm.Cond.soleField "TideKeep" "latestTold") ∈ lw_all := lw_g (lw_at lw_m2 184 rfl) rfl
theorem q512 : (Jvm.Cond.laysFinal "TideKeep" "TideKeep" "tTold" "[I") ∈ lw_all := lw_g (lw_at lw_m2 185 rfl) rfl
theorem q513 : (Jvm.Cond.soleField "TideKeep" "tTold") ∈ lw_all := lw_g (lw_at lw_m2 186 rfl) rfl
theorem q514 : (Jvm.Cond.laysFinal "TideKeep" "TideKeep" "tWet" "[I") ∈ lw_all := lw_g (lw_at lw_m2 187 rfl) rfl
theorem q515 : (Jvm.Cond.soleField "TideKeep" "tWet") ∈ lw_all := lw_g (lw_at lw_m2 188 rfl) rfl
theorem q516 : (Jvm.Cond.laysFinal "TideKeep" "TideKeep" "tSteep" "[I") ∈ lw_all := lw_g (lw_at lw_m2 189 rfl) rfl
theorem q517 : (Jvm.Cond.soleField "TideKeep" "tSteep") ∈ lw_all := lw_g (lw_at lw_m2 190 rfl) rfl
theorem q518 : (Jvm.Cond.laysFinal "TideKeep" "TideKeep" "tStood" "[I") ∈ lw_all := lw_g (lw_at lw_m2 191 rfl) rfl
theorem q519 : (Jvm.Cond.soleField "TideKeep" "tStood") ∈ lw_all := lw_g (lw_at lw_m2 192 rfl) rfl
theorem q520 : (Jvm.Cond.laysFinal "TideKeep" "TideKeep" "rTold" "[I") ∈ lw_all := lw_g (lw_at lw_m2 193 rfl) rfl
theorem q521 : (Jvm.Cond.soleField "TideKeep" "rTold") ∈ lw_all := lw_g (lw_at lw_m2 194 rfl) rfl
theorem q522 : (Jvm.Cond.laysFinal "TideKeep" "TideKeep" "rOf" "[I") ∈ lw_all := lw_g (lw_at lw_m2 195 rfl) rfl
theorem q523 : (Jvm.Cond.soleField "TideKeep" "rOf") ∈ lw_all := lw_g (lw_at lw_m2 196 rfl) rfl
theorem q524 : (Jvm.Cond.laysFinal "TideKeep" "TideKeep" "rStood" "[I") ∈ lw_all := lw_g (lw_at lw_m2 197 rfl) rfl
theorem q525 : (Jvm.Cond.soleField "TideKeep" "rStood") ∈ lw_all := lw_g (lw_at lw_m2 198 rfl) rfl
theorem q526 : (Jvm.Cond.laysFinal "TideKeep" "TideKeep" "fitting" "[I") ∈ lw_all := lw_g (lw_at lw_m2 199 rfl) rfl
theorem q527 : (Jvm.Cond.soleField "TideKeep" "fitting") ∈ lw_all := lw_g (lw_at lw_m2 200 rfl) rfl
theorem q528 : (Jvm.Cond.lays "TideKeep" "TideKeep" "fits" "I") ∈ lw_all := lw_g (lw_at lw_m2 201 rfl) rfl
theorem q529 : (Jvm.Cond.soleField "TideKeep" "fits") ∈ lw_all := lw_g (lw_at lw_m2 202 rfl) rfl
theorem q530 : (Jvm.Cond.superclass "TideKeep" "java/lang/Object") ∈ lw_all := lw_g (lw_at lw_m2 203 rfl) rfl
theorem q532 : (Jvm.Cond.instanceMethod ({ cls := "TideKeep", name := "feed", desc := "(IIIII)I" } : Jvm.MethodName)) ∈ lw_all := lw_g (lw_at lw_m2 205 rfl) rfl
theorem q533 : (Jvm.Cond.selects "TideKeep" ({ cls := "TideKeep", name := "feed", desc := "(IIIII)I" } : Jvm.MethodName) ({ cls := "TideKeep", name := "feed", desc := "(IIIII)I" } : Jvm.MethodName)) ∈ lw_all := lw_g (lw_at lw_m2 206 rfl) rfl
theorem q534 : (Jvm.Cond.code ({ cls := "TideKeep", name := "feed", desc := "(IIIII)I" } : Jvm.MethodName) prog_1_method_4_code (6 : Nat) (Option.some Jvm.ClassFile.FieldType.int)) ∈ lw_all := lw_g (lw_at lw_m2 207 rfl) rfl
theorem q535 : (Jvm.Cond.methodLink "TideKeep" (99 : Nat) ({ cls := "TideKeep", name := "four", desc := "(I)V" } : Jvm.MethodName)) ∈ lw_all := lw_g (lw_at lw_m2 208 rfl) rfl
theorem q536 : (Jvm.Cond.privateMethod ({ cls := "TideKeep", name := "four", desc := "(I)V" } : Jvm.MethodName)) ∈ lw_tbl := lw_at lw_m2 209 rfl
theorem q537 : (Jvm.Cond.instanceMethod ({ cls := "TideKeep", name := "four", desc := "(I)V" } : Jvm.MethodName)) ∈ lw_all := lw_g (lw_at lw_m2 210 rfl) rfl
theorem q538 : (Jvm.Cond.code ({ cls := "TideKeep", name := "four", desc := "(I)V" } : Jvm.MethodName) prog_1_method_3_code (3 : Nat) (Option.none : Option Jvm.ClassFile.FieldType)) ∈ lw_all := lw_g (lw_at lw_m2 211 rfl) rfl
theorem q540 : (Jvm.Cond.instanceMethod ({ cls := "TideKeep", name := "end", desc := "(I)I" } : Jvm.MethodName)) ∈ lw_all := lw_g (lw_at lw_m2 213 rfl) rfl
theorem q541 : (Jvm.Cond.selects "TideKeep" ({ cls := "TideKeep", name := "end", desc := "(I)I" } : Jvm.MethodName) ({ cls := "TideKeep", name := "end", desc := "(I)I" } : Jvm.MethodName)) ∈ lw_all := lw_g (lw_at lw_m2 214 rfl) rfl
theorem q542 : (Jvm.Cond.code ({ cls := "TideKeep", name := "end", desc := "(I)I" } : Jvm.MethodName) prog_1_method_5_code (2 : Nat) (Option.some Jvm.ClassFile.FieldType.int)) ∈ lw_all := lw_g (lw_at lw_m2 215 rfl) rfl
theorem q544 : (Jvm.Cond.instanceMethod ({ cls := "TideKeep", name := "beach", desc := "()I" } : Jvm.MethodName)) ∈ lw_all := lw_g (lw_at lw_m2 217 rfl) rfl
theorem q545 : (Jvm.Cond.selects "TideKeep" ({ cls := "TideKeep", name := "beach", desc := "()I" } : Jvm.MethodName) ({ cls := "TideKeep", name := "beach", desc := "()I" } : Jvm.MethodName)) ∈ lw_all := lw_g (lw_at lw_m2 218 rfl) rfl
theorem q546 : (Jvm.Cond.codeWith ({ cls := "TideKeep", name := "beach", desc := "()I" } : Jvm.MethodName) prog_1_method_9_code (2 : Nat) (Option.some Jvm.ClassFile.FieldType.int) [((4 : Nat), (23 : Nat), (26 : Nat), (7 : Nat))]) ∈ lw_all := lw_g (lw_at lw_m2 219 rfl) rfl
theorem q547 : (Jvm.Cond.methodLink "TideKeep" (112 : Nat) ({ cls := "TideKeep", name := "noFault", desc := "()V" } : Jvm.MethodName)) ∈ lw_all := lw_g (lw_at lw_m2 220 rfl) rfl
theorem q548 : (Jvm.Cond.privateMethod ({ cls := "TideKeep", name := "noFault", desc := "()V" } : Jvm.MethodName)) ∈ lw_tbl := lw_at lw_m2 221 rfl
theorem q549 : (Jvm.Cond.instanceMethod ({ cls := "TideKeep", name := "noFault", desc := "()V" } : Jvm.MethodName)) ∈ lw_all := lw_g (lw_at lw_m2 222 rfl) rfl
theorem q550 : (Jvm.Cond.code ({ cls := "TideKeep", name := "noFault", desc := "()V" } : Jvm.MethodName) prog_1_method_7_code (1 : Nat) (Option.none : Option Jvm.ClassFile.FieldType)) ∈ lw_all := lw_g (lw_at lw_m2 223 rfl) rfl
theorem q551 : (Jvm.Cond.classLink "TideKeep" (115 : Nat) "TideKeep$BeachReader") ∈ lw_all := lw_g (lw_at lw_m2 224 rfl) rfl
theorem q553 : (Jvm.Cond.methodLink "TideKeep" (117 : Nat) ({ cls := "TideKeep", name := "takeTape", desc := "()I" } : Jvm.MethodName)) ∈ lw_all := lw_g (lw_at lw_m2 226 rfl) rfl
theorem q554 : (Jvm.Cond.privateMethod ({ cls := "TideKeep", name := "takeTape", desc := "()I" } : Jvm.MethodName)) ∈ lw_tbl := lw_at lw_m2 227 rfl
theorem q555 : (Jvm.Cond.instanceMethod ({ cls := "TideKeep", name := "takeTape", desc := "()I" } : Jvm.MethodName)) ∈ lw_all := lw_g (lw_at lw_m2 228 rfl) rfl
theorem q556 : (Jvm.Cond.code ({ cls := "TideKeep", name := "takeTape", desc := "()I" } : Jvm.MethodName) prog_1_method_6_code (2 : Nat) (Option.some Jvm.ClassFile.FieldType.int)) ∈ lw_all := lw_g (lw_at lw_m2 229 rfl) rfl
theorem q557 : (Jvm.Cond.methodLink "TideKeep" (121 : Nat) ({ cls := "TideKeep$BeachReader", name := "<init>", desc := "(LTideKeep;I)V" } : Jvm.MethodName)) ∈ lw_all := lw_g (lw_at lw_m2 230 rfl) rfl
theorem q633 : (Jvm.Cond.methodLink "TideKeep" (124 : Nat) ({ cls := "TideKeep$BeachReader", name := "read", desc := "()LTideKeep$Beach;" } : Jvm.MethodName)) ∈ lw_all := lw_g (lw_at lw_m3 66 rfl) rfl
theorem q740 : (Jvm.Cond.static ({ cls := "TideKeep", name := "in", desc := "(III)Z" } : Jvm.MethodName)) ∈ lw_all := lw_g (lw_at lw_m3 173 rfl) rfl
theorem q741 : (Jvm.Cond.code ({ cls := "TideKeep", name := "in", desc := "(III)Z" } : Jvm.MethodName) prog_1_method_1_code (3 : Nat) (Option.some Jvm.ClassFile.FieldType.boolean)) ∈ lw_all := lw_g (lw_at lw_m3 174 rfl) rfl
theorem q786 : (Jvm.Cond.fieldLinkNest "TideKeep" (231 : Nat) "TideKeep$Hand" "acts" "Ljava/util/ArrayList;" "TideKeep") ∈ lw_tbl := lw_at lw_m3 219 rfl
theorem q812 : (Jvm.Cond.fieldLinkNest "TideKeep" (236 : Nat) "TideKeep$Act" "kind" "I" "TideKeep") ∈ lw_tbl := lw_at lw_m4 5 rfl
theorem q815 : (Jvm.Cond.fieldLinkNest "TideKeep" (237 : Nat) "TideKeep$Act" "cell" "I" "TideKeep") ∈ lw_tbl := lw_at lw_m4 8 rfl
theorem q818 : (Jvm.Cond.fieldLinkNest "TideKeep" (240 : Nat) "TideKeep$Act" "to" "I" "TideKeep") ∈ lw_tbl := lw_at lw_m4 11 rfl
theorem q858 : (Jvm.Cond.selects "TideKeep" ({ cls := "java/lang/Object", name := "getClass", desc := "()Ljava/lang/Class;" } : Jvm.MethodName) ({ cls := "java/lang/Object", name := "getClass", desc := "()Ljava/lang/Class;" } : Jvm.MethodName)) ∈ lw_all := lw_g (lw_at lw_m4 51 rfl) rfl
theorem q919 : (Jvm.Cond.fieldLinkNest "TideKeep" (213 : Nat) "TideKeep$Wave" "minute" "I" "TideKeep") ∈ lw_tbl := lw_at lw_m4 112 rfl
theorem q922 : (Jvm.Cond.fieldLinkNest "TideKeep" (216 : Nat) "TideKeep$Wave" "reach" "I" "TideKeep") ∈ lw_tbl := lw_at lw_m4 115 rfl
theorem q925 : (Jvm.Cond.fieldLinkNest "TideKeep" (218 : Nat) "TideKeep$Wave" "level" "I" "TideKeep") ∈ lw_tbl := lw_at lw_m4 118 rfl
theorem q941 : (Jvm.Cond.methodLink "TideKeep" (128 : Nat) ({ cls := "TideKeep", name := "failed", desc := "(LTideKeep$Wrong;)I" } : Jvm.MethodName)) ∈ lw_all := lw_g (lw_at lw_m4 134 rfl) rfl
theorem q942 : (Jvm.Cond.privateMethod ({ cls := "TideKeep", name := "failed", desc := "(LTideKeep$Wrong;)I" } : Jvm.MethodName)) ∈ lw_tbl := lw_at lw_m4 135 rfl
theorem q943 : (Jvm.Cond.instanceMethod ({ cls := "TideKeep", name := "failed", desc := "(LTideKeep$Wrong;)I" } : Jvm.MethodName)) ∈ lw_all := lw_g (lw_at lw_m4 136 rfl) rfl
theorem q944 : (Jvm.Cond.code ({ cls := "TideKeep", name := "failed", desc := "(LTideKeep$Wrong;)I" } : Jvm.MethodName) prog_1_method_8_code (2 : Nat) (Option.some Jvm.ClassFile.FieldType.int)) ∈ lw_all := lw_g (lw_at lw_m4 137 rfl) rfl
theorem q945 : (Jvm.Cond.methodLink "TideKeep" (132 : Nat) ({ cls := "java/util/ArrayList", name := "clear", desc := "()V" } : Jvm.MethodName)) ∈ lw_all := lw_g (lw_at lw_m4 138 rfl) rfl
theorem q949 : (Jvm.Cond.methodLink "TideKeep" (135 : Nat) ({ cls := "java/util/Arrays", name := "fill", desc := "([ZZ)V" } : Jvm.MethodName)) ∈ lw_all := lw_g (lw_at lw_m4 142 rfl) rfl
theorem q951 : (Jvm.Cond.instanceMethod ({ cls := "TideKeep", name := "sea", desc := "()I" } : Jvm.MethodName)) ∈ lw_all := lw_g (lw_at lw_m4 144 rfl) rfl
theorem q952 : (Jvm.Cond.selects "TideKeep" ({ cls := "TideKeep", name := "sea", desc := "()I" } : Jvm.MethodName) ({ cls := "TideKeep", name := "sea", desc := "()I" } : Jvm.MethodName)) ∈ lw_all := lw_g (lw_at lw_m4 145 rfl) rfl
theorem q953 : (Jvm.Cond.codeWith ({ cls := "TideKeep", name := "sea", desc := "()I" } : Jvm.MethodName) prog_1_method_10_code (2 : Nat) (Option.some Jvm.ClassFile.FieldType.int) [((4 : Nat), (23 : Nat), (26 : Nat), (7 : Nat))]) ∈ lw_all := lw_g (lw_at lw_m4 146 rfl) rfl
theorem q954 : (Jvm.Cond.classLink "TideKeep" (144 : Nat) "TideKeep$SeaReader") ∈ lw_all := lw_g (lw_at lw_m4 147 rfl) rfl
theorem q956 : (Jvm.Cond.methodLink "TideKeep" (146 : Nat) ({ cls := "TideKeep$SeaReader", name := "<init>", desc := "(LTideKeep;I)V" } : Jvm.MethodName)) ∈ lw_all := lw_g (lw_at lw_m4 149 rfl) rfl
theorem q976 : (Jvm.Cond.methodLink "TideKeep" (147 : Nat) ({ cls := "TideKeep$SeaReader", name := "read", desc := "()LTideKeep$Sea;" } : Jvm.MethodName)) ∈ lw_all := lw_g (lw_at lw_m4 169 rfl) rfl
theorem q984 : (Jvm.Cond.instanceMethod ({ cls := "TideKeep", name := "plan", desc := "()I" } : Jvm.MethodName)) ∈ lw_all := lw_g (lw_at lw_m4 177 rfl) rfl
theorem q985 : (Jvm.Cond.selects "TideKeep" ({ cls := "TideKeep", name := "plan", desc := "()I" } : Jvm.MethodName) ({ cls := "TideKeep", name := "plan", desc := "()I" } : Jvm.MethodName)) ∈ lw_all := lw_g (lw_at lw_m4 178 rfl) rfl
theorem q986 : (Jvm.Cond.codeWith ({ cls := "TideKeep", name := "plan", desc := "()I" } : Jvm.MethodName) prog_1_method_11_code (3 : Nat) (Option.some Jvm.ClassFile.FieldType.int) [((23 : Nat), (43 : Nat), (46 : Nat), (7 : Nat))]) ∈ lw_all := lw_g (lw_at lw_m4 179 rfl) rfl
theorem q987 : (Jvm.Cond.methodLink "TideKeep" (151 : Nat) ({ cls := "java/util/ArrayList", name := "size", desc := "()I" } : Jvm.MethodName)) ∈ lw_all := lw_g (lw_at lw_m4 180 rfl) rfl
theorem q988 : (Jvm.Cond.classLink "TideKeep" (154 : Nat) "TideKeep$PlanReader") ∈ lw_all := lw_g (lw_at lw_m4 181 rfl) rfl
theorem q989 : (Jvm.Cond.methodLink "TideKeep" (156 : Nat) ({ cls := "TideKeep$PlanReader", name := "<init>", desc := "(LTideKeep;I)V" } : Jvm.MethodName)) ∈ lw_all := lw_g (lw_at lw_m4 182 rfl) rfl
theorem q1004 : (Jvm.Cond.fieldLinkNest "TideKeep" (226 : Nat) "TideKeep$Plan" "hands" "Ljava/util/ArrayList;" "TideKeep") ∈ lw_tbl := lw_at lw_m4 197 rfl
theorem q1022 : (Jvm.Cond.methodLink "TideKeep" (157 : Nat) ({ cls := "TideKeep$PlanReader", name := "read", desc := "()LTideKeep$Plan;" } : Jvm.MethodName)) ∈ lw_all := lw_g (lw_at lw_m4 215 rfl) rfl
theorem q1029 : (Jvm.Cond.methodLink "TideKeep" (160 : Nat) ({ cls := "java/util/ArrayList", name := "add", desc := "(Ljava/lang/Object;)Z" } : Jvm.MethodName)) ∈ lw_all := lw_g (lw_at lw_m4 222 rfl) rfl
theorem q1031 : (Jvm.Cond.instanceMethod ({ cls := "TideKeep", name := "fault", desc := "(I)I" } : Jvm.MethodName)) ∈ lw_all := lw_g (lw_at lw_m4 224 rfl) rfl
theorem q1032 : (Jvm.Cond.selects "TideKeep" ({ cls := "TideKeep", name := "fault", desc := "(I)I" } : Jvm.MethodName) ({ cls := "TideKeep", name := "fault", desc := "(I)I" } : Jvm.MethodName)) ∈ lw_all := lw_g (lw_at lw_m4 225 rfl) rfl
theorem q1033 : (Jvm.Cond.code ({ cls := "TideKeep", name := "fault", desc := "(I)I" } : Jvm.MethodName) prog_1_method_12_code (2 : Nat) (Option.some Jvm.ClassFile.FieldType.int)) ∈ lw_all := lw_g (lw_at lw_m4 226 rfl) rfl
theorem q1035 : (Jvm.Cond.instanceMethod ({ cls := "TideKeep", name := "told", desc := "(I)I" } : Jvm.MethodName)) ∈ lw_all := lw_g (lw_at lw_m4 228 rfl) rfl
theorem q1036 : (Jvm.Cond.selects "TideKeep" ({ cls := "TideKeep", name := "told", desc := "(I)I" } : Jvm.MethodName) ({ cls := "TideKeep", name := "told", desc := "(I)I" } : Jvm.MethodName)) ∈ lw_all := lw_g (lw_at lw_m4 229 rfl) rfl
theorem q1037 : (Jvm.Cond.code ({ cls := "TideKeep", name := "told", desc := "(I)I" } : Jvm.MethodName) prog_1_method_16_code (2 : Nat) (Option.some Jvm.ClassFile.FieldType.int)) ∈ lw_all := lw_g (lw_at lw_m4 230 rfl) rfl
theorem q1038 : (Jvm.Cond.methodLink "TideKeep" (164 : Nat) ({ cls := "TideKeep", name := "in", desc := "(III)Z" } : Jvm.MethodName)) ∈ lw_all := lw_g (lw_at lw_m4 231 rfl) rfl
theorem q1040 : (Jvm.Cond.instanceMethod ({ cls := "TideKeep", name := "wave", desc := "(II)I" } : Jvm.MethodName)) ∈ lw_all := lw_g (lw_at lw_m4 233 rfl) rfl
theorem q1041 : (Jvm.Cond.selects "TideKeep" ({ cls := "TideKeep", name := "wave", desc := "(II)I" } : Jvm.MethodName) ({ cls := "TideKeep", name := "wave", desc := "(II)I" } : Jvm.MethodName)) ∈ lw_all := lw_g (lw_at lw_m4 234 rfl) rfl
theorem q1042 : (Jvm.Cond.code ({ cls := "TideKeep", name := "wave", desc := "(II)I" } : Jvm.MethodName) prog_1_method_17_code (4 : Nat) (Option.some Jvm.ClassFile.FieldType.int)) ∈ lw_all := lw_g (lw_at lw_m4 235 rfl) rfl
theorem q1043 : (Jvm.Cond.methodLink "TideKeep" (207 : Nat) ({ cls := "java/util/ArrayList", name := "get", desc := "(I)Ljava/lang/Object;" } : Jvm.MethodName)) ∈ lw_all := lw_g (lw_at lw_m4 236 rfl) rfl
theorem q1055 : (Jvm.Cond.classLink "TideKeep" (211 : Nat) "TideKeep$Wave") ∈ lw_all := lw_g (lw_at lw_m5 8 rfl) rfl
theorem q1057 : (Jvm.Cond.instanceMethod ({ cls := "TideKeep", name := "act", desc := "(IIII)I" } : Jvm.MethodName)) ∈ lw_all := lw_g (lw_at lw_m5 10 rfl) rfl
theorem q1058 : (Jvm.Cond.selects "TideKeep" ({ cls := "TideKeep", name := "act", desc := "(IIII)I" } : Jvm.MethodName) ({ cls := "TideKeep", name := "act", desc := "(IIII)I" } : Jvm.MethodName)) ∈ lw_all := lw_g (lw_at lw_m5 11 rfl) rfl
theorem q1059 : (Jvm.Cond.code ({ cls := "TideKeep", name := "act", desc := "(IIII)I" } : Jvm.MethodName) prog_1_method_18_code (8 : Nat) (Option.some Jvm.ClassFile.FieldType.int)) ∈ lw_all := lw_g (lw_at lw_m5 12 rfl) rfl
theorem q1060 : (Jvm.Cond.methodLink "TideKeep" (220 : Nat) ({ cls := "TideKeep", name := "isPlan", desc := "(I)Z" } : Jvm.MethodName)) ∈ lw_all := lw_g (lw_at lw_m5 13 rfl) rfl
theorem q1061 : (Jvm.Cond.privateMethod ({ cls := "TideKeep", name := "isPlan", desc := "(I)Z" } : Jvm.MethodName)) ∈ lw_tbl := lw_at lw_m5 14 rfl
theorem q1062 : (Jvm.Cond.instanceMethod ({ cls := "TideKeep", name := "isPlan", desc := "(I)Z" } : Jvm.MethodName)) ∈ lw_all := lw_g (lw_at lw_m5 15 rfl) rfl
theorem q1063 : (Jvm.Cond.code ({ cls := "TideKeep", name := "isPlan", desc := "(I)Z" } : Jvm.MethodName) prog_1_method_13_code (2 : Nat) (Option.some Jvm.ClassFile.FieldType.boolean)) ∈ lw_all := lw_g (lw_at lw_m5 16 rfl) rfl
theorem q1064 : (Jvm.Cond.classLink "TideKeep" (224 : Nat) "TideKeep$Plan") ∈ lw_all := lw_g (lw_at lw_m5 17 rfl) rfl
theorem q1065 : (Jvm.Cond.classLink "TideKeep" (229 : Nat) "TideKeep$Hand") ∈ lw_all := lw_g (lw_at lw_m5 18 rfl) rfl
theorem q1066 : (Jvm.Cond.classLink "TideKeep" (234 : Nat) "TideKeep$Act") ∈ lw_all := lw_g (lw_at lw_m5 19 rfl) rfl
theorem q1068 : (Jvm.Cond.instanceMethod ({ cls := "TideKeep", name := "chance", desc := "(I)I" } : Jvm.MethodName)) ∈ lw_all := lw_g (lw_at lw_m5 21 rfl) rfl
theorem q1069 : (Jvm.Cond.selects "TideKeep" ({ cls := "TideKeep", name := "chance", desc := "(I)I" } : Jvm.MethodName) ({ cls := "TideKeep", name := "chance", desc := "(I)I" } : Jvm.MethodName)) ∈ lw_all := lw_g (lw_at lw_m5 22 rfl) rfl
theorem q1070 : (Jvm.Cond.code ({ cls := "TideKeep", name := "chance", desc := "(I)I" } : Jvm.MethodName) prog_1_method_19_code (2 : Nat) (Option.some Jvm.ClassFile.FieldType.int)) ∈ lw_all := lw_g (lw_at lw_m5 23 rfl) rfl
theorem q1072 : (Jvm.Cond.instanceMethod ({ cls := "TideKeep", name := "work", desc := "(I)I" } : Jvm.MethodName)) ∈ lw_all := lw_g (lw_at lw_m5 25 rfl) rfl
theorem q1073 : (Jvm.Cond.selects "TideKeep" ({ cls := "TideKeep", name := "work", desc := "(I)I" } : Jvm.MethodName) ({ cls := "TideKeep", name := "work", desc := "(I)I" } : Jvm.MethodName)) ∈ lw_all := lw_g (lw_at lw_m5 26 rfl) rfl
theorem q1074 : (Jvm.Cond.code ({ cls := "TideKeep", name := "work", desc := "(I)I" } : Jvm.MethodName) prog_1_method_20_code (2 : Nat) (Option.some Jvm.ClassFile.FieldType.int)) ∈ lw_all := lw_g (lw_at lw_m5 27 rfl) rfl
theorem q1075 : (Jvm.Cond.methodLink "TideKeep" (247 : Nat) ({ cls := "TideKeep$Shore", name := "hold", desc := "(I)V" } : Jvm.MethodName)) ∈ lw_all := lw_g (lw_at lw_m5 28 rfl) rfl
theorem q1077 : (Jvm.Cond.instanceMethod ({ cls := "TideKeep", name := "pass", desc := "(I)I" } : Jvm.MethodName)) ∈ lw_all := lw_g (lw_at lw_m5 30 rfl) rfl
theorem q1078 : (Jvm.Cond.selects "TideKeep" ({ cls := "TideKeep", name := "pass", desc := "(I)I" } : Jvm.MethodName) ({ cls := "TideKeep", name := "pass", desc := "(I)I" } : Jvm.MethodName)) ∈ lw_all := lw_g (lw_at lw_m5 31 rfl) rfl
theorem q1079 : (Jvm.Cond.code ({ cls := "TideKeep", name := "pass", desc := "(I)I" } : Jvm.MethodName) prog_1_method_21_code (3 : Nat) (Option.some Jvm.ClassFile.FieldType.int)) ∈ lw_all := lw_g (lw_at lw_m5 32 rfl) rfl
theorem q1080 : (Jvm.Cond.methodLink "TideKeep" (250 : Nat) ({ cls := "TideKeep$Shore", name := "minute", desc := "()V" } : Jvm.MethodName)) ∈ lw_all := lw_g (lw_at lw_m5 33 rfl) rfl
theorem q1173 : (Jvm.Cond.instanceMethod ({ cls := "TideKeep", name := "cell", desc := "(III)I" } : Jvm.MethodName)) ∈ lw_all := lw_g (lw_at lw_m5 126 rfl) rfl
theorem q1174 : (Jvm.Cond.selects "TideKeep" ({ cls := "TideKeep", name := "cell", desc := "(III)I" } : Jvm.MethodName) ({ cls := "TideKeep", name := "cell", desc := "(III)I" } : Jvm.MethodName)) ∈ lw_all := lw_g (lw_at lw_m5 127 rfl) rfl
theorem q1175 : (Jvm.Cond.code ({ cls := "TideKeep", name := "cell", desc := "(III)I" } : Jvm.MethodName) prog_1_method_22_code (5 : Nat) (Option.some Jvm.ClassFile.FieldType.int)) ∈ lw_all := lw_g (lw_at lw_m5 128 rfl) rfl
theorem q1176 : (Jvm.Cond.methodLink "TideKeep" (253 : Nat) ({ cls := "TideKeep", name := "isCell", desc := "(II)Z" } : Jvm.MethodName)) ∈ lw_all := lw_g (lw_at lw_m5 129 rfl) rfl
theorem q1177 : (Jvm.Cond.privateMethod ({ cls := "TideKeep", name := "isCell", desc := "(II)Z" } : Jvm.MethodName)) ∈ lw_tbl := lw_at lw_m5 130 rfl
theorem q1178 : (Jvm.Cond.instanceMethod ({ cls := "TideKeep", name := "isCell", desc := "(II)Z" } : Jvm.MethodName)) ∈ lw_all := lw_g (lw_at lw_m5 131 rfl) rfl
theorem q1179 : (Jvm.Cond.code ({ cls := "TideKeep", name := "isCell", desc := "(II)Z" } : Jvm.MethodName) prog_1_method_15_code (3 : Nat) (Option.some Jvm.ClassFile.FieldType.boolean)) ∈ lw_all := lw_g (lw_at lw_m5 132 rfl) rfl
theorem q1180 : (Jvm.Cond.methodLink "TideKeep" (269 : Nat) ({ cls := "TideKeep$Shore", name := "holds", desc := "(I)I" } : Jvm.MethodName)) ∈ lw_all := lw_g (lw_at lw_m5 133 rfl) rfl
theorem q1182 : (Jvm.Cond.instanceMethod ({ cls := "TideKeep", name := "flag", desc := "(II)I" } : Jvm.MethodName)) ∈ lw_all := lw_g (lw_at lw_m5 135 rfl) rfl
theorem q1183 : (Jvm.Cond.selects "TideKeep" ({ cls := "TideKeep", name := "flag", desc := "(II)I" } : Jvm.MethodName) ({ cls := "TideKeep", name := "flag", desc := "(II)I" } : Jvm.MethodName)) ∈ lw_all := lw_g (lw_at lw_m5 136 rfl) rfl
theorem q1184 : (Jvm.Cond.code ({ cls := "TideKeep", name := "flag", desc := "(II)I" } : Jvm.MethodName) prog_1_method_23_code (3 : Nat) (Option.some Jvm.ClassFile.FieldType.int)) ∈ lw_all := lw_g (lw_at lw_m5 137 rfl) rfl
theorem q1185 : (Jvm.Cond.methodLink "TideKeep" (273 : Nat) ({ cls := "TideKeep", name := "isFlag", desc := "(I)Z" } : Jvm.MethodName)) ∈ lw_all := lw_g (lw_at lw_m5 138 rfl) rfl
theorem q1186 : (Jvm.Cond.privateMethod ({ cls := "TideKeep", name := "isFlag", desc := "(I)Z" } : Jvm.MethodName)) ∈ lw_tbl := lw_at lw_m5 139 rfl
theorem q1187 : (Jvm.Cond.instanceMethod ({ cls := "TideKeep", name := "isFlag", desc := "(I)Z" } : Jvm.MethodName)) ∈ lw_all := lw_g (lw_at lw_m5 140 rfl) rfl
theorem q1188 : (Jvm.Cond.code ({ cls := "TideKeep", name := "isFlag", desc := "(I)Z" } : Jvm.MethodName) prog_1_method_14_code (2 : Nat) (Option.some Jvm.ClassFile.FieldType.boolean)) ∈ lw_all := lw_g (lw_at lw_m5 141 rfl) rfl
theorem q1190 : (Jvm.Cond.instanceMethod ({ cls := "TideKeep", name := "sum", desc := "(I)I" } : Jvm.MethodName)) ∈ lw_all := lw_g (lw_at lw_m5 143 rfl) rfl
theorem q1191 : (Jvm.Cond.selects "TideKeep" ({ cls := "TideKeep", name := "sum", desc := "(I)I" } : Jvm.MethodName) ({ cls := "TideKeep", name := "sum", desc := "(I)I" } : Jvm.MethodName)) ∈ lw_all := lw_g (lw_at lw_m5 144 rfl) rfl
theorem q1192 : (Jvm.Cond.code ({ cls := "TideKeep", name := "sum", desc := "(I)I" } : Jvm.MethodName) prog_1_method_24_code (2 : Nat) (Option.some Jvm.ClassFile.FieldType.int)) ∈ lw_all := lw_g (lw_at lw_m5 145 rfl) rfl
theorem q1193 : (Jvm.Cond.methodLink "TideKeep" (285 : Nat) ({ cls := "TideKeep$Shore", name := "sand", desc := "()I" } : Jvm.MethodName)) ∈ lw_all := lw_g (lw_at lw_m5 146 rfl) rfl
theorem q1198 : (Jvm.Cond.instanceMethod ({ cls := "TideKeep", name := "keep", desc := "(I)I" } : Jvm.MethodName)) ∈ lw_all := lw_g (lw_at lw_m5 151 rfl) rfl
theorem q1199 : (Jvm.Cond.selects "TideKeep" ({ cls := "TideKeep", name := "keep", desc := "(I)I" } : Jvm.MethodName) ({ cls := "TideKeep", name := "keep", desc := "(I)I" } : Jvm.MethodName)) ∈ lw_all := lw_g (lw_at lw_m5 152 rfl) rfl
theorem q1200 : (Jvm.Cond.code ({ cls := "TideKeep", name := "keep", desc := "(I)I" } : Jvm.MethodName) prog_1_method_26_code (2 : Nat) (Option.some Jvm.ClassFile.FieldType.int)) ∈ lw_all := lw_g (lw_at lw_m5 153 rfl) rfl
theorem q1201 : (Jvm.Cond.methodLink "TideKeep" (303 : Nat) ({ cls := "TideKeep", name := "isSlot", desc := "(I)Z" } : Jvm.MethodName)) ∈ lw_all := lw_g (lw_at lw_m5 154 rfl) rfl
theorem q1202 : (Jvm.Cond.static ({ cls := "TideKeep", name := "isSlot", desc := "(I)Z" } : Jvm.MethodName)) ∈ lw_all := lw_g (lw_at lw_m5 155 rfl) rfl
theorem q1203 : (Jvm.Cond.code ({ cls := "TideKeep", name := "isSlot", desc := "(I)Z" } : Jvm.MethodName) prog_1_method_25_code (1 : Nat) (Option.some Jvm.ClassFile.FieldType.boolean)) ∈ lw_all := lw_g (lw_at lw_m5 156 rfl) rfl
theorem q1204 : (Jvm.Cond.methodLink "TideKeep" (306 : Nat) ({ cls := "TideKeep$Shore", name := "become", desc := "(LTideKeep$Shore;)V" } : Jvm.MethodName)) ∈ lw_all := lw_g (lw_at lw_m5 157 rfl) rfl
theorem q1209 : (Jvm.Cond.instanceMethod ({ cls := "TideKeep", name := "take", desc := "(I)I" } : Jvm.MethodName)) ∈ lw_all := lw_g (lw_at lw_m5 162 rfl) rfl
theorem q1210 : (Jvm.Cond.selects "TideKeep" ({ cls := "TideKeep", name := "take", desc := "(I)I" } : Jvm.MethodName) ({ cls := "TideKeep", name := "take", desc := "(I)I" } : Jvm.MethodName)) ∈ lw_all := lw_g (lw_at lw_m5 163 rfl) rfl
theorem q1211 : (Jvm.Cond.code ({ cls := "TideKeep", name := "take", desc := "(I)I" } : Jvm.MethodName) prog_1_method_27_code (2 : Nat) (Option.some Jvm.ClassFile.FieldType.int)) ∈ lw_all := lw_g (lw_at lw_m5 164 rfl) rfl
theorem q1213 : (Jvm.Cond.instanceMethod ({ cls := "TideKeep", name := "holds", desc := "(II)I" } : Jvm.MethodName)) ∈ lw_all := lw_g (lw_at lw_m5 166 rfl) rfl
theorem q1214 : (Jvm.Cond.selects "TideKeep" ({ cls := "TideKeep", name := "holds", desc := "(II)I" } : Jvm.MethodName) ({ cls := "TideKeep", name := "holds", desc := "(II)I" } : Jvm.MethodName)) ∈ lw_all := lw_g (lw_at lw_m5 167 rfl) rfl
theorem q1215 : (Jvm.Cond.code ({ cls := "TideKeep", name := "holds", desc := "(II)I" } : Jvm.MethodName) prog_1_method_29_code (3 : Nat) (Option.some Jvm.ClassFile.FieldType.int)) ∈ lw_all := lw_g (lw_at lw_m5 168 rfl) rfl
theorem q1216 : (Jvm.Cond.methodLink "TideKeep" (310 : Nat) ({ cls := "TideKeep", name := "isSand", desc := "(II)Z" } : Jvm.MethodName)) ∈ lw_all := lw_g (lw_at lw_m5 169 rfl) rfl
theorem q1217 : (Jvm.Cond.static ({ cls := "TideKeep", name := "isSand", desc := "(II)Z" } : Jvm.MethodName)) ∈ lw_all := lw_g (lw_at lw_m5 170 rfl) rfl
theorem q1218 : (Jvm.Cond.code ({ cls := "TideKeep", name := "isSand", desc := "(II)Z" } : Jvm.MethodName) prog_1_method_28_code (2 : Nat) (Option.some Jvm.ClassFile.FieldType.boolean)) ∈ lw_all := lw_g (lw_at lw_m5 171 rfl) rfl
theorem q1219 : (Jvm.Cond.methodLink "TideKeep" (313 : Nat) ({ cls := "TideKeep$Beach", name := "holds", desc := "(II)I" } : Jvm.MethodName)) ∈ lw_all := lw_g (lw_at lw_m5 172 rfl) rfl
theorem q1221 : (Jvm.Cond.instanceMethod ({ cls := "TideKeep", name := "high", desc := "(III)I" } : Jvm.MethodName)) ∈ lw_all := lw_g (lw_at lw_m5 174 rfl) rfl
theorem q1222 : (Jvm.Cond.selects "TideKeep" ({ cls := "TideKeep", name := "high", desc := "(III)I" } : Jvm.MethodName) ({ cls := "TideKeep", name := "high", desc := "(III)I" } : Jvm.MethodName)) ∈ lw_all := lw_g (lw_at lw_m5 175 rfl) rfl
theorem q1223 : (Jvm.Cond.code ({ cls := "TideKeep", name := "high", desc := "(III)I" } : Jvm.MethodName) prog_1_method_30_code (4 : Nat) (Option.some Jvm.ClassFile.FieldType.int)) ∈ lw_all := lw_g (lw_at lw_m5 176 rfl) rfl
theorem q1225 : (Jvm.Cond.instanceMethod ({ cls := "TideKeep", name := "spill", desc := "(IIII)I" } : Jvm.MethodName)) ∈ lw_all := lw_g (lw_at lw_m5 178 rfl) rfl
theorem q1226 : (Jvm.Cond.selects "TideKeep" ({ cls := "TideKeep", name := "spill", desc := "(IIII)I" } : Jvm.MethodName) ({ cls := "TideKeep", name := "spill", desc := "(IIII)I" } : Jvm.MethodName)) ∈ lw_all := lw_g (lw_at lw_m5 179 rfl) rfl
theorem q1227 : (Jvm.Cond.code ({ cls := "TideKeep", name := "spill", desc := "(IIII)I" } : Jvm.MethodName) prog_1_method_32_code (9 : Nat) (Option.some Jvm.ClassFile.FieldType.int)) ∈ lw_all := lw_g (lw_at lw_m5 180 rfl) rfl
theorem q1228 : (Jvm.Cond.methodLink "TideKeep" (316 : Nat) ({ cls := "java/util/Arrays", name := "fill", desc := "([II)V" } : Jvm.MethodName)) ∈ lw_all := lw_g (lw_at lw_m5 181 rfl) rfl
theorem q1229 : (Jvm.Cond.methodLink "TideKeep" (319 : Nat) ({ cls := "TideKeep", name := "lowerBeside", desc := "(I)I" } : Jvm.MethodName)) ∈ lw_all := lw_g (lw_at lw_m5 182 rfl) rfl
theorem q1230 : (Jvm.Cond.privateMethod ({ cls := "TideKeep", name := "lowerBeside", desc := "(I)I" } : Jvm.MethodName)) ∈ lw_tbl := lw_at lw_m5 183 rfl
theorem q1231 : (Jvm.Cond.instanceMethod ({ cls := "TideKeep", name := "lowerBeside", desc := "(I)I" } : Jvm.MethodName)) ∈ lw_all := lw_g (lw_at lw_m5 184 rfl) rfl
theorem q1232 : (Jvm.Cond.code ({ cls := "TideKeep", name := "lowerBeside", desc := "(I)I" } : Jvm.MethodName) prog_1_method_31_code (2 : Nat) (Option.some Jvm.ClassFile.FieldType.int)) ∈ lw_all := lw_g (lw_at lw_m5 185 rfl) rfl
theorem q1234 : (Jvm.Cond.instanceMethod ({ cls := "TideKeep", name := "trial", desc := "(IIII)I" } : Jvm.MethodName)) ∈ lw_all := lw_g (lw_at lw_m5 187 rfl) rfl
theorem q1235 : (Jvm.Cond.selects "TideKeep" ({ cls := "TideKeep", name := "trial", desc := "(IIII)I" } : Jvm.MethodName) ({ cls := "TideKeep", name := "trial", desc := "(IIII)I" } : Jvm.MethodName)) ∈ lw_all := lw_g (lw_at lw_m5 188 rfl) rfl
theorem q1236 : (Jvm.Cond.code ({ cls := "TideKeep", name := "trial", desc := "(IIII)I" } : Jvm.MethodName) prog_1_method_33_code (5 : Nat) (Option.some Jvm.ClassFile.FieldType.int)) ∈ lw_all := lw_g (lw_at lw_m5 189 rfl) rfl
theorem q1238 : (Jvm.Cond.instanceMethod ({ cls := "TideKeep", name := "right", desc := "(III)I" } : Jvm.MethodName)) ∈ lw_all := lw_g (lw_at lw_m5 191 rfl) rfl
theorem q1239 : (Jvm.Cond.selects "TideKeep" ({ cls := "TideKeep", name := "right", desc := "(III)I" } : Jvm.MethodName) ({ cls := "TideKeep", name := "right", desc := "(III)I" } : Jvm.MethodName)) ∈ lw_all := lw_g (lw_at lw_m5 192 rfl) rfl
theorem q1240 : (Jvm.Cond.code ({ cls := "TideKeep", name := "right", desc := "(III)I" } : Jvm.MethodName) prog_1_method_34_code (6 : Nat) (Option.some Jvm.ClassFile.FieldType.int)) ∈ lw_all := lw_g (lw_at lw_m5 193 rfl) rfl
theorem q1242 : (Jvm.Cond.instanceMethod ({ cls := "TideKeep", name := "humps", desc := "(II)I" } : Jvm.MethodName)) ∈ lw_all := lw_g (lw_at lw_m5 195 rfl) rfl
theorem q1243 : (Jvm.Cond.selects "TideKeep" ({ cls := "TideKeep", name := "humps", desc := "(II)I" } : Jvm.MethodName) ({ cls := "TideKeep", name := "humps", desc := "(II)I" } : Jvm.MethodName)) ∈ lw_all := lw_g (lw_at lw_m5 196 rfl) rfl
theorem q1244 : (Jvm.Cond.code ({ cls := "TideKeep", name := "humps", desc := "(II)I" } : Jvm.MethodName) prog_1_method_40_code (6 : Nat) (Option.some Jvm.ClassFile.FieldType.int)) ∈ lw_all := lw_g (lw_at lw_m5 197 rfl) rfl
theorem q1245 : (Jvm.Cond.methodLink "TideKeep" (350 : Nat) ({ cls := "TideKeep", name := "findHumps", desc := "(I)V" } : Jvm.MethodName)) ∈ lw_all := lw_g (lw_at lw_m5 198 rfl) rfl
theorem q1246 : (Jvm.Cond.privateMethod ({ cls := "TideKeep", name := "findHumps", desc := "(I)V" } : Jvm.MethodName)) ∈ lw_tbl := lw_at lw_m5 199 rfl
theorem q1247 : (Jvm.Cond.instanceMethod ({ cls := "TideKeep", name := "findHumps", desc := "(I)V" } : Jvm.MethodName)) ∈ lw_all := lw_g (lw_at lw_m5 200 rfl) rfl
theorem q1248 : (Jvm.Cond.code ({ cls := "TideKeep", name := "findHumps", desc := "(I)V" } : Jvm.MethodName) prog_1_method_39_code (3 : Nat) (Option.none : Option Jvm.ClassFile.FieldType)) ∈ lw_all := lw_g (lw_at lw_m5 201 rfl) rfl
theorem q1249 : (Jvm.Cond.methodLink "TideKeep" (347 : Nat) ({ cls := "TideKeep", name := "fitsHump", desc := "(II)Z" } : Jvm.MethodName)) ∈ lw_all := lw_g (lw_at lw_m5 202 rfl) rfl
theorem q1250 : (Jvm.Cond.privateMethod ({ cls := "TideKeep", name := "fitsHump", desc := "(II)Z" } : Jvm.MethodName)) ∈ lw_tbl := lw_at lw_m5 203 rfl
theorem q1251 : (Jvm.Cond.instanceMethod ({ cls := "TideKeep", name := "fitsHump", desc := "(II)Z" } : Jvm.MethodName)) ∈ lw_all := lw_g (lw_at lw_m5 204 rfl) rfl
theorem q1252 : (Jvm.Cond.code ({ cls := "TideKeep", name := "fitsHump", desc := "(II)Z" } : Jvm.MethodName) prog_1_method_38_code (6 : Nat) (Option.some Jvm.ClassFile.FieldType.boolean)) ∈ lw_all := lw_g (lw_at lw_m5 205 rfl) rfl
theorem q1253 : (Jvm.Cond.methodLink "TideKeep" (341 : Nat) ({ cls := "TideKeep", name := "stands", desc := "(III)Z" } : Jvm.MethodName)) ∈ lw_all := lw_g (lw_at lw_m5 206 rfl) rfl
theorem q1254 : (Jvm.Cond.static ({ cls := "TideKeep", name := "stands", desc := "(III)Z" } : Jvm.MethodName)) ∈ lw_all := lw_g (lw_at lw_m5 207 rfl) rfl
theorem q1255 : (Jvm.Cond.code ({ cls := "TideKeep", name := "stands", desc := "(III)Z" } : Jvm.MethodName) prog_1_method_37_code (3 : Nat) (Option.some Jvm.ClassFile.FieldType.boolean)) ∈ lw_all := lw_g (lw_at lw_m5 208 rfl) rfl
theorem q1256 : (Jvm.Cond.methodLink "TideKeep" (331 : Nat) ({ cls := "TideKeep", name := "bestOf", desc := "(I)I" } : Jvm.MethodName)) ∈ lw_all := lw_g (lw_at lw_m5 209 rfl) rfl
theorem q1257 : (Jvm.Cond.static ({ cls := "TideKeep", name := "bestOf", desc := "(I)I" } : Jvm.MethodName)) ∈ lw_all := lw_g (lw_at lw_m5 210 rfl) rfl
theorem q1258 : (Jvm.Cond.code ({ cls := "TideKeep", name := "bestOf", desc := "(I)I" } : Jvm.MethodName) prog_1_method_35_code (1 : Nat) (Option.some Jvm.ClassFile.FieldType.int)) ∈ lw_all := lw_g (lw_at lw_m5 211 rfl) rfl
theorem q1259 : (Jvm.Cond.methodLink "TideKeep" (334 : Nat) ({ cls := "TideKeep", name := "topOf", desc := "(I)I" } : Jvm.MethodName)) ∈ lw_all := lw_g (lw_at lw_m5 212 rfl) rfl
theorem q1260 : (Jvm.Cond.static ({ cls := "TideKeep", name := "topOf", desc := "(I)I" } : Jvm.MethodName)) ∈ lw_all := lw_g (lw_at lw_m5 213 rfl) rfl
theorem q1261 : (Jvm.Cond.code ({ cls := "TideKeep", name := "topOf", desc := "(I)I" } : Jvm.MethodName) prog_1_method_36_code (1 : Nat) (Option.some Jvm.ClassFile.FieldType.int)) ∈ lw_all := lw_g (lw_at lw_m5 214 rfl) rfl
theorem q1262 : (Jvm.Cond.methodLink "TideKeep" (337 : Nat) ({ cls := "TideKeep$Beach", name := "strength", desc := "(IIII)I" } : Jvm.MethodName)) ∈ lw_all := lw_g (lw_at lw_m5 215 rfl) rfl
theorem q1264 : (Jvm.Cond.instanceMethod ({ cls := "TideKeep", name := "next", desc := "()I" } : Jvm.MethodName)) ∈ lw_all := lw_g (lw_at lw_m5 217 rfl) rfl
theorem q1265 : (Jvm.Cond.selects "TideKeep" ({ cls := "TideKeep", name := "next", desc := "()I" } : Jvm.MethodName) ({ cls := "TideKeep", name := "next", desc := "()I" } : Jvm.MethodName)) ∈ lw_all := lw_g (lw_at lw_m5 218 rfl) rfl
theorem q1266 : (Jvm.Cond.code ({ cls := "TideKeep", name := "next", desc := "()I" } : Jvm.MethodName) prog_1_method_41_code (7 : Nat) (Option.some Jvm.ClassFile.FieldType.int)) ∈ lw_all := lw_g (lw_at lw_m5 219 rfl) rfl
theorem q1267 : (Jvm.Cond.methodLink "TideKeep" (353 : Nat) ({ cls := "java/lang/Math", name := "max", desc := "(II)I" } : Jvm.MethodName)) ∈ lw_all := lw_g (lw_at lw_m5 220 rfl) rfl
theorem q1269 : (Jvm.Cond.instanceMethod ({ cls := "TideKeep", name := "last", desc := "(IIII)I" } : Jvm.MethodName)) ∈ lw_all := lw_g (lw_at lw_m5 222 rfl) rfl
theorem q1270 : (Jvm.Cond.selects "TideKeep" ({ cls := "TideKeep", name := "last", desc := "(IIII)I" } : Jvm.MethodName) ({ cls := "TideKeep", name := "last", desc := "(IIII)I" } : Jvm.MethodName)) ∈ lw_all := lw_g (lw_at lw_m5 223 rfl) rfl
theorem q1271 : (Jvm.Cond.code ({ cls := "TideKeep", name := "last", desc := "(IIII)I" } : Jvm.MethodName) prog_1_method_46_code (5 : Nat) (Option.some Jvm.ClassFile.FieldType.int)) ∈ lw_all := lw_g (lw_at lw_m5 224 rfl) rfl
theorem q1272 : (Jvm.Cond.methodLink "TideKeep" (365 : Nat) ({ cls := "TideKeep", name := "isTrial", desc := "(II)Z" } : Jvm.MethodName)) ∈ lw_all := lw_g (lw_at lw_m5 225 rfl) rfl
theorem q1273 : (Jvm.Cond.static ({ cls := "TideKeep", name := "isTrial", desc := "(II)Z" } : Jvm.MethodName)) ∈ lw_all := lw_g (lw_at lw_m5 226 rfl) rfl
theorem q1274 : (Jvm.Cond.code ({ cls := "TideKeep", name := "isTrial", desc := "(II)Z" } : Jvm.MethodName) prog_1_method_42_code (2 : Nat) (Option.some Jvm.ClassFile.FieldType.boolean)) ∈ lw_all := lw_g (lw_at lw_m5 227 rfl) rfl
theorem q1275 : (Jvm.Cond.methodLink "TideKeep" (368 : Nat) ({ cls := "TideKeep", name := "lastBy", desc := "(IIII)I" } : Jvm.MethodName)) ∈ lw_all := lw_g (lw_at lw_m5 228 rfl) rfl
theorem q1276 : (Jvm.Cond.privateMethod ({ cls := "TideKeep", name := "lastBy", desc := "(IIII)I" } : Jvm.MethodName)) ∈ lw_tbl := lw_at lw_m5 229 rfl
theorem q1277 : (Jvm.Cond.instanceMethod ({ cls := "TideKeep", name := "lastBy", desc := "(IIII)I" } : Jvm.MethodName)) ∈ lw_all := lw_g (lw_at lw_m5 230 rfl) rfl
theorem q1278 : (Jvm.Cond.code ({ cls := "TideKeep", name := "lastBy", desc := "(IIII)I" } : Jvm.MethodName) prog_1_method_45_code (6 : Nat) (Option.some Jvm.ClassFile.FieldType.int)) ∈ lw_all := lw_g (lw_at lw_m5 231 rfl) rfl
theorem q1279 : (Jvm.Cond.methodLink "TideKeep" (358 : Nat) ({ cls := "TideKeep", name := "beginTrial", desc := "(II)V" } : Jvm.MethodName)) ∈ lw_all := lw_g (lw_at lw_m5 232 rfl) rfl
theorem q1280 : (Jvm.Cond.privateMethod ({ cls := "TideKeep", name := "beginTrial", desc := "(II)V" } : Jvm.MethodName)) ∈ lw_tbl := lw_at lw_m5 233 rfl
theorem q1281 : (Jvm.Cond.instanceMethod ({ cls := "TideKeep", name := "beginTrial", desc := "(II)V" } : Jvm.MethodName)) ∈ lw_all := lw_g (lw_at lw_m5 234 rfl) rfl
theorem q1282 : (Jvm.Cond.code ({ cls := "TideKeep", name := "beginTrial", desc := "(II)V" } : Jvm.MethodName) prog_1_method_43_code (3 : Nat) (Option.none : Option Jvm.ClassFile.FieldType)) ∈ lw_all := lw_g (lw_at lw_m5 235 rfl) rfl
theorem q1283 : (Jvm.Cond.methodLink "TideKeep" (362 : Nat) ({ cls := "TideKeep", name := "lastOf", desc := "(II)I" } : Jvm.MethodName)) ∈ lw_all := lw_g (lw_at lw_m5 236 rfl) rfl
theorem q1284 : (Jvm.Cond.privateMethod ({ cls := "TideKeep", name := "lastOf", desc := "(II)I" } : Jvm.MethodName)) ∈ lw_tbl := lw_at lw_m5 237 rfl
theorem q1285 : (Jvm.Cond.instanceMethod ({ cls := "TideKeep", name := "lastOf", desc := "(II)I" } : Jvm.MethodName)) ∈ lw_all := lw_g (lw_at lw_m5 238 rfl) rfl
theorem q1286 : (Jvm.Cond.code ({ cls := "TideKeep", name := "lastOf", desc := "(II)I" } : Jvm.MethodName) prog_1_method_44_code (3 : Nat) (Option.some Jvm.ClassFile.FieldType.int)) ∈ lw_all := lw_g (lw_at lw_m5 239 rfl) rfl
theorem q1288 : (Jvm.Cond.instanceMethod ({ cls := "TideKeep", name := "pail", desc := "(III)I" } : Jvm.MethodName)) ∈ lw_all := lw_g (lw_at lw_m6 1 rfl) rfl
theorem q1289 : (Jvm.Cond.selects "TideKeep" ({ cls := "TideKeep", name := "pail", desc := "(III)I" } : Jvm.MethodName) ({ cls := "TideKeep", name := "pail", desc := "(III)I" } : Jvm.MethodName)) ∈ lw_all := lw_g (lw_at lw_m6 2 rfl) rfl
theorem q1290 : (Jvm.Cond.code ({ cls := "TideKeep", name := "pail", desc := "(III)I" } : Jvm.MethodName) prog_1_method_50_code (4 : Nat) (Option.some Jvm.ClassFile.FieldType.int)) ∈ lw_all := lw_g (lw_at lw_m6 3 rfl) rfl
theorem q1291 : (Jvm.Cond.methodLink "TideKeep" (385 : Nat) ({ cls := "TideKeep", name := "bestRow", desc := "(IIII)I" } : Jvm.MethodName)) ∈ lw_all := lw_g (lw_at lw_m6 4 rfl) rfl
theorem q1292 : (Jvm.Cond.privateMethod ({ cls := "TideKeep", name := "bestRow", desc := "(IIII)I" } : Jvm.MethodName)) ∈ lw_tbl := lw_at lw_m6 5 rfl
theorem q1293 : (Jvm.Cond.instanceMethod ({ cls := "TideKeep", name := "bestRow", desc := "(IIII)I" } : Jvm.MethodName)) ∈ lw_all := lw_g (lw_at lw_m6 6 rfl) rfl
theorem q1294 : (Jvm.Cond.code ({ cls := "TideKeep", name := "bestRow", desc := "(IIII)I" } : Jvm.MethodName) prog_1_method_49_code (9 : Nat) (Option.some Jvm.ClassFile.FieldType.int)) ∈ lw_all := lw_g (lw_at lw_m6 7 rfl) rfl
theorem q1295 : (Jvm.Cond.methodLink "TideKeep" (381 : Nat) ({ cls := "TideKeep", name := "lastByRow", desc := "(IIIII)I" } : Jvm.MethodName)) ∈ lw_all := lw_g (lw_at lw_m6 8 rfl) rfl
theorem q1296 : (Jvm.Cond.privateMethod ({ cls := "TideKeep", name := "lastByRow", desc := "(IIIII)I" } : Jvm.MethodName)) ∈ lw_tbl := lw_at lw_m6 9 rfl
theorem q1297 : (Jvm.Cond.instanceMethod ({ cls := "TideKeep", name := "lastByRow", desc := "(IIIII)I" } : Jvm.MethodName)) ∈ lw_all := lw_g (lw_at lw_m6 10 rfl) rfl
theorem q1298 : (Jvm.Cond.code ({ cls := "TideKeep", name := "lastByRow", desc := "(IIIII)I" } : Jvm.MethodName) prog_1_method_48_code (7 : Nat) (Option.some Jvm.ClassFile.FieldType.int)) ∈ lw_all := lw_g (lw_at lw_m6 11 rfl) rfl
theorem q1299 : (Jvm.Cond.methodLink "TideKeep" (378 : Nat) ({ cls := "TideKeep", name := "workFor", desc := "(II)V" } : Jvm.MethodName)) ∈ lw_all := lw_g (lw_at lw_m6 12 rfl) rfl
theorem q1300 : (Jvm.Cond.privateMethod ({ cls := "TideKeep", name := "workFor", desc := "(II)V" } : Jvm.MethodName)) ∈ lw_tbl := lw_at lw_m6 13 rfl
theorem q1301 : (Jvm.Cond.instanceMethod ({ cls := "TideKeep", name := "workFor", desc := "(II)V" } : Jvm.MethodName)) ∈ lw_all := lw_g (lw_at lw_m6 14 rfl) rfl
theorem q1302 : (Jvm.Cond.code ({ cls := "TideKeep", name := "workFor", desc := "(II)V" } : Jvm.MethodName) prog_1_method_47_code (5 : Nat) (Option.none : Option Jvm.ClassFile.FieldType)) ∈ lw_all := lw_g (lw_at lw_m6 15 rfl) rfl
theorem q1303 : (Jvm.Cond.methodLink "TideKeep" (371 : Nat) ({ cls := "TideKeep$Shore", name := "act", desc := "(III)V" } : Jvm.MethodName)) ∈ lw_all := lw_g (lw_at lw_m6 16 rfl) rfl
theorem q1304 : (Jvm.Cond.methodLink "TideKeep" (375 : Nat) ({ cls := "TideKeep$Beach", name := "cells", desc := "()I" } : Jvm.MethodName)) ∈ lw_all := lw_g (lw_at lw_m6 17 rfl) rfl
theorem q1306 : (Jvm.Cond.instanceMethod ({ cls := "TideKeep", name := "row", desc := "(IIII)I" } : Jvm.MethodName)) ∈ lw_all := lw_g (lw_at lw_m6 19 rfl) rfl
theorem q1307 : (Jvm.Cond.selects "TideKeep" ({ cls := "TideKeep", name := "row", desc := "(IIII)I" } : Jvm.MethodName) ({ cls := "TideKeep", name := "row", desc := "(IIII)I" } : Jvm.MethodName)) ∈ lw_all := lw_g (lw_at lw_m6 20 rfl) rfl
theorem q1308 : (Jvm.Cond.code ({ cls := "TideKeep", name := "row", desc := "(IIII)I" } : Jvm.MethodName) prog_1_method_51_code (5 : Nat) (Option.some Jvm.ClassFile.FieldType.int)) ∈ lw_all := lw_g (lw_at lw_m6 21 rfl) rfl
theorem q1310 : (Jvm.Cond.instanceMethod ({ cls := "TideKeep", name := "again", desc := "(III)I" } : Jvm.MethodName)) ∈ lw_all := lw_g (lw_at lw_m6 23 rfl) rfl
theorem q1311 : (Jvm.Cond.selects "TideKeep" ({ cls := "TideKeep", name := "again", desc := "(III)I" } : Jvm.MethodName) ({ cls := "TideKeep", name := "again", desc := "(III)I" } : Jvm.MethodName)) ∈ lw_all := lw_g (lw_at lw_m6 24 rfl) rfl
theorem q1312 : (Jvm.Cond.code ({ cls := "TideKeep", name := "again", desc := "(III)I" } : Jvm.MethodName) prog_1_method_52_code (8 : Nat) (Option.some Jvm.ClassFile.FieldType.int)) ∈ lw_all := lw_g (lw_at lw_m6 25 rfl) rfl
theorem q1314 : (Jvm.Cond.instanceMethod ({ cls := "TideKeep", name := "stand", desc := "(III)I" } : Jvm.MethodName)) ∈ lw_all := lw_g (lw_at lw_m6 27 rfl) rfl
theorem q1315 : (Jvm.Cond.selects "TideKeep" ({ cls := "TideKeep", name := "stand", desc := "(III)I" } : Jvm.MethodName) ({ cls := "TideKeep", name := "stand", desc := "(III)I" } : Jvm.MethodName)) ∈ lw_all := lw_g (lw_at lw_m6 28 rfl) rfl
theorem q1316 : (Jvm.Cond.code ({ cls := "TideKeep", name := "stand", desc := "(III)I" } : Jvm.MethodName) prog_1_method_55_code (9 : Nat) (Option.some Jvm.ClassFile.FieldType.int)) ∈ lw_all := lw_g (lw_at lw_m6 29 rfl) rfl
theorem q1317 : (Jvm.Cond.methodLink "TideKeep" (398 : Nat) ({ cls := "TideKeep", name := "areSeeds", desc := "(I)Z" } : Jvm.MethodName)) ∈ lw_all := lw_g (lw_at lw_m6 30 rfl) rfl
theorem q1318 : (Jvm.Cond.static ({ cls := "TideKeep", name := "areSeeds", desc := "(I)Z" } : Jvm.MethodName)) ∈ lw_all := lw_g (lw_at lw_m6 31 rfl) rfl
theorem q1319 : (Jvm.Cond.code ({ cls := "TideKeep", name := "areSeeds", desc := "(I)Z" } : Jvm.MethodName) prog_1_method_54_code (1 : Nat) (Option.some Jvm.ClassFile.FieldType.boolean)) ∈ lw_all := lw_g (lw_at lw_m6 32 rfl) rfl
theorem q1320 : (Jvm.Cond.methodLink "TideKeep" (401 : Nat) ({ cls := "TideKeep", name := "towerLast", desc := "(IIII)I" } : Jvm.MethodName)) ∈ lw_all := lw_g (lw_at lw_m6 33 rfl) rfl
theorem q1321 : (Jvm.Cond.privateMethod ({ cls := "TideKeep", name := "towerLast", desc := "(IIII)I" } : Jvm.MethodName)) ∈ lw_tbl := lw_at lw_m6 34 rfl
theorem q1322 : (Jvm.Cond.instanceMethod ({ cls := "TideKeep", name := "towerLast", desc := "(IIII)I" } : Jvm.MethodName)) ∈ lw_all := lw_g (lw_at lw_m6 35 rfl) rfl
theorem q1323 : (Jvm.Cond.code ({ cls := "TideKeep", name := "towerLast", desc := "(IIII)I" } : Jvm.MethodName) prog_1_method_53_code (7 : Nat) (Option.some Jvm.ClassFile.FieldType.int)) ∈ lw_all := lw_g (lw_at lw_m6 36 rfl) rfl
theorem q1324 : (Jvm.Cond.fieldLink "TideKeep" (388 : Nat) "TideKeep$Told" "FALL" "LTideKeep$Told;") ∈ lw_all := lw_g (lw_at lw_m6 37 rfl) rfl
theorem q1325 : (Jvm.Cond.methodLink "TideKeep" (394 : Nat) ({ cls := "TideKeep$Beach", name := "of", desc := "(LTideKeep$Told;)I" } : Jvm.MethodName)) ∈ lw_all := lw_g (lw_at lw_m6 38 rfl) rfl
theorem q1327 : (Jvm.Cond.instanceMethod ({ cls := "TideKeep", name := "outlasts", desc := "(IIIIZ)I" } : Jvm.MethodName)) ∈ lw_all := lw_g (lw_at lw_m6 40 rfl) rfl
theorem q1328 : (Jvm.Cond.selects "TideKeep" ({ cls := "TideKeep", name := "outlasts", desc := "(IIIIZ)I" } : Jvm.MethodName) ({ cls := "TideKeep", name := "outlasts", desc := "(IIIIZ)I" } : Jvm.MethodName)) ∈ lw_all := lw_g (lw_at lw_m6 41 rfl) rfl
theorem q1329 : (Jvm.Cond.code ({ cls := "TideKeep", name := "outlasts", desc := "(IIIIZ)I" } : Jvm.MethodName) prog_1_method_57_code (8 : Nat) (Option.some Jvm.ClassFile.FieldType.int)) ∈ lw_all := lw_g (lw_at lw_m6 42 rfl) rfl
theorem q1330 : (Jvm.Cond.methodLink "TideKeep" (404 : Nat) ({ cls := "TideKeep", name := "common", desc := "(II)I" } : Jvm.MethodName)) ∈ lw_all := lw_g (lw_at lw_m6 43 rfl) rfl
theorem q1331 : (Jvm.Cond.static ({ cls := "TideKeep", name := "common", desc := "(II)I" } : Jvm.MethodName)) ∈ lw_all := lw_g (lw_at lw_m6 44 rfl) rfl
theorem q1332 : (Jvm.Cond.code ({ cls := "TideKeep", name := "common", desc := "(II)I" } : Jvm.MethodName) prog_1_method_56_code (2 : Nat) (Option.some Jvm.ClassFile.FieldType.int)) ∈ lw_all := lw_g (lw_at lw_m6 45 rfl) rfl
theorem q1334 : (Jvm.Cond.instanceMethod ({ cls := "TideKeep", name := "contest", desc := "(III)I" } : Jvm.MethodName)) ∈ lw_all := lw_g (lw_at lw_m6 47 rfl) rfl
theorem q1335 : (Jvm.Cond.selects "TideKeep" ({ cls := "TideKeep", name := "contest", desc := "(III)I" } : Jvm.MethodName) ({ cls := "TideKeep", name := "contest", desc := "(III)I" } : Jvm.MethodName)) ∈ lw_all := lw_g (lw_at lw_m6 48 rfl) rfl
theorem q1336 : (Jvm.Cond.code ({ cls := "TideKeep", name := "contest", desc := "(III)I" } : Jvm.MethodName) prog_1_method_58_code (10 : Nat) (Option.some Jvm.ClassFile.FieldType.int)) ∈ lw_all := lw_g (lw_at lw_m6 49 rfl) rfl
theorem q1338 : (Jvm.Cond.instanceMethod ({ cls := "TideKeep", name := "which", desc := "()I" } : Jvm.MethodName)) ∈ lw_all := lw_g (lw_at lw_m6 51 rfl) rfl
theorem q1339 : (Jvm.Cond.selects "TideKeep" ({ cls := "TideKeep", name := "which", desc := "()I" } : Jvm.MethodName) ({ cls := "TideKeep", name := "which", desc := "()I" } : Jvm.MethodName)) ∈ lw_all := lw_g (lw_at lw_m6 52 rfl) rfl
theorem q1340 : (Jvm.Cond.code ({ cls := "TideKeep", name := "which", desc := "()I" } : Jvm.MethodName) prog_1_method_59_code (6 : Nat) (Option.some Jvm.ClassFile.FieldType.int)) ∈ lw_all := lw_g (lw_at lw_m6 53 rfl) rfl
theorem q1341 : (Jvm.Cond.methodLink "TideKeep" (407 : Nat) ({ cls := "TideKeep$Shore", name := "wave", desc := "(II)V" } : Jvm.MethodName)) ∈ lw_all := lw_g (lw_at lw_m6 54 rfl) rfl
theorem q1342 : (Jvm.Cond.methodLink "TideKeep" (410 : Nat) ({ cls := "TideKeep$Shore", name := "slides", desc := "()V" } : Jvm.MethodName)) ∈ lw_all := lw_g (lw_at lw_m6 55 rfl) rfl
theorem q1344 : (Jvm.Cond.instanceMethod ({ cls := "TideKeep", name := "join", desc := "(IIIIII)I" } : Jvm.MethodName)) ∈ lw_all := lw_g (lw_at lw_m6 57 rfl) rfl
theorem q1345 : (Jvm.Cond.selects "TideKeep" ({ cls := "TideKeep", name := "join", desc := "(IIIIII)I" } : Jvm.MethodName) ({ cls := "TideKeep", name := "join", desc := "(IIIIII)I" } : Jvm.MethodName)) ∈ lw_all := lw_g (lw_at lw_m6 58 rfl) rfl
theorem q1346 : (Jvm.Cond.code ({ cls := "TideKeep", name := "join", desc := "(IIIIII)I" } : Jvm.MethodName) prog_1_method_62_code (10 : Nat) (Option.some Jvm.ClassFile.FieldType.int)) ∈ lw_all := lw_g (lw_at lw_m6 59 rfl) rfl
theorem q1347 : (Jvm.Cond.methodLink "TideKeep" (413 : Nat) ({ cls := "TideKeep", name := "units", desc := "(II)I" } : Jvm.MethodName)) ∈ lw_all := lw_g (lw_at lw_m6 60 rfl) rfl
theorem q1348 : (Jvm.Cond.static ({ cls := "TideKeep", name := "units", desc := "(II)I" } : Jvm.MethodName)) ∈ lw_all := lw_g (lw_at lw_m6 61 rfl) rfl
theorem q1349 : (Jvm.Cond.code ({ cls := "TideKeep", name := "units", desc := "(II)I" } : Jvm.MethodName) prog_1_method_60_code (4 : Nat) (Option.some Jvm.ClassFile.FieldType.int)) ∈ lw_all := lw_g (lw_at lw_m6 62 rfl) rfl
theorem q1350 : (Jvm.Cond.methodLink "TideKeep" (416 : Nat) ({ cls := "TideKeep", name := "doneAt", desc := "(IIIII)I" } : Jvm.MethodName)) ∈ lw_all := lw_g (lw_at lw_m6 63 rfl) rfl
theorem q1351 : (Jvm.Cond.static ({ cls := "TideKeep", name := "doneAt", desc := "(IIIII)I" } : Jvm.MethodName)) ∈ lw_all := lw_g (lw_at lw_m6 64 rfl) rfl
theorem q1352 : (Jvm.Cond.code ({ cls := "TideKeep", name := "doneAt", desc := "(IIIII)I" } : Jvm.MethodName) prog_1_method_61_code (7 : Nat) (Option.some Jvm.ClassFile.FieldType.int)) ∈ lw_all := lw_g (lw_at lw_m6 65 rfl) rfl
theorem q1354 : (Jvm.Cond.instanceMethod ({ cls := "TideKeep", name := "count", desc := "(I)I" } : Jvm.MethodName)) ∈ lw_all := lw_g (lw_at lw_m6 67 rfl) rfl
theorem q1355 : (Jvm.Cond.selects "TideKeep" ({ cls := "TideKeep", name := "count", desc := "(I)I" } : Jvm.MethodName) ({ cls := "TideKeep", name := "count", desc := "(I)I" } : Jvm.MethodName)) ∈ lw_all := lw_g (lw_at lw_m6 68 rfl) rfl
theorem q1356 : (Jvm.Cond.code ({ cls := "TideKeep", name := "count", desc := "(I)I" } : Jvm.MethodName) prog_1_method_63_code (2 : Nat) (Option.some Jvm.ClassFile.FieldType.int)) ∈ lw_all := lw_g (lw_at lw_m6 69 rfl) rfl
theorem q2007 : (Jvm.Cond.castable "TideKeep" "java/lang/Object") ∈ lw_tbl := lw_at lw_m9 0 rfl
theorem in_X0 : ∀ w ∈ wsX00, w ∈ lw_all := lw_in wsX00 [480, 482, 484, 486, 488, 490, 492, 494, 496, 498, 500, 502, 504, 506, 508, 510, 512, 514, 516, 518, 520, 522, 524, 526, 528] (by decide +kernel) (by decide +kernel)

/-! TideKeep$Wrong -/
set_option maxRecDepth 100000
def RX1 : String := "TideKeep$Wrong"
def TX1 : u_T := fun k => match k with
  | 0 => ("java/lang/Throwable", "cause", "Ljava/lang/Throwable;", false)
  | 1 => ("java/lang/Throwable", "stackTrace", "[Ljava/lang/StackTraceElement;", false)
  | 2 => ("java/lang/Throwable", "suppressedExceptions", "Ljava/util/List;", false)
  | 3 => ("java/lang/Throwable", "detailMessage", "Ljava/lang/String;", false)
  | 4 => ("java/lang/Throwable", "backtrace", "Ljava/lang/Object;", false)
  | 5 => ("java/lang/Throwable", "depth", "I", false)
  | 6 => ("TideKeep$Wrong", "kind", "I", false)
  | _ => ("TideKeep$Wrong", "place", "I", false)
def tyX1 : Nat → FieldType := fun k => match k with
  | 0 => .object "java/lang/Throwable"
  | 1 => .array (.object "java/lang/StackTraceElement")
  | 2 => .object "java/util/List"
  | 3 => .object "java/lang/String"
  | 4 => .object "java/lang/Object"
  | 5 => .int
  | 6 => .int
  | _ => .int
abbrev wsX10 : List Cond := u_ws RX1 TX1 8
theorem nmX1 : ∀ a, a < 8 → ∀ b, b < 8 → a ≠ b → (TX1 a).2.1 ≠ (TX1 b).2.1 := by decide +kernel
theorem tyX1_ok : ∀ k, k < 8 → parseFieldDescriptor (TX1 k).2.2.1 = some (tyX1 k) := by decide +kernel
abbrev cX1_init : ByteArray := prog_14_method_1_code
def yX1_init : MethodName := ⟨RX1, "<init>", "()V"⟩
def dkwX1_init_0 : List UInt8 := [42, 1, 1, 3, 3, 183, 0, 1, 177]
abbrev dktX1_init_0 : List UInt8 := dkwX1_init_0 ++ []
theorem dksX1_init_0 : cX1_init.data.toList.drop 0 = dktX1_init_0 := by decide +kernel
theorem dX1_init_0 : decode cX1_init 0 = .ok (.aload_n 0, 1) := dk_42 (dk_at dksX1_init_0 0 rfl rfl)
theorem dX1_init_1 : decode cX1_init 1 = .ok (.aconst_null, 1) := dk_1 (dk_at dksX1_init_0 1 rfl rfl)
theorem dX1_init_2 : decode cX1_init 2 = .ok (.aconst_null, 1) := dk_1 (dk_at dksX1_init_0 2 rfl rfl)
theorem dX1_init_3 : decode cX1_init 3 = .ok (.iconst 0, 1) := dk_3 (dk_at dksX1_init_0 3 rfl rfl)
theorem dX1_init_4 : decode cX1_init 4 = .ok (.iconst 0, 1) := dk_3 (dk_at dksX1_init_0 4 rfl rfl)
theorem dX1_init_5 : decode cX1_init 5 = .ok (.invokespecial 1, 3) := dk_183 0 1 (dk_at dksX1_init_0 5 rfl rfl)
theorem dX1_init_8 : decode cX1_init 8 = .ok (.return_, 1) := dk_177 (dk_at dksX1_init_0 8 rfl rfl)
abbrev cX1_by : ByteArray := prog_14_method_2_code
def yX1_by : MethodName := ⟨RX1, "by", "(II)LTideKeep$Wrong;"⟩
def dkwX1_by_0 : List UInt8 := [42, 27, 181, 0, 7, 42, 28, 181, 0, 13, 42, 176]
abbrev dktX1_by_0 : List UInt8 := dkwX1_by_0 ++ []
theorem dksX1_by_0 : cX1_by.data.toList.drop 0 = dktX1_by_0 := by decide +kernel
theorem dX1_by_0 : decode cX1_by 0 = .ok (.aload_n 0, 1) := dk_42 (dk_at dksX1_by_0 0 rfl rfl)
theorem dX1_by_1 : decode cX1_by 1 = .ok (.iload_n 1, 1) := dk_27 (dk_at dksX1_by_0 1 rfl rfl)
theorem dX1_by_2 : decode cX1_by 2 = .ok (.putfield 7, 3) := dk_181 0 7 (dk_at dksX1_by_0 2 rfl rfl)
theorem dX1_by_5 : decode cX1_by 5 = .ok (.aload_n 0, 1) := dk_42 (dk_at dksX1_by_0 5 rfl rfl)
theorem dX1_by_6 : decode cX1_by 6 = .ok (.iload_n 2, 1) := dk_28 (dk_at dksX1_by_0 6 rfl rfl)
theorem dX1_by_7 : decode cX1_by 7 = .ok (.putfield 13, 3) := dk_181 0 13 (dk_at dksX1_by_0 7 rfl rfl)
theorem dX1_by_10 : decode cX1_by 10 = .ok (.aload_n 0, 1) := dk_42 (dk_at dksX1_by_0 10 rfl rfl)
theorem dX1_by_11 : decode cX1_by 11 = .ok (.areturn, 1) := dk_176 (dk_at dksX1_by_0 11 rfl rfl)
theorem q91 : (Jvm.Cond.initialized "TideKeep$Wrong") ∈ lw_all := lw_g (lw_at lw_m1 4 rfl) rfl
theorem q127 : (Jvm.Cond.instantiable "TideKeep$Wrong" (8 : Nat)) ∈ lw_all := lw_g (lw_at lw_m1 40 rfl) rfl
theorem q128 : (Jvm.Cond.castable "TideKeep$Wrong" "TideKeep$Wrong") ∈ lw_tbl := lw_at lw_m1 41 rfl
theorem q133 : (Jvm.Cond.selects "TideKeep$Wrong" ({ cls := "java/lang/Throwable", name := "fillInStackTrace", desc := "(I)Ljava/lang/Throwable;" } : Jvm.MethodName) ({ cls := "java/lang/Throwable", name := "fillInStackTrace", desc := "(I)Ljava/lang/Throwable;" } : Jvm.MethodName)) ∈ lw_all := lw_g (lw_at lw_m1 46 rfl) rfl
theorem q134 : (Jvm.Cond.selects "TideKeep$Wrong" ({ cls := "java/lang/Throwable", name := "fillInStackTrace", desc := "()Ljava/lang/Throwable;" } : Jvm.MethodName) ({ cls := "java/lang/Throwable", name := "fillInStackTrace", desc := "()Ljava/lang/Throwable;" } : Jvm.MethodName)) ∈ lw_all := lw_g (lw_at lw_m1 47 rfl) rfl
theorem q135 : (Jvm.Cond.lays "TideKeep$Wrong" "java/lang/Throwable" "cause" "Ljava/lang/Throwable;") ∈ lw_all := lw_g (lw_at lw_m1 48 rfl) rfl
theorem q137 : (Jvm.Cond.lays "TideKeep$Wrong" "java/lang/Throwable" "stackTrace" "[Ljava/lang/StackTraceElement;") ∈ lw_all := lw_g (lw_at lw_m1 50 rfl) rfl
theorem q139 : (Jvm.Cond.lays "TideKeep$Wrong" "java/lang/Throwable" "suppressedExceptions" "Ljava/util/List;") ∈ lw_all := lw_g (lw_at lw_m1 52 rfl) rfl
theorem q141 : (Jvm.Cond.lays "TideKeep$Wrong" "java/lang/Throwable" "detailMessage" "Ljava/lang/String;") ∈ lw_all := lw_g (lw_at lw_m1 54 rfl) rfl
theorem q143 : (Jvm.Cond.lays "TideKeep$Wrong" "java/lang/Throwable" "backtrace" "Ljava/lang/Object;") ∈ lw_all := lw_g (lw_at lw_m1 56 rfl) rfl
theorem q164 : (Jvm.Cond.instanceMethod ({ cls := "TideKeep$Wrong", name := "<init>", desc := "()V" } : Jvm.MethodName)) ∈ lw_all := lw_g (lw_at lw_m1 77 rfl) rfl
theorem q165 : (Jvm.Cond.code ({ cls := "TideKeep$Wrong", name := "<init>", desc := "()V" } : Jvm.MethodName) prog_14_method_1_code (1 : Nat) (Option.none : Option Jvm.ClassFile.FieldType)) ∈ lw_all := lw_g (lw_at lw_m1 78 rfl) rfl
theorem q166 : (Jvm.Cond.methodLink "TideKeep$Wrong" (1 : Nat) ({ cls := "java/lang/Exception", name := "<init>", desc := "(Ljava/lang/String;Ljava/lang/Throwable;ZZ)V" } : Jvm.MethodName)) ∈ lw_all := lw_g (lw_at lw_m1 79 rfl) rfl
theorem q172 : (Jvm.Cond.fieldLink "TideKeep$Wrong" (7 : Nat) "TideKeep$Wrong" "kind" "I") ∈ lw_all := lw_g (lw_at lw_m1 85 rfl) rfl
theorem q174 : (Jvm.Cond.fieldLink "TideKeep$Wrong" (13 : Nat) "TideKeep$Wrong" "place" "I") ∈ lw_all := lw_g (lw_at lw_m1 87 rfl) rfl
theorem q181 : (Jvm.Cond.lays "TideKeep$Wrong" "TideKeep$Wrong" "kind" "I") ∈ lw_all := lw_g (lw_at lw_m1 94 rfl) rfl
theorem q182 : (Jvm.Cond.soleField "TideKeep$Wrong" "kind") ∈ lw_all := lw_g (lw_at lw_m1 95 rfl) rfl
theorem q183 : (Jvm.Cond.lays "TideKeep$Wrong" "TideKeep$Wrong" "place" "I") ∈ lw_all := lw_g (lw_at lw_m1 96 rfl) rfl
theorem q184 : (Jvm.Cond.soleField "TideKeep$Wrong" "place") ∈ lw_all := lw_g (lw_at lw_m1 97 rfl) rfl
theorem q189 : (Jvm.Cond.lays "TideKeep$Wrong" "java/lang/Throwable" "depth" "I") ∈ lw_all := lw_g (lw_at lw_m1 102 rfl) rfl
theorem q192 : (Jvm.Cond.superclass "TideKeep$Wrong" "java/lang/Exception") ∈ lw_all := lw_g (lw_at lw_m1 105 rfl) rfl
theorem q715 : (Jvm.Cond.instanceMethod ({ cls := "TideKeep$Wrong", name := "by", desc := "(II)LTideKeep$Wrong;" } : Jvm.MethodName)) ∈ lw_all := lw_g (lw_at lw_m3 148 rfl) rfl
theorem q716 : (Jvm.Cond.selects "TideKeep$Wrong" ({ cls := "TideKeep$Wrong", name := "by", desc := "(II)LTideKeep$Wrong;" } : Jvm.MethodName) ({ cls := "TideKeep$Wrong", name := "by", desc := "(II)LTideKeep$Wrong;" } : Jvm.MethodName)) ∈ lw_all := lw_g (lw_at lw_m3 149 rfl) rfl
theorem q717 : (Jvm.Cond.code ({ cls := "TideKeep$Wrong", name := "by", desc := "(II)LTideKeep$Wrong;" } : Jvm.MethodName) prog_14_method_2_code (3 : Nat) (Option.some (Jvm.ClassFile.FieldType.object "TideKeep$Wrong"))) ∈ lw_all := lw_g (lw_at lw_m3 150 rfl) rfl
theorem q870 : (Jvm.Cond.selects "TideKeep$Wrong" ({ cls := "java/lang/Object", name := "getClass", desc := "()Ljava/lang/Class;" } : Jvm.MethodName) ({ cls := "java/lang/Object", name := "getClass", desc := "()Ljava/lang/Class;" } : Jvm.MethodName)) ∈ lw_all := lw_g (lw_at lw_m4 63 rfl) rfl
theorem q2008 : (Jvm.Cond.castable "TideKeep$Wrong" "java/lang/Object") ∈ lw_tbl := lw_at lw_m9 1 rfl
theorem in_X1 : ∀ w ∈ wsX10, w ∈ lw_all := lw_in wsX10 [135, 137, 139, 141, 143, 189, 181, 183] (by decide +kernel) (by decide +kernel)

/-! TideKeep$Act -/
set_option maxRecDepth 100000
def RX10 : String := "TideKeep$Act"
def TX10 : u_T := fun k => match k with
  | 0 => ("TideKeep$Act", "kind", "I", true)
  | 1 => ("TideKeep$Act", "cell", "I", true)
  | _ => ("TideKeep$Act", "to", "I", true)
def tyX10 : Nat → FieldType := fun k => match k with
  | 0 => .int
  | 1 => .int
  | _ => .int
abbrev wsX100 : List Cond := u_ws RX10 TX10 3
theorem nmX10 : ∀ a, a < 3 → ∀ b, b < 3 → a ≠ b → (TX10 a).2.1 ≠ (TX10 b).2.1 := by decide +kernel
theorem tyX10_ok : ∀ k, k < 3 → parseFieldDescriptor (TX10 k).2.2.1 = some (tyX10 k) := by decide +kernel
abbrev cX10_init : ByteArray := prog_2_method_1_code
def yX10_init : MethodName := ⟨RX10, "<init>", "(III)V"⟩
def dkwX10_init_0 : List UInt8 := [42, 183, 0, 1, 42, 27, 181, 0, 7, 42, 28, 181, 0, 13, 42, 29, 181, 0, 16, 177]
abbrev dktX10_init_0 : List UInt8 := dkwX10_init_0 ++ []
theorem dksX10_init_0 : cX10_init.data.toList.drop 0 = dktX10_init_0 := by decide +kernel
theorem dX10_init_0 : decode cX10_init 0 = .ok (.aload_n 0, 1) := dk_42 (dk_at dksX10_init_0 0 rfl rfl)
theorem dX10_init_1 : decode cX10_init 1 = .ok (.invokespecial 1, 3) := dk_183 0 1 (dk_at dksX10_init_0 1 rfl rfl)
theorem dX10_init_4 : decode cX10_init 4 = .ok (.aload_n 0, 1) := dk_42 (dk_at dksX10_init_0 4 rfl rfl)
theorem dX10_init_5 : decode cX10_init 5 = .ok (.iload_n 1, 1) := dk_27 (dk_at dksX10_init_0 5 rfl rfl)
theorem dX10_init_6 : decode cX10_init 6 = .ok (.putfield 7, 3) := dk_181 0 7 (dk_at dksX10_init_0 6 rfl rfl)
theorem dX10_init_9 : decode cX10_init 9 = .ok (.aload_n 0, 1) := dk_42 (dk_at dksX10_init_0 9 rfl rfl)
theorem dX10_init_10 : decode cX10_init 10 = .ok (.iload_n 2, 1) := dk_28 (dk_at dksX10_init_0 10 rfl rfl)
theorem dX10_init_11 : decode cX10_init 11 = .ok (.putfield 13, 3) := dk_181 0 13 (dk_at dksX10_init_0 11 rfl rfl)
theorem dX10_init_14 : decode cX10_init 14 = .ok (.aload_n 0, 1) := dk_42 (dk_at dksX10_init_0 14 rfl rfl)
theorem dX10_init_15 : decode cX10_init 15 = .ok (.iload_n 3, 1) := dk_29 (dk_at dksX10_init_0 15 rfl rfl)
theorem dX10_init_16 : decode cX10_init 16 = .ok (.putfield 16, 3) := dk_181 0 16 (dk_at dksX10_init_0 16 rfl rfl)
theorem dX10_init_19 : decode cX10_init 19 = .ok (.return_, 1) := dk_177 (dk_at dksX10_init_0 19 rfl rfl)
theorem q109 : (Jvm.Cond.initialized "TideKeep$Act") ∈ lw_all := lw_g (lw_at lw_m1 22 rfl) rfl
theorem q805 : (Jvm.Cond.instantiable "TideKeep$Act" (3 : Nat)) ∈ lw_all := lw_g (lw_at lw_m3 238 rfl) rfl
theorem q807 : (Jvm.Cond.instanceMethod ({ cls := "TideKeep$Act", name := "<init>", desc := "(III)V" } : Jvm.MethodName)) ∈ lw_all := lw_g (lw_at lw_m4 0 rfl) rfl
theorem q808 : (Jvm.Cond.code ({ cls := "TideKeep$Act", name := "<init>", desc := "(III)V" } : Jvm.MethodName) prog_2_method_1_code (4 : Nat) (Option.none : Option Jvm.ClassFile.FieldType)) ∈ lw_all := lw_g (lw_at lw_m4 1 rfl) rfl
theorem q809 : (Jvm.Cond.methodLink "TideKeep$Act" (1 : Nat) ({ cls := "java/lang/Object", name := "<init>", desc := "()V" } : Jvm.MethodName)) ∈ lw_all := lw_g (lw_at lw_m4 2 rfl) rfl
theorem q810 : (Jvm.Cond.fieldLink "TideKeep$Act" (7 : Nat) "TideKeep$Act" "kind" "I") ∈ lw_all := lw_g (lw_at lw_m4 3 rfl) rfl
theorem q813 : (Jvm.Cond.fieldLink "TideKeep$Act" (13 : Nat) "TideKeep$Act" "cell" "I") ∈ lw_all := lw_g (lw_at lw_m4 6 rfl) rfl
theorem q816 : (Jvm.Cond.fieldLink "TideKeep$Act" (16 : Nat) "TideKeep$Act" "to" "I") ∈ lw_all := lw_g (lw_at lw_m4 9 rfl) rfl
theorem q819 : (Jvm.Cond.laysFinal "TideKeep$Act" "TideKeep$Act" "kind" "I") ∈ lw_all := lw_g (lw_at lw_m4 12 rfl) rfl
theorem q820 : (Jvm.Cond.soleField "TideKeep$Act" "kind") ∈ lw_all := lw_g (lw_at lw_m4 13 rfl) rfl
theorem q821 : (Jvm.Cond.laysFinal "TideKeep$Act" "TideKeep$Act" "cell" "I") ∈ lw_all := lw_g (lw_at lw_m4 14 rfl) rfl
theorem q822 : (Jvm.Cond.soleField "TideKeep$Act" "cell") ∈ lw_all := lw_g (lw_at lw_m4 15 rfl) rfl
theorem q823 : (Jvm.Cond.laysFinal "TideKeep$Act" "TideKeep$Act" "to" "I") ∈ lw_all := lw_g (lw_at lw_m4 16 rfl) rfl
theorem q824 : (Jvm.Cond.soleField "TideKeep$Act" "to") ∈ lw_all := lw_g (lw_at lw_m4 17 rfl) rfl
theorem q825 : (Jvm.Cond.superclass "TideKeep$Act" "java/lang/Object") ∈ lw_all := lw_g (lw_at lw_m4 18 rfl) rfl
theorem q859 : (Jvm.Cond.selects "TideKeep$Act" ({ cls := "java/lang/Object", name := "getClass", desc := "()Ljava/lang/Class;" } : Jvm.MethodName) ({ cls := "java/lang/Object", name := "getClass", desc := "()Ljava/lang/Class;" } : Jvm.MethodName)) ∈ lw_all := lw_g (lw_at lw_m4 52 rfl) rfl
theorem q2018 : (Jvm.Cond.castable "TideKeep$Act" "java/lang/Object") ∈ lw_tbl := lw_at lw_m9 11 rfl
theorem in_X10 : ∀ w ∈ wsX100, w ∈ lw_all := lw_in wsX100 [819, 821, 823] (by decide +kernel) (by decide +kernel)

/-! TideKeep$Wave -/
set_option maxRecDepth 100000
def RX11 : String := "TideKeep$Wave"
def TX11 : u_T := fun k => match k with
  | 0 => ("TideKeep$Wave", "minute", "I", true)
  | 1 => ("TideKeep$Wave", "reach", "I", true)
  | _ => ("TideKeep$Wave", "level", "I", true)
def tyX11 : Nat → FieldType := fun k => match k with
  | 0 => .int
  | 1 => .int
  | _ => .int
abbrev wsX110 : List Cond := u_ws RX11 TX11 3
theorem nmX11 : ∀ a, a < 3 → ∀ b, b < 3 → a ≠ b → (TX11 a).2.1 ≠ (TX11 b).2.1 := by decide +kernel
theorem tyX11_ok : ∀ k, k < 3 → parseFieldDescriptor (TX11 k).2.2.1 = some (tyX11 k) := by decide +kernel
abbrev cX11_init : ByteArray := prog_13_method_1_code
def yX11_init : MethodName := ⟨RX11, "<init>", "(III)V"⟩
def dkwX11_init_0 : List UInt8 := [42, 183, 0, 1, 42, 27, 181, 0, 7, 42, 28, 181, 0, 13, 42, 29, 181, 0, 16, 177]
abbrev dktX11_init_0 : List UInt8 := dkwX11_init_0 ++ []
theorem dksX11_init_0 : cX11_init.data.toList.drop 0 = dktX11_init_0 := by decide +kernel
theorem dX11_init_0 : decode cX11_init 0 = .ok (.aload_n 0, 1) := dk_42 (dk_at dksX11_init_0 0 rfl rfl)
theorem dX11_init_1 : decode cX11_init 1 = .ok (.invokespecial 1, 3) := dk_183 0 1 (dk_at dksX11_init_0 1 rfl rfl)
theorem dX11_init_4 : decode cX11_init 4 = .ok (.aload_n 0, 1) := dk_42 (dk_at dksX11_init_0 4 rfl rfl)
theorem dX11_init_5 : decode cX11_init 5 = .ok (.iload_n 1, 1) := dk_27 (dk_at dksX11_init_0 5 rfl rfl)
theorem dX11_init_6 : decode cX11_init 6 = .ok (.putfield 7, 3) := dk_181 0 7 (dk_at dksX11_init_0 6 rfl rfl)
theorem dX11_init_9 : decode cX11_init 9 = .ok (.aload_n 0, 1) := dk_42 (dk_at dksX11_init_0 9 rfl rfl)
theorem dX11_init_10 : decode cX11_init 10 = .ok (.iload_n 2, 1) := dk_28 (dk_at dksX11_init_0 10 rfl rfl)
theorem dX11_init_11 : decode cX11_init 11 = .ok (.putfield 13, 3) := dk_181 0 13 (dk_at dksX11_init_0 11 rfl rfl)
theorem dX11_init_14 : decode cX11_init 14 = .ok (.aload_n 0, 1) := dk_42 (dk_at dksX11_init_0 14 rfl rfl)
theorem dX11_init_15 : decode cX11_init 15 = .ok (.iload_n 3, 1) := dk_29 (dk_at dksX11_init_0 15 rfl rfl)
theorem dX11_init_16 : decode cX11_init 16 = .ok (.putfield 16, 3) := dk_181 0 16 (dk_at dksX11_init_0 16 rfl rfl)
theorem dX11_init_19 : decode cX11_init 19 = .ok (.return_, 1) := dk_177 (dk_at dksX11_init_0 19 rfl rfl)
theorem q113 : (Jvm.Cond.initialized "TideKeep$Wave") ∈ lw_all := lw_g (lw_at lw_m1 26 rfl) rfl
theorem q869 : (Jvm.Cond.selects "TideKeep$Wave" ({ cls := "java/lang/Object", name := "getClass", desc := "()Ljava/lang/Class;" } : Jvm.MethodName) ({ cls := "java/lang/Object", name := "getClass", desc := "()Ljava/lang/Class;" } : Jvm.MethodName)) ∈ lw_all := lw_g (lw_at lw_m4 62 rfl) rfl
theorem q912 : (Jvm.Cond.instantiable "TideKeep$Wave" (3 : Nat)) ∈ lw_all := lw_g (lw_at lw_m4 105 rfl) rfl
theorem q914 : (Jvm.Cond.instanceMethod ({ cls := "TideKeep$Wave", name := "<init>", desc := "(III)V" } : Jvm.MethodName)) ∈ lw_all := lw_g (lw_at lw_m4 107 rfl) rfl
theorem q915 : (Jvm.Cond.code ({ cls := "TideKeep$Wave", name := "<init>", desc := "(III)V" } : Jvm.MethodName) prog_13_method_1_code (4 : Nat) (Option.none : Option Jvm.ClassFile.FieldType)) ∈ lw_all := lw_g (lw_at lw_m4 108 rfl) rfl
theorem q916 : (Jvm.Cond.methodLink "TideKeep$Wave" (1 : Nat) ({ cls := "java/lang/Object", name := "<init>", desc := "()V" } : Jvm.MethodName)) ∈ lw_all := lw_g (lw_at lw_m4 109 rfl) rfl
theorem q917 : (Jvm.Cond.fieldLink "TideKeep$Wave" (7 : Nat) "TideKeep$Wave" "minute" "I") ∈ lw_all := lw_g (lw_at lw_m4 110 rfl) rfl
theorem q920 : (Jvm.Cond.fieldLink "TideKeep$Wave" (13 : Nat) "TideKeep$Wave" "reach" "I") ∈ lw_all := lw_g (lw_at lw_m4 113 rfl) rfl
theorem q923 : (Jvm.Cond.fieldLink "TideKeep$Wave" (16 : Nat) "TideKeep$Wave" "level" "I") ∈ lw_all := lw_g (lw_at lw_m4 116 rfl) rfl
theorem q926 : (Jvm.Cond.laysFinal "TideKeep$Wave" "TideKeep$Wave" "minute" "I") ∈ lw_all := lw_g (lw_at lw_m4 119 rfl) rfl
theorem q927 : (Jvm.Cond.soleField "TideKeep$Wave" "minute") ∈ lw_all := lw_g (lw_at lw_m4 120 rfl) rfl
theorem q928 : (Jvm.Cond.laysFinal "TideKeep$Wave" "TideKeep$Wave" "reach" "I") ∈ lw_all := lw_g (lw_at lw_m4 121 rfl) rfl
theorem q929 : (Jvm.Cond.soleField "TideKeep$Wave" "reach") ∈ lw_all := lw_g (lw_at lw_m4 122 rfl) rfl
theorem q930 : (Jvm.Cond.laysFinal "TideKeep$Wave" "TideKeep$Wave" "level" "I") ∈ lw_all := lw_g (lw_at lw_m4 123 rfl) rfl
theorem q931 : (Jvm.Cond.soleField "TideKeep$Wave" "level") ∈ lw_all := lw_g (lw_at lw_m4 124 rfl) rfl
theorem q932 : (Jvm.Cond.superclass "TideKeep$Wave" "java/lang/Object") ∈ lw_all := lw_g (lw_at lw_m4 125 rfl) rfl
theorem q2019 : (Jvm.Cond.castable "TideKeep$Wave" "java/lang/Object") ∈ lw_tbl := lw_at lw_m9 12 rfl
theorem in_X11 : ∀ w ∈ wsX110, w ∈ lw_all := lw_in wsX110 [926, 928, 930] (by decide +kernel) (by decide +kernel)

/-! TideKeep$SeaReader -/
set_option maxRecDepth 100000
def RX12 : String := "TideKeep$SeaReader"
def TX12 : u_T := fun k => match k with
  | 0 => ("TideKeep$Reader", "size", "I", true)
  | 1 => ("TideKeep$Reader", "sort", "I", false)
  | 2 => ("TideKeep$Reader", "at", "I", false)
  | 3 => ("TideKeep$Reader", "to", "I", false)
  | 4 => ("TideKeep$Reader", "value", "I", false)
  | 5 => ("TideKeep$Reader", "told", "I", false)
  | 6 => ("TideKeep$Reader", "this$0", "LTideKeep;", true)
  | 7 => ("TideKeep$SeaReader", "made", "LTideKeep$Sea;", true)
  | _ => ("TideKeep$SeaReader", "this$0", "LTideKeep;", true)
def tyX12 : Nat → FieldType := fun k => match k with
  | 0 => .int
  | 1 => .int
  | 2 => .int
  | 3 => .int
  | 4 => .int
  | 5 => .int
  | 6 => .object "TideKeep"
  | 7 => .object "TideKeep$Sea"
  | _ => .object "TideKeep"
abbrev wsX120 : List Cond := u_ws RX12 TX12 9
-- two fields of one name: no nmX12
theorem tyX12_ok : ∀ k, k < 9 → parseFieldDescriptor (TX12 k).2.2.1 = some (tyX12 k) := by decide +kernel
abbrev cX12_clause : ByteArray := prog_10_method_3_code
def yX12_clause : MethodName := ⟨RX12, "clause", "()V"⟩
def dkwX12_clause_13 : List UInt8 := [16, 9, 182, 0, 54, 181, 0, 86, 177]
abbrev dktX12_clause_13 : List UInt8 := dkwX12_clause_13 ++ []
def dkwX12_clause_12 : List UInt8 := [42, 18, 84, 182, 0, 34, 4, 182, 0, 47, 42, 18, 84, 6, 182, 0, 69, 87, 42, 180, 0, 20, 42, 3]
abbrev dktX12_clause_12 : List UInt8 := dkwX12_clause_12 ++ dktX12_clause_13
def dkwX12_clause_11 : List UInt8 := [180, 0, 82, 4, 42, 42, 180, 0, 20, 180, 0, 82, 3, 46, 16, 99, 182, 0, 54, 79, 167, 0, 36, 42]
abbrev dktX12_clause_11 : List UInt8 := dkwX12_clause_11 ++ dktX12_clause_12
def dkwX12_clause_10 : List UInt8 := [153, 0, 46, 42, 180, 0, 20, 180, 0, 82, 3, 42, 3, 16, 99, 182, 0, 54, 79, 42, 180, 0, 20]
abbrev dktX12_clause_10 : List UInt8 := dkwX12_clause_10 ++ dktX12_clause_11
def dkwX12_clause_9 : List UInt8 := [180, 0, 20, 180, 0, 78, 3, 46, 16, 8, 182, 0, 54, 79, 167, 0, 89, 42, 18, 80, 5, 182, 0, 69]
abbrev dktX12_clause_9 : List UInt8 := dkwX12_clause_9 ++ dktX12_clause_10
def dkwX12_clause_8 : List UInt8 := [180, 0, 78, 3, 42, 4, 16, 8, 182, 0, 54, 79, 42, 180, 0, 20, 180, 0, 78, 4, 42, 42]
abbrev dktX12_clause_8 : List UInt8 := dkwX12_clause_8 ++ dktX12_clause_9
def dkwX12_clause_7 : List UInt8 := [3, 16, 100, 182, 0, 54, 79, 167, 0, 142, 42, 18, 76, 4, 182, 0, 69, 153, 0, 46, 42, 180, 0, 20]
abbrev dktX12_clause_7 : List UInt8 := dkwX12_clause_7 ++ dktX12_clause_8
def dkwX12_clause_6 : List UInt8 := [180, 0, 20, 180, 0, 73, 5, 42, 4, 16, 60, 182, 0, 54, 79, 42, 180, 0, 20, 180, 0, 73, 6, 42]
abbrev dktX12_clause_6 : List UInt8 := dkwX12_clause_6 ++ dktX12_clause_7
def dkwX12_clause_5 : List UInt8 := [180, 0, 73, 4, 42, 42, 180, 0, 20, 180, 0, 73, 3, 46, 17, 1, 103, 182, 0, 54, 79, 42]
abbrev dktX12_clause_5 : List UInt8 := dkwX12_clause_5 ++ dktX12_clause_6
def dkwX12_clause_4 : List UInt8 := [153, 0, 80, 42, 180, 0, 20, 180, 0, 73, 3, 42, 3, 17, 1, 103, 182, 0, 54, 79, 42, 180, 0, 20]
abbrev dktX12_clause_4 : List UInt8 := dkwX12_clause_4 ++ dktX12_clause_5
def dkwX12_clause_3 : List UInt8 := [16, 99, 182, 0, 54, 183, 0, 60, 182, 0, 63, 87, 167, 0, 229, 42, 18, 67, 3, 182, 0, 69]
abbrev dktX12_clause_3 : List UInt8 := dkwX12_clause_3 ++ dktX12_clause_4
def dkwX12_clause_2 : List UInt8 := [60, 42, 4, 16, 8, 182, 0, 54, 61, 42, 180, 0, 20, 180, 0, 38, 187, 0, 58, 89, 27, 28, 42, 3]
abbrev dktX12_clause_2 : List UInt8 := dkwX12_clause_2 ++ dktX12_clause_3
def dkwX12_clause_1 : List UInt8 := [162, 0, 7, 4, 167, 0, 4, 3, 7, 182, 0, 47, 42, 182, 0, 51, 42, 3, 17, 1, 103, 182, 0, 54]
abbrev dktX12_clause_1 : List UInt8 := dkwX12_clause_1 ++ dktX12_clause_2
def dkwX12_clause_0 : List UInt8 := [42, 18, 32, 182, 0, 34, 153, 0, 79, 42, 42, 180, 0, 20, 180, 0, 38, 182, 0, 42, 16, 12]
abbrev dktX12_clause_0 : List UInt8 := dkwX12_clause_0 ++ dktX12_clause_1
theorem dksX12_clause_0 : cX12_clause.data.toList.drop 0 = dktX12_clause_0 := by decide +kernel
theorem dksX12_clause_1 : cX12_clause.data.toList.drop 22 = dktX12_clause_1 := dk_seg dksX12_clause_0 22 rfl rfl
theorem dksX12_clause_2 : cX12_clause.data.toList.drop 46 = dktX12_clause_2 := dk_seg dksX12_clause_1 24 rfl rfl
theorem dksX12_clause_3 : cX12_clause.data.toList.drop 70 = dktX12_clause_3 := dk_seg dksX12_clause_2 24 rfl rfl
theorem dksX12_clause_4 : cX12_clause.data.toList.drop 92 = dktX12_clause_4 := dk_seg dksX12_clause_3 22 rfl rfl
theorem dksX12_clause_5 : cX12_clause.data.toList.drop 116 = dktX12_clause_5 := dk_seg dksX12_clause_4 24 rfl rfl
theorem dksX12_clause_6 : cX12_clause.data.toList.drop 138 = dktX12_clause_6 := dk_seg dksX12_clause_5 22 rfl rfl
theorem dksX12_clause_7 : cX12_clause.data.toList.drop 162 = dktX12_clause_7 := dk_seg dksX12_clause_6 24 rfl rfl
theorem dksX12_clause_8 : cX12_clause.data.toList.drop 186 = dktX12_clause_8 := dk_seg dksX12_clause_7 24 rfl rfl
theorem dksX12_clause_9 : cX12_clause.data.toList.drop 208 = dktX12_clause_9 := dk_seg dksX12_clause_8 22 rfl rfl
theorem dksX12_clause_10 : cX12_clause.data.toList.drop 232 = dktX12_clause_10 := dk_seg dksX12_clause_9 24 rfl rfl
theorem dksX12_clause_11 : cX12_clause.data.toList.drop 255 = dktX12_clause_11 := dk_seg dksX12_clause_10 23 rfl rfl
theorem dksX12_clause_12 : cX12_clause.data.toList.drop 279 = dktX12_clause_12 := dk_seg dksX12_clause_11 24 rfl rfl
theorem dksX12_clause_13 : cX12_clause.data.toList.drop 303 = dktX12_clause_13 := dk_seg dksX12_clause_12 24 rfl rfl
theorem dX12_clause_0 : decode cX12_clause 0 = .ok (.aload_n 0, 1) := dk_42 (dk_at dksX12_clause_0 0 rfl rfl)
theorem dX12_clause_1 : decode cX12_clause 1 = .ok (.ldc 32, 2) := dk_18 32 (dk_at dksX12_clause_0 1 rfl rfl)
theorem dX12_clause_3 : decode cX12_clause 3 = .ok (.invokevirtual 34, 3) := dk_182 0 34 (dk_at dksX12_clause_0 3 rfl rfl)
theorem dX12_clause_6 : decode cX12_clause 6 = .ok (.ifCond .eq 79, 3) := dk_153 0 79 (dk_at dksX12_clause_0 6 rfl rfl)
theorem dX12_clause_9 : decode cX12_clause 9 = .ok (.aload_n 0, 1) := dk_42 (dk_at dksX12_clause_0 9 rfl rfl)
theorem dX12_clause_10 : decode cX12_clause 10 = .ok (.aload_n 0, 1) := dk_42 (dk_at dksX12_clause_0 10 rfl rfl)
theorem dX12_clause_11 : decode cX12_clause 11 = .ok (.getfield 20, 3) := dk_180 0 20 (dk_at dksX12_clause_0 11 rfl rfl)
theorem dX12_clause_14 : decode cX12_clause 14 = .ok (.getfield 38, 3) := dk_180 0 38 (dk_at dksX12_clause_0 14 rfl rfl)
theorem dX12_clause_17 : decode cX12_clause 17 = .ok (.invokevirtual 42, 3) := dk_182 0 42 (dk_at dksX12_clause_0 17 rfl rfl)
theorem dX12_clause_20 : decode cX12_clause 20 = .ok (.bipush 12, 2) := dk_16 12 (dk_at dksX12_clause_0 20 rfl rfl)
theorem dX12_clause_22 : decode cX12_clause 22 = .ok (.if_icmp .ge 7, 3) := dk_162 0 7 (dk_at dksX12_clause_1 0 rfl rfl)
theorem dX12_clause_25 : decode cX12_clause 25 = .ok (.iconst 1, 1) := dk_4 (dk_at dksX12_clause_1 3 rfl rfl)
theorem dX12_clause_26 : decode cX12_clause 26 = .ok (.goto 4, 3) := dk_167 0 4 (dk_at dksX12_clause_1 4 rfl rfl)
theorem dX12_clause_29 : decode cX12_clause 29 = .ok (.iconst 0, 1) := dk_3 (dk_at dksX12_clause_1 7 rfl rfl)
theorem dX12_clause_30 : decode cX12_clause 30 = .ok (.iconst 4, 1) := dk_7 (dk_at dksX12_clause_1 8 rfl rfl)
theorem dX12_clause_31 : decode cX12_clause 31 = .ok (.invokevirtual 47, 3) := dk_182 0 47 (dk_at dksX12_clause_1 9 rfl rfl)
theorem dX12_clause_34 : decode cX12_clause 34 = .ok (.aload_n 0, 1) := dk_42 (dk_at dksX12_clause_1 12 rfl rfl)
theorem dX12_clause_35 : decode cX12_clause 35 = .ok (.invokevirtual 51, 3) := dk_182 0 51 (dk_at dksX12_clause_1 13 rfl rfl)
theorem dX12_clause_38 : decode cX12_clause 38 = .ok (.aload_n 0, 1) := dk_42 (dk_at dksX12_clause_1 16 rfl rfl)
theorem dX12_clause_39 : decode cX12_clause 39 = .ok (.iconst 0, 1) := dk_3 (dk_at dksX12_clause_1 17 rfl rfl)
theorem dX12_clause_40 : decode cX12_clause 40 = .ok (.sipush 359, 3) := dk_17 1 103 (dk_at dksX12_clause_1 18 rfl rfl)
theorem dX12_clause_43 : decode cX12_clause 43 = .ok (.invokevirtual 54, 3) := dk_182 0 54 (dk_at dksX12_clause_1 21 rfl rfl)
theorem dX12_clause_46 : decode cX12_clause 46 = .ok (.istore_n 1, 1) := dk_60 (dk_at dksX12_clause_2 0 rfl rfl)
theorem dX12_clause_47 : decode cX12_clause 47 = .ok (.aload_n 0, 1) := dk_42 (dk_at dksX12_clause_2 1 rfl rfl)
theorem dX12_clause_48 : decode cX12_clause 48 = .ok (.iconst 1, 1) := dk_4 (dk_at dksX12_clause_2 2 rfl rfl)
theorem dX12_clause_49 : decode cX12_clause 49 = .ok (.bipush 8, 2) := dk_16 8 (dk_at dksX12_clause_2 3 rfl rfl)
theorem dX12_clause_51 : decode cX12_clause 51 = .ok (.invokevirtual 54, 3) := dk_182 0 54 (dk_at dksX12_clause_2 5 rfl rfl)
theorem dX12_clause_54 : decode cX12_clause 54 = .ok (.istore_n 2, 1) := dk_61 (dk_at dksX12_clause_2 8 rfl rfl)
theorem dX12_clause_55 : decode cX12_clause 55 = .ok (.aload_n 0, 1) := dk_42 (dk_at dksX12_clause_2 9 rfl rfl)
theorem dX12_clause_56 : decode cX12_clause 56 = .ok (.getfield 20, 3) := dk_180 0 20 (dk_at dksX12_clause_2 10 rfl rfl)
theorem dX12_clause_59 : decode cX12_clause 59 = .ok (.getfield 38, 3) := dk_180 0 38 (dk_at dksX12_clause_2 13 rfl rfl)
theorem dX12_clause_62 : decode cX12_clause 62 = .ok (.new 58, 3) := dk_187 0 58 (dk_at dksX12_clause_2 16 rfl rfl)
theorem dX12_clause_65 : decode cX12_clause 65 = .ok (.dup, 1) := dk_89 (dk_at dksX12_clause_2 19 rfl rfl)
theorem dX12_clause_66 : decode cX12_clause 66 = .ok (.iload_n 1, 1) := dk_27 (dk_at dksX12_clause_2 20 rfl rfl)
theorem dX12_clause_67 : decode cX12_clause 67 = .ok (.iload_n 2, 1) := dk_28 (dk_at dksX12_clause_2 21 rfl rfl)
theorem dX12_clause_68 : decode cX12_clause 68 = .ok (.aload_n 0, 1) := dk_42 (dk_at dksX12_clause_2 22 rfl rfl)
theorem dX12_clause_69 : decode cX12_clause 69 = .ok (.iconst 0, 1) := dk_3 (dk_at dksX12_clause_2 23 rfl rfl)
theorem dX12_clause_70 : decode cX12_clause 70 = .ok (.bipush 99, 2) := dk_16 99 (dk_at dksX12_clause_3 0 rfl rfl)
theorem dX12_clause_72 : decode cX12_clause 72 = .ok (.invokevirtual 54, 3) := dk_182 0 54 (dk_at dksX12_clause_3 2 rfl rfl)
theorem dX12_clause_75 : decode cX12_clause 75 = .ok (.invokespecial 60, 3) := dk_183 0 60 (dk_at dksX12_clause_3 5 rfl rfl)
theorem dX12_clause_78 : decode cX12_clause 78 = .ok (.invokevirtual 63, 3) := dk_182 0 63 (dk_at dksX12_clause_3 8 rfl rfl)
theorem dX12_clause_81 : decode cX12_clause 81 = .ok (.pop, 1) := dk_87 (dk_at dksX12_clause_3 11 rfl rfl)
theorem dX12_clause_82 : decode cX12_clause 82 = .ok (.goto 229, 3) := dk_167 0 229 (dk_at dksX12_clause_3 12 rfl rfl)
theorem dX12_clause_85 : decode cX12_clause 85 = .ok (.aload_n 0, 1) := dk_42 (dk_at dksX12_clause_3 15 rfl rfl)
theorem dX12_clause_86 : decode cX12_clause 86 = .ok (.ldc 67, 2) := dk_18 67 (dk_at dksX12_clause_3 16 rfl rfl)
theorem dX12_clause_88 : decode cX12_clause 88 = .ok (.iconst 0, 1) := dk_3 (dk_at dksX12_clause_3 18 rfl rfl)
theorem dX12_clause_89 : decode cX12_clause 89 = .ok (.invokevirtual 69, 3) := dk_182 0 69 (dk_at dksX12_clause_3 19 rfl rfl)
theorem dX12_clause_92 : decode cX12_clause 92 = .ok (.ifCond .eq 80, 3) := dk_153 0 80 (dk_at dksX12_clause_4 0 rfl rfl)
theorem dX12_clause_95 : decode cX12_clause 95 = .ok (.aload_n 0, 1) := dk_42 (dk_at dksX12_clause_4 3 rfl rfl)
theorem dX12_clause_96 : decode cX12_clause 96 = .ok (.getfield 20, 3) := dk_180 0 20 (dk_at dksX12_clause_4 4 rfl rfl)
theorem dX12_clause_99 : decode cX12_clause 99 = .ok (.getfield 73, 3) := dk_180 0 73 (dk_at dksX12_clause_4 7 rfl rfl)
theorem dX12_clause_102 : decode cX12_clause 102 = .ok (.iconst 0, 1) := dk_3 (dk_at dksX12_clause_4 10 rfl rfl)
theorem dX12_clause_103 : decode cX12_clause 103 = .ok (.aload_n 0, 1) := dk_42 (dk_at dksX12_clause_4 11 rfl rfl)
theorem dX12_clause_104 : decode cX12_clause 104 = .ok (.iconst 0, 1) := dk_3 (dk_at dksX12_clause_4 12 rfl rfl)
theorem dX12_clause_105 : decode cX12_clause 105 = .ok (.sipush 359, 3) := dk_17 1 103 (dk_at dksX12_clause_4 13 rfl rfl)
theorem dX12_clause_108 : decode cX12_clause 108 = .ok (.invokevirtual 54, 3) := dk_182 0 54 (dk_at dksX12_clause_4 16 rfl rfl)
theorem dX12_clause_111 : decode cX12_clause 111 = .ok (.iastore, 1) := dk_79 (dk_at dksX12_clause_4 19 rfl rfl)
theorem dX12_clause_112 : decode cX12_clause 112 = .ok (.aload_n 0, 1) := dk_42 (dk_at dksX12_clause_4 20 rfl rfl)
theorem dX12_clause_113 : decode cX12_clause 113 = .ok (.getfield 20, 3) := dk_180 0 20 (dk_at dksX12_clause_4 21 rfl rfl)
theorem dX12_clause_116 : decode cX12_clause 116 = .ok (.getfield 73, 3) := dk_180 0 73 (dk_at dksX12_clause_5 0 rfl rfl)
theorem dX12_clause_119 : decode cX12_clause 119 = .ok (.iconst 1, 1) := dk_4 (dk_at dksX12_clause_5 3 rfl rfl)
theorem dX12_clause_120 : decode cX12_clause 120 = .ok (.aload_n 0, 1) := dk_42 (dk_at dksX12_clause_5 4 rfl rfl)
theorem dX12_clause_121 : decode cX12_clause 121 = .ok (.aload_n 0, 1) := dk_42 (dk_at dksX12_clause_5 5 rfl rfl)
theorem dX12_clause_122 : decode cX12_clause 122 = .ok (.getfield 20, 3) := dk_180 0 20 (dk_at dksX12_clause_5 6 rfl rfl)
theorem dX12_clause_125 : decode cX12_clause 125 = .ok (.getfield 73, 3) := dk_180 0 73 (dk_at dksX12_clause_5 9 rfl rfl)
theorem dX12_clause_128 : decode cX12_clause 128 = .ok (.iconst 0, 1) := dk_3 (dk_at dksX12_clause_5 12 rfl rfl)
theorem dX12_clause_129 : decode cX12_clause 129 = .ok (.iaload, 1) := dk_46 (dk_at dksX12_clause_5 13 rfl rfl)
theorem dX12_clause_130 : decode cX12_clause 130 = .ok (.sipush 359, 3) := dk_17 1 103 (dk_at dksX12_clause_5 14 rfl rfl)
theorem dX12_clause_133 : decode cX12_clause 133 = .ok (.invokevirtual 54, 3) := dk_182 0 54 (dk_at dksX12_clause_5 17 rfl rfl)
theorem dX12_clause_136 : decode cX12_clause 136 = .ok (.iastore, 1) := dk_79 (dk_at dksX12_clause_5 20 rfl rfl)
theorem dX12_clause_137 : decode cX12_clause 137 = .ok (.aload_n 0, 1) := dk_42 (dk_at dksX12_clause_5 21 rfl rfl)
theorem dX12_clause_138 : decode cX12_clause 138 = .ok (.getfield 20, 3) := dk_180 0 20 (dk_at dksX12_clause_6 0 rfl rfl)
theorem dX12_clause_141 : decode cX12_clause 141 = .ok (.getfield 73, 3) := dk_180 0 73 (dk_at dksX12_clause_6 3 rfl rfl)
theorem dX12_clause_144 : decode cX12_clause 144 = .ok (.iconst 2, 1) := dk_5 (dk_at dksX12_clause_6 6 rfl rfl)
theorem dX12_clause_145 : decode cX12_clause 145 = .ok (.aload_n 0, 1) := dk_42 (dk_at dksX12_clause_6 7 rfl rfl)
theorem dX12_clause_146 : decode cX12_clause 146 = .ok (.iconst 1, 1) := dk_4 (dk_at dksX12_clause_6 8 rfl rfl)
theorem dX12_clause_147 : decode cX12_clause 147 = .ok (.bipush 60, 2) := dk_16 60 (dk_at dksX12_clause_6 9 rfl rfl)
theorem dX12_clause_149 : decode cX12_clause 149 = .ok (.invokevirtual 54, 3) := dk_182 0 54 (dk_at dksX12_clause_6 11 rfl rfl)
theorem dX12_clause_152 : decode cX12_clause 152 = .ok (.iastore, 1) := dk_79 (dk_at dksX12_clause_6 14 rfl rfl)
theorem dX12_clause_153 : decode cX12_clause 153 = .ok (.aload_n 0, 1) := dk_42 (dk_at dksX12_clause_6 15 rfl rfl)
theorem dX12_clause_154 : decode cX12_clause 154 = .ok (.getfield 20, 3) := dk_180 0 20 (dk_at dksX12_clause_6 16 rfl rfl)
theorem dX12_clause_157 : decode cX12_clause 157 = .ok (.getfield 73, 3) := dk_180 0 73 (dk_at dksX12_clause_6 19 rfl rfl)
theorem dX12_clause_160 : decode cX12_clause 160 = .ok (.iconst 3, 1) := dk_6 (dk_at dksX12_clause_6 22 rfl rfl)
theorem dX12_clause_161 : decode cX12_clause 161 = .ok (.aload_n 0, 1) := dk_42 (dk_at dksX12_clause_6 23 rfl rfl)
theorem dX12_clause_162 : decode cX12_clause 162 = .ok (.iconst 0, 1) := dk_3 (dk_at dksX12_clause_7 0 rfl rfl)
theorem dX12_clause_163 : decode cX12_clause 163 = .ok (.bipush 100, 2) := dk_16 100 (dk_at dksX12_clause_7 1 rfl rfl)
theorem dX12_clause_165 : decode cX12_clause 165 = .ok (.invokevirtual 54, 3) := dk_182 0 54 (dk_at dksX12_clause_7 3 rfl rfl)
theorem dX12_clause_168 : decode cX12_clause 168 = .ok (.iastore, 1) := dk_79 (dk_at dksX12_clause_7 6 rfl rfl)
theorem dX12_clause_169 : decode cX12_clause 169 = .ok (.goto 142, 3) := dk_167 0 142 (dk_at dksX12_clause_7 7 rfl rfl)
theorem dX12_clause_172 : decode cX12_clause 172 = .ok (.aload_n 0, 1) := dk_42 (dk_at dksX12_clause_7 10 rfl rfl)
theorem dX12_clause_173 : decode cX12_clause 173 = .ok (.ldc 76, 2) := dk_18 76 (dk_at dksX12_clause_7 11 rfl rfl)
theorem dX12_clause_175 : decode cX12_clause 175 = .ok (.iconst 1, 1) := dk_4 (dk_at dksX12_clause_7 13 rfl rfl)
theorem dX12_clause_176 : decode cX12_clause 176 = .ok (.invokevirtual 69, 3) := dk_182 0 69 (dk_at dksX12_clause_7 14 rfl rfl)
theorem dX12_clause_179 : decode cX12_clause 179 = .ok (.ifCond .eq 46, 3) := dk_153 0 46 (dk_at dksX12_clause_7 17 rfl rfl)
theorem dX12_clause_182 : decode cX12_clause 182 = .ok (.aload_n 0, 1) := dk_42 (dk_at dksX12_clause_7 20 rfl rfl)
theorem dX12_clause_183 : decode cX12_clause 183 = .ok (.getfield 20, 3) := dk_180 0 20 (dk_at dksX12_clause_7 21 rfl rfl)
theorem dX12_clause_186 : decode cX12_clause 186 = .ok (.getfield 78, 3) := dk_180 0 78 (dk_at dksX12_clause_8 0 rfl rfl)
theorem dX12_clause_189 : decode cX12_clause 189 = .ok (.iconst 0, 1) := dk_3 (dk_at dksX12_clause_8 3 rfl rfl)
theorem dX12_clause_190 : decode cX12_clause 190 = .ok (.aload_n 0, 1) := dk_42 (dk_at dksX12_clause_8 4 rfl rfl)
theorem dX12_clause_191 : decode cX12_clause 191 = .ok (.iconst 1, 1) := dk_4 (dk_at dksX12_clause_8 5 rfl rfl)
theorem dX12_clause_192 : decode cX12_clause 192 = .ok (.bipush 8, 2) := dk_16 8 (dk_at dksX12_clause_8 6 rfl rfl)
theorem dX12_clause_194 : decode cX12_clause 194 = .ok (.invokevirtual 54, 3) := dk_182 0 54 (dk_at dksX12_clause_8 8 rfl rfl)
theorem dX12_clause_197 : decode cX12_clause 197 = .ok (.iastore, 1) := dk_79 (dk_at dksX12_clause_8 11 rfl rfl)
theorem dX12_clause_198 : decode cX12_clause 198 = .ok (.aload_n 0, 1) := dk_42 (dk_at dksX12_clause_8 12 rfl rfl)
theorem dX12_clause_199 : decode cX12_clause 199 = .ok (.getfield 20, 3) := dk_180 0 20 (dk_at dksX12_clause_8 13 rfl rfl)
theorem dX12_clause_202 : decode cX12_clause 202 = .ok (.getfield 78, 3) := dk_180 0 78 (dk_at dksX12_clause_8 16 rfl rfl)
theorem dX12_clause_205 : decode cX12_clause 205 = .ok (.iconst 1, 1) := dk_4 (dk_at dksX12_clause_8 19 rfl rfl)
theorem dX12_clause_206 : decode cX12_clause 206 = .ok (.aload_n 0, 1) := dk_42 (dk_at dksX12_clause_8 20 rfl rfl)
theorem dX12_clause_207 : decode cX12_clause 207 = .ok (.aload_n 0, 1) := dk_42 (dk_at dksX12_clause_8 21 rfl rfl)
theorem dX12_clause_208 : decode cX12_clause 208 = .ok (.getfield 20, 3) := dk_180 0 20 (dk_at dksX12_clause_9 0 rfl rfl)
theorem dX12_clause_211 : decode cX12_clause 211 = .ok (.getfield 78, 3) := dk_180 0 78 (dk_at dksX12_clause_9 3 rfl rfl)
theorem dX12_clause_214 : decode cX12_clause 214 = .ok (.iconst 0, 1) := dk_3 (dk_at dksX12_clause_9 6 rfl rfl)
theorem dX12_clause_215 : decode cX12_clause 215 = .ok (.iaload, 1) := dk_46 (dk_at dksX12_clause_9 7 rfl rfl)
theorem dX12_clause_216 : decode cX12_clause 216 = .ok (.bipush 8, 2) := dk_16 8 (dk_at dksX12_clause_9 8 rfl rfl)
theorem dX12_clause_218 : decode cX12_clause 218 = .ok (.invokevirtual 54, 3) := dk_182 0 54 (dk_at dksX12_clause_9 10 rfl rfl)
theorem dX12_clause_221 : decode cX12_clause 221 = .ok (.iastore, 1) := dk_79 (dk_at dksX12_clause_9 13 rfl rfl)
theorem dX12_clause_222 : decode cX12_clause 222 = .ok (.goto 89, 3) := dk_167 0 89 (dk_at dksX12_clause_9 14 rfl rfl)
theorem dX12_clause_225 : decode cX12_clause 225 = .ok (.aload_n 0, 1) := dk_42 (dk_at dksX12_clause_9 17 rfl rfl)
theorem dX12_clause_226 : decode cX12_clause 226 = .ok (.ldc 80, 2) := dk_18 80 (dk_at dksX12_clause_9 18 rfl rfl)
theorem dX12_clause_228 : decode cX12_clause 228 = .ok (.iconst 2, 1) := dk_5 (dk_at dksX12_clause_9 20 rfl rfl)
theorem dX12_clause_229 : decode cX12_clause 229 = .ok (.invokevirtual 69, 3) := dk_182 0 69 (dk_at dksX12_clause_9 21 rfl rfl)
theorem dX12_clause_232 : decode cX12_clause 232 = .ok (.ifCond .eq 46, 3) := dk_153 0 46 (dk_at dksX12_clause_10 0 rfl rfl)
theorem dX12_clause_235 : decode cX12_clause 235 = .ok (.aload_n 0, 1) := dk_42 (dk_at dksX12_clause_10 3 rfl rfl)
theorem dX12_clause_236 : decode cX12_clause 236 = .ok (.getfield 20, 3) := dk_180 0 20 (dk_at dksX12_clause_10 4 rfl rfl)
theorem dX12_clause_239 : decode cX12_clause 239 = .ok (.getfield 82, 3) := dk_180 0 82 (dk_at dksX12_clause_10 7 rfl rfl)
theorem dX12_clause_242 : decode cX12_clause 242 = .ok (.iconst 0, 1) := dk_3 (dk_at dksX12_clause_10 10 rfl rfl)
theorem dX12_clause_243 : decode cX12_clause 243 = .ok (.aload_n 0, 1) := dk_42 (dk_at dksX12_clause_10 11 rfl rfl)
theorem dX12_clause_244 : decode cX12_clause 244 = .ok (.iconst 0, 1) := dk_3 (dk_at dksX12_clause_10 12 rfl rfl)
theorem dX12_clause_245 : decode cX12_clause 245 = .ok (.bipush 99, 2) := dk_16 99 (dk_at dksX12_clause_10 13 rfl rfl)
theorem dX12_clause_247 : decode cX12_clause 247 = .ok (.invokevirtual 54, 3) := dk_182 0 54 (dk_at dksX12_clause_10 15 rfl rfl)
theorem dX12_clause_250 : decode cX12_clause 250 = .ok (.iastore, 1) := dk_79 (dk_at dksX12_clause_10 18 rfl rfl)
theorem dX12_clause_251 : decode cX12_clause 251 = .ok (.aload_n 0, 1) := dk_42 (dk_at dksX12_clause_10 19 rfl rfl)
theorem dX12_clause_252 : decode cX12_clause 252 = .ok (.getfield 20, 3) := dk_180 0 20 (dk_at dksX12_clause_10 20 rfl rfl)
theorem dX12_clause_255 : decode cX12_clause 255 = .ok (.getfield 82, 3) := dk_180 0 82 (dk_at dksX12_clause_11 0 rfl rfl)
theorem dX12_clause_258 : decode cX12_clause 258 = .ok (.iconst 1, 1) := dk_4 (dk_at dksX12_clause_11 3 rfl rfl)
theorem dX12_clause_259 : decode cX12_clause 259 = .ok (.aload_n 0, 1) := dk_42 (dk_at dksX12_clause_11 4 rfl rfl)
theorem dX12_clause_260 : decode cX12_clause 260 = .ok (.aload_n 0, 1) := dk_42 (dk_at dksX12_clause_11 5 rfl rfl)
theorem dX12_clause_261 : decode cX12_clause 261 = .ok (.getfield 20, 3) := dk_180 0 20 (dk_at dksX12_clause_11 6 rfl rfl)
theorem dX12_clause_264 : decode cX12_clause 264 = .ok (.getfield 82, 3) := dk_180 0 82 (dk_at dksX12_clause_11 9 rfl rfl)
theorem dX12_clause_267 : decode cX12_clause 267 = .ok (.iconst 0, 1) := dk_3 (dk_at dksX12_clause_11 12 rfl rfl)
theorem dX12_clause_268 : decode cX12_clause 268 = .ok (.iaload, 1) := dk_46 (dk_at dksX12_clause_11 13 rfl rfl)
theorem dX12_clause_269 : decode cX12_clause 269 = .ok (.bipush 99, 2) := dk_16 99 (dk_at dksX12_clause_11 14 rfl rfl)
theorem dX12_clause_271 : decode cX12_clause 271 = .ok (.invokevirtual 54, 3) := dk_182 0 54 (dk_at dksX12_clause_11 16 rfl rfl)
theorem dX12_clause_274 : decode cX12_clause 274 = .ok (.iastore, 1) := dk_79 (dk_at dksX12_clause_11 19 rfl rfl)
theorem dX12_clause_275 : decode cX12_clause 275 = .ok (.goto 36, 3) := dk_167 0 36 (dk_at dksX12_clause_11 20 rfl rfl)
theorem dX12_clause_278 : decode cX12_clause 278 = .ok (.aload_n 0, 1) := dk_42 (dk_at dksX12_clause_11 23 rfl rfl)
theorem dX12_clause_279 : decode cX12_clause 279 = .ok (.aload_n 0, 1) := dk_42 (dk_at dksX12_clause_12 0 rfl rfl)
theorem dX12_clause_280 : decode cX12_clause 280 = .ok (.ldc 84, 2) := dk_18 84 (dk_at dksX12_clause_12 1 rfl rfl)
theorem dX12_clause_282 : decode cX12_clause 282 = .ok (.invokevirtual 34, 3) := dk_182 0 34 (dk_at dksX12_clause_12 3 rfl rfl)
theorem dX12_clause_285 : decode cX12_clause 285 = .ok (.iconst 1, 1) := dk_4 (dk_at dksX12_clause_12 6 rfl rfl)
theorem dX12_clause_286 : decode cX12_clause 286 = .ok (.invokevirtual 47, 3) := dk_182 0 47 (dk_at dksX12_clause_12 7 rfl rfl)
theorem dX12_clause_289 : decode cX12_clause 289 = .ok (.aload_n 0, 1) := dk_42 (dk_at dksX12_clause_12 10 rfl rfl)
theorem dX12_clause_290 : decode cX12_clause 290 = .ok (.ldc 84, 2) := dk_18 84 (dk_at dksX12_clause_12 11 rfl rfl)
theorem dX12_clause_292 : decode cX12_clause 292 = .ok (.iconst 3, 1) := dk_6 (dk_at dksX12_clause_12 13 rfl rfl)
theorem dX12_clause_293 : decode cX12_clause 293 = .ok (.invokevirtual 69, 3) := dk_182 0 69 (dk_at dksX12_clause_12 14 rfl rfl)
theorem dX12_clause_296 : decode cX12_clause 296 = .ok (.pop, 1) := dk_87 (dk_at dksX12_clause_12 17 rfl rfl)
theorem dX12_clause_297 : decode cX12_clause 297 = .ok (.aload_n 0, 1) := dk_42 (dk_at dksX12_clause_12 18 rfl rfl)
theorem dX12_clause_298 : decode cX12_clause 298 = .ok (.getfield 20, 3) := dk_180 0 20 (dk_at dksX12_clause_12 19 rfl rfl)
theorem dX12_clause_301 : decode cX12_clause 301 = .ok (.aload_n 0, 1) := dk_42 (dk_at dksX12_clause_12 22 rfl rfl)
theorem dX12_clause_302 : decode cX12_clause 302 = .ok (.iconst 0, 1) := dk_3 (dk_at dksX12_clause_12 23 rfl rfl)
theorem dX12_clause_303 : decode cX12_clause 303 = .ok (.bipush 9, 2) := dk_16 9 (dk_at dksX12_clause_13 0 rfl rfl)
theorem dX12_clause_305 : decode cX12_clause 305 = .ok (.invokevirtual 54, 3) := dk_182 0 54 (dk_at dksX12_clause_13 2 rfl rfl)
theorem dX12_clause_308 : decode cX12_clause 308 = .ok (.putfield 86, 3) := dk_181 0 86 (dk_at dksX12_clause_13 5 rfl rfl)
theorem dX12_clause_311 : decode cX12_clause 311 = .ok (.return_, 1) := dk_177 (dk_at dksX12_clause_13 8 rfl rfl)
abbrev cX12_init : ByteArray := prog_10_method_1_code
def yX12_init : MethodName := ⟨RX12, "<init>", "(LTideKeep;I)V"⟩
def dkwX12_init_0 : List UInt8 := [42, 43, 181, 0, 3, 42, 43, 28, 183, 0, 9, 42, 187, 0, 15, 89, 183, 0, 17, 181, 0, 20, 177]
abbrev dktX12_init_0 : List UInt8 := dkwX12_init_0 ++ []
theorem dksX12_init_0 : cX12_init.data.toList.drop 0 = dktX12_init_0 := by decide +kernel
theorem dX12_init_0 : decode cX12_init 0 = .ok (.aload_n 0, 1) := dk_42 (dk_at dksX12_init_0 0 rfl rfl)
theorem dX12_init_1 : decode cX12_init 1 = .ok (.aload_n 1, 1) := dk_43 (dk_at dksX12_init_0 1 rfl rfl)
theorem dX12_init_2 : decode cX12_init 2 = .ok (.putfield 3, 3) := dk_181 0 3 (dk_at dksX12_init_0 2 rfl rfl)
theorem dX12_init_5 : decode cX12_init 5 = .ok (.aload_n 0, 1) := dk_42 (dk_at dksX12_init_0 5 rfl rfl)
theorem dX12_init_6 : decode cX12_init 6 = .ok (.aload_n 1, 1) := dk_43 (dk_at dksX12_init_0 6 rfl rfl)
theorem dX12_init_7 : decode cX12_init 7 = .ok (.iload_n 2, 1) := dk_28 (dk_at dksX12_init_0 7 rfl rfl)
theorem dX12_init_8 : decode cX12_init 8 = .ok (.invokespecial 9, 3) := dk_183 0 9 (dk_at dksX12_init_0 8 rfl rfl)
theorem dX12_init_11 : decode cX12_init 11 = .ok (.aload_n 0, 1) := dk_42 (dk_at dksX12_init_0 11 rfl rfl)
theorem dX12_init_12 : decode cX12_init 12 = .ok (.new 15, 3) := dk_187 0 15 (dk_at dksX12_init_0 12 rfl rfl)
theorem dX12_init_15 : decode cX12_init 15 = .ok (.dup, 1) := dk_89 (dk_at dksX12_init_0 15 rfl rfl)
theorem dX12_init_16 : decode cX12_init 16 = .ok (.invokespecial 17, 3) := dk_183 0 17 (dk_at dksX12_init_0 16 rfl rfl)
theorem dX12_init_19 : decode cX12_init 19 = .ok (.putfield 20, 3) := dk_181 0 20 (dk_at dksX12_init_0 19 rfl rfl)
theorem dX12_init_22 : decode cX12_init 22 = .ok (.return_, 1) := dk_177 (dk_at dksX12_init_0 22 rfl rfl)
abbrev cX12_read : ByteArray := prog_10_method_2_code
def yX12_read : MethodName := ⟨RX12, "read", "()LTideKeep$Sea;"⟩
def dkwX12_read_0 : List UInt8 := [42, 180, 0, 20, 42, 182, 0, 24, 181, 0, 28, 42, 180, 0, 20, 176]
abbrev dktX12_read_0 : List UInt8 := dkwX12_read_0 ++ []
theorem dksX12_read_0 : cX12_read.data.toList.drop 0 = dktX12_read_0 := by decide +kernel
theorem dX12_read_0 : decode cX12_read 0 = .ok (.aload_n 0, 1) := dk_42 (dk_at dksX12_read_0 0 rfl rfl)
theorem dX12_read_1 : decode cX12_read 1 = .ok (.getfield 20, 3) := dk_180 0 20 (dk_at dksX12_read_0 1 rfl rfl)
theorem dX12_read_4 : decode cX12_read 4 = .ok (.aload_n 0, 1) := dk_42 (dk_at dksX12_read_0 4 rfl rfl)
theorem dX12_read_5 : decode cX12_read 5 = .ok (.invokevirtual 24, 3) := dk_182 0 24 (dk_at dksX12_read_0 5 rfl rfl)
theorem dX12_read_8 : decode cX12_read 8 = .ok (.putfield 28, 3) := dk_181 0 28 (dk_at dksX12_read_0 8 rfl rfl)
theorem dX12_read_11 : decode cX12_read 11 = .ok (.aload_n 0, 1) := dk_42 (dk_at dksX12_read_0 11 rfl rfl)
theorem dX12_read_12 : decode cX12_read 12 = .ok (.getfield 20, 3) := dk_180 0 20 (dk_at dksX12_read_0 12 rfl rfl)
theorem dX12_read_15 : decode cX12_read 15 = .ok (.areturn, 1) := dk_176 (dk_at dksX12_read_0 15 rfl rfl)
theorem q114 : (Jvm.Cond.initialized "TideKeep$SeaReader") ∈ lw_all := lw_g (lw_at lw_m1 27 rfl) rfl
theorem q313 : (Jvm.Cond.fieldLinkNest "TideKeep$SeaReader" (38 : Nat) "TideKeep$Sea" "waves" "Ljava/util/ArrayList;" "TideKeep") ∈ lw_tbl := lw_at lw_m1 226 rfl
theorem q317 : (Jvm.Cond.fieldLinkNest "TideKeep$SeaReader" (73 : Nat) "TideKeep$Sea" "tide" "[I" "TideKeep") ∈ lw_tbl := lw_at lw_m1 230 rfl
theorem q321 : (Jvm.Cond.fieldLinkNest "TideKeep$SeaReader" (78 : Nat) "TideKeep$Sea" "reach" "[I" "TideKeep") ∈ lw_tbl := lw_at lw_m1 234 rfl
theorem q325 : (Jvm.Cond.fieldLinkNest "TideKeep$SeaReader" (82 : Nat) "TideKeep$Sea" "level" "[I" "TideKeep") ∈ lw_tbl := lw_at lw_m1 238 rfl
theorem q329 : (Jvm.Cond.fieldLinkNest "TideKeep$SeaReader" (86 : Nat) "TideKeep$Sea" "cut" "I" "TideKeep") ∈ lw_tbl := lw_at lw_m2 2 rfl
theorem q332 : (Jvm.Cond.fieldLinkNest "TideKeep$SeaReader" (28 : Nat) "TideKeep$Sea" "clauses" "I" "TideKeep") ∈ lw_tbl := lw_at lw_m2 5 rfl
theorem q569 : (Jvm.Cond.selects "TideKeep$SeaReader" ({ cls := "TideKeep$Reader", name := "goOn", desc := "()V" } : Jvm.MethodName) ({ cls := "TideKeep$Reader", name := "goOn", desc := "()V" } : Jvm.MethodName)) ∈ lw_all := lw_g (lw_at lw_m3 2 rfl) rfl
theorem q737 : (Jvm.Cond.selects "TideKeep$SeaReader" ({ cls := "TideKeep$Reader", name := "within", desc := "(II)I" } : Jvm.MethodName) ({ cls := "TideKeep$Reader", name := "within", desc := "(II)I" } : Jvm.MethodName)) ∈ lw_all := lw_g (lw_at lw_m3 170 rfl) rfl
theorem q866 : (Jvm.Cond.selects "TideKeep$SeaReader" ({ cls := "java/lang/Object", name := "getClass", desc := "()Ljava/lang/Class;" } : Jvm.MethodName) ({ cls := "java/lang/Object", name := "getClass", desc := "()Ljava/lang/Class;" } : Jvm.MethodName)) ∈ lw_all := lw_g (lw_at lw_m4 59 rfl) rfl
theorem q894 : (Jvm.Cond.selects "TideKeep$SeaReader" ({ cls := "TideKeep$Reader", name := "clause", desc := "()V" } : Jvm.MethodName) ({ cls := "TideKeep$SeaReader", name := "clause", desc := "()V" } : Jvm.MethodName)) ∈ lw_all := lw_g (lw_at lw_m4 87 rfl) rfl
theorem q895 : (Jvm.Cond.instanceMethod ({ cls := "TideKeep$SeaReader", name := "clause", desc := "()V" } : Jvm.MethodName)) ∈ lw_all := lw_g (lw_at lw_m4 88 rfl) rfl
theorem q896 : (Jvm.Cond.code ({ cls := "TideKeep$SeaReader", name := "clause", desc := "()V" } : Jvm.MethodName) prog_10_method_3_code (3 : Nat) (Option.none : Option Jvm.ClassFile.FieldType)) ∈ lw_all := lw_g (lw_at lw_m4 89 rfl) rfl
theorem q897 : (Jvm.Cond.stringRef "TideKeep$SeaReader" (32 : Nat) "wave") ∈ lw_tbl := lw_at lw_m4 90 rfl
theorem q898 : (Jvm.Cond.methodLink "TideKeep$SeaReader" (34 : Nat) ({ cls := "TideKeep$SeaReader", name := "is", desc := "(Ljava/lang/String;)Z" } : Jvm.MethodName)) ∈ lw_all := lw_g (lw_at lw_m4 91 rfl) rfl
theorem q899 : (Jvm.Cond.sameMethod "TideKeep$SeaReader" "TideKeep$Reader" "is" "(Ljava/lang/String;)Z") ∈ lw_all := lw_g (lw_at lw_m4 92 rfl) rfl
theorem q900 : (Jvm.Cond.selects "TideKeep$SeaReader" ({ cls := "TideKeep$SeaReader", name := "is", desc := "(Ljava/lang/String;)Z" } : Jvm.MethodName) ({ cls := "TideKeep$Reader", name := "is", desc := "(Ljava/lang/String;)Z" } : Jvm.MethodName)) ∈ lw_all := lw_g (lw_at lw_m4 93 rfl) rfl
theorem q901 : (Jvm.Cond.methodLink "TideKeep$SeaReader" (42 : Nat) ({ cls := "java/util/ArrayList", name := "size", desc := "()I" } : Jvm.MethodName)) ∈ lw_all := lw_g (lw_at lw_m4 94 rfl) rfl
theorem q902 : (Jvm.Cond.methodLink "TideKeep$SeaReader" (47 : Nat) ({ cls := "TideKeep$SeaReader", name := "ask", desc := "(ZI)V" } : Jvm.MethodName)) ∈ lw_all := lw_g (lw_at lw_m4 95 rfl) rfl
theorem q903 : (Jvm.Cond.sameMethod "TideKeep$SeaReader" "TideKeep$Reader" "ask" "(ZI)V") ∈ lw_all := lw_g (lw_at lw_m4 96 rfl) rfl
theorem q904 : (Jvm.Cond.selects "TideKeep$SeaReader" ({ cls := "TideKeep$SeaReader", name := "ask", desc := "(ZI)V" } : Jvm.MethodName) ({ cls := "TideKeep$Reader", name := "ask", desc := "(ZI)V" } : Jvm.MethodName)) ∈ lw_all := lw_g (lw_at lw_m4 97 rfl) rfl
theorem q905 : (Jvm.Cond.methodLink "TideKeep$SeaReader" (51 : Nat) ({ cls := "TideKeep$SeaReader", name := "goOn", desc := "()V" } : Jvm.MethodName)) ∈ lw_all := lw_g (lw_at lw_m4 98 rfl) rfl
theorem q906 : (Jvm.Cond.sameMethod "TideKeep$SeaReader" "TideKeep$Reader" "goOn" "()V") ∈ lw_all := lw_g (lw_at lw_m4 99 rfl) rfl
theorem q907 : (Jvm.Cond.selects "TideKeep$SeaReader" ({ cls := "TideKeep$SeaReader", name := "goOn", desc := "()V" } : Jvm.MethodName) ({ cls := "TideKeep$Reader", name := "goOn", desc := "()V" } : Jvm.MethodName)) ∈ lw_all := lw_g (lw_at lw_m4 100 rfl) rfl
theorem q908 : (Jvm.Cond.methodLink "TideKeep$SeaReader" (54 : Nat) ({ cls := "TideKeep$SeaReader", name := "number", desc := "(II)I" } : Jvm.MethodName)) ∈ lw_all := lw_g (lw_at lw_m4 101 rfl) rfl
theorem q909 : (Jvm.Cond.sameMethod "TideKeep$SeaReader" "TideKeep$Reader" "number" "(II)I") ∈ lw_all := lw_g (lw_at lw_m4 102 rfl) rfl
theorem q910 : (Jvm.Cond.selects "TideKeep$SeaReader" ({ cls := "TideKeep$SeaReader", name := "number", desc := "(II)I" } : Jvm.MethodName) ({ cls := "TideKeep$Reader", name := "number", desc := "(II)I" } : Jvm.MethodName)) ∈ lw_all := lw_g (lw_at lw_m4 103 rfl) rfl
theorem q911 : (Jvm.Cond.classLink "TideKeep$SeaReader" (58 : Nat) "TideKeep$Wave") ∈ lw_all := lw_g (lw_at lw_m4 104 rfl) rfl
theorem q913 : (Jvm.Cond.methodLink "TideKeep$SeaReader" (60 : Nat) ({ cls := "TideKeep$Wave", name := "<init>", desc := "(III)V" } : Jvm.MethodName)) ∈ lw_all := lw_g (lw_at lw_m4 106 rfl) rfl
theorem q933 : (Jvm.Cond.methodLink "TideKeep$SeaReader" (63 : Nat) ({ cls := "java/util/ArrayList", name := "add", desc := "(Ljava/lang/Object;)Z" } : Jvm.MethodName)) ∈ lw_all := lw_g (lw_at lw_m4 126 rfl) rfl
theorem q934 : (Jvm.Cond.stringRef "TideKeep$SeaReader" (67 : Nat) "tide") ∈ lw_tbl := lw_at lw_m4 127 rfl
theorem q935 : (Jvm.Cond.methodLink "TideKeep$SeaReader" (69 : Nat) ({ cls := "TideKeep$SeaReader", name := "begins", desc := "(Ljava/lang/String;I)Z" } : Jvm.MethodName)) ∈ lw_all := lw_g (lw_at lw_m4 128 rfl) rfl
theorem q936 : (Jvm.Cond.sameMethod "TideKeep$SeaReader" "TideKeep$Reader" "begins" "(Ljava/lang/String;I)Z") ∈ lw_all := lw_g (lw_at lw_m4 129 rfl) rfl
theorem q937 : (Jvm.Cond.selects "TideKeep$SeaReader" ({ cls := "TideKeep$SeaReader", name := "begins", desc := "(Ljava/lang/String;I)Z" } : Jvm.MethodName) ({ cls := "TideKeep$Reader", name := "begins", desc := "(Ljava/lang/String;I)Z" } : Jvm.MethodName)) ∈ lw_all := lw_g (lw_at lw_m4 130 rfl) rfl
theorem q938 : (Jvm.Cond.stringRef "TideKeep$SeaReader" (76 : Nat) "reach") ∈ lw_tbl := lw_at lw_m4 131 rfl
theorem q939 : (Jvm.Cond.stringRef "TideKeep$SeaReader" (80 : Nat) "level") ∈ lw_tbl := lw_at lw_m4 132 rfl
theorem q940 : (Jvm.Cond.stringRef "TideKeep$SeaReader" (84 : Nat) "cut") ∈ lw_tbl := lw_at lw_m4 133 rfl
theorem q955 : (Jvm.Cond.instantiable "TideKeep$SeaReader" (9 : Nat)) ∈ lw_all := lw_g (lw_at lw_m4 148 rfl) rfl
theorem q957 : (Jvm.Cond.instanceMethod ({ cls := "TideKeep$SeaReader", name := "<init>", desc := "(LTideKeep;I)V" } : Jvm.MethodName)) ∈ lw_all := lw_g (lw_at lw_m4 150 rfl) rfl
theorem q958 : (Jvm.Cond.code ({ cls := "TideKeep$SeaReader", name := "<init>", desc := "(LTideKeep;I)V" } : Jvm.MethodName) prog_10_method_1_code (3 : Nat) (Option.none : Option Jvm.ClassFile.FieldType)) ∈ lw_all := lw_g (lw_at lw_m4 151 rfl) rfl
theorem q959 : (Jvm.Cond.methodLink "TideKeep$SeaReader" (9 : Nat) ({ cls := "TideKeep$Reader", name := "<init>", desc := "(LTideKeep;I)V" } : Jvm.MethodName)) ∈ lw_all := lw_g (lw_at lw_m4 152 rfl) rfl
theorem q960 : (Jvm.Cond.classLink "TideKeep$SeaReader" (15 : Nat) "TideKeep$Sea") ∈ lw_all := lw_g (lw_at lw_m4 153 rfl) rfl
theorem q961 : (Jvm.Cond.methodLinkNest "TideKeep$SeaReader" (17 : Nat) ({ cls := "TideKeep$Sea", name := "<init>", desc := "()V" } : Jvm.MethodName) "TideKeep") ∈ lw_tbl := lw_at lw_m4 154 rfl
theorem q962 : (Jvm.Cond.fieldLink "TideKeep$SeaReader" (20 : Nat) "TideKeep$SeaReader" "made" "LTideKeep$Sea;") ∈ lw_all := lw_g (lw_at lw_m4 155 rfl) rfl
theorem q963 : (Jvm.Cond.fieldLink "TideKeep$SeaReader" (3 : Nat) "TideKeep$SeaReader" "this$0" "LTideKeep;") ∈ lw_all := lw_g (lw_at lw_m4 156 rfl) rfl
theorem q964 : (Jvm.Cond.laysFinal "TideKeep$SeaReader" "TideKeep$SeaReader" "made" "LTideKeep$Sea;") ∈ lw_all := lw_g (lw_at lw_m4 157 rfl) rfl
theorem q965 : (Jvm.Cond.soleField "TideKeep$SeaReader" "made") ∈ lw_all := lw_g (lw_at lw_m4 158 rfl) rfl
theorem q966 : (Jvm.Cond.laysFinal "TideKeep$SeaReader" "TideKeep$SeaReader" "this$0" "LTideKeep;") ∈ lw_all := lw_g (lw_at lw_m4 159 rfl) rfl
theorem q967 : (Jvm.Cond.soleField "TideKeep$SeaReader" "this$0") ∈ lw_all := lw_g (lw_at lw_m4 160 rfl) rfl
theorem q968 : (Jvm.Cond.laysFinal "TideKeep$SeaReader" "TideKeep$Reader" "size" "I") ∈ lw_all := lw_g (lw_at lw_m4 161 rfl) rfl
theorem q969 : (Jvm.Cond.lays "TideKeep$SeaReader" "TideKeep$Reader" "sort" "I") ∈ lw_all := lw_g (lw_at lw_m4 162 rfl) rfl
theorem q970 : (Jvm.Cond.lays "TideKeep$SeaReader" "TideKeep$Reader" "at" "I") ∈ lw_all := lw_g (lw_at lw_m4 163 rfl) rfl
theorem q971 : (Jvm.Cond.lays "TideKeep$SeaReader" "TideKeep$Reader" "to" "I") ∈ lw_all := lw_g (lw_at lw_m4 164 rfl) rfl
theorem q972 : (Jvm.Cond.lays "TideKeep$SeaReader" "TideKeep$Reader" "value" "I") ∈ lw_all := lw_g (lw_at lw_m4 165 rfl) rfl
theorem q973 : (Jvm.Cond.lays "TideKeep$SeaReader" "TideKeep$Reader" "told" "I") ∈ lw_all := lw_g (lw_at lw_m4 166 rfl) rfl
theorem q974 : (Jvm.Cond.laysFinal "TideKeep$SeaReader" "TideKeep$Reader" "this$0" "LTideKeep;") ∈ lw_all := lw_g (lw_at lw_m4 167 rfl) rfl
theorem q975 : (Jvm.Cond.superclass "TideKeep$SeaReader" "TideKeep$Reader") ∈ lw_all := lw_g (lw_at lw_m4 168 rfl) rfl
theorem q977 : (Jvm.Cond.instanceMethod ({ cls := "TideKeep$SeaReader", name := "read", desc := "()LTideKeep$Sea;" } : Jvm.MethodName)) ∈ lw_all := lw_g (lw_at lw_m4 170 rfl) rfl
theorem q978 : (Jvm.Cond.selects "TideKeep$SeaReader" ({ cls := "TideKeep$SeaReader", name := "read", desc := "()LTideKeep$Sea;" } : Jvm.MethodName) ({ cls := "TideKeep$SeaReader", name := "read", desc := "()LTideKeep$Sea;" } : Jvm.MethodName)) ∈ lw_all := lw_g (lw_at lw_m4 171 rfl) rfl
theorem q979 : (Jvm.Cond.code ({ cls := "TideKeep$SeaReader", name := "read", desc := "()LTideKeep$Sea;" } : Jvm.MethodName) prog_10_method_2_code (1 : Nat) (Option.some (Jvm.ClassFile.FieldType.object "TideKeep$Sea"))) ∈ lw_all := lw_g (lw_at lw_m4 172 rfl) rfl
theorem q980 : (Jvm.Cond.methodLink "TideKeep$SeaReader" (24 : Nat) ({ cls := "TideKeep$SeaReader", name := "all", desc := "()I" } : Jvm.MethodName)) ∈ lw_all := lw_g (lw_at lw_m4 173 rfl) rfl
theorem q981 : (Jvm.Cond.sameMethod "TideKeep$SeaReader" "TideKeep$Reader" "all" "()I") ∈ lw_all := lw_g (lw_at lw_m4 174 rfl) rfl
theorem q982 : (Jvm.Cond.selects "TideKeep$SeaReader" ({ cls := "TideKeep$SeaReader", name := "all", desc := "()I" } : Jvm.MethodName) ({ cls := "TideKeep$Reader", name := "all", desc := "()I" } : Jvm.MethodName)) ∈ lw_all := lw_g (lw_at lw_m4 175 rfl) rfl
theorem q1999 : (Jvm.Cond.selects "TideKeep$SeaReader" ({ cls := "TideKeep$Reader", name := "is", desc := "(Ljava/lang/String;)Z" } : Jvm.MethodName) ({ cls := "TideKeep$Reader", name := "is", desc := "(Ljava/lang/String;)Z" } : Jvm.MethodName)) ∈ lw_all := lw_g (lw_at lw_m8 232 rfl) rfl
theorem q2003 : (Jvm.Cond.selects "TideKeep$SeaReader" ({ cls := "TideKeep$Reader", name := "ask", desc := "(ZI)V" } : Jvm.MethodName) ({ cls := "TideKeep$Reader", name := "ask", desc := "(ZI)V" } : Jvm.MethodName)) ∈ lw_all := lw_g (lw_at lw_m8 236 rfl) rfl
theorem q2014 : (Jvm.Cond.castable "TideKeep$SeaReader" "java/lang/Object") ∈ lw_tbl := lw_at lw_m9 7 rfl
theorem in_X12 : ∀ w ∈ wsX120, w ∈ lw_all := lw_in wsX120 [968, 969, 970, 971, 972, 973, 974, 964, 966] (by decide +kernel) (by decide +kernel)

/-! TideKeep$PlanReader -/
set_option maxRecDepth 100000
def RX13 : String := "TideKeep$PlanReader"
def TX13 : u_T := fun k => match k with
  | 0 => ("TideKeep$Reader", "size", "I", true)
  | 1 => ("TideKeep$Reader", "sort", "I", false)
  | 2 => ("TideKeep$Reader", "at", "I", false)
  | 3 => ("TideKeep$Reader", "to", "I", false)
  | 4 => ("TideKeep$Reader", "value", "I", false)
  | 5 => ("TideKeep$Reader", "told", "I", false)
  | 6 => ("TideKeep$Reader", "this$0", "LTideKeep;", true)
  | 7 => ("TideKeep$PlanReader", "made", "LTideKeep$Plan;", true)
  | _ => ("TideKeep$PlanReader", "this$0", "LTideKeep;", true)
def tyX13 : Nat → FieldType := fun k => match k with
  | 0 => .int
  | 1 => .int
  | 2 => .int
  | 3 => .int
  | 4 => .int
  | 5 => .int
  | 6 => .object "TideKeep"
  | 7 => .object "TideKeep$Plan"
  | _ => .object "TideKeep"
abbrev wsX130 : List Cond := u_ws RX13 TX13 9
-- two fields of one name: no nmX13
theorem tyX13_ok : ∀ k, k < 9 → parseFieldDescriptor (TX13 k).2.2.1 = some (tyX13 k) := by decide +kernel
abbrev cX13_clause : ByteArray := prog_7_method_3_code
def yX13_clause : MethodName := ⟨RX13, "clause", "()V"⟩
def dkwX13_clause_5 : List UInt8 := [180, 0, 20, 180, 0, 38, 43, 182, 0, 63, 87, 177]
abbrev dktX13_clause_5 : List UInt8 := dkwX13_clause_5 ++ []
def dkwX13_clause_4 : List UInt8 := [182, 0, 34, 42, 182, 0, 47, 42, 43, 28, 182, 0, 59, 42, 182, 0, 53, 61, 167, 255, 214, 42]
abbrev dktX13_clause_4 : List UInt8 := dkwX13_clause_4 ++ dktX13_clause_5
def dkwX13_clause_3 : List UInt8 := [2, 159, 0, 43, 42, 43, 180, 0, 56, 182, 0, 42, 16, 8, 162, 0, 7, 4, 167, 0, 4, 3, 7]
abbrev dktX13_clause_3 : List UInt8 := dkwX13_clause_3 ++ dktX13_clause_4
def dkwX13_clause_2 : List UInt8 := [42, 42, 182, 0, 53, 2, 159, 0, 7, 4, 167, 0, 4, 3, 4, 182, 0, 34, 42, 182, 0, 53, 61, 28]
abbrev dktX13_clause_2 : List UInt8 := dkwX13_clause_2 ++ dktX13_clause_3
def dkwX13_clause_1 : List UInt8 := [162, 0, 7, 4, 167, 0, 4, 3, 7, 182, 0, 34, 42, 182, 0, 47, 187, 0, 50, 89, 183, 0, 52, 76]
abbrev dktX13_clause_1 : List UInt8 := dkwX13_clause_1 ++ dktX13_clause_2
def dkwX13_clause_0 : List UInt8 := [42, 42, 18, 28, 182, 0, 30, 4, 182, 0, 34, 42, 42, 180, 0, 20, 180, 0, 38, 182, 0, 42, 7]
abbrev dktX13_clause_0 : List UInt8 := dkwX13_clause_0 ++ dktX13_clause_1
theorem dksX13_clause_0 : cX13_clause.data.toList.drop 0 = dktX13_clause_0 := by decide +kernel
theorem dksX13_clause_1 : cX13_clause.data.toList.drop 23 = dktX13_clause_1 := dk_seg dksX13_clause_0 23 rfl rfl
theorem dksX13_clause_2 : cX13_clause.data.toList.drop 47 = dktX13_clause_2 := dk_seg dksX13_clause_1 24 rfl rfl
theorem dksX13_clause_3 : cX13_clause.data.toList.drop 71 = dktX13_clause_3 := dk_seg dksX13_clause_2 24 rfl rfl
theorem dksX13_clause_4 : cX13_clause.data.toList.drop 94 = dktX13_clause_4 := dk_seg dksX13_clause_3 23 rfl rfl
theorem dksX13_clause_5 : cX13_clause.data.toList.drop 116 = dktX13_clause_5 := dk_seg dksX13_clause_4 22 rfl rfl
theorem dX13_clause_0 : decode cX13_clause 0 = .ok (.aload_n 0, 1) := dk_42 (dk_at dksX13_clause_0 0 rfl rfl)
theorem dX13_clause_1 : decode cX13_clause 1 = .ok (.aload_n 0, 1) := dk_42 (dk_at dksX13_clause_0 1 rfl rfl)
theorem dX13_clause_2 : decode cX13_clause 2 = .ok (.ldc 28, 2) := dk_18 28 (dk_at dksX13_clause_0 2 rfl rfl)
theorem dX13_clause_4 : decode cX13_clause 4 = .ok (.invokevirtual 30, 3) := dk_182 0 30 (dk_at dksX13_clause_0 4 rfl rfl)
theorem dX13_clause_7 : decode cX13_clause 7 = .ok (.iconst 1, 1) := dk_4 (dk_at dksX13_clause_0 7 rfl rfl)
theorem dX13_clause_8 : decode cX13_clause 8 = .ok (.invokevirtual 34, 3) := dk_182 0 34 (dk_at dksX13_clause_0 8 rfl rfl)
theorem dX13_clause_11 : decode cX13_clause 11 = .ok (.aload_n 0, 1) := dk_42 (dk_at dksX13_clause_0 11 rfl rfl)
theorem dX13_clause_12 : decode cX13_clause 12 = .ok (.aload_n 0, 1) := dk_42 (dk_at dksX13_clause_0 12 rfl rfl)
theorem dX13_clause_13 : decode cX13_clause 13 = .ok (.getfield 20, 3) := dk_180 0 20 (dk_at dksX13_clause_0 13 rfl rfl)
theorem dX13_clause_16 : decode cX13_clause 16 = .ok (.getfield 38, 3) := dk_180 0 38 (dk_at dksX13_clause_0 16 rfl rfl)
theorem dX13_clause_19 : decode cX13_clause 19 = .ok (.invokevirtual 42, 3) := dk_182 0 42 (dk_at dksX13_clause_0 19 rfl rfl)
theorem dX13_clause_22 : decode cX13_clause 22 = .ok (.iconst 4, 1) := dk_7 (dk_at dksX13_clause_0 22 rfl rfl)
theorem dX13_clause_23 : decode cX13_clause 23 = .ok (.if_icmp .ge 7, 3) := dk_162 0 7 (dk_at dksX13_clause_1 0 rfl rfl)
theorem dX13_clause_26 : decode cX13_clause 26 = .ok (.iconst 1, 1) := dk_4 (dk_at dksX13_clause_1 3 rfl rfl)
theorem dX13_clause_27 : decode cX13_clause 27 = .ok (.goto 4, 3) := dk_167 0 4 (dk_at dksX13_clause_1 4 rfl rfl)
theorem dX13_clause_30 : decode cX13_clause 30 = .ok (.iconst 0, 1) := dk_3 (dk_at dksX13_clause_1 7 rfl rfl)
theorem dX13_clause_31 : decode cX13_clause 31 = .ok (.iconst 4, 1) := dk_7 (dk_at dksX13_clause_1 8 rfl rfl)
theorem dX13_clause_32 : decode cX13_clause 32 = .ok (.invokevirtual 34, 3) := dk_182 0 34 (dk_at dksX13_clause_1 9 rfl rfl)
theorem dX13_clause_35 : decode cX13_clause 35 = .ok (.aload_n 0, 1) := dk_42 (dk_at dksX13_clause_1 12 rfl rfl)
theorem dX13_clause_36 : decode cX13_clause 36 = .ok (.invokevirtual 47, 3) := dk_182 0 47 (dk_at dksX13_clause_1 13 rfl rfl)
theorem dX13_clause_39 : decode cX13_clause 39 = .ok (.new 50, 3) := dk_187 0 50 (dk_at dksX13_clause_1 16 rfl rfl)
theorem dX13_clause_42 : decode cX13_clause 42 = .ok (.dup, 1) := dk_89 (dk_at dksX13_clause_1 19 rfl rfl)
theorem dX13_clause_43 : decode cX13_clause 43 = .ok (.invokespecial 52, 3) := dk_183 0 52 (dk_at dksX13_clause_1 20 rfl rfl)
theorem dX13_clause_46 : decode cX13_clause 46 = .ok (.astore_n 1, 1) := dk_76 (dk_at dksX13_clause_1 23 rfl rfl)
theorem dX13_clause_47 : decode cX13_clause 47 = .ok (.aload_n 0, 1) := dk_42 (dk_at dksX13_clause_2 0 rfl rfl)
theorem dX13_clause_48 : decode cX13_clause 48 = .ok (.aload_n 0, 1) := dk_42 (dk_at dksX13_clause_2 1 rfl rfl)
theorem dX13_clause_49 : decode cX13_clause 49 = .ok (.invokevirtual 53, 3) := dk_182 0 53 (dk_at dksX13_clause_2 2 rfl rfl)
theorem dX13_clause_52 : decode cX13_clause 52 = .ok (.iconst (-1), 1) := dk_2 (dk_at dksX13_clause_2 5 rfl rfl)
theorem dX13_clause_53 : decode cX13_clause 53 = .ok (.if_icmp .eq 7, 3) := dk_159 0 7 (dk_at dksX13_clause_2 6 rfl rfl)
theorem dX13_clause_56 : decode cX13_clause 56 = .ok (.iconst 1, 1) := dk_4 (dk_at dksX13_clause_2 9 rfl rfl)
theorem dX13_clause_57 : decode cX13_clause 57 = .ok (.goto 4, 3) := dk_167 0 4 (dk_at dksX13_clause_2 10 rfl rfl)
theorem dX13_clause_60 : decode cX13_clause 60 = .ok (.iconst 0, 1) := dk_3 (dk_at dksX13_clause_2 13 rfl rfl)
theorem dX13_clause_61 : decode cX13_clause 61 = .ok (.iconst 1, 1) := dk_4 (dk_at dksX13_clause_2 14 rfl rfl)
theorem dX13_clause_62 : decode cX13_clause 62 = .ok (.invokevirtual 34, 3) := dk_182 0 34 (dk_at dksX13_clause_2 15 rfl rfl)
theorem dX13_clause_65 : decode cX13_clause 65 = .ok (.aload_n 0, 1) := dk_42 (dk_at dksX13_clause_2 18 rfl rfl)
theorem dX13_clause_66 : decode cX13_clause 66 = .ok (.invokevirtual 53, 3) := dk_182 0 53 (dk_at dksX13_clause_2 19 rfl rfl)
theorem dX13_clause_69 : decode cX13_clause 69 = .ok (.istore_n 2, 1) := dk_61 (dk_at dksX13_clause_2 22 rfl rfl)
theorem dX13_clause_70 : decode cX13_clause 70 = .ok (.iload_n 2, 1) := dk_28 (dk_at dksX13_clause_2 23 rfl rfl)
theorem dX13_clause_71 : decode cX13_clause 71 = .ok (.iconst (-1), 1) := dk_2 (dk_at dksX13_clause_3 0 rfl rfl)
theorem dX13_clause_72 : decode cX13_clause 72 = .ok (.if_icmp .eq 43, 3) := dk_159 0 43 (dk_at dksX13_clause_3 1 rfl rfl)
theorem dX13_clause_75 : decode cX13_clause 75 = .ok (.aload_n 0, 1) := dk_42 (dk_at dksX13_clause_3 4 rfl rfl)
theorem dX13_clause_76 : decode cX13_clause 76 = .ok (.aload_n 1, 1) := dk_43 (dk_at dksX13_clause_3 5 rfl rfl)
theorem dX13_clause_77 : decode cX13_clause 77 = .ok (.getfield 56, 3) := dk_180 0 56 (dk_at dksX13_clause_3 6 rfl rfl)
theorem dX13_clause_80 : decode cX13_clause 80 = .ok (.invokevirtual 42, 3) := dk_182 0 42 (dk_at dksX13_clause_3 9 rfl rfl)
theorem dX13_clause_83 : decode cX13_clause 83 = .ok (.bipush 8, 2) := dk_16 8 (dk_at dksX13_clause_3 12 rfl rfl)
theorem dX13_clause_85 : decode cX13_clause 85 = .ok (.if_icmp .ge 7, 3) := dk_162 0 7 (dk_at dksX13_clause_3 14 rfl rfl)
theorem dX13_clause_88 : decode cX13_clause 88 = .ok (.iconst 1, 1) := dk_4 (dk_at dksX13_clause_3 17 rfl rfl)
theorem dX13_clause_89 : decode cX13_clause 89 = .ok (.goto 4, 3) := dk_167 0 4 (dk_at dksX13_clause_3 18 rfl rfl)
theorem dX13_clause_92 : decode cX13_clause 92 = .ok (.iconst 0, 1) := dk_3 (dk_at dksX13_clause_3 21 rfl rfl)
theorem dX13_clause_93 : decode cX13_clause 93 = .ok (.iconst 4, 1) := dk_7 (dk_at dksX13_clause_3 22 rfl rfl)
theorem dX13_clause_94 : decode cX13_clause 94 = .ok (.invokevirtual 34, 3) := dk_182 0 34 (dk_at dksX13_clause_4 0 rfl rfl)
theorem dX13_clause_97 : decode cX13_clause 97 = .ok (.aload_n 0, 1) := dk_42 (dk_at dksX13_clause_4 3 rfl rfl)
theorem dX13_clause_98 : decode cX13_clause 98 = .ok (.invokevirtual 47, 3) := dk_182 0 47 (dk_at dksX13_clause_4 4 rfl rfl)
theorem dX13_clause_101 : decode cX13_clause 101 = .ok (.aload_n 0, 1) := dk_42 (dk_at dksX13_clause_4 7 rfl rfl)
theorem dX13_clause_102 : decode cX13_clause 102 = .ok (.aload_n 1, 1) := dk_43 (dk_at dksX13_clause_4 8 rfl rfl)
theorem dX13_clause_103 : decode cX13_clause 103 = .ok (.iload_n 2, 1) := dk_28 (dk_at dksX13_clause_4 9 rfl rfl)
theorem dX13_clause_104 : decode cX13_clause 104 = .ok (.invokevirtual 59, 3) := dk_182 0 59 (dk_at dksX13_clause_4 10 rfl rfl)
theorem dX13_clause_107 : decode cX13_clause 107 = .ok (.aload_n 0, 1) := dk_42 (dk_at dksX13_clause_4 13 rfl rfl)
theorem dX13_clause_108 : decode cX13_clause 108 = .ok (.invokevirtual 53, 3) := dk_182 0 53 (dk_at dksX13_clause_4 14 rfl rfl)
theorem dX13_clause_111 : decode cX13_clause 111 = .ok (.istore_n 2, 1) := dk_61 (dk_at dksX13_clause_4 17 rfl rfl)
theorem dX13_clause_112 : decode cX13_clause 112 = .ok (.goto (-42), 3) := dk_167 255 214 (dk_at dksX13_clause_4 18 rfl rfl)
theorem dX13_clause_115 : decode cX13_clause 115 = .ok (.aload_n 0, 1) := dk_42 (dk_at dksX13_clause_4 21 rfl rfl)
theorem dX13_clause_116 : decode cX13_clause 116 = .ok (.getfield 20, 3) := dk_180 0 20 (dk_at dksX13_clause_5 0 rfl rfl)
theorem dX13_clause_119 : decode cX13_clause 119 = .ok (.getfield 38, 3) := dk_180 0 38 (dk_at dksX13_clause_5 3 rfl rfl)
theorem dX13_clause_122 : decode cX13_clause 122 = .ok (.aload_n 1, 1) := dk_43 (dk_at dksX13_clause_5 6 rfl rfl)
theorem dX13_clause_123 : decode cX13_clause 123 = .ok (.invokevirtual 63, 3) := dk_182 0 63 (dk_at dksX13_clause_5 7 rfl rfl)
theorem dX13_clause_126 : decode cX13_clause 126 = .ok (.pop, 1) := dk_87 (dk_at dksX13_clause_5 10 rfl rfl)
theorem dX13_clause_127 : decode cX13_clause 127 = .ok (.return_, 1) := dk_177 (dk_at dksX13_clause_5 11 rfl rfl)
abbrev cX13_kindHere : ByteArray := prog_7_method_4_code
def yX13_kindHere : MethodName := ⟨RX13, "kindHere", "()I"⟩
def dkwX13_kindHere_2 : List UInt8 := [153, 0, 7, 6, 167, 0, 17, 42, 18, 75, 182, 0, 30, 153, 0, 7, 7, 167, 0, 4, 2, 172]
abbrev dktX13_kindHere_2 : List UInt8 := dkwX13_kindHere_2 ++ []
def dkwX13_kindHere_1 : List UInt8 := [167, 0, 43, 42, 18, 71, 182, 0, 30, 153, 0, 7, 5, 167, 0, 30, 42, 18, 73, 182, 0, 30]
abbrev dktX13_kindHere_1 : List UInt8 := dkwX13_kindHere_1 ++ dktX13_kindHere_2
def dkwX13_kindHere_0 : List UInt8 := [42, 18, 67, 182, 0, 30, 153, 0, 7, 3, 167, 0, 56, 42, 18, 69, 182, 0, 30, 153, 0, 7, 4]
abbrev dktX13_kindHere_0 : List UInt8 := dkwX13_kindHere_0 ++ dktX13_kindHere_1
theorem dksX13_kindHere_0 : cX13_kindHere.data.toList.drop 0 = dktX13_kindHere_0 := by decide +kernel
theorem dksX13_kindHere_1 : cX13_kindHere.data.toList.drop 23 = dktX13_kindHere_1 := dk_seg dksX13_kindHere_0 23 rfl rfl
theorem dksX13_kindHere_2 : cX13_kindHere.data.toList.drop 45 = dktX13_kindHere_2 := dk_seg dksX13_kindHere_1 22 rfl rfl
theorem dX13_kindHere_0 : decode cX13_kindHere 0 = .ok (.aload_n 0, 1) := dk_42 (dk_at dksX13_kindHere_0 0 rfl rfl)
theorem dX13_kindHere_1 : decode cX13_kindHere 1 = .ok (.ldc 67, 2) := dk_18 67 (dk_at dksX13_kindHere_0 1 rfl rfl)
theorem dX13_kindHere_3 : decode cX13_kindHere 3 = .ok (.invokevirtual 30, 3) := dk_182 0 30 (dk_at dksX13_kindHere_0 3 rfl rfl)
theorem dX13_kindHere_6 : decode cX13_kindHere 6 = .ok (.ifCond .eq 7, 3) := dk_153 0 7 (dk_at dksX13_kindHere_0 6 rfl rfl)
theorem dX13_kindHere_9 : decode cX13_kindHere 9 = .ok (.iconst 0, 1) := dk_3 (dk_at dksX13_kindHere_0 9 rfl rfl)
theorem dX13_kindHere_10 : decode cX13_kindHere 10 = .ok (.goto 56, 3) := dk_167 0 56 (dk_at dksX13_kindHere_0 10 rfl rfl)
theorem dX13_kindHere_13 : decode cX13_kindHere 13 = .ok (.aload_n 0, 1) := dk_42 (dk_at dksX13_kindHere_0 13 rfl rfl)
theorem dX13_kindHere_14 : decode cX13_kindHere 14 = .ok (.ldc 69, 2) := dk_18 69 (dk_at dksX13_kindHere_0 14 rfl rfl)
theorem dX13_kindHere_16 : decode cX13_kindHere 16 = .ok (.invokevirtual 30, 3) := dk_182 0 30 (dk_at dksX13_kindHere_0 16 rfl rfl)
theorem dX13_kindHere_19 : decode cX13_kindHere 19 = .ok (.ifCond .eq 7, 3) := dk_153 0 7 (dk_at dksX13_kindHere_0 19 rfl rfl)
theorem dX13_kindHere_22 : decode cX13_kindHere 22 = .ok (.iconst 1, 1) := dk_4 (dk_at dksX13_kindHere_0 22 rfl rfl)
theorem dX13_kindHere_23 : decode cX13_kindHere 23 = .ok (.goto 43, 3) := dk_167 0 43 (dk_at dksX13_kindHere_1 0 rfl rfl)
theorem dX13_kindHere_26 : decode cX13_kindHere 26 = .ok (.aload_n 0, 1) := dk_42 (dk_at dksX13_kindHere_1 3 rfl rfl)
theorem dX13_kindHere_27 : decode cX13_kindHere 27 = .ok (.ldc 71, 2) := dk_18 71 (dk_at dksX13_kindHere_1 4 rfl rfl)
theorem dX13_kindHere_29 : decode cX13_kindHere 29 = .ok (.invokevirtual 30, 3) := dk_182 0 30 (dk_at dksX13_kindHere_1 6 rfl rfl)
theorem dX13_kindHere_32 : decode cX13_kindHere 32 = .ok (.ifCond .eq 7, 3) := dk_153 0 7 (dk_at dksX13_kindHere_1 9 rfl rfl)
theorem dX13_kindHere_35 : decode cX13_kindHere 35 = .ok (.iconst 2, 1) := dk_5 (dk_at dksX13_kindHere_1 12 rfl rfl)
theorem dX13_kindHere_36 : decode cX13_kindHere 36 = .ok (.goto 30, 3) := dk_167 0 30 (dk_at dksX13_kindHere_1 13 rfl rfl)
theorem dX13_kindHere_39 : decode cX13_kindHere 39 = .ok (.aload_n 0, 1) := dk_42 (dk_at dksX13_kindHere_1 16 rfl rfl)
theorem dX13_kindHere_40 : decode cX13_kindHere 40 = .ok (.ldc 73, 2) := dk_18 73 (dk_at dksX13_kindHere_1 17 rfl rfl)
theorem dX13_kindHere_42 : decode cX13_kindHere 42 = .ok (.invokevirtual 30, 3) := dk_182 0 30 (dk_at dksX13_kindHere_1 19 rfl rfl)
theorem dX13_kindHere_45 : decode cX13_kindHere 45 = .ok (.ifCond .eq 7, 3) := dk_153 0 7 (dk_at dksX13_kindHere_2 0 rfl rfl)
theorem dX13_kindHere_48 : decode cX13_kindHere 48 = .ok (.iconst 3, 1) := dk_6 (dk_at dksX13_kindHere_2 3 rfl rfl)
theorem dX13_kindHere_49 : decode cX13_kindHere 49 = .ok (.goto 17, 3) := dk_167 0 17 (dk_at dksX13_kindHere_2 4 rfl rfl)
theorem dX13_kindHere_52 : decode cX13_kindHere 52 = .ok (.aload_n 0, 1) := dk_42 (dk_at dksX13_kindHere_2 7 rfl rfl)
theorem dX13_kindHere_53 : decode cX13_kindHere 53 = .ok (.ldc 75, 2) := dk_18 75 (dk_at dksX13_kindHere_2 8 rfl rfl)
theorem dX13_kindHere_55 : decode cX13_kindHere 55 = .ok (.invokevirtual 30, 3) := dk_182 0 30 (dk_at dksX13_kindHere_2 10 rfl rfl)
theorem dX13_kindHere_58 : decode cX13_kindHere 58 = .ok (.ifCond .eq 7, 3) := dk_153 0 7 (dk_at dksX13_kindHere_2 13 rfl rfl)
theorem dX13_kindHere_61 : decode cX13_kindHere 61 = .ok (.iconst 4, 1) := dk_7 (dk_at dksX13_kindHere_2 16 rfl rfl)
theorem dX13_kindHere_62 : decode cX13_kindHere 62 = .ok (.goto 4, 3) := dk_167 0 4 (dk_at dksX13_kindHere_2 17 rfl rfl)
theorem dX13_kindHere_65 : decode cX13_kindHere 65 = .ok (.iconst (-1), 1) := dk_2 (dk_at dksX13_kindHere_2 20 rfl rfl)
theorem dX13_kindHere_66 : decode cX13_kindHere 66 = .ok (.ireturn, 1) := dk_172 (dk_at dksX13_kindHere_2 21 rfl rfl)
abbrev cX13_act : ByteArray := prog_7_method_5_code
def yX13_act : MethodName := ⟨RX13, "act", "(LTideKeep$Hand;I)V"⟩
def dkwX13_act_7 : List UInt8 := [21, 5, 183, 0, 79, 182, 0, 63, 87, 177]
abbrev dktX13_act_7 : List UInt8 := dkwX13_act_7 ++ []
def dkwX13_act_6 : List UInt8 := [167, 0, 4, 3, 6, 182, 0, 34, 42, 182, 0, 47, 43, 180, 0, 56, 187, 0, 77, 89, 28, 21, 4]
abbrev dktX13_act_6 : List UInt8 := dkwX13_act_6 ++ dktX13_act_7
def dkwX13_act_5 : List UInt8 := [180, 0, 96, 4, 100, 182, 0, 99, 104, 29, 96, 54, 5, 42, 21, 5, 21, 4, 159, 0, 7, 4]
abbrev dktX13_act_5 : List UInt8 := dkwX13_act_5 ++ dktX13_act_6
def dkwX13_act_4 : List UInt8 := [100, 182, 0, 92, 62, 42, 180, 0, 3, 180, 0, 82, 180, 0, 86, 42, 3, 42, 180, 0, 3, 180, 0, 82]
abbrev dktX13_act_4 : List UInt8 := dkwX13_act_4 ++ dktX13_act_5
def dkwX13_act_3 : List UInt8 := [29, 96, 54, 4, 2, 54, 5, 28, 154, 0, 74, 42, 3, 42, 180, 0, 3, 180, 0, 82, 180, 0, 86, 4]
abbrev dktX13_act_3 : List UInt8 := dkwX13_act_3 ++ dktX13_act_4
def dkwX13_act_2 : List UInt8 := [180, 0, 82, 180, 0, 86, 42, 3, 42, 180, 0, 3, 180, 0, 82, 180, 0, 96, 4, 100, 182, 0, 92, 104]
abbrev dktX13_act_2 : List UInt8 := dkwX13_act_2 ++ dktX13_act_3
def dkwX13_act_1 : List UInt8 := [42, 3, 42, 180, 0, 3, 180, 0, 82, 180, 0, 86, 4, 100, 182, 0, 92, 62, 42, 180, 0, 3]
abbrev dktX13_act_1 : List UInt8 := dkwX13_act_1 ++ dktX13_act_2
def dkwX13_act_0 : List UInt8 := [28, 7, 160, 0, 22, 43, 180, 0, 56, 187, 0, 77, 89, 7, 2, 2, 183, 0, 79, 182, 0, 63, 87, 177]
abbrev dktX13_act_0 : List UInt8 := dkwX13_act_0 ++ dktX13_act_1
theorem dksX13_act_0 : cX13_act.data.toList.drop 0 = dktX13_act_0 := by decide +kernel
theorem dksX13_act_1 : cX13_act.data.toList.drop 24 = dktX13_act_1 := dk_seg dksX13_act_0 24 rfl rfl
theorem dksX13_act_2 : cX13_act.data.toList.drop 46 = dktX13_act_2 := dk_seg dksX13_act_1 22 rfl rfl
theorem dksX13_act_3 : cX13_act.data.toList.drop 70 = dktX13_act_3 := dk_seg dksX13_act_2 24 rfl rfl
theorem dksX13_act_4 : cX13_act.data.toList.drop 94 = dktX13_act_4 := dk_seg dksX13_act_3 24 rfl rfl
theorem dksX13_act_5 : cX13_act.data.toList.drop 118 = dktX13_act_5 := dk_seg dksX13_act_4 24 rfl rfl
theorem dksX13_act_6 : cX13_act.data.toList.drop 140 = dktX13_act_6 := dk_seg dksX13_act_5 22 rfl rfl
theorem dksX13_act_7 : cX13_act.data.toList.drop 163 = dktX13_act_7 := dk_seg dksX13_act_6 23 rfl rfl
theorem dX13_act_0 : decode cX13_act 0 = .ok (.iload_n 2, 1) := dk_28 (dk_at dksX13_act_0 0 rfl rfl)
theorem dX13_act_1 : decode cX13_act 1 = .ok (.iconst 4, 1) := dk_7 (dk_at dksX13_act_0 1 rfl rfl)
theorem dX13_act_2 : decode cX13_act 2 = .ok (.if_icmp .ne 22, 3) := dk_160 0 22 (dk_at dksX13_act_0 2 rfl rfl)
theorem dX13_act_5 : decode cX13_act 5 = .ok (.aload_n 1, 1) := dk_43 (dk_at dksX13_act_0 5 rfl rfl)
theorem dX13_act_6 : decode cX13_act 6 = .ok (.getfield 56, 3) := dk_180 0 56 (dk_at dksX13_act_0 6 rfl rfl)
theorem dX13_act_9 : decode cX13_act 9 = .ok (.new 77, 3) := dk_187 0 77 (dk_at dksX13_act_0 9 rfl rfl)
theorem dX13_act_12 : decode cX13_act 12 = .ok (.dup, 1) := dk_89 (dk_at dksX13_act_0 12 rfl rfl)
theorem dX13_act_13 : decode cX13_act 13 = .ok (.iconst 4, 1) := dk_7 (dk_at dksX13_act_0 13 rfl rfl)
theorem dX13_act_14 : decode cX13_act 14 = .ok (.iconst (-1), 1) := dk_2 (dk_at dksX13_act_0 14 rfl rfl)
theorem dX13_act_15 : decode cX13_act 15 = .ok (.iconst (-1), 1) := dk_2 (dk_at dksX13_act_0 15 rfl rfl)
theorem dX13_act_16 : decode cX13_act 16 = .ok (.invokespecial 79, 3) := dk_183 0 79 (dk_at dksX13_act_0 16 rfl rfl)
theorem dX13_act_19 : decode cX13_act 19 = .ok (.invokevirtual 63, 3) := dk_182 0 63 (dk_at dksX13_act_0 19 rfl rfl)
theorem dX13_act_22 : decode cX13_act 22 = .ok (.pop, 1) := dk_87 (dk_at dksX13_act_0 22 rfl rfl)
theorem dX13_act_23 : decode cX13_act 23 = .ok (.return_, 1) := dk_177 (dk_at dksX13_act_0 23 rfl rfl)
theorem dX13_act_24 : decode cX13_act 24 = .ok (.aload_n 0, 1) := dk_42 (dk_at dksX13_act_1 0 rfl rfl)
theorem dX13_act_25 : decode cX13_act 25 = .ok (.iconst 0, 1) := dk_3 (dk_at dksX13_act_1 1 rfl rfl)
theorem dX13_act_26 : decode cX13_act 26 = .ok (.aload_n 0, 1) := dk_42 (dk_at dksX13_act_1 2 rfl rfl)
theorem dX13_act_27 : decode cX13_act 27 = .ok (.getfield 3, 3) := dk_180 0 3 (dk_at dksX13_act_1 3 rfl rfl)
theorem dX13_act_30 : decode cX13_act 30 = .ok (.getfield 82, 3) := dk_180 0 82 (dk_at dksX13_act_1 6 rfl rfl)
theorem dX13_act_33 : decode cX13_act 33 = .ok (.getfield 86, 3) := dk_180 0 86 (dk_at dksX13_act_1 9 rfl rfl)
theorem dX13_act_36 : decode cX13_act 36 = .ok (.iconst 1, 1) := dk_4 (dk_at dksX13_act_1 12 rfl rfl)
theorem dX13_act_37 : decode cX13_act 37 = .ok (.isub, 1) := dk_100 (dk_at dksX13_act_1 13 rfl rfl)
theorem dX13_act_38 : decode cX13_act 38 = .ok (.invokevirtual 92, 3) := dk_182 0 92 (dk_at dksX13_act_1 14 rfl rfl)
theorem dX13_act_41 : decode cX13_act 41 = .ok (.istore_n 3, 1) := dk_62 (dk_at dksX13_act_1 17 rfl rfl)
theorem dX13_act_42 : decode cX13_act 42 = .ok (.aload_n 0, 1) := dk_42 (dk_at dksX13_act_1 18 rfl rfl)
theorem dX13_act_43 : decode cX13_act 43 = .ok (.getfield 3, 3) := dk_180 0 3 (dk_at dksX13_act_1 19 rfl rfl)
theorem dX13_act_46 : decode cX13_act 46 = .ok (.getfield 82, 3) := dk_180 0 82 (dk_at dksX13_act_2 0 rfl rfl)
theorem dX13_act_49 : decode cX13_act 49 = .ok (.getfield 86, 3) := dk_180 0 86 (dk_at dksX13_act_2 3 rfl rfl)
theorem dX13_act_52 : decode cX13_act 52 = .ok (.aload_n 0, 1) := dk_42 (dk_at dksX13_act_2 6 rfl rfl)
theorem dX13_act_53 : decode cX13_act 53 = .ok (.iconst 0, 1) := dk_3 (dk_at dksX13_act_2 7 rfl rfl)
theorem dX13_act_54 : decode cX13_act 54 = .ok (.aload_n 0, 1) := dk_42 (dk_at dksX13_act_2 8 rfl rfl)
theorem dX13_act_55 : decode cX13_act 55 = .ok (.getfield 3, 3) := dk_180 0 3 (dk_at dksX13_act_2 9 rfl rfl)
theorem dX13_act_58 : decode cX13_act 58 = .ok (.getfield 82, 3) := dk_180 0 82 (dk_at dksX13_act_2 12 rfl rfl)
theorem dX13_act_61 : decode cX13_act 61 = .ok (.getfield 96, 3) := dk_180 0 96 (dk_at dksX13_act_2 15 rfl rfl)
theorem dX13_act_64 : decode cX13_act 64 = .ok (.iconst 1, 1) := dk_4 (dk_at dksX13_act_2 18 rfl rfl)
theorem dX13_act_65 : decode cX13_act 65 = .ok (.isub, 1) := dk_100 (dk_at dksX13_act_2 19 rfl rfl)
theorem dX13_act_66 : decode cX13_act 66 = .ok (.invokevirtual 92, 3) := dk_182 0 92 (dk_at dksX13_act_2 20 rfl rfl)
theorem dX13_act_69 : decode cX13_act 69 = .ok (.imul, 1) := dk_104 (dk_at dksX13_act_2 23 rfl rfl)
theorem dX13_act_70 : decode cX13_act 70 = .ok (.iload_n 3, 1) := dk_29 (dk_at dksX13_act_3 0 rfl rfl)
theorem dX13_act_71 : decode cX13_act 71 = .ok (.iadd, 1) := dk_96 (dk_at dksX13_act_3 1 rfl rfl)
theorem dX13_act_72 : decode cX13_act 72 = .ok (.istore 4, 2) := dk_54 4 (dk_at dksX13_act_3 2 rfl rfl)
theorem dX13_act_74 : decode cX13_act 74 = .ok (.iconst (-1), 1) := dk_2 (dk_at dksX13_act_3 4 rfl rfl)
theorem dX13_act_75 : decode cX13_act 75 = .ok (.istore 5, 2) := dk_54 5 (dk_at dksX13_act_3 5 rfl rfl)
theorem dX13_act_77 : decode cX13_act 77 = .ok (.iload_n 2, 1) := dk_28 (dk_at dksX13_act_3 7 rfl rfl)
theorem dX13_act_78 : decode cX13_act 78 = .ok (.ifCond .ne 74, 3) := dk_154 0 74 (dk_at dksX13_act_3 8 rfl rfl)
theorem dX13_act_81 : decode cX13_act 81 = .ok (.aload_n 0, 1) := dk_42 (dk_at dksX13_act_3 11 rfl rfl)
theorem dX13_act_82 : decode cX13_act 82 = .ok (.iconst 0, 1) := dk_3 (dk_at dksX13_act_3 12 rfl rfl)
theorem dX13_act_83 : decode cX13_act 83 = .ok (.aload_n 0, 1) := dk_42 (dk_at dksX13_act_3 13 rfl rfl)
theorem dX13_act_84 : decode cX13_act 84 = .ok (.getfield 3, 3) := dk_180 0 3 (dk_at dksX13_act_3 14 rfl rfl)
theorem dX13_act_87 : decode cX13_act 87 = .ok (.getfield 82, 3) := dk_180 0 82 (dk_at dksX13_act_3 17 rfl rfl)
theorem dX13_act_90 : decode cX13_act 90 = .ok (.getfield 86, 3) := dk_180 0 86 (dk_at dksX13_act_3 20 rfl rfl)
theorem dX13_act_93 : decode cX13_act 93 = .ok (.iconst 1, 1) := dk_4 (dk_at dksX13_act_3 23 rfl rfl)
theorem dX13_act_94 : decode cX13_act 94 = .ok (.isub, 1) := dk_100 (dk_at dksX13_act_4 0 rfl rfl)
theorem dX13_act_95 : decode cX13_act 95 = .ok (.invokevirtual 92, 3) := dk_182 0 92 (dk_at dksX13_act_4 1 rfl rfl)
theorem dX13_act_98 : decode cX13_act 98 = .ok (.istore_n 3, 1) := dk_62 (dk_at dksX13_act_4 4 rfl rfl)
theorem dX13_act_99 : decode cX13_act 99 = .ok (.aload_n 0, 1) := dk_42 (dk_at dksX13_act_4 5 rfl rfl)
theorem dX13_act_100 : decode cX13_act 100 = .ok (.getfield 3, 3) := dk_180 0 3 (dk_at dksX13_act_4 6 rfl rfl)
theorem dX13_act_103 : decode cX13_act 103 = .ok (.getfield 82, 3) := dk_180 0 82 (dk_at dksX13_act_4 9 rfl rfl)
theorem dX13_act_106 : decode cX13_act 106 = .ok (.getfield 86, 3) := dk_180 0 86 (dk_at dksX13_act_4 12 rfl rfl)
theorem dX13_act_109 : decode cX13_act 109 = .ok (.aload_n 0, 1) := dk_42 (dk_at dksX13_act_4 15 rfl rfl)
theorem dX13_act_110 : decode cX13_act 110 = .ok (.iconst 0, 1) := dk_3 (dk_at dksX13_act_4 16 rfl rfl)
theorem dX13_act_111 : decode cX13_act 111 = .ok (.aload_n 0, 1) := dk_42 (dk_at dksX13_act_4 17 rfl rfl)
theorem dX13_act_112 : decode cX13_act 112 = .ok (.getfield 3, 3) := dk_180 0 3 (dk_at dksX13_act_4 18 rfl rfl)
theorem dX13_act_115 : decode cX13_act 115 = .ok (.getfield 82, 3) := dk_180 0 82 (dk_at dksX13_act_4 21 rfl rfl)
theorem dX13_act_118 : decode cX13_act 118 = .ok (.getfield 96, 3) := dk_180 0 96 (dk_at dksX13_act_5 0 rfl rfl)
theorem dX13_act_121 : decode cX13_act 121 = .ok (.iconst 1, 1) := dk_4 (dk_at dksX13_act_5 3 rfl rfl)
theorem dX13_act_122 : decode cX13_act 122 = .ok (.isub, 1) := dk_100 (dk_at dksX13_act_5 4 rfl rfl)
theorem dX13_act_123 : decode cX13_act 123 = .ok (.invokevirtual 99, 3) := dk_182 0 99 (dk_at dksX13_act_5 5 rfl rfl)
theorem dX13_act_126 : decode cX13_act 126 = .ok (.imul, 1) := dk_104 (dk_at dksX13_act_5 8 rfl rfl)
theorem dX13_act_127 : decode cX13_act 127 = .ok (.iload_n 3, 1) := dk_29 (dk_at dksX13_act_5 9 rfl rfl)
theorem dX13_act_128 : decode cX13_act 128 = .ok (.iadd, 1) := dk_96 (dk_at dksX13_act_5 10 rfl rfl)
theorem dX13_act_129 : decode cX13_act 129 = .ok (.istore 5, 2) := dk_54 5 (dk_at dksX13_act_5 11 rfl rfl)
theorem dX13_act_131 : decode cX13_act 131 = .ok (.aload_n 0, 1) := dk_42 (dk_at dksX13_act_5 13 rfl rfl)
theorem dX13_act_132 : decode cX13_act 132 = .ok (.iload 5, 2) := dk_21 5 (dk_at dksX13_act_5 14 rfl rfl)
theorem dX13_act_134 : decode cX13_act 134 = .ok (.iload 4, 2) := dk_21 4 (dk_at dksX13_act_5 16 rfl rfl)
theorem dX13_act_136 : decode cX13_act 136 = .ok (.if_icmp .eq 7, 3) := dk_159 0 7 (dk_at dksX13_act_5 18 rfl rfl)
theorem dX13_act_139 : decode cX13_act 139 = .ok (.iconst 1, 1) := dk_4 (dk_at dksX13_act_5 21 rfl rfl)
theorem dX13_act_140 : decode cX13_act 140 = .ok (.goto 4, 3) := dk_167 0 4 (dk_at dksX13_act_6 0 rfl rfl)
theorem dX13_act_143 : decode cX13_act 143 = .ok (.iconst 0, 1) := dk_3 (dk_at dksX13_act_6 3 rfl rfl)
theorem dX13_act_144 : decode cX13_act 144 = .ok (.iconst 3, 1) := dk_6 (dk_at dksX13_act_6 4 rfl rfl)
theorem dX13_act_145 : decode cX13_act 145 = .ok (.invokevirtual 34, 3) := dk_182 0 34 (dk_at dksX13_act_6 5 rfl rfl)
theorem dX13_act_148 : decode cX13_act 148 = .ok (.aload_n 0, 1) := dk_42 (dk_at dksX13_act_6 8 rfl rfl)
theorem dX13_act_149 : decode cX13_act 149 = .ok (.invokevirtual 47, 3) := dk_182 0 47 (dk_at dksX13_act_6 9 rfl rfl)
theorem dX13_act_152 : decode cX13_act 152 = .ok (.aload_n 1, 1) := dk_43 (dk_at dksX13_act_6 12 rfl rfl)
theorem dX13_act_153 : decode cX13_act 153 = .ok (.getfield 56, 3) := dk_180 0 56 (dk_at dksX13_act_6 13 rfl rfl)
theorem dX13_act_156 : decode cX13_act 156 = .ok (.new 77, 3) := dk_187 0 77 (dk_at dksX13_act_6 16 rfl rfl)
theorem dX13_act_159 : decode cX13_act 159 = .ok (.dup, 1) := dk_89 (dk_at dksX13_act_6 19 rfl rfl)
theorem dX13_act_160 : decode cX13_act 160 = .ok (.iload_n 2, 1) := dk_28 (dk_at dksX13_act_6 20 rfl rfl)
theorem dX13_act_161 : decode cX13_act 161 = .ok (.iload 4, 2) := dk_21 4 (dk_at dksX13_act_6 21 rfl rfl)
theorem dX13_act_163 : decode cX13_act 163 = .ok (.iload 5, 2) := dk_21 5 (dk_at dksX13_act_7 0 rfl rfl)
theorem dX13_act_165 : decode cX13_act 165 = .ok (.invokespecial 79, 3) := dk_183 0 79 (dk_at dksX13_act_7 2 rfl rfl)
theorem dX13_act_168 : decode cX13_act 168 = .ok (.invokevirtual 63, 3) := dk_182 0 63 (dk_at dksX13_act_7 5 rfl rfl)
theorem dX13_act_171 : decode cX13_act 171 = .ok (.pop, 1) := dk_87 (dk_at dksX13_act_7 8 rfl rfl)
theorem dX13_act_172 : decode cX13_act 172 = .ok (.return_, 1) := dk_177 (dk_at dksX13_act_7 9 rfl rfl)
abbrev cX13_init : ByteArray := prog_7_method_1_code
def yX13_init : MethodName := ⟨RX13, "<init>", "(LTideKeep;I)V"⟩
def dkwX13_init_0 : List UInt8 := [42, 43, 181, 0, 3, 42, 43, 28, 183, 0, 9, 42, 187, 0, 15, 89, 183, 0, 17, 181, 0, 20, 177]
abbrev dktX13_init_0 : List UInt8 := dkwX13_init_0 ++ []
theorem dksX13_init_0 : cX13_init.data.toList.drop 0 = dktX13_init_0 := by decide +kernel
theorem dX13_init_0 : decode cX13_init 0 = .ok (.aload_n 0, 1) := dk_42 (dk_at dksX13_init_0 0 rfl rfl)
theorem dX13_init_1 : decode cX13_init 1 = .ok (.aload_n 1, 1) := dk_43 (dk_at dksX13_init_0 1 rfl rfl)
theorem dX13_init_2 : decode cX13_init 2 = .ok (.putfield 3, 3) := dk_181 0 3 (dk_at dksX13_init_0 2 rfl rfl)
theorem dX13_init_5 : decode cX13_init 5 = .ok (.aload_n 0, 1) := dk_42 (dk_at dksX13_init_0 5 rfl rfl)
theorem dX13_init_6 : decode cX13_init 6 = .ok (.aload_n 1, 1) := dk_43 (dk_at dksX13_init_0 6 rfl rfl)
theorem dX13_init_7 : decode cX13_init 7 = .ok (.iload_n 2, 1) := dk_28 (dk_at dksX13_init_0 7 rfl rfl)
theorem dX13_init_8 : decode cX13_init 8 = .ok (.invokespecial 9, 3) := dk_183 0 9 (dk_at dksX13_init_0 8 rfl rfl)
theorem dX13_init_11 : decode cX13_init 11 = .ok (.aload_n 0, 1) := dk_42 (dk_at dksX13_init_0 11 rfl rfl)
theorem dX13_init_12 : decode cX13_init 12 = .ok (.new 15, 3) := dk_187 0 15 (dk_at dksX13_init_0 12 rfl rfl)
theorem dX13_init_15 : decode cX13_init 15 = .ok (.dup, 1) := dk_89 (dk_at dksX13_init_0 15 rfl rfl)
theorem dX13_init_16 : decode cX13_init 16 = .ok (.invokespecial 17, 3) := dk_183 0 17 (dk_at dksX13_init_0 16 rfl rfl)
theorem dX13_init_19 : decode cX13_init 19 = .ok (.putfield 20, 3) := dk_181 0 20 (dk_at dksX13_init_0 19 rfl rfl)
theorem dX13_init_22 : decode cX13_init 22 = .ok (.return_, 1) := dk_177 (dk_at dksX13_init_0 22 rfl rfl)
abbrev cX13_read : ByteArray := prog_7_method_2_code
def yX13_read : MethodName := ⟨RX13, "read", "()LTideKeep$Plan;"⟩
def dkwX13_read_0 : List UInt8 := [42, 182, 0, 24, 87, 42, 180, 0, 20, 176]
abbrev dktX13_read_0 : List UInt8 := dkwX13_read_0 ++ []
theorem dksX13_read_0 : cX13_read.data.toList.drop 0 = dktX13_read_0 := by decide +kernel
theorem dX13_read_0 : decode cX13_read 0 = .ok (.aload_n 0, 1) := dk_42 (dk_at dksX13_read_0 0 rfl rfl)
theorem dX13_read_1 : decode cX13_read 1 = .ok (.invokevirtual 24, 3) := dk_182 0 24 (dk_at dksX13_read_0 1 rfl rfl)
theorem dX13_read_4 : decode cX13_read 4 = .ok (.pop, 1) := dk_87 (dk_at dksX13_read_0 4 rfl rfl)
theorem dX13_read_5 : decode cX13_read 5 = .ok (.aload_n 0, 1) := dk_42 (dk_at dksX13_read_0 5 rfl rfl)
theorem dX13_read_6 : decode cX13_read 6 = .ok (.getfield 20, 3) := dk_180 0 20 (dk_at dksX13_read_0 6 rfl rfl)
theorem dX13_read_9 : decode cX13_read 9 = .ok (.areturn, 1) := dk_176 (dk_at dksX13_read_0 9 rfl rfl)
theorem q115 : (Jvm.Cond.initialized "TideKeep$PlanReader") ∈ lw_all := lw_g (lw_at lw_m1 28 rfl) rfl
theorem q219 : (Jvm.Cond.fieldLinkNest "TideKeep$PlanReader" (86 : Nat) "TideKeep$Beach" "columns" "I" "TideKeep") ∈ lw_tbl := lw_at lw_m1 132 rfl
theorem q224 : (Jvm.Cond.fieldLinkNest "TideKeep$PlanReader" (96 : Nat) "TideKeep$Beach" "rows" "I" "TideKeep") ∈ lw_tbl := lw_at lw_m1 137 rfl
theorem q458 : (Jvm.Cond.fieldLinkNest "TideKeep$PlanReader" (82 : Nat) "TideKeep" "beach" "LTideKeep$Beach;" "TideKeep") ∈ lw_tbl := lw_at lw_m2 131 rfl
theorem q568 : (Jvm.Cond.selects "TideKeep$PlanReader" ({ cls := "TideKeep$Reader", name := "goOn", desc := "()V" } : Jvm.MethodName) ({ cls := "TideKeep$Reader", name := "goOn", desc := "()V" } : Jvm.MethodName)) ∈ lw_all := lw_g (lw_at lw_m3 1 rfl) rfl
theorem q736 : (Jvm.Cond.selects "TideKeep$PlanReader" ({ cls := "TideKeep$Reader", name := "within", desc := "(II)I" } : Jvm.MethodName) ({ cls := "TideKeep$Reader", name := "within", desc := "(II)I" } : Jvm.MethodName)) ∈ lw_all := lw_g (lw_at lw_m3 169 rfl) rfl
theorem q758 : (Jvm.Cond.selects "TideKeep$PlanReader" ({ cls := "TideKeep$Reader", name := "clause", desc := "()V" } : Jvm.MethodName) ({ cls := "TideKeep$PlanReader", name := "clause", desc := "()V" } : Jvm.MethodName)) ∈ lw_all := lw_g (lw_at lw_m3 191 rfl) rfl
theorem q759 : (Jvm.Cond.instanceMethod ({ cls := "TideKeep$PlanReader", name := "clause", desc := "()V" } : Jvm.MethodName)) ∈ lw_all := lw_g (lw_at lw_m3 192 rfl) rfl
theorem q760 : (Jvm.Cond.code ({ cls := "TideKeep$PlanReader", name := "clause", desc := "()V" } : Jvm.MethodName) prog_7_method_3_code (3 : Nat) (Option.none : Option Jvm.ClassFile.FieldType)) ∈ lw_all := lw_g (lw_at lw_m3 193 rfl) rfl
theorem q761 : (Jvm.Cond.stringRef "TideKeep$PlanReader" (28 : Nat) "hand") ∈ lw_tbl := lw_at lw_m3 194 rfl
theorem q762 : (Jvm.Cond.methodLink "TideKeep$PlanReader" (30 : Nat) ({ cls := "TideKeep$PlanReader", name := "is", desc := "(Ljava/lang/String;)Z" } : Jvm.MethodName)) ∈ lw_all := lw_g (lw_at lw_m3 195 rfl) rfl
theorem q763 : (Jvm.Cond.sameMethod "TideKeep$PlanReader" "TideKeep$Reader" "is" "(Ljava/lang/String;)Z") ∈ lw_all := lw_g (lw_at lw_m3 196 rfl) rfl
theorem q764 : (Jvm.Cond.selects "TideKeep$PlanReader" ({ cls := "TideKeep$PlanReader", name := "is", desc := "(Ljava/lang/String;)Z" } : Jvm.MethodName) ({ cls := "TideKeep$Reader", name := "is", desc := "(Ljava/lang/String;)Z" } : Jvm.MethodName)) ∈ lw_all := lw_g (lw_at lw_m3 197 rfl) rfl
theorem q765 : (Jvm.Cond.methodLink "TideKeep$PlanReader" (34 : Nat) ({ cls := "TideKeep$PlanReader", name := "ask", desc := "(ZI)V" } : Jvm.MethodName)) ∈ lw_all := lw_g (lw_at lw_m3 198 rfl) rfl
theorem q766 : (Jvm.Cond.sameMethod "TideKeep$PlanReader" "TideKeep$Reader" "ask" "(ZI)V") ∈ lw_all := lw_g (lw_at lw_m3 199 rfl) rfl
theorem q767 : (Jvm.Cond.selects "TideKeep$PlanReader" ({ cls := "TideKeep$PlanReader", name := "ask", desc := "(ZI)V" } : Jvm.MethodName) ({ cls := "TideKeep$Reader", name := "ask", desc := "(ZI)V" } : Jvm.MethodName)) ∈ lw_all := lw_g (lw_at lw_m3 200 rfl) rfl
theorem q768 : (Jvm.Cond.methodLink "TideKeep$PlanReader" (42 : Nat) ({ cls := "java/util/ArrayList", name := "size", desc := "()I" } : Jvm.MethodName)) ∈ lw_all := lw_g (lw_at lw_m3 201 rfl) rfl
theorem q772 : (Jvm.Cond.methodLink "TideKeep$PlanReader" (47 : Nat) ({ cls := "TideKeep$PlanReader", name := "goOn", desc := "()V" } : Jvm.MethodName)) ∈ lw_all := lw_g (lw_at lw_m3 205 rfl) rfl
theorem q773 : (Jvm.Cond.sameMethod "TideKeep$PlanReader" "TideKeep$Reader" "goOn" "()V") ∈ lw_all := lw_g (lw_at lw_m3 206 rfl) rfl
theorem q774 : (Jvm.Cond.selects "TideKeep$PlanReader" ({ cls := "TideKeep$PlanReader", name := "goOn", desc := "()V" } : Jvm.MethodName) ({ cls := "TideKeep$Reader", name := "goOn", desc := "()V" } : Jvm.MethodName)) ∈ lw_all := lw_g (lw_at lw_m3 207 rfl) rfl
theorem q775 : (Jvm.Cond.classLink "TideKeep$PlanReader" (50 : Nat) "TideKeep$Hand") ∈ lw_all := lw_g (lw_at lw_m3 208 rfl) rfl
theorem q777 : (Jvm.Cond.methodLinkNest "TideKeep$PlanReader" (52 : Nat) ({ cls := "TideKeep$Hand", name := "<init>", desc := "()V" } : Jvm.MethodName) "TideKeep") ∈ lw_tbl := lw_at lw_m3 210 rfl
theorem q784 : (Jvm.Cond.fieldLinkNest "TideKeep$PlanReader" (56 : Nat) "TideKeep$Hand" "acts" "Ljava/util/ArrayList;" "TideKeep") ∈ lw_tbl := lw_at lw_m3 217 rfl
theorem q790 : (Jvm.Cond.methodLink "TideKeep$PlanReader" (53 : Nat) ({ cls := "TideKeep$PlanReader", name := "kindHere", desc := "()I" } : Jvm.MethodName)) ∈ lw_all := lw_g (lw_at lw_m3 223 rfl) rfl
theorem q791 : (Jvm.Cond.privateMethod ({ cls := "TideKeep$PlanReader", name := "kindHere", desc := "()I" } : Jvm.MethodName)) ∈ lw_tbl := lw_at lw_m3 224 rfl
theorem q792 : (Jvm.Cond.instanceMethod ({ cls := "TideKeep$PlanReader", name := "kindHere", desc := "()I" } : Jvm.MethodName)) ∈ lw_all := lw_g (lw_at lw_m3 225 rfl) rfl
theorem q793 : (Jvm.Cond.instantiable "TideKeep$PlanReader" (9 : Nat)) ∈ lw_all := lw_g (lw_at lw_m3 226 rfl) rfl
theorem q794 : (Jvm.Cond.code ({ cls := "TideKeep$PlanReader", name := "kindHere", desc := "()I" } : Jvm.MethodName) prog_7_method_4_code (1 : Nat) (Option.some Jvm.ClassFile.FieldType.int)) ∈ lw_all := lw_g (lw_at lw_m3 227 rfl) rfl
theorem q795 : (Jvm.Cond.stringRef "TideKeep$PlanReader" (67 : Nat) "dig") ∈ lw_tbl := lw_at lw_m3 228 rfl
theorem q796 : (Jvm.Cond.stringRef "TideKeep$PlanReader" (69 : Nat) "pack") ∈ lw_tbl := lw_at lw_m3 229 rfl
theorem q797 : (Jvm.Cond.stringRef "TideKeep$PlanReader" (71 : Nat) "wet") ∈ lw_tbl := lw_at lw_m3 230 rfl
theorem q798 : (Jvm.Cond.stringRef "TideKeep$PlanReader" (73 : Nat) "wall") ∈ lw_tbl := lw_at lw_m3 231 rfl
theorem q799 : (Jvm.Cond.stringRef "TideKeep$PlanReader" (75 : Nat) "rest") ∈ lw_tbl := lw_at lw_m3 232 rfl
theorem q800 : (Jvm.Cond.methodLink "TideKeep$PlanReader" (59 : Nat) ({ cls := "TideKeep$PlanReader", name := "act", desc := "(LTideKeep$Hand;I)V" } : Jvm.MethodName)) ∈ lw_all := lw_g (lw_at lw_m3 233 rfl) rfl
theorem q801 : (Jvm.Cond.privateMethod ({ cls := "TideKeep$PlanReader", name := "act", desc := "(LTideKeep$Hand;I)V" } : Jvm.MethodName)) ∈ lw_tbl := lw_at lw_m3 234 rfl
theorem q802 : (Jvm.Cond.instanceMethod ({ cls := "TideKeep$PlanReader", name := "act", desc := "(LTideKeep$Hand;I)V" } : Jvm.MethodName)) ∈ lw_all := lw_g (lw_at lw_m3 235 rfl) rfl
theorem q803 : (Jvm.Cond.code ({ cls := "TideKeep$PlanReader", name := "act", desc := "(LTideKeep$Hand;I)V" } : Jvm.MethodName) prog_7_method_5_code (6 : Nat) (Option.none : Option Jvm.ClassFile.FieldType)) ∈ lw_all := lw_g (lw_at lw_m3 236 rfl) rfl
theorem q804 : (Jvm.Cond.classLink "TideKeep$PlanReader" (77 : Nat) "TideKeep$Act") ∈ lw_all := lw_g (lw_at lw_m3 237 rfl) rfl
theorem q806 : (Jvm.Cond.methodLink "TideKeep$PlanReader" (79 : Nat) ({ cls := "TideKeep$Act", name := "<init>", desc := "(III)V" } : Jvm.MethodName)) ∈ lw_all := lw_g (lw_at lw_m3 239 rfl) rfl
theorem q826 : (Jvm.Cond.methodLink "TideKeep$PlanReader" (63 : Nat) ({ cls := "java/util/ArrayList", name := "add", desc := "(Ljava/lang/Object;)Z" } : Jvm.MethodName)) ∈ lw_all := lw_g (lw_at lw_m4 19 rfl) rfl
theorem q864 : (Jvm.Cond.selects "TideKeep$PlanReader" ({ cls := "java/lang/Object", name := "getClass", desc := "()Ljava/lang/Class;" } : Jvm.MethodName) ({ cls := "java/lang/Object", name := "getClass", desc := "()Ljava/lang/Class;" } : Jvm.MethodName)) ∈ lw_all := lw_g (lw_at lw_m4 57 rfl) rfl
theorem q888 : (Jvm.Cond.methodLink "TideKeep$PlanReader" (92 : Nat) ({ cls := "TideKeep$PlanReader", name := "number", desc := "(II)I" } : Jvm.MethodName)) ∈ lw_all := lw_g (lw_at lw_m4 81 rfl) rfl
theorem q889 : (Jvm.Cond.sameMethod "TideKeep$PlanReader" "TideKeep$Reader" "number" "(II)I") ∈ lw_all := lw_g (lw_at lw_m4 82 rfl) rfl
theorem q890 : (Jvm.Cond.selects "TideKeep$PlanReader" ({ cls := "TideKeep$PlanReader", name := "number", desc := "(II)I" } : Jvm.MethodName) ({ cls := "TideKeep$Reader", name := "number", desc := "(II)I" } : Jvm.MethodName)) ∈ lw_all := lw_g (lw_at lw_m4 83 rfl) rfl
theorem q891 : (Jvm.Cond.methodLink "TideKeep$PlanReader" (99 : Nat) ({ cls := "TideKeep$PlanReader", name := "within", desc := "(II)I" } : Jvm.MethodName)) ∈ lw_all := lw_g (lw_at lw_m4 84 rfl) rfl
theorem q892 : (Jvm.Cond.sameMethod "TideKeep$PlanReader" "TideKeep$Reader" "within" "(II)I") ∈ lw_all := lw_g (lw_at lw_m4 85 rfl) rfl
theorem q893 : (Jvm.Cond.selects "TideKeep$PlanReader" ({ cls := "TideKeep$PlanReader", name := "within", desc := "(II)I" } : Jvm.MethodName) ({ cls := "TideKeep$Reader", name := "within", desc := "(II)I" } : Jvm.MethodName)) ∈ lw_all := lw_g (lw_at lw_m4 86 rfl) rfl
theorem q990 : (Jvm.Cond.instanceMethod ({ cls := "TideKeep$PlanReader", name := "<init>", desc := "(LTideKeep;I)V" } : Jvm.MethodName)) ∈ lw_all := lw_g (lw_at lw_m4 183 rfl) rfl
theorem q991 : (Jvm.Cond.code ({ cls := "TideKeep$PlanReader", name := "<init>", desc := "(LTideKeep;I)V" } : Jvm.MethodName) prog_7_method_1_code (3 : Nat) (Option.none : Option Jvm.ClassFile.FieldType)) ∈ lw_all := lw_g (lw_at lw_m4 184 rfl) rfl
theorem q992 : (Jvm.Cond.methodLink "TideKeep$PlanReader" (9 : Nat) ({ cls := "TideKeep$Reader", name := "<init>", desc := "(LTideKeep;I)V" } : Jvm.MethodName)) ∈ lw_all := lw_g (lw_at lw_m4 185 rfl) rfl
theorem q993 : (Jvm.Cond.classLink "TideKeep$PlanReader" (15 : Nat) "TideKeep$Plan") ∈ lw_all := lw_g (lw_at lw_m4 186 rfl) rfl
theorem q995 : (Jvm.Cond.methodLinkNest "TideKeep$PlanReader" (17 : Nat) ({ cls := "TideKeep$Plan", name := "<init>", desc := "()V" } : Jvm.MethodName) "TideKeep") ∈ lw_tbl := lw_at lw_m4 188 rfl
theorem q1002 : (Jvm.Cond.fieldLinkNest "TideKeep$PlanReader" (38 : Nat) "TideKeep$Plan" "hands" "Ljava/util/ArrayList;" "TideKeep") ∈ lw_tbl := lw_at lw_m4 195 rfl
theorem q1008 : (Jvm.Cond.fieldLink "TideKeep$PlanReader" (20 : Nat) "TideKeep$PlanReader" "made" "LTideKeep$Plan;") ∈ lw_all := lw_g (lw_at lw_m4 201 rfl) rfl
theorem q1009 : (Jvm.Cond.fieldLink "TideKeep$PlanReader" (3 : Nat) "TideKeep$PlanReader" "this$0" "LTideKeep;") ∈ lw_all := lw_g (lw_at lw_m4 202 rfl) rfl
theorem q1010 : (Jvm.Cond.laysFinal "TideKeep$PlanReader" "TideKeep$PlanReader" "made" "LTideKeep$Plan;") ∈ lw_all := lw_g (lw_at lw_m4 203 rfl) rfl
theorem q1011 : (Jvm.Cond.soleField "TideKeep$PlanReader" "made") ∈ lw_all := lw_g (lw_at lw_m4 204 rfl) rfl
theorem q1012 : (Jvm.Cond.laysFinal "TideKeep$PlanReader" "TideKeep$PlanReader" "this$0" "LTideKeep;") ∈ lw_all := lw_g (lw_at lw_m4 205 rfl) rfl
theorem q1013 : (Jvm.Cond.soleField "TideKeep$PlanReader" "this$0") ∈ lw_all := lw_g (lw_at lw_m4 206 rfl) rfl
theorem q1014 : (Jvm.Cond.laysFinal "TideKeep$PlanReader" "TideKeep$Reader" "size" "I") ∈ lw_all := lw_g (lw_at lw_m4 207 rfl) rfl
theorem q1015 : (Jvm.Cond.lays "TideKeep$PlanReader" "TideKeep$Reader" "sort" "I") ∈ lw_all := lw_g (lw_at lw_m4 208 rfl) rfl
theorem q1016 : (Jvm.Cond.lays "TideKeep$PlanReader" "TideKeep$Reader" "at" "I") ∈ lw_all := lw_g (lw_at lw_m4 209 rfl) rfl
theorem q1017 : (Jvm.Cond.lays "TideKeep$PlanReader" "TideKeep$Reader" "to" "I") ∈ lw_all := lw_g (lw_at lw_m4 210 rfl) rfl
theorem q1018 : (Jvm.Cond.lays "TideKeep$PlanReader" "TideKeep$Reader" "value" "I") ∈ lw_all := lw_g (lw_at lw_m4 211 rfl) rfl
theorem q1019 : (Jvm.Cond.lays "TideKeep$PlanReader" "TideKeep$Reader" "told" "I") ∈ lw_all := lw_g (lw_at lw_m4 212 rfl) rfl
theorem q1020 : (Jvm.Cond.laysFinal "TideKeep$PlanReader" "TideKeep$Reader" "this$0" "LTideKeep;") ∈ lw_all := lw_g (lw_at lw_m4 213 rfl) rfl
theorem q1021 : (Jvm.Cond.superclass "TideKeep$PlanReader" "TideKeep$Reader") ∈ lw_all := lw_g (lw_at lw_m4 214 rfl) rfl
theorem q1023 : (Jvm.Cond.instanceMethod ({ cls := "TideKeep$PlanReader", name := "read", desc := "()LTideKeep$Plan;" } : Jvm.MethodName)) ∈ lw_all := lw_g (lw_at lw_m4 216 rfl) rfl
theorem q1024 : (Jvm.Cond.selects "TideKeep$PlanReader" ({ cls := "TideKeep$PlanReader", name := "read", desc := "()LTideKeep$Plan;" } : Jvm.MethodName) ({ cls := "TideKeep$PlanReader", name := "read", desc := "()LTideKeep$Plan;" } : Jvm.MethodName)) ∈ lw_all := lw_g (lw_at lw_m4 217 rfl) rfl
theorem q1025 : (Jvm.Cond.code ({ cls := "TideKeep$PlanReader", name := "read", desc := "()LTideKeep$Plan;" } : Jvm.MethodName) prog_7_method_2_code (1 : Nat) (Option.some (Jvm.ClassFile.FieldType.object "TideKeep$Plan"))) ∈ lw_all := lw_g (lw_at lw_m4 218 rfl) rfl
theorem q1026 : (Jvm.Cond.methodLink "TideKeep$PlanReader" (24 : Nat) ({ cls := "TideKeep$PlanReader", name := "all", desc := "()I" } : Jvm.MethodName)) ∈ lw_all := lw_g (lw_at lw_m4 219 rfl) rfl
theorem q1027 : (Jvm.Cond.sameMethod "TideKeep$PlanReader" "TideKeep$Reader" "all" "()I") ∈ lw_all := lw_g (lw_at lw_m4 220 rfl) rfl
theorem q1028 : (Jvm.Cond.selects "TideKeep$PlanReader" ({ cls := "TideKeep$PlanReader", name := "all", desc := "()I" } : Jvm.MethodName) ({ cls := "TideKeep$Reader", name := "all", desc := "()I" } : Jvm.MethodName)) ∈ lw_all := lw_g (lw_at lw_m4 221 rfl) rfl
theorem q1998 : (Jvm.Cond.selects "TideKeep$PlanReader" ({ cls := "TideKeep$Reader", name := "is", desc := "(Ljava/lang/String;)Z" } : Jvm.MethodName) ({ cls := "TideKeep$Reader", name := "is", desc := "(Ljava/lang/String;)Z" } : Jvm.MethodName)) ∈ lw_all := lw_g (lw_at lw_m8 231 rfl) rfl
theorem q2002 : (Jvm.Cond.selects "TideKeep$PlanReader" ({ cls := "TideKeep$Reader", name := "ask", desc := "(ZI)V" } : Jvm.MethodName) ({ cls := "TideKeep$Reader", name := "ask", desc := "(ZI)V" } : Jvm.MethodName)) ∈ lw_all := lw_g (lw_at lw_m8 235 rfl) rfl
theorem q2015 : (Jvm.Cond.castable "TideKeep$PlanReader" "java/lang/Object") ∈ lw_tbl := lw_at lw_m9 8 rfl
theorem in_X13 : ∀ w ∈ wsX130, w ∈ lw_all := lw_in wsX130 [1014, 1015, 1016, 1017, 1018, 1019, 1020, 1010, 1012] (by decide +kernel) (by decide +kernel)

/-! TideKeep$Plan -/
set_option maxRecDepth 100000
def RX14 : String := "TideKeep$Plan"
def TX14 : u_T := fun k => match k with
  | _ => ("TideKeep$Plan", "hands", "Ljava/util/ArrayList;", true)
def tyX14 : Nat → FieldType := fun k => match k with
  | _ => .object "java/util/ArrayList"
abbrev wsX140 : List Cond := u_ws RX14 TX14 1
theorem nmX14 : ∀ a, a < 1 → ∀ b, b < 1 → a ≠ b → (TX14 a).2.1 ≠ (TX14 b).2.1 := by decide +kernel
theorem tyX14_ok : ∀ k, k < 1 → parseFieldDescriptor (TX14 k).2.2.1 = some (tyX14 k) := by decide +kernel
abbrev cX14_init : ByteArray := prog_6_method_1_code
def yX14_init : MethodName := ⟨RX14, "<init>", "()V"⟩
def dkwX14_init_0 : List UInt8 := [42, 183, 0, 1, 42, 187, 0, 7, 89, 183, 0, 9, 181, 0, 10, 177]
abbrev dktX14_init_0 : List UInt8 := dkwX14_init_0 ++ []
theorem dksX14_init_0 : cX14_init.data.toList.drop 0 = dktX14_init_0 := by decide +kernel
theorem dX14_init_0 : decode cX14_init 0 = .ok (.aload_n 0, 1) := dk_42 (dk_at dksX14_init_0 0 rfl rfl)
theorem dX14_init_1 : decode cX14_init 1 = .ok (.invokespecial 1, 3) := dk_183 0 1 (dk_at dksX14_init_0 1 rfl rfl)
theorem dX14_init_4 : decode cX14_init 4 = .ok (.aload_n 0, 1) := dk_42 (dk_at dksX14_init_0 4 rfl rfl)
theorem dX14_init_5 : decode cX14_init 5 = .ok (.new 7, 3) := dk_187 0 7 (dk_at dksX14_init_0 5 rfl rfl)
theorem dX14_init_8 : decode cX14_init 8 = .ok (.dup, 1) := dk_89 (dk_at dksX14_init_0 8 rfl rfl)
theorem dX14_init_9 : decode cX14_init 9 = .ok (.invokespecial 9, 3) := dk_183 0 9 (dk_at dksX14_init_0 9 rfl rfl)
theorem dX14_init_12 : decode cX14_init 12 = .ok (.putfield 10, 3) := dk_181 0 10 (dk_at dksX14_init_0 12 rfl rfl)
theorem dX14_init_15 : decode cX14_init 15 = .ok (.return_, 1) := dk_177 (dk_at dksX14_init_0 15 rfl rfl)
theorem q116 : (Jvm.Cond.initialized "TideKeep$Plan") ∈ lw_all := lw_g (lw_at lw_m1 29 rfl) rfl
theorem q863 : (Jvm.Cond.selects "TideKeep$Plan" ({ cls := "java/lang/Object", name := "getClass", desc := "()Ljava/lang/Class;" } : Jvm.MethodName) ({ cls := "java/lang/Object", name := "getClass", desc := "()Ljava/lang/Class;" } : Jvm.MethodName)) ∈ lw_all := lw_g (lw_at lw_m4 56 rfl) rfl
theorem q994 : (Jvm.Cond.instantiable "TideKeep$Plan" (1 : Nat)) ∈ lw_all := lw_g (lw_at lw_m4 187 rfl) rfl
theorem q996 : (Jvm.Cond.instanceMethod ({ cls := "TideKeep$Plan", name := "<init>", desc := "()V" } : Jvm.MethodName)) ∈ lw_all := lw_g (lw_at lw_m4 189 rfl) rfl
theorem q997 : (Jvm.Cond.code ({ cls := "TideKeep$Plan", name := "<init>", desc := "()V" } : Jvm.MethodName) prog_6_method_1_code (1 : Nat) (Option.none : Option Jvm.ClassFile.FieldType)) ∈ lw_all := lw_g (lw_at lw_m4 190 rfl) rfl
theorem q998 : (Jvm.Cond.methodLink "TideKeep$Plan" (1 : Nat) ({ cls := "java/lang/Object", name := "<init>", desc := "()V" } : Jvm.MethodName)) ∈ lw_all := lw_g (lw_at lw_m4 191 rfl) rfl
theorem q999 : (Jvm.Cond.classLink "TideKeep$Plan" (7 : Nat) "java/util/ArrayList") ∈ lw_all := lw_g (lw_at lw_m4 192 rfl) rfl
theorem q1000 : (Jvm.Cond.methodLink "TideKeep$Plan" (9 : Nat) ({ cls := "java/util/ArrayList", name := "<init>", desc := "()V" } : Jvm.MethodName)) ∈ lw_all := lw_g (lw_at lw_m4 193 rfl) rfl
theorem q1001 : (Jvm.Cond.fieldLink "TideKeep$Plan" (10 : Nat) "TideKeep$Plan" "hands" "Ljava/util/ArrayList;") ∈ lw_all := lw_g (lw_at lw_m4 194 rfl) rfl
theorem q1005 : (Jvm.Cond.laysFinal "TideKeep$Plan" "TideKeep$Plan" "hands" "Ljava/util/ArrayList;") ∈ lw_all := lw_g (lw_at lw_m4 198 rfl) rfl
theorem q1006 : (Jvm.Cond.soleField "TideKeep$Plan" "hands") ∈ lw_all := lw_g (lw_at lw_m4 199 rfl) rfl
theorem q1007 : (Jvm.Cond.superclass "TideKeep$Plan" "java/lang/Object") ∈ lw_all := lw_g (lw_at lw_m4 200 rfl) rfl
theorem q2016 : (Jvm.Cond.castable "TideKeep$Plan" "java/lang/Object") ∈ lw_tbl := lw_at lw_m9 9 rfl
theorem in_X14 : ∀ w ∈ wsX140, w ∈ lw_all := lw_in wsX140 [1005] (by decide +kernel) (by decide +kernel)

/-! TideKeep$Beach -/
set_option maxRecDepth 100000
def RX2 : String := "TideKeep$Beach"
def TX2 : u_T := fun k => match k with
  | 0 => ("TideKeep$Beach", "columns", "I", false)
  | 1 => ("TideKeep$Beach", "rows", "I", false)
  | 2 => ("TideKeep$Beach", "best", "I", false)
  | 3 => ("TideKeep$Beach", "top", "I", false)
  | 4 => ("TideKeep$Beach", "loss", "I", false)
  | 5 => ("TideKeep$Beach", "flags", "I", false)
  | 6 => ("TideKeep$Beach", "clauses", "I", false)
  | 7 => ("TideKeep$Beach", "numbers", "[I", true)
  | 8 => ("TideKeep$Beach", "heaps", "[I", true)
  | 9 => ("TideKeep$Beach", "flagCell", "[I", true)
  | _ => ("TideKeep$Beach", "stones", "[Z", true)
def tyX2 : Nat → FieldType := fun k => match k with
  | 0 => .int
  | 1 => .int
  | 2 => .int
  | 3 => .int
  | 4 => .int
  | 5 => .int
  | 6 => .int
  | 7 => .array .int
  | 8 => .array .int
  | 9 => .array .int
  | _ => .array .boolean
abbrev wsX20 : List Cond := u_ws RX2 TX2 11
theorem nmX2 : ∀ a, a < 11 → ∀ b, b < 11 → a ≠ b → (TX2 a).2.1 ≠ (TX2 b).2.1 := by decide +kernel
theorem tyX2_ok : ∀ k, k < 11 → parseFieldDescriptor (TX2 k).2.2.1 = some (tyX2 k) := by decide +kernel
abbrev cX2_init : ByteArray := prog_3_method_1_code
def yX2_init : MethodName := ⟨RX2, "<init>", "()V"⟩
def dkwX2_init_7 : List UInt8 := [180, 0, 51, 79, 177]
abbrev dktX2_init_7 : List UInt8 := dkwX2_init_7 ++ []
def dkwX2_init_6 : List UInt8 := [182, 0, 47, 178, 0, 63, 180, 0, 51, 79, 42, 180, 0, 27, 178, 0, 66, 182, 0, 47, 178, 0, 66]
abbrev dktX2_init_6 : List UInt8 := dkwX2_init_6 ++ dktX2_init_7
def dkwX2_init_5 : List UInt8 := [180, 0, 27, 178, 0, 60, 182, 0, 47, 178, 0, 60, 180, 0, 51, 79, 42, 180, 0, 27, 178, 0, 63]
abbrev dktX2_init_5 : List UInt8 := dkwX2_init_5 ++ dktX2_init_6
def dkwX2_init_4 : List UInt8 := [180, 0, 51, 79, 42, 180, 0, 27, 178, 0, 57, 182, 0, 47, 178, 0, 57, 180, 0, 51, 79, 42]
abbrev dktX2_init_4 : List UInt8 := dkwX2_init_4 ++ dktX2_init_5
def dkwX2_init_3 : List UInt8 := [182, 0, 47, 178, 0, 41, 180, 0, 51, 79, 42, 180, 0, 27, 178, 0, 54, 182, 0, 47, 178, 0, 54]
abbrev dktX2_init_3 : List UInt8 := dkwX2_init_3 ++ dktX2_init_4
def dkwX2_init_2 : List UInt8 := [42, 6, 188, 10, 181, 0, 34, 42, 16, 64, 188, 4, 181, 0, 37, 42, 180, 0, 27, 178, 0, 41]
abbrev dktX2_init_2 : List UInt8 := dkwX2_init_2 ++ dktX2_init_3
def dkwX2_init_1 : List UInt8 := [181, 0, 21, 42, 4, 181, 0, 24, 42, 16, 6, 188, 10, 181, 0, 27, 42, 16, 64, 188, 10, 181, 0, 31]
abbrev dktX2_init_1 : List UInt8 := dkwX2_init_1 ++ dktX2_init_2
def dkwX2_init_0 : List UInt8 := [42, 183, 0, 3, 42, 8, 181, 0, 9, 42, 8, 181, 0, 15, 42, 7, 181, 0, 18, 42, 16, 6]
abbrev dktX2_init_0 : List UInt8 := dkwX2_init_0 ++ dktX2_init_1
theorem dksX2_init_0 : cX2_init.data.toList.drop 0 = dktX2_init_0 := by decide +kernel
theorem dksX2_init_1 : cX2_init.data.toList.drop 22 = dktX2_init_1 := dk_seg dksX2_init_0 22 rfl rfl
theorem dksX2_init_2 : cX2_init.data.toList.drop 46 = dktX2_init_2 := dk_seg dksX2_init_1 24 rfl rfl
theorem dksX2_init_3 : cX2_init.data.toList.drop 68 = dktX2_init_3 := dk_seg dksX2_init_2 22 rfl rfl
theorem dksX2_init_4 : cX2_init.data.toList.drop 91 = dktX2_init_4 := dk_seg dksX2_init_3 23 rfl rfl
theorem dksX2_init_5 : cX2_init.data.toList.drop 113 = dktX2_init_5 := dk_seg dksX2_init_4 22 rfl rfl
theorem dksX2_init_6 : cX2_init.data.toList.drop 136 = dktX2_init_6 := dk_seg dksX2_init_5 23 rfl rfl
theorem dksX2_init_7 : cX2_init.data.toList.drop 159 = dktX2_init_7 := dk_seg dksX2_init_6 23 rfl rfl
theorem dX2_init_0 : decode cX2_init 0 = .ok (.aload_n 0, 1) := dk_42 (dk_at dksX2_init_0 0 rfl rfl)
theorem dX2_init_1 : decode cX2_init 1 = .ok (.invokespecial 3, 3) := dk_183 0 3 (dk_at dksX2_init_0 1 rfl rfl)
theorem dX2_init_4 : decode cX2_init 4 = .ok (.aload_n 0, 1) := dk_42 (dk_at dksX2_init_0 4 rfl rfl)
theorem dX2_init_5 : decode cX2_init 5 = .ok (.iconst 5, 1) := dk_8 (dk_at dksX2_init_0 5 rfl rfl)
theorem dX2_init_6 : decode cX2_init 6 = .ok (.putfield 9, 3) := dk_181 0 9 (dk_at dksX2_init_0 6 rfl rfl)
theorem dX2_init_9 : decode cX2_init 9 = .ok (.aload_n 0, 1) := dk_42 (dk_at dksX2_init_0 9 rfl rfl)
theorem dX2_init_10 : decode cX2_init 10 = .ok (.iconst 5, 1) := dk_8 (dk_at dksX2_init_0 10 rfl rfl)
theorem dX2_init_11 : decode cX2_init 11 = .ok (.putfield 15, 3) := dk_181 0 15 (dk_at dksX2_init_0 11 rfl rfl)
theorem dX2_init_14 : decode cX2_init 14 = .ok (.aload_n 0, 1) := dk_42 (dk_at dksX2_init_0 14 rfl rfl)
theorem dX2_init_15 : decode cX2_init 15 = .ok (.iconst 4, 1) := dk_7 (dk_at dksX2_init_0 15 rfl rfl)
theorem dX2_init_16 : decode cX2_init 16 = .ok (.putfield 18, 3) := dk_181 0 18 (dk_at dksX2_init_0 16 rfl rfl)
theorem dX2_init_19 : decode cX2_init 19 = .ok (.aload_n 0, 1) := dk_42 (dk_at dksX2_init_0 19 rfl rfl)
theorem dX2_init_20 : decode cX2_init 20 = .ok (.bipush 6, 2) := dk_16 6 (dk_at dksX2_init_0 20 rfl rfl)
theorem dX2_init_22 : decode cX2_init 22 = .ok (.putfield 21, 3) := dk_181 0 21 (dk_at dksX2_init_1 0 rfl rfl)
theorem dX2_init_25 : decode cX2_init 25 = .ok (.aload_n 0, 1) := dk_42 (dk_at dksX2_init_1 3 rfl rfl)
theorem dX2_init_26 : decode cX2_init 26 = .ok (.iconst 1, 1) := dk_4 (dk_at dksX2_init_1 4 rfl rfl)
theorem dX2_init_27 : decode cX2_init 27 = .ok (.putfield 24, 3) := dk_181 0 24 (dk_at dksX2_init_1 5 rfl rfl)
theorem dX2_init_30 : decode cX2_init 30 = .ok (.aload_n 0, 1) := dk_42 (dk_at dksX2_init_1 8 rfl rfl)
theorem dX2_init_31 : decode cX2_init 31 = .ok (.bipush 6, 2) := dk_16 6 (dk_at dksX2_init_1 9 rfl rfl)
theorem dX2_init_33 : decode cX2_init 33 = .ok (.newarray .int, 2) := dk_188_10 (dk_at dksX2_init_1 11 rfl rfl)
theorem dX2_init_35 : decode cX2_init 35 = .ok (.putfield 27, 3) := dk_181 0 27 (dk_at dksX2_init_1 13 rfl rfl)
theorem dX2_init_38 : decode cX2_init 38 = .ok (.aload_n 0, 1) := dk_42 (dk_at dksX2_init_1 16 rfl rfl)
theorem dX2_init_39 : decode cX2_init 39 = .ok (.bipush 64, 2) := dk_16 64 (dk_at dksX2_init_1 17 rfl rfl)
theorem dX2_init_41 : decode cX2_init 41 = .ok (.newarray .int, 2) := dk_188_10 (dk_at dksX2_init_1 19 rfl rfl)
theorem dX2_init_43 : decode cX2_init 43 = .ok (.putfield 31, 3) := dk_181 0 31 (dk_at dksX2_init_1 21 rfl rfl)
theorem dX2_init_46 : decode cX2_init 46 = .ok (.aload_n 0, 1) := dk_42 (dk_at dksX2_init_2 0 rfl rfl)
theorem dX2_init_47 : decode cX2_init 47 = .ok (.iconst 3, 1) := dk_6 (dk_at dksX2_init_2 1 rfl rfl)
theorem dX2_init_48 : decode cX2_init 48 = .ok (.newarray .int, 2) := dk_188_10 (dk_at dksX2_init_2 2 rfl rfl)
theorem dX2_init_50 : decode cX2_init 50 = .ok (.putfield 34, 3) := dk_181 0 34 (dk_at dksX2_init_2 4 rfl rfl)
theorem dX2_init_53 : decode cX2_init 53 = .ok (.aload_n 0, 1) := dk_42 (dk_at dksX2_init_2 7 rfl rfl)
theorem dX2_init_54 : decode cX2_init 54 = .ok (.bipush 64, 2) := dk_16 64 (dk_at dksX2_init_2 8 rfl rfl)
theorem dX2_init_56 : decode cX2_init 56 = .ok (.newarray .boolean, 2) := dk_188_4 (dk_at dksX2_init_2 10 rfl rfl)
theorem dX2_init_58 : decode cX2_init 58 = .ok (.putfield 37, 3) := dk_181 0 37 (dk_at dksX2_init_2 12 rfl rfl)
theorem dX2_init_61 : decode cX2_init 61 = .ok (.aload_n 0, 1) := dk_42 (dk_at dksX2_init_2 15 rfl rfl)
theorem dX2_init_62 : decode cX2_init 62 = .ok (.getfield 27, 3) := dk_180 0 27 (dk_at dksX2_init_2 16 rfl rfl)
theorem dX2_init_65 : decode cX2_init 65 = .ok (.getstatic 41, 3) := dk_178 0 41 (dk_at dksX2_init_2 19 rfl rfl)
theorem dX2_init_68 : decode cX2_init 68 = .ok (.invokevirtual 47, 3) := dk_182 0 47 (dk_at dksX2_init_3 0 rfl rfl)
theorem dX2_init_71 : decode cX2_init 71 = .ok (.getstatic 41, 3) := dk_178 0 41 (dk_at dksX2_init_3 3 rfl rfl)
theorem dX2_init_74 : decode cX2_init 74 = .ok (.getfield 51, 3) := dk_180 0 51 (dk_at dksX2_init_3 6 rfl rfl)
theorem dX2_init_77 : decode cX2_init 77 = .ok (.iastore, 1) := dk_79 (dk_at dksX2_init_3 9 rfl rfl)
theorem dX2_init_78 : decode cX2_init 78 = .ok (.aload_n 0, 1) := dk_42 (dk_at dksX2_init_3 10 rfl rfl)
theorem dX2_init_79 : decode cX2_init 79 = .ok (.getfield 27, 3) := dk_180 0 27 (dk_at dksX2_init_3 11 rfl rfl)
theorem dX2_init_82 : decode cX2_init 82 = .ok (.getstatic 54, 3) := dk_178 0 54 (dk_at dksX2_init_3 14 rfl rfl)
theorem dX2_init_85 : decode cX2_init 85 = .ok (.invokevirtual 47, 3) := dk_182 0 47 (dk_at dksX2_init_3 17 rfl rfl)
theorem dX2_init_88 : decode cX2_init 88 = .ok (.getstatic 54, 3) := dk_178 0 54 (dk_at dksX2_init_3 20 rfl rfl)
theorem dX2_init_91 : decode cX2_init 91 = .ok (.getfield 51, 3) := dk_180 0 51 (dk_at dksX2_init_4 0 rfl rfl)
theorem dX2_init_94 : decode cX2_init 94 = .ok (.iastore, 1) := dk_79 (dk_at dksX2_init_4 3 rfl rfl)
theorem dX2_init_95 : decode cX2_init 95 = .ok (.aload_n 0, 1) := dk_42 (dk_at dksX2_init_4 4 rfl rfl)
theorem dX2_init_96 : decode cX2_init 96 = .ok (.getfield 27, 3) := dk_180 0 27 (dk_at dksX2_init_4 5 rfl rfl)
theorem dX2_init_99 : decode cX2_init 99 = .ok (.getstatic 57, 3) := dk_178 0 57 (dk_at dksX2_init_4 8 rfl rfl)
theorem dX2_init_102 : decode cX2_init 102 = .ok (.invokevirtual 47, 3) := dk_182 0 47 (dk_at dksX2_init_4 11 rfl rfl)
theorem dX2_init_105 : decode cX2_init 105 = .ok (.getstatic 57, 3) := dk_178 0 57 (dk_at dksX2_init_4 14 rfl rfl)
theorem dX2_init_108 : decode cX2_init 108 = .ok (.getfield 51, 3) := dk_180 0 51 (dk_at dksX2_init_4 17 rfl rfl)
theorem dX2_init_111 : decode cX2_init 111 = .ok (.iastore, 1) := dk_79 (dk_at dksX2_init_4 20 rfl rfl)
theorem dX2_init_112 : decode cX2_init 112 = .ok (.aload_n 0, 1) := dk_42 (dk_at dksX2_init_4 21 rfl rfl)
theorem dX2_init_113 : decode cX2_init 113 = .ok (.getfield 27, 3) := dk_180 0 27 (dk_at dksX2_init_5 0 rfl rfl)
theorem dX2_init_116 : decode cX2_init 116 = .ok (.getstatic 60, 3) := dk_178 0 60 (dk_at dksX2_init_5 3 rfl rfl)
theorem dX2_init_119 : decode cX2_init 119 = .ok (.invokevirtual 47, 3) := dk_182 0 47 (dk_at dksX2_init_5 6 rfl rfl)
theorem dX2_init_122 : decode cX2_init 122 = .ok (.getstatic 60, 3) := dk_178 0 60 (dk_at dksX2_init_5 9 rfl rfl)
theorem dX2_init_125 : decode cX2_init 125 = .ok (.getfield 51, 3) := dk_180 0 51 (dk_at dksX2_init_5 12 rfl rfl)
theorem dX2_init_128 : decode cX2_init 128 = .ok (.iastore, 1) := dk_79 (dk_at dksX2_init_5 15 rfl rfl)
theorem dX2_init_129 : decode cX2_init 129 = .ok (.aload_n 0, 1) := dk_42 (dk_at dksX2_init_5 16 rfl rfl)
theorem dX2_init_130 : decode cX2_init 130 = .ok (.getfield 27, 3) := dk_180 0 27 (dk_at dksX2_init_5 17 rfl rfl)
theorem dX2_init_133 : decode cX2_init 133 = .ok (.getstatic 63, 3) := dk_178 0 63 (dk_at dksX2_init_5 20 rfl rfl)
theorem dX2_init_136 : decode cX2_init 136 = .ok (.invokevirtual 47, 3) := dk_182 0 47 (dk_at dksX2_init_6 0 rfl rfl)
theorem dX2_init_139 : decode cX2_init 139 = .ok (.getstatic 63, 3) := dk_178 0 63 (dk_at dksX2_init_6 3 rfl rfl)
theorem dX2_init_142 : decode cX2_init 142 = .ok (.getfield 51, 3) := dk_180 0 51 (dk_at dksX2_init_6 6 rfl rfl)
theorem dX2_init_145 : decode cX2_init 145 = .ok (.iastore, 1) := dk_79 (dk_at dksX2_init_6 9 rfl rfl)
theorem dX2_init_146 : decode cX2_init 146 = .ok (.aload_n 0, 1) := dk_42 (dk_at dksX2_init_6 10 rfl rfl)
theorem dX2_init_147 : decode cX2_init 147 = .ok (.getfield 27, 3) := dk_180 0 27 (dk_at dksX2_init_6 11 rfl rfl)
theorem dX2_init_150 : decode cX2_init 150 = .ok (.getstatic 66, 3) := dk_178 0 66 (dk_at dksX2_init_6 14 rfl rfl)
theorem dX2_init_153 : decode cX2_init 153 = .ok (.invokevirtual 47, 3) := dk_182 0 47 (dk_at dksX2_init_6 17 rfl rfl)
theorem dX2_init_156 : decode cX2_init 156 = .ok (.getstatic 66, 3) := dk_178 0 66 (dk_at dksX2_init_6 20 rfl rfl)
theorem dX2_init_159 : decode cX2_init 159 = .ok (.getfield 51, 3) := dk_180 0 51 (dk_at dksX2_init_7 0 rfl rfl)
theorem dX2_init_162 : decode cX2_init 162 = .ok (.iastore, 1) := dk_79 (dk_at dksX2_init_7 3 rfl rfl)
theorem dX2_init_163 : decode cX2_init 163 = .ok (.return_, 1) := dk_177 (dk_at dksX2_init_7 4 rfl rfl)
abbrev cX2_cells : ByteArray := prog_3_method_3_code
def yX2_cells : MethodName := ⟨RX2, "cells", "()I"⟩
def dkwX2_cells_0 : List UInt8 := [42, 180, 0, 9, 42, 180, 0, 15, 104, 172]
abbrev dktX2_cells_0 : List UInt8 := dkwX2_cells_0 ++ []
theorem dksX2_cells_0 : cX2_cells.data.toList.drop 0 = dktX2_cells_0 := by decide +kernel
theorem dX2_cells_0 : decode cX2_cells 0 = .ok (.aload_n 0, 1) := dk_42 (dk_at dksX2_cells_0 0 rfl rfl)
theorem dX2_cells_1 : decode cX2_cells 1 = .ok (.getfield 9, 3) := dk_180 0 9 (dk_at dksX2_cells_0 1 rfl rfl)
theorem dX2_cells_4 : decode cX2_cells 4 = .ok (.aload_n 0, 1) := dk_42 (dk_at dksX2_cells_0 4 rfl rfl)
theorem dX2_cells_5 : decode cX2_cells 5 = .ok (.getfield 15, 3) := dk_180 0 15 (dk_at dksX2_cells_0 5 rfl rfl)
theorem dX2_cells_8 : decode cX2_cells 8 = .ok (.imul, 1) := dk_104 (dk_at dksX2_cells_0 8 rfl rfl)
theorem dX2_cells_9 : decode cX2_cells 9 = .ok (.ireturn, 1) := dk_172 (dk_at dksX2_cells_0 9 rfl rfl)
abbrev cX2_of : ByteArray := prog_3_method_2_code
def yX2_of : MethodName := ⟨RX2, "of", "(LTideKeep$Told;)I"⟩
def dkwX2_of_0 : List UInt8 := [42, 180, 0, 27, 43, 182, 0, 47, 46, 172]
abbrev dktX2_of_0 : List UInt8 := dkwX2_of_0 ++ []
theorem dksX2_of_0 : cX2_of.data.toList.drop 0 = dktX2_of_0 := by decide +kernel
theorem dX2_of_0 : decode cX2_of 0 = .ok (.aload_n 0, 1) := dk_42 (dk_at dksX2_of_0 0 rfl rfl)
theorem dX2_of_1 : decode cX2_of 1 = .ok (.getfield 27, 3) := dk_180 0 27 (dk_at dksX2_of_0 1 rfl rfl)
theorem dX2_of_4 : decode cX2_of 4 = .ok (.aload_n 1, 1) := dk_43 (dk_at dksX2_of_0 4 rfl rfl)
theorem dX2_of_5 : decode cX2_of 5 = .ok (.invokevirtual 47, 3) := dk_182 0 47 (dk_at dksX2_of_0 5 rfl rfl)
theorem dX2_of_8 : decode cX2_of 8 = .ok (.iaload, 1) := dk_46 (dk_at dksX2_of_0 8 rfl rfl)
theorem dX2_of_9 : decode cX2_of 9 = .ok (.ireturn, 1) := dk_172 (dk_at dksX2_of_0 9 rfl rfl)
abbrev cX2_holds : ByteArray := prog_3_method_5_code
def yX2_holds : MethodName := ⟨RX2, "holds", "(II)I"⟩
def dkwX2_holds_1 : List UInt8 := [182, 0, 83, 28, 104, 96, 172]
abbrev dktX2_holds_1 : List UInt8 := dkwX2_holds_1 ++ []
def dkwX2_holds_0 : List UInt8 := [4, 27, 42, 180, 0, 18, 42, 180, 0, 21, 42, 180, 0, 24, 184, 0, 79, 96, 42, 178, 0, 54]
abbrev dktX2_holds_0 : List UInt8 := dkwX2_holds_0 ++ dktX2_holds_1
theorem dksX2_holds_0 : cX2_holds.data.toList.drop 0 = dktX2_holds_0 := by decide +kernel
theorem dksX2_holds_1 : cX2_holds.data.toList.drop 22 = dktX2_holds_1 := dk_seg dksX2_holds_0 22 rfl rfl
theorem dX2_holds_0 : decode cX2_holds 0 = .ok (.iconst 1, 1) := dk_4 (dk_at dksX2_holds_0 0 rfl rfl)
theorem dX2_holds_1 : decode cX2_holds 1 = .ok (.iload_n 1, 1) := dk_27 (dk_at dksX2_holds_0 1 rfl rfl)
theorem dX2_holds_2 : decode cX2_holds 2 = .ok (.aload_n 0, 1) := dk_42 (dk_at dksX2_holds_0 2 rfl rfl)
theorem dX2_holds_3 : decode cX2_holds 3 = .ok (.getfield 18, 3) := dk_180 0 18 (dk_at dksX2_holds_0 3 rfl rfl)
theorem dX2_holds_6 : decode cX2_holds 6 = .ok (.aload_n 0, 1) := dk_42 (dk_at dksX2_holds_0 6 rfl rfl)
theorem dX2_holds_7 : decode cX2_holds 7 = .ok (.getfield 21, 3) := dk_180 0 21 (dk_at dksX2_holds_0 7 rfl rfl)
theorem dX2_holds_10 : decode cX2_holds 10 = .ok (.aload_n 0, 1) := dk_42 (dk_at dksX2_holds_0 10 rfl rfl)
theorem dX2_holds_11 : decode cX2_holds 11 = .ok (.getfield 24, 3) := dk_180 0 24 (dk_at dksX2_holds_0 11 rfl rfl)
theorem dX2_holds_14 : decode cX2_holds 14 = .ok (.invokestatic 79, 3) := dk_184 0 79 (dk_at dksX2_holds_0 14 rfl rfl)
theorem dX2_holds_17 : decode cX2_holds 17 = .ok (.iadd, 1) := dk_96 (dk_at dksX2_holds_0 17 rfl rfl)
theorem dX2_holds_18 : decode cX2_holds 18 = .ok (.aload_n 0, 1) := dk_42 (dk_at dksX2_holds_0 18 rfl rfl)
theorem dX2_holds_19 : decode cX2_holds 19 = .ok (.getstatic 54, 3) := dk_178 0 54 (dk_at dksX2_holds_0 19 rfl rfl)
theorem dX2_holds_22 : decode cX2_holds 22 = .ok (.invokevirtual 83, 3) := dk_182 0 83 (dk_at dksX2_holds_1 0 rfl rfl)
theorem dX2_holds_25 : decode cX2_holds 25 = .ok (.iload_n 2, 1) := dk_28 (dk_at dksX2_holds_1 3 rfl rfl)
theorem dX2_holds_26 : decode cX2_holds 26 = .ok (.imul, 1) := dk_104 (dk_at dksX2_holds_1 4 rfl rfl)
theorem dX2_holds_27 : decode cX2_holds 27 = .ok (.iadd, 1) := dk_96 (dk_at dksX2_holds_1 5 rfl rfl)
theorem dX2_holds_28 : decode cX2_holds 28 = .ok (.ireturn, 1) := dk_172 (dk_at dksX2_holds_1 6 rfl rfl)
abbrev cX2_strength : ByteArray := prog_3_method_4_code
def yX2_strength : MethodName := ⟨RX2, "strength", "(IIII)I"⟩
def dkwX2_strength_1 : List UInt8 := [100, 184, 0, 75, 172]
abbrev dktX2_strength_1 : List UInt8 := dkwX2_strength_1 ++ []
def dkwX2_strength_0 : List UInt8 := [26, 153, 0, 9, 26, 16, 16, 160, 0, 7, 3, 167, 0, 17, 3, 28, 29, 26, 27, 100, 184, 0, 69, 104]
abbrev dktX2_strength_0 : List UInt8 := dkwX2_strength_0 ++ dktX2_strength_1
theorem dksX2_strength_0 : cX2_strength.data.toList.drop 0 = dktX2_strength_0 := by decide +kernel
theorem dksX2_strength_1 : cX2_strength.data.toList.drop 24 = dktX2_strength_1 := dk_seg dksX2_strength_0 24 rfl rfl
theorem dX2_strength_0 : decode cX2_strength 0 = .ok (.iload_n 0, 1) := dk_26 (dk_at dksX2_strength_0 0 rfl rfl)
theorem dX2_strength_1 : decode cX2_strength 1 = .ok (.ifCond .eq 9, 3) := dk_153 0 9 (dk_at dksX2_strength_0 1 rfl rfl)
theorem dX2_strength_4 : decode cX2_strength 4 = .ok (.iload_n 0, 1) := dk_26 (dk_at dksX2_strength_0 4 rfl rfl)
theorem dX2_strength_5 : decode cX2_strength 5 = .ok (.bipush 16, 2) := dk_16 16 (dk_at dksX2_strength_0 5 rfl rfl)
theorem dX2_strength_7 : decode cX2_strength 7 = .ok (.if_icmp .ne 7, 3) := dk_160 0 7 (dk_at dksX2_strength_0 7 rfl rfl)
theorem dX2_strength_10 : decode cX2_strength 10 = .ok (.iconst 0, 1) := dk_3 (dk_at dksX2_strength_0 10 rfl rfl)
theorem dX2_strength_11 : decode cX2_strength 11 = .ok (.goto 17, 3) := dk_167 0 17 (dk_at dksX2_strength_0 11 rfl rfl)
theorem dX2_strength_14 : decode cX2_strength 14 = .ok (.iconst 0, 1) := dk_3 (dk_at dksX2_strength_0 14 rfl rfl)
theorem dX2_strength_15 : decode cX2_strength 15 = .ok (.iload_n 2, 1) := dk_28 (dk_at dksX2_strength_0 15 rfl rfl)
theorem dX2_strength_16 : decode cX2_strength 16 = .ok (.iload_n 3, 1) := dk_29 (dk_at dksX2_strength_0 16 rfl rfl)
theorem dX2_strength_17 : decode cX2_strength 17 = .ok (.iload_n 0, 1) := dk_26 (dk_at dksX2_strength_0 17 rfl rfl)
theorem dX2_strength_18 : decode cX2_strength 18 = .ok (.iload_n 1, 1) := dk_27 (dk_at dksX2_strength_0 18 rfl rfl)
theorem dX2_strength_19 : decode cX2_strength 19 = .ok (.isub, 1) := dk_100 (dk_at dksX2_strength_0 19 rfl rfl)
theorem dX2_strength_20 : decode cX2_strength 20 = .ok (.invokestatic 69, 3) := dk_184 0 69 (dk_at dksX2_strength_0 20 rfl rfl)
theorem dX2_strength_23 : decode cX2_strength 23 = .ok (.imul, 1) := dk_104 (dk_at dksX2_strength_0 23 rfl rfl)
theorem dX2_strength_24 : decode cX2_strength 24 = .ok (.isub, 1) := dk_100 (dk_at dksX2_strength_1 0 rfl rfl)
theorem dX2_strength_25 : decode cX2_strength 25 = .ok (.invokestatic 75, 3) := dk_184 0 75 (dk_at dksX2_strength_1 1 rfl rfl)
theorem dX2_strength_28 : decode cX2_strength 28 = .ok (.ireturn, 1) := dk_172 (dk_at dksX2_strength_1 4 rfl rfl)
theorem q92 : (Jvm.Cond.initialized "TideKeep$Beach") ∈ lw_all := lw_g (lw_at lw_m1 5 rfl) rfl
theorem q194 : (Jvm.Cond.instantiable "TideKeep$Beach" (11 : Nat)) ∈ lw_all := lw_g (lw_at lw_m1 107 rfl) rfl
theorem q196 : (Jvm.Cond.instanceMethod ({ cls := "TideKeep$Beach", name := "<init>", desc := "()V" } : Jvm.MethodName)) ∈ lw_all := lw_g (lw_at lw_m1 109 rfl) rfl
theorem q197 : (Jvm.Cond.code ({ cls := "TideKeep$Beach", name := "<init>", desc := "()V" } : Jvm.MethodName) prog_3_method_1_code (1 : Nat) (Option.none : Option Jvm.ClassFile.FieldType)) ∈ lw_all := lw_g (lw_at lw_m1 110 rfl) rfl
theorem q198 : (Jvm.Cond.methodLink "TideKeep$Beach" (3 : Nat) ({ cls := "java/lang/Object", name := "<init>", desc := "()V" } : Jvm.MethodName)) ∈ lw_all := lw_g (lw_at lw_m1 111 rfl) rfl
theorem q199 : (Jvm.Cond.fieldLink "TideKeep$Beach" (41 : Nat) "TideKeep$Told" "SAND" "LTideKeep$Told;") ∈ lw_all := lw_g (lw_at lw_m1 112 rfl) rfl
theorem q201 : (Jvm.Cond.methodLink "TideKeep$Beach" (47 : Nat) ({ cls := "TideKeep$Told", name := "ordinal", desc := "()I" } : Jvm.MethodName)) ∈ lw_all := lw_g (lw_at lw_m1 114 rfl) rfl
theorem q207 : (Jvm.Cond.fieldLink "TideKeep$Beach" (54 : Nat) "TideKeep$Told" "PACK" "LTideKeep$Told;") ∈ lw_all := lw_g (lw_at lw_m1 120 rfl) rfl
theorem q209 : (Jvm.Cond.fieldLink "TideKeep$Beach" (57 : Nat) "TideKeep$Told" "DRY" "LTideKeep$Told;") ∈ lw_all := lw_g (lw_at lw_m1 122 rfl) rfl
theorem q211 : (Jvm.Cond.fieldLink "TideKeep$Beach" (60 : Nat) "TideKeep$Told" "DAMP" "LTideKeep$Told;") ∈ lw_all := lw_g (lw_at lw_m1 124 rfl) rfl
theorem q213 : (Jvm.Cond.fieldLink "TideKeep$Beach" (63 : Nat) "TideKeep$Told" "FALL" "LTideKeep$Told;") ∈ lw_all := lw_g (lw_at lw_m1 126 rfl) rfl
theorem q215 : (Jvm.Cond.fieldLink "TideKeep$Beach" (66 : Nat) "TideKeep$Told" "TIRE" "LTideKeep$Told;") ∈ lw_all := lw_g (lw_at lw_m1 128 rfl) rfl
theorem q217 : (Jvm.Cond.fieldLink "TideKeep$Beach" (9 : Nat) "TideKeep$Beach" "columns" "I") ∈ lw_all := lw_g (lw_at lw_m1 130 rfl) rfl
theorem q222 : (Jvm.Cond.fieldLink "TideKeep$Beach" (15 : Nat) "TideKeep$Beach" "rows" "I") ∈ lw_all := lw_g (lw_at lw_m1 135 rfl) rfl
theorem q227 : (Jvm.Cond.fieldLink "TideKeep$Beach" (18 : Nat) "TideKeep$Beach" "best" "I") ∈ lw_all := lw_g (lw_at lw_m1 140 rfl) rfl
theorem q230 : (Jvm.Cond.fieldLink "TideKeep$Beach" (21 : Nat) "TideKeep$Beach" "top" "I") ∈ lw_all := lw_g (lw_at lw_m1 143 rfl) rfl
theorem q233 : (Jvm.Cond.fieldLink "TideKeep$Beach" (24 : Nat) "TideKeep$Beach" "loss" "I") ∈ lw_all := lw_g (lw_at lw_m1 146 rfl) rfl
theorem q241 : (Jvm.Cond.fieldLink "TideKeep$Beach" (27 : Nat) "TideKeep$Beach" "numbers" "[I") ∈ lw_all := lw_g (lw_at lw_m1 154 rfl) rfl
theorem q244 : (Jvm.Cond.fieldLink "TideKeep$Beach" (31 : Nat) "TideKeep$Beach" "heaps" "[I") ∈ lw_all := lw_g (lw_at lw_m1 157 rfl) rfl
theorem q247 : (Jvm.Cond.fieldLink "TideKeep$Beach" (34 : Nat) "TideKeep$Beach" "flagCell" "[I") ∈ lw_all := lw_g (lw_at lw_m1 160 rfl) rfl
theorem q251 : (Jvm.Cond.fieldLink "TideKeep$Beach" (37 : Nat) "TideKeep$Beach" "stones" "[Z") ∈ lw_all := lw_g (lw_at lw_m1 164 rfl) rfl
theorem q254 : (Jvm.Cond.lays "TideKeep$Beach" "TideKeep$Beach" "columns" "I") ∈ lw_all := lw_g (lw_at lw_m1 167 rfl) rfl
theorem q255 : (Jvm.Cond.soleField "TideKeep$Beach" "columns") ∈ lw_all := lw_g (lw_at lw_m1 168 rfl) rfl
theorem q256 : (Jvm.Cond.lays "TideKeep$Beach" "TideKeep$Beach" "rows" "I") ∈ lw_all := lw_g (lw_at lw_m1 169 rfl) rfl
theorem q257 : (Jvm.Cond.soleField "TideKeep$Beach" "rows") ∈ lw_all := lw_g (lw_at lw_m1 170 rfl) rfl
theorem q258 : (Jvm.Cond.lays "TideKeep$Beach" "TideKeep$Beach" "best" "I") ∈ lw_all := lw_g (lw_at lw_m1 171 rfl) rfl
theorem q259 : (Jvm.Cond.soleField "TideKeep$Beach" "best") ∈ lw_all := lw_g (lw_at lw_m1 172 rfl) rfl
theorem q260 : (Jvm.Cond.lays "TideKeep$Beach" "TideKeep$Beach" "top" "I") ∈ lw_all := lw_g (lw_at lw_m1 173 rfl) rfl
theorem q261 : (Jvm.Cond.soleField "TideKeep$Beach" "top") ∈ lw_all := lw_g (lw_at lw_m1 174 rfl) rfl
theorem q262 : (Jvm.Cond.lays "TideKeep$Beach" "TideKeep$Beach" "loss" "I") ∈ lw_all := lw_g (lw_at lw_m1 175 rfl) rfl
theorem q263 : (Jvm.Cond.soleField "TideKeep$Beach" "loss") ∈ lw_all := lw_g (lw_at lw_m1 176 rfl) rfl
theorem q264 : (Jvm.Cond.lays "TideKeep$Beach" "TideKeep$Beach" "flags" "I") ∈ lw_all := lw_g (lw_at lw_m1 177 rfl) rfl
theorem q265 : (Jvm.Cond.soleField "TideKeep$Beach" "flags") ∈ lw_all := lw_g (lw_at lw_m1 178 rfl) rfl
theorem q266 : (Jvm.Cond.lays "TideKeep$Beach" "TideKeep$Beach" "clauses" "I") ∈ lw_all := lw_g (lw_at lw_m1 179 rfl) rfl
theorem q267 : (Jvm.Cond.soleField "TideKeep$Beach" "clauses") ∈ lw_all := lw_g (lw_at lw_m1 180 rfl) rfl
theorem q268 : (Jvm.Cond.laysFinal "TideKeep$Beach" "TideKeep$Beach" "numbers" "[I") ∈ lw_all := lw_g (lw_at lw_m1 181 rfl) rfl
theorem q269 : (Jvm.Cond.soleField "TideKeep$Beach" "numbers") ∈ lw_all := lw_g (lw_at lw_m1 182 rfl) rfl
theorem q270 : (Jvm.Cond.laysFinal "TideKeep$Beach" "TideKeep$Beach" "heaps" "[I") ∈ lw_all := lw_g (lw_at lw_m1 183 rfl) rfl
theorem q271 : (Jvm.Cond.soleField "TideKeep$Beach" "heaps") ∈ lw_all := lw_g (lw_at lw_m1 184 rfl) rfl
theorem q272 : (Jvm.Cond.laysFinal "TideKeep$Beach" "TideKeep$Beach" "flagCell" "[I") ∈ lw_all := lw_g (lw_at lw_m1 185 rfl) rfl
theorem q273 : (Jvm.Cond.soleField "TideKeep$Beach" "flagCell") ∈ lw_all := lw_g (lw_at lw_m1 186 rfl) rfl
theorem q274 : (Jvm.Cond.laysFinal "TideKeep$Beach" "TideKeep$Beach" "stones" "[Z") ∈ lw_all := lw_g (lw_at lw_m1 187 rfl) rfl
theorem q275 : (Jvm.Cond.soleField "TideKeep$Beach" "stones") ∈ lw_all := lw_g (lw_at lw_m1 188 rfl) rfl
theorem q276 : (Jvm.Cond.superclass "TideKeep$Beach" "java/lang/Object") ∈ lw_all := lw_g (lw_at lw_m1 189 rfl) rfl
theorem q430 : (Jvm.Cond.instanceMethod ({ cls := "TideKeep$Beach", name := "cells", desc := "()I" } : Jvm.MethodName)) ∈ lw_all := lw_g (lw_at lw_m2 103 rfl) rfl
theorem q431 : (Jvm.Cond.selects "TideKeep$Beach" ({ cls := "TideKeep$Beach", name := "cells", desc := "()I" } : Jvm.MethodName) ({ cls := "TideKeep$Beach", name := "cells", desc := "()I" } : Jvm.MethodName)) ∈ lw_all := lw_g (lw_at lw_m2 104 rfl) rfl
theorem q432 : (Jvm.Cond.code ({ cls := "TideKeep$Beach", name := "cells", desc := "()I" } : Jvm.MethodName) prog_3_method_3_code (1 : Nat) (Option.some Jvm.ClassFile.FieldType.int)) ∈ lw_all := lw_g (lw_at lw_m2 105 rfl) rfl
theorem q435 : (Jvm.Cond.instanceMethod ({ cls := "TideKeep$Beach", name := "of", desc := "(LTideKeep$Told;)I" } : Jvm.MethodName)) ∈ lw_all := lw_g (lw_at lw_m2 108 rfl) rfl
theorem q436 : (Jvm.Cond.selects "TideKeep$Beach" ({ cls := "TideKeep$Beach", name := "of", desc := "(LTideKeep$Told;)I" } : Jvm.MethodName) ({ cls := "TideKeep$Beach", name := "of", desc := "(LTideKeep$Told;)I" } : Jvm.MethodName)) ∈ lw_all := lw_g (lw_at lw_m2 109 rfl) rfl
theorem q437 : (Jvm.Cond.code ({ cls := "TideKeep$Beach", name := "of", desc := "(LTideKeep$Told;)I" } : Jvm.MethodName) prog_3_method_2_code (2 : Nat) (Option.some Jvm.ClassFile.FieldType.int)) ∈ lw_all := lw_g (lw_at lw_m2 110 rfl) rfl
theorem q860 : (Jvm.Cond.selects "TideKeep$Beach" ({ cls := "java/lang/Object", name := "getClass", desc := "()Ljava/lang/Class;" } : Jvm.MethodName) ({ cls := "java/lang/Object", name := "getClass", desc := "()Ljava/lang/Class;" } : Jvm.MethodName)) ∈ lw_all := lw_g (lw_at lw_m4 53 rfl) rfl
theorem q1156 : (Jvm.Cond.instanceMethod ({ cls := "TideKeep$Beach", name := "holds", desc := "(II)I" } : Jvm.MethodName)) ∈ lw_all := lw_g (lw_at lw_m5 109 rfl) rfl
theorem q1157 : (Jvm.Cond.selects "TideKeep$Beach" ({ cls := "TideKeep$Beach", name := "holds", desc := "(II)I" } : Jvm.MethodName) ({ cls := "TideKeep$Beach", name := "holds", desc := "(II)I" } : Jvm.MethodName)) ∈ lw_all := lw_g (lw_at lw_m5 110 rfl) rfl
theorem q1158 : (Jvm.Cond.code ({ cls := "TideKeep$Beach", name := "holds", desc := "(II)I" } : Jvm.MethodName) prog_3_method_5_code (3 : Nat) (Option.some Jvm.ClassFile.FieldType.int)) ∈ lw_all := lw_g (lw_at lw_m5 111 rfl) rfl
theorem q1159 : (Jvm.Cond.methodLink "TideKeep$Beach" (79 : Nat) ({ cls := "TideKeep$Beach", name := "strength", desc := "(IIII)I" } : Jvm.MethodName)) ∈ lw_all := lw_g (lw_at lw_m5 112 rfl) rfl
theorem q1160 : (Jvm.Cond.static ({ cls := "TideKeep$Beach", name := "strength", desc := "(IIII)I" } : Jvm.MethodName)) ∈ lw_all := lw_g (lw_at lw_m5 113 rfl) rfl
theorem q1161 : (Jvm.Cond.code ({ cls := "TideKeep$Beach", name := "strength", desc := "(IIII)I" } : Jvm.MethodName) prog_3_method_4_code (4 : Nat) (Option.some Jvm.ClassFile.FieldType.int)) ∈ lw_all := lw_g (lw_at lw_m5 114 rfl) rfl
theorem q1162 : (Jvm.Cond.methodLink "TideKeep$Beach" (69 : Nat) ({ cls := "java/lang/Math", name := "abs", desc := "(I)I" } : Jvm.MethodName)) ∈ lw_all := lw_g (lw_at lw_m5 115 rfl) rfl
theorem q1165 : (Jvm.Cond.methodLink "TideKeep$Beach" (75 : Nat) ({ cls := "java/lang/Math", name := "max", desc := "(II)I" } : Jvm.MethodName)) ∈ lw_all := lw_g (lw_at lw_m5 118 rfl) rfl
theorem q1166 : (Jvm.Cond.methodLink "TideKeep$Beach" (83 : Nat) ({ cls := "TideKeep$Beach", name := "of", desc := "(LTideKeep$Told;)I" } : Jvm.MethodName)) ∈ lw_all := lw_g (lw_at lw_m5 119 rfl) rfl
theorem q2009 : (Jvm.Cond.castable "TideKeep$Beach" "java/lang/Object") ∈ lw_tbl := lw_at lw_m9 2 rfl
theorem q2032 : (Jvm.Cond.fieldLinkNest "TideKeep$Beach" (51 : Nat) "TideKeep$Told" "first" "I" "TideKeep") ∈ lw_tbl := lw_at lw_m9 25 rfl
theorem in_X2 : ∀ w ∈ wsX20, w ∈ lw_all := lw_in wsX20 [254, 256, 258, 260, 262, 264, 266, 268, 270, 272, 274] (by decide +kernel) (by decide +kernel)

/-! TideKeep$Told -/
set_option maxRecDepth 100000
def RX3 : String := "TideKeep$Told"
abbrev cX3_values : ByteArray := prog_12_method_1_code
def yX3_values : MethodName := ⟨RX3, "values", "()[LTideKeep$Told;"⟩
def dkwX3_values_0 : List UInt8 := [178, 0, 22, 182, 0, 26, 192, 0, 27, 176]
abbrev dktX3_values_0 : List UInt8 := dkwX3_values_0 ++ []
theorem dksX3_values_0 : cX3_values.data.toList.drop 0 = dktX3_values_0 := by decide +kernel
theorem dX3_values_0 : decode cX3_values 0 = .ok (.getstatic 22, 3) := dk_178 0 22 (dk_at dksX3_values_0 0 rfl rfl)
theorem dX3_values_3 : decode cX3_values 3 = .ok (.invokevirtual 26, 3) := dk_182 0 26 (dk_at dksX3_values_0 3 rfl rfl)
theorem dX3_values_6 : decode cX3_values 6 = .ok (.checkcast 27, 3) := dk_192 0 27 (dk_at dksX3_values_0 6 rfl rfl)
theorem dX3_values_9 : decode cX3_values 9 = .ok (.areturn, 1) := dk_176 (dk_at dksX3_values_0 9 rfl rfl)
theorem q94 : (Jvm.Cond.initialized "TideKeep$Told") ∈ lw_all := lw_g (lw_at lw_m1 7 rfl) rfl
theorem q200 : (Jvm.Cond.laysStatic "TideKeep$Told" "SAND" "LTideKeep$Told;") ∈ lw_tbl := lw_at lw_m1 113 rfl
theorem q202 : (Jvm.Cond.sameMethod "TideKeep$Told" "java/lang/Enum" "ordinal" "()I") ∈ lw_all := lw_g (lw_at lw_m1 115 rfl) rfl
theorem q204 : (Jvm.Cond.selects "TideKeep$Told" ({ cls := "TideKeep$Told", name := "ordinal", desc := "()I" } : Jvm.MethodName) ({ cls := "java/lang/Enum", name := "ordinal", desc := "()I" } : Jvm.MethodName)) ∈ lw_all := lw_g (lw_at lw_m1 117 rfl) rfl
theorem q208 : (Jvm.Cond.laysStatic "TideKeep$Told" "PACK" "LTideKeep$Told;") ∈ lw_tbl := lw_at lw_m1 121 rfl
theorem q210 : (Jvm.Cond.laysStatic "TideKeep$Told" "DRY" "LTideKeep$Told;") ∈ lw_tbl := lw_at lw_m1 123 rfl
theorem q212 : (Jvm.Cond.laysStatic "TideKeep$Told" "DAMP" "LTideKeep$Told;") ∈ lw_tbl := lw_at lw_m1 125 rfl
theorem q214 : (Jvm.Cond.laysStatic "TideKeep$Told" "FALL" "LTideKeep$Told;") ∈ lw_tbl := lw_at lw_m1 127 rfl
theorem q216 : (Jvm.Cond.laysStatic "TideKeep$Told" "TIRE" "LTideKeep$Told;") ∈ lw_tbl := lw_at lw_m1 129 rfl
theorem q586 : (Jvm.Cond.static ({ cls := "TideKeep$Told", name := "values", desc := "()[LTideKeep$Told;" } : Jvm.MethodName)) ∈ lw_all := lw_g (lw_at lw_m3 19 rfl) rfl
theorem q587 : (Jvm.Cond.code ({ cls := "TideKeep$Told", name := "values", desc := "()[LTideKeep$Told;" } : Jvm.MethodName) prog_12_method_1_code (0 : Nat) (Option.some (Jvm.ClassFile.FieldType.array (Jvm.ClassFile.FieldType.object "TideKeep$Told")))) ∈ lw_all := lw_g (lw_at lw_m3 20 rfl) rfl
theorem q588 : (Jvm.Cond.fieldLink "TideKeep$Told" (22 : Nat) "TideKeep$Told" "$VALUES" "[LTideKeep$Told;") ∈ lw_all := lw_g (lw_at lw_m3 21 rfl) rfl
theorem q589 : (Jvm.Cond.laysStatic "TideKeep$Told" "$VALUES" "[LTideKeep$Told;") ∈ lw_tbl := lw_at lw_m3 22 rfl
theorem q590 : (Jvm.Cond.methodLink "TideKeep$Told" (26 : Nat) ({ cls := "[LTideKeep$Told;", name := "clone", desc := "()Ljava/lang/Object;" } : Jvm.MethodName)) ∈ lw_all := lw_g (lw_at lw_m3 23 rfl) rfl
theorem q597 : (Jvm.Cond.classLink "TideKeep$Told" (27 : Nat) "[LTideKeep$Told;") ∈ lw_all := lw_g (lw_at lw_m3 30 rfl) rfl
theorem q868 : (Jvm.Cond.selects "TideKeep$Told" ({ cls := "java/lang/Object", name := "getClass", desc := "()Ljava/lang/Class;" } : Jvm.MethodName) ({ cls := "java/lang/Object", name := "getClass", desc := "()Ljava/lang/Class;" } : Jvm.MethodName)) ∈ lw_all := lw_g (lw_at lw_m4 61 rfl) rfl
theorem q2006 : (Jvm.Cond.castable "TideKeep$Told" "java/lang/Object") ∈ lw_tbl := lw_at lw_m8 239 rfl
theorem q2038 : (Jvm.Cond.stringRef "TideKeep$Told" (56 : Nat) "sand") ∈ lw_tbl := lw_at lw_m9 31 rfl
theorem q2039 : (Jvm.Cond.stringRef "TideKeep$Told" (62 : Nat) "pack") ∈ lw_tbl := lw_at lw_m9 32 rfl
theorem q2040 : (Jvm.Cond.stringRef "TideKeep$Told" (65 : Nat) "dry") ∈ lw_tbl := lw_at lw_m9 33 rfl
theorem q2041 : (Jvm.Cond.stringRef "TideKeep$Told" (68 : Nat) "damp") ∈ lw_tbl := lw_at lw_m9 34 rfl
theorem q2042 : (Jvm.Cond.stringRef "TideKeep$Told" (71 : Nat) "fall") ∈ lw_tbl := lw_at lw_m9 35 rfl
theorem q2043 : (Jvm.Cond.stringRef "TideKeep$Told" (74 : Nat) "tire") ∈ lw_tbl := lw_at lw_m9 36 rfl

/-! TideKeep$Sea -/
set_option maxRecDepth 100000
def RX4 : String := "TideKeep$Sea"
def TX4 : u_T := fun k => match k with
  | 0 => ("TideKeep$Sea", "waves", "Ljava/util/ArrayList;", true)
  | 1 => ("TideKeep$Sea", "tide", "[I", true)
  | 2 => ("TideKeep$Sea", "reach", "[I", true)
  | 3 => ("TideKeep$Sea", "level", "[I", true)
  | 4 => ("TideKeep$Sea", "cut", "I", false)
  | _ => ("TideKeep$Sea", "clauses", "I", false)
def tyX4 : Nat → FieldType := fun k => match k with
  | 0 => .object "java/util/ArrayList"
  | 1 => .array .int
  | 2 => .array .int
  | 3 => .array .int
  | 4 => .int
  | _ => .int
abbrev wsX40 : List Cond := u_ws RX4 TX4 6
theorem nmX4 : ∀ a, a < 6 → ∀ b, b < 6 → a ≠ b → (TX4 a).2.1 ≠ (TX4 b).2.1 := by decide +kernel
theorem tyX4_ok : ∀ k, k < 6 → parseFieldDescriptor (TX4 k).2.2.1 = some (tyX4 k) := by decide +kernel
abbrev cX4_init : ByteArray := prog_9_method_1_code
def yX4_init : MethodName := ⟨RX4, "<init>", "()V"⟩
def dkwX4_init_3 : List UInt8 := [181, 0, 28, 177]
abbrev dktX4_init_3 : List UInt8 := dkwX4_init_3 ++ []
def dkwX4_init_2 : List UInt8 := [6, 79, 181, 0, 22, 42, 5, 188, 10, 89, 3, 7, 79, 89, 4, 16, 8, 79, 181, 0, 25, 42, 4]
abbrev dktX4_init_2 : List UInt8 := dkwX4_init_2 ++ dktX4_init_3
def dkwX4_init_1 : List UInt8 := [4, 2, 79, 89, 5, 2, 79, 89, 6, 2, 79, 181, 0, 18, 42, 5, 188, 10, 89, 3, 4, 79, 89, 4]
abbrev dktX4_init_1 : List UInt8 := dkwX4_init_1 ++ dktX4_init_2
def dkwX4_init_0 : List UInt8 := [42, 183, 0, 3, 42, 187, 0, 9, 89, 183, 0, 11, 181, 0, 12, 42, 7, 188, 10, 89, 3, 2, 79, 89]
abbrev dktX4_init_0 : List UInt8 := dkwX4_init_0 ++ dktX4_init_1
theorem dksX4_init_0 : cX4_init.data.toList.drop 0 = dktX4_init_0 := by decide +kernel
theorem dksX4_init_1 : cX4_init.data.toList.drop 24 = dktX4_init_1 := dk_seg dksX4_init_0 24 rfl rfl
theorem dksX4_init_2 : cX4_init.data.toList.drop 48 = dktX4_init_2 := dk_seg dksX4_init_1 24 rfl rfl
theorem dksX4_init_3 : cX4_init.data.toList.drop 71 = dktX4_init_3 := dk_seg dksX4_init_2 23 rfl rfl
theorem dX4_init_0 : decode cX4_init 0 = .ok (.aload_n 0, 1) := dk_42 (dk_at dksX4_init_0 0 rfl rfl)
theorem dX4_init_1 : decode cX4_init 1 = .ok (.invokespecial 3, 3) := dk_183 0 3 (dk_at dksX4_init_0 1 rfl rfl)
theorem dX4_init_4 : decode cX4_init 4 = .ok (.aload_n 0, 1) := dk_42 (dk_at dksX4_init_0 4 rfl rfl)
theorem dX4_init_5 : decode cX4_init 5 = .ok (.new 9, 3) := dk_187 0 9 (dk_at dksX4_init_0 5 rfl rfl)
theorem dX4_init_8 : decode cX4_init 8 = .ok (.dup, 1) := dk_89 (dk_at dksX4_init_0 8 rfl rfl)
theorem dX4_init_9 : decode cX4_init 9 = .ok (.invokespecial 11, 3) := dk_183 0 11 (dk_at dksX4_init_0 9 rfl rfl)
theorem dX4_init_12 : decode cX4_init 12 = .ok (.putfield 12, 3) := dk_181 0 12 (dk_at dksX4_init_0 12 rfl rfl)
theorem dX4_init_15 : decode cX4_init 15 = .ok (.aload_n 0, 1) := dk_42 (dk_at dksX4_init_0 15 rfl rfl)
theorem dX4_init_16 : decode cX4_init 16 = .ok (.iconst 4, 1) := dk_7 (dk_at dksX4_init_0 16 rfl rfl)
theorem dX4_init_17 : decode cX4_init 17 = .ok (.newarray .int, 2) := dk_188_10 (dk_at dksX4_init_0 17 rfl rfl)
theorem dX4_init_19 : decode cX4_init 19 = .ok (.dup, 1) := dk_89 (dk_at dksX4_init_0 19 rfl rfl)
theorem dX4_init_20 : decode cX4_init 20 = .ok (.iconst 0, 1) := dk_3 (dk_at dksX4_init_0 20 rfl rfl)
theorem dX4_init_21 : decode cX4_init 21 = .ok (.iconst (-1), 1) := dk_2 (dk_at dksX4_init_0 21 rfl rfl)
theorem dX4_init_22 : decode cX4_init 22 = .ok (.iastore, 1) := dk_79 (dk_at dksX4_init_0 22 rfl rfl)
theorem dX4_init_23 : decode cX4_init 23 = .ok (.dup, 1) := dk_89 (dk_at dksX4_init_0 23 rfl rfl)
theorem dX4_init_24 : decode cX4_init 24 = .ok (.iconst 1, 1) := dk_4 (dk_at dksX4_init_1 0 rfl rfl)
theorem dX4_init_25 : decode cX4_init 25 = .ok (.iconst (-1), 1) := dk_2 (dk_at dksX4_init_1 1 rfl rfl)
theorem dX4_init_26 : decode cX4_init 26 = .ok (.iastore, 1) := dk_79 (dk_at dksX4_init_1 2 rfl rfl)
theorem dX4_init_27 : decode cX4_init 27 = .ok (.dup, 1) := dk_89 (dk_at dksX4_init_1 3 rfl rfl)
theorem dX4_init_28 : decode cX4_init 28 = .ok (.iconst 2, 1) := dk_5 (dk_at dksX4_init_1 4 rfl rfl)
theorem dX4_init_29 : decode cX4_init 29 = .ok (.iconst (-1), 1) := dk_2 (dk_at dksX4_init_1 5 rfl rfl)
theorem dX4_init_30 : decode cX4_init 30 = .ok (.iastore, 1) := dk_79 (dk_at dksX4_init_1 6 rfl rfl)
theorem dX4_init_31 : decode cX4_init 31 = .ok (.dup, 1) := dk_89 (dk_at dksX4_init_1 7 rfl rfl)
theorem dX4_init_32 : decode cX4_init 32 = .ok (.iconst 3, 1) := dk_6 (dk_at dksX4_init_1 8 rfl rfl)
theorem dX4_init_33 : decode cX4_init 33 = .ok (.iconst (-1), 1) := dk_2 (dk_at dksX4_init_1 9 rfl rfl)
theorem dX4_init_34 : decode cX4_init 34 = .ok (.iastore, 1) := dk_79 (dk_at dksX4_init_1 10 rfl rfl)
theorem dX4_init_35 : decode cX4_init 35 = .ok (.putfield 18, 3) := dk_181 0 18 (dk_at dksX4_init_1 11 rfl rfl)
theorem dX4_init_38 : decode cX4_init 38 = .ok (.aload_n 0, 1) := dk_42 (dk_at dksX4_init_1 14 rfl rfl)
theorem dX4_init_39 : decode cX4_init 39 = .ok (.iconst 2, 1) := dk_5 (dk_at dksX4_init_1 15 rfl rfl)
theorem dX4_init_40 : decode cX4_init 40 = .ok (.newarray .int, 2) := dk_188_10 (dk_at dksX4_init_1 16 rfl rfl)
theorem dX4_init_42 : decode cX4_init 42 = .ok (.dup, 1) := dk_89 (dk_at dksX4_init_1 18 rfl rfl)
theorem dX4_init_43 : decode cX4_init 43 = .ok (.iconst 0, 1) := dk_3 (dk_at dksX4_init_1 19 rfl rfl)
theorem dX4_init_44 : decode cX4_init 44 = .ok (.iconst 1, 1) := dk_4 (dk_at dksX4_init_1 20 rfl rfl)
theorem dX4_init_45 : decode cX4_init 45 = .ok (.iastore, 1) := dk_79 (dk_at dksX4_init_1 21 rfl rfl)
theorem dX4_init_46 : decode cX4_init 46 = .ok (.dup, 1) := dk_89 (dk_at dksX4_init_1 22 rfl rfl)
theorem dX4_init_47 : decode cX4_init 47 = .ok (.iconst 1, 1) := dk_4 (dk_at dksX4_init_1 23 rfl rfl)
theorem dX4_init_48 : decode cX4_init 48 = .ok (.iconst 3, 1) := dk_6 (dk_at dksX4_init_2 0 rfl rfl)
theorem dX4_init_49 : decode cX4_init 49 = .ok (.iastore, 1) := dk_79 (dk_at dksX4_init_2 1 rfl rfl)
theorem dX4_init_50 : decode cX4_init 50 = .ok (.putfield 22, 3) := dk_181 0 22 (dk_at dksX4_init_2 2 rfl rfl)
theorem dX4_init_53 : decode cX4_init 53 = .ok (.aload_n 0, 1) := dk_42 (dk_at dksX4_init_2 5 rfl rfl)
theorem dX4_init_54 : decode cX4_init 54 = .ok (.iconst 2, 1) := dk_5 (dk_at dksX4_init_2 6 rfl rfl)
theorem dX4_init_55 : decode cX4_init 55 = .ok (.newarray .int, 2) := dk_188_10 (dk_at dksX4_init_2 7 rfl rfl)
theorem dX4_init_57 : decode cX4_init 57 = .ok (.dup, 1) := dk_89 (dk_at dksX4_init_2 9 rfl rfl)
theorem dX4_init_58 : decode cX4_init 58 = .ok (.iconst 0, 1) := dk_3 (dk_at dksX4_init_2 10 rfl rfl)
theorem dX4_init_59 : decode cX4_init 59 = .ok (.iconst 4, 1) := dk_7 (dk_at dksX4_init_2 11 rfl rfl)
theorem dX4_init_60 : decode cX4_init 60 = .ok (.iastore, 1) := dk_79 (dk_at dksX4_init_2 12 rfl rfl)
theorem dX4_init_61 : decode cX4_init 61 = .ok (.dup, 1) := dk_89 (dk_at dksX4_init_2 13 rfl rfl)
theorem dX4_init_62 : decode cX4_init 62 = .ok (.iconst 1, 1) := dk_4 (dk_at dksX4_init_2 14 rfl rfl)
theorem dX4_init_63 : decode cX4_init 63 = .ok (.bipush 8, 2) := dk_16 8 (dk_at dksX4_init_2 15 rfl rfl)
theorem dX4_init_65 : decode cX4_init 65 = .ok (.iastore, 1) := dk_79 (dk_at dksX4_init_2 17 rfl rfl)
theorem dX4_init_66 : decode cX4_init 66 = .ok (.putfield 25, 3) := dk_181 0 25 (dk_at dksX4_init_2 18 rfl rfl)
theorem dX4_init_69 : decode cX4_init 69 = .ok (.aload_n 0, 1) := dk_42 (dk_at dksX4_init_2 21 rfl rfl)
theorem dX4_init_70 : decode cX4_init 70 = .ok (.iconst 1, 1) := dk_4 (dk_at dksX4_init_2 22 rfl rfl)
theorem dX4_init_71 : decode cX4_init 71 = .ok (.putfield 28, 3) := dk_181 0 28 (dk_at dksX4_init_3 0 rfl rfl)
theorem dX4_init_74 : decode cX4_init 74 = .ok (.return_, 1) := dk_177 (dk_at dksX4_init_3 3 rfl rfl)
abbrev cX4_isDue : ByteArray := prog_9_method_2_code
def yX4_isDue : MethodName := ⟨RX4, "isDue", "(I)Z"⟩
def dkwX4_isDue_2 : List UInt8 := [4, 167, 0, 4, 3, 172]
abbrev dktX4_isDue_2 : List UInt8 := dkwX4_isDue_2 ++ []
def dkwX4_isDue_1 : List UInt8 := [184, 0, 32, 153, 0, 25, 27, 42, 180, 0, 18, 3, 46, 100, 42, 180, 0, 18, 5, 46, 112, 154, 0, 7]
abbrev dktX4_isDue_1 : List UInt8 := dkwX4_isDue_1 ++ dktX4_isDue_2
def dkwX4_isDue_0 : List UInt8 := [42, 180, 0, 18, 3, 46, 2, 159, 0, 44, 27, 42, 180, 0, 18, 3, 46, 42, 180, 0, 18, 4, 46]
abbrev dktX4_isDue_0 : List UInt8 := dkwX4_isDue_0 ++ dktX4_isDue_1
theorem dksX4_isDue_0 : cX4_isDue.data.toList.drop 0 = dktX4_isDue_0 := by decide +kernel
theorem dksX4_isDue_1 : cX4_isDue.data.toList.drop 23 = dktX4_isDue_1 := dk_seg dksX4_isDue_0 23 rfl rfl
theorem dksX4_isDue_2 : cX4_isDue.data.toList.drop 47 = dktX4_isDue_2 := dk_seg dksX4_isDue_1 24 rfl rfl
theorem dX4_isDue_0 : decode cX4_isDue 0 = .ok (.aload_n 0, 1) := dk_42 (dk_at dksX4_isDue_0 0 rfl rfl)
theorem dX4_isDue_1 : decode cX4_isDue 1 = .ok (.getfield 18, 3) := dk_180 0 18 (dk_at dksX4_isDue_0 1 rfl rfl)
theorem dX4_isDue_4 : decode cX4_isDue 4 = .ok (.iconst 0, 1) := dk_3 (dk_at dksX4_isDue_0 4 rfl rfl)
theorem dX4_isDue_5 : decode cX4_isDue 5 = .ok (.iaload, 1) := dk_46 (dk_at dksX4_isDue_0 5 rfl rfl)
theorem dX4_isDue_6 : decode cX4_isDue 6 = .ok (.iconst (-1), 1) := dk_2 (dk_at dksX4_isDue_0 6 rfl rfl)
theorem dX4_isDue_7 : decode cX4_isDue 7 = .ok (.if_icmp .eq 44, 3) := dk_159 0 44 (dk_at dksX4_isDue_0 7 rfl rfl)
theorem dX4_isDue_10 : decode cX4_isDue 10 = .ok (.iload_n 1, 1) := dk_27 (dk_at dksX4_isDue_0 10 rfl rfl)
theorem dX4_isDue_11 : decode cX4_isDue 11 = .ok (.aload_n 0, 1) := dk_42 (dk_at dksX4_isDue_0 11 rfl rfl)
theorem dX4_isDue_12 : decode cX4_isDue 12 = .ok (.getfield 18, 3) := dk_180 0 18 (dk_at dksX4_isDue_0 12 rfl rfl)
theorem dX4_isDue_15 : decode cX4_isDue 15 = .ok (.iconst 0, 1) := dk_3 (dk_at dksX4_isDue_0 15 rfl rfl)
theorem dX4_isDue_16 : decode cX4_isDue 16 = .ok (.iaload, 1) := dk_46 (dk_at dksX4_isDue_0 16 rfl rfl)
theorem dX4_isDue_17 : decode cX4_isDue 17 = .ok (.aload_n 0, 1) := dk_42 (dk_at dksX4_isDue_0 17 rfl rfl)
theorem dX4_isDue_18 : decode cX4_isDue 18 = .ok (.getfield 18, 3) := dk_180 0 18 (dk_at dksX4_isDue_0 18 rfl rfl)
theorem dX4_isDue_21 : decode cX4_isDue 21 = .ok (.iconst 1, 1) := dk_4 (dk_at dksX4_isDue_0 21 rfl rfl)
theorem dX4_isDue_22 : decode cX4_isDue 22 = .ok (.iaload, 1) := dk_46 (dk_at dksX4_isDue_0 22 rfl rfl)
theorem dX4_isDue_23 : decode cX4_isDue 23 = .ok (.invokestatic 32, 3) := dk_184 0 32 (dk_at dksX4_isDue_1 0 rfl rfl)
theorem dX4_isDue_26 : decode cX4_isDue 26 = .ok (.ifCond .eq 25, 3) := dk_153 0 25 (dk_at dksX4_isDue_1 3 rfl rfl)
theorem dX4_isDue_29 : decode cX4_isDue 29 = .ok (.iload_n 1, 1) := dk_27 (dk_at dksX4_isDue_1 6 rfl rfl)
theorem dX4_isDue_30 : decode cX4_isDue 30 = .ok (.aload_n 0, 1) := dk_42 (dk_at dksX4_isDue_1 7 rfl rfl)
theorem dX4_isDue_31 : decode cX4_isDue 31 = .ok (.getfield 18, 3) := dk_180 0 18 (dk_at dksX4_isDue_1 8 rfl rfl)
theorem dX4_isDue_34 : decode cX4_isDue 34 = .ok (.iconst 0, 1) := dk_3 (dk_at dksX4_isDue_1 11 rfl rfl)
theorem dX4_isDue_35 : decode cX4_isDue 35 = .ok (.iaload, 1) := dk_46 (dk_at dksX4_isDue_1 12 rfl rfl)
theorem dX4_isDue_36 : decode cX4_isDue 36 = .ok (.isub, 1) := dk_100 (dk_at dksX4_isDue_1 13 rfl rfl)
theorem dX4_isDue_37 : decode cX4_isDue 37 = .ok (.aload_n 0, 1) := dk_42 (dk_at dksX4_isDue_1 14 rfl rfl)
theorem dX4_isDue_38 : decode cX4_isDue 38 = .ok (.getfield 18, 3) := dk_180 0 18 (dk_at dksX4_isDue_1 15 rfl rfl)
theorem dX4_isDue_41 : decode cX4_isDue 41 = .ok (.iconst 2, 1) := dk_5 (dk_at dksX4_isDue_1 18 rfl rfl)
theorem dX4_isDue_42 : decode cX4_isDue 42 = .ok (.iaload, 1) := dk_46 (dk_at dksX4_isDue_1 19 rfl rfl)
theorem dX4_isDue_43 : decode cX4_isDue 43 = .ok (.irem, 1) := dk_112 (dk_at dksX4_isDue_1 20 rfl rfl)
theorem dX4_isDue_44 : decode cX4_isDue 44 = .ok (.ifCond .ne 7, 3) := dk_154 0 7 (dk_at dksX4_isDue_1 21 rfl rfl)
theorem dX4_isDue_47 : decode cX4_isDue 47 = .ok (.iconst 1, 1) := dk_4 (dk_at dksX4_isDue_2 0 rfl rfl)
theorem dX4_isDue_48 : decode cX4_isDue 48 = .ok (.goto 4, 3) := dk_167 0 4 (dk_at dksX4_isDue_2 1 rfl rfl)
theorem dX4_isDue_51 : decode cX4_isDue 51 = .ok (.iconst 0, 1) := dk_3 (dk_at dksX4_isDue_2 4 rfl rfl)
theorem dX4_isDue_52 : decode cX4_isDue 52 = .ok (.ireturn, 1) := dk_172 (dk_at dksX4_isDue_2 5 rfl rfl)
theorem q95 : (Jvm.Cond.initialized "TideKeep$Sea") ∈ lw_all := lw_g (lw_at lw_m1 8 rfl) rfl
theorem q281 : (Jvm.Cond.instantiable "TideKeep$Sea" (6 : Nat)) ∈ lw_all := lw_g (lw_at lw_m1 194 rfl) rfl
theorem q283 : (Jvm.Cond.instanceMethod ({ cls := "TideKeep$Sea", name := "<init>", desc := "()V" } : Jvm.MethodName)) ∈ lw_all := lw_g (lw_at lw_m1 196 rfl) rfl
theorem q284 : (Jvm.Cond.code ({ cls := "TideKeep$Sea", name := "<init>", desc := "()V" } : Jvm.MethodName) prog_9_method_1_code (1 : Nat) (Option.none : Option Jvm.ClassFile.FieldType)) ∈ lw_all := lw_g (lw_at lw_m1 197 rfl) rfl
theorem q285 : (Jvm.Cond.methodLink "TideKeep$Sea" (3 : Nat) ({ cls := "java/lang/Object", name := "<init>", desc := "()V" } : Jvm.MethodName)) ∈ lw_all := lw_g (lw_at lw_m1 198 rfl) rfl
theorem q286 : (Jvm.Cond.classLink "TideKeep$Sea" (9 : Nat) "java/util/ArrayList") ∈ lw_all := lw_g (lw_at lw_m1 199 rfl) rfl
theorem q288 : (Jvm.Cond.methodLink "TideKeep$Sea" (11 : Nat) ({ cls := "java/util/ArrayList", name := "<init>", desc := "()V" } : Jvm.MethodName)) ∈ lw_all := lw_g (lw_at lw_m1 201 rfl) rfl
theorem q312 : (Jvm.Cond.fieldLink "TideKeep$Sea" (12 : Nat) "TideKeep$Sea" "waves" "Ljava/util/ArrayList;") ∈ lw_all := lw_g (lw_at lw_m1 225 rfl) rfl
theorem q316 : (Jvm.Cond.fieldLink "TideKeep$Sea" (18 : Nat) "TideKeep$Sea" "tide" "[I") ∈ lw_all := lw_g (lw_at lw_m1 229 rfl) rfl
theorem q320 : (Jvm.Cond.fieldLink "TideKeep$Sea" (22 : Nat) "TideKeep$Sea" "reach" "[I") ∈ lw_all := lw_g (lw_at lw_m1 233 rfl) rfl
theorem q324 : (Jvm.Cond.fieldLink "TideKeep$Sea" (25 : Nat) "TideKeep$Sea" "level" "[I") ∈ lw_all := lw_g (lw_at lw_m1 237 rfl) rfl
theorem q328 : (Jvm.Cond.fieldLink "TideKeep$Sea" (28 : Nat) "TideKeep$Sea" "cut" "I") ∈ lw_all := lw_g (lw_at lw_m2 1 rfl) rfl
theorem q334 : (Jvm.Cond.laysFinal "TideKeep$Sea" "TideKeep$Sea" "waves" "Ljava/util/ArrayList;") ∈ lw_all := lw_g (lw_at lw_m2 7 rfl) rfl
theorem q335 : (Jvm.Cond.soleField "TideKeep$Sea" "waves") ∈ lw_all := lw_g (lw_at lw_m2 8 rfl) rfl
theorem q336 : (Jvm.Cond.laysFinal "TideKeep$Sea" "TideKeep$Sea" "tide" "[I") ∈ lw_all := lw_g (lw_at lw_m2 9 rfl) rfl
theorem q337 : (Jvm.Cond.soleField "TideKeep$Sea" "tide") ∈ lw_all := lw_g (lw_at lw_m2 10 rfl) rfl
theorem q338 : (Jvm.Cond.laysFinal "TideKeep$Sea" "TideKeep$Sea" "reach" "[I") ∈ lw_all := lw_g (lw_at lw_m2 11 rfl) rfl
theorem q339 : (Jvm.Cond.soleField "TideKeep$Sea" "reach") ∈ lw_all := lw_g (lw_at lw_m2 12 rfl) rfl
theorem q340 : (Jvm.Cond.laysFinal "TideKeep$Sea" "TideKeep$Sea" "level" "[I") ∈ lw_all := lw_g (lw_at lw_m2 13 rfl) rfl
theorem q341 : (Jvm.Cond.soleField "TideKeep$Sea" "level") ∈ lw_all := lw_g (lw_at lw_m2 14 rfl) rfl
theorem q342 : (Jvm.Cond.lays "TideKeep$Sea" "TideKeep$Sea" "cut" "I") ∈ lw_all := lw_g (lw_at lw_m2 15 rfl) rfl
theorem q343 : (Jvm.Cond.soleField "TideKeep$Sea" "cut") ∈ lw_all := lw_g (lw_at lw_m2 16 rfl) rfl
theorem q344 : (Jvm.Cond.lays "TideKeep$Sea" "TideKeep$Sea" "clauses" "I") ∈ lw_all := lw_g (lw_at lw_m2 17 rfl) rfl
theorem q345 : (Jvm.Cond.soleField "TideKeep$Sea" "clauses") ∈ lw_all := lw_g (lw_at lw_m2 18 rfl) rfl
theorem q346 : (Jvm.Cond.superclass "TideKeep$Sea" "java/lang/Object") ∈ lw_all := lw_g (lw_at lw_m2 19 rfl) rfl
theorem q865 : (Jvm.Cond.selects "TideKeep$Sea" ({ cls := "java/lang/Object", name := "getClass", desc := "()Ljava/lang/Class;" } : Jvm.MethodName) ({ cls := "java/lang/Object", name := "getClass", desc := "()Ljava/lang/Class;" } : Jvm.MethodName)) ∈ lw_all := lw_g (lw_at lw_m4 58 rfl) rfl
theorem q1121 : (Jvm.Cond.instanceMethod ({ cls := "TideKeep$Sea", name := "isDue", desc := "(I)Z" } : Jvm.MethodName)) ∈ lw_all := lw_g (lw_at lw_m5 74 rfl) rfl
theorem q1122 : (Jvm.Cond.selects "TideKeep$Sea" ({ cls := "TideKeep$Sea", name := "isDue", desc := "(I)Z" } : Jvm.MethodName) ({ cls := "TideKeep$Sea", name := "isDue", desc := "(I)Z" } : Jvm.MethodName)) ∈ lw_all := lw_g (lw_at lw_m5 75 rfl) rfl
theorem q1123 : (Jvm.Cond.code ({ cls := "TideKeep$Sea", name := "isDue", desc := "(I)Z" } : Jvm.MethodName) prog_9_method_2_code (2 : Nat) (Option.some Jvm.ClassFile.FieldType.boolean)) ∈ lw_all := lw_g (lw_at lw_m5 76 rfl) rfl
theorem q1124 : (Jvm.Cond.methodLinkNest "TideKeep$Sea" (32 : Nat) ({ cls := "TideKeep", name := "in", desc := "(III)Z" } : Jvm.MethodName) "TideKeep") ∈ lw_tbl := lw_at lw_m5 77 rfl
theorem q2010 : (Jvm.Cond.castable "TideKeep$Sea" "java/lang/Object") ∈ lw_tbl := lw_at lw_m9 3 rfl
theorem in_X4 : ∀ w ∈ wsX40, w ∈ lw_all := lw_in wsX40 [334, 336, 338, 340, 342, 344] (by decide +kernel) (by decide +kernel)

/-! TideKeep$Shore -/
set_option maxRecDepth 100000
def RX5 : String := "TideKeep$Shore"
def TX5 : u_T := fun k => match k with
  | 0 => ("TideKeep$Shore", "height", "[I", true)
  | 1 => ("TideKeep$Shore", "wet", "[I", true)
  | 2 => ("TideKeep$Shore", "pack", "[I", true)
  | 3 => ("TideKeep$Shore", "nextAct", "[I", true)
  | 4 => ("TideKeep$Shore", "done", "[I", true)
  | 5 => ("TideKeep$Shore", "putUp", "[I", true)
  | 6 => ("TideKeep$Shore", "fell", "[I", true)
  | 7 => ("TideKeep$Shore", "stone", "[Z", true)
  | 8 => ("TideKeep$Shore", "isResting", "[Z", true)
  | 9 => ("TideKeep$Shore", "minute", "I", false)
  | 10 => ("TideKeep$Shore", "lost", "I", false)
  | 11 => ("TideKeep$Shore", "slid", "I", false)
  | 12 => ("TideKeep$Shore", "slidNow", "I", false)
  | 13 => ("TideKeep$Shore", "rounds", "I", false)
  | 14 => ("TideKeep$Shore", "came", "I", false)
  | 15 => ("TideKeep$Shore", "plan", "I", false)
  | 16 => ("TideKeep$Shore", "chance", "J", false)
  | _ => ("TideKeep$Shore", "this$0", "LTideKeep;", true)
def tyX5 : Nat → FieldType := fun k => match k with
  | 0 => .array .int
  | 1 => .array .int
  | 2 => .array .int
  | 3 => .array .int
  | 4 => .array .int
  | 5 => .array .int
  | 6 => .array .int
  | 7 => .array .boolean
  | 8 => .array .boolean
  | 9 => .int
  | 10 => .int
  | 11 => .int
  | 12 => .int
  | 13 => .int
  | 14 => .int
  | 15 => .int
  | 16 => .long
  | _ => .object "TideKeep"
abbrev wsX50 : List Cond := u_ws RX5 TX5 18
set_option maxRecDepth 100000 in
theorem nmX5 : ∀ a, a < 18 → ∀ b, b < 18 → a ≠ b → (TX5 a).2.1 ≠ (TX5 b).2.1 := by decide +kernel
set_option maxRecDepth 100000 in
theorem tyX5_ok : ∀ k, k < 18 → parseFieldDescriptor (TX5 k).2.2.1 = some (tyX5 k) := by decide +kernel
abbrev cX5_init : ByteArray := prog_11_method_1_code
def yX5_init : MethodName := ⟨RX5, "<init>", "(LTideKeep;)V"⟩
def dkwX5_init_3 : List UInt8 := [181, 0, 37, 42, 7, 188, 4, 181, 0, 41, 42, 2, 181, 0, 44, 42, 10, 181, 0, 48, 177]
abbrev dktX5_init_3 : List UInt8 := dkwX5_init_3 ++ []
def dkwX5_init_2 : List UInt8 := [181, 0, 28, 42, 6, 188, 10, 181, 0, 31, 42, 6, 188, 10, 181, 0, 34, 42, 16, 64, 188, 4]
abbrev dktX5_init_2 : List UInt8 := dkwX5_init_2 ++ dktX5_init_3
def dkwX5_init_1 : List UInt8 := [181, 0, 19, 42, 16, 64, 188, 10, 181, 0, 22, 42, 7, 188, 10, 181, 0, 25, 42, 7, 188, 10]
abbrev dktX5_init_1 : List UInt8 := dkwX5_init_1 ++ dktX5_init_2
def dkwX5_init_0 : List UInt8 := [42, 43, 181, 0, 3, 42, 183, 0, 9, 42, 16, 64, 188, 10, 181, 0, 15, 42, 16, 64, 188, 10]
abbrev dktX5_init_0 : List UInt8 := dkwX5_init_0 ++ dktX5_init_1
theorem dksX5_init_0 : cX5_init.data.toList.drop 0 = dktX5_init_0 := by decide +kernel
theorem dksX5_init_1 : cX5_init.data.toList.drop 22 = dktX5_init_1 := dk_seg dksX5_init_0 22 rfl rfl
theorem dksX5_init_2 : cX5_init.data.toList.drop 44 = dktX5_init_2 := dk_seg dksX5_init_1 22 rfl rfl
theorem dksX5_init_3 : cX5_init.data.toList.drop 66 = dktX5_init_3 := dk_seg dksX5_init_2 22 rfl rfl
theorem dX5_init_0 : decode cX5_init 0 = .ok (.aload_n 0, 1) := dk_42 (dk_at dksX5_init_0 0 rfl rfl)
theorem dX5_init_1 : decode cX5_init 1 = .ok (.aload_n 1, 1) := dk_43 (dk_at dksX5_init_0 1 rfl rfl)
theorem dX5_init_2 : decode cX5_init 2 = .ok (.putfield 3, 3) := dk_181 0 3 (dk_at dksX5_init_0 2 rfl rfl)
theorem dX5_init_5 : decode cX5_init 5 = .ok (.aload_n 0, 1) := dk_42 (dk_at dksX5_init_0 5 rfl rfl)
theorem dX5_init_6 : decode cX5_init 6 = .ok (.invokespecial 9, 3) := dk_183 0 9 (dk_at dksX5_init_0 6 rfl rfl)
theorem dX5_init_9 : decode cX5_init 9 = .ok (.aload_n 0, 1) := dk_42 (dk_at dksX5_init_0 9 rfl rfl)
theorem dX5_init_10 : decode cX5_init 10 = .ok (.bipush 64, 2) := dk_16 64 (dk_at dksX5_init_0 10 rfl rfl)
theorem dX5_init_12 : decode cX5_init 12 = .ok (.newarray .int, 2) := dk_188_10 (dk_at dksX5_init_0 12 rfl rfl)
theorem dX5_init_14 : decode cX5_init 14 = .ok (.putfield 15, 3) := dk_181 0 15 (dk_at dksX5_init_0 14 rfl rfl)
theorem dX5_init_17 : decode cX5_init 17 = .ok (.aload_n 0, 1) := dk_42 (dk_at dksX5_init_0 17 rfl rfl)
theorem dX5_init_18 : decode cX5_init 18 = .ok (.bipush 64, 2) := dk_16 64 (dk_at dksX5_init_0 18 rfl rfl)
theorem dX5_init_20 : decode cX5_init 20 = .ok (.newarray .int, 2) := dk_188_10 (dk_at dksX5_init_0 20 rfl rfl)
theorem dX5_init_22 : decode cX5_init 22 = .ok (.putfield 19, 3) := dk_181 0 19 (dk_at dksX5_init_1 0 rfl rfl)
theorem dX5_init_25 : decode cX5_init 25 = .ok (.aload_n 0, 1) := dk_42 (dk_at dksX5_init_1 3 rfl rfl)
theorem dX5_init_26 : decode cX5_init 26 = .ok (.bipush 64, 2) := dk_16 64 (dk_at dksX5_init_1 4 rfl rfl)
theorem dX5_init_28 : decode cX5_init 28 = .ok (.newarray .int, 2) := dk_188_10 (dk_at dksX5_init_1 6 rfl rfl)
theorem dX5_init_30 : decode cX5_init 30 = .ok (.putfield 22, 3) := dk_181 0 22 (dk_at dksX5_init_1 8 rfl rfl)
theorem dX5_init_33 : decode cX5_init 33 = .ok (.aload_n 0, 1) := dk_42 (dk_at dksX5_init_1 11 rfl rfl)
theorem dX5_init_34 : decode cX5_init 34 = .ok (.iconst 4, 1) := dk_7 (dk_at dksX5_init_1 12 rfl rfl)
theorem dX5_init_35 : decode cX5_init 35 = .ok (.newarray .int, 2) := dk_188_10 (dk_at dksX5_init_1 13 rfl rfl)
theorem dX5_init_37 : decode cX5_init 37 = .ok (.putfield 25, 3) := dk_181 0 25 (dk_at dksX5_init_1 15 rfl rfl)
theorem dX5_init_40 : decode cX5_init 40 = .ok (.aload_n 0, 1) := dk_42 (dk_at dksX5_init_1 18 rfl rfl)
theorem dX5_init_41 : decode cX5_init 41 = .ok (.iconst 4, 1) := dk_7 (dk_at dksX5_init_1 19 rfl rfl)
theorem dX5_init_42 : decode cX5_init 42 = .ok (.newarray .int, 2) := dk_188_10 (dk_at dksX5_init_1 20 rfl rfl)
theorem dX5_init_44 : decode cX5_init 44 = .ok (.putfield 28, 3) := dk_181 0 28 (dk_at dksX5_init_2 0 rfl rfl)
theorem dX5_init_47 : decode cX5_init 47 = .ok (.aload_n 0, 1) := dk_42 (dk_at dksX5_init_2 3 rfl rfl)
theorem dX5_init_48 : decode cX5_init 48 = .ok (.iconst 3, 1) := dk_6 (dk_at dksX5_init_2 4 rfl rfl)
theorem dX5_init_49 : decode cX5_init 49 = .ok (.newarray .int, 2) := dk_188_10 (dk_at dksX5_init_2 5 rfl rfl)
theorem dX5_init_51 : decode cX5_init 51 = .ok (.putfield 31, 3) := dk_181 0 31 (dk_at dksX5_init_2 7 rfl rfl)
theorem dX5_init_54 : decode cX5_init 54 = .ok (.aload_n 0, 1) := dk_42 (dk_at dksX5_init_2 10 rfl rfl)
theorem dX5_init_55 : decode cX5_init 55 = .ok (.iconst 3, 1) := dk_6 (dk_at dksX5_init_2 11 rfl rfl)
theorem dX5_init_56 : decode cX5_init 56 = .ok (.newarray .int, 2) := dk_188_10 (dk_at dksX5_init_2 12 rfl rfl)
theorem dX5_init_58 : decode cX5_init 58 = .ok (.putfield 34, 3) := dk_181 0 34 (dk_at dksX5_init_2 14 rfl rfl)
theorem dX5_init_61 : decode cX5_init 61 = .ok (.aload_n 0, 1) := dk_42 (dk_at dksX5_init_2 17 rfl rfl)
theorem dX5_init_62 : decode cX5_init 62 = .ok (.bipush 64, 2) := dk_16 64 (dk_at dksX5_init_2 18 rfl rfl)
theorem dX5_init_64 : decode cX5_init 64 = .ok (.newarray .boolean, 2) := dk_188_4 (dk_at dksX5_init_2 20 rfl rfl)
theorem dX5_init_66 : decode cX5_init 66 = .ok (.putfield 37, 3) := dk_181 0 37 (dk_at dksX5_init_3 0 rfl rfl)
theorem dX5_init_69 : decode cX5_init 69 = .ok (.aload_n 0, 1) := dk_42 (dk_at dksX5_init_3 3 rfl rfl)
theorem dX5_init_70 : decode cX5_init 70 = .ok (.iconst 4, 1) := dk_7 (dk_at dksX5_init_3 4 rfl rfl)
theorem dX5_init_71 : decode cX5_init 71 = .ok (.newarray .boolean, 2) := dk_188_4 (dk_at dksX5_init_3 5 rfl rfl)
theorem dX5_init_73 : decode cX5_init 73 = .ok (.putfield 41, 3) := dk_181 0 41 (dk_at dksX5_init_3 7 rfl rfl)
theorem dX5_init_76 : decode cX5_init 76 = .ok (.aload_n 0, 1) := dk_42 (dk_at dksX5_init_3 10 rfl rfl)
theorem dX5_init_77 : decode cX5_init 77 = .ok (.iconst (-1), 1) := dk_2 (dk_at dksX5_init_3 11 rfl rfl)
theorem dX5_init_78 : decode cX5_init 78 = .ok (.putfield 44, 3) := dk_181 0 44 (dk_at dksX5_init_3 12 rfl rfl)
theorem dX5_init_81 : decode cX5_init 81 = .ok (.aload_n 0, 1) := dk_42 (dk_at dksX5_init_3 15 rfl rfl)
theorem dX5_init_82 : decode cX5_init 82 = .ok (.lconst 1, 1) := dk_10 (dk_at dksX5_init_3 16 rfl rfl)
theorem dX5_init_83 : decode cX5_init 83 = .ok (.putfield 48, 3) := dk_181 0 48 (dk_at dksX5_init_3 17 rfl rfl)
theorem dX5_init_86 : decode cX5_init 86 = .ok (.return_, 1) := dk_177 (dk_at dksX5_init_3 20 rfl rfl)
abbrev cX5_begin : ByteArray := prog_11_method_2_code
def yX5_begin : MethodName := ⟨RX5, "begin", "()V"⟩
def dkwX5_begin_8 : List UInt8 := [42, 3, 181, 0, 102, 42, 2, 182, 0, 105, 177]
abbrev dktX5_begin_8 : List UInt8 := dkwX5_begin_8 ++ []
def dkwX5_begin_7 : List UInt8 := [3, 181, 0, 87, 42, 3, 181, 0, 90, 42, 3, 181, 0, 93, 42, 3, 181, 0, 96, 42, 3, 181, 0, 99]
abbrev dktX5_begin_7 : List UInt8 := dkwX5_begin_7 ++ dktX5_begin_8
def dkwX5_begin_6 : List UInt8 := [180, 0, 52, 180, 0, 84, 27, 46, 46, 79, 42, 180, 0, 34, 27, 2, 79, 132, 1, 1, 167, 255, 209, 42]
abbrev dktX5_begin_6 : List UInt8 := dkwX5_begin_6 ++ dktX5_begin_7
def dkwX5_begin_5 : List UInt8 := [180, 0, 52, 180, 0, 81, 162, 0, 39, 42, 180, 0, 31, 27, 42, 180, 0, 15, 42, 180, 0, 3]
abbrev dktX5_begin_5 : List UInt8 := dkwX5_begin_5 ++ dktX5_begin_6
def dkwX5_begin_4 : List UInt8 := [180, 0, 52, 180, 0, 78, 27, 51, 84, 132, 1, 1, 167, 255, 153, 3, 60, 27, 42, 180, 0, 3]
abbrev dktX5_begin_4 : List UInt8 := dkwX5_begin_4 ++ dktX5_begin_5
def dkwX5_begin_3 : List UInt8 := [178, 0, 75, 182, 0, 68, 79, 42, 180, 0, 22, 27, 3, 79, 42, 180, 0, 37, 27, 42, 180, 0, 3]
abbrev dktX5_begin_3 : List UInt8 := dkwX5_begin_3 ++ dktX5_begin_4
def dkwX5_begin_2 : List UInt8 := [180, 0, 72, 27, 46, 96, 167, 0, 4, 3, 79, 42, 180, 0, 19, 27, 42, 180, 0, 3, 180, 0, 52]
abbrev dktX5_begin_2 : List UInt8 := dkwX5_begin_2 ++ dktX5_begin_3
def dkwX5_begin_1 : List UInt8 := [162, 0, 32, 42, 180, 0, 3, 180, 0, 52, 178, 0, 62, 182, 0, 68, 42, 180, 0, 3, 180, 0, 52]
abbrev dktX5_begin_1 : List UInt8 := dkwX5_begin_1 ++ dktX5_begin_2
def dkwX5_begin_0 : List UInt8 := [3, 60, 27, 16, 64, 162, 0, 103, 42, 180, 0, 15, 27, 27, 42, 180, 0, 3, 180, 0, 52, 182, 0, 56]
abbrev dktX5_begin_0 : List UInt8 := dkwX5_begin_0 ++ dktX5_begin_1
theorem dksX5_begin_0 : cX5_begin.data.toList.drop 0 = dktX5_begin_0 := by decide +kernel
theorem dksX5_begin_1 : cX5_begin.data.toList.drop 24 = dktX5_begin_1 := dk_seg dksX5_begin_0 24 rfl rfl
theorem dksX5_begin_2 : cX5_begin.data.toList.drop 47 = dktX5_begin_2 := dk_seg dksX5_begin_1 23 rfl rfl
theorem dksX5_begin_3 : cX5_begin.data.toList.drop 70 = dktX5_begin_3 := dk_seg dksX5_begin_2 23 rfl rfl
theorem dksX5_begin_4 : cX5_begin.data.toList.drop 93 = dktX5_begin_4 := dk_seg dksX5_begin_3 23 rfl rfl
theorem dksX5_begin_5 : cX5_begin.data.toList.drop 115 = dktX5_begin_5 := dk_seg dksX5_begin_4 22 rfl rfl
theorem dksX5_begin_6 : cX5_begin.data.toList.drop 137 = dktX5_begin_6 := dk_seg dksX5_begin_5 22 rfl rfl
theorem dksX5_begin_7 : cX5_begin.data.toList.drop 161 = dktX5_begin_7 := dk_seg dksX5_begin_6 24 rfl rfl
theorem dksX5_begin_8 : cX5_begin.data.toList.drop 185 = dktX5_begin_8 := dk_seg dksX5_begin_7 24 rfl rfl
theorem dX5_begin_0 : decode cX5_begin 0 = .ok (.iconst 0, 1) := dk_3 (dk_at dksX5_begin_0 0 rfl rfl)
theorem dX5_begin_1 : decode cX5_begin 1 = .ok (.istore_n 1, 1) := dk_60 (dk_at dksX5_begin_0 1 rfl rfl)
theorem dX5_begin_2 : decode cX5_begin 2 = .ok (.iload_n 1, 1) := dk_27 (dk_at dksX5_begin_0 2 rfl rfl)
theorem dX5_begin_3 : decode cX5_begin 3 = .ok (.bipush 64, 2) := dk_16 64 (dk_at dksX5_begin_0 3 rfl rfl)
theorem dX5_begin_5 : decode cX5_begin 5 = .ok (.if_icmp .ge 103, 3) := dk_162 0 103 (dk_at dksX5_begin_0 5 rfl rfl)
theorem dX5_begin_8 : decode cX5_begin 8 = .ok (.aload_n 0, 1) := dk_42 (dk_at dksX5_begin_0 8 rfl rfl)
theorem dX5_begin_9 : decode cX5_begin 9 = .ok (.getfield 15, 3) := dk_180 0 15 (dk_at dksX5_begin_0 9 rfl rfl)
theorem dX5_begin_12 : decode cX5_begin 12 = .ok (.iload_n 1, 1) := dk_27 (dk_at dksX5_begin_0 12 rfl rfl)
theorem dX5_begin_13 : decode cX5_begin 13 = .ok (.iload_n 1, 1) := dk_27 (dk_at dksX5_begin_0 13 rfl rfl)
theorem dX5_begin_14 : decode cX5_begin 14 = .ok (.aload_n 0, 1) := dk_42 (dk_at dksX5_begin_0 14 rfl rfl)
theorem dX5_begin_15 : decode cX5_begin 15 = .ok (.getfield 3, 3) := dk_180 0 3 (dk_at dksX5_begin_0 15 rfl rfl)
theorem dX5_begin_18 : decode cX5_begin 18 = .ok (.getfield 52, 3) := dk_180 0 52 (dk_at dksX5_begin_0 18 rfl rfl)
theorem dX5_begin_21 : decode cX5_begin 21 = .ok (.invokevirtual 56, 3) := dk_182 0 56 (dk_at dksX5_begin_0 21 rfl rfl)
theorem dX5_begin_24 : decode cX5_begin 24 = .ok (.if_icmp .ge 32, 3) := dk_162 0 32 (dk_at dksX5_begin_1 0 rfl rfl)
theorem dX5_begin_27 : decode cX5_begin 27 = .ok (.aload_n 0, 1) := dk_42 (dk_at dksX5_begin_1 3 rfl rfl)
theorem dX5_begin_28 : decode cX5_begin 28 = .ok (.getfield 3, 3) := dk_180 0 3 (dk_at dksX5_begin_1 4 rfl rfl)
theorem dX5_begin_31 : decode cX5_begin 31 = .ok (.getfield 52, 3) := dk_180 0 52 (dk_at dksX5_begin_1 7 rfl rfl)
theorem dX5_begin_34 : decode cX5_begin 34 = .ok (.getstatic 62, 3) := dk_178 0 62 (dk_at dksX5_begin_1 10 rfl rfl)
theorem dX5_begin_37 : decode cX5_begin 37 = .ok (.invokevirtual 68, 3) := dk_182 0 68 (dk_at dksX5_begin_1 13 rfl rfl)
theorem dX5_begin_40 : decode cX5_begin 40 = .ok (.aload_n 0, 1) := dk_42 (dk_at dksX5_begin_1 16 rfl rfl)
theorem dX5_begin_41 : decode cX5_begin 41 = .ok (.getfield 3, 3) := dk_180 0 3 (dk_at dksX5_begin_1 17 rfl rfl)
theorem dX5_begin_44 : decode cX5_begin 44 = .ok (.getfield 52, 3) := dk_180 0 52 (dk_at dksX5_begin_1 20 rfl rfl)
theorem dX5_begin_47 : decode cX5_begin 47 = .ok (.getfield 72, 3) := dk_180 0 72 (dk_at dksX5_begin_2 0 rfl rfl)
theorem dX5_begin_50 : decode cX5_begin 50 = .ok (.iload_n 1, 1) := dk_27 (dk_at dksX5_begin_2 3 rfl rfl)
theorem dX5_begin_51 : decode cX5_begin 51 = .ok (.iaload, 1) := dk_46 (dk_at dksX5_begin_2 4 rfl rfl)
theorem dX5_begin_52 : decode cX5_begin 52 = .ok (.iadd, 1) := dk_96 (dk_at dksX5_begin_2 5 rfl rfl)
theorem dX5_begin_53 : decode cX5_begin 53 = .ok (.goto 4, 3) := dk_167 0 4 (dk_at dksX5_begin_2 6 rfl rfl)
theorem dX5_begin_56 : decode cX5_begin 56 = .ok (.iconst 0, 1) := dk_3 (dk_at dksX5_begin_2 9 rfl rfl)
theorem dX5_begin_57 : decode cX5_begin 57 = .ok (.iastore, 1) := dk_79 (dk_at dksX5_begin_2 10 rfl rfl)
theorem dX5_begin_58 : decode cX5_begin 58 = .ok (.aload_n 0, 1) := dk_42 (dk_at dksX5_begin_2 11 rfl rfl)
theorem dX5_begin_59 : decode cX5_begin 59 = .ok (.getfield 19, 3) := dk_180 0 19 (dk_at dksX5_begin_2 12 rfl rfl)
theorem dX5_begin_62 : decode cX5_begin 62 = .ok (.iload_n 1, 1) := dk_27 (dk_at dksX5_begin_2 15 rfl rfl)
theorem dX5_begin_63 : decode cX5_begin 63 = .ok (.aload_n 0, 1) := dk_42 (dk_at dksX5_begin_2 16 rfl rfl)
theorem dX5_begin_64 : decode cX5_begin 64 = .ok (.getfield 3, 3) := dk_180 0 3 (dk_at dksX5_begin_2 17 rfl rfl)
theorem dX5_begin_67 : decode cX5_begin 67 = .ok (.getfield 52, 3) := dk_180 0 52 (dk_at dksX5_begin_2 20 rfl rfl)
theorem dX5_begin_70 : decode cX5_begin 70 = .ok (.getstatic 75, 3) := dk_178 0 75 (dk_at dksX5_begin_3 0 rfl rfl)
theorem dX5_begin_73 : decode cX5_begin 73 = .ok (.invokevirtual 68, 3) := dk_182 0 68 (dk_at dksX5_begin_3 3 rfl rfl)
theorem dX5_begin_76 : decode cX5_begin 76 = .ok (.iastore, 1) := dk_79 (dk_at dksX5_begin_3 6 rfl rfl)
theorem dX5_begin_77 : decode cX5_begin 77 = .ok (.aload_n 0, 1) := dk_42 (dk_at dksX5_begin_3 7 rfl rfl)
theorem dX5_begin_78 : decode cX5_begin 78 = .ok (.getfield 22, 3) := dk_180 0 22 (dk_at dksX5_begin_3 8 rfl rfl)
theorem dX5_begin_81 : decode cX5_begin 81 = .ok (.iload_n 1, 1) := dk_27 (dk_at dksX5_begin_3 11 rfl rfl)
theorem dX5_begin_82 : decode cX5_begin 82 = .ok (.iconst 0, 1) := dk_3 (dk_at dksX5_begin_3 12 rfl rfl)
theorem dX5_begin_83 : decode cX5_begin 83 = .ok (.iastore, 1) := dk_79 (dk_at dksX5_begin_3 13 rfl rfl)
theorem dX5_begin_84 : decode cX5_begin 84 = .ok (.aload_n 0, 1) := dk_42 (dk_at dksX5_begin_3 14 rfl rfl)
theorem dX5_begin_85 : decode cX5_begin 85 = .ok (.getfield 37, 3) := dk_180 0 37 (dk_at dksX5_begin_3 15 rfl rfl)
theorem dX5_begin_88 : decode cX5_begin 88 = .ok (.iload_n 1, 1) := dk_27 (dk_at dksX5_begin_3 18 rfl rfl)
theorem dX5_begin_89 : decode cX5_begin 89 = .ok (.aload_n 0, 1) := dk_42 (dk_at dksX5_begin_3 19 rfl rfl)
theorem dX5_begin_90 : decode cX5_begin 90 = .ok (.getfield 3, 3) := dk_180 0 3 (dk_at dksX5_begin_3 20 rfl rfl)
theorem dX5_begin_93 : decode cX5_begin 93 = .ok (.getfield 52, 3) := dk_180 0 52 (dk_at dksX5_begin_4 0 rfl rfl)
theorem dX5_begin_96 : decode cX5_begin 96 = .ok (.getfield 78, 3) := dk_180 0 78 (dk_at dksX5_begin_4 3 rfl rfl)
theorem dX5_begin_99 : decode cX5_begin 99 = .ok (.iload_n 1, 1) := dk_27 (dk_at dksX5_begin_4 6 rfl rfl)
theorem dX5_begin_100 : decode cX5_begin 100 = .ok (.baload, 1) := dk_51 (dk_at dksX5_begin_4 7 rfl rfl)
theorem dX5_begin_101 : decode cX5_begin 101 = .ok (.bastore, 1) := dk_84 (dk_at dksX5_begin_4 8 rfl rfl)
theorem dX5_begin_102 : decode cX5_begin 102 = .ok (.iinc 1 1, 3) := dk_132 1 1 (dk_at dksX5_begin_4 9 rfl rfl)
theorem dX5_begin_105 : decode cX5_begin 105 = .ok (.goto (-103), 3) := dk_167 255 153 (dk_at dksX5_begin_4 12 rfl rfl)
theorem dX5_begin_108 : decode cX5_begin 108 = .ok (.iconst 0, 1) := dk_3 (dk_at dksX5_begin_4 15 rfl rfl)
theorem dX5_begin_109 : decode cX5_begin 109 = .ok (.istore_n 1, 1) := dk_60 (dk_at dksX5_begin_4 16 rfl rfl)
theorem dX5_begin_110 : decode cX5_begin 110 = .ok (.iload_n 1, 1) := dk_27 (dk_at dksX5_begin_4 17 rfl rfl)
theorem dX5_begin_111 : decode cX5_begin 111 = .ok (.aload_n 0, 1) := dk_42 (dk_at dksX5_begin_4 18 rfl rfl)
theorem dX5_begin_112 : decode cX5_begin 112 = .ok (.getfield 3, 3) := dk_180 0 3 (dk_at dksX5_begin_4 19 rfl rfl)
theorem dX5_begin_115 : decode cX5_begin 115 = .ok (.getfield 52, 3) := dk_180 0 52 (dk_at dksX5_begin_5 0 rfl rfl)
theorem dX5_begin_118 : decode cX5_begin 118 = .ok (.getfield 81, 3) := dk_180 0 81 (dk_at dksX5_begin_5 3 rfl rfl)
theorem dX5_begin_121 : decode cX5_begin 121 = .ok (.if_icmp .ge 39, 3) := dk_162 0 39 (dk_at dksX5_begin_5 6 rfl rfl)
theorem dX5_begin_124 : decode cX5_begin 124 = .ok (.aload_n 0, 1) := dk_42 (dk_at dksX5_begin_5 9 rfl rfl)
theorem dX5_begin_125 : decode cX5_begin 125 = .ok (.getfield 31, 3) := dk_180 0 31 (dk_at dksX5_begin_5 10 rfl rfl)
theorem dX5_begin_128 : decode cX5_begin 128 = .ok (.iload_n 1, 1) := dk_27 (dk_at dksX5_begin_5 13 rfl rfl)
theorem dX5_begin_129 : decode cX5_begin 129 = .ok (.aload_n 0, 1) := dk_42 (dk_at dksX5_begin_5 14 rfl rfl)
theorem dX5_begin_130 : decode cX5_begin 130 = .ok (.getfield 15, 3) := dk_180 0 15 (dk_at dksX5_begin_5 15 rfl rfl)
theorem dX5_begin_133 : decode cX5_begin 133 = .ok (.aload_n 0, 1) := dk_42 (dk_at dksX5_begin_5 18 rfl rfl)
theorem dX5_begin_134 : decode cX5_begin 134 = .ok (.getfield 3, 3) := dk_180 0 3 (dk_at dksX5_begin_5 19 rfl rfl)
theorem dX5_begin_137 : decode cX5_begin 137 = .ok (.getfield 52, 3) := dk_180 0 52 (dk_at dksX5_begin_6 0 rfl rfl)
theorem dX5_begin_140 : decode cX5_begin 140 = .ok (.getfield 84, 3) := dk_180 0 84 (dk_at dksX5_begin_6 3 rfl rfl)
theorem dX5_begin_143 : decode cX5_begin 143 = .ok (.iload_n 1, 1) := dk_27 (dk_at dksX5_begin_6 6 rfl rfl)
theorem dX5_begin_144 : decode cX5_begin 144 = .ok (.iaload, 1) := dk_46 (dk_at dksX5_begin_6 7 rfl rfl)
theorem dX5_begin_145 : decode cX5_begin 145 = .ok (.iaload, 1) := dk_46 (dk_at dksX5_begin_6 8 rfl rfl)
theorem dX5_begin_146 : decode cX5_begin 146 = .ok (.iastore, 1) := dk_79 (dk_at dksX5_begin_6 9 rfl rfl)
theorem dX5_begin_147 : decode cX5_begin 147 = .ok (.aload_n 0, 1) := dk_42 (dk_at dksX5_begin_6 10 rfl rfl)
theorem dX5_begin_148 : decode cX5_begin 148 = .ok (.getfield 34, 3) := dk_180 0 34 (dk_at dksX5_begin_6 11 rfl rfl)
theorem dX5_begin_151 : decode cX5_begin 151 = .ok (.iload_n 1, 1) := dk_27 (dk_at dksX5_begin_6 14 rfl rfl)
theorem dX5_begin_152 : decode cX5_begin 152 = .ok (.iconst (-1), 1) := dk_2 (dk_at dksX5_begin_6 15 rfl rfl)
theorem dX5_begin_153 : decode cX5_begin 153 = .ok (.iastore, 1) := dk_79 (dk_at dksX5_begin_6 16 rfl rfl)
theorem dX5_begin_154 : decode cX5_begin 154 = .ok (.iinc 1 1, 3) := dk_132 1 1 (dk_at dksX5_begin_6 17 rfl rfl)
theorem dX5_begin_157 : decode cX5_begin 157 = .ok (.goto (-47), 3) := dk_167 255 209 (dk_at dksX5_begin_6 20 rfl rfl)
theorem dX5_begin_160 : decode cX5_begin 160 = .ok (.aload_n 0, 1) := dk_42 (dk_at dksX5_begin_6 23 rfl rfl)
theorem dX5_begin_161 : decode cX5_begin 161 = .ok (.iconst 0, 1) := dk_3 (dk_at dksX5_begin_7 0 rfl rfl)
theorem dX5_begin_162 : decode cX5_begin 162 = .ok (.putfield 87, 3) := dk_181 0 87 (dk_at dksX5_begin_7 1 rfl rfl)
theorem dX5_begin_165 : decode cX5_begin 165 = .ok (.aload_n 0, 1) := dk_42 (dk_at dksX5_begin_7 4 rfl rfl)
theorem dX5_begin_166 : decode cX5_begin 166 = .ok (.iconst 0, 1) := dk_3 (dk_at dksX5_begin_7 5 rfl rfl)
theorem dX5_begin_167 : decode cX5_begin 167 = .ok (.putfield 90, 3) := dk_181 0 90 (dk_at dksX5_begin_7 6 rfl rfl)
theorem dX5_begin_170 : decode cX5_begin 170 = .ok (.aload_n 0, 1) := dk_42 (dk_at dksX5_begin_7 9 rfl rfl)
theorem dX5_begin_171 : decode cX5_begin 171 = .ok (.iconst 0, 1) := dk_3 (dk_at dksX5_begin_7 10 rfl rfl)
theorem dX5_begin_172 : decode cX5_begin 172 = .ok (.putfield 93, 3) := dk_181 0 93 (dk_at dksX5_begin_7 11 rfl rfl)
theorem dX5_begin_175 : decode cX5_begin 175 = .ok (.aload_n 0, 1) := dk_42 (dk_at dksX5_begin_7 14 rfl rfl)
theorem dX5_begin_176 : decode cX5_begin 176 = .ok (.iconst 0, 1) := dk_3 (dk_at dksX5_begin_7 15 rfl rfl)
theorem dX5_begin_177 : decode cX5_begin 177 = .ok (.putfield 96, 3) := dk_181 0 96 (dk_at dksX5_begin_7 16 rfl rfl)
theorem dX5_begin_180 : decode cX5_begin 180 = .ok (.aload_n 0, 1) := dk_42 (dk_at dksX5_begin_7 19 rfl rfl)
theorem dX5_begin_181 : decode cX5_begin 181 = .ok (.iconst 0, 1) := dk_3 (dk_at dksX5_begin_7 20 rfl rfl)
theorem dX5_begin_182 : decode cX5_begin 182 = .ok (.putfield 99, 3) := dk_181 0 99 (dk_at dksX5_begin_7 21 rfl rfl)
theorem dX5_begin_185 : decode cX5_begin 185 = .ok (.aload_n 0, 1) := dk_42 (dk_at dksX5_begin_8 0 rfl rfl)
theorem dX5_begin_186 : decode cX5_begin 186 = .ok (.iconst 0, 1) := dk_3 (dk_at dksX5_begin_8 1 rfl rfl)
theorem dX5_begin_187 : decode cX5_begin 187 = .ok (.putfield 102, 3) := dk_181 0 102 (dk_at dksX5_begin_8 2 rfl rfl)
theorem dX5_begin_190 : decode cX5_begin 190 = .ok (.aload_n 0, 1) := dk_42 (dk_at dksX5_begin_8 5 rfl rfl)
theorem dX5_begin_191 : decode cX5_begin 191 = .ok (.iconst (-1), 1) := dk_2 (dk_at dksX5_begin_8 6 rfl rfl)
theorem dX5_begin_192 : decode cX5_begin 192 = .ok (.invokevirtual 105, 3) := dk_182 0 105 (dk_at dksX5_begin_8 7 rfl rfl)
theorem dX5_begin_195 : decode cX5_begin 195 = .ok (.return_, 1) := dk_177 (dk_at dksX5_begin_8 10 rfl rfl)
abbrev cX5_hold : ByteArray := prog_11_method_4_code
def yX5_hold : MethodName := ⟨RX5, "hold", "(I)V"⟩
def dkwX5_hold_1 : List UInt8 := [180, 0, 41, 3, 184, 0, 115, 177]
abbrev dktX5_hold_1 : List UInt8 := dkwX5_hold_1 ++ []
def dkwX5_hold_0 : List UInt8 := [42, 27, 181, 0, 44, 42, 180, 0, 25, 3, 184, 0, 109, 42, 180, 0, 28, 3, 184, 0, 109, 42]
abbrev dktX5_hold_0 : List UInt8 := dkwX5_hold_0 ++ dktX5_hold_1
theorem dksX5_hold_0 : cX5_hold.data.toList.drop 0 = dktX5_hold_0 := by decide +kernel
theorem dksX5_hold_1 : cX5_hold.data.toList.drop 22 = dktX5_hold_1 := dk_seg dksX5_hold_0 22 rfl rfl
theorem dX5_hold_0 : decode cX5_hold 0 = .ok (.aload_n 0, 1) := dk_42 (dk_at dksX5_hold_0 0 rfl rfl)
theorem dX5_hold_1 : decode cX5_hold 1 = .ok (.iload_n 1, 1) := dk_27 (dk_at dksX5_hold_0 1 rfl rfl)
theorem dX5_hold_2 : decode cX5_hold 2 = .ok (.putfield 44, 3) := dk_181 0 44 (dk_at dksX5_hold_0 2 rfl rfl)
theorem dX5_hold_5 : decode cX5_hold 5 = .ok (.aload_n 0, 1) := dk_42 (dk_at dksX5_hold_0 5 rfl rfl)
theorem dX5_hold_6 : decode cX5_hold 6 = .ok (.getfield 25, 3) := dk_180 0 25 (dk_at dksX5_hold_0 6 rfl rfl)
theorem dX5_hold_9 : decode cX5_hold 9 = .ok (.iconst 0, 1) := dk_3 (dk_at dksX5_hold_0 9 rfl rfl)
theorem dX5_hold_10 : decode cX5_hold 10 = .ok (.invokestatic 109, 3) := dk_184 0 109 (dk_at dksX5_hold_0 10 rfl rfl)
theorem dX5_hold_13 : decode cX5_hold 13 = .ok (.aload_n 0, 1) := dk_42 (dk_at dksX5_hold_0 13 rfl rfl)
theorem dX5_hold_14 : decode cX5_hold 14 = .ok (.getfield 28, 3) := dk_180 0 28 (dk_at dksX5_hold_0 14 rfl rfl)
theorem dX5_hold_17 : decode cX5_hold 17 = .ok (.iconst 0, 1) := dk_3 (dk_at dksX5_hold_0 17 rfl rfl)
theorem dX5_hold_18 : decode cX5_hold 18 = .ok (.invokestatic 109, 3) := dk_184 0 109 (dk_at dksX5_hold_0 18 rfl rfl)
theorem dX5_hold_21 : decode cX5_hold 21 = .ok (.aload_n 0, 1) := dk_42 (dk_at dksX5_hold_0 21 rfl rfl)
theorem dX5_hold_22 : decode cX5_hold 22 = .ok (.getfield 41, 3) := dk_180 0 41 (dk_at dksX5_hold_1 0 rfl rfl)
theorem dX5_hold_25 : decode cX5_hold 25 = .ok (.iconst 0, 1) := dk_3 (dk_at dksX5_hold_1 3 rfl rfl)
theorem dX5_hold_26 : decode cX5_hold 26 = .ok (.invokestatic 115, 3) := dk_184 0 115 (dk_at dksX5_hold_1 4 rfl rfl)
theorem dX5_hold_29 : decode cX5_hold 29 = .ok (.return_, 1) := dk_177 (dk_at dksX5_hold_1 7 rfl rfl)
abbrev cX5_minute : ByteArray := prog_11_method_19_code
def yX5_minute : MethodName := ⟨RX5, "minute", "()V"⟩
def dkwX5_minute_0 : List UInt8 := [42, 182, 1, 0, 42, 182, 1, 3, 177]
abbrev dktX5_minute_0 : List UInt8 := dkwX5_minute_0 ++ []
theorem dksX5_minute_0 : cX5_minute.data.toList.drop 0 = dktX5_minute_0 := by decide +kernel
theorem dX5_minute_0 : decode cX5_minute 0 = .ok (.aload_n 0, 1) := dk_42 (dk_at dksX5_minute_0 0 rfl rfl)
theorem dX5_minute_1 : decode cX5_minute 1 = .ok (.invokevirtual 256, 3) := dk_182 1 0 (dk_at dksX5_minute_0 1 rfl rfl)
theorem dX5_minute_4 : decode cX5_minute 4 = .ok (.aload_n 0, 1) := dk_42 (dk_at dksX5_minute_0 4 rfl rfl)
theorem dX5_minute_5 : decode cX5_minute 5 = .ok (.invokevirtual 259, 3) := dk_182 1 3 (dk_at dksX5_minute_0 5 rfl rfl)
theorem dX5_minute_8 : decode cX5_minute 8 = .ok (.return_, 1) := dk_177 (dk_at dksX5_minute_0 8 rfl rfl)
abbrev cX5_work : ByteArray := prog_11_method_9_code
def yX5_work : MethodName := ⟨RX5, "work", "()V"⟩
def dkwX5_work_7 : List UInt8 := [28, 112, 154, 0, 7, 4, 167, 0, 4, 3, 84, 132, 3, 1, 167, 255, 122, 177]
abbrev dktX5_work_7 : List UInt8 := dkwX5_work_7 ++ []
def dkwX5_work_6 : List UInt8 := [180, 0, 28, 29, 92, 46, 4, 96, 79, 42, 180, 0, 41, 29, 28, 158, 0, 18, 42, 180, 0, 28, 29, 46]
abbrev dktX5_work_6 : List UInt8 := dkwX5_work_6 ++ dktX5_work_7
def dkwX5_work_5 : List UInt8 := [182, 0, 176, 42, 180, 0, 25, 29, 42, 180, 0, 25, 29, 46, 4, 96, 25, 4, 182, 0, 157, 112, 79, 42]
abbrev dktX5_work_5 : List UInt8 := dkwX5_work_5 ++ dktX5_work_6
def dkwX5_work_4 : List UInt8 := [182, 0, 143, 192, 0, 165, 58, 5, 42, 25, 5, 180, 0, 167, 25, 5, 180, 0, 170, 25, 5, 180, 0, 173]
abbrev dktX5_work_4 : List UInt8 := dkwX5_work_4 ++ dktX5_work_5
def dkwX5_work_3 : List UInt8 := [167, 0, 107, 43, 29, 182, 0, 143, 192, 0, 160, 180, 0, 162, 58, 4, 25, 4, 42, 180, 0, 25, 29, 46]
abbrev dktX5_work_3 : List UInt8 := dkwX5_work_3 ++ dktX5_work_4
def dkwX5_work_2 : List UInt8 := [43, 182, 0, 157, 162, 0, 132, 42, 180, 0, 41, 29, 51, 153, 0, 13, 42, 180, 0, 41, 29, 3, 84]
abbrev dktX5_work_2 : List UInt8 := dkwX5_work_2 ++ dktX5_work_3
def dkwX5_work_1 : List UInt8 := [192, 0, 149, 180, 0, 151, 76, 42, 180, 0, 3, 180, 0, 52, 178, 0, 154, 182, 0, 68, 61, 3, 62, 29]
abbrev dktX5_work_1 : List UInt8 := dkwX5_work_1 ++ dktX5_work_2
def dkwX5_work_0 : List UInt8 := [42, 180, 0, 44, 2, 160, 0, 4, 177, 42, 180, 0, 3, 180, 0, 139, 42, 180, 0, 44, 182, 0, 143]
abbrev dktX5_work_0 : List UInt8 := dkwX5_work_0 ++ dktX5_work_1
theorem dksX5_work_0 : cX5_work.data.toList.drop 0 = dktX5_work_0 := by decide +kernel
theorem dksX5_work_1 : cX5_work.data.toList.drop 23 = dktX5_work_1 := dk_seg dksX5_work_0 23 rfl rfl
theorem dksX5_work_2 : cX5_work.data.toList.drop 47 = dktX5_work_2 := dk_seg dksX5_work_1 24 rfl rfl
theorem dksX5_work_3 : cX5_work.data.toList.drop 70 = dktX5_work_3 := dk_seg dksX5_work_2 23 rfl rfl
theorem dksX5_work_4 : cX5_work.data.toList.drop 94 = dktX5_work_4 := dk_seg dksX5_work_3 24 rfl rfl
theorem dksX5_work_5 : cX5_work.data.toList.drop 118 = dktX5_work_5 := dk_seg dksX5_work_4 24 rfl rfl
theorem dksX5_work_6 : cX5_work.data.toList.drop 142 = dktX5_work_6 := dk_seg dksX5_work_5 24 rfl rfl
theorem dksX5_work_7 : cX5_work.data.toList.drop 166 = dktX5_work_7 := dk_seg dksX5_work_6 24 rfl rfl
theorem dX5_work_0 : decode cX5_work 0 = .ok (.aload_n 0, 1) := dk_42 (dk_at dksX5_work_0 0 rfl rfl)
theorem dX5_work_1 : decode cX5_work 1 = .ok (.getfield 44, 3) := dk_180 0 44 (dk_at dksX5_work_0 1 rfl rfl)
theorem dX5_work_4 : decode cX5_work 4 = .ok (.iconst (-1), 1) := dk_2 (dk_at dksX5_work_0 4 rfl rfl)
theorem dX5_work_5 : decode cX5_work 5 = .ok (.if_icmp .ne 4, 3) := dk_160 0 4 (dk_at dksX5_work_0 5 rfl rfl)
theorem dX5_work_8 : decode cX5_work 8 = .ok (.return_, 1) := dk_177 (dk_at dksX5_work_0 8 rfl rfl)
theorem dX5_work_9 : decode cX5_work 9 = .ok (.aload_n 0, 1) := dk_42 (dk_at dksX5_work_0 9 rfl rfl)
theorem dX5_work_10 : decode cX5_work 10 = .ok (.getfield 3, 3) := dk_180 0 3 (dk_at dksX5_work_0 10 rfl rfl)
theorem dX5_work_13 : decode cX5_work 13 = .ok (.getfield 139, 3) := dk_180 0 139 (dk_at dksX5_work_0 13 rfl rfl)
theorem dX5_work_16 : decode cX5_work 16 = .ok (.aload_n 0, 1) := dk_42 (dk_at dksX5_work_0 16 rfl rfl)
theorem dX5_work_17 : decode cX5_work 17 = .ok (.getfield 44, 3) := dk_180 0 44 (dk_at dksX5_work_0 17 rfl rfl)
theorem dX5_work_20 : decode cX5_work 20 = .ok (.invokevirtual 143, 3) := dk_182 0 143 (dk_at dksX5_work_0 20 rfl rfl)
theorem dX5_work_23 : decode cX5_work 23 = .ok (.checkcast 149, 3) := dk_192 0 149 (dk_at dksX5_work_1 0 rfl rfl)
theorem dX5_work_26 : decode cX5_work 26 = .ok (.getfield 151, 3) := dk_180 0 151 (dk_at dksX5_work_1 3 rfl rfl)
theorem dX5_work_29 : decode cX5_work 29 = .ok (.astore_n 1, 1) := dk_76 (dk_at dksX5_work_1 6 rfl rfl)
theorem dX5_work_30 : decode cX5_work 30 = .ok (.aload_n 0, 1) := dk_42 (dk_at dksX5_work_1 7 rfl rfl)
theorem dX5_work_31 : decode cX5_work 31 = .ok (.getfield 3, 3) := dk_180 0 3 (dk_at dksX5_work_1 8 rfl rfl)
theorem dX5_work_34 : decode cX5_work 34 = .ok (.getfield 52, 3) := dk_180 0 52 (dk_at dksX5_work_1 11 rfl rfl)
theorem dX5_work_37 : decode cX5_work 37 = .ok (.getstatic 154, 3) := dk_178 0 154 (dk_at dksX5_work_1 14 rfl rfl)
theorem dX5_work_40 : decode cX5_work 40 = .ok (.invokevirtual 68, 3) := dk_182 0 68 (dk_at dksX5_work_1 17 rfl rfl)
theorem dX5_work_43 : decode cX5_work 43 = .ok (.istore_n 2, 1) := dk_61 (dk_at dksX5_work_1 20 rfl rfl)
theorem dX5_work_44 : decode cX5_work 44 = .ok (.iconst 0, 1) := dk_3 (dk_at dksX5_work_1 21 rfl rfl)
theorem dX5_work_45 : decode cX5_work 45 = .ok (.istore_n 3, 1) := dk_62 (dk_at dksX5_work_1 22 rfl rfl)
theorem dX5_work_46 : decode cX5_work 46 = .ok (.iload_n 3, 1) := dk_29 (dk_at dksX5_work_1 23 rfl rfl)
theorem dX5_work_47 : decode cX5_work 47 = .ok (.aload_n 1, 1) := dk_43 (dk_at dksX5_work_2 0 rfl rfl)
theorem dX5_work_48 : decode cX5_work 48 = .ok (.invokevirtual 157, 3) := dk_182 0 157 (dk_at dksX5_work_2 1 rfl rfl)
theorem dX5_work_51 : decode cX5_work 51 = .ok (.if_icmp .ge 132, 3) := dk_162 0 132 (dk_at dksX5_work_2 4 rfl rfl)
theorem dX5_work_54 : decode cX5_work 54 = .ok (.aload_n 0, 1) := dk_42 (dk_at dksX5_work_2 7 rfl rfl)
theorem dX5_work_55 : decode cX5_work 55 = .ok (.getfield 41, 3) := dk_180 0 41 (dk_at dksX5_work_2 8 rfl rfl)
theorem dX5_work_58 : decode cX5_work 58 = .ok (.iload_n 3, 1) := dk_29 (dk_at dksX5_work_2 11 rfl rfl)
theorem dX5_work_59 : decode cX5_work 59 = .ok (.baload, 1) := dk_51 (dk_at dksX5_work_2 12 rfl rfl)
theorem dX5_work_60 : decode cX5_work 60 = .ok (.ifCond .eq 13, 3) := dk_153 0 13 (dk_at dksX5_work_2 13 rfl rfl)
theorem dX5_work_63 : decode cX5_work 63 = .ok (.aload_n 0, 1) := dk_42 (dk_at dksX5_work_2 16 rfl rfl)
theorem dX5_work_64 : decode cX5_work 64 = .ok (.getfield 41, 3) := dk_180 0 41 (dk_at dksX5_work_2 17 rfl rfl)
theorem dX5_work_67 : decode cX5_work 67 = .ok (.iload_n 3, 1) := dk_29 (dk_at dksX5_work_2 20 rfl rfl)
theorem dX5_work_68 : decode cX5_work 68 = .ok (.iconst 0, 1) := dk_3 (dk_at dksX5_work_2 21 rfl rfl)
theorem dX5_work_69 : decode cX5_work 69 = .ok (.bastore, 1) := dk_84 (dk_at dksX5_work_2 22 rfl rfl)
theorem dX5_work_70 : decode cX5_work 70 = .ok (.goto 107, 3) := dk_167 0 107 (dk_at dksX5_work_3 0 rfl rfl)
theorem dX5_work_73 : decode cX5_work 73 = .ok (.aload_n 1, 1) := dk_43 (dk_at dksX5_work_3 3 rfl rfl)
theorem dX5_work_74 : decode cX5_work 74 = .ok (.iload_n 3, 1) := dk_29 (dk_at dksX5_work_3 4 rfl rfl)
theorem dX5_work_75 : decode cX5_work 75 = .ok (.invokevirtual 143, 3) := dk_182 0 143 (dk_at dksX5_work_3 5 rfl rfl)
theorem dX5_work_78 : decode cX5_work 78 = .ok (.checkcast 160, 3) := dk_192 0 160 (dk_at dksX5_work_3 8 rfl rfl)
theorem dX5_work_81 : decode cX5_work 81 = .ok (.getfield 162, 3) := dk_180 0 162 (dk_at dksX5_work_3 11 rfl rfl)
theorem dX5_work_84 : decode cX5_work 84 = .ok (.astore 4, 2) := dk_58 4 (dk_at dksX5_work_3 14 rfl rfl)
theorem dX5_work_86 : decode cX5_work 86 = .ok (.aload 4, 2) := dk_25 4 (dk_at dksX5_work_3 16 rfl rfl)
theorem dX5_work_88 : decode cX5_work 88 = .ok (.aload_n 0, 1) := dk_42 (dk_at dksX5_work_3 18 rfl rfl)
theorem dX5_work_89 : decode cX5_work 89 = .ok (.getfield 25, 3) := dk_180 0 25 (dk_at dksX5_work_3 19 rfl rfl)
theorem dX5_work_92 : decode cX5_work 92 = .ok (.iload_n 3, 1) := dk_29 (dk_at dksX5_work_3 22 rfl rfl)
theorem dX5_work_93 : decode cX5_work 93 = .ok (.iaload, 1) := dk_46 (dk_at dksX5_work_3 23 rfl rfl)
theorem dX5_work_94 : decode cX5_work 94 = .ok (.invokevirtual 143, 3) := dk_182 0 143 (dk_at dksX5_work_4 0 rfl rfl)
theorem dX5_work_97 : decode cX5_work 97 = .ok (.checkcast 165, 3) := dk_192 0 165 (dk_at dksX5_work_4 3 rfl rfl)
theorem dX5_work_100 : decode cX5_work 100 = .ok (.astore 5, 2) := dk_58 5 (dk_at dksX5_work_4 6 rfl rfl)
theorem dX5_work_102 : decode cX5_work 102 = .ok (.aload_n 0, 1) := dk_42 (dk_at dksX5_work_4 8 rfl rfl)
theorem dX5_work_103 : decode cX5_work 103 = .ok (.aload 5, 2) := dk_25 5 (dk_at dksX5_work_4 9 rfl rfl)
theorem dX5_work_105 : decode cX5_work 105 = .ok (.getfield 167, 3) := dk_180 0 167 (dk_at dksX5_work_4 11 rfl rfl)
theorem dX5_work_108 : decode cX5_work 108 = .ok (.aload 5, 2) := dk_25 5 (dk_at dksX5_work_4 14 rfl rfl)
theorem dX5_work_110 : decode cX5_work 110 = .ok (.getfield 170, 3) := dk_180 0 170 (dk_at dksX5_work_4 16 rfl rfl)
theorem dX5_work_113 : decode cX5_work 113 = .ok (.aload 5, 2) := dk_25 5 (dk_at dksX5_work_4 19 rfl rfl)
theorem dX5_work_115 : decode cX5_work 115 = .ok (.getfield 173, 3) := dk_180 0 173 (dk_at dksX5_work_4 21 rfl rfl)
theorem dX5_work_118 : decode cX5_work 118 = .ok (.invokevirtual 176, 3) := dk_182 0 176 (dk_at dksX5_work_5 0 rfl rfl)
theorem dX5_work_121 : decode cX5_work 121 = .ok (.aload_n 0, 1) := dk_42 (dk_at dksX5_work_5 3 rfl rfl)
theorem dX5_work_122 : decode cX5_work 122 = .ok (.getfield 25, 3) := dk_180 0 25 (dk_at dksX5_work_5 4 rfl rfl)
theorem dX5_work_125 : decode cX5_work 125 = .ok (.iload_n 3, 1) := dk_29 (dk_at dksX5_work_5 7 rfl rfl)
theorem dX5_work_126 : decode cX5_work 126 = .ok (.aload_n 0, 1) := dk_42 (dk_at dksX5_work_5 8 rfl rfl)
theorem dX5_work_127 : decode cX5_work 127 = .ok (.getfield 25, 3) := dk_180 0 25 (dk_at dksX5_work_5 9 rfl rfl)
theorem dX5_work_130 : decode cX5_work 130 = .ok (.iload_n 3, 1) := dk_29 (dk_at dksX5_work_5 12 rfl rfl)
theorem dX5_work_131 : decode cX5_work 131 = .ok (.iaload, 1) := dk_46 (dk_at dksX5_work_5 13 rfl rfl)
theorem dX5_work_132 : decode cX5_work 132 = .ok (.iconst 1, 1) := dk_4 (dk_at dksX5_work_5 14 rfl rfl)
theorem dX5_work_133 : decode cX5_work 133 = .ok (.iadd, 1) := dk_96 (dk_at dksX5_work_5 15 rfl rfl)
theorem dX5_work_134 : decode cX5_work 134 = .ok (.aload 4, 2) := dk_25 4 (dk_at dksX5_work_5 16 rfl rfl)
theorem dX5_work_136 : decode cX5_work 136 = .ok (.invokevirtual 157, 3) := dk_182 0 157 (dk_at dksX5_work_5 18 rfl rfl)
theorem dX5_work_139 : decode cX5_work 139 = .ok (.irem, 1) := dk_112 (dk_at dksX5_work_5 21 rfl rfl)
theorem dX5_work_140 : decode cX5_work 140 = .ok (.iastore, 1) := dk_79 (dk_at dksX5_work_5 22 rfl rfl)
theorem dX5_work_141 : decode cX5_work 141 = .ok (.aload_n 0, 1) := dk_42 (dk_at dksX5_work_5 23 rfl rfl)
theorem dX5_work_142 : decode cX5_work 142 = .ok (.getfield 28, 3) := dk_180 0 28 (dk_at dksX5_work_6 0 rfl rfl)
theorem dX5_work_145 : decode cX5_work 145 = .ok (.iload_n 3, 1) := dk_29 (dk_at dksX5_work_6 3 rfl rfl)
theorem dX5_work_146 : decode cX5_work 146 = .ok (.dup2, 1) := dk_92 (dk_at dksX5_work_6 4 rfl rfl)
theorem dX5_work_147 : decode cX5_work 147 = .ok (.iaload, 1) := dk_46 (dk_at dksX5_work_6 5 rfl rfl)
theorem dX5_work_148 : decode cX5_work 148 = .ok (.iconst 1, 1) := dk_4 (dk_at dksX5_work_6 6 rfl rfl)
theorem dX5_work_149 : decode cX5_work 149 = .ok (.iadd, 1) := dk_96 (dk_at dksX5_work_6 7 rfl rfl)
theorem dX5_work_150 : decode cX5_work 150 = .ok (.iastore, 1) := dk_79 (dk_at dksX5_work_6 8 rfl rfl)
theorem dX5_work_151 : decode cX5_work 151 = .ok (.aload_n 0, 1) := dk_42 (dk_at dksX5_work_6 9 rfl rfl)
theorem dX5_work_152 : decode cX5_work 152 = .ok (.getfield 41, 3) := dk_180 0 41 (dk_at dksX5_work_6 10 rfl rfl)
theorem dX5_work_155 : decode cX5_work 155 = .ok (.iload_n 3, 1) := dk_29 (dk_at dksX5_work_6 13 rfl rfl)
theorem dX5_work_156 : decode cX5_work 156 = .ok (.iload_n 2, 1) := dk_28 (dk_at dksX5_work_6 14 rfl rfl)
theorem dX5_work_157 : decode cX5_work 157 = .ok (.ifCond .le 18, 3) := dk_158 0 18 (dk_at dksX5_work_6 15 rfl rfl)
theorem dX5_work_160 : decode cX5_work 160 = .ok (.aload_n 0, 1) := dk_42 (dk_at dksX5_work_6 18 rfl rfl)
theorem dX5_work_161 : decode cX5_work 161 = .ok (.getfield 28, 3) := dk_180 0 28 (dk_at dksX5_work_6 19 rfl rfl)
theorem dX5_work_164 : decode cX5_work 164 = .ok (.iload_n 3, 1) := dk_29 (dk_at dksX5_work_6 22 rfl rfl)
theorem dX5_work_165 : decode cX5_work 165 = .ok (.iaload, 1) := dk_46 (dk_at dksX5_work_6 23 rfl rfl)
theorem dX5_work_166 : decode cX5_work 166 = .ok (.iload_n 2, 1) := dk_28 (dk_at dksX5_work_7 0 rfl rfl)
theorem dX5_work_167 : decode cX5_work 167 = .ok (.irem, 1) := dk_112 (dk_at dksX5_work_7 1 rfl rfl)
theorem dX5_work_168 : decode cX5_work 168 = .ok (.ifCond .ne 7, 3) := dk_154 0 7 (dk_at dksX5_work_7 2 rfl rfl)
theorem dX5_work_171 : decode cX5_work 171 = .ok (.iconst 1, 1) := dk_4 (dk_at dksX5_work_7 5 rfl rfl)
theorem dX5_work_172 : decode cX5_work 172 = .ok (.goto 4, 3) := dk_167 0 4 (dk_at dksX5_work_7 6 rfl rfl)
theorem dX5_work_175 : decode cX5_work 175 = .ok (.iconst 0, 1) := dk_3 (dk_at dksX5_work_7 9 rfl rfl)
theorem dX5_work_176 : decode cX5_work 176 = .ok (.bastore, 1) := dk_84 (dk_at dksX5_work_7 10 rfl rfl)
theorem dX5_work_177 : decode cX5_work 177 = .ok (.iinc 3 1, 3) := dk_132 3 1 (dk_at dksX5_work_7 11 rfl rfl)
theorem dX5_work_180 : decode cX5_work 180 = .ok (.goto (-134), 3) := dk_167 255 122 (dk_at dksX5_work_7 14 rfl rfl)
theorem dX5_work_183 : decode cX5_work 183 = .ok (.return_, 1) := dk_177 (dk_at dksX5_work_7 17 rfl rfl)
abbrev cX5_act : ByteArray := prog_11_method_8_code
def yX5_act : MethodName := ⟨RX5, "act", "(III)V"⟩
def dkwX5_act_6 : List UInt8 := [167, 0, 3, 177]
abbrev dktX5_act_6 : List UInt8 := dkwX5_act_6 ++ []
def dkwX5_act_5 : List UInt8 := [42, 180, 0, 19, 28, 46, 7, 96, 184, 0, 134, 79, 167, 0, 13, 42, 180, 0, 37, 28, 4, 84]
abbrev dktX5_act_5 : List UInt8 := dkwX5_act_5 ++ dktX5_act_6
def dkwX5_act_4 : List UInt8 := [28, 7, 42, 180, 0, 22, 28, 46, 4, 96, 184, 0, 134, 79, 167, 0, 35, 42, 180, 0, 19, 28, 16, 15]
abbrev dktX5_act_4 : List UInt8 := dkwX5_act_4 ++ dktX5_act_5
def dkwX5_act_3 : List UInt8 := [153, 0, 4, 177, 42, 28, 29, 182, 0, 130, 42, 180, 0, 22, 28, 3, 79, 167, 0, 56, 42, 180, 0, 22]
abbrev dktX5_act_3 : List UInt8 := dkwX5_act_3 ++ dktX5_act_4
def dkwX5_act_2 : List UInt8 := [42, 180, 0, 15, 28, 46, 153, 0, 21, 42, 180, 0, 37, 28, 51, 154, 0, 12, 42, 180, 0, 37, 29, 51]
abbrev dktX5_act_2 : List UInt8 := dkwX5_act_2 ++ dktX5_act_3
def dkwX5_act_1 : List UInt8 := [170, 0, 0, 0, 0, 0, 128, 0, 0, 0, 0, 0, 0, 0, 3, 0, 0, 0, 31, 0, 0, 0, 75, 0, 0, 0, 96, 0, 0, 0, 118]
abbrev dktX5_act_1 : List UInt8 := dkwX5_act_1 ++ dktX5_act_2
def dkwX5_act_0 : List UInt8 := [27]
abbrev dktX5_act_0 : List UInt8 := dkwX5_act_0 ++ dktX5_act_1
theorem dksX5_act_0 : cX5_act.data.toList.drop 0 = dktX5_act_0 := by decide +kernel
theorem dksX5_act_1 : cX5_act.data.toList.drop 1 = dktX5_act_1 := dk_seg dksX5_act_0 1 rfl rfl
theorem dksX5_act_2 : cX5_act.data.toList.drop 32 = dktX5_act_2 := dk_seg dksX5_act_1 31 rfl rfl
theorem dksX5_act_3 : cX5_act.data.toList.drop 56 = dktX5_act_3 := dk_seg dksX5_act_2 24 rfl rfl
theorem dksX5_act_4 : cX5_act.data.toList.drop 80 = dktX5_act_4 := dk_seg dksX5_act_3 24 rfl rfl
theorem dksX5_act_5 : cX5_act.data.toList.drop 104 = dktX5_act_5 := dk_seg dksX5_act_4 24 rfl rfl
theorem dksX5_act_6 : cX5_act.data.toList.drop 126 = dktX5_act_6 := dk_seg dksX5_act_5 22 rfl rfl
theorem dX5_act_0 : decode cX5_act 0 = .ok (.iload_n 1, 1) := dk_27 (dk_at dksX5_act_0 0 rfl rfl)
theorem dX5_act_1 : decode cX5_act 1 = .ok (.tableswitch 128 0 3 #[31, 75, 96, 118], 31) := by decide +kernel
theorem dX5_act_32 : decode cX5_act 32 = .ok (.aload_n 0, 1) := dk_42 (dk_at dksX5_act_2 0 rfl rfl)
theorem dX5_act_33 : decode cX5_act 33 = .ok (.getfield 15, 3) := dk_180 0 15 (dk_at dksX5_act_2 1 rfl rfl)
theorem dX5_act_36 : decode cX5_act 36 = .ok (.iload_n 2, 1) := dk_28 (dk_at dksX5_act_2 4 rfl rfl)
theorem dX5_act_37 : decode cX5_act 37 = .ok (.iaload, 1) := dk_46 (dk_at dksX5_act_2 5 rfl rfl)
theorem dX5_act_38 : decode cX5_act 38 = .ok (.ifCond .eq 21, 3) := dk_153 0 21 (dk_at dksX5_act_2 6 rfl rfl)
theorem dX5_act_41 : decode cX5_act 41 = .ok (.aload_n 0, 1) := dk_42 (dk_at dksX5_act_2 9 rfl rfl)
theorem dX5_act_42 : decode cX5_act 42 = .ok (.getfield 37, 3) := dk_180 0 37 (dk_at dksX5_act_2 10 rfl rfl)
theorem dX5_act_45 : decode cX5_act 45 = .ok (.iload_n 2, 1) := dk_28 (dk_at dksX5_act_2 13 rfl rfl)
theorem dX5_act_46 : decode cX5_act 46 = .ok (.baload, 1) := dk_51 (dk_at dksX5_act_2 14 rfl rfl)
theorem dX5_act_47 : decode cX5_act 47 = .ok (.ifCond .ne 12, 3) := dk_154 0 12 (dk_at dksX5_act_2 15 rfl rfl)
theorem dX5_act_50 : decode cX5_act 50 = .ok (.aload_n 0, 1) := dk_42 (dk_at dksX5_act_2 18 rfl rfl)
theorem dX5_act_51 : decode cX5_act 51 = .ok (.getfield 37, 3) := dk_180 0 37 (dk_at dksX5_act_2 19 rfl rfl)
theorem dX5_act_54 : decode cX5_act 54 = .ok (.iload_n 3, 1) := dk_29 (dk_at dksX5_act_2 22 rfl rfl)
theorem dX5_act_55 : decode cX5_act 55 = .ok (.baload, 1) := dk_51 (dk_at dksX5_act_2 23 rfl rfl)
theorem dX5_act_56 : decode cX5_act 56 = .ok (.ifCond .eq 4, 3) := dk_153 0 4 (dk_at dksX5_act_3 0 rfl rfl)
theorem dX5_act_59 : decode cX5_act 59 = .ok (.return_, 1) := dk_177 (dk_at dksX5_act_3 3 rfl rfl)
theorem dX5_act_60 : decode cX5_act 60 = .ok (.aload_n 0, 1) := dk_42 (dk_at dksX5_act_3 4 rfl rfl)
theorem dX5_act_61 : decode cX5_act 61 = .ok (.iload_n 2, 1) := dk_28 (dk_at dksX5_act_3 5 rfl rfl)
theorem dX5_act_62 : decode cX5_act 62 = .ok (.iload_n 3, 1) := dk_29 (dk_at dksX5_act_3 6 rfl rfl)
theorem dX5_act_63 : decode cX5_act 63 = .ok (.invokevirtual 130, 3) := dk_182 0 130 (dk_at dksX5_act_3 7 rfl rfl)
theorem dX5_act_66 : decode cX5_act 66 = .ok (.aload_n 0, 1) := dk_42 (dk_at dksX5_act_3 10 rfl rfl)
theorem dX5_act_67 : decode cX5_act 67 = .ok (.getfield 22, 3) := dk_180 0 22 (dk_at dksX5_act_3 11 rfl rfl)
theorem dX5_act_70 : decode cX5_act 70 = .ok (.iload_n 2, 1) := dk_28 (dk_at dksX5_act_3 14 rfl rfl)
theorem dX5_act_71 : decode cX5_act 71 = .ok (.iconst 0, 1) := dk_3 (dk_at dksX5_act_3 15 rfl rfl)
theorem dX5_act_72 : decode cX5_act 72 = .ok (.iastore, 1) := dk_79 (dk_at dksX5_act_3 16 rfl rfl)
theorem dX5_act_73 : decode cX5_act 73 = .ok (.goto 56, 3) := dk_167 0 56 (dk_at dksX5_act_3 17 rfl rfl)
theorem dX5_act_76 : decode cX5_act 76 = .ok (.aload_n 0, 1) := dk_42 (dk_at dksX5_act_3 20 rfl rfl)
theorem dX5_act_77 : decode cX5_act 77 = .ok (.getfield 22, 3) := dk_180 0 22 (dk_at dksX5_act_3 21 rfl rfl)
theorem dX5_act_80 : decode cX5_act 80 = .ok (.iload_n 2, 1) := dk_28 (dk_at dksX5_act_4 0 rfl rfl)
theorem dX5_act_81 : decode cX5_act 81 = .ok (.iconst 4, 1) := dk_7 (dk_at dksX5_act_4 1 rfl rfl)
theorem dX5_act_82 : decode cX5_act 82 = .ok (.aload_n 0, 1) := dk_42 (dk_at dksX5_act_4 2 rfl rfl)
theorem dX5_act_83 : decode cX5_act 83 = .ok (.getfield 22, 3) := dk_180 0 22 (dk_at dksX5_act_4 3 rfl rfl)
theorem dX5_act_86 : decode cX5_act 86 = .ok (.iload_n 2, 1) := dk_28 (dk_at dksX5_act_4 6 rfl rfl)
theorem dX5_act_87 : decode cX5_act 87 = .ok (.iaload, 1) := dk_46 (dk_at dksX5_act_4 7 rfl rfl)
theorem dX5_act_88 : decode cX5_act 88 = .ok (.iconst 1, 1) := dk_4 (dk_at dksX5_act_4 8 rfl rfl)
theorem dX5_act_89 : decode cX5_act 89 = .ok (.iadd, 1) := dk_96 (dk_at dksX5_act_4 9 rfl rfl)
theorem dX5_act_90 : decode cX5_act 90 = .ok (.invokestatic 134, 3) := dk_184 0 134 (dk_at dksX5_act_4 10 rfl rfl)
theorem dX5_act_93 : decode cX5_act 93 = .ok (.iastore, 1) := dk_79 (dk_at dksX5_act_4 13 rfl rfl)
theorem dX5_act_94 : decode cX5_act 94 = .ok (.goto 35, 3) := dk_167 0 35 (dk_at dksX5_act_4 14 rfl rfl)
theorem dX5_act_97 : decode cX5_act 97 = .ok (.aload_n 0, 1) := dk_42 (dk_at dksX5_act_4 17 rfl rfl)
theorem dX5_act_98 : decode cX5_act 98 = .ok (.getfield 19, 3) := dk_180 0 19 (dk_at dksX5_act_4 18 rfl rfl)
theorem dX5_act_101 : decode cX5_act 101 = .ok (.iload_n 2, 1) := dk_28 (dk_at dksX5_act_4 21 rfl rfl)
theorem dX5_act_102 : decode cX5_act 102 = .ok (.bipush 15, 2) := dk_16 15 (dk_at dksX5_act_4 22 rfl rfl)
theorem dX5_act_104 : decode cX5_act 104 = .ok (.aload_n 0, 1) := dk_42 (dk_at dksX5_act_5 0 rfl rfl)
theorem dX5_act_105 : decode cX5_act 105 = .ok (.getfield 19, 3) := dk_180 0 19 (dk_at dksX5_act_5 1 rfl rfl)
theorem dX5_act_108 : decode cX5_act 108 = .ok (.iload_n 2, 1) := dk_28 (dk_at dksX5_act_5 4 rfl rfl)
theorem dX5_act_109 : decode cX5_act 109 = .ok (.iaload, 1) := dk_46 (dk_at dksX5_act_5 5 rfl rfl)
theorem dX5_act_110 : decode cX5_act 110 = .ok (.iconst 4, 1) := dk_7 (dk_at dksX5_act_5 6 rfl rfl)
theorem dX5_act_111 : decode cX5_act 111 = .ok (.iadd, 1) := dk_96 (dk_at dksX5_act_5 7 rfl rfl)
theorem dX5_act_112 : decode cX5_act 112 = .ok (.invokestatic 134, 3) := dk_184 0 134 (dk_at dksX5_act_5 8 rfl rfl)
theorem dX5_act_115 : decode cX5_act 115 = .ok (.iastore, 1) := dk_79 (dk_at dksX5_act_5 11 rfl rfl)
theorem dX5_act_116 : decode cX5_act 116 = .ok (.goto 13, 3) := dk_167 0 13 (dk_at dksX5_act_5 12 rfl rfl)
theorem dX5_act_119 : decode cX5_act 119 = .ok (.aload_n 0, 1) := dk_42 (dk_at dksX5_act_5 15 rfl rfl)
theorem dX5_act_120 : decode cX5_act 120 = .ok (.getfield 37, 3) := dk_180 0 37 (dk_at dksX5_act_5 16 rfl rfl)
theorem dX5_act_123 : decode cX5_act 123 = .ok (.iload_n 2, 1) := dk_28 (dk_at dksX5_act_5 19 rfl rfl)
theorem dX5_act_124 : decode cX5_act 124 = .ok (.iconst 1, 1) := dk_4 (dk_at dksX5_act_5 20 rfl rfl)
theorem dX5_act_125 : decode cX5_act 125 = .ok (.bastore, 1) := dk_84 (dk_at dksX5_act_5 21 rfl rfl)
theorem dX5_act_126 : decode cX5_act 126 = .ok (.goto 3, 3) := dk_167 0 3 (dk_at dksX5_act_6 0 rfl rfl)
theorem dX5_act_129 : decode cX5_act 129 = .ok (.return_, 1) := dk_177 (dk_at dksX5_act_6 3 rfl rfl)
abbrev cX5_go : ByteArray := prog_11_method_7_code
def yX5_go : MethodName := ⟨RX5, "go", "(II)V"⟩
def dkwX5_go_2 : List UInt8 := [46, 4, 100, 79, 42, 180, 0, 15, 28, 92, 46, 4, 96, 79, 177]
abbrev dktX5_go_2 : List UInt8 := dkwX5_go_2 ++ []
def dkwX5_go_1 : List UInt8 := [96, 42, 180, 0, 15, 28, 46, 4, 96, 108, 79, 42, 180, 0, 22, 28, 3, 79, 42, 180, 0, 15, 27, 92]
abbrev dktX5_go_1 : List UInt8 := dkwX5_go_1 ++ dktX5_go_2
def dkwX5_go_0 : List UInt8 := [42, 180, 0, 19, 28, 42, 180, 0, 19, 28, 46, 42, 180, 0, 15, 28, 46, 104, 42, 180, 0, 19, 27, 46]
abbrev dktX5_go_0 : List UInt8 := dkwX5_go_0 ++ dktX5_go_1
theorem dksX5_go_0 : cX5_go.data.toList.drop 0 = dktX5_go_0 := by decide +kernel
theorem dksX5_go_1 : cX5_go.data.toList.drop 24 = dktX5_go_1 := dk_seg dksX5_go_0 24 rfl rfl
theorem dksX5_go_2 : cX5_go.data.toList.drop 48 = dktX5_go_2 := dk_seg dksX5_go_1 24 rfl rfl
theorem dX5_go_0 : decode cX5_go 0 = .ok (.aload_n 0, 1) := dk_42 (dk_at dksX5_go_0 0 rfl rfl)
theorem dX5_go_1 : decode cX5_go 1 = .ok (.getfield 19, 3) := dk_180 0 19 (dk_at dksX5_go_0 1 rfl rfl)
theorem dX5_go_4 : decode cX5_go 4 = .ok (.iload_n 2, 1) := dk_28 (dk_at dksX5_go_0 4 rfl rfl)
theorem dX5_go_5 : decode cX5_go 5 = .ok (.aload_n 0, 1) := dk_42 (dk_at dksX5_go_0 5 rfl rfl)
theorem dX5_go_6 : decode cX5_go 6 = .ok (.getfield 19, 3) := dk_180 0 19 (dk_at dksX5_go_0 6 rfl rfl)
theorem dX5_go_9 : decode cX5_go 9 = .ok (.iload_n 2, 1) := dk_28 (dk_at dksX5_go_0 9 rfl rfl)
theorem dX5_go_10 : decode cX5_go 10 = .ok (.iaload, 1) := dk_46 (dk_at dksX5_go_0 10 rfl rfl)
theorem dX5_go_11 : decode cX5_go 11 = .ok (.aload_n 0, 1) := dk_42 (dk_at dksX5_go_0 11 rfl rfl)
theorem dX5_go_12 : decode cX5_go 12 = .ok (.getfield 15, 3) := dk_180 0 15 (dk_at dksX5_go_0 12 rfl rfl)
theorem dX5_go_15 : decode cX5_go 15 = .ok (.iload_n 2, 1) := dk_28 (dk_at dksX5_go_0 15 rfl rfl)
theorem dX5_go_16 : decode cX5_go 16 = .ok (.iaload, 1) := dk_46 (dk_at dksX5_go_0 16 rfl rfl)
theorem dX5_go_17 : decode cX5_go 17 = .ok (.imul, 1) := dk_104 (dk_at dksX5_go_0 17 rfl rfl)
theorem dX5_go_18 : decode cX5_go 18 = .ok (.aload_n 0, 1) := dk_42 (dk_at dksX5_go_0 18 rfl rfl)
theorem dX5_go_19 : decode cX5_go 19 = .ok (.getfield 19, 3) := dk_180 0 19 (dk_at dksX5_go_0 19 rfl rfl)
theorem dX5_go_22 : decode cX5_go 22 = .ok (.iload_n 1, 1) := dk_27 (dk_at dksX5_go_0 22 rfl rfl)
theorem dX5_go_23 : decode cX5_go 23 = .ok (.iaload, 1) := dk_46 (dk_at dksX5_go_0 23 rfl rfl)
theorem dX5_go_24 : decode cX5_go 24 = .ok (.iadd, 1) := dk_96 (dk_at dksX5_go_1 0 rfl rfl)
theorem dX5_go_25 : decode cX5_go 25 = .ok (.aload_n 0, 1) := dk_42 (dk_at dksX5_go_1 1 rfl rfl)
theorem dX5_go_26 : decode cX5_go 26 = .ok (.getfield 15, 3) := dk_180 0 15 (dk_at dksX5_go_1 2 rfl rfl)
theorem dX5_go_29 : decode cX5_go 29 = .ok (.iload_n 2, 1) := dk_28 (dk_at dksX5_go_1 5 rfl rfl)
theorem dX5_go_30 : decode cX5_go 30 = .ok (.iaload, 1) := dk_46 (dk_at dksX5_go_1 6 rfl rfl)
theorem dX5_go_31 : decode cX5_go 31 = .ok (.iconst 1, 1) := dk_4 (dk_at dksX5_go_1 7 rfl rfl)
theorem dX5_go_32 : decode cX5_go 32 = .ok (.iadd, 1) := dk_96 (dk_at dksX5_go_1 8 rfl rfl)
theorem dX5_go_33 : decode cX5_go 33 = .ok (.idiv, 1) := dk_108 (dk_at dksX5_go_1 9 rfl rfl)
theorem dX5_go_34 : decode cX5_go 34 = .ok (.iastore, 1) := dk_79 (dk_at dksX5_go_1 10 rfl rfl)
theorem dX5_go_35 : decode cX5_go 35 = .ok (.aload_n 0, 1) := dk_42 (dk_at dksX5_go_1 11 rfl rfl)
theorem dX5_go_36 : decode cX5_go 36 = .ok (.getfield 22, 3) := dk_180 0 22 (dk_at dksX5_go_1 12 rfl rfl)
theorem dX5_go_39 : decode cX5_go 39 = .ok (.iload_n 2, 1) := dk_28 (dk_at dksX5_go_1 15 rfl rfl)
theorem dX5_go_40 : decode cX5_go 40 = .ok (.iconst 0, 1) := dk_3 (dk_at dksX5_go_1 16 rfl rfl)
theorem dX5_go_41 : decode cX5_go 41 = .ok (.iastore, 1) := dk_79 (dk_at dksX5_go_1 17 rfl rfl)
theorem dX5_go_42 : decode cX5_go 42 = .ok (.aload_n 0, 1) := dk_42 (dk_at dksX5_go_1 18 rfl rfl)
theorem dX5_go_43 : decode cX5_go 43 = .ok (.getfield 15, 3) := dk_180 0 15 (dk_at dksX5_go_1 19 rfl rfl)
theorem dX5_go_46 : decode cX5_go 46 = .ok (.iload_n 1, 1) := dk_27 (dk_at dksX5_go_1 22 rfl rfl)
theorem dX5_go_47 : decode cX5_go 47 = .ok (.dup2, 1) := dk_92 (dk_at dksX5_go_1 23 rfl rfl)
theorem dX5_go_48 : decode cX5_go 48 = .ok (.iaload, 1) := dk_46 (dk_at dksX5_go_2 0 rfl rfl)
theorem dX5_go_49 : decode cX5_go 49 = .ok (.iconst 1, 1) := dk_4 (dk_at dksX5_go_2 1 rfl rfl)
theorem dX5_go_50 : decode cX5_go 50 = .ok (.isub, 1) := dk_100 (dk_at dksX5_go_2 2 rfl rfl)
theorem dX5_go_51 : decode cX5_go 51 = .ok (.iastore, 1) := dk_79 (dk_at dksX5_go_2 3 rfl rfl)
theorem dX5_go_52 : decode cX5_go 52 = .ok (.aload_n 0, 1) := dk_42 (dk_at dksX5_go_2 4 rfl rfl)
theorem dX5_go_53 : decode cX5_go 53 = .ok (.getfield 15, 3) := dk_180 0 15 (dk_at dksX5_go_2 5 rfl rfl)
theorem dX5_go_56 : decode cX5_go 56 = .ok (.iload_n 2, 1) := dk_28 (dk_at dksX5_go_2 8 rfl rfl)
theorem dX5_go_57 : decode cX5_go 57 = .ok (.dup2, 1) := dk_92 (dk_at dksX5_go_2 9 rfl rfl)
theorem dX5_go_58 : decode cX5_go 58 = .ok (.iaload, 1) := dk_46 (dk_at dksX5_go_2 10 rfl rfl)
theorem dX5_go_59 : decode cX5_go 59 = .ok (.iconst 1, 1) := dk_4 (dk_at dksX5_go_2 11 rfl rfl)
theorem dX5_go_60 : decode cX5_go 60 = .ok (.iadd, 1) := dk_96 (dk_at dksX5_go_2 12 rfl rfl)
theorem dX5_go_61 : decode cX5_go 61 = .ok (.iastore, 1) := dk_79 (dk_at dksX5_go_2 13 rfl rfl)
theorem dX5_go_62 : decode cX5_go 62 = .ok (.return_, 1) := dk_177 (dk_at dksX5_go_2 14 rfl rfl)
abbrev cX5_comeOn : ByteArray := prog_11_method_18_code
def yX5_comeOn : MethodName := ⟨RX5, "comeOn", "()V"⟩
def dkwX5_comeOn_1 : List UInt8 := [181, 0, 87, 177]
abbrev dktX5_comeOn_1 : List UInt8 := dkwX5_comeOn_1 ++ []
def dkwX5_comeOn_0 : List UInt8 := [42, 182, 0, 245, 42, 182, 0, 247, 42, 182, 0, 250, 42, 182, 0, 253, 42, 89, 180, 0, 87, 4, 96]
abbrev dktX5_comeOn_0 : List UInt8 := dkwX5_comeOn_0 ++ dktX5_comeOn_1
theorem dksX5_comeOn_0 : cX5_comeOn.data.toList.drop 0 = dktX5_comeOn_0 := by decide +kernel
theorem dksX5_comeOn_1 : cX5_comeOn.data.toList.drop 23 = dktX5_comeOn_1 := dk_seg dksX5_comeOn_0 23 rfl rfl
theorem dX5_comeOn_0 : decode cX5_comeOn 0 = .ok (.aload_n 0, 1) := dk_42 (dk_at dksX5_comeOn_0 0 rfl rfl)
theorem dX5_comeOn_1 : decode cX5_comeOn 1 = .ok (.invokevirtual 245, 3) := dk_182 0 245 (dk_at dksX5_comeOn_0 1 rfl rfl)
theorem dX5_comeOn_4 : decode cX5_comeOn 4 = .ok (.aload_n 0, 1) := dk_42 (dk_at dksX5_comeOn_0 4 rfl rfl)
theorem dX5_comeOn_5 : decode cX5_comeOn 5 = .ok (.invokevirtual 247, 3) := dk_182 0 247 (dk_at dksX5_comeOn_0 5 rfl rfl)
theorem dX5_comeOn_8 : decode cX5_comeOn 8 = .ok (.aload_n 0, 1) := dk_42 (dk_at dksX5_comeOn_0 8 rfl rfl)
theorem dX5_comeOn_9 : decode cX5_comeOn 9 = .ok (.invokevirtual 250, 3) := dk_182 0 250 (dk_at dksX5_comeOn_0 9 rfl rfl)
theorem dX5_comeOn_12 : decode cX5_comeOn 12 = .ok (.aload_n 0, 1) := dk_42 (dk_at dksX5_comeOn_0 12 rfl rfl)
theorem dX5_comeOn_13 : decode cX5_comeOn 13 = .ok (.invokevirtual 253, 3) := dk_182 0 253 (dk_at dksX5_comeOn_0 13 rfl rfl)
theorem dX5_comeOn_16 : decode cX5_comeOn 16 = .ok (.aload_n 0, 1) := dk_42 (dk_at dksX5_comeOn_0 16 rfl rfl)
theorem dX5_comeOn_17 : decode cX5_comeOn 17 = .ok (.dup, 1) := dk_89 (dk_at dksX5_comeOn_0 17 rfl rfl)
theorem dX5_comeOn_18 : decode cX5_comeOn 18 = .ok (.getfield 87, 3) := dk_180 0 87 (dk_at dksX5_comeOn_0 18 rfl rfl)
theorem dX5_comeOn_21 : decode cX5_comeOn 21 = .ok (.iconst 1, 1) := dk_4 (dk_at dksX5_comeOn_0 21 rfl rfl)
theorem dX5_comeOn_22 : decode cX5_comeOn 22 = .ok (.iadd, 1) := dk_96 (dk_at dksX5_comeOn_0 22 rfl rfl)
theorem dX5_comeOn_23 : decode cX5_comeOn 23 = .ok (.putfield 87, 3) := dk_181 0 87 (dk_at dksX5_comeOn_1 0 rfl rfl)
theorem dX5_comeOn_26 : decode cX5_comeOn 26 = .ok (.return_, 1) := dk_177 (dk_at dksX5_comeOn_1 3 rfl rfl)
abbrev cX5_waves : ByteArray := prog_11_method_12_code
def yX5_waves : MethodName := ⟨RX5, "waves", "()V"⟩
def dkwX5_waves_8 : List UInt8 := [180, 0, 3, 180, 0, 189, 180, 0, 226, 3, 46, 100, 4, 96, 182, 0, 217, 96, 182, 0, 210, 177]
abbrev dktX5_waves_8 : List UInt8 := dkwX5_waves_8 ++ []
def dkwX5_waves_7 : List UInt8 := [180, 0, 189, 180, 0, 226, 3, 46, 42, 42, 180, 0, 3, 180, 0, 189, 180, 0, 226, 4, 46, 42]
abbrev dktX5_waves_7 : List UInt8 := dkwX5_waves_7 ++ dktX5_waves_8
def dkwX5_waves_6 : List UInt8 := [180, 0, 189, 180, 0, 224, 3, 46, 100, 4, 96, 182, 0, 217, 96, 60, 42, 27, 42, 180, 0, 3]
abbrev dktX5_waves_6 : List UInt8 := dkwX5_waves_6 ++ dktX5_waves_7
def dkwX5_waves_5 : List UInt8 := [180, 0, 224, 3, 46, 42, 42, 180, 0, 3, 180, 0, 189, 180, 0, 224, 4, 46, 42, 180, 0, 3]
abbrev dktX5_waves_5 : List UInt8 := dkwX5_waves_5 ++ dktX5_waves_6
def dkwX5_waves_4 : List UInt8 := [180, 0, 3, 180, 0, 189, 180, 0, 221, 6, 46, 161, 0, 4, 177, 42, 180, 0, 3, 180, 0, 189]
abbrev dktX5_waves_4 : List UInt8 := dkwX5_waves_4 ++ dktX5_waves_5
def dkwX5_waves_3 : List UInt8 := [180, 0, 3, 180, 0, 189, 42, 180, 0, 87, 182, 0, 213, 153, 0, 24, 42, 16, 100, 182, 0, 217, 42]
abbrev dktX5_waves_3 : List UInt8 := dkwX5_waves_3 ++ dktX5_waves_4
def dkwX5_waves_2 : List UInt8 := [160, 0, 15, 42, 44, 180, 0, 204, 44, 180, 0, 207, 182, 0, 210, 132, 1, 1, 167, 255, 195, 42]
abbrev dktX5_waves_2 : List UInt8 := dkwX5_waves_2 ++ dktX5_waves_3
def dkwX5_waves_1 : List UInt8 := [180, 0, 189, 180, 0, 198, 27, 182, 0, 143, 192, 0, 201, 77, 44, 180, 0, 203, 42, 180, 0, 87]
abbrev dktX5_waves_1 : List UInt8 := dkwX5_waves_1 ++ dktX5_waves_2
def dkwX5_waves_0 : List UInt8 := [3, 60, 27, 42, 180, 0, 3, 180, 0, 189, 180, 0, 198, 182, 0, 157, 162, 0, 50, 42, 180, 0, 3]
abbrev dktX5_waves_0 : List UInt8 := dkwX5_waves_0 ++ dktX5_waves_1
theorem dksX5_waves_0 : cX5_waves.data.toList.drop 0 = dktX5_waves_0 := by decide +kernel
theorem dksX5_waves_1 : cX5_waves.data.toList.drop 23 = dktX5_waves_1 := dk_seg dksX5_waves_0 23 rfl rfl
theorem dksX5_waves_2 : cX5_waves.data.toList.drop 45 = dktX5_waves_2 := dk_seg dksX5_waves_1 22 rfl rfl
theorem dksX5_waves_3 : cX5_waves.data.toList.drop 67 = dktX5_waves_3 := dk_seg dksX5_waves_2 22 rfl rfl
theorem dksX5_waves_4 : cX5_waves.data.toList.drop 90 = dktX5_waves_4 := dk_seg dksX5_waves_3 23 rfl rfl
theorem dksX5_waves_5 : cX5_waves.data.toList.drop 112 = dktX5_waves_5 := dk_seg dksX5_waves_4 22 rfl rfl
theorem dksX5_waves_6 : cX5_waves.data.toList.drop 134 = dktX5_waves_6 := dk_seg dksX5_waves_5 22 rfl rfl
theorem dksX5_waves_7 : cX5_waves.data.toList.drop 156 = dktX5_waves_7 := dk_seg dksX5_waves_6 22 rfl rfl
theorem dksX5_waves_8 : cX5_waves.data.toList.drop 178 = dktX5_waves_8 := dk_seg dksX5_waves_7 22 rfl rfl
theorem dX5_waves_0 : decode cX5_waves 0 = .ok (.iconst 0, 1) := dk_3 (dk_at dksX5_waves_0 0 rfl rfl)
theorem dX5_waves_1 : decode cX5_waves 1 = .ok (.istore_n 1, 1) := dk_60 (dk_at dksX5_waves_0 1 rfl rfl)
theorem dX5_waves_2 : decode cX5_waves 2 = .ok (.iload_n 1, 1) := dk_27 (dk_at dksX5_waves_0 2 rfl rfl)
theorem dX5_waves_3 : decode cX5_waves 3 = .ok (.aload_n 0, 1) := dk_42 (dk_at dksX5_waves_0 3 rfl rfl)
theorem dX5_waves_4 : decode cX5_waves 4 = .ok (.getfield 3, 3) := dk_180 0 3 (dk_at dksX5_waves_0 4 rfl rfl)
theorem dX5_waves_7 : decode cX5_waves 7 = .ok (.getfield 189, 3) := dk_180 0 189 (dk_at dksX5_waves_0 7 rfl rfl)
theorem dX5_waves_10 : decode cX5_waves 10 = .ok (.getfield 198, 3) := dk_180 0 198 (dk_at dksX5_waves_0 10 rfl rfl)
theorem dX5_waves_13 : decode cX5_waves 13 = .ok (.invokevirtual 157, 3) := dk_182 0 157 (dk_at dksX5_waves_0 13 rfl rfl)
theorem dX5_waves_16 : decode cX5_waves 16 = .ok (.if_icmp .ge 50, 3) := dk_162 0 50 (dk_at dksX5_waves_0 16 rfl rfl)
theorem dX5_waves_19 : decode cX5_waves 19 = .ok (.aload_n 0, 1) := dk_42 (dk_at dksX5_waves_0 19 rfl rfl)
theorem dX5_waves_20 : decode cX5_waves 20 = .ok (.getfield 3, 3) := dk_180 0 3 (dk_at dksX5_waves_0 20 rfl rfl)
theorem dX5_waves_23 : decode cX5_waves 23 = .ok (.getfield 189, 3) := dk_180 0 189 (dk_at dksX5_waves_1 0 rfl rfl)
theorem dX5_waves_26 : decode cX5_waves 26 = .ok (.getfield 198, 3) := dk_180 0 198 (dk_at dksX5_waves_1 3 rfl rfl)
theorem dX5_waves_29 : decode cX5_waves 29 = .ok (.iload_n 1, 1) := dk_27 (dk_at dksX5_waves_1 6 rfl rfl)
theorem dX5_waves_30 : decode cX5_waves 30 = .ok (.invokevirtual 143, 3) := dk_182 0 143 (dk_at dksX5_waves_1 7 rfl rfl)
theorem dX5_waves_33 : decode cX5_waves 33 = .ok (.checkcast 201, 3) := dk_192 0 201 (dk_at dksX5_waves_1 10 rfl rfl)
theorem dX5_waves_36 : decode cX5_waves 36 = .ok (.astore_n 2, 1) := dk_77 (dk_at dksX5_waves_1 13 rfl rfl)
theorem dX5_waves_37 : decode cX5_waves 37 = .ok (.aload_n 2, 1) := dk_44 (dk_at dksX5_waves_1 14 rfl rfl)
theorem dX5_waves_38 : decode cX5_waves 38 = .ok (.getfield 203, 3) := dk_180 0 203 (dk_at dksX5_waves_1 15 rfl rfl)
theorem dX5_waves_41 : decode cX5_waves 41 = .ok (.aload_n 0, 1) := dk_42 (dk_at dksX5_waves_1 18 rfl rfl)
theorem dX5_waves_42 : decode cX5_waves 42 = .ok (.getfield 87, 3) := dk_180 0 87 (dk_at dksX5_waves_1 19 rfl rfl)
theorem dX5_waves_45 : decode cX5_waves 45 = .ok (.if_icmp .ne 15, 3) := dk_160 0 15 (dk_at dksX5_waves_2 0 rfl rfl)
theorem dX5_waves_48 : decode cX5_waves 48 = .ok (.aload_n 0, 1) := dk_42 (dk_at dksX5_waves_2 3 rfl rfl)
theorem dX5_waves_49 : decode cX5_waves 49 = .ok (.aload_n 2, 1) := dk_44 (dk_at dksX5_waves_2 4 rfl rfl)
theorem dX5_waves_50 : decode cX5_waves 50 = .ok (.getfield 204, 3) := dk_180 0 204 (dk_at dksX5_waves_2 5 rfl rfl)
theorem dX5_waves_53 : decode cX5_waves 53 = .ok (.aload_n 2, 1) := dk_44 (dk_at dksX5_waves_2 8 rfl rfl)
theorem dX5_waves_54 : decode cX5_waves 54 = .ok (.getfield 207, 3) := dk_180 0 207 (dk_at dksX5_waves_2 9 rfl rfl)
theorem dX5_waves_57 : decode cX5_waves 57 = .ok (.invokevirtual 210, 3) := dk_182 0 210 (dk_at dksX5_waves_2 12 rfl rfl)
theorem dX5_waves_60 : decode cX5_waves 60 = .ok (.iinc 1 1, 3) := dk_132 1 1 (dk_at dksX5_waves_2 15 rfl rfl)
theorem dX5_waves_63 : decode cX5_waves 63 = .ok (.goto (-61), 3) := dk_167 255 195 (dk_at dksX5_waves_2 18 rfl rfl)
theorem dX5_waves_66 : decode cX5_waves 66 = .ok (.aload_n 0, 1) := dk_42 (dk_at dksX5_waves_2 21 rfl rfl)
theorem dX5_waves_67 : decode cX5_waves 67 = .ok (.getfield 3, 3) := dk_180 0 3 (dk_at dksX5_waves_3 0 rfl rfl)
theorem dX5_waves_70 : decode cX5_waves 70 = .ok (.getfield 189, 3) := dk_180 0 189 (dk_at dksX5_waves_3 3 rfl rfl)
theorem dX5_waves_73 : decode cX5_waves 73 = .ok (.aload_n 0, 1) := dk_42 (dk_at dksX5_waves_3 6 rfl rfl)
theorem dX5_waves_74 : decode cX5_waves 74 = .ok (.getfield 87, 3) := dk_180 0 87 (dk_at dksX5_waves_3 7 rfl rfl)
theorem dX5_waves_77 : decode cX5_waves 77 = .ok (.invokevirtual 213, 3) := dk_182 0 213 (dk_at dksX5_waves_3 10 rfl rfl)
theorem dX5_waves_80 : decode cX5_waves 80 = .ok (.ifCond .eq 24, 3) := dk_153 0 24 (dk_at dksX5_waves_3 13 rfl rfl)
theorem dX5_waves_83 : decode cX5_waves 83 = .ok (.aload_n 0, 1) := dk_42 (dk_at dksX5_waves_3 16 rfl rfl)
theorem dX5_waves_84 : decode cX5_waves 84 = .ok (.bipush 100, 2) := dk_16 100 (dk_at dksX5_waves_3 17 rfl rfl)
theorem dX5_waves_86 : decode cX5_waves 86 = .ok (.invokevirtual 217, 3) := dk_182 0 217 (dk_at dksX5_waves_3 19 rfl rfl)
theorem dX5_waves_89 : decode cX5_waves 89 = .ok (.aload_n 0, 1) := dk_42 (dk_at dksX5_waves_3 22 rfl rfl)
theorem dX5_waves_90 : decode cX5_waves 90 = .ok (.getfield 3, 3) := dk_180 0 3 (dk_at dksX5_waves_4 0 rfl rfl)
theorem dX5_waves_93 : decode cX5_waves 93 = .ok (.getfield 189, 3) := dk_180 0 189 (dk_at dksX5_waves_4 3 rfl rfl)
theorem dX5_waves_96 : decode cX5_waves 96 = .ok (.getfield 221, 3) := dk_180 0 221 (dk_at dksX5_waves_4 6 rfl rfl)
theorem dX5_waves_99 : decode cX5_waves 99 = .ok (.iconst 3, 1) := dk_6 (dk_at dksX5_waves_4 9 rfl rfl)
theorem dX5_waves_100 : decode cX5_waves 100 = .ok (.iaload, 1) := dk_46 (dk_at dksX5_waves_4 10 rfl rfl)
theorem dX5_waves_101 : decode cX5_waves 101 = .ok (.if_icmp .lt 4, 3) := dk_161 0 4 (dk_at dksX5_waves_4 11 rfl rfl)
theorem dX5_waves_104 : decode cX5_waves 104 = .ok (.return_, 1) := dk_177 (dk_at dksX5_waves_4 14 rfl rfl)
theorem dX5_waves_105 : decode cX5_waves 105 = .ok (.aload_n 0, 1) := dk_42 (dk_at dksX5_waves_4 15 rfl rfl)
theorem dX5_waves_106 : decode cX5_waves 106 = .ok (.getfield 3, 3) := dk_180 0 3 (dk_at dksX5_waves_4 16 rfl rfl)
theorem dX5_waves_109 : decode cX5_waves 109 = .ok (.getfield 189, 3) := dk_180 0 189 (dk_at dksX5_waves_4 19 rfl rfl)
theorem dX5_waves_112 : decode cX5_waves 112 = .ok (.getfield 224, 3) := dk_180 0 224 (dk_at dksX5_waves_5 0 rfl rfl)
theorem dX5_waves_115 : decode cX5_waves 115 = .ok (.iconst 0, 1) := dk_3 (dk_at dksX5_waves_5 3 rfl rfl)
theorem dX5_waves_116 : decode cX5_waves 116 = .ok (.iaload, 1) := dk_46 (dk_at dksX5_waves_5 4 rfl rfl)
theorem dX5_waves_117 : decode cX5_waves 117 = .ok (.aload_n 0, 1) := dk_42 (dk_at dksX5_waves_5 5 rfl rfl)
theorem dX5_waves_118 : decode cX5_waves 118 = .ok (.aload_n 0, 1) := dk_42 (dk_at dksX5_waves_5 6 rfl rfl)
theorem dX5_waves_119 : decode cX5_waves 119 = .ok (.getfield 3, 3) := dk_180 0 3 (dk_at dksX5_waves_5 7 rfl rfl)
theorem dX5_waves_122 : decode cX5_waves 122 = .ok (.getfield 189, 3) := dk_180 0 189 (dk_at dksX5_waves_5 10 rfl rfl)
theorem dX5_waves_125 : decode cX5_waves 125 = .ok (.getfield 224, 3) := dk_180 0 224 (dk_at dksX5_waves_5 13 rfl rfl)
theorem dX5_waves_128 : decode cX5_waves 128 = .ok (.iconst 1, 1) := dk_4 (dk_at dksX5_waves_5 16 rfl rfl)
theorem dX5_waves_129 : decode cX5_waves 129 = .ok (.iaload, 1) := dk_46 (dk_at dksX5_waves_5 17 rfl rfl)
theorem dX5_waves_130 : decode cX5_waves 130 = .ok (.aload_n 0, 1) := dk_42 (dk_at dksX5_waves_5 18 rfl rfl)
theorem dX5_waves_131 : decode cX5_waves 131 = .ok (.getfield 3, 3) := dk_180 0 3 (dk_at dksX5_waves_5 19 rfl rfl)
theorem dX5_waves_134 : decode cX5_waves 134 = .ok (.getfield 189, 3) := dk_180 0 189 (dk_at dksX5_waves_6 0 rfl rfl)
theorem dX5_waves_137 : decode cX5_waves 137 = .ok (.getfield 224, 3) := dk_180 0 224 (dk_at dksX5_waves_6 3 rfl rfl)
theorem dX5_waves_140 : decode cX5_waves 140 = .ok (.iconst 0, 1) := dk_3 (dk_at dksX5_waves_6 6 rfl rfl)
theorem dX5_waves_141 : decode cX5_waves 141 = .ok (.iaload, 1) := dk_46 (dk_at dksX5_waves_6 7 rfl rfl)
theorem dX5_waves_142 : decode cX5_waves 142 = .ok (.isub, 1) := dk_100 (dk_at dksX5_waves_6 8 rfl rfl)
theorem dX5_waves_143 : decode cX5_waves 143 = .ok (.iconst 1, 1) := dk_4 (dk_at dksX5_waves_6 9 rfl rfl)
theorem dX5_waves_144 : decode cX5_waves 144 = .ok (.iadd, 1) := dk_96 (dk_at dksX5_waves_6 10 rfl rfl)
theorem dX5_waves_145 : decode cX5_waves 145 = .ok (.invokevirtual 217, 3) := dk_182 0 217 (dk_at dksX5_waves_6 11 rfl rfl)
theorem dX5_waves_148 : decode cX5_waves 148 = .ok (.iadd, 1) := dk_96 (dk_at dksX5_waves_6 14 rfl rfl)
theorem dX5_waves_149 : decode cX5_waves 149 = .ok (.istore_n 1, 1) := dk_60 (dk_at dksX5_waves_6 15 rfl rfl)
theorem dX5_waves_150 : decode cX5_waves 150 = .ok (.aload_n 0, 1) := dk_42 (dk_at dksX5_waves_6 16 rfl rfl)
theorem dX5_waves_151 : decode cX5_waves 151 = .ok (.iload_n 1, 1) := dk_27 (dk_at dksX5_waves_6 17 rfl rfl)
theorem dX5_waves_152 : decode cX5_waves 152 = .ok (.aload_n 0, 1) := dk_42 (dk_at dksX5_waves_6 18 rfl rfl)
theorem dX5_waves_153 : decode cX5_waves 153 = .ok (.getfield 3, 3) := dk_180 0 3 (dk_at dksX5_waves_6 19 rfl rfl)
theorem dX5_waves_156 : decode cX5_waves 156 = .ok (.getfield 189, 3) := dk_180 0 189 (dk_at dksX5_waves_7 0 rfl rfl)
theorem dX5_waves_159 : decode cX5_waves 159 = .ok (.getfield 226, 3) := dk_180 0 226 (dk_at dksX5_waves_7 3 rfl rfl)
theorem dX5_waves_162 : decode cX5_waves 162 = .ok (.iconst 0, 1) := dk_3 (dk_at dksX5_waves_7 6 rfl rfl)
theorem dX5_waves_163 : decode cX5_waves 163 = .ok (.iaload, 1) := dk_46 (dk_at dksX5_waves_7 7 rfl rfl)
theorem dX5_waves_164 : decode cX5_waves 164 = .ok (.aload_n 0, 1) := dk_42 (dk_at dksX5_waves_7 8 rfl rfl)
theorem dX5_waves_165 : decode cX5_waves 165 = .ok (.aload_n 0, 1) := dk_42 (dk_at dksX5_waves_7 9 rfl rfl)
theorem dX5_waves_166 : decode cX5_waves 166 = .ok (.getfield 3, 3) := dk_180 0 3 (dk_at dksX5_waves_7 10 rfl rfl)
theorem dX5_waves_169 : decode cX5_waves 169 = .ok (.getfield 189, 3) := dk_180 0 189 (dk_at dksX5_waves_7 13 rfl rfl)
theorem dX5_waves_172 : decode cX5_waves 172 = .ok (.getfield 226, 3) := dk_180 0 226 (dk_at dksX5_waves_7 16 rfl rfl)
theorem dX5_waves_175 : decode cX5_waves 175 = .ok (.iconst 1, 1) := dk_4 (dk_at dksX5_waves_7 19 rfl rfl)
theorem dX5_waves_176 : decode cX5_waves 176 = .ok (.iaload, 1) := dk_46 (dk_at dksX5_waves_7 20 rfl rfl)
theorem dX5_waves_177 : decode cX5_waves 177 = .ok (.aload_n 0, 1) := dk_42 (dk_at dksX5_waves_7 21 rfl rfl)
theorem dX5_waves_178 : decode cX5_waves 178 = .ok (.getfield 3, 3) := dk_180 0 3 (dk_at dksX5_waves_8 0 rfl rfl)
theorem dX5_waves_181 : decode cX5_waves 181 = .ok (.getfield 189, 3) := dk_180 0 189 (dk_at dksX5_waves_8 3 rfl rfl)
theorem dX5_waves_184 : decode cX5_waves 184 = .ok (.getfield 226, 3) := dk_180 0 226 (dk_at dksX5_waves_8 6 rfl rfl)
theorem dX5_waves_187 : decode cX5_waves 187 = .ok (.iconst 0, 1) := dk_3 (dk_at dksX5_waves_8 9 rfl rfl)
theorem dX5_waves_188 : decode cX5_waves 188 = .ok (.iaload, 1) := dk_46 (dk_at dksX5_waves_8 10 rfl rfl)
theorem dX5_waves_189 : decode cX5_waves 189 = .ok (.isub, 1) := dk_100 (dk_at dksX5_waves_8 11 rfl rfl)
theorem dX5_waves_190 : decode cX5_waves 190 = .ok (.iconst 1, 1) := dk_4 (dk_at dksX5_waves_8 12 rfl rfl)
theorem dX5_waves_191 : decode cX5_waves 191 = .ok (.iadd, 1) := dk_96 (dk_at dksX5_waves_8 13 rfl rfl)
theorem dX5_waves_192 : decode cX5_waves 192 = .ok (.invokevirtual 217, 3) := dk_182 0 217 (dk_at dksX5_waves_8 14 rfl rfl)
theorem dX5_waves_195 : decode cX5_waves 195 = .ok (.iadd, 1) := dk_96 (dk_at dksX5_waves_8 17 rfl rfl)
theorem dX5_waves_196 : decode cX5_waves 196 = .ok (.invokevirtual 210, 3) := dk_182 0 210 (dk_at dksX5_waves_8 18 rfl rfl)
theorem dX5_waves_199 : decode cX5_waves 199 = .ok (.return_, 1) := dk_177 (dk_at dksX5_waves_8 21 rfl rfl)
abbrev cX5_wave : ByteArray := prog_11_method_10_code
def yX5_wave : MethodName := ⟨RX5, "wave", "(II)V"⟩
def dkwX5_wave_2 : List UInt8 := [132, 3, 1, 167, 255, 219, 177]
abbrev dktX5_wave_2 : List UInt8 := dkwX5_wave_2 ++ []
def dkwX5_wave_1 : List UInt8 := [162, 0, 29, 42, 29, 27, 42, 180, 0, 3, 180, 0, 52, 180, 0, 183, 184, 0, 134, 28, 182, 0, 186]
abbrev dktX5_wave_1 : List UInt8 := dkwX5_wave_1 ++ dktX5_wave_2
def dkwX5_wave_0 : List UInt8 := [42, 89, 180, 0, 102, 4, 96, 181, 0, 102, 3, 62, 29, 42, 180, 0, 3, 180, 0, 52, 180, 0, 180]
abbrev dktX5_wave_0 : List UInt8 := dkwX5_wave_0 ++ dktX5_wave_1
theorem dksX5_wave_0 : cX5_wave.data.toList.drop 0 = dktX5_wave_0 := by decide +kernel
theorem dksX5_wave_1 : cX5_wave.data.toList.drop 23 = dktX5_wave_1 := dk_seg dksX5_wave_0 23 rfl rfl
theorem dksX5_wave_2 : cX5_wave.data.toList.drop 46 = dktX5_wave_2 := dk_seg dksX5_wave_1 23 rfl rfl
theorem dX5_wave_0 : decode cX5_wave 0 = .ok (.aload_n 0, 1) := dk_42 (dk_at dksX5_wave_0 0 rfl rfl)
theorem dX5_wave_1 : decode cX5_wave 1 = .ok (.dup, 1) := dk_89 (dk_at dksX5_wave_0 1 rfl rfl)
theorem dX5_wave_2 : decode cX5_wave 2 = .ok (.getfield 102, 3) := dk_180 0 102 (dk_at dksX5_wave_0 2 rfl rfl)
theorem dX5_wave_5 : decode cX5_wave 5 = .ok (.iconst 1, 1) := dk_4 (dk_at dksX5_wave_0 5 rfl rfl)
theorem dX5_wave_6 : decode cX5_wave 6 = .ok (.iadd, 1) := dk_96 (dk_at dksX5_wave_0 6 rfl rfl)
theorem dX5_wave_7 : decode cX5_wave 7 = .ok (.putfield 102, 3) := dk_181 0 102 (dk_at dksX5_wave_0 7 rfl rfl)
theorem dX5_wave_10 : decode cX5_wave 10 = .ok (.iconst 0, 1) := dk_3 (dk_at dksX5_wave_0 10 rfl rfl)
theorem dX5_wave_11 : decode cX5_wave 11 = .ok (.istore_n 3, 1) := dk_62 (dk_at dksX5_wave_0 11 rfl rfl)
theorem dX5_wave_12 : decode cX5_wave 12 = .ok (.iload_n 3, 1) := dk_29 (dk_at dksX5_wave_0 12 rfl rfl)
theorem dX5_wave_13 : decode cX5_wave 13 = .ok (.aload_n 0, 1) := dk_42 (dk_at dksX5_wave_0 13 rfl rfl)
theorem dX5_wave_14 : decode cX5_wave 14 = .ok (.getfield 3, 3) := dk_180 0 3 (dk_at dksX5_wave_0 14 rfl rfl)
theorem dX5_wave_17 : decode cX5_wave 17 = .ok (.getfield 52, 3) := dk_180 0 52 (dk_at dksX5_wave_0 17 rfl rfl)
theorem dX5_wave_20 : decode cX5_wave 20 = .ok (.getfield 180, 3) := dk_180 0 180 (dk_at dksX5_wave_0 20 rfl rfl)
theorem dX5_wave_23 : decode cX5_wave 23 = .ok (.if_icmp .ge 29, 3) := dk_162 0 29 (dk_at dksX5_wave_1 0 rfl rfl)
theorem dX5_wave_26 : decode cX5_wave 26 = .ok (.aload_n 0, 1) := dk_42 (dk_at dksX5_wave_1 3 rfl rfl)
theorem dX5_wave_27 : decode cX5_wave 27 = .ok (.iload_n 3, 1) := dk_29 (dk_at dksX5_wave_1 4 rfl rfl)
theorem dX5_wave_28 : decode cX5_wave 28 = .ok (.iload_n 1, 1) := dk_27 (dk_at dksX5_wave_1 5 rfl rfl)
theorem dX5_wave_29 : decode cX5_wave 29 = .ok (.aload_n 0, 1) := dk_42 (dk_at dksX5_wave_1 6 rfl rfl)
theorem dX5_wave_30 : decode cX5_wave 30 = .ok (.getfield 3, 3) := dk_180 0 3 (dk_at dksX5_wave_1 7 rfl rfl)
theorem dX5_wave_33 : decode cX5_wave 33 = .ok (.getfield 52, 3) := dk_180 0 52 (dk_at dksX5_wave_1 10 rfl rfl)
theorem dX5_wave_36 : decode cX5_wave 36 = .ok (.getfield 183, 3) := dk_180 0 183 (dk_at dksX5_wave_1 13 rfl rfl)
theorem dX5_wave_39 : decode cX5_wave 39 = .ok (.invokestatic 134, 3) := dk_184 0 134 (dk_at dksX5_wave_1 16 rfl rfl)
theorem dX5_wave_42 : decode cX5_wave 42 = .ok (.iload_n 2, 1) := dk_28 (dk_at dksX5_wave_1 19 rfl rfl)
theorem dX5_wave_43 : decode cX5_wave 43 = .ok (.invokevirtual 186, 3) := dk_182 0 186 (dk_at dksX5_wave_1 20 rfl rfl)
theorem dX5_wave_46 : decode cX5_wave 46 = .ok (.iinc 3 1, 3) := dk_132 3 1 (dk_at dksX5_wave_2 0 rfl rfl)
theorem dX5_wave_49 : decode cX5_wave 49 = .ok (.goto (-37), 3) := dk_167 255 219 (dk_at dksX5_wave_2 3 rfl rfl)
theorem dX5_wave_52 : decode cX5_wave 52 = .ok (.return_, 1) := dk_177 (dk_at dksX5_wave_2 6 rfl rfl)
abbrev cX5_run : ByteArray := prog_11_method_11_code
def yX5_run : MethodName := ⟨RX5, "run", "(III)V"⟩
def dkwX5_run_6 : List UInt8 := [181, 0, 90, 177, 132, 4, 1, 167, 255, 113, 177]
abbrev dktX5_run_6 : List UInt8 := dkwX5_run_6 ++ []
def dkwX5_run_5 : List UInt8 := [54, 6, 42, 180, 0, 15, 21, 5, 92, 46, 21, 6, 100, 79, 42, 89, 180, 0, 90, 21, 6, 96]
abbrev dktX5_run_5 : List UInt8 := dkwX5_run_5 ++ dktX5_run_6
def dkwX5_run_4 : List UInt8 := [167, 0, 49, 42, 180, 0, 3, 180, 0, 189, 180, 0, 193, 42, 180, 0, 15, 21, 5, 46, 184, 0, 134]
abbrev dktX5_run_4 : List UInt8 := dkwX5_run_4 ++ dktX5_run_5
def dkwX5_run_3 : List UInt8 := [16, 16, 79, 177, 42, 180, 0, 19, 21, 5, 16, 16, 79, 42, 180, 0, 15, 21, 5, 46, 29, 163, 0, 6]
abbrev dktX5_run_3 : List UInt8 := dkwX5_run_3 ++ dktX5_run_4
def dkwX5_run_2 : List UInt8 := [180, 0, 183, 162, 0, 23, 42, 180, 0, 19, 21, 5, 42, 180, 0, 3, 180, 0, 52, 180, 0, 180, 96]
abbrev dktX5_run_2 : List UInt8 := dkwX5_run_2 ++ dktX5_run_3
def dkwX5_run_1 : List UInt8 := [54, 5, 42, 180, 0, 37, 21, 5, 51, 153, 0, 41, 21, 4, 4, 96, 42, 180, 0, 3, 180, 0, 52]
abbrev dktX5_run_1 : List UInt8 := dkwX5_run_1 ++ dktX5_run_2
def dkwX5_run_0 : List UInt8 := [3, 54, 4, 21, 4, 28, 162, 0, 143, 42, 180, 0, 3, 180, 0, 52, 180, 0, 180, 21, 4, 104, 27, 96]
abbrev dktX5_run_0 : List UInt8 := dkwX5_run_0 ++ dktX5_run_1
theorem dksX5_run_0 : cX5_run.data.toList.drop 0 = dktX5_run_0 := by decide +kernel
theorem dksX5_run_1 : cX5_run.data.toList.drop 24 = dktX5_run_1 := dk_seg dksX5_run_0 24 rfl rfl
theorem dksX5_run_2 : cX5_run.data.toList.drop 47 = dktX5_run_2 := dk_seg dksX5_run_1 23 rfl rfl
theorem dksX5_run_3 : cX5_run.data.toList.drop 70 = dktX5_run_3 := dk_seg dksX5_run_2 23 rfl rfl
theorem dksX5_run_4 : cX5_run.data.toList.drop 94 = dktX5_run_4 := dk_seg dksX5_run_3 24 rfl rfl
theorem dksX5_run_5 : cX5_run.data.toList.drop 117 = dktX5_run_5 := dk_seg dksX5_run_4 23 rfl rfl
theorem dksX5_run_6 : cX5_run.data.toList.drop 139 = dktX5_run_6 := dk_seg dksX5_run_5 22 rfl rfl
theorem dX5_run_0 : decode cX5_run 0 = .ok (.iconst 0, 1) := dk_3 (dk_at dksX5_run_0 0 rfl rfl)
theorem dX5_run_1 : decode cX5_run 1 = .ok (.istore 4, 2) := dk_54 4 (dk_at dksX5_run_0 1 rfl rfl)
theorem dX5_run_3 : decode cX5_run 3 = .ok (.iload 4, 2) := dk_21 4 (dk_at dksX5_run_0 3 rfl rfl)
theorem dX5_run_5 : decode cX5_run 5 = .ok (.iload_n 2, 1) := dk_28 (dk_at dksX5_run_0 5 rfl rfl)
theorem dX5_run_6 : decode cX5_run 6 = .ok (.if_icmp .ge 143, 3) := dk_162 0 143 (dk_at dksX5_run_0 6 rfl rfl)
theorem dX5_run_9 : decode cX5_run 9 = .ok (.aload_n 0, 1) := dk_42 (dk_at dksX5_run_0 9 rfl rfl)
theorem dX5_run_10 : decode cX5_run 10 = .ok (.getfield 3, 3) := dk_180 0 3 (dk_at dksX5_run_0 10 rfl rfl)
theorem dX5_run_13 : decode cX5_run 13 = .ok (.getfield 52, 3) := dk_180 0 52 (dk_at dksX5_run_0 13 rfl rfl)
theorem dX5_run_16 : decode cX5_run 16 = .ok (.getfield 180, 3) := dk_180 0 180 (dk_at dksX5_run_0 16 rfl rfl)
theorem dX5_run_19 : decode cX5_run 19 = .ok (.iload 4, 2) := dk_21 4 (dk_at dksX5_run_0 19 rfl rfl)
theorem dX5_run_21 : decode cX5_run 21 = .ok (.imul, 1) := dk_104 (dk_at dksX5_run_0 21 rfl rfl)
theorem dX5_run_22 : decode cX5_run 22 = .ok (.iload_n 1, 1) := dk_27 (dk_at dksX5_run_0 22 rfl rfl)
theorem dX5_run_23 : decode cX5_run 23 = .ok (.iadd, 1) := dk_96 (dk_at dksX5_run_0 23 rfl rfl)
theorem dX5_run_24 : decode cX5_run 24 = .ok (.istore 5, 2) := dk_54 5 (dk_at dksX5_run_1 0 rfl rfl)
theorem dX5_run_26 : decode cX5_run 26 = .ok (.aload_n 0, 1) := dk_42 (dk_at dksX5_run_1 2 rfl rfl)
theorem dX5_run_27 : decode cX5_run 27 = .ok (.getfield 37, 3) := dk_180 0 37 (dk_at dksX5_run_1 3 rfl rfl)
theorem dX5_run_30 : decode cX5_run 30 = .ok (.iload 5, 2) := dk_21 5 (dk_at dksX5_run_1 6 rfl rfl)
theorem dX5_run_32 : decode cX5_run 32 = .ok (.baload, 1) := dk_51 (dk_at dksX5_run_1 8 rfl rfl)
theorem dX5_run_33 : decode cX5_run 33 = .ok (.ifCond .eq 41, 3) := dk_153 0 41 (dk_at dksX5_run_1 9 rfl rfl)
theorem dX5_run_36 : decode cX5_run 36 = .ok (.iload 4, 2) := dk_21 4 (dk_at dksX5_run_1 12 rfl rfl)
theorem dX5_run_38 : decode cX5_run 38 = .ok (.iconst 1, 1) := dk_4 (dk_at dksX5_run_1 14 rfl rfl)
theorem dX5_run_39 : decode cX5_run 39 = .ok (.iadd, 1) := dk_96 (dk_at dksX5_run_1 15 rfl rfl)
theorem dX5_run_40 : decode cX5_run 40 = .ok (.aload_n 0, 1) := dk_42 (dk_at dksX5_run_1 16 rfl rfl)
theorem dX5_run_41 : decode cX5_run 41 = .ok (.getfield 3, 3) := dk_180 0 3 (dk_at dksX5_run_1 17 rfl rfl)
theorem dX5_run_44 : decode cX5_run 44 = .ok (.getfield 52, 3) := dk_180 0 52 (dk_at dksX5_run_1 20 rfl rfl)
theorem dX5_run_47 : decode cX5_run 47 = .ok (.getfield 183, 3) := dk_180 0 183 (dk_at dksX5_run_2 0 rfl rfl)
theorem dX5_run_50 : decode cX5_run 50 = .ok (.if_icmp .ge 23, 3) := dk_162 0 23 (dk_at dksX5_run_2 3 rfl rfl)
theorem dX5_run_53 : decode cX5_run 53 = .ok (.aload_n 0, 1) := dk_42 (dk_at dksX5_run_2 6 rfl rfl)
theorem dX5_run_54 : decode cX5_run 54 = .ok (.getfield 19, 3) := dk_180 0 19 (dk_at dksX5_run_2 7 rfl rfl)
theorem dX5_run_57 : decode cX5_run 57 = .ok (.iload 5, 2) := dk_21 5 (dk_at dksX5_run_2 10 rfl rfl)
theorem dX5_run_59 : decode cX5_run 59 = .ok (.aload_n 0, 1) := dk_42 (dk_at dksX5_run_2 12 rfl rfl)
theorem dX5_run_60 : decode cX5_run 60 = .ok (.getfield 3, 3) := dk_180 0 3 (dk_at dksX5_run_2 13 rfl rfl)
theorem dX5_run_63 : decode cX5_run 63 = .ok (.getfield 52, 3) := dk_180 0 52 (dk_at dksX5_run_2 16 rfl rfl)
theorem dX5_run_66 : decode cX5_run 66 = .ok (.getfield 180, 3) := dk_180 0 180 (dk_at dksX5_run_2 19 rfl rfl)
theorem dX5_run_69 : decode cX5_run 69 = .ok (.iadd, 1) := dk_96 (dk_at dksX5_run_2 22 rfl rfl)
theorem dX5_run_70 : decode cX5_run 70 = .ok (.bipush 16, 2) := dk_16 16 (dk_at dksX5_run_3 0 rfl rfl)
theorem dX5_run_72 : decode cX5_run 72 = .ok (.iastore, 1) := dk_79 (dk_at dksX5_run_3 2 rfl rfl)
theorem dX5_run_73 : decode cX5_run 73 = .ok (.return_, 1) := dk_177 (dk_at dksX5_run_3 3 rfl rfl)
theorem dX5_run_74 : decode cX5_run 74 = .ok (.aload_n 0, 1) := dk_42 (dk_at dksX5_run_3 4 rfl rfl)
theorem dX5_run_75 : decode cX5_run 75 = .ok (.getfield 19, 3) := dk_180 0 19 (dk_at dksX5_run_3 5 rfl rfl)
theorem dX5_run_78 : decode cX5_run 78 = .ok (.iload 5, 2) := dk_21 5 (dk_at dksX5_run_3 8 rfl rfl)
theorem dX5_run_80 : decode cX5_run 80 = .ok (.bipush 16, 2) := dk_16 16 (dk_at dksX5_run_3 10 rfl rfl)
theorem dX5_run_82 : decode cX5_run 82 = .ok (.iastore, 1) := dk_79 (dk_at dksX5_run_3 12 rfl rfl)
theorem dX5_run_83 : decode cX5_run 83 = .ok (.aload_n 0, 1) := dk_42 (dk_at dksX5_run_3 13 rfl rfl)
theorem dX5_run_84 : decode cX5_run 84 = .ok (.getfield 15, 3) := dk_180 0 15 (dk_at dksX5_run_3 14 rfl rfl)
theorem dX5_run_87 : decode cX5_run 87 = .ok (.iload 5, 2) := dk_21 5 (dk_at dksX5_run_3 17 rfl rfl)
theorem dX5_run_89 : decode cX5_run 89 = .ok (.iaload, 1) := dk_46 (dk_at dksX5_run_3 19 rfl rfl)
theorem dX5_run_90 : decode cX5_run 90 = .ok (.iload_n 3, 1) := dk_29 (dk_at dksX5_run_3 20 rfl rfl)
theorem dX5_run_91 : decode cX5_run 91 = .ok (.if_icmp .gt 6, 3) := dk_163 0 6 (dk_at dksX5_run_3 21 rfl rfl)
theorem dX5_run_94 : decode cX5_run 94 = .ok (.goto 49, 3) := dk_167 0 49 (dk_at dksX5_run_4 0 rfl rfl)
theorem dX5_run_97 : decode cX5_run 97 = .ok (.aload_n 0, 1) := dk_42 (dk_at dksX5_run_4 3 rfl rfl)
theorem dX5_run_98 : decode cX5_run 98 = .ok (.getfield 3, 3) := dk_180 0 3 (dk_at dksX5_run_4 4 rfl rfl)
theorem dX5_run_101 : decode cX5_run 101 = .ok (.getfield 189, 3) := dk_180 0 189 (dk_at dksX5_run_4 7 rfl rfl)
theorem dX5_run_104 : decode cX5_run 104 = .ok (.getfield 193, 3) := dk_180 0 193 (dk_at dksX5_run_4 10 rfl rfl)
theorem dX5_run_107 : decode cX5_run 107 = .ok (.aload_n 0, 1) := dk_42 (dk_at dksX5_run_4 13 rfl rfl)
theorem dX5_run_108 : decode cX5_run 108 = .ok (.getfield 15, 3) := dk_180 0 15 (dk_at dksX5_run_4 14 rfl rfl)
theorem dX5_run_111 : decode cX5_run 111 = .ok (.iload 5, 2) := dk_21 5 (dk_at dksX5_run_4 17 rfl rfl)
theorem dX5_run_113 : decode cX5_run 113 = .ok (.iaload, 1) := dk_46 (dk_at dksX5_run_4 19 rfl rfl)
theorem dX5_run_114 : decode cX5_run 114 = .ok (.invokestatic 134, 3) := dk_184 0 134 (dk_at dksX5_run_4 20 rfl rfl)
theorem dX5_run_117 : decode cX5_run 117 = .ok (.istore 6, 2) := dk_54 6 (dk_at dksX5_run_5 0 rfl rfl)
theorem dX5_run_119 : decode cX5_run 119 = .ok (.aload_n 0, 1) := dk_42 (dk_at dksX5_run_5 2 rfl rfl)
theorem dX5_run_120 : decode cX5_run 120 = .ok (.getfield 15, 3) := dk_180 0 15 (dk_at dksX5_run_5 3 rfl rfl)
theorem dX5_run_123 : decode cX5_run 123 = .ok (.iload 5, 2) := dk_21 5 (dk_at dksX5_run_5 6 rfl rfl)
theorem dX5_run_125 : decode cX5_run 125 = .ok (.dup2, 1) := dk_92 (dk_at dksX5_run_5 8 rfl rfl)
theorem dX5_run_126 : decode cX5_run 126 = .ok (.iaload, 1) := dk_46 (dk_at dksX5_run_5 9 rfl rfl)
theorem dX5_run_127 : decode cX5_run 127 = .ok (.iload 6, 2) := dk_21 6 (dk_at dksX5_run_5 10 rfl rfl)
theorem dX5_run_129 : decode cX5_run 129 = .ok (.isub, 1) := dk_100 (dk_at dksX5_run_5 12 rfl rfl)
theorem dX5_run_130 : decode cX5_run 130 = .ok (.iastore, 1) := dk_79 (dk_at dksX5_run_5 13 rfl rfl)
theorem dX5_run_131 : decode cX5_run 131 = .ok (.aload_n 0, 1) := dk_42 (dk_at dksX5_run_5 14 rfl rfl)
theorem dX5_run_132 : decode cX5_run 132 = .ok (.dup, 1) := dk_89 (dk_at dksX5_run_5 15 rfl rfl)
theorem dX5_run_133 : decode cX5_run 133 = .ok (.getfield 90, 3) := dk_180 0 90 (dk_at dksX5_run_5 16 rfl rfl)
theorem dX5_run_136 : decode cX5_run 136 = .ok (.iload 6, 2) := dk_21 6 (dk_at dksX5_run_5 19 rfl rfl)
theorem dX5_run_138 : decode cX5_run 138 = .ok (.iadd, 1) := dk_96 (dk_at dksX5_run_5 21 rfl rfl)
theorem dX5_run_139 : decode cX5_run 139 = .ok (.putfield 90, 3) := dk_181 0 90 (dk_at dksX5_run_6 0 rfl rfl)
theorem dX5_run_142 : decode cX5_run 142 = .ok (.return_, 1) := dk_177 (dk_at dksX5_run_6 3 rfl rfl)
theorem dX5_run_143 : decode cX5_run 143 = .ok (.iinc 4 1, 3) := dk_132 4 1 (dk_at dksX5_run_6 4 rfl rfl)
theorem dX5_run_146 : decode cX5_run 146 = .ok (.goto (-143), 3) := dk_167 255 113 (dk_at dksX5_run_6 7 rfl rfl)
theorem dX5_run_149 : decode cX5_run 149 = .ok (.return_, 1) := dk_177 (dk_at dksX5_run_6 10 rfl rfl)
abbrev cX5_draw : ByteArray := prog_11_method_5_code
def yX5_draw : MethodName := ⟨RX5, "draw", "(I)I"⟩
def dkwX5_draw_1 : List UInt8 := [20, 0, 124, 109, 27, 133, 113, 136, 172]
abbrev dktX5_draw_1 : List UInt8 := dkwX5_draw_1 ++ []
def dkwX5_draw_0 : List UInt8 := [42, 20, 0, 118, 42, 180, 0, 48, 105, 20, 0, 120, 97, 20, 0, 122, 113, 181, 0, 48, 42, 180, 0, 48]
abbrev dktX5_draw_0 : List UInt8 := dkwX5_draw_0 ++ dktX5_draw_1
theorem dksX5_draw_0 : cX5_draw.data.toList.drop 0 = dktX5_draw_0 := by decide +kernel
theorem dksX5_draw_1 : cX5_draw.data.toList.drop 24 = dktX5_draw_1 := dk_seg dksX5_draw_0 24 rfl rfl
theorem dX5_draw_0 : decode cX5_draw 0 = .ok (.aload_n 0, 1) := dk_42 (dk_at dksX5_draw_0 0 rfl rfl)
theorem dX5_draw_1 : decode cX5_draw 1 = .ok (.ldc2_w 118, 3) := dk_20 0 118 (dk_at dksX5_draw_0 1 rfl rfl)
theorem dX5_draw_4 : decode cX5_draw 4 = .ok (.aload_n 0, 1) := dk_42 (dk_at dksX5_draw_0 4 rfl rfl)
theorem dX5_draw_5 : decode cX5_draw 5 = .ok (.getfield 48, 3) := dk_180 0 48 (dk_at dksX5_draw_0 5 rfl rfl)
theorem dX5_draw_8 : decode cX5_draw 8 = .ok (.lmul, 1) := dk_105 (dk_at dksX5_draw_0 8 rfl rfl)
theorem dX5_draw_9 : decode cX5_draw 9 = .ok (.ldc2_w 120, 3) := dk_20 0 120 (dk_at dksX5_draw_0 9 rfl rfl)
theorem dX5_draw_12 : decode cX5_draw 12 = .ok (.ladd, 1) := dk_97 (dk_at dksX5_draw_0 12 rfl rfl)
theorem dX5_draw_13 : decode cX5_draw 13 = .ok (.ldc2_w 122, 3) := dk_20 0 122 (dk_at dksX5_draw_0 13 rfl rfl)
theorem dX5_draw_16 : decode cX5_draw 16 = .ok (.lrem, 1) := dk_113 (dk_at dksX5_draw_0 16 rfl rfl)
theorem dX5_draw_17 : decode cX5_draw 17 = .ok (.putfield 48, 3) := dk_181 0 48 (dk_at dksX5_draw_0 17 rfl rfl)
theorem dX5_draw_20 : decode cX5_draw 20 = .ok (.aload_n 0, 1) := dk_42 (dk_at dksX5_draw_0 20 rfl rfl)
theorem dX5_draw_21 : decode cX5_draw 21 = .ok (.getfield 48, 3) := dk_180 0 48 (dk_at dksX5_draw_0 21 rfl rfl)
theorem dX5_draw_24 : decode cX5_draw 24 = .ok (.ldc2_w 124, 3) := dk_20 0 124 (dk_at dksX5_draw_1 0 rfl rfl)
theorem dX5_draw_27 : decode cX5_draw 27 = .ok (.ldiv, 1) := dk_109 (dk_at dksX5_draw_1 3 rfl rfl)
theorem dX5_draw_28 : decode cX5_draw 28 = .ok (.iload_n 1, 1) := dk_27 (dk_at dksX5_draw_1 4 rfl rfl)
theorem dX5_draw_29 : decode cX5_draw 29 = .ok (.i2l, 1) := dk_133 (dk_at dksX5_draw_1 5 rfl rfl)
theorem dX5_draw_30 : decode cX5_draw 30 = .ok (.lrem, 1) := dk_113 (dk_at dksX5_draw_1 6 rfl rfl)
theorem dX5_draw_31 : decode cX5_draw 31 = .ok (.l2i, 1) := dk_136 (dk_at dksX5_draw_1 7 rfl rfl)
theorem dX5_draw_32 : decode cX5_draw 32 = .ok (.ireturn, 1) := dk_172 (dk_at dksX5_draw_1 8 rfl rfl)
abbrev cX5_sun : ByteArray := prog_11_method_13_code
def yX5_sun : MethodName := ⟨RX5, "sun", "()V"⟩
def dkwX5_sun_3 : List UInt8 := [161, 0, 7, 5, 167, 0, 4, 4, 100, 184, 0, 231, 79, 132, 1, 1, 167, 255, 206, 177]
abbrev dktX5_sun_3 : List UInt8 := dkwX5_sun_3 ++ []
def dkwX5_sun_2 : List UInt8 := [162, 0, 42, 42, 180, 0, 19, 27, 3, 42, 180, 0, 19, 27, 46, 42, 180, 0, 15, 27, 46, 16, 10]
abbrev dktX5_sun_2 : List UInt8 := dkwX5_sun_2 ++ dktX5_sun_3
def dkwX5_sun_1 : List UInt8 := [42, 180, 0, 3, 180, 0, 52, 180, 0, 180, 60, 27, 42, 180, 0, 3, 180, 0, 52, 182, 0, 56]
abbrev dktX5_sun_1 : List UInt8 := dkwX5_sun_1 ++ dktX5_sun_2
def dkwX5_sun_0 : List UInt8 := [42, 180, 0, 87, 4, 96, 42, 180, 0, 3, 180, 0, 52, 178, 0, 228, 182, 0, 68, 112, 153, 0, 4, 177]
abbrev dktX5_sun_0 : List UInt8 := dkwX5_sun_0 ++ dktX5_sun_1
theorem dksX5_sun_0 : cX5_sun.data.toList.drop 0 = dktX5_sun_0 := by decide +kernel
theorem dksX5_sun_1 : cX5_sun.data.toList.drop 24 = dktX5_sun_1 := dk_seg dksX5_sun_0 24 rfl rfl
theorem dksX5_sun_2 : cX5_sun.data.toList.drop 46 = dktX5_sun_2 := dk_seg dksX5_sun_1 22 rfl rfl
theorem dksX5_sun_3 : cX5_sun.data.toList.drop 69 = dktX5_sun_3 := dk_seg dksX5_sun_2 23 rfl rfl
theorem dX5_sun_0 : decode cX5_sun 0 = .ok (.aload_n 0, 1) := dk_42 (dk_at dksX5_sun_0 0 rfl rfl)
theorem dX5_sun_1 : decode cX5_sun 1 = .ok (.getfield 87, 3) := dk_180 0 87 (dk_at dksX5_sun_0 1 rfl rfl)
theorem dX5_sun_4 : decode cX5_sun 4 = .ok (.iconst 1, 1) := dk_4 (dk_at dksX5_sun_0 4 rfl rfl)
theorem dX5_sun_5 : decode cX5_sun 5 = .ok (.iadd, 1) := dk_96 (dk_at dksX5_sun_0 5 rfl rfl)
theorem dX5_sun_6 : decode cX5_sun 6 = .ok (.aload_n 0, 1) := dk_42 (dk_at dksX5_sun_0 6 rfl rfl)
theorem dX5_sun_7 : decode cX5_sun 7 = .ok (.getfield 3, 3) := dk_180 0 3 (dk_at dksX5_sun_0 7 rfl rfl)
theorem dX5_sun_10 : decode cX5_sun 10 = .ok (.getfield 52, 3) := dk_180 0 52 (dk_at dksX5_sun_0 10 rfl rfl)
theorem dX5_sun_13 : decode cX5_sun 13 = .ok (.getstatic 228, 3) := dk_178 0 228 (dk_at dksX5_sun_0 13 rfl rfl)
theorem dX5_sun_16 : decode cX5_sun 16 = .ok (.invokevirtual 68, 3) := dk_182 0 68 (dk_at dksX5_sun_0 16 rfl rfl)
theorem dX5_sun_19 : decode cX5_sun 19 = .ok (.irem, 1) := dk_112 (dk_at dksX5_sun_0 19 rfl rfl)
theorem dX5_sun_20 : decode cX5_sun 20 = .ok (.ifCond .eq 4, 3) := dk_153 0 4 (dk_at dksX5_sun_0 20 rfl rfl)
theorem dX5_sun_23 : decode cX5_sun 23 = .ok (.return_, 1) := dk_177 (dk_at dksX5_sun_0 23 rfl rfl)
theorem dX5_sun_24 : decode cX5_sun 24 = .ok (.aload_n 0, 1) := dk_42 (dk_at dksX5_sun_1 0 rfl rfl)
theorem dX5_sun_25 : decode cX5_sun 25 = .ok (.getfield 3, 3) := dk_180 0 3 (dk_at dksX5_sun_1 1 rfl rfl)
theorem dX5_sun_28 : decode cX5_sun 28 = .ok (.getfield 52, 3) := dk_180 0 52 (dk_at dksX5_sun_1 4 rfl rfl)
theorem dX5_sun_31 : decode cX5_sun 31 = .ok (.getfield 180, 3) := dk_180 0 180 (dk_at dksX5_sun_1 7 rfl rfl)
theorem dX5_sun_34 : decode cX5_sun 34 = .ok (.istore_n 1, 1) := dk_60 (dk_at dksX5_sun_1 10 rfl rfl)
theorem dX5_sun_35 : decode cX5_sun 35 = .ok (.iload_n 1, 1) := dk_27 (dk_at dksX5_sun_1 11 rfl rfl)
theorem dX5_sun_36 : decode cX5_sun 36 = .ok (.aload_n 0, 1) := dk_42 (dk_at dksX5_sun_1 12 rfl rfl)
theorem dX5_sun_37 : decode cX5_sun 37 = .ok (.getfield 3, 3) := dk_180 0 3 (dk_at dksX5_sun_1 13 rfl rfl)
theorem dX5_sun_40 : decode cX5_sun 40 = .ok (.getfield 52, 3) := dk_180 0 52 (dk_at dksX5_sun_1 16 rfl rfl)
theorem dX5_sun_43 : decode cX5_sun 43 = .ok (.invokevirtual 56, 3) := dk_182 0 56 (dk_at dksX5_sun_1 19 rfl rfl)
theorem dX5_sun_46 : decode cX5_sun 46 = .ok (.if_icmp .ge 42, 3) := dk_162 0 42 (dk_at dksX5_sun_2 0 rfl rfl)
theorem dX5_sun_49 : decode cX5_sun 49 = .ok (.aload_n 0, 1) := dk_42 (dk_at dksX5_sun_2 3 rfl rfl)
theorem dX5_sun_50 : decode cX5_sun 50 = .ok (.getfield 19, 3) := dk_180 0 19 (dk_at dksX5_sun_2 4 rfl rfl)
theorem dX5_sun_53 : decode cX5_sun 53 = .ok (.iload_n 1, 1) := dk_27 (dk_at dksX5_sun_2 7 rfl rfl)
theorem dX5_sun_54 : decode cX5_sun 54 = .ok (.iconst 0, 1) := dk_3 (dk_at dksX5_sun_2 8 rfl rfl)
theorem dX5_sun_55 : decode cX5_sun 55 = .ok (.aload_n 0, 1) := dk_42 (dk_at dksX5_sun_2 9 rfl rfl)
theorem dX5_sun_56 : decode cX5_sun 56 = .ok (.getfield 19, 3) := dk_180 0 19 (dk_at dksX5_sun_2 10 rfl rfl)
theorem dX5_sun_59 : decode cX5_sun 59 = .ok (.iload_n 1, 1) := dk_27 (dk_at dksX5_sun_2 13 rfl rfl)
theorem dX5_sun_60 : decode cX5_sun 60 = .ok (.iaload, 1) := dk_46 (dk_at dksX5_sun_2 14 rfl rfl)
theorem dX5_sun_61 : decode cX5_sun 61 = .ok (.aload_n 0, 1) := dk_42 (dk_at dksX5_sun_2 15 rfl rfl)
theorem dX5_sun_62 : decode cX5_sun 62 = .ok (.getfield 15, 3) := dk_180 0 15 (dk_at dksX5_sun_2 16 rfl rfl)
theorem dX5_sun_65 : decode cX5_sun 65 = .ok (.iload_n 1, 1) := dk_27 (dk_at dksX5_sun_2 19 rfl rfl)
theorem dX5_sun_66 : decode cX5_sun 66 = .ok (.iaload, 1) := dk_46 (dk_at dksX5_sun_2 20 rfl rfl)
theorem dX5_sun_67 : decode cX5_sun 67 = .ok (.bipush 10, 2) := dk_16 10 (dk_at dksX5_sun_2 21 rfl rfl)
theorem dX5_sun_69 : decode cX5_sun 69 = .ok (.if_icmp .lt 7, 3) := dk_161 0 7 (dk_at dksX5_sun_3 0 rfl rfl)
theorem dX5_sun_72 : decode cX5_sun 72 = .ok (.iconst 2, 1) := dk_5 (dk_at dksX5_sun_3 3 rfl rfl)
theorem dX5_sun_73 : decode cX5_sun 73 = .ok (.goto 4, 3) := dk_167 0 4 (dk_at dksX5_sun_3 4 rfl rfl)
theorem dX5_sun_76 : decode cX5_sun 76 = .ok (.iconst 1, 1) := dk_4 (dk_at dksX5_sun_3 7 rfl rfl)
theorem dX5_sun_77 : decode cX5_sun 77 = .ok (.isub, 1) := dk_100 (dk_at dksX5_sun_3 8 rfl rfl)
theorem dX5_sun_78 : decode cX5_sun 78 = .ok (.invokestatic 231, 3) := dk_184 0 231 (dk_at dksX5_sun_3 9 rfl rfl)
theorem dX5_sun_81 : decode cX5_sun 81 = .ok (.iastore, 1) := dk_79 (dk_at dksX5_sun_3 12 rfl rfl)
theorem dX5_sun_82 : decode cX5_sun 82 = .ok (.iinc 1 1, 3) := dk_132 1 1 (dk_at dksX5_sun_3 13 rfl rfl)
theorem dX5_sun_85 : decode cX5_sun 85 = .ok (.goto (-50), 3) := dk_167 255 206 (dk_at dksX5_sun_3 16 rfl rfl)
theorem dX5_sun_88 : decode cX5_sun 88 = .ok (.return_, 1) := dk_177 (dk_at dksX5_sun_3 19 rfl rfl)
abbrev cX5_slides : ByteArray := prog_11_method_16_code
def yX5_slides : MethodName := ⟨RX5, "slides", "()V"⟩
def dkwX5_slides_6 : List UInt8 := [89, 180, 0, 93, 42, 180, 0, 96, 96, 181, 0, 93, 177]
abbrev dktX5_slides_6 : List UInt8 := dkwX5_slides_6 ++ []
def dkwX5_slides_5 : List UInt8 := [89, 180, 0, 99, 27, 153, 0, 7, 4, 167, 0, 4, 3, 96, 181, 0, 99, 132, 2, 1, 167, 255, 131, 42]
abbrev dktX5_slides_5 : List UInt8 := dkwX5_slides_5 ++ dktX5_slides_6
def dkwX5_slides_4 : List UInt8 := [21, 4, 182, 0, 130, 42, 89, 180, 0, 96, 4, 96, 181, 0, 96, 4, 60, 132, 3, 1, 167, 255, 169, 42]
abbrev dktX5_slides_4 : List UInt8 := dkwX5_slides_4 ++ dktX5_slides_5
def dkwX5_slides_3 : List UInt8 := [29, 46, 42, 180, 0, 15, 21, 4, 46, 100, 42, 29, 182, 0, 240, 163, 0, 6, 167, 0, 22, 42, 29]
abbrev dktX5_slides_3 : List UInt8 := dkwX5_slides_3 ++ dktX5_slides_4
def dkwX5_slides_2 : List UInt8 := [153, 0, 7, 2, 167, 0, 8, 42, 29, 182, 0, 237, 54, 4, 21, 4, 2, 159, 0, 47, 42, 180, 0, 15]
abbrev dktX5_slides_2 : List UInt8 := dkwX5_slides_2 ++ dktX5_slides_3
def dkwX5_slides_1 : List UInt8 := [3, 60, 3, 62, 29, 42, 180, 0, 3, 180, 0, 52, 182, 0, 56, 162, 0, 79, 42, 180, 0, 37, 29, 51]
abbrev dktX5_slides_1 : List UInt8 := dkwX5_slides_1 ++ dktX5_slides_2
def dkwX5_slides_0 : List UInt8 := [42, 3, 181, 0, 96, 42, 3, 181, 0, 99, 4, 60, 3, 61, 28, 16, 50, 162, 0, 125, 27, 153, 0, 121]
abbrev dktX5_slides_0 : List UInt8 := dkwX5_slides_0 ++ dktX5_slides_1
theorem dksX5_slides_0 : cX5_slides.data.toList.drop 0 = dktX5_slides_0 := by decide +kernel
theorem dksX5_slides_1 : cX5_slides.data.toList.drop 24 = dktX5_slides_1 := dk_seg dksX5_slides_0 24 rfl rfl
theorem dksX5_slides_2 : cX5_slides.data.toList.drop 48 = dktX5_slides_2 := dk_seg dksX5_slides_1 24 rfl rfl
theorem dksX5_slides_3 : cX5_slides.data.toList.drop 72 = dktX5_slides_3 := dk_seg dksX5_slides_2 24 rfl rfl
theorem dksX5_slides_4 : cX5_slides.data.toList.drop 95 = dktX5_slides_4 := dk_seg dksX5_slides_3 23 rfl rfl
theorem dksX5_slides_5 : cX5_slides.data.toList.drop 119 = dktX5_slides_5 := dk_seg dksX5_slides_4 24 rfl rfl
theorem dksX5_slides_6 : cX5_slides.data.toList.drop 143 = dktX5_slides_6 := dk_seg dksX5_slides_5 24 rfl rfl
theorem dX5_slides_0 : decode cX5_slides 0 = .ok (.aload_n 0, 1) := dk_42 (dk_at dksX5_slides_0 0 rfl rfl)
theorem dX5_slides_1 : decode cX5_slides 1 = .ok (.iconst 0, 1) := dk_3 (dk_at dksX5_slides_0 1 rfl rfl)
theorem dX5_slides_2 : decode cX5_slides 2 = .ok (.putfield 96, 3) := dk_181 0 96 (dk_at dksX5_slides_0 2 rfl rfl)
theorem dX5_slides_5 : decode cX5_slides 5 = .ok (.aload_n 0, 1) := dk_42 (dk_at dksX5_slides_0 5 rfl rfl)
theorem dX5_slides_6 : decode cX5_slides 6 = .ok (.iconst 0, 1) := dk_3 (dk_at dksX5_slides_0 6 rfl rfl)
theorem dX5_slides_7 : decode cX5_slides 7 = .ok (.putfield 99, 3) := dk_181 0 99 (dk_at dksX5_slides_0 7 rfl rfl)
theorem dX5_slides_10 : decode cX5_slides 10 = .ok (.iconst 1, 1) := dk_4 (dk_at dksX5_slides_0 10 rfl rfl)
theorem dX5_slides_11 : decode cX5_slides 11 = .ok (.istore_n 1, 1) := dk_60 (dk_at dksX5_slides_0 11 rfl rfl)
theorem dX5_slides_12 : decode cX5_slides 12 = .ok (.iconst 0, 1) := dk_3 (dk_at dksX5_slides_0 12 rfl rfl)
theorem dX5_slides_13 : decode cX5_slides 13 = .ok (.istore_n 2, 1) := dk_61 (dk_at dksX5_slides_0 13 rfl rfl)
theorem dX5_slides_14 : decode cX5_slides 14 = .ok (.iload_n 2, 1) := dk_28 (dk_at dksX5_slides_0 14 rfl rfl)
theorem dX5_slides_15 : decode cX5_slides 15 = .ok (.bipush 50, 2) := dk_16 50 (dk_at dksX5_slides_0 15 rfl rfl)
theorem dX5_slides_17 : decode cX5_slides 17 = .ok (.if_icmp .ge 125, 3) := dk_162 0 125 (dk_at dksX5_slides_0 17 rfl rfl)
theorem dX5_slides_20 : decode cX5_slides 20 = .ok (.iload_n 1, 1) := dk_27 (dk_at dksX5_slides_0 20 rfl rfl)
theorem dX5_slides_21 : decode cX5_slides 21 = .ok (.ifCond .eq 121, 3) := dk_153 0 121 (dk_at dksX5_slides_0 21 rfl rfl)
theorem dX5_slides_24 : decode cX5_slides 24 = .ok (.iconst 0, 1) := dk_3 (dk_at dksX5_slides_1 0 rfl rfl)
theorem dX5_slides_25 : decode cX5_slides 25 = .ok (.istore_n 1, 1) := dk_60 (dk_at dksX5_slides_1 1 rfl rfl)
theorem dX5_slides_26 : decode cX5_slides 26 = .ok (.iconst 0, 1) := dk_3 (dk_at dksX5_slides_1 2 rfl rfl)
theorem dX5_slides_27 : decode cX5_slides 27 = .ok (.istore_n 3, 1) := dk_62 (dk_at dksX5_slides_1 3 rfl rfl)
theorem dX5_slides_28 : decode cX5_slides 28 = .ok (.iload_n 3, 1) := dk_29 (dk_at dksX5_slides_1 4 rfl rfl)
theorem dX5_slides_29 : decode cX5_slides 29 = .ok (.aload_n 0, 1) := dk_42 (dk_at dksX5_slides_1 5 rfl rfl)
theorem dX5_slides_30 : decode cX5_slides 30 = .ok (.getfield 3, 3) := dk_180 0 3 (dk_at dksX5_slides_1 6 rfl rfl)
theorem dX5_slides_33 : decode cX5_slides 33 = .ok (.getfield 52, 3) := dk_180 0 52 (dk_at dksX5_slides_1 9 rfl rfl)
theorem dX5_slides_36 : decode cX5_slides 36 = .ok (.invokevirtual 56, 3) := dk_182 0 56 (dk_at dksX5_slides_1 12 rfl rfl)
theorem dX5_slides_39 : decode cX5_slides 39 = .ok (.if_icmp .ge 79, 3) := dk_162 0 79 (dk_at dksX5_slides_1 15 rfl rfl)
theorem dX5_slides_42 : decode cX5_slides 42 = .ok (.aload_n 0, 1) := dk_42 (dk_at dksX5_slides_1 18 rfl rfl)
theorem dX5_slides_43 : decode cX5_slides 43 = .ok (.getfield 37, 3) := dk_180 0 37 (dk_at dksX5_slides_1 19 rfl rfl)
theorem dX5_slides_46 : decode cX5_slides 46 = .ok (.iload_n 3, 1) := dk_29 (dk_at dksX5_slides_1 22 rfl rfl)
theorem dX5_slides_47 : decode cX5_slides 47 = .ok (.baload, 1) := dk_51 (dk_at dksX5_slides_1 23 rfl rfl)
theorem dX5_slides_48 : decode cX5_slides 48 = .ok (.ifCond .eq 7, 3) := dk_153 0 7 (dk_at dksX5_slides_2 0 rfl rfl)
theorem dX5_slides_51 : decode cX5_slides 51 = .ok (.iconst (-1), 1) := dk_2 (dk_at dksX5_slides_2 3 rfl rfl)
theorem dX5_slides_52 : decode cX5_slides 52 = .ok (.goto 8, 3) := dk_167 0 8 (dk_at dksX5_slides_2 4 rfl rfl)
theorem dX5_slides_55 : decode cX5_slides 55 = .ok (.aload_n 0, 1) := dk_42 (dk_at dksX5_slides_2 7 rfl rfl)
theorem dX5_slides_56 : decode cX5_slides 56 = .ok (.iload_n 3, 1) := dk_29 (dk_at dksX5_slides_2 8 rfl rfl)
theorem dX5_slides_57 : decode cX5_slides 57 = .ok (.invokevirtual 237, 3) := dk_182 0 237 (dk_at dksX5_slides_2 9 rfl rfl)
theorem dX5_slides_60 : decode cX5_slides 60 = .ok (.istore 4, 2) := dk_54 4 (dk_at dksX5_slides_2 12 rfl rfl)
theorem dX5_slides_62 : decode cX5_slides 62 = .ok (.iload 4, 2) := dk_21 4 (dk_at dksX5_slides_2 14 rfl rfl)
theorem dX5_slides_64 : decode cX5_slides 64 = .ok (.iconst (-1), 1) := dk_2 (dk_at dksX5_slides_2 16 rfl rfl)
theorem dX5_slides_65 : decode cX5_slides 65 = .ok (.if_icmp .eq 47, 3) := dk_159 0 47 (dk_at dksX5_slides_2 17 rfl rfl)
theorem dX5_slides_68 : decode cX5_slides 68 = .ok (.aload_n 0, 1) := dk_42 (dk_at dksX5_slides_2 20 rfl rfl)
theorem dX5_slides_69 : decode cX5_slides 69 = .ok (.getfield 15, 3) := dk_180 0 15 (dk_at dksX5_slides_2 21 rfl rfl)
theorem dX5_slides_72 : decode cX5_slides 72 = .ok (.iload_n 3, 1) := dk_29 (dk_at dksX5_slides_3 0 rfl rfl)
theorem dX5_slides_73 : decode cX5_slides 73 = .ok (.iaload, 1) := dk_46 (dk_at dksX5_slides_3 1 rfl rfl)
theorem dX5_slides_74 : decode cX5_slides 74 = .ok (.aload_n 0, 1) := dk_42 (dk_at dksX5_slides_3 2 rfl rfl)
theorem dX5_slides_75 : decode cX5_slides 75 = .ok (.getfield 15, 3) := dk_180 0 15 (dk_at dksX5_slides_3 3 rfl rfl)
theorem dX5_slides_78 : decode cX5_slides 78 = .ok (.iload 4, 2) := dk_21 4 (dk_at dksX5_slides_3 6 rfl rfl)
theorem dX5_slides_80 : decode cX5_slides 80 = .ok (.iaload, 1) := dk_46 (dk_at dksX5_slides_3 8 rfl rfl)
theorem dX5_slides_81 : decode cX5_slides 81 = .ok (.isub, 1) := dk_100 (dk_at dksX5_slides_3 9 rfl rfl)
theorem dX5_slides_82 : decode cX5_slides 82 = .ok (.aload_n 0, 1) := dk_42 (dk_at dksX5_slides_3 10 rfl rfl)
theorem dX5_slides_83 : decode cX5_slides 83 = .ok (.iload_n 3, 1) := dk_29 (dk_at dksX5_slides_3 11 rfl rfl)
theorem dX5_slides_84 : decode cX5_slides 84 = .ok (.invokevirtual 240, 3) := dk_182 0 240 (dk_at dksX5_slides_3 12 rfl rfl)
theorem dX5_slides_87 : decode cX5_slides 87 = .ok (.if_icmp .gt 6, 3) := dk_163 0 6 (dk_at dksX5_slides_3 15 rfl rfl)
theorem dX5_slides_90 : decode cX5_slides 90 = .ok (.goto 22, 3) := dk_167 0 22 (dk_at dksX5_slides_3 18 rfl rfl)
theorem dX5_slides_93 : decode cX5_slides 93 = .ok (.aload_n 0, 1) := dk_42 (dk_at dksX5_slides_3 21 rfl rfl)
theorem dX5_slides_94 : decode cX5_slides 94 = .ok (.iload_n 3, 1) := dk_29 (dk_at dksX5_slides_3 22 rfl rfl)
theorem dX5_slides_95 : decode cX5_slides 95 = .ok (.iload 4, 2) := dk_21 4 (dk_at dksX5_slides_4 0 rfl rfl)
theorem dX5_slides_97 : decode cX5_slides 97 = .ok (.invokevirtual 130, 3) := dk_182 0 130 (dk_at dksX5_slides_4 2 rfl rfl)
theorem dX5_slides_100 : decode cX5_slides 100 = .ok (.aload_n 0, 1) := dk_42 (dk_at dksX5_slides_4 5 rfl rfl)
theorem dX5_slides_101 : decode cX5_slides 101 = .ok (.dup, 1) := dk_89 (dk_at dksX5_slides_4 6 rfl rfl)
theorem dX5_slides_102 : decode cX5_slides 102 = .ok (.getfield 96, 3) := dk_180 0 96 (dk_at dksX5_slides_4 7 rfl rfl)
theorem dX5_slides_105 : decode cX5_slides 105 = .ok (.iconst 1, 1) := dk_4 (dk_at dksX5_slides_4 10 rfl rfl)
theorem dX5_slides_106 : decode cX5_slides 106 = .ok (.iadd, 1) := dk_96 (dk_at dksX5_slides_4 11 rfl rfl)
theorem dX5_slides_107 : decode cX5_slides 107 = .ok (.putfield 96, 3) := dk_181 0 96 (dk_at dksX5_slides_4 12 rfl rfl)
theorem dX5_slides_110 : decode cX5_slides 110 = .ok (.iconst 1, 1) := dk_4 (dk_at dksX5_slides_4 15 rfl rfl)
theorem dX5_slides_111 : decode cX5_slides 111 = .ok (.istore_n 1, 1) := dk_60 (dk_at dksX5_slides_4 16 rfl rfl)
theorem dX5_slides_112 : decode cX5_slides 112 = .ok (.iinc 3 1, 3) := dk_132 3 1 (dk_at dksX5_slides_4 17 rfl rfl)
theorem dX5_slides_115 : decode cX5_slides 115 = .ok (.goto (-87), 3) := dk_167 255 169 (dk_at dksX5_slides_4 20 rfl rfl)
theorem dX5_slides_118 : decode cX5_slides 118 = .ok (.aload_n 0, 1) := dk_42 (dk_at dksX5_slides_4 23 rfl rfl)
theorem dX5_slides_119 : decode cX5_slides 119 = .ok (.dup, 1) := dk_89 (dk_at dksX5_slides_5 0 rfl rfl)
theorem dX5_slides_120 : decode cX5_slides 120 = .ok (.getfield 99, 3) := dk_180 0 99 (dk_at dksX5_slides_5 1 rfl rfl)
theorem dX5_slides_123 : decode cX5_slides 123 = .ok (.iload_n 1, 1) := dk_27 (dk_at dksX5_slides_5 4 rfl rfl)
theorem dX5_slides_124 : decode cX5_slides 124 = .ok (.ifCond .eq 7, 3) := dk_153 0 7 (dk_at dksX5_slides_5 5 rfl rfl)
theorem dX5_slides_127 : decode cX5_slides 127 = .ok (.iconst 1, 1) := dk_4 (dk_at dksX5_slides_5 8 rfl rfl)
theorem dX5_slides_128 : decode cX5_slides 128 = .ok (.goto 4, 3) := dk_167 0 4 (dk_at dksX5_slides_5 9 rfl rfl)
theorem dX5_slides_131 : decode cX5_slides 131 = .ok (.iconst 0, 1) := dk_3 (dk_at dksX5_slides_5 12 rfl rfl)
theorem dX5_slides_132 : decode cX5_slides 132 = .ok (.iadd, 1) := dk_96 (dk_at dksX5_slides_5 13 rfl rfl)
theorem dX5_slides_133 : decode cX5_slides 133 = .ok (.putfield 99, 3) := dk_181 0 99 (dk_at dksX5_slides_5 14 rfl rfl)
theorem dX5_slides_136 : decode cX5_slides 136 = .ok (.iinc 2 1, 3) := dk_132 2 1 (dk_at dksX5_slides_5 17 rfl rfl)
theorem dX5_slides_139 : decode cX5_slides 139 = .ok (.goto (-125), 3) := dk_167 255 131 (dk_at dksX5_slides_5 20 rfl rfl)
theorem dX5_slides_142 : decode cX5_slides 142 = .ok (.aload_n 0, 1) := dk_42 (dk_at dksX5_slides_5 23 rfl rfl)
theorem dX5_slides_143 : decode cX5_slides 143 = .ok (.dup, 1) := dk_89 (dk_at dksX5_slides_6 0 rfl rfl)
theorem dX5_slides_144 : decode cX5_slides 144 = .ok (.getfield 93, 3) := dk_180 0 93 (dk_at dksX5_slides_6 1 rfl rfl)
theorem dX5_slides_147 : decode cX5_slides 147 = .ok (.aload_n 0, 1) := dk_42 (dk_at dksX5_slides_6 4 rfl rfl)
theorem dX5_slides_148 : decode cX5_slides 148 = .ok (.getfield 96, 3) := dk_180 0 96 (dk_at dksX5_slides_6 5 rfl rfl)
theorem dX5_slides_151 : decode cX5_slides 151 = .ok (.iadd, 1) := dk_96 (dk_at dksX5_slides_6 8 rfl rfl)
theorem dX5_slides_152 : decode cX5_slides 152 = .ok (.putfield 93, 3) := dk_181 0 93 (dk_at dksX5_slides_6 9 rfl rfl)
theorem dX5_slides_155 : decode cX5_slides 155 = .ok (.return_, 1) := dk_177 (dk_at dksX5_slides_6 12 rfl rfl)
abbrev cX5_lowest : ByteArray := prog_11_method_14_code
def yX5_lowest : MethodName := ⟨RX5, "lowest", "(I)I"⟩
def dkwX5_lowest_3 : List UInt8 := [182, 0, 56, 162, 0, 14, 42, 29, 27, 28, 96, 182, 0, 234, 167, 0, 4, 29, 172]
abbrev dktX5_lowest_3 : List UInt8 := dkwX5_lowest_3 ++ []
def dkwX5_lowest_2 : List UInt8 := [28, 162, 0, 12, 42, 29, 27, 4, 96, 182, 0, 234, 62, 27, 28, 96, 42, 180, 0, 3, 180, 0, 52]
abbrev dktX5_lowest_2 : List UInt8 := dkwX5_lowest_2 ++ dktX5_lowest_3
def dkwX5_lowest_1 : List UInt8 := [182, 0, 234, 62, 27, 28, 112, 158, 0, 12, 42, 29, 27, 4, 100, 182, 0, 234, 62, 27, 28, 112, 4, 96]
abbrev dktX5_lowest_1 : List UInt8 := dkwX5_lowest_1 ++ dktX5_lowest_2
def dkwX5_lowest_0 : List UInt8 := [42, 180, 0, 3, 180, 0, 52, 180, 0, 180, 61, 2, 62, 27, 28, 161, 0, 12, 42, 29, 27, 28, 100]
abbrev dktX5_lowest_0 : List UInt8 := dkwX5_lowest_0 ++ dktX5_lowest_1
theorem dksX5_lowest_0 : cX5_lowest.data.toList.drop 0 = dktX5_lowest_0 := by decide +kernel
theorem dksX5_lowest_1 : cX5_lowest.data.toList.drop 23 = dktX5_lowest_1 := dk_seg dksX5_lowest_0 23 rfl rfl
theorem dksX5_lowest_2 : cX5_lowest.data.toList.drop 47 = dktX5_lowest_2 := dk_seg dksX5_lowest_1 24 rfl rfl
theorem dksX5_lowest_3 : cX5_lowest.data.toList.drop 70 = dktX5_lowest_3 := dk_seg dksX5_lowest_2 23 rfl rfl
theorem dX5_lowest_0 : decode cX5_lowest 0 = .ok (.aload_n 0, 1) := dk_42 (dk_at dksX5_lowest_0 0 rfl rfl)
theorem dX5_lowest_1 : decode cX5_lowest 1 = .ok (.getfield 3, 3) := dk_180 0 3 (dk_at dksX5_lowest_0 1 rfl rfl)
theorem dX5_lowest_4 : decode cX5_lowest 4 = .ok (.getfield 52, 3) := dk_180 0 52 (dk_at dksX5_lowest_0 4 rfl rfl)
theorem dX5_lowest_7 : decode cX5_lowest 7 = .ok (.getfield 180, 3) := dk_180 0 180 (dk_at dksX5_lowest_0 7 rfl rfl)
theorem dX5_lowest_10 : decode cX5_lowest 10 = .ok (.istore_n 2, 1) := dk_61 (dk_at dksX5_lowest_0 10 rfl rfl)
theorem dX5_lowest_11 : decode cX5_lowest 11 = .ok (.iconst (-1), 1) := dk_2 (dk_at dksX5_lowest_0 11 rfl rfl)
theorem dX5_lowest_12 : decode cX5_lowest 12 = .ok (.istore_n 3, 1) := dk_62 (dk_at dksX5_lowest_0 12 rfl rfl)
theorem dX5_lowest_13 : decode cX5_lowest 13 = .ok (.iload_n 1, 1) := dk_27 (dk_at dksX5_lowest_0 13 rfl rfl)
theorem dX5_lowest_14 : decode cX5_lowest 14 = .ok (.iload_n 2, 1) := dk_28 (dk_at dksX5_lowest_0 14 rfl rfl)
theorem dX5_lowest_15 : decode cX5_lowest 15 = .ok (.if_icmp .lt 12, 3) := dk_161 0 12 (dk_at dksX5_lowest_0 15 rfl rfl)
theorem dX5_lowest_18 : decode cX5_lowest 18 = .ok (.aload_n 0, 1) := dk_42 (dk_at dksX5_lowest_0 18 rfl rfl)
theorem dX5_lowest_19 : decode cX5_lowest 19 = .ok (.iload_n 3, 1) := dk_29 (dk_at dksX5_lowest_0 19 rfl rfl)
theorem dX5_lowest_20 : decode cX5_lowest 20 = .ok (.iload_n 1, 1) := dk_27 (dk_at dksX5_lowest_0 20 rfl rfl)
theorem dX5_lowest_21 : decode cX5_lowest 21 = .ok (.iload_n 2, 1) := dk_28 (dk_at dksX5_lowest_0 21 rfl rfl)
theorem dX5_lowest_22 : decode cX5_lowest 22 = .ok (.isub, 1) := dk_100 (dk_at dksX5_lowest_0 22 rfl rfl)
theorem dX5_lowest_23 : decode cX5_lowest 23 = .ok (.invokevirtual 234, 3) := dk_182 0 234 (dk_at dksX5_lowest_1 0 rfl rfl)
theorem dX5_lowest_26 : decode cX5_lowest 26 = .ok (.istore_n 3, 1) := dk_62 (dk_at dksX5_lowest_1 3 rfl rfl)
theorem dX5_lowest_27 : decode cX5_lowest 27 = .ok (.iload_n 1, 1) := dk_27 (dk_at dksX5_lowest_1 4 rfl rfl)
theorem dX5_lowest_28 : decode cX5_lowest 28 = .ok (.iload_n 2, 1) := dk_28 (dk_at dksX5_lowest_1 5 rfl rfl)
theorem dX5_lowest_29 : decode cX5_lowest 29 = .ok (.irem, 1) := dk_112 (dk_at dksX5_lowest_1 6 rfl rfl)
theorem dX5_lowest_30 : decode cX5_lowest 30 = .ok (.ifCond .le 12, 3) := dk_158 0 12 (dk_at dksX5_lowest_1 7 rfl rfl)
theorem dX5_lowest_33 : decode cX5_lowest 33 = .ok (.aload_n 0, 1) := dk_42 (dk_at dksX5_lowest_1 10 rfl rfl)
theorem dX5_lowest_34 : decode cX5_lowest 34 = .ok (.iload_n 3, 1) := dk_29 (dk_at dksX5_lowest_1 11 rfl rfl)
theorem dX5_lowest_35 : decode cX5_lowest 35 = .ok (.iload_n 1, 1) := dk_27 (dk_at dksX5_lowest_1 12 rfl rfl)
theorem dX5_lowest_36 : decode cX5_lowest 36 = .ok (.iconst 1, 1) := dk_4 (dk_at dksX5_lowest_1 13 rfl rfl)
theorem dX5_lowest_37 : decode cX5_lowest 37 = .ok (.isub, 1) := dk_100 (dk_at dksX5_lowest_1 14 rfl rfl)
theorem dX5_lowest_38 : decode cX5_lowest 38 = .ok (.invokevirtual 234, 3) := dk_182 0 234 (dk_at dksX5_lowest_1 15 rfl rfl)
theorem dX5_lowest_41 : decode cX5_lowest 41 = .ok (.istore_n 3, 1) := dk_62 (dk_at dksX5_lowest_1 18 rfl rfl)
theorem dX5_lowest_42 : decode cX5_lowest 42 = .ok (.iload_n 1, 1) := dk_27 (dk_at dksX5_lowest_1 19 rfl rfl)
theorem dX5_lowest_43 : decode cX5_lowest 43 = .ok (.iload_n 2, 1) := dk_28 (dk_at dksX5_lowest_1 20 rfl rfl)
theorem dX5_lowest_44 : decode cX5_lowest 44 = .ok (.irem, 1) := dk_112 (dk_at dksX5_lowest_1 21 rfl rfl)
theorem dX5_lowest_45 : decode cX5_lowest 45 = .ok (.iconst 1, 1) := dk_4 (dk_at dksX5_lowest_1 22 rfl rfl)
theorem dX5_lowest_46 : decode cX5_lowest 46 = .ok (.iadd, 1) := dk_96 (dk_at dksX5_lowest_1 23 rfl rfl)
theorem dX5_lowest_47 : decode cX5_lowest 47 = .ok (.iload_n 2, 1) := dk_28 (dk_at dksX5_lowest_2 0 rfl rfl)
theorem dX5_lowest_48 : decode cX5_lowest 48 = .ok (.if_icmp .ge 12, 3) := dk_162 0 12 (dk_at dksX5_lowest_2 1 rfl rfl)
theorem dX5_lowest_51 : decode cX5_lowest 51 = .ok (.aload_n 0, 1) := dk_42 (dk_at dksX5_lowest_2 4 rfl rfl)
theorem dX5_lowest_52 : decode cX5_lowest 52 = .ok (.iload_n 3, 1) := dk_29 (dk_at dksX5_lowest_2 5 rfl rfl)
theorem dX5_lowest_53 : decode cX5_lowest 53 = .ok (.iload_n 1, 1) := dk_27 (dk_at dksX5_lowest_2 6 rfl rfl)
theorem dX5_lowest_54 : decode cX5_lowest 54 = .ok (.iconst 1, 1) := dk_4 (dk_at dksX5_lowest_2 7 rfl rfl)
theorem dX5_lowest_55 : decode cX5_lowest 55 = .ok (.iadd, 1) := dk_96 (dk_at dksX5_lowest_2 8 rfl rfl)
theorem dX5_lowest_56 : decode cX5_lowest 56 = .ok (.invokevirtual 234, 3) := dk_182 0 234 (dk_at dksX5_lowest_2 9 rfl rfl)
theorem dX5_lowest_59 : decode cX5_lowest 59 = .ok (.istore_n 3, 1) := dk_62 (dk_at dksX5_lowest_2 12 rfl rfl)
theorem dX5_lowest_60 : decode cX5_lowest 60 = .ok (.iload_n 1, 1) := dk_27 (dk_at dksX5_lowest_2 13 rfl rfl)
theorem dX5_lowest_61 : decode cX5_lowest 61 = .ok (.iload_n 2, 1) := dk_28 (dk_at dksX5_lowest_2 14 rfl rfl)
theorem dX5_lowest_62 : decode cX5_lowest 62 = .ok (.iadd, 1) := dk_96 (dk_at dksX5_lowest_2 15 rfl rfl)
theorem dX5_lowest_63 : decode cX5_lowest 63 = .ok (.aload_n 0, 1) := dk_42 (dk_at dksX5_lowest_2 16 rfl rfl)
theorem dX5_lowest_64 : decode cX5_lowest 64 = .ok (.getfield 3, 3) := dk_180 0 3 (dk_at dksX5_lowest_2 17 rfl rfl)
theorem dX5_lowest_67 : decode cX5_lowest 67 = .ok (.getfield 52, 3) := dk_180 0 52 (dk_at dksX5_lowest_2 20 rfl rfl)
theorem dX5_lowest_70 : decode cX5_lowest 70 = .ok (.invokevirtual 56, 3) := dk_182 0 56 (dk_at dksX5_lowest_3 0 rfl rfl)
theorem dX5_lowest_73 : decode cX5_lowest 73 = .ok (.if_icmp .ge 14, 3) := dk_162 0 14 (dk_at dksX5_lowest_3 3 rfl rfl)
theorem dX5_lowest_76 : decode cX5_lowest 76 = .ok (.aload_n 0, 1) := dk_42 (dk_at dksX5_lowest_3 6 rfl rfl)
theorem dX5_lowest_77 : decode cX5_lowest 77 = .ok (.iload_n 3, 1) := dk_29 (dk_at dksX5_lowest_3 7 rfl rfl)
theorem dX5_lowest_78 : decode cX5_lowest 78 = .ok (.iload_n 1, 1) := dk_27 (dk_at dksX5_lowest_3 8 rfl rfl)
theorem dX5_lowest_79 : decode cX5_lowest 79 = .ok (.iload_n 2, 1) := dk_28 (dk_at dksX5_lowest_3 9 rfl rfl)
theorem dX5_lowest_80 : decode cX5_lowest 80 = .ok (.iadd, 1) := dk_96 (dk_at dksX5_lowest_3 10 rfl rfl)
theorem dX5_lowest_81 : decode cX5_lowest 81 = .ok (.invokevirtual 234, 3) := dk_182 0 234 (dk_at dksX5_lowest_3 11 rfl rfl)
theorem dX5_lowest_84 : decode cX5_lowest 84 = .ok (.goto 4, 3) := dk_167 0 4 (dk_at dksX5_lowest_3 14 rfl rfl)
theorem dX5_lowest_87 : decode cX5_lowest 87 = .ok (.iload_n 3, 1) := dk_29 (dk_at dksX5_lowest_3 17 rfl rfl)
theorem dX5_lowest_88 : decode cX5_lowest 88 = .ok (.ireturn, 1) := dk_172 (dk_at dksX5_lowest_3 18 rfl rfl)
abbrev cX5_lower : ByteArray := prog_11_method_15_code
def yX5_lower : MethodName := ⟨RX5, "lower", "(II)I"⟩
def dkwX5_lower_1 : List UInt8 := [28, 46, 163, 0, 7, 27, 167, 0, 4, 28, 172]
abbrev dktX5_lower_1 : List UInt8 := dkwX5_lower_1 ++ []
def dkwX5_lower_0 : List UInt8 := [42, 180, 0, 37, 28, 51, 154, 0, 23, 27, 2, 159, 0, 22, 42, 180, 0, 15, 27, 46, 42, 180, 0, 15]
abbrev dktX5_lower_0 : List UInt8 := dkwX5_lower_0 ++ dktX5_lower_1
theorem dksX5_lower_0 : cX5_lower.data.toList.drop 0 = dktX5_lower_0 := by decide +kernel
theorem dksX5_lower_1 : cX5_lower.data.toList.drop 24 = dktX5_lower_1 := dk_seg dksX5_lower_0 24 rfl rfl
theorem dX5_lower_0 : decode cX5_lower 0 = .ok (.aload_n 0, 1) := dk_42 (dk_at dksX5_lower_0 0 rfl rfl)
theorem dX5_lower_1 : decode cX5_lower 1 = .ok (.getfield 37, 3) := dk_180 0 37 (dk_at dksX5_lower_0 1 rfl rfl)
theorem dX5_lower_4 : decode cX5_lower 4 = .ok (.iload_n 2, 1) := dk_28 (dk_at dksX5_lower_0 4 rfl rfl)
theorem dX5_lower_5 : decode cX5_lower 5 = .ok (.baload, 1) := dk_51 (dk_at dksX5_lower_0 5 rfl rfl)
theorem dX5_lower_6 : decode cX5_lower 6 = .ok (.ifCond .ne 23, 3) := dk_154 0 23 (dk_at dksX5_lower_0 6 rfl rfl)
theorem dX5_lower_9 : decode cX5_lower 9 = .ok (.iload_n 1, 1) := dk_27 (dk_at dksX5_lower_0 9 rfl rfl)
theorem dX5_lower_10 : decode cX5_lower 10 = .ok (.iconst (-1), 1) := dk_2 (dk_at dksX5_lower_0 10 rfl rfl)
theorem dX5_lower_11 : decode cX5_lower 11 = .ok (.if_icmp .eq 22, 3) := dk_159 0 22 (dk_at dksX5_lower_0 11 rfl rfl)
theorem dX5_lower_14 : decode cX5_lower 14 = .ok (.aload_n 0, 1) := dk_42 (dk_at dksX5_lower_0 14 rfl rfl)
theorem dX5_lower_15 : decode cX5_lower 15 = .ok (.getfield 15, 3) := dk_180 0 15 (dk_at dksX5_lower_0 15 rfl rfl)
theorem dX5_lower_18 : decode cX5_lower 18 = .ok (.iload_n 1, 1) := dk_27 (dk_at dksX5_lower_0 18 rfl rfl)
theorem dX5_lower_19 : decode cX5_lower 19 = .ok (.iaload, 1) := dk_46 (dk_at dksX5_lower_0 19 rfl rfl)
theorem dX5_lower_20 : decode cX5_lower 20 = .ok (.aload_n 0, 1) := dk_42 (dk_at dksX5_lower_0 20 rfl rfl)
theorem dX5_lower_21 : decode cX5_lower 21 = .ok (.getfield 15, 3) := dk_180 0 15 (dk_at dksX5_lower_0 21 rfl rfl)
theorem dX5_lower_24 : decode cX5_lower 24 = .ok (.iload_n 2, 1) := dk_28 (dk_at dksX5_lower_1 0 rfl rfl)
theorem dX5_lower_25 : decode cX5_lower 25 = .ok (.iaload, 1) := dk_46 (dk_at dksX5_lower_1 1 rfl rfl)
theorem dX5_lower_26 : decode cX5_lower 26 = .ok (.if_icmp .gt 7, 3) := dk_163 0 7 (dk_at dksX5_lower_1 2 rfl rfl)
theorem dX5_lower_29 : decode cX5_lower 29 = .ok (.iload_n 1, 1) := dk_27 (dk_at dksX5_lower_1 5 rfl rfl)
theorem dX5_lower_30 : decode cX5_lower 30 = .ok (.goto 4, 3) := dk_167 0 4 (dk_at dksX5_lower_1 6 rfl rfl)
theorem dX5_lower_33 : decode cX5_lower 33 = .ok (.iload_n 2, 1) := dk_28 (dk_at dksX5_lower_1 9 rfl rfl)
theorem dX5_lower_34 : decode cX5_lower 34 = .ok (.ireturn, 1) := dk_172 (dk_at dksX5_lower_1 10 rfl rfl)
abbrev cX5_holds : ByteArray := prog_11_method_6_code
def yX5_holds : MethodName := ⟨RX5, "holds", "(I)I"⟩
def dkwX5_holds_0 : List UInt8 := [42, 180, 0, 3, 180, 0, 52, 42, 180, 0, 19, 27, 46, 42, 180, 0, 22, 27, 46, 182, 0, 126, 172]
abbrev dktX5_holds_0 : List UInt8 := dkwX5_holds_0 ++ []
theorem dksX5_holds_0 : cX5_holds.data.toList.drop 0 = dktX5_holds_0 := by decide +kernel
theorem dX5_holds_0 : decode cX5_holds 0 = .ok (.aload_n 0, 1) := dk_42 (dk_at dksX5_holds_0 0 rfl rfl)
theorem dX5_holds_1 : decode cX5_holds 1 = .ok (.getfield 3, 3) := dk_180 0 3 (dk_at dksX5_holds_0 1 rfl rfl)
theorem dX5_holds_4 : decode cX5_holds 4 = .ok (.getfield 52, 3) := dk_180 0 52 (dk_at dksX5_holds_0 4 rfl rfl)
theorem dX5_holds_7 : decode cX5_holds 7 = .ok (.aload_n 0, 1) := dk_42 (dk_at dksX5_holds_0 7 rfl rfl)
theorem dX5_holds_8 : decode cX5_holds 8 = .ok (.getfield 19, 3) := dk_180 0 19 (dk_at dksX5_holds_0 8 rfl rfl)
theorem dX5_holds_11 : decode cX5_holds 11 = .ok (.iload_n 1, 1) := dk_27 (dk_at dksX5_holds_0 11 rfl rfl)
theorem dX5_holds_12 : decode cX5_holds 12 = .ok (.iaload, 1) := dk_46 (dk_at dksX5_holds_0 12 rfl rfl)
theorem dX5_holds_13 : decode cX5_holds 13 = .ok (.aload_n 0, 1) := dk_42 (dk_at dksX5_holds_0 13 rfl rfl)
theorem dX5_holds_14 : decode cX5_holds 14 = .ok (.getfield 22, 3) := dk_180 0 22 (dk_at dksX5_holds_0 14 rfl rfl)
theorem dX5_holds_17 : decode cX5_holds 17 = .ok (.iload_n 1, 1) := dk_27 (dk_at dksX5_holds_0 17 rfl rfl)
theorem dX5_holds_18 : decode cX5_holds 18 = .ok (.iaload, 1) := dk_46 (dk_at dksX5_holds_0 18 rfl rfl)
theorem dX5_holds_19 : decode cX5_holds 19 = .ok (.invokevirtual 126, 3) := dk_182 0 126 (dk_at dksX5_holds_0 19 rfl rfl)
theorem dX5_holds_22 : decode cX5_holds 22 = .ok (.ireturn, 1) := dk_172 (dk_at dksX5_holds_0 22 rfl rfl)
abbrev cX5_lookAtFlags : ByteArray := prog_11_method_17_code
def yX5_lookAtFlags : MethodName := ⟨RX5, "lookAtFlags", "()V"⟩
def dkwX5_lookAtFlags_3 : List UInt8 := [42, 180, 0, 87, 79, 132, 1, 1, 167, 255, 179, 177]
abbrev dktX5_lookAtFlags_3 : List UInt8 := dkwX5_lookAtFlags_3 ++ []
def dkwX5_lookAtFlags_2 : List UInt8 := [27, 46, 42, 180, 0, 3, 180, 0, 52, 178, 0, 242, 182, 0, 68, 100, 162, 0, 13, 42, 180, 0, 34, 27]
abbrev dktX5_lookAtFlags_2 : List UInt8 := dkwX5_lookAtFlags_2 ++ dktX5_lookAtFlags_3
def dkwX5_lookAtFlags_1 : List UInt8 := [160, 0, 53, 42, 180, 0, 15, 42, 180, 0, 3, 180, 0, 52, 180, 0, 84, 27, 46, 46, 42, 180, 0, 31]
abbrev dktX5_lookAtFlags_1 : List UInt8 := dkwX5_lookAtFlags_1 ++ dktX5_lookAtFlags_2
def dkwX5_lookAtFlags_0 : List UInt8 := [3, 60, 27, 42, 180, 0, 3, 180, 0, 52, 180, 0, 81, 162, 0, 69, 42, 180, 0, 34, 27, 46, 2]
abbrev dktX5_lookAtFlags_0 : List UInt8 := dkwX5_lookAtFlags_0 ++ dktX5_lookAtFlags_1
theorem dksX5_lookAtFlags_0 : cX5_lookAtFlags.data.toList.drop 0 = dktX5_lookAtFlags_0 := by decide +kernel
theorem dksX5_lookAtFlags_1 : cX5_lookAtFlags.data.toList.drop 23 = dktX5_lookAtFlags_1 := dk_seg dksX5_lookAtFlags_0 23 rfl rfl
theorem dksX5_lookAtFlags_2 : cX5_lookAtFlags.data.toList.drop 47 = dktX5_lookAtFlags_2 := dk_seg dksX5_lookAtFlags_1 24 rfl rfl
theorem dksX5_lookAtFlags_3 : cX5_lookAtFlags.data.toList.drop 71 = dktX5_lookAtFlags_3 := dk_seg dksX5_lookAtFlags_2 24 rfl rfl
theorem dX5_lookAtFlags_0 : decode cX5_lookAtFlags 0 = .ok (.iconst 0, 1) := dk_3 (dk_at dksX5_lookAtFlags_0 0 rfl rfl)
theorem dX5_lookAtFlags_1 : decode cX5_lookAtFlags 1 = .ok (.istore_n 1, 1) := dk_60 (dk_at dksX5_lookAtFlags_0 1 rfl rfl)
theorem dX5_lookAtFlags_2 : decode cX5_lookAtFlags 2 = .ok (.iload_n 1, 1) := dk_27 (dk_at dksX5_lookAtFlags_0 2 rfl rfl)
theorem dX5_lookAtFlags_3 : decode cX5_lookAtFlags 3 = .ok (.aload_n 0, 1) := dk_42 (dk_at dksX5_lookAtFlags_0 3 rfl rfl)
theorem dX5_lookAtFlags_4 : decode cX5_lookAtFlags 4 = .ok (.getfield 3, 3) := dk_180 0 3 (dk_at dksX5_lookAtFlags_0 4 rfl rfl)
theorem dX5_lookAtFlags_7 : decode cX5_lookAtFlags 7 = .ok (.getfield 52, 3) := dk_180 0 52 (dk_at dksX5_lookAtFlags_0 7 rfl rfl)
theorem dX5_lookAtFlags_10 : decode cX5_lookAtFlags 10 = .ok (.getfield 81, 3) := dk_180 0 81 (dk_at dksX5_lookAtFlags_0 10 rfl rfl)
theorem dX5_lookAtFlags_13 : decode cX5_lookAtFlags 13 = .ok (.if_icmp .ge 69, 3) := dk_162 0 69 (dk_at dksX5_lookAtFlags_0 13 rfl rfl)
theorem dX5_lookAtFlags_16 : decode cX5_lookAtFlags 16 = .ok (.aload_n 0, 1) := dk_42 (dk_at dksX5_lookAtFlags_0 16 rfl rfl)
theorem dX5_lookAtFlags_17 : decode cX5_lookAtFlags 17 = .ok (.getfield 34, 3) := dk_180 0 34 (dk_at dksX5_lookAtFlags_0 17 rfl rfl)
theorem dX5_lookAtFlags_20 : decode cX5_lookAtFlags 20 = .ok (.iload_n 1, 1) := dk_27 (dk_at dksX5_lookAtFlags_0 20 rfl rfl)
theorem dX5_lookAtFlags_21 : decode cX5_lookAtFlags 21 = .ok (.iaload, 1) := dk_46 (dk_at dksX5_lookAtFlags_0 21 rfl rfl)
theorem dX5_lookAtFlags_22 : decode cX5_lookAtFlags 22 = .ok (.iconst (-1), 1) := dk_2 (dk_at dksX5_lookAtFlags_0 22 rfl rfl)
theorem dX5_lookAtFlags_23 : decode cX5_lookAtFlags 23 = .ok (.if_icmp .ne 53, 3) := dk_160 0 53 (dk_at dksX5_lookAtFlags_1 0 rfl rfl)
theorem dX5_lookAtFlags_26 : decode cX5_lookAtFlags 26 = .ok (.aload_n 0, 1) := dk_42 (dk_at dksX5_lookAtFlags_1 3 rfl rfl)
theorem dX5_lookAtFlags_27 : decode cX5_lookAtFlags 27 = .ok (.getfield 15, 3) := dk_180 0 15 (dk_at dksX5_lookAtFlags_1 4 rfl rfl)
theorem dX5_lookAtFlags_30 : decode cX5_lookAtFlags 30 = .ok (.aload_n 0, 1) := dk_42 (dk_at dksX5_lookAtFlags_1 7 rfl rfl)
theorem dX5_lookAtFlags_31 : decode cX5_lookAtFlags 31 = .ok (.getfield 3, 3) := dk_180 0 3 (dk_at dksX5_lookAtFlags_1 8 rfl rfl)
theorem dX5_lookAtFlags_34 : decode cX5_lookAtFlags 34 = .ok (.getfield 52, 3) := dk_180 0 52 (dk_at dksX5_lookAtFlags_1 11 rfl rfl)
theorem dX5_lookAtFlags_37 : decode cX5_lookAtFlags 37 = .ok (.getfield 84, 3) := dk_180 0 84 (dk_at dksX5_lookAtFlags_1 14 rfl rfl)
theorem dX5_lookAtFlags_40 : decode cX5_lookAtFlags 40 = .ok (.iload_n 1, 1) := dk_27 (dk_at dksX5_lookAtFlags_1 17 rfl rfl)
theorem dX5_lookAtFlags_41 : decode cX5_lookAtFlags 41 = .ok (.iaload, 1) := dk_46 (dk_at dksX5_lookAtFlags_1 18 rfl rfl)
theorem dX5_lookAtFlags_42 : decode cX5_lookAtFlags 42 = .ok (.iaload, 1) := dk_46 (dk_at dksX5_lookAtFlags_1 19 rfl rfl)
theorem dX5_lookAtFlags_43 : decode cX5_lookAtFlags 43 = .ok (.aload_n 0, 1) := dk_42 (dk_at dksX5_lookAtFlags_1 20 rfl rfl)
theorem dX5_lookAtFlags_44 : decode cX5_lookAtFlags 44 = .ok (.getfield 31, 3) := dk_180 0 31 (dk_at dksX5_lookAtFlags_1 21 rfl rfl)
theorem dX5_lookAtFlags_47 : decode cX5_lookAtFlags 47 = .ok (.iload_n 1, 1) := dk_27 (dk_at dksX5_lookAtFlags_2 0 rfl rfl)
theorem dX5_lookAtFlags_48 : decode cX5_lookAtFlags 48 = .ok (.iaload, 1) := dk_46 (dk_at dksX5_lookAtFlags_2 1 rfl rfl)
theorem dX5_lookAtFlags_49 : decode cX5_lookAtFlags 49 = .ok (.aload_n 0, 1) := dk_42 (dk_at dksX5_lookAtFlags_2 2 rfl rfl)
theorem dX5_lookAtFlags_50 : decode cX5_lookAtFlags 50 = .ok (.getfield 3, 3) := dk_180 0 3 (dk_at dksX5_lookAtFlags_2 3 rfl rfl)
theorem dX5_lookAtFlags_53 : decode cX5_lookAtFlags 53 = .ok (.getfield 52, 3) := dk_180 0 52 (dk_at dksX5_lookAtFlags_2 6 rfl rfl)
theorem dX5_lookAtFlags_56 : decode cX5_lookAtFlags 56 = .ok (.getstatic 242, 3) := dk_178 0 242 (dk_at dksX5_lookAtFlags_2 9 rfl rfl)
theorem dX5_lookAtFlags_59 : decode cX5_lookAtFlags 59 = .ok (.invokevirtual 68, 3) := dk_182 0 68 (dk_at dksX5_lookAtFlags_2 12 rfl rfl)
theorem dX5_lookAtFlags_62 : decode cX5_lookAtFlags 62 = .ok (.isub, 1) := dk_100 (dk_at dksX5_lookAtFlags_2 15 rfl rfl)
theorem dX5_lookAtFlags_63 : decode cX5_lookAtFlags 63 = .ok (.if_icmp .ge 13, 3) := dk_162 0 13 (dk_at dksX5_lookAtFlags_2 16 rfl rfl)
theorem dX5_lookAtFlags_66 : decode cX5_lookAtFlags 66 = .ok (.aload_n 0, 1) := dk_42 (dk_at dksX5_lookAtFlags_2 19 rfl rfl)
theorem dX5_lookAtFlags_67 : decode cX5_lookAtFlags 67 = .ok (.getfield 34, 3) := dk_180 0 34 (dk_at dksX5_lookAtFlags_2 20 rfl rfl)
theorem dX5_lookAtFlags_70 : decode cX5_lookAtFlags 70 = .ok (.iload_n 1, 1) := dk_27 (dk_at dksX5_lookAtFlags_2 23 rfl rfl)
theorem dX5_lookAtFlags_71 : decode cX5_lookAtFlags 71 = .ok (.aload_n 0, 1) := dk_42 (dk_at dksX5_lookAtFlags_3 0 rfl rfl)
theorem dX5_lookAtFlags_72 : decode cX5_lookAtFlags 72 = .ok (.getfield 87, 3) := dk_180 0 87 (dk_at dksX5_lookAtFlags_3 1 rfl rfl)
theorem dX5_lookAtFlags_75 : decode cX5_lookAtFlags 75 = .ok (.iastore, 1) := dk_79 (dk_at dksX5_lookAtFlags_3 4 rfl rfl)
theorem dX5_lookAtFlags_76 : decode cX5_lookAtFlags 76 = .ok (.iinc 1 1, 3) := dk_132 1 1 (dk_at dksX5_lookAtFlags_3 5 rfl rfl)
theorem dX5_lookAtFlags_79 : decode cX5_lookAtFlags 79 = .ok (.goto (-77), 3) := dk_167 255 179 (dk_at dksX5_lookAtFlags_3 8 rfl rfl)
theorem dX5_lookAtFlags_82 : decode cX5_lookAtFlags 82 = .ok (.return_, 1) := dk_177 (dk_at dksX5_lookAtFlags_3 11 rfl rfl)
abbrev cX5_sand : ByteArray := prog_11_method_20_code
def yX5_sand : MethodName := ⟨RX5, "sand", "()I"⟩
def dkwX5_sand_1 : List UInt8 := [46, 96, 60, 132, 2, 1, 167, 255, 230, 27, 172]
abbrev dktX5_sand_1 : List UInt8 := dkwX5_sand_1 ++ []
def dkwX5_sand_0 : List UInt8 := [3, 60, 3, 61, 28, 42, 180, 0, 3, 180, 0, 52, 182, 0, 56, 162, 0, 18, 27, 42, 180, 0, 15, 28]
abbrev dktX5_sand_0 : List UInt8 := dkwX5_sand_0 ++ dktX5_sand_1
theorem dksX5_sand_0 : cX5_sand.data.toList.drop 0 = dktX5_sand_0 := by decide +kernel
theorem dksX5_sand_1 : cX5_sand.data.toList.drop 24 = dktX5_sand_1 := dk_seg dksX5_sand_0 24 rfl rfl
theorem dX5_sand_0 : decode cX5_sand 0 = .ok (.iconst 0, 1) := dk_3 (dk_at dksX5_sand_0 0 rfl rfl)
theorem dX5_sand_1 : decode cX5_sand 1 = .ok (.istore_n 1, 1) := dk_60 (dk_at dksX5_sand_0 1 rfl rfl)
theorem dX5_sand_2 : decode cX5_sand 2 = .ok (.iconst 0, 1) := dk_3 (dk_at dksX5_sand_0 2 rfl rfl)
theorem dX5_sand_3 : decode cX5_sand 3 = .ok (.istore_n 2, 1) := dk_61 (dk_at dksX5_sand_0 3 rfl rfl)
theorem dX5_sand_4 : decode cX5_sand 4 = .ok (.iload_n 2, 1) := dk_28 (dk_at dksX5_sand_0 4 rfl rfl)
theorem dX5_sand_5 : decode cX5_sand 5 = .ok (.aload_n 0, 1) := dk_42 (dk_at dksX5_sand_0 5 rfl rfl)
theorem dX5_sand_6 : decode cX5_sand 6 = .ok (.getfield 3, 3) := dk_180 0 3 (dk_at dksX5_sand_0 6 rfl rfl)
theorem dX5_sand_9 : decode cX5_sand 9 = .ok (.getfield 52, 3) := dk_180 0 52 (dk_at dksX5_sand_0 9 rfl rfl)
theorem dX5_sand_12 : decode cX5_sand 12 = .ok (.invokevirtual 56, 3) := dk_182 0 56 (dk_at dksX5_sand_0 12 rfl rfl)
theorem dX5_sand_15 : decode cX5_sand 15 = .ok (.if_icmp .ge 18, 3) := dk_162 0 18 (dk_at dksX5_sand_0 15 rfl rfl)
theorem dX5_sand_18 : decode cX5_sand 18 = .ok (.iload_n 1, 1) := dk_27 (dk_at dksX5_sand_0 18 rfl rfl)
theorem dX5_sand_19 : decode cX5_sand 19 = .ok (.aload_n 0, 1) := dk_42 (dk_at dksX5_sand_0 19 rfl rfl)
theorem dX5_sand_20 : decode cX5_sand 20 = .ok (.getfield 15, 3) := dk_180 0 15 (dk_at dksX5_sand_0 20 rfl rfl)
theorem dX5_sand_23 : decode cX5_sand 23 = .ok (.iload_n 2, 1) := dk_28 (dk_at dksX5_sand_0 23 rfl rfl)
theorem dX5_sand_24 : decode cX5_sand 24 = .ok (.iaload, 1) := dk_46 (dk_at dksX5_sand_1 0 rfl rfl)
theorem dX5_sand_25 : decode cX5_sand 25 = .ok (.iadd, 1) := dk_96 (dk_at dksX5_sand_1 1 rfl rfl)
theorem dX5_sand_26 : decode cX5_sand 26 = .ok (.istore_n 1, 1) := dk_60 (dk_at dksX5_sand_1 2 rfl rfl)
theorem dX5_sand_27 : decode cX5_sand 27 = .ok (.iinc 2 1, 3) := dk_132 2 1 (dk_at dksX5_sand_1 3 rfl rfl)
theorem dX5_sand_30 : decode cX5_sand 30 = .ok (.goto (-26), 3) := dk_167 255 230 (dk_at dksX5_sand_1 6 rfl rfl)
theorem dX5_sand_33 : decode cX5_sand 33 = .ok (.iload_n 1, 1) := dk_27 (dk_at dksX5_sand_1 9 rfl rfl)
theorem dX5_sand_34 : decode cX5_sand 34 = .ok (.ireturn, 1) := dk_172 (dk_at dksX5_sand_1 10 rfl rfl)
abbrev cX5_become : ByteArray := prog_11_method_3_code
def yX5_become : MethodName := ⟨RX5, "become", "(LTideKeep$Shore;)V"⟩
def dkwX5_become_8 : List UInt8 := [180, 0, 102, 181, 0, 102, 42, 43, 180, 0, 44, 181, 0, 44, 42, 43, 180, 0, 48, 181, 0, 48, 177]
abbrev dktX5_become_8 : List UInt8 := dkwX5_become_8 ++ []
def dkwX5_become_7 : List UInt8 := [180, 0, 93, 181, 0, 93, 42, 43, 180, 0, 96, 181, 0, 96, 42, 43, 180, 0, 99, 181, 0, 99, 42, 43]
abbrev dktX5_become_7 : List UInt8 := dkwX5_become_7 ++ dktX5_become_8
def dkwX5_become_6 : List UInt8 := [132, 2, 1, 167, 255, 224, 42, 43, 180, 0, 87, 181, 0, 87, 42, 43, 180, 0, 90, 181, 0, 90, 42, 43]
abbrev dktX5_become_6 : List UInt8 := dkwX5_become_6 ++ dktX5_become_7
def dkwX5_become_5 : List UInt8 := [42, 180, 0, 31, 28, 43, 180, 0, 31, 28, 46, 79, 42, 180, 0, 34, 28, 43, 180, 0, 34, 28, 46, 79]
abbrev dktX5_become_5 : List UInt8 := dkwX5_become_5 ++ dktX5_become_6
def dkwX5_become_4 : List UInt8 := [180, 0, 41, 28, 43, 180, 0, 41, 28, 51, 84, 132, 2, 1, 167, 255, 212, 3, 61, 28, 6, 162, 0, 33]
abbrev dktX5_become_4 : List UInt8 := dkwX5_become_4 ++ dktX5_become_5
def dkwX5_become_3 : List UInt8 := [180, 0, 25, 28, 43, 180, 0, 25, 28, 46, 79, 42, 180, 0, 28, 28, 43, 180, 0, 28, 28, 46, 79, 42]
abbrev dktX5_become_3 : List UInt8 := dkwX5_become_3 ++ dktX5_become_4
def dkwX5_become_2 : List UInt8 := [28, 43, 180, 0, 37, 28, 51, 84, 132, 2, 1, 167, 255, 199, 3, 61, 28, 7, 162, 0, 45, 42]
abbrev dktX5_become_2 : List UInt8 := dkwX5_become_2 ++ dktX5_become_3
def dkwX5_become_1 : List UInt8 := [28, 43, 180, 0, 19, 28, 46, 79, 42, 180, 0, 22, 28, 43, 180, 0, 22, 28, 46, 79, 42, 180, 0, 37]
abbrev dktX5_become_1 : List UInt8 := dkwX5_become_1 ++ dktX5_become_2
def dkwX5_become_0 : List UInt8 := [3, 61, 28, 16, 64, 162, 0, 57, 42, 180, 0, 15, 28, 43, 180, 0, 15, 28, 46, 79, 42, 180, 0, 19]
abbrev dktX5_become_0 : List UInt8 := dkwX5_become_0 ++ dktX5_become_1
theorem dksX5_become_0 : cX5_become.data.toList.drop 0 = dktX5_become_0 := by decide +kernel
theorem dksX5_become_1 : cX5_become.data.toList.drop 24 = dktX5_become_1 := dk_seg dksX5_become_0 24 rfl rfl
theorem dksX5_become_2 : cX5_become.data.toList.drop 48 = dktX5_become_2 := dk_seg dksX5_become_1 24 rfl rfl
theorem dksX5_become_3 : cX5_become.data.toList.drop 70 = dktX5_become_3 := dk_seg dksX5_become_2 22 rfl rfl
theorem dksX5_become_4 : cX5_become.data.toList.drop 94 = dktX5_become_4 := dk_seg dksX5_become_3 24 rfl rfl
theorem dksX5_become_5 : cX5_become.data.toList.drop 118 = dktX5_become_5 := dk_seg dksX5_become_4 24 rfl rfl
theorem dksX5_become_6 : cX5_become.data.toList.drop 142 = dktX5_become_6 := dk_seg dksX5_become_5 24 rfl rfl
theorem dksX5_become_7 : cX5_become.data.toList.drop 166 = dktX5_become_7 := dk_seg dksX5_become_6 24 rfl rfl
theorem dksX5_become_8 : cX5_become.data.toList.drop 190 = dktX5_become_8 := dk_seg dksX5_become_7 24 rfl rfl
theorem dX5_become_0 : decode cX5_become 0 = .ok (.iconst 0, 1) := dk_3 (dk_at dksX5_become_0 0 rfl rfl)
theorem dX5_become_1 : decode cX5_become 1 = .ok (.istore_n 2, 1) := dk_61 (dk_at dksX5_become_0 1 rfl rfl)
theorem dX5_become_2 : decode cX5_become 2 = .ok (.iload_n 2, 1) := dk_28 (dk_at dksX5_become_0 2 rfl rfl)
theorem dX5_become_3 : decode cX5_become 3 = .ok (.bipush 64, 2) := dk_16 64 (dk_at dksX5_become_0 3 rfl rfl)
theorem dX5_become_5 : decode cX5_become 5 = .ok (.if_icmp .ge 57, 3) := dk_162 0 57 (dk_at dksX5_become_0 5 rfl rfl)
theorem dX5_become_8 : decode cX5_become 8 = .ok (.aload_n 0, 1) := dk_42 (dk_at dksX5_become_0 8 rfl rfl)
theorem dX5_become_9 : decode cX5_become 9 = .ok (.getfield 15, 3) := dk_180 0 15 (dk_at dksX5_become_0 9 rfl rfl)
theorem dX5_become_12 : decode cX5_become 12 = .ok (.iload_n 2, 1) := dk_28 (dk_at dksX5_become_0 12 rfl rfl)
theorem dX5_become_13 : decode cX5_become 13 = .ok (.aload_n 1, 1) := dk_43 (dk_at dksX5_become_0 13 rfl rfl)
theorem dX5_become_14 : decode cX5_become 14 = .ok (.getfield 15, 3) := dk_180 0 15 (dk_at dksX5_become_0 14 rfl rfl)
theorem dX5_become_17 : decode cX5_become 17 = .ok (.iload_n 2, 1) := dk_28 (dk_at dksX5_become_0 17 rfl rfl)
theorem dX5_become_18 : decode cX5_become 18 = .ok (.iaload, 1) := dk_46 (dk_at dksX5_become_0 18 rfl rfl)
theorem dX5_become_19 : decode cX5_become 19 = .ok (.iastore, 1) := dk_79 (dk_at dksX5_become_0 19 rfl rfl)
theorem dX5_become_20 : decode cX5_become 20 = .ok (.aload_n 0, 1) := dk_42 (dk_at dksX5_become_0 20 rfl rfl)
theorem dX5_become_21 : decode cX5_become 21 = .ok (.getfield 19, 3) := dk_180 0 19 (dk_at dksX5_become_0 21 rfl rfl)
theorem dX5_become_24 : decode cX5_become 24 = .ok (.iload_n 2, 1) := dk_28 (dk_at dksX5_become_1 0 rfl rfl)
theorem dX5_become_25 : decode cX5_become 25 = .ok (.aload_n 1, 1) := dk_43 (dk_at dksX5_become_1 1 rfl rfl)
theorem dX5_become_26 : decode cX5_become 26 = .ok (.getfield 19, 3) := dk_180 0 19 (dk_at dksX5_become_1 2 rfl rfl)
theorem dX5_become_29 : decode cX5_become 29 = .ok (.iload_n 2, 1) := dk_28 (dk_at dksX5_become_1 5 rfl rfl)
theorem dX5_become_30 : decode cX5_become 30 = .ok (.iaload, 1) := dk_46 (dk_at dksX5_become_1 6 rfl rfl)
theorem dX5_become_31 : decode cX5_become 31 = .ok (.iastore, 1) := dk_79 (dk_at dksX5_become_1 7 rfl rfl)
theorem dX5_become_32 : decode cX5_become 32 = .ok (.aload_n 0, 1) := dk_42 (dk_at dksX5_become_1 8 rfl rfl)
theorem dX5_become_33 : decode cX5_become 33 = .ok (.getfield 22, 3) := dk_180 0 22 (dk_at dksX5_become_1 9 rfl rfl)
theorem dX5_become_36 : decode cX5_become 36 = .ok (.iload_n 2, 1) := dk_28 (dk_at dksX5_become_1 12 rfl rfl)
theorem dX5_become_37 : decode cX5_become 37 = .ok (.aload_n 1, 1) := dk_43 (dk_at dksX5_become_1 13 rfl rfl)
theorem dX5_become_38 : decode cX5_become 38 = .ok (.getfield 22, 3) := dk_180 0 22 (dk_at dksX5_become_1 14 rfl rfl)
theorem dX5_become_41 : decode cX5_become 41 = .ok (.iload_n 2, 1) := dk_28 (dk_at dksX5_become_1 17 rfl rfl)
theorem dX5_become_42 : decode cX5_become 42 = .ok (.iaload, 1) := dk_46 (dk_at dksX5_become_1 18 rfl rfl)
theorem dX5_become_43 : decode cX5_become 43 = .ok (.iastore, 1) := dk_79 (dk_at dksX5_become_1 19 rfl rfl)
theorem dX5_become_44 : decode cX5_become 44 = .ok (.aload_n 0, 1) := dk_42 (dk_at dksX5_become_1 20 rfl rfl)
theorem dX5_become_45 : decode cX5_become 45 = .ok (.getfield 37, 3) := dk_180 0 37 (dk_at dksX5_become_1 21 rfl rfl)
theorem dX5_become_48 : decode cX5_become 48 = .ok (.iload_n 2, 1) := dk_28 (dk_at dksX5_become_2 0 rfl rfl)
theorem dX5_become_49 : decode cX5_become 49 = .ok (.aload_n 1, 1) := dk_43 (dk_at dksX5_become_2 1 rfl rfl)
theorem dX5_become_50 : decode cX5_become 50 = .ok (.getfield 37, 3) := dk_180 0 37 (dk_at dksX5_become_2 2 rfl rfl)
theorem dX5_become_53 : decode cX5_become 53 = .ok (.iload_n 2, 1) := dk_28 (dk_at dksX5_become_2 5 rfl rfl)
theorem dX5_become_54 : decode cX5_become 54 = .ok (.baload, 1) := dk_51 (dk_at dksX5_become_2 6 rfl rfl)
theorem dX5_become_55 : decode cX5_become 55 = .ok (.bastore, 1) := dk_84 (dk_at dksX5_become_2 7 rfl rfl)
theorem dX5_become_56 : decode cX5_become 56 = .ok (.iinc 2 1, 3) := dk_132 2 1 (dk_at dksX5_become_2 8 rfl rfl)
theorem dX5_become_59 : decode cX5_become 59 = .ok (.goto (-57), 3) := dk_167 255 199 (dk_at dksX5_become_2 11 rfl rfl)
theorem dX5_become_62 : decode cX5_become 62 = .ok (.iconst 0, 1) := dk_3 (dk_at dksX5_become_2 14 rfl rfl)
theorem dX5_become_63 : decode cX5_become 63 = .ok (.istore_n 2, 1) := dk_61 (dk_at dksX5_become_2 15 rfl rfl)
theorem dX5_become_64 : decode cX5_become 64 = .ok (.iload_n 2, 1) := dk_28 (dk_at dksX5_become_2 16 rfl rfl)
theorem dX5_become_65 : decode cX5_become 65 = .ok (.iconst 4, 1) := dk_7 (dk_at dksX5_become_2 17 rfl rfl)
theorem dX5_become_66 : decode cX5_become 66 = .ok (.if_icmp .ge 45, 3) := dk_162 0 45 (dk_at dksX5_become_2 18 rfl rfl)
theorem dX5_become_69 : decode cX5_become 69 = .ok (.aload_n 0, 1) := dk_42 (dk_at dksX5_become_2 21 rfl rfl)
theorem dX5_become_70 : decode cX5_become 70 = .ok (.getfield 25, 3) := dk_180 0 25 (dk_at dksX5_become_3 0 rfl rfl)
theorem dX5_become_73 : decode cX5_become 73 = .ok (.iload_n 2, 1) := dk_28 (dk_at dksX5_become_3 3 rfl rfl)
theorem dX5_become_74 : decode cX5_become 74 = .ok (.aload_n 1, 1) := dk_43 (dk_at dksX5_become_3 4 rfl rfl)
theorem dX5_become_75 : decode cX5_become 75 = .ok (.getfield 25, 3) := dk_180 0 25 (dk_at dksX5_become_3 5 rfl rfl)
theorem dX5_become_78 : decode cX5_become 78 = .ok (.iload_n 2, 1) := dk_28 (dk_at dksX5_become_3 8 rfl rfl)
theorem dX5_become_79 : decode cX5_become 79 = .ok (.iaload, 1) := dk_46 (dk_at dksX5_become_3 9 rfl rfl)
theorem dX5_become_80 : decode cX5_become 80 = .ok (.iastore, 1) := dk_79 (dk_at dksX5_become_3 10 rfl rfl)
theorem dX5_become_81 : decode cX5_become 81 = .ok (.aload_n 0, 1) := dk_42 (dk_at dksX5_become_3 11 rfl rfl)
theorem dX5_become_82 : decode cX5_become 82 = .ok (.getfield 28, 3) := dk_180 0 28 (dk_at dksX5_become_3 12 rfl rfl)
theorem dX5_become_85 : decode cX5_become 85 = .ok (.iload_n 2, 1) := dk_28 (dk_at dksX5_become_3 15 rfl rfl)
theorem dX5_become_86 : decode cX5_become 86 = .ok (.aload_n 1, 1) := dk_43 (dk_at dksX5_become_3 16 rfl rfl)
theorem dX5_become_87 : decode cX5_become 87 = .ok (.getfield 28, 3) := dk_180 0 28 (dk_at dksX5_become_3 17 rfl rfl)
theorem dX5_become_90 : decode cX5_become 90 = .ok (.iload_n 2, 1) := dk_28 (dk_at dksX5_become_3 20 rfl rfl)
theorem dX5_become_91 : decode cX5_become 91 = .ok (.iaload, 1) := dk_46 (dk_at dksX5_become_3 21 rfl rfl)
theorem dX5_become_92 : decode cX5_become 92 = .ok (.iastore, 1) := dk_79 (dk_at dksX5_become_3 22 rfl rfl)
theorem dX5_become_93 : decode cX5_become 93 = .ok (.aload_n 0, 1) := dk_42 (dk_at dksX5_become_3 23 rfl rfl)
theorem dX5_become_94 : decode cX5_become 94 = .ok (.getfield 41, 3) := dk_180 0 41 (dk_at dksX5_become_4 0 rfl rfl)
theorem dX5_become_97 : decode cX5_become 97 = .ok (.iload_n 2, 1) := dk_28 (dk_at dksX5_become_4 3 rfl rfl)
theorem dX5_become_98 : decode cX5_become 98 = .ok (.aload_n 1, 1) := dk_43 (dk_at dksX5_become_4 4 rfl rfl)
theorem dX5_become_99 : decode cX5_become 99 = .ok (.getfield 41, 3) := dk_180 0 41 (dk_at dksX5_become_4 5 rfl rfl)
theorem dX5_become_102 : decode cX5_become 102 = .ok (.iload_n 2, 1) := dk_28 (dk_at dksX5_become_4 8 rfl rfl)
theorem dX5_become_103 : decode cX5_become 103 = .ok (.baload, 1) := dk_51 (dk_at dksX5_become_4 9 rfl rfl)
theorem dX5_become_104 : decode cX5_become 104 = .ok (.bastore, 1) := dk_84 (dk_at dksX5_become_4 10 rfl rfl)
theorem dX5_become_105 : decode cX5_become 105 = .ok (.iinc 2 1, 3) := dk_132 2 1 (dk_at dksX5_become_4 11 rfl rfl)
theorem dX5_become_108 : decode cX5_become 108 = .ok (.goto (-44), 3) := dk_167 255 212 (dk_at dksX5_become_4 14 rfl rfl)
theorem dX5_become_111 : decode cX5_become 111 = .ok (.iconst 0, 1) := dk_3 (dk_at dksX5_become_4 17 rfl rfl)
theorem dX5_become_112 : decode cX5_become 112 = .ok (.istore_n 2, 1) := dk_61 (dk_at dksX5_become_4 18 rfl rfl)
theorem dX5_become_113 : decode cX5_become 113 = .ok (.iload_n 2, 1) := dk_28 (dk_at dksX5_become_4 19 rfl rfl)
theorem dX5_become_114 : decode cX5_become 114 = .ok (.iconst 3, 1) := dk_6 (dk_at dksX5_become_4 20 rfl rfl)
theorem dX5_become_115 : decode cX5_become 115 = .ok (.if_icmp .ge 33, 3) := dk_162 0 33 (dk_at dksX5_become_4 21 rfl rfl)
theorem dX5_become_118 : decode cX5_become 118 = .ok (.aload_n 0, 1) := dk_42 (dk_at dksX5_become_5 0 rfl rfl)
theorem dX5_become_119 : decode cX5_become 119 = .ok (.getfield 31, 3) := dk_180 0 31 (dk_at dksX5_become_5 1 rfl rfl)
theorem dX5_become_122 : decode cX5_become 122 = .ok (.iload_n 2, 1) := dk_28 (dk_at dksX5_become_5 4 rfl rfl)
theorem dX5_become_123 : decode cX5_become 123 = .ok (.aload_n 1, 1) := dk_43 (dk_at dksX5_become_5 5 rfl rfl)
theorem dX5_become_124 : decode cX5_become 124 = .ok (.getfield 31, 3) := dk_180 0 31 (dk_at dksX5_become_5 6 rfl rfl)
theorem dX5_become_127 : decode cX5_become 127 = .ok (.iload_n 2, 1) := dk_28 (dk_at dksX5_become_5 9 rfl rfl)
theorem dX5_become_128 : decode cX5_become 128 = .ok (.iaload, 1) := dk_46 (dk_at dksX5_become_5 10 rfl rfl)
theorem dX5_become_129 : decode cX5_become 129 = .ok (.iastore, 1) := dk_79 (dk_at dksX5_become_5 11 rfl rfl)
theorem dX5_become_130 : decode cX5_become 130 = .ok (.aload_n 0, 1) := dk_42 (dk_at dksX5_become_5 12 rfl rfl)
theorem dX5_become_131 : decode cX5_become 131 = .ok (.getfield 34, 3) := dk_180 0 34 (dk_at dksX5_become_5 13 rfl rfl)
theorem dX5_become_134 : decode cX5_become 134 = .ok (.iload_n 2, 1) := dk_28 (dk_at dksX5_become_5 16 rfl rfl)
theorem dX5_become_135 : decode cX5_become 135 = .ok (.aload_n 1, 1) := dk_43 (dk_at dksX5_become_5 17 rfl rfl)
theorem dX5_become_136 : decode cX5_become 136 = .ok (.getfield 34, 3) := dk_180 0 34 (dk_at dksX5_become_5 18 rfl rfl)
theorem dX5_become_139 : decode cX5_become 139 = .ok (.iload_n 2, 1) := dk_28 (dk_at dksX5_become_5 21 rfl rfl)
theorem dX5_become_140 : decode cX5_become 140 = .ok (.iaload, 1) := dk_46 (dk_at dksX5_become_5 22 rfl rfl)
theorem dX5_become_141 : decode cX5_become 141 = .ok (.iastore, 1) := dk_79 (dk_at dksX5_become_5 23 rfl rfl)
theorem dX5_become_142 : decode cX5_become 142 = .ok (.iinc 2 1, 3) := dk_132 2 1 (dk_at dksX5_become_6 0 rfl rfl)
theorem dX5_become_145 : decode cX5_become 145 = .ok (.goto (-32), 3) := dk_167 255 224 (dk_at dksX5_become_6 3 rfl rfl)
theorem dX5_become_148 : decode cX5_become 148 = .ok (.aload_n 0, 1) := dk_42 (dk_at dksX5_become_6 6 rfl rfl)
theorem dX5_become_149 : decode cX5_become 149 = .ok (.aload_n 1, 1) := dk_43 (dk_at dksX5_become_6 7 rfl rfl)
theorem dX5_become_150 : decode cX5_become 150 = .ok (.getfield 87, 3) := dk_180 0 87 (dk_at dksX5_become_6 8 rfl rfl)
theorem dX5_become_153 : decode cX5_become 153 = .ok (.putfield 87, 3) := dk_181 0 87 (dk_at dksX5_become_6 11 rfl rfl)
theorem dX5_become_156 : decode cX5_become 156 = .ok (.aload_n 0, 1) := dk_42 (dk_at dksX5_become_6 14 rfl rfl)
theorem dX5_become_157 : decode cX5_become 157 = .ok (.aload_n 1, 1) := dk_43 (dk_at dksX5_become_6 15 rfl rfl)
theorem dX5_become_158 : decode cX5_become 158 = .ok (.getfield 90, 3) := dk_180 0 90 (dk_at dksX5_become_6 16 rfl rfl)
theorem dX5_become_161 : decode cX5_become 161 = .ok (.putfield 90, 3) := dk_181 0 90 (dk_at dksX5_become_6 19 rfl rfl)
theorem dX5_become_164 : decode cX5_become 164 = .ok (.aload_n 0, 1) := dk_42 (dk_at dksX5_become_6 22 rfl rfl)
theorem dX5_become_165 : decode cX5_become 165 = .ok (.aload_n 1, 1) := dk_43 (dk_at dksX5_become_6 23 rfl rfl)
theorem dX5_become_166 : decode cX5_become 166 = .ok (.getfield 93, 3) := dk_180 0 93 (dk_at dksX5_become_7 0 rfl rfl)
theorem dX5_become_169 : decode cX5_become 169 = .ok (.putfield 93, 3) := dk_181 0 93 (dk_at dksX5_become_7 3 rfl rfl)
theorem dX5_become_172 : decode cX5_become 172 = .ok (.aload_n 0, 1) := dk_42 (dk_at dksX5_become_7 6 rfl rfl)
theorem dX5_become_173 : decode cX5_become 173 = .ok (.aload_n 1, 1) := dk_43 (dk_at dksX5_become_7 7 rfl rfl)
theorem dX5_become_174 : decode cX5_become 174 = .ok (.getfield 96, 3) := dk_180 0 96 (dk_at dksX5_become_7 8 rfl rfl)
theorem dX5_become_177 : decode cX5_become 177 = .ok (.putfield 96, 3) := dk_181 0 96 (dk_at dksX5_become_7 11 rfl rfl)
theorem dX5_become_180 : decode cX5_become 180 = .ok (.aload_n 0, 1) := dk_42 (dk_at dksX5_become_7 14 rfl rfl)
theorem dX5_become_181 : decode cX5_become 181 = .ok (.aload_n 1, 1) := dk_43 (dk_at dksX5_become_7 15 rfl rfl)
theorem dX5_become_182 : decode cX5_become 182 = .ok (.getfield 99, 3) := dk_180 0 99 (dk_at dksX5_become_7 16 rfl rfl)
theorem dX5_become_185 : decode cX5_become 185 = .ok (.putfield 99, 3) := dk_181 0 99 (dk_at dksX5_become_7 19 rfl rfl)
theorem dX5_become_188 : decode cX5_become 188 = .ok (.aload_n 0, 1) := dk_42 (dk_at dksX5_become_7 22 rfl rfl)
theorem dX5_become_189 : decode cX5_become 189 = .ok (.aload_n 1, 1) := dk_43 (dk_at dksX5_become_7 23 rfl rfl)
theorem dX5_become_190 : decode cX5_become 190 = .ok (.getfield 102, 3) := dk_180 0 102 (dk_at dksX5_become_8 0 rfl rfl)
theorem dX5_become_193 : decode cX5_become 193 = .ok (.putfield 102, 3) := dk_181 0 102 (dk_at dksX5_become_8 3 rfl rfl)
theorem dX5_become_196 : decode cX5_become 196 = .ok (.aload_n 0, 1) := dk_42 (dk_at dksX5_become_8 6 rfl rfl)
theorem dX5_become_197 : decode cX5_become 197 = .ok (.aload_n 1, 1) := dk_43 (dk_at dksX5_become_8 7 rfl rfl)
theorem dX5_become_198 : decode cX5_become 198 = .ok (.getfield 44, 3) := dk_180 0 44 (dk_at dksX5_become_8 8 rfl rfl)
theorem dX5_become_201 : decode cX5_become 201 = .ok (.putfield 44, 3) := dk_181 0 44 (dk_at dksX5_become_8 11 rfl rfl)
theorem dX5_become_204 : decode cX5_become 204 = .ok (.aload_n 0, 1) := dk_42 (dk_at dksX5_become_8 14 rfl rfl)
theorem dX5_become_205 : decode cX5_become 205 = .ok (.aload_n 1, 1) := dk_43 (dk_at dksX5_become_8 15 rfl rfl)
theorem dX5_become_206 : decode cX5_become 206 = .ok (.getfield 48, 3) := dk_180 0 48 (dk_at dksX5_become_8 16 rfl rfl)
theorem dX5_become_209 : decode cX5_become 209 = .ok (.putfield 48, 3) := dk_181 0 48 (dk_at dksX5_become_8 19 rfl rfl)
theorem dX5_become_212 : decode cX5_become 212 = .ok (.return_, 1) := dk_177 (dk_at dksX5_become_8 22 rfl rfl)
theorem q99 : (Jvm.Cond.initialized "TideKeep$Shore") ∈ lw_all := lw_g (lw_at lw_m1 12 rfl) rfl
theorem q220 : (Jvm.Cond.fieldLinkNest "TideKeep$Shore" (180 : Nat) "TideKeep$Beach" "columns" "I" "TideKeep") ∈ lw_tbl := lw_at lw_m1 133 rfl
theorem q225 : (Jvm.Cond.fieldLinkNest "TideKeep$Shore" (183 : Nat) "TideKeep$Beach" "rows" "I" "TideKeep") ∈ lw_tbl := lw_at lw_m1 138 rfl
theorem q236 : (Jvm.Cond.fieldLinkNest "TideKeep$Shore" (81 : Nat) "TideKeep$Beach" "flags" "I" "TideKeep") ∈ lw_tbl := lw_at lw_m1 149 rfl
theorem q245 : (Jvm.Cond.fieldLinkNest "TideKeep$Shore" (72 : Nat) "TideKeep$Beach" "heaps" "[I" "TideKeep") ∈ lw_tbl := lw_at lw_m1 158 rfl
theorem q248 : (Jvm.Cond.fieldLinkNest "TideKeep$Shore" (84 : Nat) "TideKeep$Beach" "flagCell" "[I" "TideKeep") ∈ lw_tbl := lw_at lw_m1 161 rfl
theorem q252 : (Jvm.Cond.fieldLinkNest "TideKeep$Shore" (78 : Nat) "TideKeep$Beach" "stones" "[Z" "TideKeep") ∈ lw_tbl := lw_at lw_m1 165 rfl
theorem q314 : (Jvm.Cond.fieldLinkNest "TideKeep$Shore" (198 : Nat) "TideKeep$Sea" "waves" "Ljava/util/ArrayList;" "TideKeep") ∈ lw_tbl := lw_at lw_m1 227 rfl
theorem q318 : (Jvm.Cond.fieldLinkNest "TideKeep$Shore" (221 : Nat) "TideKeep$Sea" "tide" "[I" "TideKeep") ∈ lw_tbl := lw_at lw_m1 231 rfl
theorem q322 : (Jvm.Cond.fieldLinkNest "TideKeep$Shore" (224 : Nat) "TideKeep$Sea" "reach" "[I" "TideKeep") ∈ lw_tbl := lw_at lw_m1 235 rfl
theorem q326 : (Jvm.Cond.fieldLinkNest "TideKeep$Shore" (226 : Nat) "TideKeep$Sea" "level" "[I" "TideKeep") ∈ lw_tbl := lw_at lw_m1 239 rfl
theorem q330 : (Jvm.Cond.fieldLinkNest "TideKeep$Shore" (193 : Nat) "TideKeep$Sea" "cut" "I" "TideKeep") ∈ lw_tbl := lw_at lw_m2 3 rfl
theorem q350 : (Jvm.Cond.instantiable "TideKeep$Shore" (18 : Nat)) ∈ lw_all := lw_g (lw_at lw_m2 23 rfl) rfl
theorem q352 : (Jvm.Cond.instanceMethod ({ cls := "TideKeep$Shore", name := "<init>", desc := "(LTideKeep;)V" } : Jvm.MethodName)) ∈ lw_all := lw_g (lw_at lw_m2 25 rfl) rfl
theorem q353 : (Jvm.Cond.code ({ cls := "TideKeep$Shore", name := "<init>", desc := "(LTideKeep;)V" } : Jvm.MethodName) prog_11_method_1_code (2 : Nat) (Option.none : Option Jvm.ClassFile.FieldType)) ∈ lw_all := lw_g (lw_at lw_m2 26 rfl) rfl
theorem q354 : (Jvm.Cond.methodLink "TideKeep$Shore" (9 : Nat) ({ cls := "java/lang/Object", name := "<init>", desc := "()V" } : Jvm.MethodName)) ∈ lw_all := lw_g (lw_at lw_m2 27 rfl) rfl
theorem q355 : (Jvm.Cond.fieldLink "TideKeep$Shore" (15 : Nat) "TideKeep$Shore" "height" "[I") ∈ lw_all := lw_g (lw_at lw_m2 28 rfl) rfl
theorem q357 : (Jvm.Cond.fieldLink "TideKeep$Shore" (19 : Nat) "TideKeep$Shore" "wet" "[I") ∈ lw_all := lw_g (lw_at lw_m2 30 rfl) rfl
theorem q359 : (Jvm.Cond.fieldLink "TideKeep$Shore" (22 : Nat) "TideKeep$Shore" "pack" "[I") ∈ lw_all := lw_g (lw_at lw_m2 32 rfl) rfl
theorem q361 : (Jvm.Cond.fieldLink "TideKeep$Shore" (25 : Nat) "TideKeep$Shore" "nextAct" "[I") ∈ lw_all := lw_g (lw_at lw_m2 34 rfl) rfl
theorem q362 : (Jvm.Cond.fieldLink "TideKeep$Shore" (28 : Nat) "TideKeep$Shore" "done" "[I") ∈ lw_all := lw_g (lw_at lw_m2 35 rfl) rfl
theorem q363 : (Jvm.Cond.fieldLink "TideKeep$Shore" (31 : Nat) "TideKeep$Shore" "putUp" "[I") ∈ lw_all := lw_g (lw_at lw_m2 36 rfl) rfl
theorem q365 : (Jvm.Cond.fieldLink "TideKeep$Shore" (34 : Nat) "TideKeep$Shore" "fell" "[I") ∈ lw_all := lw_g (lw_at lw_m2 38 rfl) rfl
theorem q367 : (Jvm.Cond.fieldLink "TideKeep$Shore" (37 : Nat) "TideKeep$Shore" "stone" "[Z") ∈ lw_all := lw_g (lw_at lw_m2 40 rfl) rfl
theorem q369 : (Jvm.Cond.fieldLink "TideKeep$Shore" (41 : Nat) "TideKeep$Shore" "isResting" "[Z") ∈ lw_all := lw_g (lw_at lw_m2 42 rfl) rfl
theorem q370 : (Jvm.Cond.fieldLink "TideKeep$Shore" (87 : Nat) "TideKeep$Shore" "minute" "I") ∈ lw_all := lw_g (lw_at lw_m2 43 rfl) rfl
theorem q372 : (Jvm.Cond.fieldLink "TideKeep$Shore" (90 : Nat) "TideKeep$Shore" "lost" "I") ∈ lw_all := lw_g (lw_at lw_m2 45 rfl) rfl
theorem q374 : (Jvm.Cond.fieldLink "TideKeep$Shore" (93 : Nat) "TideKeep$Shore" "slid" "I") ∈ lw_all := lw_g (lw_at lw_m2 47 rfl) rfl
theorem q376 : (Jvm.Cond.fieldLink "TideKeep$Shore" (96 : Nat) "TideKeep$Shore" "slidNow" "I") ∈ lw_all := lw_g (lw_at lw_m2 49 rfl) rfl
theorem q378 : (Jvm.Cond.fieldLink "TideKeep$Shore" (99 : Nat) "TideKeep$Shore" "rounds" "I") ∈ lw_all := lw_g (lw_at lw_m2 51 rfl) rfl
theorem q380 : (Jvm.Cond.fieldLink "TideKeep$Shore" (102 : Nat) "TideKeep$Shore" "came" "I") ∈ lw_all := lw_g (lw_at lw_m2 53 rfl) rfl
theorem q382 : (Jvm.Cond.fieldLink "TideKeep$Shore" (44 : Nat) "TideKeep$Shore" "plan" "I") ∈ lw_all := lw_g (lw_at lw_m2 55 rfl) rfl
theorem q384 : (Jvm.Cond.fieldLink "TideKeep$Shore" (48 : Nat) "TideKeep$Shore" "chance" "J") ∈ lw_all := lw_g (lw_at lw_m2 57 rfl) rfl
theorem q386 : (Jvm.Cond.fieldLink "TideKeep$Shore" (3 : Nat) "TideKeep$Shore" "this$0" "LTideKeep;") ∈ lw_all := lw_g (lw_at lw_m2 59 rfl) rfl
theorem q387 : (Jvm.Cond.laysFinal "TideKeep$Shore" "TideKeep$Shore" "height" "[I") ∈ lw_all := lw_g (lw_at lw_m2 60 rfl) rfl
theorem q388 : (Jvm.Cond.soleField "TideKeep$Shore" "height") ∈ lw_all := lw_g (lw_at lw_m2 61 rfl) rfl
theorem q389 : (Jvm.Cond.laysFinal "TideKeep$Shore" "TideKeep$Shore" "wet" "[I") ∈ lw_all := lw_g (lw_at lw_m2 62 rfl) rfl
theorem q390 : (Jvm.Cond.soleField "TideKeep$Shore" "wet") ∈ lw_all := lw_g (lw_at lw_m2 63 rfl) rfl
theorem q391 : (Jvm.Cond.laysFinal "TideKeep$Shore" "TideKeep$Shore" "pack" "[I") ∈ lw_all := lw_g (lw_at lw_m2 64 rfl) rfl
theorem q392 : (Jvm.Cond.soleField "TideKeep$Shore" "pack") ∈ lw_all := lw_g (lw_at lw_m2 65 rfl) rfl
theorem q393 : (Jvm.Cond.laysFinal "TideKeep$Shore" "TideKeep$Shore" "nextAct" "[I") ∈ lw_all := lw_g (lw_at lw_m2 66 rfl) rfl
theorem q394 : (Jvm.Cond.soleField "TideKeep$Shore" "nextAct") ∈ lw_all := lw_g (lw_at lw_m2 67 rfl) rfl
theorem q395 : (Jvm.Cond.laysFinal "TideKeep$Shore" "TideKeep$Shore" "done" "[I") ∈ lw_all := lw_g (lw_at lw_m2 68 rfl) rfl
theorem q396 : (Jvm.Cond.soleField "TideKeep$Shore" "done") ∈ lw_all := lw_g (lw_at lw_m2 69 rfl) rfl
theorem q397 : (Jvm.Cond.laysFinal "TideKeep$Shore" "TideKeep$Shore" "putUp" "[I") ∈ lw_all := lw_g (lw_at lw_m2 70 rfl) rfl
theorem q398 : (Jvm.Cond.soleField "TideKeep$Shore" "putUp") ∈ lw_all := lw_g (lw_at lw_m2 71 rfl) rfl
theorem q399 : (Jvm.Cond.laysFinal "TideKeep$Shore" "TideKeep$Shore" "fell" "[I") ∈ lw_all := lw_g (lw_at lw_m2 72 rfl) rfl
theorem q400 : (Jvm.Cond.soleField "TideKeep$Shore" "fell") ∈ lw_all := lw_g (lw_at lw_m2 73 rfl) rfl
theorem q401 : (Jvm.Cond.laysFinal "TideKeep$Shore" "TideKeep$Shore" "stone" "[Z") ∈ lw_all := lw_g (lw_at lw_m2 74 rfl) rfl
theorem q402 : (Jvm.Cond.soleField "TideKeep$Shore" "stone") ∈ lw_all := lw_g (lw_at lw_m2 75 rfl) rfl
theorem q403 : (Jvm.Cond.laysFinal "TideKeep$Shore" "TideKeep$Shore" "isResting" "[Z") ∈ lw_all := lw_g (lw_at lw_m2 76 rfl) rfl
theorem q404 : (Jvm.Cond.soleField "TideKeep$Shore" "isResting") ∈ lw_all := lw_g (lw_at lw_m2 77 rfl) rfl
theorem q405 : (Jvm.Cond.lays "TideKeep$Shore" "TideKeep$Shore" "minute" "I") ∈ lw_all := lw_g (lw_at lw_m2 78 rfl) rfl
theorem q406 : (Jvm.Cond.soleField "TideKeep$Shore" "minute") ∈ lw_all := lw_g (lw_at lw_m2 79 rfl) rfl
theorem q407 : (Jvm.Cond.lays "TideKeep$Shore" "TideKeep$Shore" "lost" "I") ∈ lw_all := lw_g (lw_at lw_m2 80 rfl) rfl
theorem q408 : (Jvm.Cond.soleField "TideKeep$Shore" "lost") ∈ lw_all := lw_g (lw_at lw_m2 81 rfl) rfl
theorem q409 : (Jvm.Cond.lays "TideKeep$Shore" "TideKeep$Shore" "slid" "I") ∈ lw_all := lw_g (lw_at lw_m2 82 rfl) rfl
theorem q410 : (Jvm.Cond.soleField "TideKeep$Shore" "slid") ∈ lw_all := lw_g (lw_at lw_m2 83 rfl) rfl
theorem q411 : (Jvm.Cond.lays "TideKeep$Shore" "TideKeep$Shore" "slidNow" "I") ∈ lw_all := lw_g (lw_at lw_m2 84 rfl) rfl
theorem q412 : (Jvm.Cond.soleField "TideKeep$Shore" "slidNow") ∈ lw_all := lw_g (lw_at lw_m2 85 rfl) rfl
theorem q413 : (Jvm.Cond.lays "TideKeep$Shore" "TideKeep$Shore" "rounds" "I") ∈ lw_all := lw_g (lw_at lw_m2 86 rfl) rfl
theorem q414 : (Jvm.Cond.soleField "TideKeep$Shore" "rounds") ∈ lw_all := lw_g (lw_at lw_m2 87 rfl) rfl
theorem q415 : (Jvm.Cond.lays "TideKeep$Shore" "TideKeep$Shore" "came" "I") ∈ lw_all := lw_g (lw_at lw_m2 88 rfl) rfl
theorem q416 : (Jvm.Cond.soleField "TideKeep$Shore" "came") ∈ lw_all := lw_g (lw_at lw_m2 89 rfl) rfl
theorem q417 : (Jvm.Cond.lays "TideKeep$Shore" "TideKeep$Shore" "plan" "I") ∈ lw_all := lw_g (lw_at lw_m2 90 rfl) rfl
theorem q418 : (Jvm.Cond.soleField "TideKeep$Shore" "plan") ∈ lw_all := lw_g (lw_at lw_m2 91 rfl) rfl
theorem q419 : (Jvm.Cond.lays "TideKeep$Shore" "TideKeep$Shore" "chance" "J") ∈ lw_all := lw_g (lw_at lw_m2 92 rfl) rfl
theorem q420 : (Jvm.Cond.soleField "TideKeep$Shore" "chance") ∈ lw_all := lw_g (lw_at lw_m2 93 rfl) rfl
theorem q421 : (Jvm.Cond.laysFinal "TideKeep$Shore" "TideKeep$Shore" "this$0" "LTideKeep;") ∈ lw_all := lw_g (lw_at lw_m2 94 rfl) rfl
theorem q422 : (Jvm.Cond.soleField "TideKeep$Shore" "this$0") ∈ lw_all := lw_g (lw_at lw_m2 95 rfl) rfl
theorem q423 : (Jvm.Cond.superclass "TideKeep$Shore" "java/lang/Object") ∈ lw_all := lw_g (lw_at lw_m2 96 rfl) rfl
theorem q426 : (Jvm.Cond.instanceMethod ({ cls := "TideKeep$Shore", name := "begin", desc := "()V" } : Jvm.MethodName)) ∈ lw_all := lw_g (lw_at lw_m2 99 rfl) rfl
theorem q427 : (Jvm.Cond.selects "TideKeep$Shore" ({ cls := "TideKeep$Shore", name := "begin", desc := "()V" } : Jvm.MethodName) ({ cls := "TideKeep$Shore", name := "begin", desc := "()V" } : Jvm.MethodName)) ∈ lw_all := lw_g (lw_at lw_m2 100 rfl) rfl
theorem q428 : (Jvm.Cond.code ({ cls := "TideKeep$Shore", name := "begin", desc := "()V" } : Jvm.MethodName) prog_11_method_2_code (2 : Nat) (Option.none : Option Jvm.ClassFile.FieldType)) ∈ lw_all := lw_g (lw_at lw_m2 101 rfl) rfl
theorem q429 : (Jvm.Cond.methodLink "TideKeep$Shore" (56 : Nat) ({ cls := "TideKeep$Beach", name := "cells", desc := "()I" } : Jvm.MethodName)) ∈ lw_all := lw_g (lw_at lw_m2 102 rfl) rfl
theorem q433 : (Jvm.Cond.fieldLink "TideKeep$Shore" (62 : Nat) "TideKeep$Told" "SAND" "LTideKeep$Told;") ∈ lw_all := lw_g (lw_at lw_m2 106 rfl) rfl
theorem q434 : (Jvm.Cond.methodLink "TideKeep$Shore" (68 : Nat) ({ cls := "TideKeep$Beach", name := "of", desc := "(LTideKeep$Told;)I" } : Jvm.MethodName)) ∈ lw_all := lw_g (lw_at lw_m2 107 rfl) rfl
theorem q438 : (Jvm.Cond.fieldLink "TideKeep$Shore" (75 : Nat) "TideKeep$Told" "DAMP" "LTideKeep$Told;") ∈ lw_all := lw_g (lw_at lw_m2 111 rfl) rfl
theorem q439 : (Jvm.Cond.methodLink "TideKeep$Shore" (105 : Nat) ({ cls := "TideKeep$Shore", name := "hold", desc := "(I)V" } : Jvm.MethodName)) ∈ lw_all := lw_g (lw_at lw_m2 112 rfl) rfl
theorem q440 : (Jvm.Cond.instanceMethod ({ cls := "TideKeep$Shore", name := "hold", desc := "(I)V" } : Jvm.MethodName)) ∈ lw_all := lw_g (lw_at lw_m2 113 rfl) rfl
theorem q441 : (Jvm.Cond.selects "TideKeep$Shore" ({ cls := "TideKeep$Shore", name := "hold", desc := "(I)V" } : Jvm.MethodName) ({ cls := "TideKeep$Shore", name := "hold", desc := "(I)V" } : Jvm.MethodName)) ∈ lw_all := lw_g (lw_at lw_m2 114 rfl) rfl
theorem q442 : (Jvm.Cond.code ({ cls := "TideKeep$Shore", name := "hold", desc := "(I)V" } : Jvm.MethodName) prog_11_method_4_code (2 : Nat) (Option.none : Option Jvm.ClassFile.FieldType)) ∈ lw_all := lw_g (lw_at lw_m2 115 rfl) rfl
theorem q443 : (Jvm.Cond.methodLink "TideKeep$Shore" (109 : Nat) ({ cls := "java/util/Arrays", name := "fill", desc := "([II)V" } : Jvm.MethodName)) ∈ lw_all := lw_g (lw_at lw_m2 116 rfl) rfl
theorem q446 : (Jvm.Cond.methodLink "TideKeep$Shore" (115 : Nat) ({ cls := "java/util/Arrays", name := "fill", desc := "([ZZ)V" } : Jvm.MethodName)) ∈ lw_all := lw_g (lw_at lw_m2 119 rfl) rfl
theorem q456 : (Jvm.Cond.fieldLinkNest "TideKeep$Shore" (52 : Nat) "TideKeep" "beach" "LTideKeep$Beach;" "TideKeep") ∈ lw_tbl := lw_at lw_m2 129 rfl
theorem q460 : (Jvm.Cond.fieldLinkNest "TideKeep$Shore" (189 : Nat) "TideKeep" "sea" "LTideKeep$Sea;" "TideKeep") ∈ lw_tbl := lw_at lw_m2 133 rfl
theorem q462 : (Jvm.Cond.fieldLinkNest "TideKeep$Shore" (139 : Nat) "TideKeep" "plans" "Ljava/util/ArrayList;" "TideKeep") ∈ lw_tbl := lw_at lw_m2 135 rfl
theorem q785 : (Jvm.Cond.fieldLinkNest "TideKeep$Shore" (162 : Nat) "TideKeep$Hand" "acts" "Ljava/util/ArrayList;" "TideKeep") ∈ lw_tbl := lw_at lw_m3 218 rfl
theorem q811 : (Jvm.Cond.fieldLinkNest "TideKeep$Shore" (167 : Nat) "TideKeep$Act" "kind" "I" "TideKeep") ∈ lw_tbl := lw_at lw_m4 4 rfl
theorem q814 : (Jvm.Cond.fieldLinkNest "TideKeep$Shore" (170 : Nat) "TideKeep$Act" "cell" "I" "TideKeep") ∈ lw_tbl := lw_at lw_m4 7 rfl
theorem q817 : (Jvm.Cond.fieldLinkNest "TideKeep$Shore" (173 : Nat) "TideKeep$Act" "to" "I" "TideKeep") ∈ lw_tbl := lw_at lw_m4 10 rfl
theorem q867 : (Jvm.Cond.selects "TideKeep$Shore" ({ cls := "java/lang/Object", name := "getClass", desc := "()Ljava/lang/Class;" } : Jvm.MethodName) ({ cls := "java/lang/Object", name := "getClass", desc := "()Ljava/lang/Class;" } : Jvm.MethodName)) ∈ lw_all := lw_g (lw_at lw_m4 60 rfl) rfl
theorem q918 : (Jvm.Cond.fieldLinkNest "TideKeep$Shore" (203 : Nat) "TideKeep$Wave" "minute" "I" "TideKeep") ∈ lw_tbl := lw_at lw_m4 111 rfl
theorem q921 : (Jvm.Cond.fieldLinkNest "TideKeep$Shore" (204 : Nat) "TideKeep$Wave" "reach" "I" "TideKeep") ∈ lw_tbl := lw_at lw_m4 114 rfl
theorem q924 : (Jvm.Cond.fieldLinkNest "TideKeep$Shore" (207 : Nat) "TideKeep$Wave" "level" "I" "TideKeep") ∈ lw_tbl := lw_at lw_m4 117 rfl
theorem q1003 : (Jvm.Cond.fieldLinkNest "TideKeep$Shore" (151 : Nat) "TideKeep$Plan" "hands" "Ljava/util/ArrayList;" "TideKeep") ∈ lw_tbl := lw_at lw_m4 196 rfl
theorem q1081 : (Jvm.Cond.instanceMethod ({ cls := "TideKeep$Shore", name := "minute", desc := "()V" } : Jvm.MethodName)) ∈ lw_all := lw_g (lw_at lw_m5 34 rfl) rfl
theorem q1082 : (Jvm.Cond.selects "TideKeep$Shore" ({ cls := "TideKeep$Shore", name := "minute", desc := "()V" } : Jvm.MethodName) ({ cls := "TideKeep$Shore", name := "minute", desc := "()V" } : Jvm.MethodName)) ∈ lw_all := lw_g (lw_at lw_m5 35 rfl) rfl
theorem q1083 : (Jvm.Cond.code ({ cls := "TideKeep$Shore", name := "minute", desc := "()V" } : Jvm.MethodName) prog_11_method_19_code (1 : Nat) (Option.none : Option Jvm.ClassFile.FieldType)) ∈ lw_all := lw_g (lw_at lw_m5 36 rfl) rfl
theorem q1084 : (Jvm.Cond.methodLink "TideKeep$Shore" (256 : Nat) ({ cls := "TideKeep$Shore", name := "work", desc := "()V" } : Jvm.MethodName)) ∈ lw_all := lw_g (lw_at lw_m5 37 rfl) rfl
theorem q1085 : (Jvm.Cond.privateMethod ({ cls := "TideKeep$Shore", name := "work", desc := "()V" } : Jvm.MethodName)) ∈ lw_tbl := lw_at lw_m5 38 rfl
theorem q1086 : (Jvm.Cond.instanceMethod ({ cls := "TideKeep$Shore", name := "work", desc := "()V" } : Jvm.MethodName)) ∈ lw_all := lw_g (lw_at lw_m5 39 rfl) rfl
theorem q1087 : (Jvm.Cond.code ({ cls := "TideKeep$Shore", name := "work", desc := "()V" } : Jvm.MethodName) prog_11_method_9_code (6 : Nat) (Option.none : Option Jvm.ClassFile.FieldType)) ∈ lw_all := lw_g (lw_at lw_m5 40 rfl) rfl
theorem q1088 : (Jvm.Cond.methodLink "TideKeep$Shore" (143 : Nat) ({ cls := "java/util/ArrayList", name := "get", desc := "(I)Ljava/lang/Object;" } : Jvm.MethodName)) ∈ lw_all := lw_g (lw_at lw_m5 41 rfl) rfl
theorem q1089 : (Jvm.Cond.classLink "TideKeep$Shore" (149 : Nat) "TideKeep$Plan") ∈ lw_all := lw_g (lw_at lw_m5 42 rfl) rfl
theorem q1090 : (Jvm.Cond.fieldLink "TideKeep$Shore" (154 : Nat) "TideKeep$Told" "TIRE" "LTideKeep$Told;") ∈ lw_all := lw_g (lw_at lw_m5 43 rfl) rfl
theorem q1091 : (Jvm.Cond.methodLink "TideKeep$Shore" (157 : Nat) ({ cls := "java/util/ArrayList", name := "size", desc := "()I" } : Jvm.MethodName)) ∈ lw_all := lw_g (lw_at lw_m5 44 rfl) rfl
theorem q1092 : (Jvm.Cond.classLink "TideKeep$Shore" (160 : Nat) "TideKeep$Hand") ∈ lw_all := lw_g (lw_at lw_m5 45 rfl) rfl
theorem q1093 : (Jvm.Cond.classLink "TideKeep$Shore" (165 : Nat) "TideKeep$Act") ∈ lw_all := lw_g (lw_at lw_m5 46 rfl) rfl
theorem q1094 : (Jvm.Cond.methodLink "TideKeep$Shore" (176 : Nat) ({ cls := "TideKeep$Shore", name := "act", desc := "(III)V" } : Jvm.MethodName)) ∈ lw_all := lw_g (lw_at lw_m5 47 rfl) rfl
theorem q1095 : (Jvm.Cond.instanceMethod ({ cls := "TideKeep$Shore", name := "act", desc := "(III)V" } : Jvm.MethodName)) ∈ lw_all := lw_g (lw_at lw_m5 48 rfl) rfl
theorem q1096 : (Jvm.Cond.selects "TideKeep$Shore" ({ cls := "TideKeep$Shore", name := "act", desc := "(III)V" } : Jvm.MethodName) ({ cls := "TideKeep$Shore", name := "act", desc := "(III)V" } : Jvm.MethodName)) ∈ lw_all := lw_g (lw_at lw_m5 49 rfl) rfl
theorem q1097 : (Jvm.Cond.code ({ cls := "TideKeep$Shore", name := "act", desc := "(III)V" } : Jvm.MethodName) prog_11_method_8_code (4 : Nat) (Option.none : Option Jvm.ClassFile.FieldType)) ∈ lw_all := lw_g (lw_at lw_m5 50 rfl) rfl
theorem q1098 : (Jvm.Cond.methodLink "TideKeep$Shore" (130 : Nat) ({ cls := "TideKeep$Shore", name := "go", desc := "(II)V" } : Jvm.MethodName)) ∈ lw_all := lw_g (lw_at lw_m5 51 rfl) rfl
theorem q1099 : (Jvm.Cond.privateMethod ({ cls := "TideKeep$Shore", name := "go", desc := "(II)V" } : Jvm.MethodName)) ∈ lw_tbl := lw_at lw_m5 52 rfl
theorem q1100 : (Jvm.Cond.instanceMethod ({ cls := "TideKeep$Shore", name := "go", desc := "(II)V" } : Jvm.MethodName)) ∈ lw_all := lw_g (lw_at lw_m5 53 rfl) rfl
theorem q1101 : (Jvm.Cond.code ({ cls := "TideKeep$Shore", name := "go", desc := "(II)V" } : Jvm.MethodName) prog_11_method_7_code (3 : Nat) (Option.none : Option Jvm.ClassFile.FieldType)) ∈ lw_all := lw_g (lw_at lw_m5 54 rfl) rfl
theorem q1102 : (Jvm.Cond.methodLink "TideKeep$Shore" (134 : Nat) ({ cls := "java/lang/Math", name := "min", desc := "(II)I" } : Jvm.MethodName)) ∈ lw_all := lw_g (lw_at lw_m5 55 rfl) rfl
theorem q1103 : (Jvm.Cond.methodLink "TideKeep$Shore" (259 : Nat) ({ cls := "TideKeep$Shore", name := "comeOn", desc := "()V" } : Jvm.MethodName)) ∈ lw_all := lw_g (lw_at lw_m5 56 rfl) rfl
theorem q1104 : (Jvm.Cond.instanceMethod ({ cls := "TideKeep$Shore", name := "comeOn", desc := "()V" } : Jvm.MethodName)) ∈ lw_all := lw_g (lw_at lw_m5 57 rfl) rfl
theorem q1105 : (Jvm.Cond.selects "TideKeep$Shore" ({ cls := "TideKeep$Shore", name := "comeOn", desc := "()V" } : Jvm.MethodName) ({ cls := "TideKeep$Shore", name := "comeOn", desc := "()V" } : Jvm.MethodName)) ∈ lw_all := lw_g (lw_at lw_m5 58 rfl) rfl
theorem q1106 : (Jvm.Cond.code ({ cls := "TideKeep$Shore", name := "comeOn", desc := "()V" } : Jvm.MethodName) prog_11_method_18_code (1 : Nat) (Option.none : Option Jvm.ClassFile.FieldType)) ∈ lw_all := lw_g (lw_at lw_m5 59 rfl) rfl
theorem q1107 : (Jvm.Cond.methodLink "TideKeep$Shore" (245 : Nat) ({ cls := "TideKeep$Shore", name := "waves", desc := "()V" } : Jvm.MethodName)) ∈ lw_all := lw_g (lw_at lw_m5 60 rfl) rfl
theorem q1108 : (Jvm.Cond.privateMethod ({ cls := "TideKeep$Shore", name := "waves", desc := "()V" } : Jvm.MethodName)) ∈ lw_tbl := lw_at lw_m5 61 rfl
theorem q1109 : (Jvm.Cond.instanceMethod ({ cls := "TideKeep$Shore", name := "waves", desc := "()V" } : Jvm.MethodName)) ∈ lw_all := lw_g (lw_at lw_m5 62 rfl) rfl
theorem q1110 : (Jvm.Cond.code ({ cls := "TideKeep$Shore", name := "waves", desc := "()V" } : Jvm.MethodName) prog_11_method_12_code (3 : Nat) (Option.none : Option Jvm.ClassFile.FieldType)) ∈ lw_all := lw_g (lw_at lw_m5 63 rfl) rfl
theorem q1111 : (Jvm.Cond.classLink "TideKeep$Shore" (201 : Nat) "TideKeep$Wave") ∈ lw_all := lw_g (lw_at lw_m5 64 rfl) rfl
theorem q1112 : (Jvm.Cond.methodLink "TideKeep$Shore" (210 : Nat) ({ cls := "TideKeep$Shore", name := "wave", desc := "(II)V" } : Jvm.MethodName)) ∈ lw_all := lw_g (lw_at lw_m5 65 rfl) rfl
theorem q1113 : (Jvm.Cond.instanceMethod ({ cls := "TideKeep$Shore", name := "wave", desc := "(II)V" } : Jvm.MethodName)) ∈ lw_all := lw_g (lw_at lw_m5 66 rfl) rfl
theorem q1114 : (Jvm.Cond.selects "TideKeep$Shore" ({ cls := "TideKeep$Shore", name := "wave", desc := "(II)V" } : Jvm.MethodName) ({ cls := "TideKeep$Shore", name := "wave", desc := "(II)V" } : Jvm.MethodName)) ∈ lw_all := lw_g (lw_at lw_m5 67 rfl) rfl
theorem q1115 : (Jvm.Cond.code ({ cls := "TideKeep$Shore", name := "wave", desc := "(II)V" } : Jvm.MethodName) prog_11_method_10_code (4 : Nat) (Option.none : Option Jvm.ClassFile.FieldType)) ∈ lw_all := lw_g (lw_at lw_m5 68 rfl) rfl
theorem q1116 : (Jvm.Cond.methodLink "TideKeep$Shore" (186 : Nat) ({ cls := "TideKeep$Shore", name := "run", desc := "(III)V" } : Jvm.MethodName)) ∈ lw_all := lw_g (lw_at lw_m5 69 rfl) rfl
theorem q1117 : (Jvm.Cond.privateMethod ({ cls := "TideKeep$Shore", name := "run", desc := "(III)V" } : Jvm.MethodName)) ∈ lw_tbl := lw_at lw_m5 70 rfl
theorem q1118 : (Jvm.Cond.instanceMethod ({ cls := "TideKeep$Shore", name := "run", desc := "(III)V" } : Jvm.MethodName)) ∈ lw_all := lw_g (lw_at lw_m5 71 rfl) rfl
theorem q1119 : (Jvm.Cond.code ({ cls := "TideKeep$Shore", name := "run", desc := "(III)V" } : Jvm.MethodName) prog_11_method_11_code (7 : Nat) (Option.none : Option Jvm.ClassFile.FieldType)) ∈ lw_all := lw_g (lw_at lw_m5 72 rfl) rfl
theorem q1120 : (Jvm.Cond.methodLink "TideKeep$Shore" (213 : Nat) ({ cls := "TideKeep$Sea", name := "isDue", desc := "(I)Z" } : Jvm.MethodName)) ∈ lw_all := lw_g (lw_at lw_m5 73 rfl) rfl
theorem q1125 : (Jvm.Cond.methodLink "TideKeep$Shore" (217 : Nat) ({ cls := "TideKeep$Shore", name := "draw", desc := "(I)I" } : Jvm.MethodName)) ∈ lw_all := lw_g (lw_at lw_m5 78 rfl) rfl
theorem q1126 : (Jvm.Cond.privateMethod ({ cls := "TideKeep$Shore", name := "draw", desc := "(I)I" } : Jvm.MethodName)) ∈ lw_tbl := lw_at lw_m5 79 rfl
theorem q1127 : (Jvm.Cond.instanceMethod ({ cls := "TideKeep$Shore", name := "draw", desc := "(I)I" } : Jvm.MethodName)) ∈ lw_all := lw_g (lw_at lw_m5 80 rfl) rfl
theorem q1128 : (Jvm.Cond.code ({ cls := "TideKeep$Shore", name := "draw", desc := "(I)I" } : Jvm.MethodName) prog_11_method_5_code (2 : Nat) (Option.some Jvm.ClassFile.FieldType.int)) ∈ lw_all := lw_g (lw_at lw_m5 81 rfl) rfl
theorem q1129 : (Jvm.Cond.constantLong "TideKeep$Shore" (118 : Nat) (1103515245 : Int64)) ∈ lw_all := lw_g (lw_at lw_m5 82 rfl) rfl
theorem q1130 : (Jvm.Cond.constantLong "TideKeep$Shore" (120 : Nat) (12345 : Int64)) ∈ lw_all := lw_g (lw_at lw_m5 83 rfl) rfl
theorem q1131 : (Jvm.Cond.constantLong "TideKeep$Shore" (122 : Nat) (2147483648 : Int64)) ∈ lw_all := lw_g (lw_at lw_m5 84 rfl) rfl
theorem q1132 : (Jvm.Cond.constantLong "TideKeep$Shore" (124 : Nat) (65536 : Int64)) ∈ lw_all := lw_g (lw_at lw_m5 85 rfl) rfl
theorem q1133 : (Jvm.Cond.methodLink "TideKeep$Shore" (247 : Nat) ({ cls := "TideKeep$Shore", name := "sun", desc := "()V" } : Jvm.MethodName)) ∈ lw_all := lw_g (lw_at lw_m5 86 rfl) rfl
theorem q1134 : (Jvm.Cond.privateMethod ({ cls := "TideKeep$Shore", name := "sun", desc := "()V" } : Jvm.MethodName)) ∈ lw_tbl := lw_at lw_m5 87 rfl
theorem q1135 : (Jvm.Cond.instanceMethod ({ cls := "TideKeep$Shore", name := "sun", desc := "()V" } : Jvm.MethodName)) ∈ lw_all := lw_g (lw_at lw_m5 88 rfl) rfl
theorem q1136 : (Jvm.Cond.code ({ cls := "TideKeep$Shore", name := "sun", desc := "()V" } : Jvm.MethodName) prog_11_method_13_code (2 : Nat) (Option.none : Option Jvm.ClassFile.FieldType)) ∈ lw_all := lw_g (lw_at lw_m5 89 rfl) rfl
theorem q1137 : (Jvm.Cond.fieldLink "TideKeep$Shore" (228 : Nat) "TideKeep$Told" "DRY" "LTideKeep$Told;") ∈ lw_all := lw_g (lw_at lw_m5 90 rfl) rfl
theorem q1138 : (Jvm.Cond.methodLink "TideKeep$Shore" (231 : Nat) ({ cls := "java/lang/Math", name := "max", desc := "(II)I" } : Jvm.MethodName)) ∈ lw_all := lw_g (lw_at lw_m5 91 rfl) rfl
theorem q1139 : (Jvm.Cond.methodLink "TideKeep$Shore" (250 : Nat) ({ cls := "TideKeep$Shore", name := "slides", desc := "()V" } : Jvm.MethodName)) ∈ lw_all := lw_g (lw_at lw_m5 92 rfl) rfl
theorem q1140 : (Jvm.Cond.instanceMethod ({ cls := "TideKeep$Shore", name := "slides", desc := "()V" } : Jvm.MethodName)) ∈ lw_all := lw_g (lw_at lw_m5 93 rfl) rfl
theorem q1141 : (Jvm.Cond.selects "TideKeep$Shore" ({ cls := "TideKeep$Shore", name := "slides", desc := "()V" } : Jvm.MethodName) ({ cls := "TideKeep$Shore", name := "slides", desc := "()V" } : Jvm.MethodName)) ∈ lw_all := lw_g (lw_at lw_m5 94 rfl) rfl
theorem q1142 : (Jvm.Cond.code ({ cls := "TideKeep$Shore", name := "slides", desc := "()V" } : Jvm.MethodName) prog_11_method_16_code (5 : Nat) (Option.none : Option Jvm.ClassFile.FieldType)) ∈ lw_all := lw_g (lw_at lw_m5 95 rfl) rfl
theorem q1143 : (Jvm.Cond.methodLink "TideKeep$Shore" (237 : Nat) ({ cls := "TideKeep$Shore", name := "lowest", desc := "(I)I" } : Jvm.MethodName)) ∈ lw_all := lw_g (lw_at lw_m5 96 rfl) rfl
theorem q1144 : (Jvm.Cond.privateMethod ({ cls := "TideKeep$Shore", name := "lowest", desc := "(I)I" } : Jvm.MethodName)) ∈ lw_tbl := lw_at lw_m5 97 rfl
theorem q1145 : (Jvm.Cond.instanceMethod ({ cls := "TideKeep$Shore", name := "lowest", desc := "(I)I" } : Jvm.MethodName)) ∈ lw_all := lw_g (lw_at lw_m5 98 rfl) rfl
theorem q1146 : (Jvm.Cond.code ({ cls := "TideKeep$Shore", name := "lowest", desc := "(I)I" } : Jvm.MethodName) prog_11_method_14_code (4 : Nat) (Option.some Jvm.ClassFile.FieldType.int)) ∈ lw_all := lw_g (lw_at lw_m5 99 rfl) rfl
theorem q1147 : (Jvm.Cond.methodLink "TideKeep$Shore" (234 : Nat) ({ cls := "TideKeep$Shore", name := "lower", desc := "(II)I" } : Jvm.MethodName)) ∈ lw_all := lw_g (lw_at lw_m5 100 rfl) rfl
theorem q1148 : (Jvm.Cond.privateMethod ({ cls := "TideKeep$Shore", name := "lower", desc := "(II)I" } : Jvm.MethodName)) ∈ lw_tbl := lw_at lw_m5 101 rfl
theorem q1149 : (Jvm.Cond.instanceMethod ({ cls := "TideKeep$Shore", name := "lower", desc := "(II)I" } : Jvm.MethodName)) ∈ lw_all := lw_g (lw_at lw_m5 102 rfl) rfl
theorem q1150 : (Jvm.Cond.code ({ cls := "TideKeep$Shore", name := "lower", desc := "(II)I" } : Jvm.MethodName) prog_11_method_15_code (3 : Nat) (Option.some Jvm.ClassFile.FieldType.int)) ∈ lw_all := lw_g (lw_at lw_m5 103 rfl) rfl
theorem q1151 : (Jvm.Cond.methodLink "TideKeep$Shore" (240 : Nat) ({ cls := "TideKeep$Shore", name := "holds", desc := "(I)I" } : Jvm.MethodName)) ∈ lw_all := lw_g (lw_at lw_m5 104 rfl) rfl
theorem q1152 : (Jvm.Cond.instanceMethod ({ cls := "TideKeep$Shore", name := "holds", desc := "(I)I" } : Jvm.MethodName)) ∈ lw_all := lw_g (lw_at lw_m5 105 rfl) rfl
theorem q1153 : (Jvm.Cond.selects "TideKeep$Shore" ({ cls := "TideKeep$Shore", name := "holds", desc := "(I)I" } : Jvm.MethodName) ({ cls := "TideKeep$Shore", name := "holds", desc := "(I)I" } : Jvm.MethodName)) ∈ lw_all := lw_g (lw_at lw_m5 106 rfl) rfl
theorem q1154 : (Jvm.Cond.code ({ cls := "TideKeep$Shore", name := "holds", desc := "(I)I" } : Jvm.MethodName) prog_11_method_6_code (2 : Nat) (Option.some Jvm.ClassFile.FieldType.int)) ∈ lw_all := lw_g (lw_at lw_m5 107 rfl) rfl
theorem q1155 : (Jvm.Cond.methodLink "TideKeep$Shore" (126 : Nat) ({ cls := "TideKeep$Beach", name := "holds", desc := "(II)I" } : Jvm.MethodName)) ∈ lw_all := lw_g (lw_at lw_m5 108 rfl) rfl
theorem q1167 : (Jvm.Cond.methodLink "TideKeep$Shore" (253 : Nat) ({ cls := "TideKeep$Shore", name := "lookAtFlags", desc := "()V" } : Jvm.MethodName)) ∈ lw_all := lw_g (lw_at lw_m5 120 rfl) rfl
theorem q1168 : (Jvm.Cond.privateMethod ({ cls := "TideKeep$Shore", name := "lookAtFlags", desc := "()V" } : Jvm.MethodName)) ∈ lw_tbl := lw_at lw_m5 121 rfl
theorem q1169 : (Jvm.Cond.instanceMethod ({ cls := "TideKeep$Shore", name := "lookAtFlags", desc := "()V" } : Jvm.MethodName)) ∈ lw_all := lw_g (lw_at lw_m5 122 rfl) rfl
theorem q1170 : (Jvm.Cond.code ({ cls := "TideKeep$Shore", name := "lookAtFlags", desc := "()V" } : Jvm.MethodName) prog_11_method_17_code (2 : Nat) (Option.none : Option Jvm.ClassFile.FieldType)) ∈ lw_all := lw_g (lw_at lw_m5 123 rfl) rfl
theorem q1171 : (Jvm.Cond.fieldLink "TideKeep$Shore" (242 : Nat) "TideKeep$Told" "FALL" "LTideKeep$Told;") ∈ lw_all := lw_g (lw_at lw_m5 124 rfl) rfl
theorem q1194 : (Jvm.Cond.instanceMethod ({ cls := "TideKeep$Shore", name := "sand", desc := "()I" } : Jvm.MethodName)) ∈ lw_all := lw_g (lw_at lw_m5 147 rfl) rfl
theorem q1195 : (Jvm.Cond.selects "TideKeep$Shore" ({ cls := "TideKeep$Shore", name := "sand", desc := "()I" } : Jvm.MethodName) ({ cls := "TideKeep$Shore", name := "sand", desc := "()I" } : Jvm.MethodName)) ∈ lw_all := lw_g (lw_at lw_m5 148 rfl) rfl
theorem q1196 : (Jvm.Cond.code ({ cls := "TideKeep$Shore", name := "sand", desc := "()I" } : Jvm.MethodName) prog_11_method_20_code (3 : Nat) (Option.some Jvm.ClassFile.FieldType.int)) ∈ lw_all := lw_g (lw_at lw_m5 149 rfl) rfl
theorem q1205 : (Jvm.Cond.instanceMethod ({ cls := "TideKeep$Shore", name := "become", desc := "(LTideKeep$Shore;)V" } : Jvm.MethodName)) ∈ lw_all := lw_g (lw_at lw_m5 158 rfl) rfl
theorem q1206 : (Jvm.Cond.selects "TideKeep$Shore" ({ cls := "TideKeep$Shore", name := "become", desc := "(LTideKeep$Shore;)V" } : Jvm.MethodName) ({ cls := "TideKeep$Shore", name := "become", desc := "(LTideKeep$Shore;)V" } : Jvm.MethodName)) ∈ lw_all := lw_g (lw_at lw_m5 159 rfl) rfl
theorem q1207 : (Jvm.Cond.code ({ cls := "TideKeep$Shore", name := "become", desc := "(LTideKeep$Shore;)V" } : Jvm.MethodName) prog_11_method_3_code (3 : Nat) (Option.none : Option Jvm.ClassFile.FieldType)) ∈ lw_all := lw_g (lw_at lw_m5 160 rfl) rfl
theorem q2005 : (Jvm.Cond.castable "TideKeep$Shore" "java/lang/Object") ∈ lw_tbl := lw_at lw_m8 238 rfl
theorem in_X5 : ∀ w ∈ wsX50, w ∈ lw_all := lw_in wsX50 [387, 389, 391, 393, 395, 397, 399, 401, 403, 405, 407, 409, 411, 413, 415, 417, 419, 421] (by decide +kernel) (by decide +kernel)

/-! TideKeep$Reader -/
set_option maxRecDepth 100000
def RX7 : String := "TideKeep$Reader"
abbrev cX7_init : ByteArray := prog_8_method_1_code
def yX7_init : MethodName := ⟨RX7, "<init>", "(LTideKeep;I)V"⟩
def dkwX7_init_0 : List UInt8 := [42, 43, 181, 0, 3, 42, 183, 0, 9, 42, 28, 181, 0, 15, 42, 182, 0, 19, 177]
abbrev dktX7_init_0 : List UInt8 := dkwX7_init_0 ++ []
theorem dksX7_init_0 : cX7_init.data.toList.drop 0 = dktX7_init_0 := by decide +kernel
theorem dX7_init_0 : decode cX7_init 0 = .ok (.aload_n 0, 1) := dk_42 (dk_at dksX7_init_0 0 rfl rfl)
theorem dX7_init_1 : decode cX7_init 1 = .ok (.aload_n 1, 1) := dk_43 (dk_at dksX7_init_0 1 rfl rfl)
theorem dX7_init_2 : decode cX7_init 2 = .ok (.putfield 3, 3) := dk_181 0 3 (dk_at dksX7_init_0 2 rfl rfl)
theorem dX7_init_5 : decode cX7_init 5 = .ok (.aload_n 0, 1) := dk_42 (dk_at dksX7_init_0 5 rfl rfl)
theorem dX7_init_6 : decode cX7_init 6 = .ok (.invokespecial 9, 3) := dk_183 0 9 (dk_at dksX7_init_0 6 rfl rfl)
theorem dX7_init_9 : decode cX7_init 9 = .ok (.aload_n 0, 1) := dk_42 (dk_at dksX7_init_0 9 rfl rfl)
theorem dX7_init_10 : decode cX7_init 10 = .ok (.iload_n 2, 1) := dk_28 (dk_at dksX7_init_0 10 rfl rfl)
theorem dX7_init_11 : decode cX7_init 11 = .ok (.putfield 15, 3) := dk_181 0 15 (dk_at dksX7_init_0 11 rfl rfl)
theorem dX7_init_14 : decode cX7_init 14 = .ok (.aload_n 0, 1) := dk_42 (dk_at dksX7_init_0 14 rfl rfl)
theorem dX7_init_15 : decode cX7_init 15 = .ok (.invokevirtual 19, 3) := dk_182 0 19 (dk_at dksX7_init_0 15 rfl rfl)
theorem dX7_init_18 : decode cX7_init 18 = .ok (.return_, 1) := dk_177 (dk_at dksX7_init_0 18 rfl rfl)
abbrev cX7_goOn : ByteArray := prog_8_method_5_code
def yX7_goOn : MethodName := ⟨RX7, "goOn", "()V"⟩
def dkwX7_goOn_11 : List UInt8 := [181, 0, 36, 177]
abbrev dktX7_goOn_11 : List UInt8 := dkwX7_goOn_11 ++ []
def dkwX7_goOn_10 : List UInt8 := [167, 0, 4, 5, 181, 0, 36, 167, 0, 18, 42, 28, 16, 59, 160, 0, 7, 6, 167, 0, 4, 7]
abbrev dktX7_goOn_10 : List UInt8 := dkwX7_goOn_10 ++ dktX7_goOn_11
def dkwX7_goOn_9 : List UInt8 := [180, 0, 26, 4, 96, 181, 0, 26, 167, 255, 191, 42, 42, 180, 0, 26, 27, 100, 6, 164, 0, 7, 7]
abbrev dktX7_goOn_9 : List UInt8 := dkwX7_goOn_9 ++ dktX7_goOn_10
def dkwX7_goOn_8 : List UInt8 := [180, 0, 26, 182, 0, 29, 96, 16, 48, 100, 167, 0, 7, 42, 180, 0, 46, 181, 0, 46, 42, 89]
abbrev dktX7_goOn_8 : List UInt8 := dkwX7_goOn_8 ++ dktX7_goOn_9
def dkwX7_goOn_7 : List UInt8 := [153, 0, 56, 42, 42, 180, 0, 26, 27, 100, 6, 162, 0, 25, 16, 10, 42, 180, 0, 46, 104, 42, 42]
abbrev dktX7_goOn_7 : List UInt8 := dkwX7_goOn_7 ++ dktX7_goOn_8
def dkwX7_goOn_6 : List UInt8 := [42, 3, 181, 0, 46, 42, 27, 181, 0, 26, 42, 42, 42, 180, 0, 26, 182, 0, 29, 182, 0, 43]
abbrev dktX7_goOn_6 : List UInt8 := dkwX7_goOn_6 ++ dktX7_goOn_7
def dkwX7_goOn_5 : List UInt8 := [16, 8, 164, 0, 7, 7, 167, 0, 4, 4, 181, 0, 36, 167, 0, 126, 42, 28, 182, 0, 43, 153, 0, 103]
abbrev dktX7_goOn_5 : List UInt8 := dkwX7_goOn_5 ++ dktX7_goOn_6
def dkwX7_goOn_4 : List UInt8 := [153, 0, 16, 42, 89, 180, 0, 26, 4, 96, 181, 0, 26, 167, 255, 231, 42, 42, 180, 0, 26, 27, 100]
abbrev dktX7_goOn_4 : List UInt8 := dkwX7_goOn_4 ++ dktX7_goOn_5
def dkwX7_goOn_3 : List UInt8 := [167, 0, 185, 42, 28, 182, 0, 39, 153, 0, 54, 42, 42, 42, 180, 0, 26, 182, 0, 29, 182, 0, 39]
abbrev dktX7_goOn_3 : List UInt8 := dkwX7_goOn_3 ++ dktX7_goOn_4
def dkwX7_goOn_2 : List UInt8 := [182, 0, 29, 61, 27, 42, 180, 0, 15, 161, 0, 16, 42, 3, 181, 0, 36, 42, 27, 181, 0, 26]
abbrev dktX7_goOn_2 : List UInt8 := dkwX7_goOn_2 ++ dktX7_goOn_3
def dkwX7_goOn_1 : List UInt8 := [160, 0, 9, 132, 1, 1, 167, 255, 233, 42, 27, 181, 0, 33, 42, 27, 4, 96, 181, 0, 26, 42, 27]
abbrev dktX7_goOn_1 : List UInt8 := dkwX7_goOn_1 ++ dktX7_goOn_2
def dkwX7_goOn_0 : List UInt8 := [42, 180, 0, 26, 60, 42, 27, 182, 0, 29, 16, 32, 159, 0, 13, 42, 27, 182, 0, 29, 16, 10]
abbrev dktX7_goOn_0 : List UInt8 := dkwX7_goOn_0 ++ dktX7_goOn_1
theorem dksX7_goOn_0 : cX7_goOn.data.toList.drop 0 = dktX7_goOn_0 := by decide +kernel
theorem dksX7_goOn_1 : cX7_goOn.data.toList.drop 22 = dktX7_goOn_1 := dk_seg dksX7_goOn_0 22 rfl rfl
theorem dksX7_goOn_2 : cX7_goOn.data.toList.drop 45 = dktX7_goOn_2 := dk_seg dksX7_goOn_1 23 rfl rfl
theorem dksX7_goOn_3 : cX7_goOn.data.toList.drop 67 = dktX7_goOn_3 := dk_seg dksX7_goOn_2 22 rfl rfl
theorem dksX7_goOn_4 : cX7_goOn.data.toList.drop 90 = dktX7_goOn_4 := dk_seg dksX7_goOn_3 23 rfl rfl
theorem dksX7_goOn_5 : cX7_goOn.data.toList.drop 113 = dktX7_goOn_5 := dk_seg dksX7_goOn_4 23 rfl rfl
theorem dksX7_goOn_6 : cX7_goOn.data.toList.drop 137 = dktX7_goOn_6 := dk_seg dksX7_goOn_5 24 rfl rfl
theorem dksX7_goOn_7 : cX7_goOn.data.toList.drop 159 = dktX7_goOn_7 := dk_seg dksX7_goOn_6 22 rfl rfl
theorem dksX7_goOn_8 : cX7_goOn.data.toList.drop 182 = dktX7_goOn_8 := dk_seg dksX7_goOn_7 23 rfl rfl
theorem dksX7_goOn_9 : cX7_goOn.data.toList.drop 204 = dktX7_goOn_9 := dk_seg dksX7_goOn_8 22 rfl rfl
theorem dksX7_goOn_10 : cX7_goOn.data.toList.drop 227 = dktX7_goOn_10 := dk_seg dksX7_goOn_9 23 rfl rfl
theorem dksX7_goOn_11 : cX7_goOn.data.toList.drop 249 = dktX7_goOn_11 := dk_seg dksX7_goOn_10 22 rfl rfl
theorem dX7_goOn_0 : decode cX7_goOn 0 = .ok (.aload_n 0, 1) := dk_42 (dk_at dksX7_goOn_0 0 rfl rfl)
theorem dX7_goOn_1 : decode cX7_goOn 1 = .ok (.getfield 26, 3) := dk_180 0 26 (dk_at dksX7_goOn_0 1 rfl rfl)
theorem dX7_goOn_4 : decode cX7_goOn 4 = .ok (.istore_n 1, 1) := dk_60 (dk_at dksX7_goOn_0 4 rfl rfl)
theorem dX7_goOn_5 : decode cX7_goOn 5 = .ok (.aload_n 0, 1) := dk_42 (dk_at dksX7_goOn_0 5 rfl rfl)
theorem dX7_goOn_6 : decode cX7_goOn 6 = .ok (.iload_n 1, 1) := dk_27 (dk_at dksX7_goOn_0 6 rfl rfl)
theorem dX7_goOn_7 : decode cX7_goOn 7 = .ok (.invokevirtual 29, 3) := dk_182 0 29 (dk_at dksX7_goOn_0 7 rfl rfl)
theorem dX7_goOn_10 : decode cX7_goOn 10 = .ok (.bipush 32, 2) := dk_16 32 (dk_at dksX7_goOn_0 10 rfl rfl)
theorem dX7_goOn_12 : decode cX7_goOn 12 = .ok (.if_icmp .eq 13, 3) := dk_159 0 13 (dk_at dksX7_goOn_0 12 rfl rfl)
theorem dX7_goOn_15 : decode cX7_goOn 15 = .ok (.aload_n 0, 1) := dk_42 (dk_at dksX7_goOn_0 15 rfl rfl)
theorem dX7_goOn_16 : decode cX7_goOn 16 = .ok (.iload_n 1, 1) := dk_27 (dk_at dksX7_goOn_0 16 rfl rfl)
theorem dX7_goOn_17 : decode cX7_goOn 17 = .ok (.invokevirtual 29, 3) := dk_182 0 29 (dk_at dksX7_goOn_0 17 rfl rfl)
theorem dX7_goOn_20 : decode cX7_goOn 20 = .ok (.bipush 10, 2) := dk_16 10 (dk_at dksX7_goOn_0 20 rfl rfl)
theorem dX7_goOn_22 : decode cX7_goOn 22 = .ok (.if_icmp .ne 9, 3) := dk_160 0 9 (dk_at dksX7_goOn_1 0 rfl rfl)
theorem dX7_goOn_25 : decode cX7_goOn 25 = .ok (.iinc 1 1, 3) := dk_132 1 1 (dk_at dksX7_goOn_1 3 rfl rfl)
theorem dX7_goOn_28 : decode cX7_goOn 28 = .ok (.goto (-23), 3) := dk_167 255 233 (dk_at dksX7_goOn_1 6 rfl rfl)
theorem dX7_goOn_31 : decode cX7_goOn 31 = .ok (.aload_n 0, 1) := dk_42 (dk_at dksX7_goOn_1 9 rfl rfl)
theorem dX7_goOn_32 : decode cX7_goOn 32 = .ok (.iload_n 1, 1) := dk_27 (dk_at dksX7_goOn_1 10 rfl rfl)
theorem dX7_goOn_33 : decode cX7_goOn 33 = .ok (.putfield 33, 3) := dk_181 0 33 (dk_at dksX7_goOn_1 11 rfl rfl)
theorem dX7_goOn_36 : decode cX7_goOn 36 = .ok (.aload_n 0, 1) := dk_42 (dk_at dksX7_goOn_1 14 rfl rfl)
theorem dX7_goOn_37 : decode cX7_goOn 37 = .ok (.iload_n 1, 1) := dk_27 (dk_at dksX7_goOn_1 15 rfl rfl)
theorem dX7_goOn_38 : decode cX7_goOn 38 = .ok (.iconst 1, 1) := dk_4 (dk_at dksX7_goOn_1 16 rfl rfl)
theorem dX7_goOn_39 : decode cX7_goOn 39 = .ok (.iadd, 1) := dk_96 (dk_at dksX7_goOn_1 17 rfl rfl)
theorem dX7_goOn_40 : decode cX7_goOn 40 = .ok (.putfield 26, 3) := dk_181 0 26 (dk_at dksX7_goOn_1 18 rfl rfl)
theorem dX7_goOn_43 : decode cX7_goOn 43 = .ok (.aload_n 0, 1) := dk_42 (dk_at dksX7_goOn_1 21 rfl rfl)
theorem dX7_goOn_44 : decode cX7_goOn 44 = .ok (.iload_n 1, 1) := dk_27 (dk_at dksX7_goOn_1 22 rfl rfl)
theorem dX7_goOn_45 : decode cX7_goOn 45 = .ok (.invokevirtual 29, 3) := dk_182 0 29 (dk_at dksX7_goOn_2 0 rfl rfl)
theorem dX7_goOn_48 : decode cX7_goOn 48 = .ok (.istore_n 2, 1) := dk_61 (dk_at dksX7_goOn_2 3 rfl rfl)
theorem dX7_goOn_49 : decode cX7_goOn 49 = .ok (.iload_n 1, 1) := dk_27 (dk_at dksX7_goOn_2 4 rfl rfl)
theorem dX7_goOn_50 : decode cX7_goOn 50 = .ok (.aload_n 0, 1) := dk_42 (dk_at dksX7_goOn_2 5 rfl rfl)
theorem dX7_goOn_51 : decode cX7_goOn 51 = .ok (.getfield 15, 3) := dk_180 0 15 (dk_at dksX7_goOn_2 6 rfl rfl)
theorem dX7_goOn_54 : decode cX7_goOn 54 = .ok (.if_icmp .lt 16, 3) := dk_161 0 16 (dk_at dksX7_goOn_2 9 rfl rfl)
theorem dX7_goOn_57 : decode cX7_goOn 57 = .ok (.aload_n 0, 1) := dk_42 (dk_at dksX7_goOn_2 12 rfl rfl)
theorem dX7_goOn_58 : decode cX7_goOn 58 = .ok (.iconst 0, 1) := dk_3 (dk_at dksX7_goOn_2 13 rfl rfl)
theorem dX7_goOn_59 : decode cX7_goOn 59 = .ok (.putfield 36, 3) := dk_181 0 36 (dk_at dksX7_goOn_2 14 rfl rfl)
theorem dX7_goOn_62 : decode cX7_goOn 62 = .ok (.aload_n 0, 1) := dk_42 (dk_at dksX7_goOn_2 17 rfl rfl)
theorem dX7_goOn_63 : decode cX7_goOn 63 = .ok (.iload_n 1, 1) := dk_27 (dk_at dksX7_goOn_2 18 rfl rfl)
theorem dX7_goOn_64 : decode cX7_goOn 64 = .ok (.putfield 26, 3) := dk_181 0 26 (dk_at dksX7_goOn_2 19 rfl rfl)
theorem dX7_goOn_67 : decode cX7_goOn 67 = .ok (.goto 185, 3) := dk_167 0 185 (dk_at dksX7_goOn_3 0 rfl rfl)
theorem dX7_goOn_70 : decode cX7_goOn 70 = .ok (.aload_n 0, 1) := dk_42 (dk_at dksX7_goOn_3 3 rfl rfl)
theorem dX7_goOn_71 : decode cX7_goOn 71 = .ok (.iload_n 2, 1) := dk_28 (dk_at dksX7_goOn_3 4 rfl rfl)
theorem dX7_goOn_72 : decode cX7_goOn 72 = .ok (.invokevirtual 39, 3) := dk_182 0 39 (dk_at dksX7_goOn_3 5 rfl rfl)
theorem dX7_goOn_75 : decode cX7_goOn 75 = .ok (.ifCond .eq 54, 3) := dk_153 0 54 (dk_at dksX7_goOn_3 8 rfl rfl)
theorem dX7_goOn_78 : decode cX7_goOn 78 = .ok (.aload_n 0, 1) := dk_42 (dk_at dksX7_goOn_3 11 rfl rfl)
theorem dX7_goOn_79 : decode cX7_goOn 79 = .ok (.aload_n 0, 1) := dk_42 (dk_at dksX7_goOn_3 12 rfl rfl)
theorem dX7_goOn_80 : decode cX7_goOn 80 = .ok (.aload_n 0, 1) := dk_42 (dk_at dksX7_goOn_3 13 rfl rfl)
theorem dX7_goOn_81 : decode cX7_goOn 81 = .ok (.getfield 26, 3) := dk_180 0 26 (dk_at dksX7_goOn_3 14 rfl rfl)
theorem dX7_goOn_84 : decode cX7_goOn 84 = .ok (.invokevirtual 29, 3) := dk_182 0 29 (dk_at dksX7_goOn_3 17 rfl rfl)
theorem dX7_goOn_87 : decode cX7_goOn 87 = .ok (.invokevirtual 39, 3) := dk_182 0 39 (dk_at dksX7_goOn_3 20 rfl rfl)
theorem dX7_goOn_90 : decode cX7_goOn 90 = .ok (.ifCond .eq 16, 3) := dk_153 0 16 (dk_at dksX7_goOn_4 0 rfl rfl)
theorem dX7_goOn_93 : decode cX7_goOn 93 = .ok (.aload_n 0, 1) := dk_42 (dk_at dksX7_goOn_4 3 rfl rfl)
theorem dX7_goOn_94 : decode cX7_goOn 94 = .ok (.dup, 1) := dk_89 (dk_at dksX7_goOn_4 4 rfl rfl)
theorem dX7_goOn_95 : decode cX7_goOn 95 = .ok (.getfield 26, 3) := dk_180 0 26 (dk_at dksX7_goOn_4 5 rfl rfl)
theorem dX7_goOn_98 : decode cX7_goOn 98 = .ok (.iconst 1, 1) := dk_4 (dk_at dksX7_goOn_4 8 rfl rfl)
theorem dX7_goOn_99 : decode cX7_goOn 99 = .ok (.iadd, 1) := dk_96 (dk_at dksX7_goOn_4 9 rfl rfl)
theorem dX7_goOn_100 : decode cX7_goOn 100 = .ok (.putfield 26, 3) := dk_181 0 26 (dk_at dksX7_goOn_4 10 rfl rfl)
theorem dX7_goOn_103 : decode cX7_goOn 103 = .ok (.goto (-25), 3) := dk_167 255 231 (dk_at dksX7_goOn_4 13 rfl rfl)
theorem dX7_goOn_106 : decode cX7_goOn 106 = .ok (.aload_n 0, 1) := dk_42 (dk_at dksX7_goOn_4 16 rfl rfl)
theorem dX7_goOn_107 : decode cX7_goOn 107 = .ok (.aload_n 0, 1) := dk_42 (dk_at dksX7_goOn_4 17 rfl rfl)
theorem dX7_goOn_108 : decode cX7_goOn 108 = .ok (.getfield 26, 3) := dk_180 0 26 (dk_at dksX7_goOn_4 18 rfl rfl)
theorem dX7_goOn_111 : decode cX7_goOn 111 = .ok (.iload_n 1, 1) := dk_27 (dk_at dksX7_goOn_4 21 rfl rfl)
theorem dX7_goOn_112 : decode cX7_goOn 112 = .ok (.isub, 1) := dk_100 (dk_at dksX7_goOn_4 22 rfl rfl)
theorem dX7_goOn_113 : decode cX7_goOn 113 = .ok (.bipush 8, 2) := dk_16 8 (dk_at dksX7_goOn_5 0 rfl rfl)
theorem dX7_goOn_115 : decode cX7_goOn 115 = .ok (.if_icmp .le 7, 3) := dk_164 0 7 (dk_at dksX7_goOn_5 2 rfl rfl)
theorem dX7_goOn_118 : decode cX7_goOn 118 = .ok (.iconst 4, 1) := dk_7 (dk_at dksX7_goOn_5 5 rfl rfl)
theorem dX7_goOn_119 : decode cX7_goOn 119 = .ok (.goto 4, 3) := dk_167 0 4 (dk_at dksX7_goOn_5 6 rfl rfl)
theorem dX7_goOn_122 : decode cX7_goOn 122 = .ok (.iconst 1, 1) := dk_4 (dk_at dksX7_goOn_5 9 rfl rfl)
theorem dX7_goOn_123 : decode cX7_goOn 123 = .ok (.putfield 36, 3) := dk_181 0 36 (dk_at dksX7_goOn_5 10 rfl rfl)
theorem dX7_goOn_126 : decode cX7_goOn 126 = .ok (.goto 126, 3) := dk_167 0 126 (dk_at dksX7_goOn_5 13 rfl rfl)
theorem dX7_goOn_129 : decode cX7_goOn 129 = .ok (.aload_n 0, 1) := dk_42 (dk_at dksX7_goOn_5 16 rfl rfl)
theorem dX7_goOn_130 : decode cX7_goOn 130 = .ok (.iload_n 2, 1) := dk_28 (dk_at dksX7_goOn_5 17 rfl rfl)
theorem dX7_goOn_131 : decode cX7_goOn 131 = .ok (.invokevirtual 43, 3) := dk_182 0 43 (dk_at dksX7_goOn_5 18 rfl rfl)
theorem dX7_goOn_134 : decode cX7_goOn 134 = .ok (.ifCond .eq 103, 3) := dk_153 0 103 (dk_at dksX7_goOn_5 21 rfl rfl)
theorem dX7_goOn_137 : decode cX7_goOn 137 = .ok (.aload_n 0, 1) := dk_42 (dk_at dksX7_goOn_6 0 rfl rfl)
theorem dX7_goOn_138 : decode cX7_goOn 138 = .ok (.iconst 0, 1) := dk_3 (dk_at dksX7_goOn_6 1 rfl rfl)
theorem dX7_goOn_139 : decode cX7_goOn 139 = .ok (.putfield 46, 3) := dk_181 0 46 (dk_at dksX7_goOn_6 2 rfl rfl)
theorem dX7_goOn_142 : decode cX7_goOn 142 = .ok (.aload_n 0, 1) := dk_42 (dk_at dksX7_goOn_6 5 rfl rfl)
theorem dX7_goOn_143 : decode cX7_goOn 143 = .ok (.iload_n 1, 1) := dk_27 (dk_at dksX7_goOn_6 6 rfl rfl)
theorem dX7_goOn_144 : decode cX7_goOn 144 = .ok (.putfield 26, 3) := dk_181 0 26 (dk_at dksX7_goOn_6 7 rfl rfl)
theorem dX7_goOn_147 : decode cX7_goOn 147 = .ok (.aload_n 0, 1) := dk_42 (dk_at dksX7_goOn_6 10 rfl rfl)
theorem dX7_goOn_148 : decode cX7_goOn 148 = .ok (.aload_n 0, 1) := dk_42 (dk_at dksX7_goOn_6 11 rfl rfl)
theorem dX7_goOn_149 : decode cX7_goOn 149 = .ok (.aload_n 0, 1) := dk_42 (dk_at dksX7_goOn_6 12 rfl rfl)
theorem dX7_goOn_150 : decode cX7_goOn 150 = .ok (.getfield 26, 3) := dk_180 0 26 (dk_at dksX7_goOn_6 13 rfl rfl)
theorem dX7_goOn_153 : decode cX7_goOn 153 = .ok (.invokevirtual 29, 3) := dk_182 0 29 (dk_at dksX7_goOn_6 16 rfl rfl)
theorem dX7_goOn_156 : decode cX7_goOn 156 = .ok (.invokevirtual 43, 3) := dk_182 0 43 (dk_at dksX7_goOn_6 19 rfl rfl)
theorem dX7_goOn_159 : decode cX7_goOn 159 = .ok (.ifCond .eq 56, 3) := dk_153 0 56 (dk_at dksX7_goOn_7 0 rfl rfl)
theorem dX7_goOn_162 : decode cX7_goOn 162 = .ok (.aload_n 0, 1) := dk_42 (dk_at dksX7_goOn_7 3 rfl rfl)
theorem dX7_goOn_163 : decode cX7_goOn 163 = .ok (.aload_n 0, 1) := dk_42 (dk_at dksX7_goOn_7 4 rfl rfl)
theorem dX7_goOn_164 : decode cX7_goOn 164 = .ok (.getfield 26, 3) := dk_180 0 26 (dk_at dksX7_goOn_7 5 rfl rfl)
theorem dX7_goOn_167 : decode cX7_goOn 167 = .ok (.iload_n 1, 1) := dk_27 (dk_at dksX7_goOn_7 8 rfl rfl)
theorem dX7_goOn_168 : decode cX7_goOn 168 = .ok (.isub, 1) := dk_100 (dk_at dksX7_goOn_7 9 rfl rfl)
theorem dX7_goOn_169 : decode cX7_goOn 169 = .ok (.iconst 3, 1) := dk_6 (dk_at dksX7_goOn_7 10 rfl rfl)
theorem dX7_goOn_170 : decode cX7_goOn 170 = .ok (.if_icmp .ge 25, 3) := dk_162 0 25 (dk_at dksX7_goOn_7 11 rfl rfl)
theorem dX7_goOn_173 : decode cX7_goOn 173 = .ok (.bipush 10, 2) := dk_16 10 (dk_at dksX7_goOn_7 14 rfl rfl)
theorem dX7_goOn_175 : decode cX7_goOn 175 = .ok (.aload_n 0, 1) := dk_42 (dk_at dksX7_goOn_7 16 rfl rfl)
theorem dX7_goOn_176 : decode cX7_goOn 176 = .ok (.getfield 46, 3) := dk_180 0 46 (dk_at dksX7_goOn_7 17 rfl rfl)
theorem dX7_goOn_179 : decode cX7_goOn 179 = .ok (.imul, 1) := dk_104 (dk_at dksX7_goOn_7 20 rfl rfl)
theorem dX7_goOn_180 : decode cX7_goOn 180 = .ok (.aload_n 0, 1) := dk_42 (dk_at dksX7_goOn_7 21 rfl rfl)
theorem dX7_goOn_181 : decode cX7_goOn 181 = .ok (.aload_n 0, 1) := dk_42 (dk_at dksX7_goOn_7 22 rfl rfl)
theorem dX7_goOn_182 : decode cX7_goOn 182 = .ok (.getfield 26, 3) := dk_180 0 26 (dk_at dksX7_goOn_8 0 rfl rfl)
theorem dX7_goOn_185 : decode cX7_goOn 185 = .ok (.invokevirtual 29, 3) := dk_182 0 29 (dk_at dksX7_goOn_8 3 rfl rfl)
theorem dX7_goOn_188 : decode cX7_goOn 188 = .ok (.iadd, 1) := dk_96 (dk_at dksX7_goOn_8 6 rfl rfl)
theorem dX7_goOn_189 : decode cX7_goOn 189 = .ok (.bipush 48, 2) := dk_16 48 (dk_at dksX7_goOn_8 7 rfl rfl)
theorem dX7_goOn_191 : decode cX7_goOn 191 = .ok (.isub, 1) := dk_100 (dk_at dksX7_goOn_8 9 rfl rfl)
theorem dX7_goOn_192 : decode cX7_goOn 192 = .ok (.goto 7, 3) := dk_167 0 7 (dk_at dksX7_goOn_8 10 rfl rfl)
theorem dX7_goOn_195 : decode cX7_goOn 195 = .ok (.aload_n 0, 1) := dk_42 (dk_at dksX7_goOn_8 13 rfl rfl)
theorem dX7_goOn_196 : decode cX7_goOn 196 = .ok (.getfield 46, 3) := dk_180 0 46 (dk_at dksX7_goOn_8 14 rfl rfl)
theorem dX7_goOn_199 : decode cX7_goOn 199 = .ok (.putfield 46, 3) := dk_181 0 46 (dk_at dksX7_goOn_8 17 rfl rfl)
theorem dX7_goOn_202 : decode cX7_goOn 202 = .ok (.aload_n 0, 1) := dk_42 (dk_at dksX7_goOn_8 20 rfl rfl)
theorem dX7_goOn_203 : decode cX7_goOn 203 = .ok (.dup, 1) := dk_89 (dk_at dksX7_goOn_8 21 rfl rfl)
theorem dX7_goOn_204 : decode cX7_goOn 204 = .ok (.getfield 26, 3) := dk_180 0 26 (dk_at dksX7_goOn_9 0 rfl rfl)
theorem dX7_goOn_207 : decode cX7_goOn 207 = .ok (.iconst 1, 1) := dk_4 (dk_at dksX7_goOn_9 3 rfl rfl)
theorem dX7_goOn_208 : decode cX7_goOn 208 = .ok (.iadd, 1) := dk_96 (dk_at dksX7_goOn_9 4 rfl rfl)
theorem dX7_goOn_209 : decode cX7_goOn 209 = .ok (.putfield 26, 3) := dk_181 0 26 (dk_at dksX7_goOn_9 5 rfl rfl)
theorem dX7_goOn_212 : decode cX7_goOn 212 = .ok (.goto (-65), 3) := dk_167 255 191 (dk_at dksX7_goOn_9 8 rfl rfl)
theorem dX7_goOn_215 : decode cX7_goOn 215 = .ok (.aload_n 0, 1) := dk_42 (dk_at dksX7_goOn_9 11 rfl rfl)
theorem dX7_goOn_216 : decode cX7_goOn 216 = .ok (.aload_n 0, 1) := dk_42 (dk_at dksX7_goOn_9 12 rfl rfl)
theorem dX7_goOn_217 : decode cX7_goOn 217 = .ok (.getfield 26, 3) := dk_180 0 26 (dk_at dksX7_goOn_9 13 rfl rfl)
theorem dX7_goOn_220 : decode cX7_goOn 220 = .ok (.iload_n 1, 1) := dk_27 (dk_at dksX7_goOn_9 16 rfl rfl)
theorem dX7_goOn_221 : decode cX7_goOn 221 = .ok (.isub, 1) := dk_100 (dk_at dksX7_goOn_9 17 rfl rfl)
theorem dX7_goOn_222 : decode cX7_goOn 222 = .ok (.iconst 3, 1) := dk_6 (dk_at dksX7_goOn_9 18 rfl rfl)
theorem dX7_goOn_223 : decode cX7_goOn 223 = .ok (.if_icmp .le 7, 3) := dk_164 0 7 (dk_at dksX7_goOn_9 19 rfl rfl)
theorem dX7_goOn_226 : decode cX7_goOn 226 = .ok (.iconst 4, 1) := dk_7 (dk_at dksX7_goOn_9 22 rfl rfl)
theorem dX7_goOn_227 : decode cX7_goOn 227 = .ok (.goto 4, 3) := dk_167 0 4 (dk_at dksX7_goOn_10 0 rfl rfl)
theorem dX7_goOn_230 : decode cX7_goOn 230 = .ok (.iconst 2, 1) := dk_5 (dk_at dksX7_goOn_10 3 rfl rfl)
theorem dX7_goOn_231 : decode cX7_goOn 231 = .ok (.putfield 36, 3) := dk_181 0 36 (dk_at dksX7_goOn_10 4 rfl rfl)
theorem dX7_goOn_234 : decode cX7_goOn 234 = .ok (.goto 18, 3) := dk_167 0 18 (dk_at dksX7_goOn_10 7 rfl rfl)
theorem dX7_goOn_237 : decode cX7_goOn 237 = .ok (.aload_n 0, 1) := dk_42 (dk_at dksX7_goOn_10 10 rfl rfl)
theorem dX7_goOn_238 : decode cX7_goOn 238 = .ok (.iload_n 2, 1) := dk_28 (dk_at dksX7_goOn_10 11 rfl rfl)
theorem dX7_goOn_239 : decode cX7_goOn 239 = .ok (.bipush 59, 2) := dk_16 59 (dk_at dksX7_goOn_10 12 rfl rfl)
theorem dX7_goOn_241 : decode cX7_goOn 241 = .ok (.if_icmp .ne 7, 3) := dk_160 0 7 (dk_at dksX7_goOn_10 14 rfl rfl)
theorem dX7_goOn_244 : decode cX7_goOn 244 = .ok (.iconst 3, 1) := dk_6 (dk_at dksX7_goOn_10 17 rfl rfl)
theorem dX7_goOn_245 : decode cX7_goOn 245 = .ok (.goto 4, 3) := dk_167 0 4 (dk_at dksX7_goOn_10 18 rfl rfl)
theorem dX7_goOn_248 : decode cX7_goOn 248 = .ok (.iconst 4, 1) := dk_7 (dk_at dksX7_goOn_10 21 rfl rfl)
theorem dX7_goOn_249 : decode cX7_goOn 249 = .ok (.putfield 36, 3) := dk_181 0 36 (dk_at dksX7_goOn_11 0 rfl rfl)
theorem dX7_goOn_252 : decode cX7_goOn 252 = .ok (.return_, 1) := dk_177 (dk_at dksX7_goOn_11 3 rfl rfl)
abbrev cX7_see : ByteArray := prog_8_method_2_code
def yX7_see : MethodName := ⟨RX7, "see", "(I)I"⟩
def dkwX7_see_1 : List UInt8 := [3, 172]
abbrev dktX7_see_1 : List UInt8 := dkwX7_see_1 ++ []
def dkwX7_see_0 : List UInt8 := [27, 42, 180, 0, 15, 162, 0, 19, 42, 180, 0, 3, 180, 0, 22, 27, 51, 17, 0, 255, 126, 167, 0, 4]
abbrev dktX7_see_0 : List UInt8 := dkwX7_see_0 ++ dktX7_see_1
theorem dksX7_see_0 : cX7_see.data.toList.drop 0 = dktX7_see_0 := by decide +kernel
theorem dksX7_see_1 : cX7_see.data.toList.drop 24 = dktX7_see_1 := dk_seg dksX7_see_0 24 rfl rfl
theorem dX7_see_0 : decode cX7_see 0 = .ok (.iload_n 1, 1) := dk_27 (dk_at dksX7_see_0 0 rfl rfl)
theorem dX7_see_1 : decode cX7_see 1 = .ok (.aload_n 0, 1) := dk_42 (dk_at dksX7_see_0 1 rfl rfl)
theorem dX7_see_2 : decode cX7_see 2 = .ok (.getfield 15, 3) := dk_180 0 15 (dk_at dksX7_see_0 2 rfl rfl)
theorem dX7_see_5 : decode cX7_see 5 = .ok (.if_icmp .ge 19, 3) := dk_162 0 19 (dk_at dksX7_see_0 5 rfl rfl)
theorem dX7_see_8 : decode cX7_see 8 = .ok (.aload_n 0, 1) := dk_42 (dk_at dksX7_see_0 8 rfl rfl)
theorem dX7_see_9 : decode cX7_see 9 = .ok (.getfield 3, 3) := dk_180 0 3 (dk_at dksX7_see_0 9 rfl rfl)
theorem dX7_see_12 : decode cX7_see 12 = .ok (.getfield 22, 3) := dk_180 0 22 (dk_at dksX7_see_0 12 rfl rfl)
theorem dX7_see_15 : decode cX7_see 15 = .ok (.iload_n 1, 1) := dk_27 (dk_at dksX7_see_0 15 rfl rfl)
theorem dX7_see_16 : decode cX7_see 16 = .ok (.baload, 1) := dk_51 (dk_at dksX7_see_0 16 rfl rfl)
theorem dX7_see_17 : decode cX7_see 17 = .ok (.sipush 255, 3) := dk_17 0 255 (dk_at dksX7_see_0 17 rfl rfl)
theorem dX7_see_20 : decode cX7_see 20 = .ok (.iand, 1) := dk_126 (dk_at dksX7_see_0 20 rfl rfl)
theorem dX7_see_21 : decode cX7_see 21 = .ok (.goto 4, 3) := dk_167 0 4 (dk_at dksX7_see_0 21 rfl rfl)
theorem dX7_see_24 : decode cX7_see 24 = .ok (.iconst 0, 1) := dk_3 (dk_at dksX7_see_1 0 rfl rfl)
theorem dX7_see_25 : decode cX7_see 25 = .ok (.ireturn, 1) := dk_172 (dk_at dksX7_see_1 1 rfl rfl)
abbrev cX7_isSmall : ByteArray := prog_8_method_3_code
def yX7_isSmall : MethodName := ⟨RX7, "isSmall", "(I)Z"⟩
def dkwX7_isSmall_0 : List UInt8 := [27, 16, 97, 161, 0, 13, 27, 16, 122, 163, 0, 7, 4, 167, 0, 4, 3, 172]
abbrev dktX7_isSmall_0 : List UInt8 := dkwX7_isSmall_0 ++ []
theorem dksX7_isSmall_0 : cX7_isSmall.data.toList.drop 0 = dktX7_isSmall_0 := by decide +kernel
theorem dX7_isSmall_0 : decode cX7_isSmall 0 = .ok (.iload_n 1, 1) := dk_27 (dk_at dksX7_isSmall_0 0 rfl rfl)
theorem dX7_isSmall_1 : decode cX7_isSmall 1 = .ok (.bipush 97, 2) := dk_16 97 (dk_at dksX7_isSmall_0 1 rfl rfl)
theorem dX7_isSmall_3 : decode cX7_isSmall 3 = .ok (.if_icmp .lt 13, 3) := dk_161 0 13 (dk_at dksX7_isSmall_0 3 rfl rfl)
theorem dX7_isSmall_6 : decode cX7_isSmall 6 = .ok (.iload_n 1, 1) := dk_27 (dk_at dksX7_isSmall_0 6 rfl rfl)
theorem dX7_isSmall_7 : decode cX7_isSmall 7 = .ok (.bipush 122, 2) := dk_16 122 (dk_at dksX7_isSmall_0 7 rfl rfl)
theorem dX7_isSmall_9 : decode cX7_isSmall 9 = .ok (.if_icmp .gt 7, 3) := dk_163 0 7 (dk_at dksX7_isSmall_0 9 rfl rfl)
theorem dX7_isSmall_12 : decode cX7_isSmall 12 = .ok (.iconst 1, 1) := dk_4 (dk_at dksX7_isSmall_0 12 rfl rfl)
theorem dX7_isSmall_13 : decode cX7_isSmall 13 = .ok (.goto 4, 3) := dk_167 0 4 (dk_at dksX7_isSmall_0 13 rfl rfl)
theorem dX7_isSmall_16 : decode cX7_isSmall 16 = .ok (.iconst 0, 1) := dk_3 (dk_at dksX7_isSmall_0 16 rfl rfl)
theorem dX7_isSmall_17 : decode cX7_isSmall 17 = .ok (.ireturn, 1) := dk_172 (dk_at dksX7_isSmall_0 17 rfl rfl)
abbrev cX7_isDigit : ByteArray := prog_8_method_4_code
def yX7_isDigit : MethodName := ⟨RX7, "isDigit", "(I)Z"⟩
def dkwX7_isDigit_0 : List UInt8 := [27, 16, 48, 161, 0, 13, 27, 16, 57, 163, 0, 7, 4, 167, 0, 4, 3, 172]
abbrev dktX7_isDigit_0 : List UInt8 := dkwX7_isDigit_0 ++ []
theorem dksX7_isDigit_0 : cX7_isDigit.data.toList.drop 0 = dktX7_isDigit_0 := by decide +kernel
theorem dX7_isDigit_0 : decode cX7_isDigit 0 = .ok (.iload_n 1, 1) := dk_27 (dk_at dksX7_isDigit_0 0 rfl rfl)
theorem dX7_isDigit_1 : decode cX7_isDigit 1 = .ok (.bipush 48, 2) := dk_16 48 (dk_at dksX7_isDigit_0 1 rfl rfl)
theorem dX7_isDigit_3 : decode cX7_isDigit 3 = .ok (.if_icmp .lt 13, 3) := dk_161 0 13 (dk_at dksX7_isDigit_0 3 rfl rfl)
theorem dX7_isDigit_6 : decode cX7_isDigit 6 = .ok (.iload_n 1, 1) := dk_27 (dk_at dksX7_isDigit_0 6 rfl rfl)
theorem dX7_isDigit_7 : decode cX7_isDigit 7 = .ok (.bipush 57, 2) := dk_16 57 (dk_at dksX7_isDigit_0 7 rfl rfl)
theorem dX7_isDigit_9 : decode cX7_isDigit 9 = .ok (.if_icmp .gt 7, 3) := dk_163 0 7 (dk_at dksX7_isDigit_0 9 rfl rfl)
theorem dX7_isDigit_12 : decode cX7_isDigit 12 = .ok (.iconst 1, 1) := dk_4 (dk_at dksX7_isDigit_0 12 rfl rfl)
theorem dX7_isDigit_13 : decode cX7_isDigit 13 = .ok (.goto 4, 3) := dk_167 0 4 (dk_at dksX7_isDigit_0 13 rfl rfl)
theorem dX7_isDigit_16 : decode cX7_isDigit 16 = .ok (.iconst 0, 1) := dk_3 (dk_at dksX7_isDigit_0 16 rfl rfl)
theorem dX7_isDigit_17 : decode cX7_isDigit 17 = .ok (.ireturn, 1) := dk_172 (dk_at dksX7_isDigit_0 17 rfl rfl)
abbrev cX7_all : ByteArray := prog_8_method_13_code
def yX7_all : MethodName := ⟨RX7, "all", "()I"⟩
def dkwX7_all_1 : List UInt8 := [167, 0, 4, 3, 4, 182, 0, 76, 42, 182, 0, 19, 132, 1, 1, 167, 255, 220, 27, 172]
abbrev dktX7_all_1 : List UInt8 := dkwX7_all_1 ++ []
def dkwX7_all_0 : List UInt8 := [3, 60, 42, 180, 0, 36, 153, 0, 35, 42, 182, 0, 88, 42, 42, 180, 0, 36, 6, 160, 0, 7, 4]
abbrev dktX7_all_0 : List UInt8 := dkwX7_all_0 ++ dktX7_all_1
theorem dksX7_all_0 : cX7_all.data.toList.drop 0 = dktX7_all_0 := by decide +kernel
theorem dksX7_all_1 : cX7_all.data.toList.drop 23 = dktX7_all_1 := dk_seg dksX7_all_0 23 rfl rfl
theorem dX7_all_0 : decode cX7_all 0 = .ok (.iconst 0, 1) := dk_3 (dk_at dksX7_all_0 0 rfl rfl)
theorem dX7_all_1 : decode cX7_all 1 = .ok (.istore_n 1, 1) := dk_60 (dk_at dksX7_all_0 1 rfl rfl)
theorem dX7_all_2 : decode cX7_all 2 = .ok (.aload_n 0, 1) := dk_42 (dk_at dksX7_all_0 2 rfl rfl)
theorem dX7_all_3 : decode cX7_all 3 = .ok (.getfield 36, 3) := dk_180 0 36 (dk_at dksX7_all_0 3 rfl rfl)
theorem dX7_all_6 : decode cX7_all 6 = .ok (.ifCond .eq 35, 3) := dk_153 0 35 (dk_at dksX7_all_0 6 rfl rfl)
theorem dX7_all_9 : decode cX7_all 9 = .ok (.aload_n 0, 1) := dk_42 (dk_at dksX7_all_0 9 rfl rfl)
theorem dX7_all_10 : decode cX7_all 10 = .ok (.invokevirtual 88, 3) := dk_182 0 88 (dk_at dksX7_all_0 10 rfl rfl)
theorem dX7_all_13 : decode cX7_all 13 = .ok (.aload_n 0, 1) := dk_42 (dk_at dksX7_all_0 13 rfl rfl)
theorem dX7_all_14 : decode cX7_all 14 = .ok (.aload_n 0, 1) := dk_42 (dk_at dksX7_all_0 14 rfl rfl)
theorem dX7_all_15 : decode cX7_all 15 = .ok (.getfield 36, 3) := dk_180 0 36 (dk_at dksX7_all_0 15 rfl rfl)
theorem dX7_all_18 : decode cX7_all 18 = .ok (.iconst 3, 1) := dk_6 (dk_at dksX7_all_0 18 rfl rfl)
theorem dX7_all_19 : decode cX7_all 19 = .ok (.if_icmp .ne 7, 3) := dk_160 0 7 (dk_at dksX7_all_0 19 rfl rfl)
theorem dX7_all_22 : decode cX7_all 22 = .ok (.iconst 1, 1) := dk_4 (dk_at dksX7_all_0 22 rfl rfl)
theorem dX7_all_23 : decode cX7_all 23 = .ok (.goto 4, 3) := dk_167 0 4 (dk_at dksX7_all_1 0 rfl rfl)
theorem dX7_all_26 : decode cX7_all 26 = .ok (.iconst 0, 1) := dk_3 (dk_at dksX7_all_1 3 rfl rfl)
theorem dX7_all_27 : decode cX7_all 27 = .ok (.iconst 1, 1) := dk_4 (dk_at dksX7_all_1 4 rfl rfl)
theorem dX7_all_28 : decode cX7_all 28 = .ok (.invokevirtual 76, 3) := dk_182 0 76 (dk_at dksX7_all_1 5 rfl rfl)
theorem dX7_all_31 : decode cX7_all 31 = .ok (.aload_n 0, 1) := dk_42 (dk_at dksX7_all_1 8 rfl rfl)
theorem dX7_all_32 : decode cX7_all 32 = .ok (.invokevirtual 19, 3) := dk_182 0 19 (dk_at dksX7_all_1 9 rfl rfl)
theorem dX7_all_35 : decode cX7_all 35 = .ok (.iinc 1 1, 3) := dk_132 1 1 (dk_at dksX7_all_1 12 rfl rfl)
theorem dX7_all_38 : decode cX7_all 38 = .ok (.goto (-36), 3) := dk_167 255 220 (dk_at dksX7_all_1 15 rfl rfl)
theorem dX7_all_41 : decode cX7_all 41 = .ok (.iload_n 1, 1) := dk_27 (dk_at dksX7_all_1 18 rfl rfl)
theorem dX7_all_42 : decode cX7_all 42 = .ok (.ireturn, 1) := dk_172 (dk_at dksX7_all_1 19 rfl rfl)
abbrev cX7_is : ByteArray := prog_8_method_7_code
def yX7_is : MethodName := ⟨RX7, "is", "(Ljava/lang/String;)Z"⟩
def dkwX7_is_2 : List UInt8 := [182, 0, 65, 159, 0, 5, 3, 172, 132, 2, 1, 167, 255, 225, 4, 172]
abbrev dktX7_is_2 : List UInt8 := dkwX7_is_2 ++ []
def dkwX7_is_1 : List UInt8 := [3, 172, 3, 61, 28, 43, 182, 0, 59, 162, 0, 29, 42, 42, 180, 0, 33, 28, 96, 182, 0, 29, 43, 28]
abbrev dktX7_is_1 : List UInt8 := dkwX7_is_1 ++ dktX7_is_2
def dkwX7_is_0 : List UInt8 := [42, 180, 0, 36, 4, 160, 0, 19, 42, 180, 0, 26, 42, 180, 0, 33, 100, 43, 182, 0, 59, 159, 0, 5]
abbrev dktX7_is_0 : List UInt8 := dkwX7_is_0 ++ dktX7_is_1
theorem dksX7_is_0 : cX7_is.data.toList.drop 0 = dktX7_is_0 := by decide +kernel
theorem dksX7_is_1 : cX7_is.data.toList.drop 24 = dktX7_is_1 := dk_seg dksX7_is_0 24 rfl rfl
theorem dksX7_is_2 : cX7_is.data.toList.drop 48 = dktX7_is_2 := dk_seg dksX7_is_1 24 rfl rfl
theorem dX7_is_0 : decode cX7_is 0 = .ok (.aload_n 0, 1) := dk_42 (dk_at dksX7_is_0 0 rfl rfl)
theorem dX7_is_1 : decode cX7_is 1 = .ok (.getfield 36, 3) := dk_180 0 36 (dk_at dksX7_is_0 1 rfl rfl)
theorem dX7_is_4 : decode cX7_is 4 = .ok (.iconst 1, 1) := dk_4 (dk_at dksX7_is_0 4 rfl rfl)
theorem dX7_is_5 : decode cX7_is 5 = .ok (.if_icmp .ne 19, 3) := dk_160 0 19 (dk_at dksX7_is_0 5 rfl rfl)
theorem dX7_is_8 : decode cX7_is 8 = .ok (.aload_n 0, 1) := dk_42 (dk_at dksX7_is_0 8 rfl rfl)
theorem dX7_is_9 : decode cX7_is 9 = .ok (.getfield 26, 3) := dk_180 0 26 (dk_at dksX7_is_0 9 rfl rfl)
theorem dX7_is_12 : decode cX7_is 12 = .ok (.aload_n 0, 1) := dk_42 (dk_at dksX7_is_0 12 rfl rfl)
theorem dX7_is_13 : decode cX7_is 13 = .ok (.getfield 33, 3) := dk_180 0 33 (dk_at dksX7_is_0 13 rfl rfl)
theorem dX7_is_16 : decode cX7_is 16 = .ok (.isub, 1) := dk_100 (dk_at dksX7_is_0 16 rfl rfl)
theorem dX7_is_17 : decode cX7_is 17 = .ok (.aload_n 1, 1) := dk_43 (dk_at dksX7_is_0 17 rfl rfl)
theorem dX7_is_18 : decode cX7_is 18 = .ok (.invokevirtual 59, 3) := dk_182 0 59 (dk_at dksX7_is_0 18 rfl rfl)
theorem dX7_is_21 : decode cX7_is 21 = .ok (.if_icmp .eq 5, 3) := dk_159 0 5 (dk_at dksX7_is_0 21 rfl rfl)
theorem dX7_is_24 : decode cX7_is 24 = .ok (.iconst 0, 1) := dk_3 (dk_at dksX7_is_1 0 rfl rfl)
theorem dX7_is_25 : decode cX7_is 25 = .ok (.ireturn, 1) := dk_172 (dk_at dksX7_is_1 1 rfl rfl)
theorem dX7_is_26 : decode cX7_is 26 = .ok (.iconst 0, 1) := dk_3 (dk_at dksX7_is_1 2 rfl rfl)
theorem dX7_is_27 : decode cX7_is 27 = .ok (.istore_n 2, 1) := dk_61 (dk_at dksX7_is_1 3 rfl rfl)
theorem dX7_is_28 : decode cX7_is 28 = .ok (.iload_n 2, 1) := dk_28 (dk_at dksX7_is_1 4 rfl rfl)
theorem dX7_is_29 : decode cX7_is 29 = .ok (.aload_n 1, 1) := dk_43 (dk_at dksX7_is_1 5 rfl rfl)
theorem dX7_is_30 : decode cX7_is 30 = .ok (.invokevirtual 59, 3) := dk_182 0 59 (dk_at dksX7_is_1 6 rfl rfl)
theorem dX7_is_33 : decode cX7_is 33 = .ok (.if_icmp .ge 29, 3) := dk_162 0 29 (dk_at dksX7_is_1 9 rfl rfl)
theorem dX7_is_36 : decode cX7_is 36 = .ok (.aload_n 0, 1) := dk_42 (dk_at dksX7_is_1 12 rfl rfl)
theorem dX7_is_37 : decode cX7_is 37 = .ok (.aload_n 0, 1) := dk_42 (dk_at dksX7_is_1 13 rfl rfl)
theorem dX7_is_38 : decode cX7_is 38 = .ok (.getfield 33, 3) := dk_180 0 33 (dk_at dksX7_is_1 14 rfl rfl)
theorem dX7_is_41 : decode cX7_is 41 = .ok (.iload_n 2, 1) := dk_28 (dk_at dksX7_is_1 17 rfl rfl)
theorem dX7_is_42 : decode cX7_is 42 = .ok (.iadd, 1) := dk_96 (dk_at dksX7_is_1 18 rfl rfl)
theorem dX7_is_43 : decode cX7_is 43 = .ok (.invokevirtual 29, 3) := dk_182 0 29 (dk_at dksX7_is_1 19 rfl rfl)
theorem dX7_is_46 : decode cX7_is 46 = .ok (.aload_n 1, 1) := dk_43 (dk_at dksX7_is_1 22 rfl rfl)
theorem dX7_is_47 : decode cX7_is 47 = .ok (.iload_n 2, 1) := dk_28 (dk_at dksX7_is_1 23 rfl rfl)
theorem dX7_is_48 : decode cX7_is 48 = .ok (.invokevirtual 65, 3) := dk_182 0 65 (dk_at dksX7_is_2 0 rfl rfl)
theorem dX7_is_51 : decode cX7_is 51 = .ok (.if_icmp .eq 5, 3) := dk_159 0 5 (dk_at dksX7_is_2 3 rfl rfl)
theorem dX7_is_54 : decode cX7_is 54 = .ok (.iconst 0, 1) := dk_3 (dk_at dksX7_is_2 6 rfl rfl)
theorem dX7_is_55 : decode cX7_is 55 = .ok (.ireturn, 1) := dk_172 (dk_at dksX7_is_2 7 rfl rfl)
theorem dX7_is_56 : decode cX7_is 56 = .ok (.iinc 2 1, 3) := dk_132 2 1 (dk_at dksX7_is_2 8 rfl rfl)
theorem dX7_is_59 : decode cX7_is 59 = .ok (.goto (-31), 3) := dk_167 255 225 (dk_at dksX7_is_2 11 rfl rfl)
theorem dX7_is_62 : decode cX7_is 62 = .ok (.iconst 1, 1) := dk_4 (dk_at dksX7_is_2 14 rfl rfl)
theorem dX7_is_63 : decode cX7_is 63 = .ok (.ireturn, 1) := dk_172 (dk_at dksX7_is_2 15 rfl rfl)
abbrev cX7_ask : ByteArray := prog_8_method_6_code
def yX7_ask : MethodName := ⟨RX7, "ask", "(ZI)V"⟩
def dkwX7_ask_0 : List UInt8 := [27, 154, 0, 19, 42, 180, 0, 3, 180, 0, 49, 28, 42, 180, 0, 33, 182, 0, 53, 191, 177]
abbrev dktX7_ask_0 : List UInt8 := dkwX7_ask_0 ++ []
theorem dksX7_ask_0 : cX7_ask.data.toList.drop 0 = dktX7_ask_0 := by decide +kernel
theorem dX7_ask_0 : decode cX7_ask 0 = .ok (.iload_n 1, 1) := dk_27 (dk_at dksX7_ask_0 0 rfl rfl)
theorem dX7_ask_1 : decode cX7_ask 1 = .ok (.ifCond .ne 19, 3) := dk_154 0 19 (dk_at dksX7_ask_0 1 rfl rfl)
theorem dX7_ask_4 : decode cX7_ask 4 = .ok (.aload_n 0, 1) := dk_42 (dk_at dksX7_ask_0 4 rfl rfl)
theorem dX7_ask_5 : decode cX7_ask 5 = .ok (.getfield 3, 3) := dk_180 0 3 (dk_at dksX7_ask_0 5 rfl rfl)
theorem dX7_ask_8 : decode cX7_ask 8 = .ok (.getfield 49, 3) := dk_180 0 49 (dk_at dksX7_ask_0 8 rfl rfl)
theorem dX7_ask_11 : decode cX7_ask 11 = .ok (.iload_n 2, 1) := dk_28 (dk_at dksX7_ask_0 11 rfl rfl)
theorem dX7_ask_12 : decode cX7_ask 12 = .ok (.aload_n 0, 1) := dk_42 (dk_at dksX7_ask_0 12 rfl rfl)
theorem dX7_ask_13 : decode cX7_ask 13 = .ok (.getfield 33, 3) := dk_180 0 33 (dk_at dksX7_ask_0 13 rfl rfl)
theorem dX7_ask_16 : decode cX7_ask 16 = .ok (.invokevirtual 53, 3) := dk_182 0 53 (dk_at dksX7_ask_0 16 rfl rfl)
theorem dX7_ask_19 : decode cX7_ask 19 = .ok (.athrow, 1) := dk_191 (dk_at dksX7_ask_0 19 rfl rfl)
theorem dX7_ask_20 : decode cX7_ask 20 = .ok (.return_, 1) := dk_177 (dk_at dksX7_ask_0 20 rfl rfl)
abbrev cX7_begins : ByteArray := prog_8_method_9_code
def yX7_begins : MethodName := ⟨RX7, "begins", "(Ljava/lang/String;I)Z"⟩
def dkwX7_begins_2 : List UInt8 := [4, 172]
abbrev dktX7_begins_2 : List UInt8 := dkwX7_begins_2 ++ []
def dkwX7_begins_1 : List UInt8 := [167, 0, 4, 3, 6, 182, 0, 76, 42, 89, 180, 0, 73, 4, 28, 120, 128, 181, 0, 73, 42, 182, 0, 19]
abbrev dktX7_begins_1 : List UInt8 := dkwX7_begins_1 ++ dktX7_begins_2
def dkwX7_begins_0 : List UInt8 := [42, 43, 182, 0, 69, 154, 0, 5, 3, 172, 42, 42, 180, 0, 73, 28, 122, 4, 126, 154, 0, 7, 4]
abbrev dktX7_begins_0 : List UInt8 := dkwX7_begins_0 ++ dktX7_begins_1
theorem dksX7_begins_0 : cX7_begins.data.toList.drop 0 = dktX7_begins_0 := by decide +kernel
theorem dksX7_begins_1 : cX7_begins.data.toList.drop 23 = dktX7_begins_1 := dk_seg dksX7_begins_0 23 rfl rfl
theorem dksX7_begins_2 : cX7_begins.data.toList.drop 47 = dktX7_begins_2 := dk_seg dksX7_begins_1 24 rfl rfl
theorem dX7_begins_0 : decode cX7_begins 0 = .ok (.aload_n 0, 1) := dk_42 (dk_at dksX7_begins_0 0 rfl rfl)
theorem dX7_begins_1 : decode cX7_begins 1 = .ok (.aload_n 1, 1) := dk_43 (dk_at dksX7_begins_0 1 rfl rfl)
theorem dX7_begins_2 : decode cX7_begins 2 = .ok (.invokevirtual 69, 3) := dk_182 0 69 (dk_at dksX7_begins_0 2 rfl rfl)
theorem dX7_begins_5 : decode cX7_begins 5 = .ok (.ifCond .ne 5, 3) := dk_154 0 5 (dk_at dksX7_begins_0 5 rfl rfl)
theorem dX7_begins_8 : decode cX7_begins 8 = .ok (.iconst 0, 1) := dk_3 (dk_at dksX7_begins_0 8 rfl rfl)
theorem dX7_begins_9 : decode cX7_begins 9 = .ok (.ireturn, 1) := dk_172 (dk_at dksX7_begins_0 9 rfl rfl)
theorem dX7_begins_10 : decode cX7_begins 10 = .ok (.aload_n 0, 1) := dk_42 (dk_at dksX7_begins_0 10 rfl rfl)
theorem dX7_begins_11 : decode cX7_begins 11 = .ok (.aload_n 0, 1) := dk_42 (dk_at dksX7_begins_0 11 rfl rfl)
theorem dX7_begins_12 : decode cX7_begins 12 = .ok (.getfield 73, 3) := dk_180 0 73 (dk_at dksX7_begins_0 12 rfl rfl)
theorem dX7_begins_15 : decode cX7_begins 15 = .ok (.iload_n 2, 1) := dk_28 (dk_at dksX7_begins_0 15 rfl rfl)
theorem dX7_begins_16 : decode cX7_begins 16 = .ok (.ishr, 1) := dk_122 (dk_at dksX7_begins_0 16 rfl rfl)
theorem dX7_begins_17 : decode cX7_begins 17 = .ok (.iconst 1, 1) := dk_4 (dk_at dksX7_begins_0 17 rfl rfl)
theorem dX7_begins_18 : decode cX7_begins 18 = .ok (.iand, 1) := dk_126 (dk_at dksX7_begins_0 18 rfl rfl)
theorem dX7_begins_19 : decode cX7_begins 19 = .ok (.ifCond .ne 7, 3) := dk_154 0 7 (dk_at dksX7_begins_0 19 rfl rfl)
theorem dX7_begins_22 : decode cX7_begins 22 = .ok (.iconst 1, 1) := dk_4 (dk_at dksX7_begins_0 22 rfl rfl)
theorem dX7_begins_23 : decode cX7_begins 23 = .ok (.goto 4, 3) := dk_167 0 4 (dk_at dksX7_begins_1 0 rfl rfl)
theorem dX7_begins_26 : decode cX7_begins 26 = .ok (.iconst 0, 1) := dk_3 (dk_at dksX7_begins_1 3 rfl rfl)
theorem dX7_begins_27 : decode cX7_begins 27 = .ok (.iconst 3, 1) := dk_6 (dk_at dksX7_begins_1 4 rfl rfl)
theorem dX7_begins_28 : decode cX7_begins 28 = .ok (.invokevirtual 76, 3) := dk_182 0 76 (dk_at dksX7_begins_1 5 rfl rfl)
theorem dX7_begins_31 : decode cX7_begins 31 = .ok (.aload_n 0, 1) := dk_42 (dk_at dksX7_begins_1 8 rfl rfl)
theorem dX7_begins_32 : decode cX7_begins 32 = .ok (.dup, 1) := dk_89 (dk_at dksX7_begins_1 9 rfl rfl)
theorem dX7_begins_33 : decode cX7_begins 33 = .ok (.getfield 73, 3) := dk_180 0 73 (dk_at dksX7_begins_1 10 rfl rfl)
theorem dX7_begins_36 : decode cX7_begins 36 = .ok (.iconst 1, 1) := dk_4 (dk_at dksX7_begins_1 13 rfl rfl)
theorem dX7_begins_37 : decode cX7_begins 37 = .ok (.iload_n 2, 1) := dk_28 (dk_at dksX7_begins_1 14 rfl rfl)
theorem dX7_begins_38 : decode cX7_begins 38 = .ok (.ishl, 1) := dk_120 (dk_at dksX7_begins_1 15 rfl rfl)
theorem dX7_begins_39 : decode cX7_begins 39 = .ok (.ior, 1) := dk_128 (dk_at dksX7_begins_1 16 rfl rfl)
theorem dX7_begins_40 : decode cX7_begins 40 = .ok (.putfield 73, 3) := dk_181 0 73 (dk_at dksX7_begins_1 17 rfl rfl)
theorem dX7_begins_43 : decode cX7_begins 43 = .ok (.aload_n 0, 1) := dk_42 (dk_at dksX7_begins_1 20 rfl rfl)
theorem dX7_begins_44 : decode cX7_begins 44 = .ok (.invokevirtual 19, 3) := dk_182 0 19 (dk_at dksX7_begins_1 21 rfl rfl)
theorem dX7_begins_47 : decode cX7_begins 47 = .ok (.iconst 1, 1) := dk_4 (dk_at dksX7_begins_2 0 rfl rfl)
theorem dX7_begins_48 : decode cX7_begins 48 = .ok (.ireturn, 1) := dk_172 (dk_at dksX7_begins_2 1 rfl rfl)
abbrev cX7_number : ByteArray := prog_8_method_11_code
def yX7_number : MethodName := ⟨RX7, "number", "(II)I"⟩
def dkwX7_number_0 : List UInt8 := [42, 27, 28, 182, 0, 84, 62, 42, 182, 0, 19, 29, 172]
abbrev dktX7_number_0 : List UInt8 := dkwX7_number_0 ++ []
theorem dksX7_number_0 : cX7_number.data.toList.drop 0 = dktX7_number_0 := by decide +kernel
theorem dX7_number_0 : decode cX7_number 0 = .ok (.aload_n 0, 1) := dk_42 (dk_at dksX7_number_0 0 rfl rfl)
theorem dX7_number_1 : decode cX7_number 1 = .ok (.iload_n 1, 1) := dk_27 (dk_at dksX7_number_0 1 rfl rfl)
theorem dX7_number_2 : decode cX7_number 2 = .ok (.iload_n 2, 1) := dk_28 (dk_at dksX7_number_0 2 rfl rfl)
theorem dX7_number_3 : decode cX7_number 3 = .ok (.invokevirtual 84, 3) := dk_182 0 84 (dk_at dksX7_number_0 3 rfl rfl)
theorem dX7_number_6 : decode cX7_number 6 = .ok (.istore_n 3, 1) := dk_62 (dk_at dksX7_number_0 6 rfl rfl)
theorem dX7_number_7 : decode cX7_number 7 = .ok (.aload_n 0, 1) := dk_42 (dk_at dksX7_number_0 7 rfl rfl)
theorem dX7_number_8 : decode cX7_number 8 = .ok (.invokevirtual 19, 3) := dk_182 0 19 (dk_at dksX7_number_0 8 rfl rfl)
theorem dX7_number_11 : decode cX7_number 11 = .ok (.iload_n 3, 1) := dk_29 (dk_at dksX7_number_0 11 rfl rfl)
theorem dX7_number_12 : decode cX7_number 12 = .ok (.ireturn, 1) := dk_172 (dk_at dksX7_number_0 12 rfl rfl)
abbrev cX7_within : ByteArray := prog_8_method_10_code
def yX7_within : MethodName := ⟨RX7, "within", "(II)I"⟩
def dkwX7_within_1 : List UInt8 := [28, 184, 0, 80, 5, 182, 0, 76, 42, 180, 0, 46, 172]
abbrev dktX7_within_1 : List UInt8 := dkwX7_within_1 ++ []
def dkwX7_within_0 : List UInt8 := [42, 42, 180, 0, 36, 5, 160, 0, 7, 4, 167, 0, 4, 3, 4, 182, 0, 76, 42, 42, 180, 0, 46, 27]
abbrev dktX7_within_0 : List UInt8 := dkwX7_within_0 ++ dktX7_within_1
theorem dksX7_within_0 : cX7_within.data.toList.drop 0 = dktX7_within_0 := by decide +kernel
theorem dksX7_within_1 : cX7_within.data.toList.drop 24 = dktX7_within_1 := dk_seg dksX7_within_0 24 rfl rfl
theorem dX7_within_0 : decode cX7_within 0 = .ok (.aload_n 0, 1) := dk_42 (dk_at dksX7_within_0 0 rfl rfl)
theorem dX7_within_1 : decode cX7_within 1 = .ok (.aload_n 0, 1) := dk_42 (dk_at dksX7_within_0 1 rfl rfl)
theorem dX7_within_2 : decode cX7_within 2 = .ok (.getfield 36, 3) := dk_180 0 36 (dk_at dksX7_within_0 2 rfl rfl)
theorem dX7_within_5 : decode cX7_within 5 = .ok (.iconst 2, 1) := dk_5 (dk_at dksX7_within_0 5 rfl rfl)
theorem dX7_within_6 : decode cX7_within 6 = .ok (.if_icmp .ne 7, 3) := dk_160 0 7 (dk_at dksX7_within_0 6 rfl rfl)
theorem dX7_within_9 : decode cX7_within 9 = .ok (.iconst 1, 1) := dk_4 (dk_at dksX7_within_0 9 rfl rfl)
theorem dX7_within_10 : decode cX7_within 10 = .ok (.goto 4, 3) := dk_167 0 4 (dk_at dksX7_within_0 10 rfl rfl)
theorem dX7_within_13 : decode cX7_within 13 = .ok (.iconst 0, 1) := dk_3 (dk_at dksX7_within_0 13 rfl rfl)
theorem dX7_within_14 : decode cX7_within 14 = .ok (.iconst 1, 1) := dk_4 (dk_at dksX7_within_0 14 rfl rfl)
theorem dX7_within_15 : decode cX7_within 15 = .ok (.invokevirtual 76, 3) := dk_182 0 76 (dk_at dksX7_within_0 15 rfl rfl)
theorem dX7_within_18 : decode cX7_within 18 = .ok (.aload_n 0, 1) := dk_42 (dk_at dksX7_within_0 18 rfl rfl)
theorem dX7_within_19 : decode cX7_within 19 = .ok (.aload_n 0, 1) := dk_42 (dk_at dksX7_within_0 19 rfl rfl)
theorem dX7_within_20 : decode cX7_within 20 = .ok (.getfield 46, 3) := dk_180 0 46 (dk_at dksX7_within_0 20 rfl rfl)
theorem dX7_within_23 : decode cX7_within 23 = .ok (.iload_n 1, 1) := dk_27 (dk_at dksX7_within_0 23 rfl rfl)
theorem dX7_within_24 : decode cX7_within 24 = .ok (.iload_n 2, 1) := dk_28 (dk_at dksX7_within_1 0 rfl rfl)
theorem dX7_within_25 : decode cX7_within 25 = .ok (.invokestatic 80, 3) := dk_184 0 80 (dk_at dksX7_within_1 1 rfl rfl)
theorem dX7_within_28 : decode cX7_within 28 = .ok (.iconst 2, 1) := dk_5 (dk_at dksX7_within_1 4 rfl rfl)
theorem dX7_within_29 : decode cX7_within 29 = .ok (.invokevirtual 76, 3) := dk_182 0 76 (dk_at dksX7_within_1 5 rfl rfl)
theorem dX7_within_32 : decode cX7_within 32 = .ok (.aload_n 0, 1) := dk_42 (dk_at dksX7_within_1 8 rfl rfl)
theorem dX7_within_33 : decode cX7_within 33 = .ok (.getfield 46, 3) := dk_180 0 46 (dk_at dksX7_within_1 9 rfl rfl)
theorem dX7_within_36 : decode cX7_within 36 = .ok (.ireturn, 1) := dk_172 (dk_at dksX7_within_1 12 rfl rfl)
theorem q102 : (Jvm.Cond.initialized "TideKeep$Reader") ∈ lw_all := lw_g (lw_at lw_m1 15 rfl) rfl
theorem q450 : (Jvm.Cond.fieldLinkNest "TideKeep$Reader" (49 : Nat) "TideKeep" "wrong" "LTideKeep$Wrong;" "TideKeep") ∈ lw_tbl := lw_at lw_m2 123 rfl
theorem q451 : (Jvm.Cond.fieldLinkNest "TideKeep$Reader" (22 : Nat) "TideKeep" "tape" "[B" "TideKeep") ∈ lw_tbl := lw_at lw_m2 124 rfl
theorem q561 : (Jvm.Cond.instanceMethod ({ cls := "TideKeep$Reader", name := "<init>", desc := "(LTideKeep;I)V" } : Jvm.MethodName)) ∈ lw_all := lw_g (lw_at lw_m2 234 rfl) rfl
theorem q562 : (Jvm.Cond.code ({ cls := "TideKeep$Reader", name := "<init>", desc := "(LTideKeep;I)V" } : Jvm.MethodName) prog_8_method_1_code (3 : Nat) (Option.none : Option Jvm.ClassFile.FieldType)) ∈ lw_all := lw_g (lw_at lw_m2 235 rfl) rfl
theorem q563 : (Jvm.Cond.methodLink "TideKeep$Reader" (9 : Nat) ({ cls := "java/lang/Object", name := "<init>", desc := "()V" } : Jvm.MethodName)) ∈ lw_all := lw_g (lw_at lw_m2 236 rfl) rfl
theorem q564 : (Jvm.Cond.methodLink "TideKeep$Reader" (19 : Nat) ({ cls := "TideKeep$Reader", name := "goOn", desc := "()V" } : Jvm.MethodName)) ∈ lw_all := lw_g (lw_at lw_m2 237 rfl) rfl
theorem q565 : (Jvm.Cond.instanceMethod ({ cls := "TideKeep$Reader", name := "goOn", desc := "()V" } : Jvm.MethodName)) ∈ lw_all := lw_g (lw_at lw_m2 238 rfl) rfl
theorem q566 : (Jvm.Cond.sameMethod "TideKeep$Reader" "TideKeep$Reader" "goOn" "()V") ∈ lw_all := lw_g (lw_at lw_m2 239 rfl) rfl
theorem q570 : (Jvm.Cond.code ({ cls := "TideKeep$Reader", name := "goOn", desc := "()V" } : Jvm.MethodName) prog_8_method_5_code (3 : Nat) (Option.none : Option Jvm.ClassFile.FieldType)) ∈ lw_all := lw_g (lw_at lw_m3 3 rfl) rfl
theorem q571 : (Jvm.Cond.methodLink "TideKeep$Reader" (29 : Nat) ({ cls := "TideKeep$Reader", name := "see", desc := "(I)I" } : Jvm.MethodName)) ∈ lw_all := lw_g (lw_at lw_m3 4 rfl) rfl
theorem q572 : (Jvm.Cond.privateMethod ({ cls := "TideKeep$Reader", name := "see", desc := "(I)I" } : Jvm.MethodName)) ∈ lw_tbl := lw_at lw_m3 5 rfl
theorem q573 : (Jvm.Cond.instanceMethod ({ cls := "TideKeep$Reader", name := "see", desc := "(I)I" } : Jvm.MethodName)) ∈ lw_all := lw_g (lw_at lw_m3 6 rfl) rfl
theorem q574 : (Jvm.Cond.code ({ cls := "TideKeep$Reader", name := "see", desc := "(I)I" } : Jvm.MethodName) prog_8_method_2_code (2 : Nat) (Option.some Jvm.ClassFile.FieldType.int)) ∈ lw_all := lw_g (lw_at lw_m3 7 rfl) rfl
theorem q575 : (Jvm.Cond.methodLink "TideKeep$Reader" (39 : Nat) ({ cls := "TideKeep$Reader", name := "isSmall", desc := "(I)Z" } : Jvm.MethodName)) ∈ lw_all := lw_g (lw_at lw_m3 8 rfl) rfl
theorem q576 : (Jvm.Cond.privateMethod ({ cls := "TideKeep$Reader", name := "isSmall", desc := "(I)Z" } : Jvm.MethodName)) ∈ lw_tbl := lw_at lw_m3 9 rfl
theorem q577 : (Jvm.Cond.instanceMethod ({ cls := "TideKeep$Reader", name := "isSmall", desc := "(I)Z" } : Jvm.MethodName)) ∈ lw_all := lw_g (lw_at lw_m3 10 rfl) rfl
theorem q578 : (Jvm.Cond.code ({ cls := "TideKeep$Reader", name := "isSmall", desc := "(I)Z" } : Jvm.MethodName) prog_8_method_3_code (2 : Nat) (Option.some Jvm.ClassFile.FieldType.boolean)) ∈ lw_all := lw_g (lw_at lw_m3 11 rfl) rfl
theorem q579 : (Jvm.Cond.methodLink "TideKeep$Reader" (43 : Nat) ({ cls := "TideKeep$Reader", name := "isDigit", desc := "(I)Z" } : Jvm.MethodName)) ∈ lw_all := lw_g (lw_at lw_m3 12 rfl) rfl
theorem q580 : (Jvm.Cond.privateMethod ({ cls := "TideKeep$Reader", name := "isDigit", desc := "(I)Z" } : Jvm.MethodName)) ∈ lw_tbl := lw_at lw_m3 13 rfl
theorem q581 : (Jvm.Cond.instanceMethod ({ cls := "TideKeep$Reader", name := "isDigit", desc := "(I)Z" } : Jvm.MethodName)) ∈ lw_all := lw_g (lw_at lw_m3 14 rfl) rfl
theorem q582 : (Jvm.Cond.code ({ cls := "TideKeep$Reader", name := "isDigit", desc := "(I)Z" } : Jvm.MethodName) prog_8_method_4_code (2 : Nat) (Option.some Jvm.ClassFile.FieldType.boolean)) ∈ lw_all := lw_g (lw_at lw_m3 15 rfl) rfl
theorem q602 : (Jvm.Cond.fieldLink "TideKeep$Reader" (15 : Nat) "TideKeep$Reader" "size" "I") ∈ lw_all := lw_g (lw_at lw_m3 35 rfl) rfl
theorem q603 : (Jvm.Cond.fieldLink "TideKeep$Reader" (36 : Nat) "TideKeep$Reader" "sort" "I") ∈ lw_all := lw_g (lw_at lw_m3 36 rfl) rfl
theorem q604 : (Jvm.Cond.fieldLink "TideKeep$Reader" (33 : Nat) "TideKeep$Reader" "at" "I") ∈ lw_all := lw_g (lw_at lw_m3 37 rfl) rfl
theorem q605 : (Jvm.Cond.fieldLink "TideKeep$Reader" (26 : Nat) "TideKeep$Reader" "to" "I") ∈ lw_all := lw_g (lw_at lw_m3 38 rfl) rfl
theorem q606 : (Jvm.Cond.fieldLink "TideKeep$Reader" (46 : Nat) "TideKeep$Reader" "value" "I") ∈ lw_all := lw_g (lw_at lw_m3 39 rfl) rfl
theorem q608 : (Jvm.Cond.fieldLink "TideKeep$Reader" (73 : Nat) "TideKeep$Reader" "told" "I") ∈ lw_all := lw_g (lw_at lw_m3 41 rfl) rfl
theorem q609 : (Jvm.Cond.fieldLink "TideKeep$Reader" (3 : Nat) "TideKeep$Reader" "this$0" "LTideKeep;") ∈ lw_all := lw_g (lw_at lw_m3 42 rfl) rfl
theorem q619 : (Jvm.Cond.soleField "TideKeep$Reader" "size") ∈ lw_all := lw_g (lw_at lw_m3 52 rfl) rfl
theorem q621 : (Jvm.Cond.soleField "TideKeep$Reader" "sort") ∈ lw_all := lw_g (lw_at lw_m3 54 rfl) rfl
theorem q623 : (Jvm.Cond.soleField "TideKeep$Reader" "at") ∈ lw_all := lw_g (lw_at lw_m3 56 rfl) rfl
theorem q625 : (Jvm.Cond.soleField "TideKeep$Reader" "to") ∈ lw_all := lw_g (lw_at lw_m3 58 rfl) rfl
theorem q627 : (Jvm.Cond.soleField "TideKeep$Reader" "value") ∈ lw_all := lw_g (lw_at lw_m3 60 rfl) rfl
theorem q629 : (Jvm.Cond.soleField "TideKeep$Reader" "told") ∈ lw_all := lw_g (lw_at lw_m3 62 rfl) rfl
theorem q631 : (Jvm.Cond.soleField "TideKeep$Reader" "this$0") ∈ lw_all := lw_g (lw_at lw_m3 64 rfl) rfl
theorem q639 : (Jvm.Cond.declares ({ cls := "TideKeep$Reader", name := "all", desc := "()I" } : Jvm.MethodName)) ∈ lw_tbl := lw_at lw_m3 72 rfl
theorem q641 : (Jvm.Cond.instanceMethod ({ cls := "TideKeep$Reader", name := "all", desc := "()I" } : Jvm.MethodName)) ∈ lw_all := lw_g (lw_at lw_m3 74 rfl) rfl
theorem q642 : (Jvm.Cond.code ({ cls := "TideKeep$Reader", name := "all", desc := "()I" } : Jvm.MethodName) prog_8_method_13_code (2 : Nat) (Option.some Jvm.ClassFile.FieldType.int)) ∈ lw_all := lw_g (lw_at lw_m3 75 rfl) rfl
theorem q643 : (Jvm.Cond.methodLink "TideKeep$Reader" (88 : Nat) ({ cls := "TideKeep$Reader", name := "clause", desc := "()V" } : Jvm.MethodName)) ∈ lw_all := lw_g (lw_at lw_m3 76 rfl) rfl
theorem q644 : (Jvm.Cond.declares ({ cls := "TideKeep$Reader", name := "clause", desc := "()V" } : Jvm.MethodName)) ∈ lw_tbl := lw_at lw_m3 77 rfl
theorem q645 : (Jvm.Cond.sameMethod "TideKeep$Reader" "TideKeep$Reader" "clause" "()V") ∈ lw_all := lw_g (lw_at lw_m3 78 rfl) rfl
theorem q652 : (Jvm.Cond.declares ({ cls := "TideKeep$Reader", name := "is", desc := "(Ljava/lang/String;)Z" } : Jvm.MethodName)) ∈ lw_tbl := lw_at lw_m3 85 rfl
theorem q654 : (Jvm.Cond.instanceMethod ({ cls := "TideKeep$Reader", name := "is", desc := "(Ljava/lang/String;)Z" } : Jvm.MethodName)) ∈ lw_all := lw_g (lw_at lw_m3 87 rfl) rfl
theorem q655 : (Jvm.Cond.code ({ cls := "TideKeep$Reader", name := "is", desc := "(Ljava/lang/String;)Z" } : Jvm.MethodName) prog_8_method_7_code (3 : Nat) (Option.some Jvm.ClassFile.FieldType.boolean)) ∈ lw_all := lw_g (lw_at lw_m3 88 rfl) rfl
theorem q656 : (Jvm.Cond.methodLink "TideKeep$Reader" (59 : Nat) ({ cls := "java/lang/String", name := "length", desc := "()I" } : Jvm.MethodName)) ∈ lw_all := lw_g (lw_at lw_m3 89 rfl) rfl
theorem q666 : (Jvm.Cond.methodLink "TideKeep$Reader" (65 : Nat) ({ cls := "java/lang/String", name := "charAt", desc := "(I)C" } : Jvm.MethodName)) ∈ lw_all := lw_g (lw_at lw_m3 99 rfl) rfl
theorem q710 : (Jvm.Cond.declares ({ cls := "TideKeep$Reader", name := "ask", desc := "(ZI)V" } : Jvm.MethodName)) ∈ lw_tbl := lw_at lw_m3 143 rfl
theorem q712 : (Jvm.Cond.instanceMethod ({ cls := "TideKeep$Reader", name := "ask", desc := "(ZI)V" } : Jvm.MethodName)) ∈ lw_all := lw_g (lw_at lw_m3 145 rfl) rfl
theorem q713 : (Jvm.Cond.code ({ cls := "TideKeep$Reader", name := "ask", desc := "(ZI)V" } : Jvm.MethodName) prog_8_method_6_code (3 : Nat) (Option.none : Option Jvm.ClassFile.FieldType)) ∈ lw_all := lw_g (lw_at lw_m3 146 rfl) rfl
theorem q714 : (Jvm.Cond.methodLink "TideKeep$Reader" (53 : Nat) ({ cls := "TideKeep$Wrong", name := "by", desc := "(II)LTideKeep$Wrong;" } : Jvm.MethodName)) ∈ lw_all := lw_g (lw_at lw_m3 147 rfl) rfl
theorem q720 : (Jvm.Cond.declares ({ cls := "TideKeep$Reader", name := "begins", desc := "(Ljava/lang/String;I)Z" } : Jvm.MethodName)) ∈ lw_tbl := lw_at lw_m3 153 rfl
theorem q722 : (Jvm.Cond.instanceMethod ({ cls := "TideKeep$Reader", name := "begins", desc := "(Ljava/lang/String;I)Z" } : Jvm.MethodName)) ∈ lw_all := lw_g (lw_at lw_m3 155 rfl) rfl
theorem q723 : (Jvm.Cond.code ({ cls := "TideKeep$Reader", name := "begins", desc := "(Ljava/lang/String;I)Z" } : Jvm.MethodName) prog_8_method_9_code (3 : Nat) (Option.some Jvm.ClassFile.FieldType.boolean)) ∈ lw_all := lw_g (lw_at lw_m3 156 rfl) rfl
theorem q724 : (Jvm.Cond.methodLink "TideKeep$Reader" (69 : Nat) ({ cls := "TideKeep$Reader", name := "is", desc := "(Ljava/lang/String;)Z" } : Jvm.MethodName)) ∈ lw_all := lw_g (lw_at lw_m3 157 rfl) rfl
theorem q725 : (Jvm.Cond.methodLink "TideKeep$Reader" (76 : Nat) ({ cls := "TideKeep$Reader", name := "ask", desc := "(ZI)V" } : Jvm.MethodName)) ∈ lw_all := lw_g (lw_at lw_m3 158 rfl) rfl
theorem q728 : (Jvm.Cond.declares ({ cls := "TideKeep$Reader", name := "number", desc := "(II)I" } : Jvm.MethodName)) ∈ lw_tbl := lw_at lw_m3 161 rfl
theorem q730 : (Jvm.Cond.instanceMethod ({ cls := "TideKeep$Reader", name := "number", desc := "(II)I" } : Jvm.MethodName)) ∈ lw_all := lw_g (lw_at lw_m3 163 rfl) rfl
theorem q731 : (Jvm.Cond.code ({ cls := "TideKeep$Reader", name := "number", desc := "(II)I" } : Jvm.MethodName) prog_8_method_11_code (4 : Nat) (Option.some Jvm.ClassFile.FieldType.int)) ∈ lw_all := lw_g (lw_at lw_m3 164 rfl) rfl
theorem q732 : (Jvm.Cond.methodLink "TideKeep$Reader" (84 : Nat) ({ cls := "TideKeep$Reader", name := "within", desc := "(II)I" } : Jvm.MethodName)) ∈ lw_all := lw_g (lw_at lw_m3 165 rfl) rfl
theorem q733 : (Jvm.Cond.instanceMethod ({ cls := "TideKeep$Reader", name := "within", desc := "(II)I" } : Jvm.MethodName)) ∈ lw_all := lw_g (lw_at lw_m3 166 rfl) rfl
theorem q734 : (Jvm.Cond.sameMethod "TideKeep$Reader" "TideKeep$Reader" "within" "(II)I") ∈ lw_all := lw_g (lw_at lw_m3 167 rfl) rfl
theorem q738 : (Jvm.Cond.code ({ cls := "TideKeep$Reader", name := "within", desc := "(II)I" } : Jvm.MethodName) prog_8_method_10_code (3 : Nat) (Option.some Jvm.ClassFile.FieldType.int)) ∈ lw_all := lw_g (lw_at lw_m3 171 rfl) rfl
theorem q739 : (Jvm.Cond.methodLinkNest "TideKeep$Reader" (80 : Nat) ({ cls := "TideKeep", name := "in", desc := "(III)Z" } : Jvm.MethodName) "TideKeep") ∈ lw_tbl := lw_at lw_m3 172 rfl
theorem q751 : (Jvm.Cond.declares ({ cls := "TideKeep$Reader", name := "goOn", desc := "()V" } : Jvm.MethodName)) ∈ lw_tbl := lw_at lw_m3 184 rfl
theorem q755 : (Jvm.Cond.declares ({ cls := "TideKeep$Reader", name := "within", desc := "(II)I" } : Jvm.MethodName)) ∈ lw_tbl := lw_at lw_m3 188 rfl
theorem q1993 : (Jvm.Cond.sameMethod "TideKeep$Reader" "TideKeep$Reader" "see" "(I)I") ∈ lw_all := lw_g (lw_at lw_m8 226 rfl) rfl
theorem q1994 : (Jvm.Cond.sameMethod "TideKeep$Reader" "TideKeep$Reader" "isSmall" "(I)Z") ∈ lw_all := lw_g (lw_at lw_m8 227 rfl) rfl
theorem q1995 : (Jvm.Cond.sameMethod "TideKeep$Reader" "TideKeep$Reader" "isDigit" "(I)Z") ∈ lw_all := lw_g (lw_at lw_m8 228 rfl) rfl
theorem q1996 : (Jvm.Cond.sameMethod "TideKeep$Reader" "TideKeep$Reader" "is" "(Ljava/lang/String;)Z") ∈ lw_all := lw_g (lw_at lw_m8 229 rfl) rfl
theorem q2000 : (Jvm.Cond.sameMethod "TideKeep$Reader" "TideKeep$Reader" "ask" "(ZI)V") ∈ lw_all := lw_g (lw_at lw_m8 233 rfl) rfl

/-! TideKeep$BeachReader -/
set_option maxRecDepth 100000
def RX8 : String := "TideKeep$BeachReader"
def TX8 : u_T := fun k => match k with
  | 0 => ("TideKeep$Reader", "size", "I", true)
  | 1 => ("TideKeep$Reader", "sort", "I", false)
  | 2 => ("TideKeep$Reader", "at", "I", false)
  | 3 => ("TideKeep$Reader", "to", "I", false)
  | 4 => ("TideKeep$Reader", "value", "I", false)
  | 5 => ("TideKeep$Reader", "told", "I", false)
  | 6 => ("TideKeep$Reader", "this$0", "LTideKeep;", true)
  | 7 => ("TideKeep$BeachReader", "made", "LTideKeep$Beach;", true)
  | 8 => ("TideKeep$BeachReader", "kinds", "[LTideKeep$Told;", true)
  | 9 => ("TideKeep$BeachReader", "hasThings", "Z", false)
  | _ => ("TideKeep$BeachReader", "this$0", "LTideKeep;", true)
def tyX8 : Nat → FieldType := fun k => match k with
  | 0 => .int
  | 1 => .int
  | 2 => .int
  | 3 => .int
  | 4 => .int
  | 5 => .int
  | 6 => .object "TideKeep"
  | 7 => .object "TideKeep$Beach"
  | 8 => .array (.object "TideKeep$Told")
  | 9 => .boolean
  | _ => .object "TideKeep"
abbrev wsX80 : List Cond := u_ws RX8 TX8 11
-- two fields of one name: no nmX8
theorem tyX8_ok : ∀ k, k < 11 → parseFieldDescriptor (TX8 k).2.2.1 = some (tyX8 k) := by decide +kernel
abbrev cX8_init : ByteArray := prog_4_method_1_code
def yX8_init : MethodName := ⟨RX8, "<init>", "(LTideKeep;I)V"⟩
def dkwX8_init_1 : List UInt8 := [184, 0, 24, 181, 0, 30, 177]
abbrev dktX8_init_1 : List UInt8 := dkwX8_init_1 ++ []
def dkwX8_init_0 : List UInt8 := [42, 43, 181, 0, 3, 42, 43, 28, 183, 0, 9, 42, 187, 0, 15, 89, 183, 0, 17, 181, 0, 20, 42]
abbrev dktX8_init_0 : List UInt8 := dkwX8_init_0 ++ dktX8_init_1
theorem dksX8_init_0 : cX8_init.data.toList.drop 0 = dktX8_init_0 := by decide +kernel
theorem dksX8_init_1 : cX8_init.data.toList.drop 23 = dktX8_init_1 := dk_seg dksX8_init_0 23 rfl rfl
theorem dX8_init_0 : decode cX8_init 0 = .ok (.aload_n 0, 1) := dk_42 (dk_at dksX8_init_0 0 rfl rfl)
theorem dX8_init_1 : decode cX8_init 1 = .ok (.aload_n 1, 1) := dk_43 (dk_at dksX8_init_0 1 rfl rfl)
theorem dX8_init_2 : decode cX8_init 2 = .ok (.putfield 3, 3) := dk_181 0 3 (dk_at dksX8_init_0 2 rfl rfl)
theorem dX8_init_5 : decode cX8_init 5 = .ok (.aload_n 0, 1) := dk_42 (dk_at dksX8_init_0 5 rfl rfl)
theorem dX8_init_6 : decode cX8_init 6 = .ok (.aload_n 1, 1) := dk_43 (dk_at dksX8_init_0 6 rfl rfl)
theorem dX8_init_7 : decode cX8_init 7 = .ok (.iload_n 2, 1) := dk_28 (dk_at dksX8_init_0 7 rfl rfl)
theorem dX8_init_8 : decode cX8_init 8 = .ok (.invokespecial 9, 3) := dk_183 0 9 (dk_at dksX8_init_0 8 rfl rfl)
theorem dX8_init_11 : decode cX8_init 11 = .ok (.aload_n 0, 1) := dk_42 (dk_at dksX8_init_0 11 rfl rfl)
theorem dX8_init_12 : decode cX8_init 12 = .ok (.new 15, 3) := dk_187 0 15 (dk_at dksX8_init_0 12 rfl rfl)
theorem dX8_init_15 : decode cX8_init 15 = .ok (.dup, 1) := dk_89 (dk_at dksX8_init_0 15 rfl rfl)
theorem dX8_init_16 : decode cX8_init 16 = .ok (.invokespecial 17, 3) := dk_183 0 17 (dk_at dksX8_init_0 16 rfl rfl)
theorem dX8_init_19 : decode cX8_init 19 = .ok (.putfield 20, 3) := dk_181 0 20 (dk_at dksX8_init_0 19 rfl rfl)
theorem dX8_init_22 : decode cX8_init 22 = .ok (.aload_n 0, 1) := dk_42 (dk_at dksX8_init_0 22 rfl rfl)
theorem dX8_init_23 : decode cX8_init 23 = .ok (.invokestatic 24, 3) := dk_184 0 24 (dk_at dksX8_init_1 0 rfl rfl)
theorem dX8_init_26 : decode cX8_init 26 = .ok (.putfield 30, 3) := dk_181 0 30 (dk_at dksX8_init_1 3 rfl rfl)
theorem dX8_init_29 : decode cX8_init 29 = .ok (.return_, 1) := dk_177 (dk_at dksX8_init_1 6 rfl rfl)
abbrev cX8_read : ByteArray := prog_4_method_2_code
def yX8_read : MethodName := ⟨RX8, "read", "()LTideKeep$Beach;"⟩
def dkwX8_read_0 : List UInt8 := [42, 180, 0, 20, 42, 182, 0, 34, 181, 0, 38, 42, 180, 0, 20, 176]
abbrev dktX8_read_0 : List UInt8 := dkwX8_read_0 ++ []
theorem dksX8_read_0 : cX8_read.data.toList.drop 0 = dktX8_read_0 := by decide +kernel
theorem dX8_read_0 : decode cX8_read 0 = .ok (.aload_n 0, 1) := dk_42 (dk_at dksX8_read_0 0 rfl rfl)
theorem dX8_read_1 : decode cX8_read 1 = .ok (.getfield 20, 3) := dk_180 0 20 (dk_at dksX8_read_0 1 rfl rfl)
theorem dX8_read_4 : decode cX8_read 4 = .ok (.aload_n 0, 1) := dk_42 (dk_at dksX8_read_0 4 rfl rfl)
theorem dX8_read_5 : decode cX8_read 5 = .ok (.invokevirtual 34, 3) := dk_182 0 34 (dk_at dksX8_read_0 5 rfl rfl)
theorem dX8_read_8 : decode cX8_read 8 = .ok (.putfield 38, 3) := dk_181 0 38 (dk_at dksX8_read_0 8 rfl rfl)
theorem dX8_read_11 : decode cX8_read 11 = .ok (.aload_n 0, 1) := dk_42 (dk_at dksX8_read_0 11 rfl rfl)
theorem dX8_read_12 : decode cX8_read 12 = .ok (.getfield 20, 3) := dk_180 0 20 (dk_at dksX8_read_0 12 rfl rfl)
theorem dX8_read_15 : decode cX8_read 15 = .ok (.areturn, 1) := dk_176 (dk_at dksX8_read_0 15 rfl rfl)
abbrev cX8_clause : ByteArray := prog_4_method_3_code
def yX8_clause : MethodName := ⟨RX8, "clause", "()V"⟩
def dkwX8_clause_11 : List UInt8 := [180, 0, 30, 27, 50, 180, 0, 102, 42, 180, 0, 30, 27, 50, 180, 0, 105, 182, 0, 64, 79, 177]
abbrev dktX8_clause_11 : List UInt8 := dkwX8_clause_11 ++ []
def dkwX8_clause_10 : List UInt8 := [180, 0, 30, 27, 50, 180, 0, 94, 27, 182, 0, 60, 87, 42, 180, 0, 20, 180, 0, 98, 27, 42, 42]
abbrev dktX8_clause_10 : List UInt8 := dkwX8_clause_10 ++ dktX8_clause_11
def dkwX8_clause_9 : List UInt8 := [132, 2, 1, 167, 255, 222, 42, 27, 2, 159, 0, 7, 4, 167, 0, 4, 3, 4, 182, 0, 52, 42, 42]
abbrev dktX8_clause_9 : List UInt8 := dkwX8_clause_9 ++ dktX8_clause_10
def dkwX8_clause_8 : List UInt8 := [42, 42, 180, 0, 30, 28, 50, 180, 0, 94, 182, 0, 44, 153, 0, 7, 28, 167, 0, 4, 27, 60]
abbrev dktX8_clause_8 : List UInt8 := dkwX8_clause_8 ++ dktX8_clause_9
def dkwX8_clause_7 : List UInt8 := [16, 9, 182, 0, 64, 181, 0, 91, 167, 0, 105, 2, 60, 3, 61, 28, 42, 180, 0, 30, 190, 162, 0, 31]
abbrev dktX8_clause_7 : List UInt8 := dkwX8_clause_7 ++ dktX8_clause_8
def dkwX8_clause_6 : List UInt8 := [181, 0, 85, 42, 180, 0, 20, 42, 3, 16, 20, 182, 0, 64, 181, 0, 88, 42, 180, 0, 20, 42, 3]
abbrev dktX8_clause_6 : List UInt8 := dkwX8_clause_6 ++ dktX8_clause_7
def dkwX8_clause_5 : List UInt8 := [42, 18, 83, 16, 21, 182, 0, 60, 153, 0, 48, 42, 180, 0, 20, 42, 4, 16, 15, 182, 0, 64]
abbrev dktX8_clause_5 : List UInt8 := dkwX8_clause_5 ++ dktX8_clause_6
def dkwX8_clause_4 : List UInt8 := [18, 76, 182, 0, 44, 154, 0, 12, 42, 18, 78, 182, 0, 44, 153, 0, 10, 42, 182, 0, 80, 167, 0, 161]
abbrev dktX8_clause_4 : List UInt8 := dkwX8_clause_4 ++ dktX8_clause_5
def dkwX8_clause_3 : List UInt8 := [42, 4, 16, 8, 182, 0, 64, 181, 0, 71, 167, 0, 195, 42, 18, 74, 182, 0, 44, 154, 0, 21, 42]
abbrev dktX8_clause_3 : List UInt8 := dkwX8_clause_3 ++ dktX8_clause_4
def dkwX8_clause_2 : List UInt8 := [16, 20, 182, 0, 60, 87, 42, 180, 0, 20, 42, 4, 16, 8, 182, 0, 64, 181, 0, 68, 42, 180, 0, 20]
abbrev dktX8_clause_2 : List UInt8 := dkwX8_clause_2 ++ dktX8_clause_3
def dkwX8_clause_1 : List UInt8 := [6, 182, 0, 52, 42, 42, 180, 0, 56, 154, 0, 7, 4, 167, 0, 4, 3, 8, 182, 0, 52, 42, 18, 42]
abbrev dktX8_clause_1 : List UInt8 := dkwX8_clause_1 ++ dktX8_clause_2
def dkwX8_clause_0 : List UInt8 := [42, 18, 42, 182, 0, 44, 153, 0, 79, 42, 42, 16, 20, 182, 0, 48, 154, 0, 7, 4, 167, 0, 4, 3]
abbrev dktX8_clause_0 : List UInt8 := dkwX8_clause_0 ++ dktX8_clause_1
theorem dksX8_clause_0 : cX8_clause.data.toList.drop 0 = dktX8_clause_0 := by decide +kernel
theorem dksX8_clause_1 : cX8_clause.data.toList.drop 24 = dktX8_clause_1 := dk_seg dksX8_clause_0 24 rfl rfl
theorem dksX8_clause_2 : cX8_clause.data.toList.drop 48 = dktX8_clause_2 := dk_seg dksX8_clause_1 24 rfl rfl
theorem dksX8_clause_3 : cX8_clause.data.toList.drop 72 = dktX8_clause_3 := dk_seg dksX8_clause_2 24 rfl rfl
theorem dksX8_clause_4 : cX8_clause.data.toList.drop 95 = dktX8_clause_4 := dk_seg dksX8_clause_3 23 rfl rfl
theorem dksX8_clause_5 : cX8_clause.data.toList.drop 119 = dktX8_clause_5 := dk_seg dksX8_clause_4 24 rfl rfl
theorem dksX8_clause_6 : cX8_clause.data.toList.drop 141 = dktX8_clause_6 := dk_seg dksX8_clause_5 22 rfl rfl
theorem dksX8_clause_7 : cX8_clause.data.toList.drop 164 = dktX8_clause_7 := dk_seg dksX8_clause_6 23 rfl rfl
theorem dksX8_clause_8 : cX8_clause.data.toList.drop 188 = dktX8_clause_8 := dk_seg dksX8_clause_7 24 rfl rfl
theorem dksX8_clause_9 : cX8_clause.data.toList.drop 210 = dktX8_clause_9 := dk_seg dksX8_clause_8 22 rfl rfl
theorem dksX8_clause_10 : cX8_clause.data.toList.drop 233 = dktX8_clause_10 := dk_seg dksX8_clause_9 23 rfl rfl
theorem dksX8_clause_11 : cX8_clause.data.toList.drop 256 = dktX8_clause_11 := dk_seg dksX8_clause_10 23 rfl rfl
theorem dX8_clause_0 : decode cX8_clause 0 = .ok (.aload_n 0, 1) := dk_42 (dk_at dksX8_clause_0 0 rfl rfl)
theorem dX8_clause_1 : decode cX8_clause 1 = .ok (.ldc 42, 2) := dk_18 42 (dk_at dksX8_clause_0 1 rfl rfl)
theorem dX8_clause_3 : decode cX8_clause 3 = .ok (.invokevirtual 44, 3) := dk_182 0 44 (dk_at dksX8_clause_0 3 rfl rfl)
theorem dX8_clause_6 : decode cX8_clause 6 = .ok (.ifCond .eq 79, 3) := dk_153 0 79 (dk_at dksX8_clause_0 6 rfl rfl)
theorem dX8_clause_9 : decode cX8_clause 9 = .ok (.aload_n 0, 1) := dk_42 (dk_at dksX8_clause_0 9 rfl rfl)
theorem dX8_clause_10 : decode cX8_clause 10 = .ok (.aload_n 0, 1) := dk_42 (dk_at dksX8_clause_0 10 rfl rfl)
theorem dX8_clause_11 : decode cX8_clause 11 = .ok (.bipush 20, 2) := dk_16 20 (dk_at dksX8_clause_0 11 rfl rfl)
theorem dX8_clause_13 : decode cX8_clause 13 = .ok (.invokevirtual 48, 3) := dk_182 0 48 (dk_at dksX8_clause_0 13 rfl rfl)
theorem dX8_clause_16 : decode cX8_clause 16 = .ok (.ifCond .ne 7, 3) := dk_154 0 7 (dk_at dksX8_clause_0 16 rfl rfl)
theorem dX8_clause_19 : decode cX8_clause 19 = .ok (.iconst 1, 1) := dk_4 (dk_at dksX8_clause_0 19 rfl rfl)
theorem dX8_clause_20 : decode cX8_clause 20 = .ok (.goto 4, 3) := dk_167 0 4 (dk_at dksX8_clause_0 20 rfl rfl)
theorem dX8_clause_23 : decode cX8_clause 23 = .ok (.iconst 0, 1) := dk_3 (dk_at dksX8_clause_0 23 rfl rfl)
theorem dX8_clause_24 : decode cX8_clause 24 = .ok (.iconst 3, 1) := dk_6 (dk_at dksX8_clause_1 0 rfl rfl)
theorem dX8_clause_25 : decode cX8_clause 25 = .ok (.invokevirtual 52, 3) := dk_182 0 52 (dk_at dksX8_clause_1 1 rfl rfl)
theorem dX8_clause_28 : decode cX8_clause 28 = .ok (.aload_n 0, 1) := dk_42 (dk_at dksX8_clause_1 4 rfl rfl)
theorem dX8_clause_29 : decode cX8_clause 29 = .ok (.aload_n 0, 1) := dk_42 (dk_at dksX8_clause_1 5 rfl rfl)
theorem dX8_clause_30 : decode cX8_clause 30 = .ok (.getfield 56, 3) := dk_180 0 56 (dk_at dksX8_clause_1 6 rfl rfl)
theorem dX8_clause_33 : decode cX8_clause 33 = .ok (.ifCond .ne 7, 3) := dk_154 0 7 (dk_at dksX8_clause_1 9 rfl rfl)
theorem dX8_clause_36 : decode cX8_clause 36 = .ok (.iconst 1, 1) := dk_4 (dk_at dksX8_clause_1 12 rfl rfl)
theorem dX8_clause_37 : decode cX8_clause 37 = .ok (.goto 4, 3) := dk_167 0 4 (dk_at dksX8_clause_1 13 rfl rfl)
theorem dX8_clause_40 : decode cX8_clause 40 = .ok (.iconst 0, 1) := dk_3 (dk_at dksX8_clause_1 16 rfl rfl)
theorem dX8_clause_41 : decode cX8_clause 41 = .ok (.iconst 5, 1) := dk_8 (dk_at dksX8_clause_1 17 rfl rfl)
theorem dX8_clause_42 : decode cX8_clause 42 = .ok (.invokevirtual 52, 3) := dk_182 0 52 (dk_at dksX8_clause_1 18 rfl rfl)
theorem dX8_clause_45 : decode cX8_clause 45 = .ok (.aload_n 0, 1) := dk_42 (dk_at dksX8_clause_1 21 rfl rfl)
theorem dX8_clause_46 : decode cX8_clause 46 = .ok (.ldc 42, 2) := dk_18 42 (dk_at dksX8_clause_1 22 rfl rfl)
theorem dX8_clause_48 : decode cX8_clause 48 = .ok (.bipush 20, 2) := dk_16 20 (dk_at dksX8_clause_2 0 rfl rfl)
theorem dX8_clause_50 : decode cX8_clause 50 = .ok (.invokevirtual 60, 3) := dk_182 0 60 (dk_at dksX8_clause_2 2 rfl rfl)
theorem dX8_clause_53 : decode cX8_clause 53 = .ok (.pop, 1) := dk_87 (dk_at dksX8_clause_2 5 rfl rfl)
theorem dX8_clause_54 : decode cX8_clause 54 = .ok (.aload_n 0, 1) := dk_42 (dk_at dksX8_clause_2 6 rfl rfl)
theorem dX8_clause_55 : decode cX8_clause 55 = .ok (.getfield 20, 3) := dk_180 0 20 (dk_at dksX8_clause_2 7 rfl rfl)
theorem dX8_clause_58 : decode cX8_clause 58 = .ok (.aload_n 0, 1) := dk_42 (dk_at dksX8_clause_2 10 rfl rfl)
theorem dX8_clause_59 : decode cX8_clause 59 = .ok (.iconst 1, 1) := dk_4 (dk_at dksX8_clause_2 11 rfl rfl)
theorem dX8_clause_60 : decode cX8_clause 60 = .ok (.bipush 8, 2) := dk_16 8 (dk_at dksX8_clause_2 12 rfl rfl)
theorem dX8_clause_62 : decode cX8_clause 62 = .ok (.invokevirtual 64, 3) := dk_182 0 64 (dk_at dksX8_clause_2 14 rfl rfl)
theorem dX8_clause_65 : decode cX8_clause 65 = .ok (.putfield 68, 3) := dk_181 0 68 (dk_at dksX8_clause_2 17 rfl rfl)
theorem dX8_clause_68 : decode cX8_clause 68 = .ok (.aload_n 0, 1) := dk_42 (dk_at dksX8_clause_2 20 rfl rfl)
theorem dX8_clause_69 : decode cX8_clause 69 = .ok (.getfield 20, 3) := dk_180 0 20 (dk_at dksX8_clause_2 21 rfl rfl)
theorem dX8_clause_72 : decode cX8_clause 72 = .ok (.aload_n 0, 1) := dk_42 (dk_at dksX8_clause_3 0 rfl rfl)
theorem dX8_clause_73 : decode cX8_clause 73 = .ok (.iconst 1, 1) := dk_4 (dk_at dksX8_clause_3 1 rfl rfl)
theorem dX8_clause_74 : decode cX8_clause 74 = .ok (.bipush 8, 2) := dk_16 8 (dk_at dksX8_clause_3 2 rfl rfl)
theorem dX8_clause_76 : decode cX8_clause 76 = .ok (.invokevirtual 64, 3) := dk_182 0 64 (dk_at dksX8_clause_3 4 rfl rfl)
theorem dX8_clause_79 : decode cX8_clause 79 = .ok (.putfield 71, 3) := dk_181 0 71 (dk_at dksX8_clause_3 7 rfl rfl)
theorem dX8_clause_82 : decode cX8_clause 82 = .ok (.goto 195, 3) := dk_167 0 195 (dk_at dksX8_clause_3 10 rfl rfl)
theorem dX8_clause_85 : decode cX8_clause 85 = .ok (.aload_n 0, 1) := dk_42 (dk_at dksX8_clause_3 13 rfl rfl)
theorem dX8_clause_86 : decode cX8_clause 86 = .ok (.ldc 74, 2) := dk_18 74 (dk_at dksX8_clause_3 14 rfl rfl)
theorem dX8_clause_88 : decode cX8_clause 88 = .ok (.invokevirtual 44, 3) := dk_182 0 44 (dk_at dksX8_clause_3 16 rfl rfl)
theorem dX8_clause_91 : decode cX8_clause 91 = .ok (.ifCond .ne 21, 3) := dk_154 0 21 (dk_at dksX8_clause_3 19 rfl rfl)
theorem dX8_clause_94 : decode cX8_clause 94 = .ok (.aload_n 0, 1) := dk_42 (dk_at dksX8_clause_3 22 rfl rfl)
theorem dX8_clause_95 : decode cX8_clause 95 = .ok (.ldc 76, 2) := dk_18 76 (dk_at dksX8_clause_4 0 rfl rfl)
theorem dX8_clause_97 : decode cX8_clause 97 = .ok (.invokevirtual 44, 3) := dk_182 0 44 (dk_at dksX8_clause_4 2 rfl rfl)
theorem dX8_clause_100 : decode cX8_clause 100 = .ok (.ifCond .ne 12, 3) := dk_154 0 12 (dk_at dksX8_clause_4 5 rfl rfl)
theorem dX8_clause_103 : decode cX8_clause 103 = .ok (.aload_n 0, 1) := dk_42 (dk_at dksX8_clause_4 8 rfl rfl)
theorem dX8_clause_104 : decode cX8_clause 104 = .ok (.ldc 78, 2) := dk_18 78 (dk_at dksX8_clause_4 9 rfl rfl)
theorem dX8_clause_106 : decode cX8_clause 106 = .ok (.invokevirtual 44, 3) := dk_182 0 44 (dk_at dksX8_clause_4 11 rfl rfl)
theorem dX8_clause_109 : decode cX8_clause 109 = .ok (.ifCond .eq 10, 3) := dk_153 0 10 (dk_at dksX8_clause_4 14 rfl rfl)
theorem dX8_clause_112 : decode cX8_clause 112 = .ok (.aload_n 0, 1) := dk_42 (dk_at dksX8_clause_4 17 rfl rfl)
theorem dX8_clause_113 : decode cX8_clause 113 = .ok (.invokevirtual 80, 3) := dk_182 0 80 (dk_at dksX8_clause_4 18 rfl rfl)
theorem dX8_clause_116 : decode cX8_clause 116 = .ok (.goto 161, 3) := dk_167 0 161 (dk_at dksX8_clause_4 21 rfl rfl)
theorem dX8_clause_119 : decode cX8_clause 119 = .ok (.aload_n 0, 1) := dk_42 (dk_at dksX8_clause_5 0 rfl rfl)
theorem dX8_clause_120 : decode cX8_clause 120 = .ok (.ldc 83, 2) := dk_18 83 (dk_at dksX8_clause_5 1 rfl rfl)
theorem dX8_clause_122 : decode cX8_clause 122 = .ok (.bipush 21, 2) := dk_16 21 (dk_at dksX8_clause_5 3 rfl rfl)
theorem dX8_clause_124 : decode cX8_clause 124 = .ok (.invokevirtual 60, 3) := dk_182 0 60 (dk_at dksX8_clause_5 5 rfl rfl)
theorem dX8_clause_127 : decode cX8_clause 127 = .ok (.ifCond .eq 48, 3) := dk_153 0 48 (dk_at dksX8_clause_5 8 rfl rfl)
theorem dX8_clause_130 : decode cX8_clause 130 = .ok (.aload_n 0, 1) := dk_42 (dk_at dksX8_clause_5 11 rfl rfl)
theorem dX8_clause_131 : decode cX8_clause 131 = .ok (.getfield 20, 3) := dk_180 0 20 (dk_at dksX8_clause_5 12 rfl rfl)
theorem dX8_clause_134 : decode cX8_clause 134 = .ok (.aload_n 0, 1) := dk_42 (dk_at dksX8_clause_5 15 rfl rfl)
theorem dX8_clause_135 : decode cX8_clause 135 = .ok (.iconst 1, 1) := dk_4 (dk_at dksX8_clause_5 16 rfl rfl)
theorem dX8_clause_136 : decode cX8_clause 136 = .ok (.bipush 15, 2) := dk_16 15 (dk_at dksX8_clause_5 17 rfl rfl)
theorem dX8_clause_138 : decode cX8_clause 138 = .ok (.invokevirtual 64, 3) := dk_182 0 64 (dk_at dksX8_clause_5 19 rfl rfl)
theorem dX8_clause_141 : decode cX8_clause 141 = .ok (.putfield 85, 3) := dk_181 0 85 (dk_at dksX8_clause_6 0 rfl rfl)
theorem dX8_clause_144 : decode cX8_clause 144 = .ok (.aload_n 0, 1) := dk_42 (dk_at dksX8_clause_6 3 rfl rfl)
theorem dX8_clause_145 : decode cX8_clause 145 = .ok (.getfield 20, 3) := dk_180 0 20 (dk_at dksX8_clause_6 4 rfl rfl)
theorem dX8_clause_148 : decode cX8_clause 148 = .ok (.aload_n 0, 1) := dk_42 (dk_at dksX8_clause_6 7 rfl rfl)
theorem dX8_clause_149 : decode cX8_clause 149 = .ok (.iconst 0, 1) := dk_3 (dk_at dksX8_clause_6 8 rfl rfl)
theorem dX8_clause_150 : decode cX8_clause 150 = .ok (.bipush 20, 2) := dk_16 20 (dk_at dksX8_clause_6 9 rfl rfl)
theorem dX8_clause_152 : decode cX8_clause 152 = .ok (.invokevirtual 64, 3) := dk_182 0 64 (dk_at dksX8_clause_6 11 rfl rfl)
theorem dX8_clause_155 : decode cX8_clause 155 = .ok (.putfield 88, 3) := dk_181 0 88 (dk_at dksX8_clause_6 14 rfl rfl)
theorem dX8_clause_158 : decode cX8_clause 158 = .ok (.aload_n 0, 1) := dk_42 (dk_at dksX8_clause_6 17 rfl rfl)
theorem dX8_clause_159 : decode cX8_clause 159 = .ok (.getfield 20, 3) := dk_180 0 20 (dk_at dksX8_clause_6 18 rfl rfl)
theorem dX8_clause_162 : decode cX8_clause 162 = .ok (.aload_n 0, 1) := dk_42 (dk_at dksX8_clause_6 21 rfl rfl)
theorem dX8_clause_163 : decode cX8_clause 163 = .ok (.iconst 0, 1) := dk_3 (dk_at dksX8_clause_6 22 rfl rfl)
theorem dX8_clause_164 : decode cX8_clause 164 = .ok (.bipush 9, 2) := dk_16 9 (dk_at dksX8_clause_7 0 rfl rfl)
theorem dX8_clause_166 : decode cX8_clause 166 = .ok (.invokevirtual 64, 3) := dk_182 0 64 (dk_at dksX8_clause_7 2 rfl rfl)
theorem dX8_clause_169 : decode cX8_clause 169 = .ok (.putfield 91, 3) := dk_181 0 91 (dk_at dksX8_clause_7 5 rfl rfl)
theorem dX8_clause_172 : decode cX8_clause 172 = .ok (.goto 105, 3) := dk_167 0 105 (dk_at dksX8_clause_7 8 rfl rfl)
theorem dX8_clause_175 : decode cX8_clause 175 = .ok (.iconst (-1), 1) := dk_2 (dk_at dksX8_clause_7 11 rfl rfl)
theorem dX8_clause_176 : decode cX8_clause 176 = .ok (.istore_n 1, 1) := dk_60 (dk_at dksX8_clause_7 12 rfl rfl)
theorem dX8_clause_177 : decode cX8_clause 177 = .ok (.iconst 0, 1) := dk_3 (dk_at dksX8_clause_7 13 rfl rfl)
theorem dX8_clause_178 : decode cX8_clause 178 = .ok (.istore_n 2, 1) := dk_61 (dk_at dksX8_clause_7 14 rfl rfl)
theorem dX8_clause_179 : decode cX8_clause 179 = .ok (.iload_n 2, 1) := dk_28 (dk_at dksX8_clause_7 15 rfl rfl)
theorem dX8_clause_180 : decode cX8_clause 180 = .ok (.aload_n 0, 1) := dk_42 (dk_at dksX8_clause_7 16 rfl rfl)
theorem dX8_clause_181 : decode cX8_clause 181 = .ok (.getfield 30, 3) := dk_180 0 30 (dk_at dksX8_clause_7 17 rfl rfl)
theorem dX8_clause_184 : decode cX8_clause 184 = .ok (.arraylength, 1) := dk_190 (dk_at dksX8_clause_7 20 rfl rfl)
theorem dX8_clause_185 : decode cX8_clause 185 = .ok (.if_icmp .ge 31, 3) := dk_162 0 31 (dk_at dksX8_clause_7 21 rfl rfl)
theorem dX8_clause_188 : decode cX8_clause 188 = .ok (.aload_n 0, 1) := dk_42 (dk_at dksX8_clause_8 0 rfl rfl)
theorem dX8_clause_189 : decode cX8_clause 189 = .ok (.aload_n 0, 1) := dk_42 (dk_at dksX8_clause_8 1 rfl rfl)
theorem dX8_clause_190 : decode cX8_clause 190 = .ok (.getfield 30, 3) := dk_180 0 30 (dk_at dksX8_clause_8 2 rfl rfl)
theorem dX8_clause_193 : decode cX8_clause 193 = .ok (.iload_n 2, 1) := dk_28 (dk_at dksX8_clause_8 5 rfl rfl)
theorem dX8_clause_194 : decode cX8_clause 194 = .ok (.aaload, 1) := dk_50 (dk_at dksX8_clause_8 6 rfl rfl)
theorem dX8_clause_195 : decode cX8_clause 195 = .ok (.getfield 94, 3) := dk_180 0 94 (dk_at dksX8_clause_8 7 rfl rfl)
theorem dX8_clause_198 : decode cX8_clause 198 = .ok (.invokevirtual 44, 3) := dk_182 0 44 (dk_at dksX8_clause_8 10 rfl rfl)
theorem dX8_clause_201 : decode cX8_clause 201 = .ok (.ifCond .eq 7, 3) := dk_153 0 7 (dk_at dksX8_clause_8 13 rfl rfl)
theorem dX8_clause_204 : decode cX8_clause 204 = .ok (.iload_n 2, 1) := dk_28 (dk_at dksX8_clause_8 16 rfl rfl)
theorem dX8_clause_205 : decode cX8_clause 205 = .ok (.goto 4, 3) := dk_167 0 4 (dk_at dksX8_clause_8 17 rfl rfl)
theorem dX8_clause_208 : decode cX8_clause 208 = .ok (.iload_n 1, 1) := dk_27 (dk_at dksX8_clause_8 20 rfl rfl)
theorem dX8_clause_209 : decode cX8_clause 209 = .ok (.istore_n 1, 1) := dk_60 (dk_at dksX8_clause_8 21 rfl rfl)
theorem dX8_clause_210 : decode cX8_clause 210 = .ok (.iinc 2 1, 3) := dk_132 2 1 (dk_at dksX8_clause_9 0 rfl rfl)
theorem dX8_clause_213 : decode cX8_clause 213 = .ok (.goto (-34), 3) := dk_167 255 222 (dk_at dksX8_clause_9 3 rfl rfl)
theorem dX8_clause_216 : decode cX8_clause 216 = .ok (.aload_n 0, 1) := dk_42 (dk_at dksX8_clause_9 6 rfl rfl)
theorem dX8_clause_217 : decode cX8_clause 217 = .ok (.iload_n 1, 1) := dk_27 (dk_at dksX8_clause_9 7 rfl rfl)
theorem dX8_clause_218 : decode cX8_clause 218 = .ok (.iconst (-1), 1) := dk_2 (dk_at dksX8_clause_9 8 rfl rfl)
theorem dX8_clause_219 : decode cX8_clause 219 = .ok (.if_icmp .eq 7, 3) := dk_159 0 7 (dk_at dksX8_clause_9 9 rfl rfl)
theorem dX8_clause_222 : decode cX8_clause 222 = .ok (.iconst 1, 1) := dk_4 (dk_at dksX8_clause_9 12 rfl rfl)
theorem dX8_clause_223 : decode cX8_clause 223 = .ok (.goto 4, 3) := dk_167 0 4 (dk_at dksX8_clause_9 13 rfl rfl)
theorem dX8_clause_226 : decode cX8_clause 226 = .ok (.iconst 0, 1) := dk_3 (dk_at dksX8_clause_9 16 rfl rfl)
theorem dX8_clause_227 : decode cX8_clause 227 = .ok (.iconst 1, 1) := dk_4 (dk_at dksX8_clause_9 17 rfl rfl)
theorem dX8_clause_228 : decode cX8_clause 228 = .ok (.invokevirtual 52, 3) := dk_182 0 52 (dk_at dksX8_clause_9 18 rfl rfl)
theorem dX8_clause_231 : decode cX8_clause 231 = .ok (.aload_n 0, 1) := dk_42 (dk_at dksX8_clause_9 21 rfl rfl)
theorem dX8_clause_232 : decode cX8_clause 232 = .ok (.aload_n 0, 1) := dk_42 (dk_at dksX8_clause_9 22 rfl rfl)
theorem dX8_clause_233 : decode cX8_clause 233 = .ok (.getfield 30, 3) := dk_180 0 30 (dk_at dksX8_clause_10 0 rfl rfl)
theorem dX8_clause_236 : decode cX8_clause 236 = .ok (.iload_n 1, 1) := dk_27 (dk_at dksX8_clause_10 3 rfl rfl)
theorem dX8_clause_237 : decode cX8_clause 237 = .ok (.aaload, 1) := dk_50 (dk_at dksX8_clause_10 4 rfl rfl)
theorem dX8_clause_238 : decode cX8_clause 238 = .ok (.getfield 94, 3) := dk_180 0 94 (dk_at dksX8_clause_10 5 rfl rfl)
theorem dX8_clause_241 : decode cX8_clause 241 = .ok (.iload_n 1, 1) := dk_27 (dk_at dksX8_clause_10 8 rfl rfl)
theorem dX8_clause_242 : decode cX8_clause 242 = .ok (.invokevirtual 60, 3) := dk_182 0 60 (dk_at dksX8_clause_10 9 rfl rfl)
theorem dX8_clause_245 : decode cX8_clause 245 = .ok (.pop, 1) := dk_87 (dk_at dksX8_clause_10 12 rfl rfl)
theorem dX8_clause_246 : decode cX8_clause 246 = .ok (.aload_n 0, 1) := dk_42 (dk_at dksX8_clause_10 13 rfl rfl)
theorem dX8_clause_247 : decode cX8_clause 247 = .ok (.getfield 20, 3) := dk_180 0 20 (dk_at dksX8_clause_10 14 rfl rfl)
theorem dX8_clause_250 : decode cX8_clause 250 = .ok (.getfield 98, 3) := dk_180 0 98 (dk_at dksX8_clause_10 17 rfl rfl)
theorem dX8_clause_253 : decode cX8_clause 253 = .ok (.iload_n 1, 1) := dk_27 (dk_at dksX8_clause_10 20 rfl rfl)
theorem dX8_clause_254 : decode cX8_clause 254 = .ok (.aload_n 0, 1) := dk_42 (dk_at dksX8_clause_10 21 rfl rfl)
theorem dX8_clause_255 : decode cX8_clause 255 = .ok (.aload_n 0, 1) := dk_42 (dk_at dksX8_clause_10 22 rfl rfl)
theorem dX8_clause_256 : decode cX8_clause 256 = .ok (.getfield 30, 3) := dk_180 0 30 (dk_at dksX8_clause_11 0 rfl rfl)
theorem dX8_clause_259 : decode cX8_clause 259 = .ok (.iload_n 1, 1) := dk_27 (dk_at dksX8_clause_11 3 rfl rfl)
theorem dX8_clause_260 : decode cX8_clause 260 = .ok (.aaload, 1) := dk_50 (dk_at dksX8_clause_11 4 rfl rfl)
theorem dX8_clause_261 : decode cX8_clause 261 = .ok (.getfield 102, 3) := dk_180 0 102 (dk_at dksX8_clause_11 5 rfl rfl)
theorem dX8_clause_264 : decode cX8_clause 264 = .ok (.aload_n 0, 1) := dk_42 (dk_at dksX8_clause_11 8 rfl rfl)
theorem dX8_clause_265 : decode cX8_clause 265 = .ok (.getfield 30, 3) := dk_180 0 30 (dk_at dksX8_clause_11 9 rfl rfl)
theorem dX8_clause_268 : decode cX8_clause 268 = .ok (.iload_n 1, 1) := dk_27 (dk_at dksX8_clause_11 12 rfl rfl)
theorem dX8_clause_269 : decode cX8_clause 269 = .ok (.aaload, 1) := dk_50 (dk_at dksX8_clause_11 13 rfl rfl)
theorem dX8_clause_270 : decode cX8_clause 270 = .ok (.getfield 105, 3) := dk_180 0 105 (dk_at dksX8_clause_11 14 rfl rfl)
theorem dX8_clause_273 : decode cX8_clause 273 = .ok (.invokevirtual 64, 3) := dk_182 0 64 (dk_at dksX8_clause_11 17 rfl rfl)
theorem dX8_clause_276 : decode cX8_clause 276 = .ok (.iastore, 1) := dk_79 (dk_at dksX8_clause_11 20 rfl rfl)
theorem dX8_clause_277 : decode cX8_clause 277 = .ok (.return_, 1) := dk_177 (dk_at dksX8_clause_11 21 rfl rfl)
abbrev cX8_isTold : ByteArray := prog_4_method_4_code
def yX8_isTold : MethodName := ⟨RX8, "isTold", "(I)Z"⟩
def dkwX8_isTold_0 : List UInt8 := [42, 180, 0, 108, 27, 122, 4, 126, 4, 160, 0, 7, 4, 167, 0, 4, 3, 172]
abbrev dktX8_isTold_0 : List UInt8 := dkwX8_isTold_0 ++ []
theorem dksX8_isTold_0 : cX8_isTold.data.toList.drop 0 = dktX8_isTold_0 := by decide +kernel
theorem dX8_isTold_0 : decode cX8_isTold 0 = .ok (.aload_n 0, 1) := dk_42 (dk_at dksX8_isTold_0 0 rfl rfl)
theorem dX8_isTold_1 : decode cX8_isTold 1 = .ok (.getfield 108, 3) := dk_180 0 108 (dk_at dksX8_isTold_0 1 rfl rfl)
theorem dX8_isTold_4 : decode cX8_isTold 4 = .ok (.iload_n 1, 1) := dk_27 (dk_at dksX8_isTold_0 4 rfl rfl)
theorem dX8_isTold_5 : decode cX8_isTold 5 = .ok (.ishr, 1) := dk_122 (dk_at dksX8_isTold_0 5 rfl rfl)
theorem dX8_isTold_6 : decode cX8_isTold 6 = .ok (.iconst 1, 1) := dk_4 (dk_at dksX8_isTold_0 6 rfl rfl)
theorem dX8_isTold_7 : decode cX8_isTold 7 = .ok (.iand, 1) := dk_126 (dk_at dksX8_isTold_0 7 rfl rfl)
theorem dX8_isTold_8 : decode cX8_isTold 8 = .ok (.iconst 1, 1) := dk_4 (dk_at dksX8_isTold_0 8 rfl rfl)
theorem dX8_isTold_9 : decode cX8_isTold 9 = .ok (.if_icmp .ne 7, 3) := dk_160 0 7 (dk_at dksX8_isTold_0 9 rfl rfl)
theorem dX8_isTold_12 : decode cX8_isTold 12 = .ok (.iconst 1, 1) := dk_4 (dk_at dksX8_isTold_0 12 rfl rfl)
theorem dX8_isTold_13 : decode cX8_isTold 13 = .ok (.goto 4, 3) := dk_167 0 4 (dk_at dksX8_isTold_0 13 rfl rfl)
theorem dX8_isTold_16 : decode cX8_isTold 16 = .ok (.iconst 0, 1) := dk_3 (dk_at dksX8_isTold_0 16 rfl rfl)
theorem dX8_isTold_17 : decode cX8_isTold 17 = .ok (.ireturn, 1) := dk_172 (dk_at dksX8_isTold_0 17 rfl rfl)
abbrev cX8_thing : ByteArray := prog_4_method_5_code
def yX8_thing : MethodName := ⟨RX8, "thing", "()V"⟩
def dkwX8_thing_12 : List UInt8 := [182, 0, 114, 177]
abbrev dktX8_thing_12 : List UInt8 := dkwX8_thing_12 ++ []
def dkwX8_thing_11 : List UInt8 := [180, 0, 20, 180, 0, 111, 21, 5, 79, 42, 180, 0, 20, 89, 180, 0, 111, 4, 96, 181, 0, 111, 42]
abbrev dktX8_thing_11 : List UInt8 := dkwX8_thing_11 ++ dktX8_thing_12
def dkwX8_thing_10 : List UInt8 := [167, 0, 4, 3, 6, 182, 0, 52, 132, 6, 1, 167, 255, 216, 42, 180, 0, 20, 180, 0, 127, 42]
abbrev dktX8_thing_10 : List UInt8 := dkwX8_thing_10 ++ dktX8_thing_11
def dkwX8_thing_9 : List UInt8 := [180, 0, 111, 162, 0, 34, 42, 42, 180, 0, 20, 180, 0, 127, 21, 6, 46, 21, 5, 159, 0, 7, 4]
abbrev dktX8_thing_9 : List UInt8 := dkwX8_thing_9 ++ dktX8_thing_10
def dkwX8_thing_8 : List UInt8 := [180, 0, 20, 180, 0, 123, 21, 5, 4, 84, 167, 0, 79, 3, 54, 6, 21, 6, 42, 180, 0, 20]
abbrev dktX8_thing_8 : List UInt8 := dkwX8_thing_8 ++ dktX8_thing_9
def dkwX8_thing_7 : List UInt8 := [42, 42, 180, 0, 20, 180, 0, 123, 21, 5, 51, 154, 0, 7, 4, 167, 0, 4, 3, 6, 182, 0, 52, 42]
abbrev dktX8_thing_7 : List UInt8 := dkwX8_thing_7 ++ dktX8_thing_8
def dkwX8_thing_6 : List UInt8 := [182, 0, 52, 42, 180, 0, 20, 180, 0, 120, 21, 5, 92, 46, 29, 96, 79, 167, 0, 120, 28, 153, 0, 40]
abbrev dktX8_thing_6 : List UInt8 := dkwX8_thing_6 ++ dktX8_thing_7
def dkwX8_thing_5 : List UInt8 := [180, 0, 20, 180, 0, 120, 21, 5, 46, 29, 96, 16, 59, 163, 0, 7, 4, 167, 0, 4, 3, 5]
abbrev dktX8_thing_5 : List UInt8 := dkwX8_thing_5 ++ dktX8_thing_6
def dkwX8_thing_4 : List UInt8 := [180, 0, 20, 180, 0, 71, 4, 100, 182, 0, 117, 104, 21, 4, 96, 54, 5, 27, 153, 0, 47, 42, 42]
abbrev dktX8_thing_4 : List UInt8 := dkwX8_thing_4 ++ dktX8_thing_5
def dkwX8_thing_3 : List UInt8 := [180, 0, 20, 180, 0, 68, 4, 100, 182, 0, 64, 54, 4, 42, 180, 0, 20, 180, 0, 68, 42, 3, 42]
abbrev dktX8_thing_3 : List UInt8 := dkwX8_thing_3 ++ dktX8_thing_4
def dkwX8_thing_2 : List UInt8 := [42, 182, 0, 114, 27, 153, 0, 13, 42, 4, 16, 40, 182, 0, 64, 167, 0, 4, 3, 62, 42, 3, 42]
abbrev dktX8_thing_2 : List UInt8 := dkwX8_thing_2 ++ dktX8_thing_3
def dkwX8_thing_1 : List UInt8 := [180, 0, 20, 180, 0, 111, 6, 162, 0, 7, 4, 167, 0, 4, 3, 7, 182, 0, 52, 42, 4, 181, 0, 56]
abbrev dktX8_thing_1 : List UInt8 := dkwX8_thing_1 ++ dktX8_thing_2
def dkwX8_thing_0 : List UInt8 := [42, 18, 74, 182, 0, 44, 60, 42, 18, 76, 182, 0, 44, 61, 42, 27, 154, 0, 18, 28, 154, 0, 14, 42]
abbrev dktX8_thing_0 : List UInt8 := dkwX8_thing_0 ++ dktX8_thing_1
theorem dksX8_thing_0 : cX8_thing.data.toList.drop 0 = dktX8_thing_0 := by decide +kernel
theorem dksX8_thing_1 : cX8_thing.data.toList.drop 24 = dktX8_thing_1 := dk_seg dksX8_thing_0 24 rfl rfl
theorem dksX8_thing_2 : cX8_thing.data.toList.drop 48 = dktX8_thing_2 := dk_seg dksX8_thing_1 24 rfl rfl
theorem dksX8_thing_3 : cX8_thing.data.toList.drop 71 = dktX8_thing_3 := dk_seg dksX8_thing_2 23 rfl rfl
theorem dksX8_thing_4 : cX8_thing.data.toList.drop 94 = dktX8_thing_4 := dk_seg dksX8_thing_3 23 rfl rfl
theorem dksX8_thing_5 : cX8_thing.data.toList.drop 117 = dktX8_thing_5 := dk_seg dksX8_thing_4 23 rfl rfl
theorem dksX8_thing_6 : cX8_thing.data.toList.drop 139 = dktX8_thing_6 := dk_seg dksX8_thing_5 22 rfl rfl
theorem dksX8_thing_7 : cX8_thing.data.toList.drop 163 = dktX8_thing_7 := dk_seg dksX8_thing_6 24 rfl rfl
theorem dksX8_thing_8 : cX8_thing.data.toList.drop 187 = dktX8_thing_8 := dk_seg dksX8_thing_7 24 rfl rfl
theorem dksX8_thing_9 : cX8_thing.data.toList.drop 209 = dktX8_thing_9 := dk_seg dksX8_thing_8 22 rfl rfl
theorem dksX8_thing_10 : cX8_thing.data.toList.drop 232 = dktX8_thing_10 := dk_seg dksX8_thing_9 23 rfl rfl
theorem dksX8_thing_11 : cX8_thing.data.toList.drop 254 = dktX8_thing_11 := dk_seg dksX8_thing_10 22 rfl rfl
theorem dksX8_thing_12 : cX8_thing.data.toList.drop 277 = dktX8_thing_12 := dk_seg dksX8_thing_11 23 rfl rfl
theorem dX8_thing_0 : decode cX8_thing 0 = .ok (.aload_n 0, 1) := dk_42 (dk_at dksX8_thing_0 0 rfl rfl)
theorem dX8_thing_1 : decode cX8_thing 1 = .ok (.ldc 74, 2) := dk_18 74 (dk_at dksX8_thing_0 1 rfl rfl)
theorem dX8_thing_3 : decode cX8_thing 3 = .ok (.invokevirtual 44, 3) := dk_182 0 44 (dk_at dksX8_thing_0 3 rfl rfl)
theorem dX8_thing_6 : decode cX8_thing 6 = .ok (.istore_n 1, 1) := dk_60 (dk_at dksX8_thing_0 6 rfl rfl)
theorem dX8_thing_7 : decode cX8_thing 7 = .ok (.aload_n 0, 1) := dk_42 (dk_at dksX8_thing_0 7 rfl rfl)
theorem dX8_thing_8 : decode cX8_thing 8 = .ok (.ldc 76, 2) := dk_18 76 (dk_at dksX8_thing_0 8 rfl rfl)
theorem dX8_thing_10 : decode cX8_thing 10 = .ok (.invokevirtual 44, 3) := dk_182 0 44 (dk_at dksX8_thing_0 10 rfl rfl)
theorem dX8_thing_13 : decode cX8_thing 13 = .ok (.istore_n 2, 1) := dk_61 (dk_at dksX8_thing_0 13 rfl rfl)
theorem dX8_thing_14 : decode cX8_thing 14 = .ok (.aload_n 0, 1) := dk_42 (dk_at dksX8_thing_0 14 rfl rfl)
theorem dX8_thing_15 : decode cX8_thing 15 = .ok (.iload_n 1, 1) := dk_27 (dk_at dksX8_thing_0 15 rfl rfl)
theorem dX8_thing_16 : decode cX8_thing 16 = .ok (.ifCond .ne 18, 3) := dk_154 0 18 (dk_at dksX8_thing_0 16 rfl rfl)
theorem dX8_thing_19 : decode cX8_thing 19 = .ok (.iload_n 2, 1) := dk_28 (dk_at dksX8_thing_0 19 rfl rfl)
theorem dX8_thing_20 : decode cX8_thing 20 = .ok (.ifCond .ne 14, 3) := dk_154 0 14 (dk_at dksX8_thing_0 20 rfl rfl)
theorem dX8_thing_23 : decode cX8_thing 23 = .ok (.aload_n 0, 1) := dk_42 (dk_at dksX8_thing_0 23 rfl rfl)
theorem dX8_thing_24 : decode cX8_thing 24 = .ok (.getfield 20, 3) := dk_180 0 20 (dk_at dksX8_thing_1 0 rfl rfl)
theorem dX8_thing_27 : decode cX8_thing 27 = .ok (.getfield 111, 3) := dk_180 0 111 (dk_at dksX8_thing_1 3 rfl rfl)
theorem dX8_thing_30 : decode cX8_thing 30 = .ok (.iconst 3, 1) := dk_6 (dk_at dksX8_thing_1 6 rfl rfl)
theorem dX8_thing_31 : decode cX8_thing 31 = .ok (.if_icmp .ge 7, 3) := dk_162 0 7 (dk_at dksX8_thing_1 7 rfl rfl)
theorem dX8_thing_34 : decode cX8_thing 34 = .ok (.iconst 1, 1) := dk_4 (dk_at dksX8_thing_1 10 rfl rfl)
theorem dX8_thing_35 : decode cX8_thing 35 = .ok (.goto 4, 3) := dk_167 0 4 (dk_at dksX8_thing_1 11 rfl rfl)
theorem dX8_thing_38 : decode cX8_thing 38 = .ok (.iconst 0, 1) := dk_3 (dk_at dksX8_thing_1 14 rfl rfl)
theorem dX8_thing_39 : decode cX8_thing 39 = .ok (.iconst 4, 1) := dk_7 (dk_at dksX8_thing_1 15 rfl rfl)
theorem dX8_thing_40 : decode cX8_thing 40 = .ok (.invokevirtual 52, 3) := dk_182 0 52 (dk_at dksX8_thing_1 16 rfl rfl)
theorem dX8_thing_43 : decode cX8_thing 43 = .ok (.aload_n 0, 1) := dk_42 (dk_at dksX8_thing_1 19 rfl rfl)
theorem dX8_thing_44 : decode cX8_thing 44 = .ok (.iconst 1, 1) := dk_4 (dk_at dksX8_thing_1 20 rfl rfl)
theorem dX8_thing_45 : decode cX8_thing 45 = .ok (.putfield 56, 3) := dk_181 0 56 (dk_at dksX8_thing_1 21 rfl rfl)
theorem dX8_thing_48 : decode cX8_thing 48 = .ok (.aload_n 0, 1) := dk_42 (dk_at dksX8_thing_2 0 rfl rfl)
theorem dX8_thing_49 : decode cX8_thing 49 = .ok (.invokevirtual 114, 3) := dk_182 0 114 (dk_at dksX8_thing_2 1 rfl rfl)
theorem dX8_thing_52 : decode cX8_thing 52 = .ok (.iload_n 1, 1) := dk_27 (dk_at dksX8_thing_2 4 rfl rfl)
theorem dX8_thing_53 : decode cX8_thing 53 = .ok (.ifCond .eq 13, 3) := dk_153 0 13 (dk_at dksX8_thing_2 5 rfl rfl)
theorem dX8_thing_56 : decode cX8_thing 56 = .ok (.aload_n 0, 1) := dk_42 (dk_at dksX8_thing_2 8 rfl rfl)
theorem dX8_thing_57 : decode cX8_thing 57 = .ok (.iconst 1, 1) := dk_4 (dk_at dksX8_thing_2 9 rfl rfl)
theorem dX8_thing_58 : decode cX8_thing 58 = .ok (.bipush 40, 2) := dk_16 40 (dk_at dksX8_thing_2 10 rfl rfl)
theorem dX8_thing_60 : decode cX8_thing 60 = .ok (.invokevirtual 64, 3) := dk_182 0 64 (dk_at dksX8_thing_2 12 rfl rfl)
theorem dX8_thing_63 : decode cX8_thing 63 = .ok (.goto 4, 3) := dk_167 0 4 (dk_at dksX8_thing_2 15 rfl rfl)
theorem dX8_thing_66 : decode cX8_thing 66 = .ok (.iconst 0, 1) := dk_3 (dk_at dksX8_thing_2 18 rfl rfl)
theorem dX8_thing_67 : decode cX8_thing 67 = .ok (.istore_n 3, 1) := dk_62 (dk_at dksX8_thing_2 19 rfl rfl)
theorem dX8_thing_68 : decode cX8_thing 68 = .ok (.aload_n 0, 1) := dk_42 (dk_at dksX8_thing_2 20 rfl rfl)
theorem dX8_thing_69 : decode cX8_thing 69 = .ok (.iconst 0, 1) := dk_3 (dk_at dksX8_thing_2 21 rfl rfl)
theorem dX8_thing_70 : decode cX8_thing 70 = .ok (.aload_n 0, 1) := dk_42 (dk_at dksX8_thing_2 22 rfl rfl)
theorem dX8_thing_71 : decode cX8_thing 71 = .ok (.getfield 20, 3) := dk_180 0 20 (dk_at dksX8_thing_3 0 rfl rfl)
theorem dX8_thing_74 : decode cX8_thing 74 = .ok (.getfield 68, 3) := dk_180 0 68 (dk_at dksX8_thing_3 3 rfl rfl)
theorem dX8_thing_77 : decode cX8_thing 77 = .ok (.iconst 1, 1) := dk_4 (dk_at dksX8_thing_3 6 rfl rfl)
theorem dX8_thing_78 : decode cX8_thing 78 = .ok (.isub, 1) := dk_100 (dk_at dksX8_thing_3 7 rfl rfl)
theorem dX8_thing_79 : decode cX8_thing 79 = .ok (.invokevirtual 64, 3) := dk_182 0 64 (dk_at dksX8_thing_3 8 rfl rfl)
theorem dX8_thing_82 : decode cX8_thing 82 = .ok (.istore 4, 2) := dk_54 4 (dk_at dksX8_thing_3 11 rfl rfl)
theorem dX8_thing_84 : decode cX8_thing 84 = .ok (.aload_n 0, 1) := dk_42 (dk_at dksX8_thing_3 13 rfl rfl)
theorem dX8_thing_85 : decode cX8_thing 85 = .ok (.getfield 20, 3) := dk_180 0 20 (dk_at dksX8_thing_3 14 rfl rfl)
theorem dX8_thing_88 : decode cX8_thing 88 = .ok (.getfield 68, 3) := dk_180 0 68 (dk_at dksX8_thing_3 17 rfl rfl)
theorem dX8_thing_91 : decode cX8_thing 91 = .ok (.aload_n 0, 1) := dk_42 (dk_at dksX8_thing_3 20 rfl rfl)
theorem dX8_thing_92 : decode cX8_thing 92 = .ok (.iconst 0, 1) := dk_3 (dk_at dksX8_thing_3 21 rfl rfl)
theorem dX8_thing_93 : decode cX8_thing 93 = .ok (.aload_n 0, 1) := dk_42 (dk_at dksX8_thing_3 22 rfl rfl)
theorem dX8_thing_94 : decode cX8_thing 94 = .ok (.getfield 20, 3) := dk_180 0 20 (dk_at dksX8_thing_4 0 rfl rfl)
theorem dX8_thing_97 : decode cX8_thing 97 = .ok (.getfield 71, 3) := dk_180 0 71 (dk_at dksX8_thing_4 3 rfl rfl)
theorem dX8_thing_100 : decode cX8_thing 100 = .ok (.iconst 1, 1) := dk_4 (dk_at dksX8_thing_4 6 rfl rfl)
theorem dX8_thing_101 : decode cX8_thing 101 = .ok (.isub, 1) := dk_100 (dk_at dksX8_thing_4 7 rfl rfl)
theorem dX8_thing_102 : decode cX8_thing 102 = .ok (.invokevirtual 117, 3) := dk_182 0 117 (dk_at dksX8_thing_4 8 rfl rfl)
theorem dX8_thing_105 : decode cX8_thing 105 = .ok (.imul, 1) := dk_104 (dk_at dksX8_thing_4 11 rfl rfl)
theorem dX8_thing_106 : decode cX8_thing 106 = .ok (.iload 4, 2) := dk_21 4 (dk_at dksX8_thing_4 12 rfl rfl)
theorem dX8_thing_108 : decode cX8_thing 108 = .ok (.iadd, 1) := dk_96 (dk_at dksX8_thing_4 14 rfl rfl)
theorem dX8_thing_109 : decode cX8_thing 109 = .ok (.istore 5, 2) := dk_54 5 (dk_at dksX8_thing_4 15 rfl rfl)
theorem dX8_thing_111 : decode cX8_thing 111 = .ok (.iload_n 1, 1) := dk_27 (dk_at dksX8_thing_4 17 rfl rfl)
theorem dX8_thing_112 : decode cX8_thing 112 = .ok (.ifCond .eq 47, 3) := dk_153 0 47 (dk_at dksX8_thing_4 18 rfl rfl)
theorem dX8_thing_115 : decode cX8_thing 115 = .ok (.aload_n 0, 1) := dk_42 (dk_at dksX8_thing_4 21 rfl rfl)
theorem dX8_thing_116 : decode cX8_thing 116 = .ok (.aload_n 0, 1) := dk_42 (dk_at dksX8_thing_4 22 rfl rfl)
theorem dX8_thing_117 : decode cX8_thing 117 = .ok (.getfield 20, 3) := dk_180 0 20 (dk_at dksX8_thing_5 0 rfl rfl)
theorem dX8_thing_120 : decode cX8_thing 120 = .ok (.getfield 120, 3) := dk_180 0 120 (dk_at dksX8_thing_5 3 rfl rfl)
theorem dX8_thing_123 : decode cX8_thing 123 = .ok (.iload 5, 2) := dk_21 5 (dk_at dksX8_thing_5 6 rfl rfl)
theorem dX8_thing_125 : decode cX8_thing 125 = .ok (.iaload, 1) := dk_46 (dk_at dksX8_thing_5 8 rfl rfl)
theorem dX8_thing_126 : decode cX8_thing 126 = .ok (.iload_n 3, 1) := dk_29 (dk_at dksX8_thing_5 9 rfl rfl)
theorem dX8_thing_127 : decode cX8_thing 127 = .ok (.iadd, 1) := dk_96 (dk_at dksX8_thing_5 10 rfl rfl)
theorem dX8_thing_128 : decode cX8_thing 128 = .ok (.bipush 59, 2) := dk_16 59 (dk_at dksX8_thing_5 11 rfl rfl)
theorem dX8_thing_130 : decode cX8_thing 130 = .ok (.if_icmp .gt 7, 3) := dk_163 0 7 (dk_at dksX8_thing_5 13 rfl rfl)
theorem dX8_thing_133 : decode cX8_thing 133 = .ok (.iconst 1, 1) := dk_4 (dk_at dksX8_thing_5 16 rfl rfl)
theorem dX8_thing_134 : decode cX8_thing 134 = .ok (.goto 4, 3) := dk_167 0 4 (dk_at dksX8_thing_5 17 rfl rfl)
theorem dX8_thing_137 : decode cX8_thing 137 = .ok (.iconst 0, 1) := dk_3 (dk_at dksX8_thing_5 20 rfl rfl)
theorem dX8_thing_138 : decode cX8_thing 138 = .ok (.iconst 2, 1) := dk_5 (dk_at dksX8_thing_5 21 rfl rfl)
theorem dX8_thing_139 : decode cX8_thing 139 = .ok (.invokevirtual 52, 3) := dk_182 0 52 (dk_at dksX8_thing_6 0 rfl rfl)
theorem dX8_thing_142 : decode cX8_thing 142 = .ok (.aload_n 0, 1) := dk_42 (dk_at dksX8_thing_6 3 rfl rfl)
theorem dX8_thing_143 : decode cX8_thing 143 = .ok (.getfield 20, 3) := dk_180 0 20 (dk_at dksX8_thing_6 4 rfl rfl)
theorem dX8_thing_146 : decode cX8_thing 146 = .ok (.getfield 120, 3) := dk_180 0 120 (dk_at dksX8_thing_6 7 rfl rfl)
theorem dX8_thing_149 : decode cX8_thing 149 = .ok (.iload 5, 2) := dk_21 5 (dk_at dksX8_thing_6 10 rfl rfl)
theorem dX8_thing_151 : decode cX8_thing 151 = .ok (.dup2, 1) := dk_92 (dk_at dksX8_thing_6 12 rfl rfl)
theorem dX8_thing_152 : decode cX8_thing 152 = .ok (.iaload, 1) := dk_46 (dk_at dksX8_thing_6 13 rfl rfl)
theorem dX8_thing_153 : decode cX8_thing 153 = .ok (.iload_n 3, 1) := dk_29 (dk_at dksX8_thing_6 14 rfl rfl)
theorem dX8_thing_154 : decode cX8_thing 154 = .ok (.iadd, 1) := dk_96 (dk_at dksX8_thing_6 15 rfl rfl)
theorem dX8_thing_155 : decode cX8_thing 155 = .ok (.iastore, 1) := dk_79 (dk_at dksX8_thing_6 16 rfl rfl)
theorem dX8_thing_156 : decode cX8_thing 156 = .ok (.goto 120, 3) := dk_167 0 120 (dk_at dksX8_thing_6 17 rfl rfl)
theorem dX8_thing_159 : decode cX8_thing 159 = .ok (.iload_n 2, 1) := dk_28 (dk_at dksX8_thing_6 20 rfl rfl)
theorem dX8_thing_160 : decode cX8_thing 160 = .ok (.ifCond .eq 40, 3) := dk_153 0 40 (dk_at dksX8_thing_6 21 rfl rfl)
theorem dX8_thing_163 : decode cX8_thing 163 = .ok (.aload_n 0, 1) := dk_42 (dk_at dksX8_thing_7 0 rfl rfl)
theorem dX8_thing_164 : decode cX8_thing 164 = .ok (.aload_n 0, 1) := dk_42 (dk_at dksX8_thing_7 1 rfl rfl)
theorem dX8_thing_165 : decode cX8_thing 165 = .ok (.getfield 20, 3) := dk_180 0 20 (dk_at dksX8_thing_7 2 rfl rfl)
theorem dX8_thing_168 : decode cX8_thing 168 = .ok (.getfield 123, 3) := dk_180 0 123 (dk_at dksX8_thing_7 5 rfl rfl)
theorem dX8_thing_171 : decode cX8_thing 171 = .ok (.iload 5, 2) := dk_21 5 (dk_at dksX8_thing_7 8 rfl rfl)
theorem dX8_thing_173 : decode cX8_thing 173 = .ok (.baload, 1) := dk_51 (dk_at dksX8_thing_7 10 rfl rfl)
theorem dX8_thing_174 : decode cX8_thing 174 = .ok (.ifCond .ne 7, 3) := dk_154 0 7 (dk_at dksX8_thing_7 11 rfl rfl)
theorem dX8_thing_177 : decode cX8_thing 177 = .ok (.iconst 1, 1) := dk_4 (dk_at dksX8_thing_7 14 rfl rfl)
theorem dX8_thing_178 : decode cX8_thing 178 = .ok (.goto 4, 3) := dk_167 0 4 (dk_at dksX8_thing_7 15 rfl rfl)
theorem dX8_thing_181 : decode cX8_thing 181 = .ok (.iconst 0, 1) := dk_3 (dk_at dksX8_thing_7 18 rfl rfl)
theorem dX8_thing_182 : decode cX8_thing 182 = .ok (.iconst 3, 1) := dk_6 (dk_at dksX8_thing_7 19 rfl rfl)
theorem dX8_thing_183 : decode cX8_thing 183 = .ok (.invokevirtual 52, 3) := dk_182 0 52 (dk_at dksX8_thing_7 20 rfl rfl)
theorem dX8_thing_186 : decode cX8_thing 186 = .ok (.aload_n 0, 1) := dk_42 (dk_at dksX8_thing_7 23 rfl rfl)
theorem dX8_thing_187 : decode cX8_thing 187 = .ok (.getfield 20, 3) := dk_180 0 20 (dk_at dksX8_thing_8 0 rfl rfl)
theorem dX8_thing_190 : decode cX8_thing 190 = .ok (.getfield 123, 3) := dk_180 0 123 (dk_at dksX8_thing_8 3 rfl rfl)
theorem dX8_thing_193 : decode cX8_thing 193 = .ok (.iload 5, 2) := dk_21 5 (dk_at dksX8_thing_8 6 rfl rfl)
theorem dX8_thing_195 : decode cX8_thing 195 = .ok (.iconst 1, 1) := dk_4 (dk_at dksX8_thing_8 8 rfl rfl)
theorem dX8_thing_196 : decode cX8_thing 196 = .ok (.bastore, 1) := dk_84 (dk_at dksX8_thing_8 9 rfl rfl)
theorem dX8_thing_197 : decode cX8_thing 197 = .ok (.goto 79, 3) := dk_167 0 79 (dk_at dksX8_thing_8 10 rfl rfl)
theorem dX8_thing_200 : decode cX8_thing 200 = .ok (.iconst 0, 1) := dk_3 (dk_at dksX8_thing_8 13 rfl rfl)
theorem dX8_thing_201 : decode cX8_thing 201 = .ok (.istore 6, 2) := dk_54 6 (dk_at dksX8_thing_8 14 rfl rfl)
theorem dX8_thing_203 : decode cX8_thing 203 = .ok (.iload 6, 2) := dk_21 6 (dk_at dksX8_thing_8 16 rfl rfl)
theorem dX8_thing_205 : decode cX8_thing 205 = .ok (.aload_n 0, 1) := dk_42 (dk_at dksX8_thing_8 18 rfl rfl)
theorem dX8_thing_206 : decode cX8_thing 206 = .ok (.getfield 20, 3) := dk_180 0 20 (dk_at dksX8_thing_8 19 rfl rfl)
theorem dX8_thing_209 : decode cX8_thing 209 = .ok (.getfield 111, 3) := dk_180 0 111 (dk_at dksX8_thing_9 0 rfl rfl)
theorem dX8_thing_212 : decode cX8_thing 212 = .ok (.if_icmp .ge 34, 3) := dk_162 0 34 (dk_at dksX8_thing_9 3 rfl rfl)
theorem dX8_thing_215 : decode cX8_thing 215 = .ok (.aload_n 0, 1) := dk_42 (dk_at dksX8_thing_9 6 rfl rfl)
theorem dX8_thing_216 : decode cX8_thing 216 = .ok (.aload_n 0, 1) := dk_42 (dk_at dksX8_thing_9 7 rfl rfl)
theorem dX8_thing_217 : decode cX8_thing 217 = .ok (.getfield 20, 3) := dk_180 0 20 (dk_at dksX8_thing_9 8 rfl rfl)
theorem dX8_thing_220 : decode cX8_thing 220 = .ok (.getfield 127, 3) := dk_180 0 127 (dk_at dksX8_thing_9 11 rfl rfl)
theorem dX8_thing_223 : decode cX8_thing 223 = .ok (.iload 6, 2) := dk_21 6 (dk_at dksX8_thing_9 14 rfl rfl)
theorem dX8_thing_225 : decode cX8_thing 225 = .ok (.iaload, 1) := dk_46 (dk_at dksX8_thing_9 16 rfl rfl)
theorem dX8_thing_226 : decode cX8_thing 226 = .ok (.iload 5, 2) := dk_21 5 (dk_at dksX8_thing_9 17 rfl rfl)
theorem dX8_thing_228 : decode cX8_thing 228 = .ok (.if_icmp .eq 7, 3) := dk_159 0 7 (dk_at dksX8_thing_9 19 rfl rfl)
theorem dX8_thing_231 : decode cX8_thing 231 = .ok (.iconst 1, 1) := dk_4 (dk_at dksX8_thing_9 22 rfl rfl)
theorem dX8_thing_232 : decode cX8_thing 232 = .ok (.goto 4, 3) := dk_167 0 4 (dk_at dksX8_thing_10 0 rfl rfl)
theorem dX8_thing_235 : decode cX8_thing 235 = .ok (.iconst 0, 1) := dk_3 (dk_at dksX8_thing_10 3 rfl rfl)
theorem dX8_thing_236 : decode cX8_thing 236 = .ok (.iconst 3, 1) := dk_6 (dk_at dksX8_thing_10 4 rfl rfl)
theorem dX8_thing_237 : decode cX8_thing 237 = .ok (.invokevirtual 52, 3) := dk_182 0 52 (dk_at dksX8_thing_10 5 rfl rfl)
theorem dX8_thing_240 : decode cX8_thing 240 = .ok (.iinc 6 1, 3) := dk_132 6 1 (dk_at dksX8_thing_10 8 rfl rfl)
theorem dX8_thing_243 : decode cX8_thing 243 = .ok (.goto (-40), 3) := dk_167 255 216 (dk_at dksX8_thing_10 11 rfl rfl)
theorem dX8_thing_246 : decode cX8_thing 246 = .ok (.aload_n 0, 1) := dk_42 (dk_at dksX8_thing_10 14 rfl rfl)
theorem dX8_thing_247 : decode cX8_thing 247 = .ok (.getfield 20, 3) := dk_180 0 20 (dk_at dksX8_thing_10 15 rfl rfl)
theorem dX8_thing_250 : decode cX8_thing 250 = .ok (.getfield 127, 3) := dk_180 0 127 (dk_at dksX8_thing_10 18 rfl rfl)
theorem dX8_thing_253 : decode cX8_thing 253 = .ok (.aload_n 0, 1) := dk_42 (dk_at dksX8_thing_10 21 rfl rfl)
theorem dX8_thing_254 : decode cX8_thing 254 = .ok (.getfield 20, 3) := dk_180 0 20 (dk_at dksX8_thing_11 0 rfl rfl)
theorem dX8_thing_257 : decode cX8_thing 257 = .ok (.getfield 111, 3) := dk_180 0 111 (dk_at dksX8_thing_11 3 rfl rfl)
theorem dX8_thing_260 : decode cX8_thing 260 = .ok (.iload 5, 2) := dk_21 5 (dk_at dksX8_thing_11 6 rfl rfl)
theorem dX8_thing_262 : decode cX8_thing 262 = .ok (.iastore, 1) := dk_79 (dk_at dksX8_thing_11 8 rfl rfl)
theorem dX8_thing_263 : decode cX8_thing 263 = .ok (.aload_n 0, 1) := dk_42 (dk_at dksX8_thing_11 9 rfl rfl)
theorem dX8_thing_264 : decode cX8_thing 264 = .ok (.getfield 20, 3) := dk_180 0 20 (dk_at dksX8_thing_11 10 rfl rfl)
theorem dX8_thing_267 : decode cX8_thing 267 = .ok (.dup, 1) := dk_89 (dk_at dksX8_thing_11 13 rfl rfl)
theorem dX8_thing_268 : decode cX8_thing 268 = .ok (.getfield 111, 3) := dk_180 0 111 (dk_at dksX8_thing_11 14 rfl rfl)
theorem dX8_thing_271 : decode cX8_thing 271 = .ok (.iconst 1, 1) := dk_4 (dk_at dksX8_thing_11 17 rfl rfl)
theorem dX8_thing_272 : decode cX8_thing 272 = .ok (.iadd, 1) := dk_96 (dk_at dksX8_thing_11 18 rfl rfl)
theorem dX8_thing_273 : decode cX8_thing 273 = .ok (.putfield 111, 3) := dk_181 0 111 (dk_at dksX8_thing_11 19 rfl rfl)
theorem dX8_thing_276 : decode cX8_thing 276 = .ok (.aload_n 0, 1) := dk_42 (dk_at dksX8_thing_11 22 rfl rfl)
theorem dX8_thing_277 : decode cX8_thing 277 = .ok (.invokevirtual 114, 3) := dk_182 0 114 (dk_at dksX8_thing_12 0 rfl rfl)
theorem dX8_thing_280 : decode cX8_thing 280 = .ok (.return_, 1) := dk_177 (dk_at dksX8_thing_12 3 rfl rfl)
theorem q103 : (Jvm.Cond.initialized "TideKeep$BeachReader") ∈ lw_all := lw_g (lw_at lw_m1 16 rfl) rfl
theorem q218 : (Jvm.Cond.fieldLinkNest "TideKeep$BeachReader" (68 : Nat) "TideKeep$Beach" "columns" "I" "TideKeep") ∈ lw_tbl := lw_at lw_m1 131 rfl
theorem q223 : (Jvm.Cond.fieldLinkNest "TideKeep$BeachReader" (71 : Nat) "TideKeep$Beach" "rows" "I" "TideKeep") ∈ lw_tbl := lw_at lw_m1 136 rfl
theorem q228 : (Jvm.Cond.fieldLinkNest "TideKeep$BeachReader" (85 : Nat) "TideKeep$Beach" "best" "I" "TideKeep") ∈ lw_tbl := lw_at lw_m1 141 rfl
theorem q231 : (Jvm.Cond.fieldLinkNest "TideKeep$BeachReader" (88 : Nat) "TideKeep$Beach" "top" "I" "TideKeep") ∈ lw_tbl := lw_at lw_m1 144 rfl
theorem q234 : (Jvm.Cond.fieldLinkNest "TideKeep$BeachReader" (91 : Nat) "TideKeep$Beach" "loss" "I" "TideKeep") ∈ lw_tbl := lw_at lw_m1 147 rfl
theorem q237 : (Jvm.Cond.fieldLinkNest "TideKeep$BeachReader" (111 : Nat) "TideKeep$Beach" "flags" "I" "TideKeep") ∈ lw_tbl := lw_at lw_m1 150 rfl
theorem q239 : (Jvm.Cond.fieldLinkNest "TideKeep$BeachReader" (38 : Nat) "TideKeep$Beach" "clauses" "I" "TideKeep") ∈ lw_tbl := lw_at lw_m1 152 rfl
theorem q242 : (Jvm.Cond.fieldLinkNest "TideKeep$BeachReader" (98 : Nat) "TideKeep$Beach" "numbers" "[I" "TideKeep") ∈ lw_tbl := lw_at lw_m1 155 rfl
theorem q246 : (Jvm.Cond.fieldLinkNest "TideKeep$BeachReader" (120 : Nat) "TideKeep$Beach" "heaps" "[I" "TideKeep") ∈ lw_tbl := lw_at lw_m1 159 rfl
theorem q249 : (Jvm.Cond.fieldLinkNest "TideKeep$BeachReader" (127 : Nat) "TideKeep$Beach" "flagCell" "[I" "TideKeep") ∈ lw_tbl := lw_at lw_m1 162 rfl
theorem q253 : (Jvm.Cond.fieldLinkNest "TideKeep$BeachReader" (123 : Nat) "TideKeep$Beach" "stones" "[Z" "TideKeep") ∈ lw_tbl := lw_at lw_m1 166 rfl
theorem q552 : (Jvm.Cond.instantiable "TideKeep$BeachReader" (11 : Nat)) ∈ lw_all := lw_g (lw_at lw_m2 225 rfl) rfl
theorem q558 : (Jvm.Cond.instanceMethod ({ cls := "TideKeep$BeachReader", name := "<init>", desc := "(LTideKeep;I)V" } : Jvm.MethodName)) ∈ lw_all := lw_g (lw_at lw_m2 231 rfl) rfl
theorem q559 : (Jvm.Cond.code ({ cls := "TideKeep$BeachReader", name := "<init>", desc := "(LTideKeep;I)V" } : Jvm.MethodName) prog_4_method_1_code (3 : Nat) (Option.none : Option Jvm.ClassFile.FieldType)) ∈ lw_all := lw_g (lw_at lw_m2 232 rfl) rfl
theorem q560 : (Jvm.Cond.methodLink "TideKeep$BeachReader" (9 : Nat) ({ cls := "TideKeep$Reader", name := "<init>", desc := "(LTideKeep;I)V" } : Jvm.MethodName)) ∈ lw_all := lw_g (lw_at lw_m2 233 rfl) rfl
theorem q567 : (Jvm.Cond.selects "TideKeep$BeachReader" ({ cls := "TideKeep$Reader", name := "goOn", desc := "()V" } : Jvm.MethodName) ({ cls := "TideKeep$Reader", name := "goOn", desc := "()V" } : Jvm.MethodName)) ∈ lw_all := lw_g (lw_at lw_m3 0 rfl) rfl
theorem q583 : (Jvm.Cond.classLink "TideKeep$BeachReader" (15 : Nat) "TideKeep$Beach") ∈ lw_all := lw_g (lw_at lw_m3 16 rfl) rfl
theorem q584 : (Jvm.Cond.methodLink "TideKeep$BeachReader" (17 : Nat) ({ cls := "TideKeep$Beach", name := "<init>", desc := "()V" } : Jvm.MethodName)) ∈ lw_all := lw_g (lw_at lw_m3 17 rfl) rfl
theorem q585 : (Jvm.Cond.methodLink "TideKeep$BeachReader" (24 : Nat) ({ cls := "TideKeep$Told", name := "values", desc := "()[LTideKeep$Told;" } : Jvm.MethodName)) ∈ lw_all := lw_g (lw_at lw_m3 18 rfl) rfl
theorem q598 : (Jvm.Cond.fieldLink "TideKeep$BeachReader" (20 : Nat) "TideKeep$BeachReader" "made" "LTideKeep$Beach;") ∈ lw_all := lw_g (lw_at lw_m3 31 rfl) rfl
theorem q599 : (Jvm.Cond.fieldLink "TideKeep$BeachReader" (30 : Nat) "TideKeep$BeachReader" "kinds" "[LTideKeep$Told;") ∈ lw_all := lw_g (lw_at lw_m3 32 rfl) rfl
theorem q600 : (Jvm.Cond.fieldLink "TideKeep$BeachReader" (56 : Nat) "TideKeep$BeachReader" "hasThings" "Z") ∈ lw_all := lw_g (lw_at lw_m3 33 rfl) rfl
theorem q601 : (Jvm.Cond.fieldLink "TideKeep$BeachReader" (3 : Nat) "TideKeep$BeachReader" "this$0" "LTideKeep;") ∈ lw_all := lw_g (lw_at lw_m3 34 rfl) rfl
theorem q607 : (Jvm.Cond.fieldLinkNest "TideKeep$BeachReader" (108 : Nat) "TideKeep$Reader" "told" "I" "TideKeep") ∈ lw_tbl := lw_at lw_m3 40 rfl
theorem q610 : (Jvm.Cond.laysFinal "TideKeep$BeachReader" "TideKeep$BeachReader" "made" "LTideKeep$Beach;") ∈ lw_all := lw_g (lw_at lw_m3 43 rfl) rfl
theorem q611 : (Jvm.Cond.soleField "TideKeep$BeachReader" "made") ∈ lw_all := lw_g (lw_at lw_m3 44 rfl) rfl
theorem q612 : (Jvm.Cond.laysFinal "TideKeep$BeachReader" "TideKeep$BeachReader" "kinds" "[LTideKeep$Told;") ∈ lw_all := lw_g (lw_at lw_m3 45 rfl) rfl
theorem q613 : (Jvm.Cond.soleField "TideKeep$BeachReader" "kinds") ∈ lw_all := lw_g (lw_at lw_m3 46 rfl) rfl
theorem q614 : (Jvm.Cond.lays "TideKeep$BeachReader" "TideKeep$BeachReader" "hasThings" "Z") ∈ lw_all := lw_g (lw_at lw_m3 47 rfl) rfl
theorem q615 : (Jvm.Cond.soleField "TideKeep$BeachReader" "hasThings") ∈ lw_all := lw_g (lw_at lw_m3 48 rfl) rfl
theorem q616 : (Jvm.Cond.laysFinal "TideKeep$BeachReader" "TideKeep$BeachReader" "this$0" "LTideKeep;") ∈ lw_all := lw_g (lw_at lw_m3 49 rfl) rfl
theorem q617 : (Jvm.Cond.soleField "TideKeep$BeachReader" "this$0") ∈ lw_all := lw_g (lw_at lw_m3 50 rfl) rfl
theorem q618 : (Jvm.Cond.laysFinal "TideKeep$BeachReader" "TideKeep$Reader" "size" "I") ∈ lw_all := lw_g (lw_at lw_m3 51 rfl) rfl
theorem q620 : (Jvm.Cond.lays "TideKeep$BeachReader" "TideKeep$Reader" "sort" "I") ∈ lw_all := lw_g (lw_at lw_m3 53 rfl) rfl
theorem q622 : (Jvm.Cond.lays "TideKeep$BeachReader" "TideKeep$Reader" "at" "I") ∈ lw_all := lw_g (lw_at lw_m3 55 rfl) rfl
theorem q624 : (Jvm.Cond.lays "TideKeep$BeachReader" "TideKeep$Reader" "to" "I") ∈ lw_all := lw_g (lw_at lw_m3 57 rfl) rfl
theorem q626 : (Jvm.Cond.lays "TideKeep$BeachReader" "TideKeep$Reader" "value" "I") ∈ lw_all := lw_g (lw_at lw_m3 59 rfl) rfl
theorem q628 : (Jvm.Cond.lays "TideKeep$BeachReader" "TideKeep$Reader" "told" "I") ∈ lw_all := lw_g (lw_at lw_m3 61 rfl) rfl
theorem q630 : (Jvm.Cond.laysFinal "TideKeep$BeachReader" "TideKeep$Reader" "this$0" "LTideKeep;") ∈ lw_all := lw_g (lw_at lw_m3 63 rfl) rfl
theorem q632 : (Jvm.Cond.superclass "TideKeep$BeachReader" "TideKeep$Reader") ∈ lw_all := lw_g (lw_at lw_m3 65 rfl) rfl
theorem q634 : (Jvm.Cond.instanceMethod ({ cls := "TideKeep$BeachReader", name := "read", desc := "()LTideKeep$Beach;" } : Jvm.MethodName)) ∈ lw_all := lw_g (lw_at lw_m3 67 rfl) rfl
theorem q635 : (Jvm.Cond.selects "TideKeep$BeachReader" ({ cls := "TideKeep$BeachReader", name := "read", desc := "()LTideKeep$Beach;" } : Jvm.MethodName) ({ cls := "TideKeep$BeachReader", name := "read", desc := "()LTideKeep$Beach;" } : Jvm.MethodName)) ∈ lw_all := lw_g (lw_at lw_m3 68 rfl) rfl
theorem q636 : (Jvm.Cond.code ({ cls := "TideKeep$BeachReader", name := "read", desc := "()LTideKeep$Beach;" } : Jvm.MethodName) prog_4_method_2_code (1 : Nat) (Option.some (Jvm.ClassFile.FieldType.object "TideKeep$Beach"))) ∈ lw_all := lw_g (lw_at lw_m3 69 rfl) rfl
theorem q637 : (Jvm.Cond.methodLink "TideKeep$BeachReader" (34 : Nat) ({ cls := "TideKeep$BeachReader", name := "all", desc := "()I" } : Jvm.MethodName)) ∈ lw_all := lw_g (lw_at lw_m3 70 rfl) rfl
theorem q638 : (Jvm.Cond.sameMethod "TideKeep$BeachReader" "TideKeep$Reader" "all" "()I") ∈ lw_all := lw_g (lw_at lw_m3 71 rfl) rfl
theorem q640 : (Jvm.Cond.selects "TideKeep$BeachReader" ({ cls := "TideKeep$BeachReader", name := "all", desc := "()I" } : Jvm.MethodName) ({ cls := "TideKeep$Reader", name := "all", desc := "()I" } : Jvm.MethodName)) ∈ lw_all := lw_g (lw_at lw_m3 73 rfl) rfl
theorem q646 : (Jvm.Cond.selects "TideKeep$BeachReader" ({ cls := "TideKeep$Reader", name := "clause", desc := "()V" } : Jvm.MethodName) ({ cls := "TideKeep$BeachReader", name := "clause", desc := "()V" } : Jvm.MethodName)) ∈ lw_all := lw_g (lw_at lw_m3 79 rfl) rfl
theorem q647 : (Jvm.Cond.instanceMethod ({ cls := "TideKeep$BeachReader", name := "clause", desc := "()V" } : Jvm.MethodName)) ∈ lw_all := lw_g (lw_at lw_m3 80 rfl) rfl
theorem q648 : (Jvm.Cond.code ({ cls := "TideKeep$BeachReader", name := "clause", desc := "()V" } : Jvm.MethodName) prog_4_method_3_code (3 : Nat) (Option.none : Option Jvm.ClassFile.FieldType)) ∈ lw_all := lw_g (lw_at lw_m3 81 rfl) rfl
theorem q649 : (Jvm.Cond.stringRef "TideKeep$BeachReader" (42 : Nat) "beach") ∈ lw_tbl := lw_at lw_m3 82 rfl
theorem q650 : (Jvm.Cond.methodLink "TideKeep$BeachReader" (44 : Nat) ({ cls := "TideKeep$BeachReader", name := "is", desc := "(Ljava/lang/String;)Z" } : Jvm.MethodName)) ∈ lw_all := lw_g (lw_at lw_m3 83 rfl) rfl
theorem q651 : (Jvm.Cond.sameMethod "TideKeep$BeachReader" "TideKeep$Reader" "is" "(Ljava/lang/String;)Z") ∈ lw_all := lw_g (lw_at lw_m3 84 rfl) rfl
theorem q653 : (Jvm.Cond.selects "TideKeep$BeachReader" ({ cls := "TideKeep$BeachReader", name := "is", desc := "(Ljava/lang/String;)Z" } : Jvm.MethodName) ({ cls := "TideKeep$Reader", name := "is", desc := "(Ljava/lang/String;)Z" } : Jvm.MethodName)) ∈ lw_all := lw_g (lw_at lw_m3 86 rfl) rfl
theorem q704 : (Jvm.Cond.methodLink "TideKeep$BeachReader" (48 : Nat) ({ cls := "TideKeep$BeachReader", name := "isTold", desc := "(I)Z" } : Jvm.MethodName)) ∈ lw_all := lw_g (lw_at lw_m3 137 rfl) rfl
theorem q705 : (Jvm.Cond.privateMethod ({ cls := "TideKeep$BeachReader", name := "isTold", desc := "(I)Z" } : Jvm.MethodName)) ∈ lw_tbl := lw_at lw_m3 138 rfl
theorem q706 : (Jvm.Cond.instanceMethod ({ cls := "TideKeep$BeachReader", name := "isTold", desc := "(I)Z" } : Jvm.MethodName)) ∈ lw_all := lw_g (lw_at lw_m3 139 rfl) rfl
theorem q707 : (Jvm.Cond.code ({ cls := "TideKeep$BeachReader", name := "isTold", desc := "(I)Z" } : Jvm.MethodName) prog_4_method_4_code (2 : Nat) (Option.some Jvm.ClassFile.FieldType.boolean)) ∈ lw_all := lw_g (lw_at lw_m3 140 rfl) rfl
theorem q708 : (Jvm.Cond.methodLink "TideKeep$BeachReader" (52 : Nat) ({ cls := "TideKeep$BeachReader", name := "ask", desc := "(ZI)V" } : Jvm.MethodName)) ∈ lw_all := lw_g (lw_at lw_m3 141 rfl) rfl
theorem q709 : (Jvm.Cond.sameMethod "TideKeep$BeachReader" "TideKeep$Reader" "ask" "(ZI)V") ∈ lw_all := lw_g (lw_at lw_m3 142 rfl) rfl
theorem q711 : (Jvm.Cond.selects "TideKeep$BeachReader" ({ cls := "TideKeep$BeachReader", name := "ask", desc := "(ZI)V" } : Jvm.MethodName) ({ cls := "TideKeep$Reader", name := "ask", desc := "(ZI)V" } : Jvm.MethodName)) ∈ lw_all := lw_g (lw_at lw_m3 144 rfl) rfl
theorem q718 : (Jvm.Cond.methodLink "TideKeep$BeachReader" (60 : Nat) ({ cls := "TideKeep$BeachReader", name := "begins", desc := "(Ljava/lang/String;I)Z" } : Jvm.MethodName)) ∈ lw_all := lw_g (lw_at lw_m3 151 rfl) rfl
theorem q719 : (Jvm.Cond.sameMethod "TideKeep$BeachReader" "TideKeep$Reader" "begins" "(Ljava/lang/String;I)Z") ∈ lw_all := lw_g (lw_at lw_m3 152 rfl) rfl
theorem q721 : (Jvm.Cond.selects "TideKeep$BeachReader" ({ cls := "TideKeep$BeachReader", name := "begins", desc := "(Ljava/lang/String;I)Z" } : Jvm.MethodName) ({ cls := "TideKeep$Reader", name := "begins", desc := "(Ljava/lang/String;I)Z" } : Jvm.MethodName)) ∈ lw_all := lw_g (lw_at lw_m3 154 rfl) rfl
theorem q726 : (Jvm.Cond.methodLink "TideKeep$BeachReader" (64 : Nat) ({ cls := "TideKeep$BeachReader", name := "number", desc := "(II)I" } : Jvm.MethodName)) ∈ lw_all := lw_g (lw_at lw_m3 159 rfl) rfl
theorem q727 : (Jvm.Cond.sameMethod "TideKeep$BeachReader" "TideKeep$Reader" "number" "(II)I") ∈ lw_all := lw_g (lw_at lw_m3 160 rfl) rfl
theorem q729 : (Jvm.Cond.selects "TideKeep$BeachReader" ({ cls := "TideKeep$BeachReader", name := "number", desc := "(II)I" } : Jvm.MethodName) ({ cls := "TideKeep$Reader", name := "number", desc := "(II)I" } : Jvm.MethodName)) ∈ lw_all := lw_g (lw_at lw_m3 162 rfl) rfl
theorem q735 : (Jvm.Cond.selects "TideKeep$BeachReader" ({ cls := "TideKeep$Reader", name := "within", desc := "(II)I" } : Jvm.MethodName) ({ cls := "TideKeep$Reader", name := "within", desc := "(II)I" } : Jvm.MethodName)) ∈ lw_all := lw_g (lw_at lw_m3 168 rfl) rfl
theorem q742 : (Jvm.Cond.stringRef "TideKeep$BeachReader" (74 : Nat) "heap") ∈ lw_tbl := lw_at lw_m3 175 rfl
theorem q743 : (Jvm.Cond.stringRef "TideKeep$BeachReader" (76 : Nat) "stone") ∈ lw_tbl := lw_at lw_m3 176 rfl
theorem q744 : (Jvm.Cond.stringRef "TideKeep$BeachReader" (78 : Nat) "flag") ∈ lw_tbl := lw_at lw_m3 177 rfl
theorem q745 : (Jvm.Cond.methodLink "TideKeep$BeachReader" (80 : Nat) ({ cls := "TideKeep$BeachReader", name := "thing", desc := "()V" } : Jvm.MethodName)) ∈ lw_all := lw_g (lw_at lw_m3 178 rfl) rfl
theorem q746 : (Jvm.Cond.privateMethod ({ cls := "TideKeep$BeachReader", name := "thing", desc := "()V" } : Jvm.MethodName)) ∈ lw_tbl := lw_at lw_m3 179 rfl
theorem q747 : (Jvm.Cond.instanceMethod ({ cls := "TideKeep$BeachReader", name := "thing", desc := "()V" } : Jvm.MethodName)) ∈ lw_all := lw_g (lw_at lw_m3 180 rfl) rfl
theorem q748 : (Jvm.Cond.code ({ cls := "TideKeep$BeachReader", name := "thing", desc := "()V" } : Jvm.MethodName) prog_4_method_5_code (7 : Nat) (Option.none : Option Jvm.ClassFile.FieldType)) ∈ lw_all := lw_g (lw_at lw_m3 181 rfl) rfl
theorem q749 : (Jvm.Cond.methodLink "TideKeep$BeachReader" (114 : Nat) ({ cls := "TideKeep$BeachReader", name := "goOn", desc := "()V" } : Jvm.MethodName)) ∈ lw_all := lw_g (lw_at lw_m3 182 rfl) rfl
theorem q750 : (Jvm.Cond.sameMethod "TideKeep$BeachReader" "TideKeep$Reader" "goOn" "()V") ∈ lw_all := lw_g (lw_at lw_m3 183 rfl) rfl
theorem q752 : (Jvm.Cond.selects "TideKeep$BeachReader" ({ cls := "TideKeep$BeachReader", name := "goOn", desc := "()V" } : Jvm.MethodName) ({ cls := "TideKeep$Reader", name := "goOn", desc := "()V" } : Jvm.MethodName)) ∈ lw_all := lw_g (lw_at lw_m3 185 rfl) rfl
theorem q753 : (Jvm.Cond.methodLink "TideKeep$BeachReader" (117 : Nat) ({ cls := "TideKeep$BeachReader", name := "within", desc := "(II)I" } : Jvm.MethodName)) ∈ lw_all := lw_g (lw_at lw_m3 186 rfl) rfl
theorem q754 : (Jvm.Cond.sameMethod "TideKeep$BeachReader" "TideKeep$Reader" "within" "(II)I") ∈ lw_all := lw_g (lw_at lw_m3 187 rfl) rfl
theorem q756 : (Jvm.Cond.selects "TideKeep$BeachReader" ({ cls := "TideKeep$BeachReader", name := "within", desc := "(II)I" } : Jvm.MethodName) ({ cls := "TideKeep$Reader", name := "within", desc := "(II)I" } : Jvm.MethodName)) ∈ lw_all := lw_g (lw_at lw_m3 189 rfl) rfl
theorem q757 : (Jvm.Cond.stringRef "TideKeep$BeachReader" (83 : Nat) "hump") ∈ lw_tbl := lw_at lw_m3 190 rfl
theorem q861 : (Jvm.Cond.selects "TideKeep$BeachReader" ({ cls := "java/lang/Object", name := "getClass", desc := "()Ljava/lang/Class;" } : Jvm.MethodName) ({ cls := "java/lang/Object", name := "getClass", desc := "()Ljava/lang/Class;" } : Jvm.MethodName)) ∈ lw_all := lw_g (lw_at lw_m4 54 rfl) rfl
theorem q1997 : (Jvm.Cond.selects "TideKeep$BeachReader" ({ cls := "TideKeep$Reader", name := "is", desc := "(Ljava/lang/String;)Z" } : Jvm.MethodName) ({ cls := "TideKeep$Reader", name := "is", desc := "(Ljava/lang/String;)Z" } : Jvm.MethodName)) ∈ lw_all := lw_g (lw_at lw_m8 230 rfl) rfl
theorem q2001 : (Jvm.Cond.selects "TideKeep$BeachReader" ({ cls := "TideKeep$Reader", name := "ask", desc := "(ZI)V" } : Jvm.MethodName) ({ cls := "TideKeep$Reader", name := "ask", desc := "(ZI)V" } : Jvm.MethodName)) ∈ lw_all := lw_g (lw_at lw_m8 234 rfl) rfl
theorem q2013 : (Jvm.Cond.castable "TideKeep$BeachReader" "java/lang/Object") ∈ lw_tbl := lw_at lw_m9 6 rfl
theorem q2035 : (Jvm.Cond.fieldLinkNest "TideKeep$BeachReader" (94 : Nat) "TideKeep$Told" "word" "Ljava/lang/String;" "TideKeep") ∈ lw_tbl := lw_at lw_m9 28 rfl
theorem q2036 : (Jvm.Cond.fieldLinkNest "TideKeep$BeachReader" (102 : Nat) "TideKeep$Told" "low" "I" "TideKeep") ∈ lw_tbl := lw_at lw_m9 29 rfl
theorem q2037 : (Jvm.Cond.fieldLinkNest "TideKeep$BeachReader" (105 : Nat) "TideKeep$Told" "high" "I" "TideKeep") ∈ lw_tbl := lw_at lw_m9 30 rfl
theorem in_X8 : ∀ w ∈ wsX80, w ∈ lw_all := lw_in wsX80 [618, 620, 622, 624, 626, 628, 630, 610, 612, 614, 616] (by decide +kernel) (by decide +kernel)

/-! TideKeep$Hand -/
set_option maxRecDepth 100000
def RX9 : String := "TideKeep$Hand"
def TX9 : u_T := fun k => match k with
  | _ => ("TideKeep$Hand", "acts", "Ljava/util/ArrayList;", true)
def tyX9 : Nat → FieldType := fun k => match k with
  | _ => .object "java/util/ArrayList"
abbrev wsX90 : List Cond := u_ws RX9 TX9 1
theorem nmX9 : ∀ a, a < 1 → ∀ b, b < 1 → a ≠ b → (TX9 a).2.1 ≠ (TX9 b).2.1 := by decide +kernel
theorem tyX9_ok : ∀ k, k < 1 → parseFieldDescriptor (TX9 k).2.2.1 = some (tyX9 k) := by decide +kernel
abbrev cX9_init : ByteArray := prog_5_method_1_code
def yX9_init : MethodName := ⟨RX9, "<init>", "()V"⟩
def dkwX9_init_0 : List UInt8 := [42, 183, 0, 1, 42, 187, 0, 7, 89, 183, 0, 9, 181, 0, 10, 177]
abbrev dktX9_init_0 : List UInt8 := dkwX9_init_0 ++ []
theorem dksX9_init_0 : cX9_init.data.toList.drop 0 = dktX9_init_0 := by decide +kernel
theorem dX9_init_0 : decode cX9_init 0 = .ok (.aload_n 0, 1) := dk_42 (dk_at dksX9_init_0 0 rfl rfl)
theorem dX9_init_1 : decode cX9_init 1 = .ok (.invokespecial 1, 3) := dk_183 0 1 (dk_at dksX9_init_0 1 rfl rfl)
theorem dX9_init_4 : decode cX9_init 4 = .ok (.aload_n 0, 1) := dk_42 (dk_at dksX9_init_0 4 rfl rfl)
theorem dX9_init_5 : decode cX9_init 5 = .ok (.new 7, 3) := dk_187 0 7 (dk_at dksX9_init_0 5 rfl rfl)
theorem dX9_init_8 : decode cX9_init 8 = .ok (.dup, 1) := dk_89 (dk_at dksX9_init_0 8 rfl rfl)
theorem dX9_init_9 : decode cX9_init 9 = .ok (.invokespecial 9, 3) := dk_183 0 9 (dk_at dksX9_init_0 9 rfl rfl)
theorem dX9_init_12 : decode cX9_init 12 = .ok (.putfield 10, 3) := dk_181 0 10 (dk_at dksX9_init_0 12 rfl rfl)
theorem dX9_init_15 : decode cX9_init 15 = .ok (.return_, 1) := dk_177 (dk_at dksX9_init_0 15 rfl rfl)
theorem q108 : (Jvm.Cond.initialized "TideKeep$Hand") ∈ lw_all := lw_g (lw_at lw_m1 21 rfl) rfl
theorem q776 : (Jvm.Cond.instantiable "TideKeep$Hand" (1 : Nat)) ∈ lw_all := lw_g (lw_at lw_m3 209 rfl) rfl
theorem q778 : (Jvm.Cond.instanceMethod ({ cls := "TideKeep$Hand", name := "<init>", desc := "()V" } : Jvm.MethodName)) ∈ lw_all := lw_g (lw_at lw_m3 211 rfl) rfl
theorem q779 : (Jvm.Cond.code ({ cls := "TideKeep$Hand", name := "<init>", desc := "()V" } : Jvm.MethodName) prog_5_method_1_code (1 : Nat) (Option.none : Option Jvm.ClassFile.FieldType)) ∈ lw_all := lw_g (lw_at lw_m3 212 rfl) rfl
theorem q780 : (Jvm.Cond.methodLink "TideKeep$Hand" (1 : Nat) ({ cls := "java/lang/Object", name := "<init>", desc := "()V" } : Jvm.MethodName)) ∈ lw_all := lw_g (lw_at lw_m3 213 rfl) rfl
theorem q781 : (Jvm.Cond.classLink "TideKeep$Hand" (7 : Nat) "java/util/ArrayList") ∈ lw_all := lw_g (lw_at lw_m3 214 rfl) rfl
theorem q782 : (Jvm.Cond.methodLink "TideKeep$Hand" (9 : Nat) ({ cls := "java/util/ArrayList", name := "<init>", desc := "()V" } : Jvm.MethodName)) ∈ lw_all := lw_g (lw_at lw_m3 215 rfl) rfl
theorem q783 : (Jvm.Cond.fieldLink "TideKeep$Hand" (10 : Nat) "TideKeep$Hand" "acts" "Ljava/util/ArrayList;") ∈ lw_all := lw_g (lw_at lw_m3 216 rfl) rfl
theorem q787 : (Jvm.Cond.laysFinal "TideKeep$Hand" "TideKeep$Hand" "acts" "Ljava/util/ArrayList;") ∈ lw_all := lw_g (lw_at lw_m3 220 rfl) rfl
theorem q788 : (Jvm.Cond.soleField "TideKeep$Hand" "acts") ∈ lw_all := lw_g (lw_at lw_m3 221 rfl) rfl
theorem q789 : (Jvm.Cond.superclass "TideKeep$Hand" "java/lang/Object") ∈ lw_all := lw_g (lw_at lw_m3 222 rfl) rfl
theorem q862 : (Jvm.Cond.selects "TideKeep$Hand" ({ cls := "java/lang/Object", name := "getClass", desc := "()Ljava/lang/Class;" } : Jvm.MethodName) ({ cls := "java/lang/Object", name := "getClass", desc := "()Ljava/lang/Class;" } : Jvm.MethodName)) ∈ lw_all := lw_g (lw_at lw_m4 55 rfl) rfl
theorem q2017 : (Jvm.Cond.castable "TideKeep$Hand" "java/lang/Object") ∈ lw_tbl := lw_at lw_m9 10 rfl
theorem in_X9 : ∀ w ∈ wsX90, w ∈ lw_all := lw_in wsX90 [787] (by decide +kernel) (by decide +kernel)
