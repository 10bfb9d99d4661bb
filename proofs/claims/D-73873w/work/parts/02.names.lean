/-! DECODE ROWS BY BYTES: one lemma an opcode; a method's code is cut into short pieces once, and a row reads its own piece alone. -/
set_option maxRecDepth 100000
/-- the code has just these bytes from pc on -/
def DkAt (code : ByteArray) (pc : Nat) (bs : List UInt8) : Prop := ∀ (j : Nat) (b : UInt8), bs[j]? = some b → code.data.toList[pc + j]? = some b
/-- the piece W has the bytes bs from its place j on -/
def dkIn (W : List UInt8) (j : Nat) (bs : List UInt8) : Bool := decide ((W.drop j).take bs.length = bs)
theorem dk_seg {l W T : List UInt8} {o o2 : Nat} (h : l.drop o = W ++ T) (n : Nat) (hn : W.length = n) (ho : o + n = o2) : l.drop o2 = T := by
  subst ho
  rw [← List.drop_drop, h, List.drop_left' hn]
theorem dk_at {code : ByteArray} {W T bs : List UInt8} {o pc : Nat} (h : code.data.toList.drop o = W ++ T) (j : Nat) (hp : o + j = pc) (hw : dkIn W j bs = true) : DkAt code pc bs := by
  subst hp
  intro i b e
  have h1 := of_decide_eq_true hw
  have h2 : i < bs.length := (List.getElem?_eq_some_iff.mp e).1
  have h3 : W[j + i]? = some b := by
    rw [← h1, List.getElem?_take, if_pos h2, List.getElem?_drop] at e
    exact e
  have h4 : j + i < W.length := (List.getElem?_eq_some_iff.mp h3).1
  have h5 : (code.data.toList.drop o)[j + i]? = some b := by
    rw [h, List.getElem?_append_left h4]
    exact h3
  rw [List.getElem?_drop, ← Nat.add_assoc] at h5
  exact h5
theorem dk_u1 {A : ByteArray} {p : Nat} {b : UInt8} (h : A.data.toList[p]? = some b) : (Reader.u1 : Reader DecodeError Nat) A p = .ok (b.toNat, p + 1) := by
  obtain ⟨h1, h2⟩ := List.getElem?_eq_some_iff.mp h
  have h3 : p < A.size := by simpa using h1
  have h4 : A[p]'h3 = b := h2
  have e : (Reader.u1 : Reader DecodeError Nat) A p = (if h : p < A.size then .ok (A[p].toNat, p + 1) else .error (HasTruncated.truncated p)) := by
    show (do if h : p < A.size then do set (p + 1); Pure.pure A[p].toNat else MonadExcept.throw (HasTruncated.truncated p) : Reader DecodeError Nat) A p = _
    by_cases hi : p < A.size
    · rw [dif_pos hi, dif_pos hi]; rfl
    · rw [dif_neg hi, dif_neg hi]; rfl
  rw [e, dif_pos h3, h4]
theorem dk_bind {α β : Type} {r : Reader DecodeError α} {f : α → Reader DecodeError β} {A : ByteArray} {p s : Nat} {a : α} (h : r A p = .ok (a, s)) : (r >>= f) A p = f a A s := by
  show (do let (a, s) ← r A p; f a A s : Except DecodeError (β × Nat)) = _
  rw [h]
  rfl
theorem dk_map {α β : Type} {r : Reader DecodeError α} {g : α → β} {A : ByteArray} {p s : Nat} {a : α} (h : r A p = .ok (a, s)) : (g <$> r) A p = .ok (g a, s) := by
  show (do let (a, s) ← r A p; .ok (g a, s) : Except DecodeError (β × Nat)) = _
  rw [h]
  rfl
theorem dk_u2 {A : ByteArray} {p : Nat} {a b : UInt8} (h : A.data.toList[p]? = some a) (h2 : A.data.toList[p + 1]? = some b) : (Reader.u2 : Reader DecodeError Nat) A p = .ok (a.toNat * 256 + b.toNat, p + 2) := by
  show (Reader.u1 >>= fun hi => Reader.u1 >>= fun lo => Pure.pure (hi * 256 + lo) : Reader DecodeError Nat) A p = _
  rw [dk_bind (dk_u1 h), dk_bind (dk_u1 h2)]
  rfl
theorem dk_of {code : ByteArray} {pc n : Nat} {i : Instr} (h : Decoder.instr pc code pc = .ok (i, pc + n)) : decode code pc = .ok (i, n) := by
  have e : decode code pc = (match Decoder.instr pc code pc with | .error x => .error x | .ok (j, s) => .ok (j, s - pc)) := by
    show (do let (j, s) ← Decoder.instr pc code pc; Pure.pure (j, s - pc) : Except DecodeError (Instr × Nat)) = _
    cases Decoder.instr pc code pc <;> rfl
  rw [e, h]
  show Except.ok (i, pc + n - pc) = _
  rw [Nat.add_sub_cancel_left]
theorem dk_1 {code : ByteArray} {pc : Nat} (h : DkAt code pc [1]) : decode code pc = .ok (.aconst_null, 1) := dk_of ((dk_bind (dk_u1 (h 0 _ rfl))).trans rfl)
theorem dk_2 {code : ByteArray} {pc : Nat} (h : DkAt code pc [2]) : decode code pc = .ok (.iconst (-1), 1) := dk_of ((dk_bind (dk_u1 (h 0 _ rfl))).trans rfl)
theorem dk_3 {code : ByteArray} {pc : Nat} (h : DkAt code pc [3]) : decode code pc = .ok (.iconst 0, 1) := dk_of ((dk_bind (dk_u1 (h 0 _ rfl))).trans rfl)
theorem dk_4 {code : ByteArray} {pc : Nat} (h : DkAt code pc [4]) : decode code pc = .ok (.iconst 1, 1) := dk_of ((dk_bind (dk_u1 (h 0 _ rfl))).trans rfl)
theorem dk_5 {code : ByteArray} {pc : Nat} (h : DkAt code pc [5]) : decode code pc = .ok (.iconst 2, 1) := dk_of ((dk_bind (dk_u1 (h 0 _ rfl))).trans rfl)
theorem dk_6 {code : ByteArray} {pc : Nat} (h : DkAt code pc [6]) : decode code pc = .ok (.iconst 3, 1) := dk_of ((dk_bind (dk_u1 (h 0 _ rfl))).trans rfl)
theorem dk_7 {code : ByteArray} {pc : Nat} (h : DkAt code pc [7]) : decode code pc = .ok (.iconst 4, 1) := dk_of ((dk_bind (dk_u1 (h 0 _ rfl))).trans rfl)
theorem dk_8 {code : ByteArray} {pc : Nat} (h : DkAt code pc [8]) : decode code pc = .ok (.iconst 5, 1) := dk_of ((dk_bind (dk_u1 (h 0 _ rfl))).trans rfl)
theorem dk_9 {code : ByteArray} {pc : Nat} (h : DkAt code pc [9]) : decode code pc = .ok (.lconst 0, 1) := dk_of ((dk_bind (dk_u1 (h 0 _ rfl))).trans rfl)
theorem dk_10 {code : ByteArray} {pc : Nat} (h : DkAt code pc [10]) : decode code pc = .ok (.lconst 1, 1) := dk_of ((dk_bind (dk_u1 (h 0 _ rfl))).trans rfl)
theorem dk_16 {code : ByteArray} {pc : Nat} (a : UInt8) (h : DkAt code pc [16, a]) : decode code pc = .ok (.bipush (Reader.signed 8 a.toNat), 2) := dk_of ((dk_bind (dk_u1 (h 0 _ rfl))).trans ((dk_bind (dk_map (dk_u1 (h 1 _ rfl)))).trans rfl))
theorem dk_17 {code : ByteArray} {pc : Nat} (a b : UInt8) (h : DkAt code pc [17, a, b]) : decode code pc = .ok (.sipush (Reader.signed 16 (a.toNat * 256 + b.toNat)), 3) := dk_of ((dk_bind (dk_u1 (h 0 _ rfl))).trans ((dk_bind (dk_map (dk_u2 (h 1 _ rfl) (h 2 _ rfl)))).trans rfl))
theorem dk_18 {code : ByteArray} {pc : Nat} (a : UInt8) (h : DkAt code pc [18, a]) : decode code pc = .ok (.ldc a.toNat, 2) := dk_of ((dk_bind (dk_u1 (h 0 _ rfl))).trans ((dk_bind (dk_u1 (h 1 _ rfl))).trans rfl))
theorem dk_19 {code : ByteArray} {pc : Nat} (a b : UInt8) (h : DkAt code pc [19, a, b]) : decode code pc = .ok (.ldc_w (a.toNat * 256 + b.toNat), 3) := dk_of ((dk_bind (dk_u1 (h 0 _ rfl))).trans ((dk_bind (dk_u2 (h 1 _ rfl) (h 2 _ rfl))).trans rfl))
theorem dk_20 {code : ByteArray} {pc : Nat} (a b : UInt8) (h : DkAt code pc [20, a, b]) : decode code pc = .ok (.ldc2_w (a.toNat * 256 + b.toNat), 3) := dk_of ((dk_bind (dk_u1 (h 0 _ rfl))).trans ((dk_bind (dk_u2 (h 1 _ rfl) (h 2 _ rfl))).trans rfl))
theorem dk_21 {code : ByteArray} {pc : Nat} (a : UInt8) (h : DkAt code pc [21, a]) : decode code pc = .ok (.iload a.toNat, 2) := dk_of ((dk_bind (dk_u1 (h 0 _ rfl))).trans ((dk_bind (dk_u1 (h 1 _ rfl))).trans rfl))
theorem dk_22 {code : ByteArray} {pc : Nat} (a : UInt8) (h : DkAt code pc [22, a]) : decode code pc = .ok (.lload a.toNat, 2) := dk_of ((dk_bind (dk_u1 (h 0 _ rfl))).trans ((dk_bind (dk_u1 (h 1 _ rfl))).trans rfl))
theorem dk_25 {code : ByteArray} {pc : Nat} (a : UInt8) (h : DkAt code pc [25, a]) : decode code pc = .ok (.aload a.toNat, 2) := dk_of ((dk_bind (dk_u1 (h 0 _ rfl))).trans ((dk_bind (dk_u1 (h 1 _ rfl))).trans rfl))
theorem dk_26 {code : ByteArray} {pc : Nat} (h : DkAt code pc [26]) : decode code pc = .ok (.iload_n 0, 1) := dk_of ((dk_bind (dk_u1 (h 0 _ rfl))).trans rfl)
theorem dk_27 {code : ByteArray} {pc : Nat} (h : DkAt code pc [27]) : decode code pc = .ok (.iload_n 1, 1) := dk_of ((dk_bind (dk_u1 (h 0 _ rfl))).trans rfl)
theorem dk_28 {code : ByteArray} {pc : Nat} (h : DkAt code pc [28]) : decode code pc = .ok (.iload_n 2, 1) := dk_of ((dk_bind (dk_u1 (h 0 _ rfl))).trans rfl)
theorem dk_29 {code : ByteArray} {pc : Nat} (h : DkAt code pc [29]) : decode code pc = .ok (.iload_n 3, 1) := dk_of ((dk_bind (dk_u1 (h 0 _ rfl))).trans rfl)
theorem dk_30 {code : ByteArray} {pc : Nat} (h : DkAt code pc [30]) : decode code pc = .ok (.lload_n 0, 1) := dk_of ((dk_bind (dk_u1 (h 0 _ rfl))).trans rfl)
theorem dk_32 {code : ByteArray} {pc : Nat} (h : DkAt code pc [32]) : decode code pc = .ok (.lload_n 2, 1) := dk_of ((dk_bind (dk_u1 (h 0 _ rfl))).trans rfl)
theorem dk_42 {code : ByteArray} {pc : Nat} (h : DkAt code pc [42]) : decode code pc = .ok (.aload_n 0, 1) := dk_of ((dk_bind (dk_u1 (h 0 _ rfl))).trans rfl)
theorem dk_43 {code : ByteArray} {pc : Nat} (h : DkAt code pc [43]) : decode code pc = .ok (.aload_n 1, 1) := dk_of ((dk_bind (dk_u1 (h 0 _ rfl))).trans rfl)
theorem dk_44 {code : ByteArray} {pc : Nat} (h : DkAt code pc [44]) : decode code pc = .ok (.aload_n 2, 1) := dk_of ((dk_bind (dk_u1 (h 0 _ rfl))).trans rfl)
theorem dk_45 {code : ByteArray} {pc : Nat} (h : DkAt code pc [45]) : decode code pc = .ok (.aload_n 3, 1) := dk_of ((dk_bind (dk_u1 (h 0 _ rfl))).trans rfl)
theorem dk_46 {code : ByteArray} {pc : Nat} (h : DkAt code pc [46]) : decode code pc = .ok (.iaload, 1) := dk_of ((dk_bind (dk_u1 (h 0 _ rfl))).trans rfl)
theorem dk_50 {code : ByteArray} {pc : Nat} (h : DkAt code pc [50]) : decode code pc = .ok (.aaload, 1) := dk_of ((dk_bind (dk_u1 (h 0 _ rfl))).trans rfl)
theorem dk_51 {code : ByteArray} {pc : Nat} (h : DkAt code pc [51]) : decode code pc = .ok (.baload, 1) := dk_of ((dk_bind (dk_u1 (h 0 _ rfl))).trans rfl)
theorem dk_54 {code : ByteArray} {pc : Nat} (a : UInt8) (h : DkAt code pc [54, a]) : decode code pc = .ok (.istore a.toNat, 2) := dk_of ((dk_bind (dk_u1 (h 0 _ rfl))).trans ((dk_bind (dk_u1 (h 1 _ rfl))).trans rfl))
theorem dk_58 {code : ByteArray} {pc : Nat} (a : UInt8) (h : DkAt code pc [58, a]) : decode code pc = .ok (.astore a.toNat, 2) := dk_of ((dk_bind (dk_u1 (h 0 _ rfl))).trans ((dk_bind (dk_u1 (h 1 _ rfl))).trans rfl))
theorem dk_60 {code : ByteArray} {pc : Nat} (h : DkAt code pc [60]) : decode code pc = .ok (.istore_n 1, 1) := dk_of ((dk_bind (dk_u1 (h 0 _ rfl))).trans rfl)
theorem dk_61 {code : ByteArray} {pc : Nat} (h : DkAt code pc [61]) : decode code pc = .ok (.istore_n 2, 1) := dk_of ((dk_bind (dk_u1 (h 0 _ rfl))).trans rfl)
theorem dk_62 {code : ByteArray} {pc : Nat} (h : DkAt code pc [62]) : decode code pc = .ok (.istore_n 3, 1) := dk_of ((dk_bind (dk_u1 (h 0 _ rfl))).trans rfl)
theorem dk_76 {code : ByteArray} {pc : Nat} (h : DkAt code pc [76]) : decode code pc = .ok (.astore_n 1, 1) := dk_of ((dk_bind (dk_u1 (h 0 _ rfl))).trans rfl)
theorem dk_77 {code : ByteArray} {pc : Nat} (h : DkAt code pc [77]) : decode code pc = .ok (.astore_n 2, 1) := dk_of ((dk_bind (dk_u1 (h 0 _ rfl))).trans rfl)
theorem dk_78 {code : ByteArray} {pc : Nat} (h : DkAt code pc [78]) : decode code pc = .ok (.astore_n 3, 1) := dk_of ((dk_bind (dk_u1 (h 0 _ rfl))).trans rfl)
theorem dk_79 {code : ByteArray} {pc : Nat} (h : DkAt code pc [79]) : decode code pc = .ok (.iastore, 1) := dk_of ((dk_bind (dk_u1 (h 0 _ rfl))).trans rfl)
theorem dk_83 {code : ByteArray} {pc : Nat} (h : DkAt code pc [83]) : decode code pc = .ok (.aastore, 1) := dk_of ((dk_bind (dk_u1 (h 0 _ rfl))).trans rfl)
theorem dk_84 {code : ByteArray} {pc : Nat} (h : DkAt code pc [84]) : decode code pc = .ok (.bastore, 1) := dk_of ((dk_bind (dk_u1 (h 0 _ rfl))).trans rfl)
theorem dk_87 {code : ByteArray} {pc : Nat} (h : DkAt code pc [87]) : decode code pc = .ok (.pop, 1) := dk_of ((dk_bind (dk_u1 (h 0 _ rfl))).trans rfl)
theorem dk_89 {code : ByteArray} {pc : Nat} (h : DkAt code pc [89]) : decode code pc = .ok (.dup, 1) := dk_of ((dk_bind (dk_u1 (h 0 _ rfl))).trans rfl)
theorem dk_90 {code : ByteArray} {pc : Nat} (h : DkAt code pc [90]) : decode code pc = .ok (.dup_x1, 1) := dk_of ((dk_bind (dk_u1 (h 0 _ rfl))).trans rfl)
theorem dk_92 {code : ByteArray} {pc : Nat} (h : DkAt code pc [92]) : decode code pc = .ok (.dup2, 1) := dk_of ((dk_bind (dk_u1 (h 0 _ rfl))).trans rfl)
theorem dk_96 {code : ByteArray} {pc : Nat} (h : DkAt code pc [96]) : decode code pc = .ok (.iadd, 1) := dk_of ((dk_bind (dk_u1 (h 0 _ rfl))).trans rfl)
theorem dk_97 {code : ByteArray} {pc : Nat} (h : DkAt code pc [97]) : decode code pc = .ok (.ladd, 1) := dk_of ((dk_bind (dk_u1 (h 0 _ rfl))).trans rfl)
theorem dk_100 {code : ByteArray} {pc : Nat} (h : DkAt code pc [100]) : decode code pc = .ok (.isub, 1) := dk_of ((dk_bind (dk_u1 (h 0 _ rfl))).trans rfl)
theorem dk_101 {code : ByteArray} {pc : Nat} (h : DkAt code pc [101]) : decode code pc = .ok (.lsub, 1) := dk_of ((dk_bind (dk_u1 (h 0 _ rfl))).trans rfl)
theorem dk_104 {code : ByteArray} {pc : Nat} (h : DkAt code pc [104]) : decode code pc = .ok (.imul, 1) := dk_of ((dk_bind (dk_u1 (h 0 _ rfl))).trans rfl)
theorem dk_105 {code : ByteArray} {pc : Nat} (h : DkAt code pc [105]) : decode code pc = .ok (.lmul, 1) := dk_of ((dk_bind (dk_u1 (h 0 _ rfl))).trans rfl)
theorem dk_108 {code : ByteArray} {pc : Nat} (h : DkAt code pc [108]) : decode code pc = .ok (.idiv, 1) := dk_of ((dk_bind (dk_u1 (h 0 _ rfl))).trans rfl)
theorem dk_112 {code : ByteArray} {pc : Nat} (h : DkAt code pc [112]) : decode code pc = .ok (.irem, 1) := dk_of ((dk_bind (dk_u1 (h 0 _ rfl))).trans rfl)
theorem dk_113 {code : ByteArray} {pc : Nat} (h : DkAt code pc [113]) : decode code pc = .ok (.lrem, 1) := dk_of ((dk_bind (dk_u1 (h 0 _ rfl))).trans rfl)
theorem dk_116 {code : ByteArray} {pc : Nat} (h : DkAt code pc [116]) : decode code pc = .ok (.ineg, 1) := dk_of ((dk_bind (dk_u1 (h 0 _ rfl))).trans rfl)
theorem dk_122 {code : ByteArray} {pc : Nat} (h : DkAt code pc [122]) : decode code pc = .ok (.ishr, 1) := dk_of ((dk_bind (dk_u1 (h 0 _ rfl))).trans rfl)
theorem dk_126 {code : ByteArray} {pc : Nat} (h : DkAt code pc [126]) : decode code pc = .ok (.iand, 1) := dk_of ((dk_bind (dk_u1 (h 0 _ rfl))).trans rfl)
theorem dk_128 {code : ByteArray} {pc : Nat} (h : DkAt code pc [128]) : decode code pc = .ok (.ior, 1) := dk_of ((dk_bind (dk_u1 (h 0 _ rfl))).trans rfl)
theorem dk_130 {code : ByteArray} {pc : Nat} (h : DkAt code pc [130]) : decode code pc = .ok (.ixor, 1) := dk_of ((dk_bind (dk_u1 (h 0 _ rfl))).trans rfl)
theorem dk_132 {code : ByteArray} {pc : Nat} (a b : UInt8) (h : DkAt code pc [132, a, b]) : decode code pc = .ok (.iinc a.toNat (Reader.signed 8 b.toNat), 3) := dk_of ((dk_bind (dk_u1 (h 0 _ rfl))).trans ((dk_bind (dk_u1 (h 1 _ rfl))).trans ((dk_bind (dk_map (dk_u1 (h 2 _ rfl)))).trans rfl)))
theorem dk_133 {code : ByteArray} {pc : Nat} (h : DkAt code pc [133]) : decode code pc = .ok (.i2l, 1) := dk_of ((dk_bind (dk_u1 (h 0 _ rfl))).trans rfl)
theorem dk_136 {code : ByteArray} {pc : Nat} (h : DkAt code pc [136]) : decode code pc = .ok (.l2i, 1) := dk_of ((dk_bind (dk_u1 (h 0 _ rfl))).trans rfl)
theorem dk_145 {code : ByteArray} {pc : Nat} (h : DkAt code pc [145]) : decode code pc = .ok (.i2b, 1) := dk_of ((dk_bind (dk_u1 (h 0 _ rfl))).trans rfl)
theorem dk_148 {code : ByteArray} {pc : Nat} (h : DkAt code pc [148]) : decode code pc = .ok (.lcmp, 1) := dk_of ((dk_bind (dk_u1 (h 0 _ rfl))).trans rfl)
theorem dk_153 {code : ByteArray} {pc : Nat} (a b : UInt8) (h : DkAt code pc [153, a, b]) : decode code pc = .ok (.ifCond .eq (Reader.signed 16 (a.toNat * 256 + b.toNat)), 3) := dk_of ((dk_bind (dk_u1 (h 0 _ rfl))).trans ((dk_bind (dk_map (dk_u2 (h 1 _ rfl) (h 2 _ rfl)))).trans rfl))
theorem dk_154 {code : ByteArray} {pc : Nat} (a b : UInt8) (h : DkAt code pc [154, a, b]) : decode code pc = .ok (.ifCond .ne (Reader.signed 16 (a.toNat * 256 + b.toNat)), 3) := dk_of ((dk_bind (dk_u1 (h 0 _ rfl))).trans ((dk_bind (dk_map (dk_u2 (h 1 _ rfl) (h 2 _ rfl)))).trans rfl))
theorem dk_155 {code : ByteArray} {pc : Nat} (a b : UInt8) (h : DkAt code pc [155, a, b]) : decode code pc = .ok (.ifCond .lt (Reader.signed 16 (a.toNat * 256 + b.toNat)), 3) := dk_of ((dk_bind (dk_u1 (h 0 _ rfl))).trans ((dk_bind (dk_map (dk_u2 (h 1 _ rfl) (h 2 _ rfl)))).trans rfl))
theorem dk_156 {code : ByteArray} {pc : Nat} (a b : UInt8) (h : DkAt code pc [156, a, b]) : decode code pc = .ok (.ifCond .ge (Reader.signed 16 (a.toNat * 256 + b.toNat)), 3) := dk_of ((dk_bind (dk_u1 (h 0 _ rfl))).trans ((dk_bind (dk_map (dk_u2 (h 1 _ rfl) (h 2 _ rfl)))).trans rfl))
theorem dk_157 {code : ByteArray} {pc : Nat} (a b : UInt8) (h : DkAt code pc [157, a, b]) : decode code pc = .ok (.ifCond .gt (Reader.signed 16 (a.toNat * 256 + b.toNat)), 3) := dk_of ((dk_bind (dk_u1 (h 0 _ rfl))).trans ((dk_bind (dk_map (dk_u2 (h 1 _ rfl) (h 2 _ rfl)))).trans rfl))
theorem dk_158 {code : ByteArray} {pc : Nat} (a b : UInt8) (h : DkAt code pc [158, a, b]) : decode code pc = .ok (.ifCond .le (Reader.signed 16 (a.toNat * 256 + b.toNat)), 3) := dk_of ((dk_bind (dk_u1 (h 0 _ rfl))).trans ((dk_bind (dk_map (dk_u2 (h 1 _ rfl) (h 2 _ rfl)))).trans rfl))
theorem dk_159 {code : ByteArray} {pc : Nat} (a b : UInt8) (h : DkAt code pc [159, a, b]) : decode code pc = .ok (.if_icmp .eq (Reader.signed 16 (a.toNat * 256 + b.toNat)), 3) := dk_of ((dk_bind (dk_u1 (h 0 _ rfl))).trans ((dk_bind (dk_map (dk_u2 (h 1 _ rfl) (h 2 _ rfl)))).trans rfl))
theorem dk_160 {code : ByteArray} {pc : Nat} (a b : UInt8) (h : DkAt code pc [160, a, b]) : decode code pc = .ok (.if_icmp .ne (Reader.signed 16 (a.toNat * 256 + b.toNat)), 3) := dk_of ((dk_bind (dk_u1 (h 0 _ rfl))).trans ((dk_bind (dk_map (dk_u2 (h 1 _ rfl) (h 2 _ rfl)))).trans rfl))
theorem dk_161 {code : ByteArray} {pc : Nat} (a b : UInt8) (h : DkAt code pc [161, a, b]) : decode code pc = .ok (.if_icmp .lt (Reader.signed 16 (a.toNat * 256 + b.toNat)), 3) := dk_of ((dk_bind (dk_u1 (h 0 _ rfl))).trans ((dk_bind (dk_map (dk_u2 (h 1 _ rfl) (h 2 _ rfl)))).trans rfl))
theorem dk_162 {code : ByteArray} {pc : Nat} (a b : UInt8) (h : DkAt code pc [162, a, b]) : decode code pc = .ok (.if_icmp .ge (Reader.signed 16 (a.toNat * 256 + b.toNat)), 3) := dk_of ((dk_bind (dk_u1 (h 0 _ rfl))).trans ((dk_bind (dk_map (dk_u2 (h 1 _ rfl) (h 2 _ rfl)))).trans rfl))
theorem dk_163 {code : ByteArray} {pc : Nat} (a b : UInt8) (h : DkAt code pc [163, a, b]) : decode code pc = .ok (.if_icmp .gt (Reader.signed 16 (a.toNat * 256 + b.toNat)), 3) := dk_of ((dk_bind (dk_u1 (h 0 _ rfl))).trans ((dk_bind (dk_map (dk_u2 (h 1 _ rfl) (h 2 _ rfl)))).trans rfl))
theorem dk_164 {code : ByteArray} {pc : Nat} (a b : UInt8) (h : DkAt code pc [164, a, b]) : decode code pc = .ok (.if_icmp .le (Reader.signed 16 (a.toNat * 256 + b.toNat)), 3) := dk_of ((dk_bind (dk_u1 (h 0 _ rfl))).trans ((dk_bind (dk_map (dk_u2 (h 1 _ rfl) (h 2 _ rfl)))).trans rfl))
theorem dk_165 {code : ByteArray} {pc : Nat} (a b : UInt8) (h : DkAt code pc [165, a, b]) : decode code pc = .ok (.if_acmp .eq (Reader.signed 16 (a.toNat * 256 + b.toNat)), 3) := dk_of ((dk_bind (dk_u1 (h 0 _ rfl))).trans ((dk_bind (dk_map (dk_u2 (h 1 _ rfl) (h 2 _ rfl)))).trans rfl))
theorem dk_166 {code : ByteArray} {pc : Nat} (a b : UInt8) (h : DkAt code pc [166, a, b]) : decode code pc = .ok (.if_acmp .ne (Reader.signed 16 (a.toNat * 256 + b.toNat)), 3) := dk_of ((dk_bind (dk_u1 (h 0 _ rfl))).trans ((dk_bind (dk_map (dk_u2 (h 1 _ rfl) (h 2 _ rfl)))).trans rfl))
theorem dk_167 {code : ByteArray} {pc : Nat} (a b : UInt8) (h : DkAt code pc [167, a, b]) : decode code pc = .ok (.goto (Reader.signed 16 (a.toNat * 256 + b.toNat)), 3) := dk_of ((dk_bind (dk_u1 (h 0 _ rfl))).trans ((dk_bind (dk_map (dk_u2 (h 1 _ rfl) (h 2 _ rfl)))).trans rfl))
theorem dk_172 {code : ByteArray} {pc : Nat} (h : DkAt code pc [172]) : decode code pc = .ok (.ireturn, 1) := dk_of ((dk_bind (dk_u1 (h 0 _ rfl))).trans rfl)
theorem dk_176 {code : ByteArray} {pc : Nat} (h : DkAt code pc [176]) : decode code pc = .ok (.areturn, 1) := dk_of ((dk_bind (dk_u1 (h 0 _ rfl))).trans rfl)
theorem dk_177 {code : ByteArray} {pc : Nat} (h : DkAt code pc [177]) : decode code pc = .ok (.return_, 1) := dk_of ((dk_bind (dk_u1 (h 0 _ rfl))).trans rfl)
theorem dk_178 {code : ByteArray} {pc : Nat} (a b : UInt8) (h : DkAt code pc [178, a, b]) : decode code pc = .ok (.getstatic (a.toNat * 256 + b.toNat), 3) := dk_of ((dk_bind (dk_u1 (h 0 _ rfl))).trans ((dk_bind (dk_u2 (h 1 _ rfl) (h 2 _ rfl))).trans rfl))
theorem dk_180 {code : ByteArray} {pc : Nat} (a b : UInt8) (h : DkAt code pc [180, a, b]) : decode code pc = .ok (.getfield (a.toNat * 256 + b.toNat), 3) := dk_of ((dk_bind (dk_u1 (h 0 _ rfl))).trans ((dk_bind (dk_u2 (h 1 _ rfl) (h 2 _ rfl))).trans rfl))
theorem dk_181 {code : ByteArray} {pc : Nat} (a b : UInt8) (h : DkAt code pc [181, a, b]) : decode code pc = .ok (.putfield (a.toNat * 256 + b.toNat), 3) := dk_of ((dk_bind (dk_u1 (h 0 _ rfl))).trans ((dk_bind (dk_u2 (h 1 _ rfl) (h 2 _ rfl))).trans rfl))
theorem dk_182 {code : ByteArray} {pc : Nat} (a b : UInt8) (h : DkAt code pc [182, a, b]) : decode code pc = .ok (.invokevirtual (a.toNat * 256 + b.toNat), 3) := dk_of ((dk_bind (dk_u1 (h 0 _ rfl))).trans ((dk_bind (dk_u2 (h 1 _ rfl) (h 2 _ rfl))).trans rfl))
theorem dk_183 {code : ByteArray} {pc : Nat} (a b : UInt8) (h : DkAt code pc [183, a, b]) : decode code pc = .ok (.invokespecial (a.toNat * 256 + b.toNat), 3) := dk_of ((dk_bind (dk_u1 (h 0 _ rfl))).trans ((dk_bind (dk_u2 (h 1 _ rfl) (h 2 _ rfl))).trans rfl))
theorem dk_184 {code : ByteArray} {pc : Nat} (a b : UInt8) (h : DkAt code pc [184, a, b]) : decode code pc = .ok (.invokestatic (a.toNat * 256 + b.toNat), 3) := dk_of ((dk_bind (dk_u1 (h 0 _ rfl))).trans ((dk_bind (dk_u2 (h 1 _ rfl) (h 2 _ rfl))).trans rfl))
theorem dk_187 {code : ByteArray} {pc : Nat} (a b : UInt8) (h : DkAt code pc [187, a, b]) : decode code pc = .ok (.new (a.toNat * 256 + b.toNat), 3) := dk_of ((dk_bind (dk_u1 (h 0 _ rfl))).trans ((dk_bind (dk_u2 (h 1 _ rfl) (h 2 _ rfl))).trans rfl))
theorem dk_188_4 {code : ByteArray} {pc : Nat} (h : DkAt code pc [188, 4]) : decode code pc = .ok (.newarray .boolean, 2) := dk_of ((dk_bind (dk_u1 (h 0 _ rfl))).trans ((dk_bind (dk_u1 (h 1 _ rfl))).trans rfl))
theorem dk_188_8 {code : ByteArray} {pc : Nat} (h : DkAt code pc [188, 8]) : decode code pc = .ok (.newarray .byte, 2) := dk_of ((dk_bind (dk_u1 (h 0 _ rfl))).trans ((dk_bind (dk_u1 (h 1 _ rfl))).trans rfl))
theorem dk_188_10 {code : ByteArray} {pc : Nat} (h : DkAt code pc [188, 10]) : decode code pc = .ok (.newarray .int, 2) := dk_of ((dk_bind (dk_u1 (h 0 _ rfl))).trans ((dk_bind (dk_u1 (h 1 _ rfl))).trans rfl))
theorem dk_189 {code : ByteArray} {pc : Nat} (a b : UInt8) (h : DkAt code pc [189, a, b]) : decode code pc = .ok (.anewarray (a.toNat * 256 + b.toNat), 3) := dk_of ((dk_bind (dk_u1 (h 0 _ rfl))).trans ((dk_bind (dk_u2 (h 1 _ rfl) (h 2 _ rfl))).trans rfl))
theorem dk_190 {code : ByteArray} {pc : Nat} (h : DkAt code pc [190]) : decode code pc = .ok (.arraylength, 1) := dk_of ((dk_bind (dk_u1 (h 0 _ rfl))).trans rfl)
theorem dk_191 {code : ByteArray} {pc : Nat} (h : DkAt code pc [191]) : decode code pc = .ok (.athrow, 1) := dk_of ((dk_bind (dk_u1 (h 0 _ rfl))).trans rfl)
theorem dk_192 {code : ByteArray} {pc : Nat} (a b : UInt8) (h : DkAt code pc [192, a, b]) : decode code pc = .ok (.checkcast (a.toNat * 256 + b.toNat), 3) := dk_of ((dk_bind (dk_u1 (h 0 _ rfl))).trans ((dk_bind (dk_u2 (h 1 _ rfl) (h 2 _ rfl))).trans rfl))
theorem dk_199 {code : ByteArray} {pc : Nat} (a b : UInt8) (h : DkAt code pc [199, a, b]) : decode code pc = .ok (.ifnonnull (Reader.signed 16 (a.toNat * 256 + b.toNat)), 3) := dk_of ((dk_bind (dk_u1 (h 0 _ rfl))).trans ((dk_bind (dk_map (dk_u2 (h 1 _ rfl) (h 2 _ rfl)))).trans rfl))
theorem q2074 : (Jvm.Cond.castable "[B" "java/lang/Object") ∈ lw_tbl := lw_at lw_m9 18 rfl
set_option maxRecDepth 100000
theorem q2073 : (Jvm.Cond.castable "[I" "java/lang/Object") ∈ lw_tbl := lw_at lw_m9 17 rfl
set_option maxRecDepth 100000
theorem q2079 : (Jvm.Cond.castable "[LCellRows$Bin;" "java/lang/Object") ∈ lw_tbl := lw_at lw_m9 23 rfl
set_option maxRecDepth 100000
theorem q2076 : (Jvm.Cond.castable "[LCellRows$Cell;" "java/lang/Object") ∈ lw_tbl := lw_at lw_m9 20 rfl
set_option maxRecDepth 100000
theorem q2072 : (Jvm.Cond.castable "[LCellRows$Chip;" "java/lang/Object") ∈ lw_tbl := lw_at lw_m9 16 rfl
set_option maxRecDepth 100000
theorem q2077 : (Jvm.Cond.castable "[LCellRows$Net;" "java/lang/Object") ∈ lw_tbl := lw_at lw_m9 21 rfl
set_option maxRecDepth 100000
theorem q2078 : (Jvm.Cond.castable "[LCellRows$Rect;" "java/lang/Object") ∈ lw_tbl := lw_at lw_m9 22 rfl
set_option maxRecDepth 100000
theorem q2069 : (Jvm.Cond.sameMethod "[Ljava/lang/Object;" "java/lang/Object" "getClass" "()Ljava/lang/Class;") ∈ lw_all := lw_g (lw_at lw_m9 13 rfl) rfl
set_option maxRecDepth 100000
theorem q2070 : (Jvm.Cond.selects "[Ljava/lang/Object;" ({ cls := "java/lang/Object", name := "getClass", desc := "()Ljava/lang/Class;" } : Jvm.MethodName) ({ cls := "java/lang/Object", name := "getClass", desc := "()Ljava/lang/Class;" } : Jvm.MethodName)) ∈ lw_all := lw_g (lw_at lw_m9 14 rfl) rfl
theorem q2080 : (Jvm.Cond.castable "[Ljava/lang/Object;" "java/lang/Object") ∈ lw_tbl := lw_at lw_m9 24 rfl
theorem q2081 : (Jvm.Cond.castable "[Z" "java/lang/Object") ∈ lw_tbl := lw_at lw_m9 25 rfl
set_option maxRecDepth 100000
theorem q2075 : (Jvm.Cond.castable "[[I" "java/lang/Object") ∈ lw_tbl := lw_at lw_m9 19 rfl
set_option maxRecDepth 100000
theorem q154 : (Jvm.Cond.initialized "java/lang/System") ∈ lw_all := lw_g (lw_at lw_m1 18 rfl) rfl
set_option maxRecDepth 100000
theorem q1032 : (Jvm.Cond.static ({ cls := "java/lang/System", name := "arraycopy", desc := "(Ljava/lang/Object;ILjava/lang/Object;II)V" } : Jvm.MethodName)) ∈ lw_all := lw_g (lw_at lw_m4 176 rfl) rfl
theorem q1033 : (Jvm.Cond.native ({ cls := "java/lang/System", name := "arraycopy", desc := "(Ljava/lang/Object;ILjava/lang/Object;II)V" } : Jvm.MethodName)) ∈ lw_all := lw_g (lw_at lw_m4 177 rfl) rfl
theorem q1042 : (Jvm.Cond.interfaceMethod "java/util/Collection" "java/util/Collection" "toArray" "()[Ljava/lang/Object;") ∈ lw_tbl := lw_at lw_m4 186 rfl
set_option maxRecDepth 100000
theorem q1043 : (Jvm.Cond.declares ({ cls := "java/util/Collection", name := "toArray", desc := "()[Ljava/lang/Object;" } : Jvm.MethodName)) ∈ lw_tbl := lw_at lw_m4 187 rfl
theorem q169 : (Jvm.Cond.arrayOver (Jvm.ClassFile.FieldType.object "CellRows$Chip")) ∈ lw_tbl := lw_at lw_m1 33 rfl
set_option maxRecDepth 100000
theorem q186 : (Jvm.Cond.arrayClass Jvm.ClassFile.FieldType.int) ∈ lw_all := lw_g (lw_at lw_m1 50 rfl) rfl
theorem q187 : (Jvm.Cond.arrayClass Jvm.ClassFile.FieldType.byte) ∈ lw_all := lw_g (lw_at lw_m1 51 rfl) rfl
theorem q200 : (Jvm.Cond.arrayOver (Jvm.ClassFile.FieldType.array Jvm.ClassFile.FieldType.int)) ∈ lw_tbl := lw_at lw_m1 64 rfl
theorem q216 : (Jvm.Cond.arrayOver (Jvm.ClassFile.FieldType.object "CellRows$Cell")) ∈ lw_tbl := lw_at lw_m1 80 rfl
theorem q218 : (Jvm.Cond.arrayOver (Jvm.ClassFile.FieldType.object "CellRows$Net")) ∈ lw_tbl := lw_at lw_m1 82 rfl
theorem q220 : (Jvm.Cond.arrayOver (Jvm.ClassFile.FieldType.object "CellRows$Rect")) ∈ lw_tbl := lw_at lw_m1 84 rfl
theorem q814 : (Jvm.Cond.arrayOver (Jvm.ClassFile.FieldType.object "CellRows$Bin")) ∈ lw_tbl := lw_at lw_m3 198 rfl
theorem q1028 : (Jvm.Cond.arrayOver (Jvm.ClassFile.FieldType.object "java/lang/Object")) ∈ lw_tbl := lw_at lw_m4 172 rfl
theorem q1195 : (Jvm.Cond.arrayClass Jvm.ClassFile.FieldType.boolean) ∈ lw_all := lw_g (lw_at lw_m5 99 rfl) rfl
/-! java/lang/Math -/
set_option maxRecDepth 100000
def RJ0 : String := "java/lang/Math"
abbrev cJ0_min : ByteArray := prog_19_method_69_code
def yJ0_min : MethodName := ⟨RJ0, "min", "(II)I"⟩
def dkwJ0_min_0 : List UInt8 := [26, 27, 163, 0, 7, 26, 167, 0, 4, 27, 172]
abbrev dktJ0_min_0 : List UInt8 := dkwJ0_min_0 ++ []
theorem dksJ0_min_0 : cJ0_min.data.toList.drop 0 = dktJ0_min_0 := by decide +kernel
theorem dJ0_min_0 : decode cJ0_min 0 = .ok (.iload_n 0, 1) := dk_26 (dk_at dksJ0_min_0 0 rfl rfl)
theorem dJ0_min_1 : decode cJ0_min 1 = .ok (.iload_n 1, 1) := dk_27 (dk_at dksJ0_min_0 1 rfl rfl)
theorem dJ0_min_2 : decode cJ0_min 2 = .ok (.if_icmp .gt 7, 3) := dk_163 0 7 (dk_at dksJ0_min_0 2 rfl rfl)
theorem dJ0_min_5 : decode cJ0_min 5 = .ok (.iload_n 0, 1) := dk_26 (dk_at dksJ0_min_0 5 rfl rfl)
theorem dJ0_min_6 : decode cJ0_min 6 = .ok (.goto 4, 3) := dk_167 0 4 (dk_at dksJ0_min_0 6 rfl rfl)
theorem dJ0_min_9 : decode cJ0_min 9 = .ok (.iload_n 1, 1) := dk_27 (dk_at dksJ0_min_0 9 rfl rfl)
theorem dJ0_min_10 : decode cJ0_min 10 = .ok (.ireturn, 1) := dk_172 (dk_at dksJ0_min_0 10 rfl rfl)
abbrev cJ0_max : ByteArray := prog_19_method_65_code
def yJ0_max : MethodName := ⟨RJ0, "max", "(II)I"⟩
def dkwJ0_max_0 : List UInt8 := [26, 27, 161, 0, 7, 26, 167, 0, 4, 27, 172]
abbrev dktJ0_max_0 : List UInt8 := dkwJ0_max_0 ++ []
theorem dksJ0_max_0 : cJ0_max.data.toList.drop 0 = dktJ0_max_0 := by decide +kernel
theorem dJ0_max_0 : decode cJ0_max 0 = .ok (.iload_n 0, 1) := dk_26 (dk_at dksJ0_max_0 0 rfl rfl)
theorem dJ0_max_1 : decode cJ0_max 1 = .ok (.iload_n 1, 1) := dk_27 (dk_at dksJ0_max_0 1 rfl rfl)
theorem dJ0_max_2 : decode cJ0_max 2 = .ok (.if_icmp .lt 7, 3) := dk_161 0 7 (dk_at dksJ0_max_0 2 rfl rfl)
theorem dJ0_max_5 : decode cJ0_max 5 = .ok (.iload_n 0, 1) := dk_26 (dk_at dksJ0_max_0 5 rfl rfl)
theorem dJ0_max_6 : decode cJ0_max 6 = .ok (.goto 4, 3) := dk_167 0 4 (dk_at dksJ0_max_0 6 rfl rfl)
theorem dJ0_max_9 : decode cJ0_max 9 = .ok (.iload_n 1, 1) := dk_27 (dk_at dksJ0_max_0 9 rfl rfl)
theorem dJ0_max_10 : decode cJ0_max 10 = .ok (.ireturn, 1) := dk_172 (dk_at dksJ0_max_0 10 rfl rfl)
abbrev cJ0_abs : ByteArray := prog_19_method_59_code
def yJ0_abs : MethodName := ⟨RJ0, "abs", "(I)I"⟩
def dkwJ0_abs_0 : List UInt8 := [26, 156, 0, 8, 26, 116, 167, 0, 4, 26, 172]
abbrev dktJ0_abs_0 : List UInt8 := dkwJ0_abs_0 ++ []
theorem dksJ0_abs_0 : cJ0_abs.data.toList.drop 0 = dktJ0_abs_0 := by decide +kernel
theorem dJ0_abs_0 : decode cJ0_abs 0 = .ok (.iload_n 0, 1) := dk_26 (dk_at dksJ0_abs_0 0 rfl rfl)
theorem dJ0_abs_1 : decode cJ0_abs 1 = .ok (.ifCond .ge 8, 3) := dk_156 0 8 (dk_at dksJ0_abs_0 1 rfl rfl)
theorem dJ0_abs_4 : decode cJ0_abs 4 = .ok (.iload_n 0, 1) := dk_26 (dk_at dksJ0_abs_0 4 rfl rfl)
theorem dJ0_abs_5 : decode cJ0_abs 5 = .ok (.ineg, 1) := dk_116 (dk_at dksJ0_abs_0 5 rfl rfl)
theorem dJ0_abs_6 : decode cJ0_abs 6 = .ok (.goto 4, 3) := dk_167 0 4 (dk_at dksJ0_abs_0 6 rfl rfl)
theorem dJ0_abs_9 : decode cJ0_abs 9 = .ok (.iload_n 0, 1) := dk_26 (dk_at dksJ0_abs_0 9 rfl rfl)
theorem dJ0_abs_10 : decode cJ0_abs 10 = .ok (.ireturn, 1) := dk_172 (dk_at dksJ0_abs_0 10 rfl rfl)
abbrev cJ0_floorDiv : ByteArray := prog_19_method_47_code
def yJ0_floorDiv : MethodName := ⟨RJ0, "floorDiv", "(II)I"⟩
def dkwJ0_floorDiv_0 : List UInt8 := [26, 27, 108, 61, 26, 27, 130, 156, 0, 14, 28, 27, 104, 26, 159, 0, 7, 28, 4, 100, 172, 28, 172]
abbrev dktJ0_floorDiv_0 : List UInt8 := dkwJ0_floorDiv_0 ++ []
theorem dksJ0_floorDiv_0 : cJ0_floorDiv.data.toList.drop 0 = dktJ0_floorDiv_0 := by decide +kernel
theorem dJ0_floorDiv_0 : decode cJ0_floorDiv 0 = .ok (.iload_n 0, 1) := dk_26 (dk_at dksJ0_floorDiv_0 0 rfl rfl)
theorem dJ0_floorDiv_1 : decode cJ0_floorDiv 1 = .ok (.iload_n 1, 1) := dk_27 (dk_at dksJ0_floorDiv_0 1 rfl rfl)
theorem dJ0_floorDiv_2 : decode cJ0_floorDiv 2 = .ok (.idiv, 1) := dk_108 (dk_at dksJ0_floorDiv_0 2 rfl rfl)
theorem dJ0_floorDiv_3 : decode cJ0_floorDiv 3 = .ok (.istore_n 2, 1) := dk_61 (dk_at dksJ0_floorDiv_0 3 rfl rfl)
theorem dJ0_floorDiv_4 : decode cJ0_floorDiv 4 = .ok (.iload_n 0, 1) := dk_26 (dk_at dksJ0_floorDiv_0 4 rfl rfl)
theorem dJ0_floorDiv_5 : decode cJ0_floorDiv 5 = .ok (.iload_n 1, 1) := dk_27 (dk_at dksJ0_floorDiv_0 5 rfl rfl)
theorem dJ0_floorDiv_6 : decode cJ0_floorDiv 6 = .ok (.ixor, 1) := dk_130 (dk_at dksJ0_floorDiv_0 6 rfl rfl)
theorem dJ0_floorDiv_7 : decode cJ0_floorDiv 7 = .ok (.ifCond .ge 14, 3) := dk_156 0 14 (dk_at dksJ0_floorDiv_0 7 rfl rfl)
theorem dJ0_floorDiv_10 : decode cJ0_floorDiv 10 = .ok (.iload_n 2, 1) := dk_28 (dk_at dksJ0_floorDiv_0 10 rfl rfl)
theorem dJ0_floorDiv_11 : decode cJ0_floorDiv 11 = .ok (.iload_n 1, 1) := dk_27 (dk_at dksJ0_floorDiv_0 11 rfl rfl)
theorem dJ0_floorDiv_12 : decode cJ0_floorDiv 12 = .ok (.imul, 1) := dk_104 (dk_at dksJ0_floorDiv_0 12 rfl rfl)
theorem dJ0_floorDiv_13 : decode cJ0_floorDiv 13 = .ok (.iload_n 0, 1) := dk_26 (dk_at dksJ0_floorDiv_0 13 rfl rfl)
theorem dJ0_floorDiv_14 : decode cJ0_floorDiv 14 = .ok (.if_icmp .eq 7, 3) := dk_159 0 7 (dk_at dksJ0_floorDiv_0 14 rfl rfl)
theorem dJ0_floorDiv_17 : decode cJ0_floorDiv 17 = .ok (.iload_n 2, 1) := dk_28 (dk_at dksJ0_floorDiv_0 17 rfl rfl)
theorem dJ0_floorDiv_18 : decode cJ0_floorDiv 18 = .ok (.iconst 1, 1) := dk_4 (dk_at dksJ0_floorDiv_0 18 rfl rfl)
theorem dJ0_floorDiv_19 : decode cJ0_floorDiv 19 = .ok (.isub, 1) := dk_100 (dk_at dksJ0_floorDiv_0 19 rfl rfl)
theorem dJ0_floorDiv_20 : decode cJ0_floorDiv 20 = .ok (.ireturn, 1) := dk_172 (dk_at dksJ0_floorDiv_0 20 rfl rfl)
theorem dJ0_floorDiv_21 : decode cJ0_floorDiv 21 = .ok (.iload_n 2, 1) := dk_28 (dk_at dksJ0_floorDiv_0 21 rfl rfl)
theorem dJ0_floorDiv_22 : decode cJ0_floorDiv 22 = .ok (.ireturn, 1) := dk_172 (dk_at dksJ0_floorDiv_0 22 rfl rfl)
theorem q141 : (Jvm.Cond.initialized "java/lang/Math") ∈ lw_all := lw_g (lw_at lw_m1 5 rfl) rfl
theorem q205 : (Jvm.Cond.static ({ cls := "java/lang/Math", name := "min", desc := "(II)I" } : Jvm.MethodName)) ∈ lw_all := lw_g (lw_at lw_m1 69 rfl) rfl
theorem q206 : (Jvm.Cond.code ({ cls := "java/lang/Math", name := "min", desc := "(II)I" } : Jvm.MethodName) prog_19_method_69_code (2 : Nat) (Option.some Jvm.ClassFile.FieldType.int)) ∈ lw_all := lw_g (lw_at lw_m1 70 rfl) rfl
theorem q208 : (Jvm.Cond.static ({ cls := "java/lang/Math", name := "max", desc := "(II)I" } : Jvm.MethodName)) ∈ lw_all := lw_g (lw_at lw_m1 72 rfl) rfl
theorem q209 : (Jvm.Cond.code ({ cls := "java/lang/Math", name := "max", desc := "(II)I" } : Jvm.MethodName) prog_19_method_65_code (2 : Nat) (Option.some Jvm.ClassFile.FieldType.int)) ∈ lw_all := lw_g (lw_at lw_m1 73 rfl) rfl
theorem q676 : (Jvm.Cond.static ({ cls := "java/lang/Math", name := "abs", desc := "(I)I" } : Jvm.MethodName)) ∈ lw_all := lw_g (lw_at lw_m3 60 rfl) rfl
theorem q677 : (Jvm.Cond.code ({ cls := "java/lang/Math", name := "abs", desc := "(I)I" } : Jvm.MethodName) prog_19_method_59_code (1 : Nat) (Option.some Jvm.ClassFile.FieldType.int)) ∈ lw_all := lw_g (lw_at lw_m3 61 rfl) rfl
theorem q785 : (Jvm.Cond.static ({ cls := "java/lang/Math", name := "floorDiv", desc := "(II)I" } : Jvm.MethodName)) ∈ lw_all := lw_g (lw_at lw_m3 169 rfl) rfl
theorem q786 : (Jvm.Cond.code ({ cls := "java/lang/Math", name := "floorDiv", desc := "(II)I" } : Jvm.MethodName) prog_19_method_47_code (3 : Nat) (Option.some Jvm.ClassFile.FieldType.int)) ∈ lw_all := lw_g (lw_at lw_m3 170 rfl) rfl
/-! java/util/AbstractCollection -/
set_option maxRecDepth 100000
def RJ1 : String := "java/util/AbstractCollection"
abbrev cJ1_init : ByteArray := prog_21_method_1_code
def yJ1_init : MethodName := ⟨RJ1, "<init>", "()V"⟩
theorem dJ1_init_0 : decode cJ1_init 0 = .ok (.aload_n 0, 1) := by decide +kernel
theorem dJ1_init_1 : decode cJ1_init 1 = .ok (.invokespecial 1, 3) := by decide +kernel
theorem dJ1_init_4 : decode cJ1_init 4 = .ok (.return_, 1) := by decide +kernel
theorem q148 : (Jvm.Cond.initialized "java/util/AbstractCollection") ∈ lw_all := lw_g (lw_at lw_m1 12 rfl) rfl
theorem q923 : (Jvm.Cond.instanceMethod ({ cls := "java/util/AbstractCollection", name := "<init>", desc := "()V" } : Jvm.MethodName)) ∈ lw_all := lw_g (lw_at lw_m4 67 rfl) rfl
theorem q924 : (Jvm.Cond.code ({ cls := "java/util/AbstractCollection", name := "<init>", desc := "()V" } : Jvm.MethodName) prog_21_method_1_code (1 : Nat) (Option.none : Option Jvm.ClassFile.FieldType)) ∈ lw_all := lw_g (lw_at lw_m4 68 rfl) rfl
theorem q925 : (Jvm.Cond.methodLink "java/util/AbstractCollection" (1 : Nat) ({ cls := "java/lang/Object", name := "<init>", desc := "()V" } : Jvm.MethodName)) ∈ lw_all := lw_g (lw_at lw_m4 69 rfl) rfl
/-! java/util/AbstractList -/
set_option maxRecDepth 100000
def RJ2 : String := "java/util/AbstractList"
abbrev cJ2_init : ByteArray := prog_22_method_1_code
def yJ2_init : MethodName := ⟨RJ2, "<init>", "()V"⟩
def dkwJ2_init_0 : List UInt8 := [42, 183, 0, 1, 42, 3, 181, 0, 7, 177]
abbrev dktJ2_init_0 : List UInt8 := dkwJ2_init_0 ++ []
theorem dksJ2_init_0 : cJ2_init.data.toList.drop 0 = dktJ2_init_0 := by decide +kernel
theorem dJ2_init_0 : decode cJ2_init 0 = .ok (.aload_n 0, 1) := dk_42 (dk_at dksJ2_init_0 0 rfl rfl)
theorem dJ2_init_1 : decode cJ2_init 1 = .ok (.invokespecial 1, 3) := dk_183 0 1 (dk_at dksJ2_init_0 1 rfl rfl)
theorem dJ2_init_4 : decode cJ2_init 4 = .ok (.aload_n 0, 1) := dk_42 (dk_at dksJ2_init_0 4 rfl rfl)
theorem dJ2_init_5 : decode cJ2_init 5 = .ok (.iconst 0, 1) := dk_3 (dk_at dksJ2_init_0 5 rfl rfl)
theorem dJ2_init_6 : decode cJ2_init 6 = .ok (.putfield 7, 3) := dk_181 0 7 (dk_at dksJ2_init_0 6 rfl rfl)
theorem dJ2_init_9 : decode cJ2_init 9 = .ok (.return_, 1) := dk_177 (dk_at dksJ2_init_0 9 rfl rfl)
theorem q149 : (Jvm.Cond.initialized "java/util/AbstractList") ∈ lw_all := lw_g (lw_at lw_m1 13 rfl) rfl
theorem q920 : (Jvm.Cond.instanceMethod ({ cls := "java/util/AbstractList", name := "<init>", desc := "()V" } : Jvm.MethodName)) ∈ lw_all := lw_g (lw_at lw_m4 64 rfl) rfl
theorem q921 : (Jvm.Cond.code ({ cls := "java/util/AbstractList", name := "<init>", desc := "()V" } : Jvm.MethodName) prog_22_method_1_code (1 : Nat) (Option.none : Option Jvm.ClassFile.FieldType)) ∈ lw_all := lw_g (lw_at lw_m4 65 rfl) rfl
theorem q922 : (Jvm.Cond.methodLink "java/util/AbstractList" (1 : Nat) ({ cls := "java/util/AbstractCollection", name := "<init>", desc := "()V" } : Jvm.MethodName)) ∈ lw_all := lw_g (lw_at lw_m4 66 rfl) rfl
theorem q930 : (Jvm.Cond.fieldLink "java/util/AbstractList" (7 : Nat) "java/util/AbstractList" "modCount" "I") ∈ lw_all := lw_g (lw_at lw_m4 74 rfl) rfl
theorem q938 : (Jvm.Cond.soleField "java/util/AbstractList" "modCount") ∈ lw_all := lw_g (lw_at lw_m4 82 rfl) rfl
/-! java/util/ArrayList -/
set_option maxRecDepth 100000
def RJ3 : String := "java/util/ArrayList"
def TJ3 : u_T := fun k => match k with
  | 0 => ("java/util/AbstractList", "modCount", "I", false)
  | 1 => ("java/util/ArrayList", "elementData", "[Ljava/lang/Object;", false)
  | _ => ("java/util/ArrayList", "size", "I", false)
def tyJ3 : Nat → FieldType := fun k => match k with
  | 0 => .int
  | 1 => .array (.object "java/lang/Object")
  | _ => .int
abbrev wsJ30 : List Cond := u_ws RJ3 TJ3 3
theorem nmJ3 : ∀ a, a < 3 → ∀ b, b < 3 → a ≠ b → (TJ3 a).2.1 ≠ (TJ3 b).2.1 := by decide +kernel
theorem tyJ3_ok : ∀ k, k < 3 → parseFieldDescriptor (TJ3 k).2.2.1 = some (tyJ3 k) := by decide +kernel
abbrev cJ3_init : ByteArray := prog_23_method_2_code
def yJ3_init : MethodName := ⟨RJ3, "<init>", "()V"⟩
def dkwJ3_init_0 : List UInt8 := [42, 183, 0, 1, 42, 178, 0, 39, 181, 0, 9, 177]
abbrev dktJ3_init_0 : List UInt8 := dkwJ3_init_0 ++ []
theorem dksJ3_init_0 : cJ3_init.data.toList.drop 0 = dktJ3_init_0 := by decide +kernel
theorem dJ3_init_0 : decode cJ3_init 0 = .ok (.aload_n 0, 1) := dk_42 (dk_at dksJ3_init_0 0 rfl rfl)
theorem dJ3_init_1 : decode cJ3_init 1 = .ok (.invokespecial 1, 3) := dk_183 0 1 (dk_at dksJ3_init_0 1 rfl rfl)
theorem dJ3_init_4 : decode cJ3_init 4 = .ok (.aload_n 0, 1) := dk_42 (dk_at dksJ3_init_0 4 rfl rfl)
theorem dJ3_init_5 : decode cJ3_init 5 = .ok (.getstatic 39, 3) := dk_178 0 39 (dk_at dksJ3_init_0 5 rfl rfl)
theorem dJ3_init_8 : decode cJ3_init 8 = .ok (.putfield 9, 3) := dk_181 0 9 (dk_at dksJ3_init_0 8 rfl rfl)
theorem dJ3_init_11 : decode cJ3_init 11 = .ok (.return_, 1) := dk_177 (dk_at dksJ3_init_0 11 rfl rfl)
abbrev cJ3_add : ByteArray := prog_23_method_25_code
def yJ3_add : MethodName := ⟨RJ3, "add", "(Ljava/lang/Object;)Z"⟩
def dkwJ3_add_1 : List UInt8 := [172]
abbrev dktJ3_add_1 : List UInt8 := dkwJ3_add_1 ++ []
def dkwJ3_add_0 : List UInt8 := [42, 89, 180, 0, 63, 4, 96, 181, 0, 63, 42, 43, 42, 180, 0, 9, 42, 180, 0, 48, 182, 0, 131, 4]
abbrev dktJ3_add_0 : List UInt8 := dkwJ3_add_0 ++ dktJ3_add_1
theorem dksJ3_add_0 : cJ3_add.data.toList.drop 0 = dktJ3_add_0 := by decide +kernel
theorem dksJ3_add_1 : cJ3_add.data.toList.drop 24 = dktJ3_add_1 := dk_seg dksJ3_add_0 24 rfl rfl
theorem dJ3_add_0 : decode cJ3_add 0 = .ok (.aload_n 0, 1) := dk_42 (dk_at dksJ3_add_0 0 rfl rfl)
theorem dJ3_add_1 : decode cJ3_add 1 = .ok (.dup, 1) := dk_89 (dk_at dksJ3_add_0 1 rfl rfl)
theorem dJ3_add_2 : decode cJ3_add 2 = .ok (.getfield 63, 3) := dk_180 0 63 (dk_at dksJ3_add_0 2 rfl rfl)
theorem dJ3_add_5 : decode cJ3_add 5 = .ok (.iconst 1, 1) := dk_4 (dk_at dksJ3_add_0 5 rfl rfl)
theorem dJ3_add_6 : decode cJ3_add 6 = .ok (.iadd, 1) := dk_96 (dk_at dksJ3_add_0 6 rfl rfl)
theorem dJ3_add_7 : decode cJ3_add 7 = .ok (.putfield 63, 3) := dk_181 0 63 (dk_at dksJ3_add_0 7 rfl rfl)
theorem dJ3_add_10 : decode cJ3_add 10 = .ok (.aload_n 0, 1) := dk_42 (dk_at dksJ3_add_0 10 rfl rfl)
theorem dJ3_add_11 : decode cJ3_add 11 = .ok (.aload_n 1, 1) := dk_43 (dk_at dksJ3_add_0 11 rfl rfl)
theorem dJ3_add_12 : decode cJ3_add 12 = .ok (.aload_n 0, 1) := dk_42 (dk_at dksJ3_add_0 12 rfl rfl)
theorem dJ3_add_13 : decode cJ3_add 13 = .ok (.getfield 9, 3) := dk_180 0 9 (dk_at dksJ3_add_0 13 rfl rfl)
theorem dJ3_add_16 : decode cJ3_add 16 = .ok (.aload_n 0, 1) := dk_42 (dk_at dksJ3_add_0 16 rfl rfl)
theorem dJ3_add_17 : decode cJ3_add 17 = .ok (.getfield 48, 3) := dk_180 0 48 (dk_at dksJ3_add_0 17 rfl rfl)
theorem dJ3_add_20 : decode cJ3_add 20 = .ok (.invokevirtual 131, 3) := dk_182 0 131 (dk_at dksJ3_add_0 20 rfl rfl)
theorem dJ3_add_23 : decode cJ3_add 23 = .ok (.iconst 1, 1) := dk_4 (dk_at dksJ3_add_0 23 rfl rfl)
theorem dJ3_add_24 : decode cJ3_add 24 = .ok (.ireturn, 1) := dk_172 (dk_at dksJ3_add_1 0 rfl rfl)
abbrev cJ3_add_2 : ByteArray := prog_23_method_24_code
def yJ3_add_2 : MethodName := ⟨RJ3, "add", "(Ljava/lang/Object;[Ljava/lang/Object;I)V"⟩
def dkwJ3_add_2_0 : List UInt8 := [29, 44, 190, 160, 0, 8, 42, 182, 0, 129, 77, 44, 29, 43, 83, 42, 29, 4, 96, 181, 0, 48, 177]
abbrev dktJ3_add_2_0 : List UInt8 := dkwJ3_add_2_0 ++ []
theorem dksJ3_add_2_0 : cJ3_add_2.data.toList.drop 0 = dktJ3_add_2_0 := by decide +kernel
theorem dJ3_add_2_0 : decode cJ3_add_2 0 = .ok (.iload_n 3, 1) := dk_29 (dk_at dksJ3_add_2_0 0 rfl rfl)
theorem dJ3_add_2_1 : decode cJ3_add_2 1 = .ok (.aload_n 2, 1) := dk_44 (dk_at dksJ3_add_2_0 1 rfl rfl)
theorem dJ3_add_2_2 : decode cJ3_add_2 2 = .ok (.arraylength, 1) := dk_190 (dk_at dksJ3_add_2_0 2 rfl rfl)
theorem dJ3_add_2_3 : decode cJ3_add_2 3 = .ok (.if_icmp .ne 8, 3) := dk_160 0 8 (dk_at dksJ3_add_2_0 3 rfl rfl)
theorem dJ3_add_2_6 : decode cJ3_add_2 6 = .ok (.aload_n 0, 1) := dk_42 (dk_at dksJ3_add_2_0 6 rfl rfl)
theorem dJ3_add_2_7 : decode cJ3_add_2 7 = .ok (.invokevirtual 129, 3) := dk_182 0 129 (dk_at dksJ3_add_2_0 7 rfl rfl)
theorem dJ3_add_2_10 : decode cJ3_add_2 10 = .ok (.astore_n 2, 1) := dk_77 (dk_at dksJ3_add_2_0 10 rfl rfl)
theorem dJ3_add_2_11 : decode cJ3_add_2 11 = .ok (.aload_n 2, 1) := dk_44 (dk_at dksJ3_add_2_0 11 rfl rfl)
theorem dJ3_add_2_12 : decode cJ3_add_2 12 = .ok (.iload_n 3, 1) := dk_29 (dk_at dksJ3_add_2_0 12 rfl rfl)
theorem dJ3_add_2_13 : decode cJ3_add_2 13 = .ok (.aload_n 1, 1) := dk_43 (dk_at dksJ3_add_2_0 13 rfl rfl)
theorem dJ3_add_2_14 : decode cJ3_add_2 14 = .ok (.aastore, 1) := dk_83 (dk_at dksJ3_add_2_0 14 rfl rfl)
theorem dJ3_add_2_15 : decode cJ3_add_2 15 = .ok (.aload_n 0, 1) := dk_42 (dk_at dksJ3_add_2_0 15 rfl rfl)
theorem dJ3_add_2_16 : decode cJ3_add_2 16 = .ok (.iload_n 3, 1) := dk_29 (dk_at dksJ3_add_2_0 16 rfl rfl)
theorem dJ3_add_2_17 : decode cJ3_add_2 17 = .ok (.iconst 1, 1) := dk_4 (dk_at dksJ3_add_2_0 17 rfl rfl)
theorem dJ3_add_2_18 : decode cJ3_add_2 18 = .ok (.iadd, 1) := dk_96 (dk_at dksJ3_add_2_0 18 rfl rfl)
theorem dJ3_add_2_19 : decode cJ3_add_2 19 = .ok (.putfield 48, 3) := dk_181 0 48 (dk_at dksJ3_add_2_0 19 rfl rfl)
theorem dJ3_add_2_22 : decode cJ3_add_2 22 = .ok (.return_, 1) := dk_177 (dk_at dksJ3_add_2_0 22 rfl rfl)
abbrev cJ3_grow : ByteArray := prog_23_method_7_code
def yJ3_grow : MethodName := ⟨RJ3, "grow", "()[Ljava/lang/Object;"⟩
def dkwJ3_grow_0 : List UInt8 := [42, 42, 180, 0, 48, 4, 96, 182, 0, 69, 176]
abbrev dktJ3_grow_0 : List UInt8 := dkwJ3_grow_0 ++ []
theorem dksJ3_grow_0 : cJ3_grow.data.toList.drop 0 = dktJ3_grow_0 := by decide +kernel
theorem dJ3_grow_0 : decode cJ3_grow 0 = .ok (.aload_n 0, 1) := dk_42 (dk_at dksJ3_grow_0 0 rfl rfl)
theorem dJ3_grow_1 : decode cJ3_grow 1 = .ok (.aload_n 0, 1) := dk_42 (dk_at dksJ3_grow_0 1 rfl rfl)
theorem dJ3_grow_2 : decode cJ3_grow 2 = .ok (.getfield 48, 3) := dk_180 0 48 (dk_at dksJ3_grow_0 2 rfl rfl)
theorem dJ3_grow_5 : decode cJ3_grow 5 = .ok (.iconst 1, 1) := dk_4 (dk_at dksJ3_grow_0 5 rfl rfl)
theorem dJ3_grow_6 : decode cJ3_grow 6 = .ok (.iadd, 1) := dk_96 (dk_at dksJ3_grow_0 6 rfl rfl)
theorem dJ3_grow_7 : decode cJ3_grow 7 = .ok (.invokevirtual 69, 3) := dk_182 0 69 (dk_at dksJ3_grow_0 7 rfl rfl)
theorem dJ3_grow_10 : decode cJ3_grow 10 = .ok (.areturn, 1) := dk_176 (dk_at dksJ3_grow_0 10 rfl rfl)
abbrev cJ3_grow_2 : ByteArray := prog_23_method_6_code
def yJ3_grow_2 : MethodName := ⟨RJ3, "grow", "(I)[Ljava/lang/Object;"⟩
def dkwJ3_grow_2_2 : List UInt8 := [27, 184, 0, 79, 189, 0, 7, 90, 181, 0, 9, 176]
abbrev dktJ3_grow_2_2 : List UInt8 := dkwJ3_grow_2_2 ++ []
def dkwJ3_grow_2_1 : List UInt8 := [28, 4, 122, 184, 0, 73, 62, 42, 42, 180, 0, 9, 29, 184, 0, 66, 90, 181, 0, 9, 176, 42, 16, 10]
abbrev dktJ3_grow_2_1 : List UInt8 := dkwJ3_grow_2_1 ++ dktJ3_grow_2_2
def dkwJ3_grow_2_0 : List UInt8 := [42, 180, 0, 9, 190, 61, 28, 157, 0, 13, 42, 180, 0, 9, 178, 0, 39, 165, 0, 28, 28, 27, 28, 100]
abbrev dktJ3_grow_2_0 : List UInt8 := dkwJ3_grow_2_0 ++ dktJ3_grow_2_1
theorem dksJ3_grow_2_0 : cJ3_grow_2.data.toList.drop 0 = dktJ3_grow_2_0 := by decide +kernel
theorem dksJ3_grow_2_1 : cJ3_grow_2.data.toList.drop 24 = dktJ3_grow_2_1 := dk_seg dksJ3_grow_2_0 24 rfl rfl
theorem dksJ3_grow_2_2 : cJ3_grow_2.data.toList.drop 48 = dktJ3_grow_2_2 := dk_seg dksJ3_grow_2_1 24 rfl rfl
theorem dJ3_grow_2_0 : decode cJ3_grow_2 0 = .ok (.aload_n 0, 1) := dk_42 (dk_at dksJ3_grow_2_0 0 rfl rfl)
theorem dJ3_grow_2_1 : decode cJ3_grow_2 1 = .ok (.getfield 9, 3) := dk_180 0 9 (dk_at dksJ3_grow_2_0 1 rfl rfl)
theorem dJ3_grow_2_4 : decode cJ3_grow_2 4 = .ok (.arraylength, 1) := dk_190 (dk_at dksJ3_grow_2_0 4 rfl rfl)
theorem dJ3_grow_2_5 : decode cJ3_grow_2 5 = .ok (.istore_n 2, 1) := dk_61 (dk_at dksJ3_grow_2_0 5 rfl rfl)
theorem dJ3_grow_2_6 : decode cJ3_grow_2 6 = .ok (.iload_n 2, 1) := dk_28 (dk_at dksJ3_grow_2_0 6 rfl rfl)
theorem dJ3_grow_2_7 : decode cJ3_grow_2 7 = .ok (.ifCond .gt 13, 3) := dk_157 0 13 (dk_at dksJ3_grow_2_0 7 rfl rfl)
theorem dJ3_grow_2_10 : decode cJ3_grow_2 10 = .ok (.aload_n 0, 1) := dk_42 (dk_at dksJ3_grow_2_0 10 rfl rfl)
theorem dJ3_grow_2_11 : decode cJ3_grow_2 11 = .ok (.getfield 9, 3) := dk_180 0 9 (dk_at dksJ3_grow_2_0 11 rfl rfl)
theorem dJ3_grow_2_14 : decode cJ3_grow_2 14 = .ok (.getstatic 39, 3) := dk_178 0 39 (dk_at dksJ3_grow_2_0 14 rfl rfl)
theorem dJ3_grow_2_17 : decode cJ3_grow_2 17 = .ok (.if_acmp .eq 28, 3) := dk_165 0 28 (dk_at dksJ3_grow_2_0 17 rfl rfl)
theorem dJ3_grow_2_20 : decode cJ3_grow_2 20 = .ok (.iload_n 2, 1) := dk_28 (dk_at dksJ3_grow_2_0 20 rfl rfl)
theorem dJ3_grow_2_21 : decode cJ3_grow_2 21 = .ok (.iload_n 1, 1) := dk_27 (dk_at dksJ3_grow_2_0 21 rfl rfl)
theorem dJ3_grow_2_22 : decode cJ3_grow_2 22 = .ok (.iload_n 2, 1) := dk_28 (dk_at dksJ3_grow_2_0 22 rfl rfl)
theorem dJ3_grow_2_23 : decode cJ3_grow_2 23 = .ok (.isub, 1) := dk_100 (dk_at dksJ3_grow_2_0 23 rfl rfl)
theorem dJ3_grow_2_24 : decode cJ3_grow_2 24 = .ok (.iload_n 2, 1) := dk_28 (dk_at dksJ3_grow_2_1 0 rfl rfl)
theorem dJ3_grow_2_25 : decode cJ3_grow_2 25 = .ok (.iconst 1, 1) := dk_4 (dk_at dksJ3_grow_2_1 1 rfl rfl)
theorem dJ3_grow_2_26 : decode cJ3_grow_2 26 = .ok (.ishr, 1) := dk_122 (dk_at dksJ3_grow_2_1 2 rfl rfl)
theorem dJ3_grow_2_27 : decode cJ3_grow_2 27 = .ok (.invokestatic 73, 3) := dk_184 0 73 (dk_at dksJ3_grow_2_1 3 rfl rfl)
theorem dJ3_grow_2_30 : decode cJ3_grow_2 30 = .ok (.istore_n 3, 1) := dk_62 (dk_at dksJ3_grow_2_1 6 rfl rfl)
theorem dJ3_grow_2_31 : decode cJ3_grow_2 31 = .ok (.aload_n 0, 1) := dk_42 (dk_at dksJ3_grow_2_1 7 rfl rfl)
theorem dJ3_grow_2_32 : decode cJ3_grow_2 32 = .ok (.aload_n 0, 1) := dk_42 (dk_at dksJ3_grow_2_1 8 rfl rfl)
theorem dJ3_grow_2_33 : decode cJ3_grow_2 33 = .ok (.getfield 9, 3) := dk_180 0 9 (dk_at dksJ3_grow_2_1 9 rfl rfl)
theorem dJ3_grow_2_36 : decode cJ3_grow_2 36 = .ok (.iload_n 3, 1) := dk_29 (dk_at dksJ3_grow_2_1 12 rfl rfl)
theorem dJ3_grow_2_37 : decode cJ3_grow_2 37 = .ok (.invokestatic 66, 3) := dk_184 0 66 (dk_at dksJ3_grow_2_1 13 rfl rfl)
theorem dJ3_grow_2_40 : decode cJ3_grow_2 40 = .ok (.dup_x1, 1) := dk_90 (dk_at dksJ3_grow_2_1 16 rfl rfl)
theorem dJ3_grow_2_41 : decode cJ3_grow_2 41 = .ok (.putfield 9, 3) := dk_181 0 9 (dk_at dksJ3_grow_2_1 17 rfl rfl)
theorem dJ3_grow_2_44 : decode cJ3_grow_2 44 = .ok (.areturn, 1) := dk_176 (dk_at dksJ3_grow_2_1 20 rfl rfl)
theorem dJ3_grow_2_45 : decode cJ3_grow_2 45 = .ok (.aload_n 0, 1) := dk_42 (dk_at dksJ3_grow_2_1 21 rfl rfl)
theorem dJ3_grow_2_46 : decode cJ3_grow_2 46 = .ok (.bipush 10, 2) := dk_16 10 (dk_at dksJ3_grow_2_1 22 rfl rfl)
theorem dJ3_grow_2_48 : decode cJ3_grow_2 48 = .ok (.iload_n 1, 1) := dk_27 (dk_at dksJ3_grow_2_2 0 rfl rfl)
theorem dJ3_grow_2_49 : decode cJ3_grow_2 49 = .ok (.invokestatic 79, 3) := dk_184 0 79 (dk_at dksJ3_grow_2_2 1 rfl rfl)
theorem dJ3_grow_2_52 : decode cJ3_grow_2 52 = .ok (.anewarray 7, 3) := dk_189 0 7 (dk_at dksJ3_grow_2_2 4 rfl rfl)
theorem dJ3_grow_2_55 : decode cJ3_grow_2 55 = .ok (.dup_x1, 1) := dk_90 (dk_at dksJ3_grow_2_2 7 rfl rfl)
theorem dJ3_grow_2_56 : decode cJ3_grow_2 56 = .ok (.putfield 9, 3) := dk_181 0 9 (dk_at dksJ3_grow_2_2 8 rfl rfl)
theorem dJ3_grow_2_59 : decode cJ3_grow_2 59 = .ok (.areturn, 1) := dk_176 (dk_at dksJ3_grow_2_2 11 rfl rfl)
abbrev cJ3_addAll : ByteArray := prog_23_method_41_code
def yJ3_addAll : MethodName := ⟨RJ3, "addAll", "(Ljava/util/Collection;)Z"⟩
def dkwJ3_addAll_3 : List UInt8 := [181, 0, 48, 4, 172]
abbrev dktJ3_addAll_3 : List UInt8 := dkwJ3_addAll_3 ++ []
def dkwJ3_addAll_2 : List UInt8 := [21, 5, 29, 96, 182, 0, 69, 58, 4, 44, 3, 25, 4, 21, 5, 29, 184, 0, 112, 42, 21, 5, 29, 96]
abbrev dktJ3_addAll_2 : List UInt8 := dkwJ3_addAll_2 ++ dktJ3_addAll_3
def dkwJ3_addAll_1 : List UInt8 := [3, 172, 29, 42, 180, 0, 9, 89, 58, 4, 190, 42, 180, 0, 48, 89, 54, 5, 100, 164, 0, 13, 42]
abbrev dktJ3_addAll_1 : List UInt8 := dkwJ3_addAll_1 ++ dktJ3_addAll_2
def dkwJ3_addAll_0 : List UInt8 := [43, 185, 0, 42, 1, 0, 77, 42, 89, 180, 0, 63, 4, 96, 181, 0, 63, 44, 190, 62, 29, 154, 0, 5]
abbrev dktJ3_addAll_0 : List UInt8 := dkwJ3_addAll_0 ++ dktJ3_addAll_1
theorem dksJ3_addAll_0 : cJ3_addAll.data.toList.drop 0 = dktJ3_addAll_0 := by decide +kernel
theorem dksJ3_addAll_1 : cJ3_addAll.data.toList.drop 24 = dktJ3_addAll_1 := dk_seg dksJ3_addAll_0 24 rfl rfl
theorem dksJ3_addAll_2 : cJ3_addAll.data.toList.drop 47 = dktJ3_addAll_2 := dk_seg dksJ3_addAll_1 23 rfl rfl
theorem dksJ3_addAll_3 : cJ3_addAll.data.toList.drop 71 = dktJ3_addAll_3 := dk_seg dksJ3_addAll_2 24 rfl rfl
theorem dJ3_addAll_0 : decode cJ3_addAll 0 = .ok (.aload_n 1, 1) := dk_43 (dk_at dksJ3_addAll_0 0 rfl rfl)
theorem dJ3_addAll_1 : decode cJ3_addAll 1 = .ok (.invokeinterface 42 1, 5) := by decide +kernel
theorem dJ3_addAll_6 : decode cJ3_addAll 6 = .ok (.astore_n 2, 1) := dk_77 (dk_at dksJ3_addAll_0 6 rfl rfl)
theorem dJ3_addAll_7 : decode cJ3_addAll 7 = .ok (.aload_n 0, 1) := dk_42 (dk_at dksJ3_addAll_0 7 rfl rfl)
theorem dJ3_addAll_8 : decode cJ3_addAll 8 = .ok (.dup, 1) := dk_89 (dk_at dksJ3_addAll_0 8 rfl rfl)
theorem dJ3_addAll_9 : decode cJ3_addAll 9 = .ok (.getfield 63, 3) := dk_180 0 63 (dk_at dksJ3_addAll_0 9 rfl rfl)
theorem dJ3_addAll_12 : decode cJ3_addAll 12 = .ok (.iconst 1, 1) := dk_4 (dk_at dksJ3_addAll_0 12 rfl rfl)
theorem dJ3_addAll_13 : decode cJ3_addAll 13 = .ok (.iadd, 1) := dk_96 (dk_at dksJ3_addAll_0 13 rfl rfl)
theorem dJ3_addAll_14 : decode cJ3_addAll 14 = .ok (.putfield 63, 3) := dk_181 0 63 (dk_at dksJ3_addAll_0 14 rfl rfl)
theorem dJ3_addAll_17 : decode cJ3_addAll 17 = .ok (.aload_n 2, 1) := dk_44 (dk_at dksJ3_addAll_0 17 rfl rfl)
theorem dJ3_addAll_18 : decode cJ3_addAll 18 = .ok (.arraylength, 1) := dk_190 (dk_at dksJ3_addAll_0 18 rfl rfl)
theorem dJ3_addAll_19 : decode cJ3_addAll 19 = .ok (.istore_n 3, 1) := dk_62 (dk_at dksJ3_addAll_0 19 rfl rfl)
theorem dJ3_addAll_20 : decode cJ3_addAll 20 = .ok (.iload_n 3, 1) := dk_29 (dk_at dksJ3_addAll_0 20 rfl rfl)
theorem dJ3_addAll_21 : decode cJ3_addAll 21 = .ok (.ifCond .ne 5, 3) := dk_154 0 5 (dk_at dksJ3_addAll_0 21 rfl rfl)
theorem dJ3_addAll_24 : decode cJ3_addAll 24 = .ok (.iconst 0, 1) := dk_3 (dk_at dksJ3_addAll_1 0 rfl rfl)
theorem dJ3_addAll_25 : decode cJ3_addAll 25 = .ok (.ireturn, 1) := dk_172 (dk_at dksJ3_addAll_1 1 rfl rfl)
theorem dJ3_addAll_26 : decode cJ3_addAll 26 = .ok (.iload_n 3, 1) := dk_29 (dk_at dksJ3_addAll_1 2 rfl rfl)
theorem dJ3_addAll_27 : decode cJ3_addAll 27 = .ok (.aload_n 0, 1) := dk_42 (dk_at dksJ3_addAll_1 3 rfl rfl)
theorem dJ3_addAll_28 : decode cJ3_addAll 28 = .ok (.getfield 9, 3) := dk_180 0 9 (dk_at dksJ3_addAll_1 4 rfl rfl)
theorem dJ3_addAll_31 : decode cJ3_addAll 31 = .ok (.dup, 1) := dk_89 (dk_at dksJ3_addAll_1 7 rfl rfl)
theorem dJ3_addAll_32 : decode cJ3_addAll 32 = .ok (.astore 4, 2) := dk_58 4 (dk_at dksJ3_addAll_1 8 rfl rfl)
theorem dJ3_addAll_34 : decode cJ3_addAll 34 = .ok (.arraylength, 1) := dk_190 (dk_at dksJ3_addAll_1 10 rfl rfl)
theorem dJ3_addAll_35 : decode cJ3_addAll 35 = .ok (.aload_n 0, 1) := dk_42 (dk_at dksJ3_addAll_1 11 rfl rfl)
theorem dJ3_addAll_36 : decode cJ3_addAll 36 = .ok (.getfield 48, 3) := dk_180 0 48 (dk_at dksJ3_addAll_1 12 rfl rfl)
theorem dJ3_addAll_39 : decode cJ3_addAll 39 = .ok (.dup, 1) := dk_89 (dk_at dksJ3_addAll_1 15 rfl rfl)
theorem dJ3_addAll_40 : decode cJ3_addAll 40 = .ok (.istore 5, 2) := dk_54 5 (dk_at dksJ3_addAll_1 16 rfl rfl)
theorem dJ3_addAll_42 : decode cJ3_addAll 42 = .ok (.isub, 1) := dk_100 (dk_at dksJ3_addAll_1 18 rfl rfl)
theorem dJ3_addAll_43 : decode cJ3_addAll 43 = .ok (.if_icmp .le 13, 3) := dk_164 0 13 (dk_at dksJ3_addAll_1 19 rfl rfl)
theorem dJ3_addAll_46 : decode cJ3_addAll 46 = .ok (.aload_n 0, 1) := dk_42 (dk_at dksJ3_addAll_1 22 rfl rfl)
theorem dJ3_addAll_47 : decode cJ3_addAll 47 = .ok (.iload 5, 2) := dk_21 5 (dk_at dksJ3_addAll_2 0 rfl rfl)
theorem dJ3_addAll_49 : decode cJ3_addAll 49 = .ok (.iload_n 3, 1) := dk_29 (dk_at dksJ3_addAll_2 2 rfl rfl)
theorem dJ3_addAll_50 : decode cJ3_addAll 50 = .ok (.iadd, 1) := dk_96 (dk_at dksJ3_addAll_2 3 rfl rfl)
theorem dJ3_addAll_51 : decode cJ3_addAll 51 = .ok (.invokevirtual 69, 3) := dk_182 0 69 (dk_at dksJ3_addAll_2 4 rfl rfl)
theorem dJ3_addAll_54 : decode cJ3_addAll 54 = .ok (.astore 4, 2) := dk_58 4 (dk_at dksJ3_addAll_2 7 rfl rfl)
theorem dJ3_addAll_56 : decode cJ3_addAll 56 = .ok (.aload_n 2, 1) := dk_44 (dk_at dksJ3_addAll_2 9 rfl rfl)
theorem dJ3_addAll_57 : decode cJ3_addAll 57 = .ok (.iconst 0, 1) := dk_3 (dk_at dksJ3_addAll_2 10 rfl rfl)
theorem dJ3_addAll_58 : decode cJ3_addAll 58 = .ok (.aload 4, 2) := dk_25 4 (dk_at dksJ3_addAll_2 11 rfl rfl)
theorem dJ3_addAll_60 : decode cJ3_addAll 60 = .ok (.iload 5, 2) := dk_21 5 (dk_at dksJ3_addAll_2 13 rfl rfl)
theorem dJ3_addAll_62 : decode cJ3_addAll 62 = .ok (.iload_n 3, 1) := dk_29 (dk_at dksJ3_addAll_2 15 rfl rfl)
theorem dJ3_addAll_63 : decode cJ3_addAll 63 = .ok (.invokestatic 112, 3) := dk_184 0 112 (dk_at dksJ3_addAll_2 16 rfl rfl)
theorem dJ3_addAll_66 : decode cJ3_addAll 66 = .ok (.aload_n 0, 1) := dk_42 (dk_at dksJ3_addAll_2 19 rfl rfl)
theorem dJ3_addAll_67 : decode cJ3_addAll 67 = .ok (.iload 5, 2) := dk_21 5 (dk_at dksJ3_addAll_2 20 rfl rfl)
theorem dJ3_addAll_69 : decode cJ3_addAll 69 = .ok (.iload_n 3, 1) := dk_29 (dk_at dksJ3_addAll_2 22 rfl rfl)
theorem dJ3_addAll_70 : decode cJ3_addAll 70 = .ok (.iadd, 1) := dk_96 (dk_at dksJ3_addAll_2 23 rfl rfl)
theorem dJ3_addAll_71 : decode cJ3_addAll 71 = .ok (.putfield 48, 3) := dk_181 0 48 (dk_at dksJ3_addAll_3 0 rfl rfl)
theorem dJ3_addAll_74 : decode cJ3_addAll 74 = .ok (.iconst 1, 1) := dk_4 (dk_at dksJ3_addAll_3 3 rfl rfl)
theorem dJ3_addAll_75 : decode cJ3_addAll 75 = .ok (.ireturn, 1) := dk_172 (dk_at dksJ3_addAll_3 4 rfl rfl)
abbrev cJ3_toArray : ByteArray := prog_23_method_16_code
def yJ3_toArray : MethodName := ⟨RJ3, "toArray", "()[Ljava/lang/Object;"⟩
def dkwJ3_toArray_0 : List UInt8 := [42, 180, 0, 9, 42, 180, 0, 48, 184, 0, 66, 176]
abbrev dktJ3_toArray_0 : List UInt8 := dkwJ3_toArray_0 ++ []
theorem dksJ3_toArray_0 : cJ3_toArray.data.toList.drop 0 = dktJ3_toArray_0 := by decide +kernel
theorem dJ3_toArray_0 : decode cJ3_toArray 0 = .ok (.aload_n 0, 1) := dk_42 (dk_at dksJ3_toArray_0 0 rfl rfl)
theorem dJ3_toArray_1 : decode cJ3_toArray 1 = .ok (.getfield 9, 3) := dk_180 0 9 (dk_at dksJ3_toArray_0 1 rfl rfl)
theorem dJ3_toArray_4 : decode cJ3_toArray 4 = .ok (.aload_n 0, 1) := dk_42 (dk_at dksJ3_toArray_0 4 rfl rfl)
theorem dJ3_toArray_5 : decode cJ3_toArray 5 = .ok (.getfield 48, 3) := dk_180 0 48 (dk_at dksJ3_toArray_0 5 rfl rfl)
theorem dJ3_toArray_8 : decode cJ3_toArray 8 = .ok (.invokestatic 66, 3) := dk_184 0 66 (dk_at dksJ3_toArray_0 8 rfl rfl)
theorem dJ3_toArray_11 : decode cJ3_toArray 11 = .ok (.areturn, 1) := dk_176 (dk_at dksJ3_toArray_0 11 rfl rfl)
abbrev cJ3_size : ByteArray := prog_23_method_8_code
def yJ3_size : MethodName := ⟨RJ3, "size", "()I"⟩
theorem dJ3_size_0 : decode cJ3_size 0 = .ok (.aload_n 0, 1) := by decide +kernel
theorem dJ3_size_1 : decode cJ3_size 1 = .ok (.getfield 48, 3) := by decide +kernel
theorem dJ3_size_4 : decode cJ3_size 4 = .ok (.ireturn, 1) := by decide +kernel
abbrev cJ3_get : ByteArray := prog_23_method_20_code
def yJ3_get : MethodName := ⟨RJ3, "get", "(I)Ljava/lang/Object;"⟩
def dkwJ3_get_0 : List UInt8 := [27, 42, 180, 0, 48, 184, 0, 118, 87, 42, 27, 182, 0, 123, 176]
abbrev dktJ3_get_0 : List UInt8 := dkwJ3_get_0 ++ []
theorem dksJ3_get_0 : cJ3_get.data.toList.drop 0 = dktJ3_get_0 := by decide +kernel
theorem dJ3_get_0 : decode cJ3_get 0 = .ok (.iload_n 1, 1) := dk_27 (dk_at dksJ3_get_0 0 rfl rfl)
theorem dJ3_get_1 : decode cJ3_get 1 = .ok (.aload_n 0, 1) := dk_42 (dk_at dksJ3_get_0 1 rfl rfl)
theorem dJ3_get_2 : decode cJ3_get 2 = .ok (.getfield 48, 3) := dk_180 0 48 (dk_at dksJ3_get_0 2 rfl rfl)
theorem dJ3_get_5 : decode cJ3_get 5 = .ok (.invokestatic 118, 3) := dk_184 0 118 (dk_at dksJ3_get_0 5 rfl rfl)
theorem dJ3_get_8 : decode cJ3_get 8 = .ok (.pop, 1) := dk_87 (dk_at dksJ3_get_0 8 rfl rfl)
theorem dJ3_get_9 : decode cJ3_get 9 = .ok (.aload_n 0, 1) := dk_42 (dk_at dksJ3_get_0 9 rfl rfl)
theorem dJ3_get_10 : decode cJ3_get 10 = .ok (.iload_n 1, 1) := dk_27 (dk_at dksJ3_get_0 10 rfl rfl)
theorem dJ3_get_11 : decode cJ3_get 11 = .ok (.invokevirtual 123, 3) := dk_182 0 123 (dk_at dksJ3_get_0 11 rfl rfl)
theorem dJ3_get_14 : decode cJ3_get 14 = .ok (.areturn, 1) := dk_176 (dk_at dksJ3_get_0 14 rfl rfl)
abbrev cJ3_elementData : ByteArray := prog_23_method_18_code
def yJ3_elementData : MethodName := ⟨RJ3, "elementData", "(I)Ljava/lang/Object;"⟩
def dkwJ3_elementData_0 : List UInt8 := [42, 180, 0, 9, 27, 50, 176]
abbrev dktJ3_elementData_0 : List UInt8 := dkwJ3_elementData_0 ++ []
theorem dksJ3_elementData_0 : cJ3_elementData.data.toList.drop 0 = dktJ3_elementData_0 := by decide +kernel
theorem dJ3_elementData_0 : decode cJ3_elementData 0 = .ok (.aload_n 0, 1) := dk_42 (dk_at dksJ3_elementData_0 0 rfl rfl)
theorem dJ3_elementData_1 : decode cJ3_elementData 1 = .ok (.getfield 9, 3) := dk_180 0 9 (dk_at dksJ3_elementData_0 1 rfl rfl)
theorem dJ3_elementData_4 : decode cJ3_elementData 4 = .ok (.iload_n 1, 1) := dk_27 (dk_at dksJ3_elementData_0 4 rfl rfl)
theorem dJ3_elementData_5 : decode cJ3_elementData 5 = .ok (.aaload, 1) := dk_50 (dk_at dksJ3_elementData_0 5 rfl rfl)
theorem dJ3_elementData_6 : decode cJ3_elementData 6 = .ok (.areturn, 1) := dk_176 (dk_at dksJ3_elementData_0 6 rfl rfl)
abbrev cJ3_add_3 : ByteArray := prog_23_method_26_code
def yJ3_add_3 : MethodName := ⟨RJ3, "add", "(ILjava/lang/Object;)V"⟩
def dkwJ3_add_3_2 : List UInt8 := [29, 27, 100, 184, 0, 112, 25, 4, 27, 44, 83, 42, 29, 4, 96, 181, 0, 48, 177]
abbrev dktJ3_add_3_2 : List UInt8 := dkwJ3_add_3_2 ++ []
def dkwJ3_add_3_1 : List UInt8 := [180, 0, 9, 89, 58, 4, 190, 160, 0, 9, 42, 182, 0, 129, 58, 4, 25, 4, 27, 25, 4, 27, 4, 96]
abbrev dktJ3_add_3_1 : List UInt8 := dkwJ3_add_3_1 ++ dktJ3_add_3_2
def dkwJ3_add_3_0 : List UInt8 := [42, 27, 182, 0, 135, 42, 89, 180, 0, 63, 4, 96, 181, 0, 63, 42, 180, 0, 48, 89, 62, 42]
abbrev dktJ3_add_3_0 : List UInt8 := dkwJ3_add_3_0 ++ dktJ3_add_3_1
theorem dksJ3_add_3_0 : cJ3_add_3.data.toList.drop 0 = dktJ3_add_3_0 := by decide +kernel
theorem dksJ3_add_3_1 : cJ3_add_3.data.toList.drop 22 = dktJ3_add_3_1 := dk_seg dksJ3_add_3_0 22 rfl rfl
theorem dksJ3_add_3_2 : cJ3_add_3.data.toList.drop 46 = dktJ3_add_3_2 := dk_seg dksJ3_add_3_1 24 rfl rfl
theorem dJ3_add_3_0 : decode cJ3_add_3 0 = .ok (.aload_n 0, 1) := dk_42 (dk_at dksJ3_add_3_0 0 rfl rfl)
theorem dJ3_add_3_1 : decode cJ3_add_3 1 = .ok (.iload_n 1, 1) := dk_27 (dk_at dksJ3_add_3_0 1 rfl rfl)
theorem dJ3_add_3_2 : decode cJ3_add_3 2 = .ok (.invokevirtual 135, 3) := dk_182 0 135 (dk_at dksJ3_add_3_0 2 rfl rfl)
theorem dJ3_add_3_5 : decode cJ3_add_3 5 = .ok (.aload_n 0, 1) := dk_42 (dk_at dksJ3_add_3_0 5 rfl rfl)
theorem dJ3_add_3_6 : decode cJ3_add_3 6 = .ok (.dup, 1) := dk_89 (dk_at dksJ3_add_3_0 6 rfl rfl)
theorem dJ3_add_3_7 : decode cJ3_add_3 7 = .ok (.getfield 63, 3) := dk_180 0 63 (dk_at dksJ3_add_3_0 7 rfl rfl)
theorem dJ3_add_3_10 : decode cJ3_add_3 10 = .ok (.iconst 1, 1) := dk_4 (dk_at dksJ3_add_3_0 10 rfl rfl)
theorem dJ3_add_3_11 : decode cJ3_add_3 11 = .ok (.iadd, 1) := dk_96 (dk_at dksJ3_add_3_0 11 rfl rfl)
theorem dJ3_add_3_12 : decode cJ3_add_3 12 = .ok (.putfield 63, 3) := dk_181 0 63 (dk_at dksJ3_add_3_0 12 rfl rfl)
theorem dJ3_add_3_15 : decode cJ3_add_3 15 = .ok (.aload_n 0, 1) := dk_42 (dk_at dksJ3_add_3_0 15 rfl rfl)
theorem dJ3_add_3_16 : decode cJ3_add_3 16 = .ok (.getfield 48, 3) := dk_180 0 48 (dk_at dksJ3_add_3_0 16 rfl rfl)
theorem dJ3_add_3_19 : decode cJ3_add_3 19 = .ok (.dup, 1) := dk_89 (dk_at dksJ3_add_3_0 19 rfl rfl)
theorem dJ3_add_3_20 : decode cJ3_add_3 20 = .ok (.istore_n 3, 1) := dk_62 (dk_at dksJ3_add_3_0 20 rfl rfl)
theorem dJ3_add_3_21 : decode cJ3_add_3 21 = .ok (.aload_n 0, 1) := dk_42 (dk_at dksJ3_add_3_0 21 rfl rfl)
theorem dJ3_add_3_22 : decode cJ3_add_3 22 = .ok (.getfield 9, 3) := dk_180 0 9 (dk_at dksJ3_add_3_1 0 rfl rfl)
theorem dJ3_add_3_25 : decode cJ3_add_3 25 = .ok (.dup, 1) := dk_89 (dk_at dksJ3_add_3_1 3 rfl rfl)
theorem dJ3_add_3_26 : decode cJ3_add_3 26 = .ok (.astore 4, 2) := dk_58 4 (dk_at dksJ3_add_3_1 4 rfl rfl)
theorem dJ3_add_3_28 : decode cJ3_add_3 28 = .ok (.arraylength, 1) := dk_190 (dk_at dksJ3_add_3_1 6 rfl rfl)
theorem dJ3_add_3_29 : decode cJ3_add_3 29 = .ok (.if_icmp .ne 9, 3) := dk_160 0 9 (dk_at dksJ3_add_3_1 7 rfl rfl)
theorem dJ3_add_3_32 : decode cJ3_add_3 32 = .ok (.aload_n 0, 1) := dk_42 (dk_at dksJ3_add_3_1 10 rfl rfl)
theorem dJ3_add_3_33 : decode cJ3_add_3 33 = .ok (.invokevirtual 129, 3) := dk_182 0 129 (dk_at dksJ3_add_3_1 11 rfl rfl)
theorem dJ3_add_3_36 : decode cJ3_add_3 36 = .ok (.astore 4, 2) := dk_58 4 (dk_at dksJ3_add_3_1 14 rfl rfl)
theorem dJ3_add_3_38 : decode cJ3_add_3 38 = .ok (.aload 4, 2) := dk_25 4 (dk_at dksJ3_add_3_1 16 rfl rfl)
theorem dJ3_add_3_40 : decode cJ3_add_3 40 = .ok (.iload_n 1, 1) := dk_27 (dk_at dksJ3_add_3_1 18 rfl rfl)
theorem dJ3_add_3_41 : decode cJ3_add_3 41 = .ok (.aload 4, 2) := dk_25 4 (dk_at dksJ3_add_3_1 19 rfl rfl)
theorem dJ3_add_3_43 : decode cJ3_add_3 43 = .ok (.iload_n 1, 1) := dk_27 (dk_at dksJ3_add_3_1 21 rfl rfl)
theorem dJ3_add_3_44 : decode cJ3_add_3 44 = .ok (.iconst 1, 1) := dk_4 (dk_at dksJ3_add_3_1 22 rfl rfl)
theorem dJ3_add_3_45 : decode cJ3_add_3 45 = .ok (.iadd, 1) := dk_96 (dk_at dksJ3_add_3_1 23 rfl rfl)
theorem dJ3_add_3_46 : decode cJ3_add_3 46 = .ok (.iload_n 3, 1) := dk_29 (dk_at dksJ3_add_3_2 0 rfl rfl)
theorem dJ3_add_3_47 : decode cJ3_add_3 47 = .ok (.iload_n 1, 1) := dk_27 (dk_at dksJ3_add_3_2 1 rfl rfl)
theorem dJ3_add_3_48 : decode cJ3_add_3 48 = .ok (.isub, 1) := dk_100 (dk_at dksJ3_add_3_2 2 rfl rfl)
theorem dJ3_add_3_49 : decode cJ3_add_3 49 = .ok (.invokestatic 112, 3) := dk_184 0 112 (dk_at dksJ3_add_3_2 3 rfl rfl)
theorem dJ3_add_3_52 : decode cJ3_add_3 52 = .ok (.aload 4, 2) := dk_25 4 (dk_at dksJ3_add_3_2 6 rfl rfl)
theorem dJ3_add_3_54 : decode cJ3_add_3 54 = .ok (.iload_n 1, 1) := dk_27 (dk_at dksJ3_add_3_2 8 rfl rfl)
theorem dJ3_add_3_55 : decode cJ3_add_3 55 = .ok (.aload_n 2, 1) := dk_44 (dk_at dksJ3_add_3_2 9 rfl rfl)
theorem dJ3_add_3_56 : decode cJ3_add_3 56 = .ok (.aastore, 1) := dk_83 (dk_at dksJ3_add_3_2 10 rfl rfl)
theorem dJ3_add_3_57 : decode cJ3_add_3 57 = .ok (.aload_n 0, 1) := dk_42 (dk_at dksJ3_add_3_2 11 rfl rfl)
theorem dJ3_add_3_58 : decode cJ3_add_3 58 = .ok (.iload_n 3, 1) := dk_29 (dk_at dksJ3_add_3_2 12 rfl rfl)
theorem dJ3_add_3_59 : decode cJ3_add_3 59 = .ok (.iconst 1, 1) := dk_4 (dk_at dksJ3_add_3_2 13 rfl rfl)
theorem dJ3_add_3_60 : decode cJ3_add_3 60 = .ok (.iadd, 1) := dk_96 (dk_at dksJ3_add_3_2 14 rfl rfl)
theorem dJ3_add_3_61 : decode cJ3_add_3 61 = .ok (.putfield 48, 3) := dk_181 0 48 (dk_at dksJ3_add_3_2 15 rfl rfl)
theorem dJ3_add_3_64 : decode cJ3_add_3 64 = .ok (.return_, 1) := dk_177 (dk_at dksJ3_add_3_2 18 rfl rfl)
abbrev cJ3_rangeCheckForAdd : ByteArray := prog_23_method_45_code
def yJ3_rangeCheckForAdd : MethodName := ⟨RJ3, "rangeCheckForAdd", "(I)V"⟩
def dkwJ3_rangeCheckForAdd_1 : List UInt8 := [191, 177]
abbrev dktJ3_rangeCheckForAdd_1 : List UInt8 := dkwJ3_rangeCheckForAdd_1 ++ []
def dkwJ3_rangeCheckForAdd_0 : List UInt8 := [27, 42, 180, 0, 48, 163, 0, 7, 27, 156, 0, 16, 187, 0, 187, 89, 42, 27, 182, 0, 198, 183, 0, 193]
abbrev dktJ3_rangeCheckForAdd_0 : List UInt8 := dkwJ3_rangeCheckForAdd_0 ++ dktJ3_rangeCheckForAdd_1
theorem dksJ3_rangeCheckForAdd_0 : cJ3_rangeCheckForAdd.data.toList.drop 0 = dktJ3_rangeCheckForAdd_0 := by decide +kernel
theorem dksJ3_rangeCheckForAdd_1 : cJ3_rangeCheckForAdd.data.toList.drop 24 = dktJ3_rangeCheckForAdd_1 := dk_seg dksJ3_rangeCheckForAdd_0 24 rfl rfl
theorem dJ3_rangeCheckForAdd_0 : decode cJ3_rangeCheckForAdd 0 = .ok (.iload_n 1, 1) := dk_27 (dk_at dksJ3_rangeCheckForAdd_0 0 rfl rfl)
theorem dJ3_rangeCheckForAdd_1 : decode cJ3_rangeCheckForAdd 1 = .ok (.aload_n 0, 1) := dk_42 (dk_at dksJ3_rangeCheckForAdd_0 1 rfl rfl)
theorem dJ3_rangeCheckForAdd_2 : decode cJ3_rangeCheckForAdd 2 = .ok (.getfield 48, 3) := dk_180 0 48 (dk_at dksJ3_rangeCheckForAdd_0 2 rfl rfl)
theorem dJ3_rangeCheckForAdd_5 : decode cJ3_rangeCheckForAdd 5 = .ok (.if_icmp .gt 7, 3) := dk_163 0 7 (dk_at dksJ3_rangeCheckForAdd_0 5 rfl rfl)
theorem dJ3_rangeCheckForAdd_8 : decode cJ3_rangeCheckForAdd 8 = .ok (.iload_n 1, 1) := dk_27 (dk_at dksJ3_rangeCheckForAdd_0 8 rfl rfl)
theorem dJ3_rangeCheckForAdd_9 : decode cJ3_rangeCheckForAdd 9 = .ok (.ifCond .ge 16, 3) := dk_156 0 16 (dk_at dksJ3_rangeCheckForAdd_0 9 rfl rfl)
theorem dJ3_rangeCheckForAdd_12 : decode cJ3_rangeCheckForAdd 12 = .ok (.new 187, 3) := dk_187 0 187 (dk_at dksJ3_rangeCheckForAdd_0 12 rfl rfl)
theorem dJ3_rangeCheckForAdd_15 : decode cJ3_rangeCheckForAdd 15 = .ok (.dup, 1) := dk_89 (dk_at dksJ3_rangeCheckForAdd_0 15 rfl rfl)
theorem dJ3_rangeCheckForAdd_16 : decode cJ3_rangeCheckForAdd 16 = .ok (.aload_n 0, 1) := dk_42 (dk_at dksJ3_rangeCheckForAdd_0 16 rfl rfl)
theorem dJ3_rangeCheckForAdd_17 : decode cJ3_rangeCheckForAdd 17 = .ok (.iload_n 1, 1) := dk_27 (dk_at dksJ3_rangeCheckForAdd_0 17 rfl rfl)
theorem dJ3_rangeCheckForAdd_18 : decode cJ3_rangeCheckForAdd 18 = .ok (.invokevirtual 198, 3) := dk_182 0 198 (dk_at dksJ3_rangeCheckForAdd_0 18 rfl rfl)
theorem dJ3_rangeCheckForAdd_21 : decode cJ3_rangeCheckForAdd 21 = .ok (.invokespecial 193, 3) := dk_183 0 193 (dk_at dksJ3_rangeCheckForAdd_0 21 rfl rfl)
theorem dJ3_rangeCheckForAdd_24 : decode cJ3_rangeCheckForAdd 24 = .ok (.athrow, 1) := dk_191 (dk_at dksJ3_rangeCheckForAdd_1 0 rfl rfl)
theorem dJ3_rangeCheckForAdd_25 : decode cJ3_rangeCheckForAdd 25 = .ok (.return_, 1) := dk_177 (dk_at dksJ3_rangeCheckForAdd_1 1 rfl rfl)
abbrev cJ3_remove : ByteArray := prog_23_method_29_code
def yJ3_remove : MethodName := ⟨RJ3, "remove", "(I)Ljava/lang/Object;"⟩
def dkwJ3_remove_1 : List UInt8 := [45, 176]
abbrev dktJ3_remove_1 : List UInt8 := dkwJ3_remove_1 ++ []
def dkwJ3_remove_0 : List UInt8 := [27, 42, 180, 0, 48, 184, 0, 118, 87, 42, 180, 0, 9, 77, 44, 27, 50, 78, 42, 44, 27, 182, 0, 144]
abbrev dktJ3_remove_0 : List UInt8 := dkwJ3_remove_0 ++ dktJ3_remove_1
theorem dksJ3_remove_0 : cJ3_remove.data.toList.drop 0 = dktJ3_remove_0 := by decide +kernel
theorem dksJ3_remove_1 : cJ3_remove.data.toList.drop 24 = dktJ3_remove_1 := dk_seg dksJ3_remove_0 24 rfl rfl
theorem dJ3_remove_0 : decode cJ3_remove 0 = .ok (.iload_n 1, 1) := dk_27 (dk_at dksJ3_remove_0 0 rfl rfl)
theorem dJ3_remove_1 : decode cJ3_remove 1 = .ok (.aload_n 0, 1) := dk_42 (dk_at dksJ3_remove_0 1 rfl rfl)
theorem dJ3_remove_2 : decode cJ3_remove 2 = .ok (.getfield 48, 3) := dk_180 0 48 (dk_at dksJ3_remove_0 2 rfl rfl)
theorem dJ3_remove_5 : decode cJ3_remove 5 = .ok (.invokestatic 118, 3) := dk_184 0 118 (dk_at dksJ3_remove_0 5 rfl rfl)
theorem dJ3_remove_8 : decode cJ3_remove 8 = .ok (.pop, 1) := dk_87 (dk_at dksJ3_remove_0 8 rfl rfl)
theorem dJ3_remove_9 : decode cJ3_remove 9 = .ok (.aload_n 0, 1) := dk_42 (dk_at dksJ3_remove_0 9 rfl rfl)
theorem dJ3_remove_10 : decode cJ3_remove 10 = .ok (.getfield 9, 3) := dk_180 0 9 (dk_at dksJ3_remove_0 10 rfl rfl)
theorem dJ3_remove_13 : decode cJ3_remove 13 = .ok (.astore_n 2, 1) := dk_77 (dk_at dksJ3_remove_0 13 rfl rfl)
theorem dJ3_remove_14 : decode cJ3_remove 14 = .ok (.aload_n 2, 1) := dk_44 (dk_at dksJ3_remove_0 14 rfl rfl)
theorem dJ3_remove_15 : decode cJ3_remove 15 = .ok (.iload_n 1, 1) := dk_27 (dk_at dksJ3_remove_0 15 rfl rfl)
theorem dJ3_remove_16 : decode cJ3_remove 16 = .ok (.aaload, 1) := dk_50 (dk_at dksJ3_remove_0 16 rfl rfl)
theorem dJ3_remove_17 : decode cJ3_remove 17 = .ok (.astore_n 3, 1) := dk_78 (dk_at dksJ3_remove_0 17 rfl rfl)
theorem dJ3_remove_18 : decode cJ3_remove 18 = .ok (.aload_n 0, 1) := dk_42 (dk_at dksJ3_remove_0 18 rfl rfl)
theorem dJ3_remove_19 : decode cJ3_remove 19 = .ok (.aload_n 2, 1) := dk_44 (dk_at dksJ3_remove_0 19 rfl rfl)
theorem dJ3_remove_20 : decode cJ3_remove 20 = .ok (.iload_n 1, 1) := dk_27 (dk_at dksJ3_remove_0 20 rfl rfl)
theorem dJ3_remove_21 : decode cJ3_remove 21 = .ok (.invokevirtual 144, 3) := dk_182 0 144 (dk_at dksJ3_remove_0 21 rfl rfl)
theorem dJ3_remove_24 : decode cJ3_remove 24 = .ok (.aload_n 3, 1) := dk_45 (dk_at dksJ3_remove_1 0 rfl rfl)
theorem dJ3_remove_25 : decode cJ3_remove 25 = .ok (.areturn, 1) := dk_176 (dk_at dksJ3_remove_1 1 rfl rfl)
abbrev cJ3_fastRemove : ByteArray := prog_23_method_39_code
def yJ3_fastRemove : MethodName := ⟨RJ3, "fastRemove", "([Ljava/lang/Object;I)V"⟩
def dkwJ3_fastRemove_1 : List UInt8 := [4, 96, 43, 28, 29, 28, 100, 184, 0, 112, 43, 42, 29, 90, 181, 0, 48, 1, 83, 177]
abbrev dktJ3_fastRemove_1 : List UInt8 := dkwJ3_fastRemove_1 ++ []
def dkwJ3_fastRemove_0 : List UInt8 := [42, 89, 180, 0, 63, 4, 96, 181, 0, 63, 42, 180, 0, 48, 4, 100, 89, 62, 28, 164, 0, 15, 43, 28]
abbrev dktJ3_fastRemove_0 : List UInt8 := dkwJ3_fastRemove_0 ++ dktJ3_fastRemove_1
theorem dksJ3_fastRemove_0 : cJ3_fastRemove.data.toList.drop 0 = dktJ3_fastRemove_0 := by decide +kernel
theorem dksJ3_fastRemove_1 : cJ3_fastRemove.data.toList.drop 24 = dktJ3_fastRemove_1 := dk_seg dksJ3_fastRemove_0 24 rfl rfl
theorem dJ3_fastRemove_0 : decode cJ3_fastRemove 0 = .ok (.aload_n 0, 1) := dk_42 (dk_at dksJ3_fastRemove_0 0 rfl rfl)
theorem dJ3_fastRemove_1 : decode cJ3_fastRemove 1 = .ok (.dup, 1) := dk_89 (dk_at dksJ3_fastRemove_0 1 rfl rfl)
theorem dJ3_fastRemove_2 : decode cJ3_fastRemove 2 = .ok (.getfield 63, 3) := dk_180 0 63 (dk_at dksJ3_fastRemove_0 2 rfl rfl)
theorem dJ3_fastRemove_5 : decode cJ3_fastRemove 5 = .ok (.iconst 1, 1) := dk_4 (dk_at dksJ3_fastRemove_0 5 rfl rfl)
theorem dJ3_fastRemove_6 : decode cJ3_fastRemove 6 = .ok (.iadd, 1) := dk_96 (dk_at dksJ3_fastRemove_0 6 rfl rfl)
theorem dJ3_fastRemove_7 : decode cJ3_fastRemove 7 = .ok (.putfield 63, 3) := dk_181 0 63 (dk_at dksJ3_fastRemove_0 7 rfl rfl)
theorem dJ3_fastRemove_10 : decode cJ3_fastRemove 10 = .ok (.aload_n 0, 1) := dk_42 (dk_at dksJ3_fastRemove_0 10 rfl rfl)
theorem dJ3_fastRemove_11 : decode cJ3_fastRemove 11 = .ok (.getfield 48, 3) := dk_180 0 48 (dk_at dksJ3_fastRemove_0 11 rfl rfl)
theorem dJ3_fastRemove_14 : decode cJ3_fastRemove 14 = .ok (.iconst 1, 1) := dk_4 (dk_at dksJ3_fastRemove_0 14 rfl rfl)
theorem dJ3_fastRemove_15 : decode cJ3_fastRemove 15 = .ok (.isub, 1) := dk_100 (dk_at dksJ3_fastRemove_0 15 rfl rfl)
theorem dJ3_fastRemove_16 : decode cJ3_fastRemove 16 = .ok (.dup, 1) := dk_89 (dk_at dksJ3_fastRemove_0 16 rfl rfl)
theorem dJ3_fastRemove_17 : decode cJ3_fastRemove 17 = .ok (.istore_n 3, 1) := dk_62 (dk_at dksJ3_fastRemove_0 17 rfl rfl)
theorem dJ3_fastRemove_18 : decode cJ3_fastRemove 18 = .ok (.iload_n 2, 1) := dk_28 (dk_at dksJ3_fastRemove_0 18 rfl rfl)
theorem dJ3_fastRemove_19 : decode cJ3_fastRemove 19 = .ok (.if_icmp .le 15, 3) := dk_164 0 15 (dk_at dksJ3_fastRemove_0 19 rfl rfl)
theorem dJ3_fastRemove_22 : decode cJ3_fastRemove 22 = .ok (.aload_n 1, 1) := dk_43 (dk_at dksJ3_fastRemove_0 22 rfl rfl)
theorem dJ3_fastRemove_23 : decode cJ3_fastRemove 23 = .ok (.iload_n 2, 1) := dk_28 (dk_at dksJ3_fastRemove_0 23 rfl rfl)
theorem dJ3_fastRemove_24 : decode cJ3_fastRemove 24 = .ok (.iconst 1, 1) := dk_4 (dk_at dksJ3_fastRemove_1 0 rfl rfl)
theorem dJ3_fastRemove_25 : decode cJ3_fastRemove 25 = .ok (.iadd, 1) := dk_96 (dk_at dksJ3_fastRemove_1 1 rfl rfl)
theorem dJ3_fastRemove_26 : decode cJ3_fastRemove 26 = .ok (.aload_n 1, 1) := dk_43 (dk_at dksJ3_fastRemove_1 2 rfl rfl)
theorem dJ3_fastRemove_27 : decode cJ3_fastRemove 27 = .ok (.iload_n 2, 1) := dk_28 (dk_at dksJ3_fastRemove_1 3 rfl rfl)
theorem dJ3_fastRemove_28 : decode cJ3_fastRemove 28 = .ok (.iload_n 3, 1) := dk_29 (dk_at dksJ3_fastRemove_1 4 rfl rfl)
theorem dJ3_fastRemove_29 : decode cJ3_fastRemove 29 = .ok (.iload_n 2, 1) := dk_28 (dk_at dksJ3_fastRemove_1 5 rfl rfl)
theorem dJ3_fastRemove_30 : decode cJ3_fastRemove 30 = .ok (.isub, 1) := dk_100 (dk_at dksJ3_fastRemove_1 6 rfl rfl)
theorem dJ3_fastRemove_31 : decode cJ3_fastRemove 31 = .ok (.invokestatic 112, 3) := dk_184 0 112 (dk_at dksJ3_fastRemove_1 7 rfl rfl)
theorem dJ3_fastRemove_34 : decode cJ3_fastRemove 34 = .ok (.aload_n 1, 1) := dk_43 (dk_at dksJ3_fastRemove_1 10 rfl rfl)
theorem dJ3_fastRemove_35 : decode cJ3_fastRemove 35 = .ok (.aload_n 0, 1) := dk_42 (dk_at dksJ3_fastRemove_1 11 rfl rfl)
theorem dJ3_fastRemove_36 : decode cJ3_fastRemove 36 = .ok (.iload_n 3, 1) := dk_29 (dk_at dksJ3_fastRemove_1 12 rfl rfl)
theorem dJ3_fastRemove_37 : decode cJ3_fastRemove 37 = .ok (.dup_x1, 1) := dk_90 (dk_at dksJ3_fastRemove_1 13 rfl rfl)
theorem dJ3_fastRemove_38 : decode cJ3_fastRemove 38 = .ok (.putfield 48, 3) := dk_181 0 48 (dk_at dksJ3_fastRemove_1 14 rfl rfl)
theorem dJ3_fastRemove_41 : decode cJ3_fastRemove 41 = .ok (.aconst_null, 1) := dk_1 (dk_at dksJ3_fastRemove_1 17 rfl rfl)
theorem dJ3_fastRemove_42 : decode cJ3_fastRemove 42 = .ok (.aastore, 1) := dk_83 (dk_at dksJ3_fastRemove_1 18 rfl rfl)
theorem dJ3_fastRemove_43 : decode cJ3_fastRemove 43 = .ok (.return_, 1) := dk_177 (dk_at dksJ3_fastRemove_1 19 rfl rfl)
abbrev cJ3_set : ByteArray := prog_23_method_23_code
def yJ3_set : MethodName := ⟨RJ3, "set", "(ILjava/lang/Object;)Ljava/lang/Object;"⟩
def dkwJ3_set_0 : List UInt8 := [27, 42, 180, 0, 48, 184, 0, 118, 87, 42, 27, 182, 0, 123, 78, 42, 180, 0, 9, 27, 44, 83, 45, 176]
abbrev dktJ3_set_0 : List UInt8 := dkwJ3_set_0 ++ []
theorem dksJ3_set_0 : cJ3_set.data.toList.drop 0 = dktJ3_set_0 := by decide +kernel
theorem dJ3_set_0 : decode cJ3_set 0 = .ok (.iload_n 1, 1) := dk_27 (dk_at dksJ3_set_0 0 rfl rfl)
theorem dJ3_set_1 : decode cJ3_set 1 = .ok (.aload_n 0, 1) := dk_42 (dk_at dksJ3_set_0 1 rfl rfl)
theorem dJ3_set_2 : decode cJ3_set 2 = .ok (.getfield 48, 3) := dk_180 0 48 (dk_at dksJ3_set_0 2 rfl rfl)
theorem dJ3_set_5 : decode cJ3_set 5 = .ok (.invokestatic 118, 3) := dk_184 0 118 (dk_at dksJ3_set_0 5 rfl rfl)
theorem dJ3_set_8 : decode cJ3_set 8 = .ok (.pop, 1) := dk_87 (dk_at dksJ3_set_0 8 rfl rfl)
theorem dJ3_set_9 : decode cJ3_set 9 = .ok (.aload_n 0, 1) := dk_42 (dk_at dksJ3_set_0 9 rfl rfl)
theorem dJ3_set_10 : decode cJ3_set 10 = .ok (.iload_n 1, 1) := dk_27 (dk_at dksJ3_set_0 10 rfl rfl)
theorem dJ3_set_11 : decode cJ3_set 11 = .ok (.invokevirtual 123, 3) := dk_182 0 123 (dk_at dksJ3_set_0 11 rfl rfl)
theorem dJ3_set_14 : decode cJ3_set 14 = .ok (.astore_n 3, 1) := dk_78 (dk_at dksJ3_set_0 14 rfl rfl)
theorem dJ3_set_15 : decode cJ3_set 15 = .ok (.aload_n 0, 1) := dk_42 (dk_at dksJ3_set_0 15 rfl rfl)
theorem dJ3_set_16 : decode cJ3_set 16 = .ok (.getfield 9, 3) := dk_180 0 9 (dk_at dksJ3_set_0 16 rfl rfl)
theorem dJ3_set_19 : decode cJ3_set 19 = .ok (.iload_n 1, 1) := dk_27 (dk_at dksJ3_set_0 19 rfl rfl)
theorem dJ3_set_20 : decode cJ3_set 20 = .ok (.aload_n 2, 1) := dk_44 (dk_at dksJ3_set_0 20 rfl rfl)
theorem dJ3_set_21 : decode cJ3_set 21 = .ok (.aastore, 1) := dk_83 (dk_at dksJ3_set_0 21 rfl rfl)
theorem dJ3_set_22 : decode cJ3_set 22 = .ok (.aload_n 3, 1) := dk_45 (dk_at dksJ3_set_0 22 rfl rfl)
theorem dJ3_set_23 : decode cJ3_set 23 = .ok (.areturn, 1) := dk_176 (dk_at dksJ3_set_0 23 rfl rfl)
theorem q150 : (Jvm.Cond.initialized "java/util/ArrayList") ∈ lw_all := lw_g (lw_at lw_m1 14 rfl) rfl
theorem q915 : (Jvm.Cond.instantiable "java/util/ArrayList" (3 : Nat)) ∈ lw_all := lw_g (lw_at lw_m4 59 rfl) rfl
theorem q917 : (Jvm.Cond.instanceMethod ({ cls := "java/util/ArrayList", name := "<init>", desc := "()V" } : Jvm.MethodName)) ∈ lw_all := lw_g (lw_at lw_m4 61 rfl) rfl
theorem q918 : (Jvm.Cond.code ({ cls := "java/util/ArrayList", name := "<init>", desc := "()V" } : Jvm.MethodName) prog_23_method_2_code (1 : Nat) (Option.none : Option Jvm.ClassFile.FieldType)) ∈ lw_all := lw_g (lw_at lw_m4 62 rfl) rfl
theorem q919 : (Jvm.Cond.methodLink "java/util/ArrayList" (1 : Nat) ({ cls := "java/util/AbstractList", name := "<init>", desc := "()V" } : Jvm.MethodName)) ∈ lw_all := lw_g (lw_at lw_m4 63 rfl) rfl
theorem q926 : (Jvm.Cond.fieldLink "java/util/ArrayList" (39 : Nat) "java/util/ArrayList" "DEFAULTCAPACITY_EMPTY_ELEMENTDATA" "[Ljava/lang/Object;") ∈ lw_all := lw_g (lw_at lw_m4 70 rfl) rfl
theorem q927 : (Jvm.Cond.laysStatic "java/util/ArrayList" "DEFAULTCAPACITY_EMPTY_ELEMENTDATA" "[Ljava/lang/Object;") ∈ lw_tbl := lw_at lw_m4 71 rfl
theorem q928 : (Jvm.Cond.fieldLink "java/util/ArrayList" (9 : Nat) "java/util/ArrayList" "elementData" "[Ljava/lang/Object;") ∈ lw_all := lw_g (lw_at lw_m4 72 rfl) rfl
theorem q929 : (Jvm.Cond.fieldLink "java/util/ArrayList" (48 : Nat) "java/util/ArrayList" "size" "I") ∈ lw_all := lw_g (lw_at lw_m4 73 rfl) rfl
theorem q931 : (Jvm.Cond.fieldLink "java/util/ArrayList" (63 : Nat) "java/util/ArrayList" "modCount" "I") ∈ lw_all := lw_g (lw_at lw_m4 75 rfl) rfl
theorem q932 : (Jvm.Cond.sameField "java/util/ArrayList" "java/util/AbstractList" "modCount" "I") ∈ lw_all := lw_g (lw_at lw_m4 76 rfl) rfl
theorem q933 : (Jvm.Cond.lays "java/util/ArrayList" "java/util/ArrayList" "elementData" "[Ljava/lang/Object;") ∈ lw_all := lw_g (lw_at lw_m4 77 rfl) rfl
theorem q934 : (Jvm.Cond.soleField "java/util/ArrayList" "elementData") ∈ lw_all := lw_g (lw_at lw_m4 78 rfl) rfl
theorem q935 : (Jvm.Cond.lays "java/util/ArrayList" "java/util/ArrayList" "size" "I") ∈ lw_all := lw_g (lw_at lw_m4 79 rfl) rfl
theorem q936 : (Jvm.Cond.soleField "java/util/ArrayList" "size") ∈ lw_all := lw_g (lw_at lw_m4 80 rfl) rfl
theorem q937 : (Jvm.Cond.lays "java/util/ArrayList" "java/util/AbstractList" "modCount" "I") ∈ lw_all := lw_g (lw_at lw_m4 81 rfl) rfl
theorem q939 : (Jvm.Cond.superclass "java/util/ArrayList" "java/util/AbstractList") ∈ lw_all := lw_g (lw_at lw_m4 83 rfl) rfl
theorem q981 : (Jvm.Cond.instanceMethod ({ cls := "java/util/ArrayList", name := "add", desc := "(Ljava/lang/Object;)Z" } : Jvm.MethodName)) ∈ lw_all := lw_g (lw_at lw_m4 125 rfl) rfl
theorem q982 : (Jvm.Cond.selects "java/util/ArrayList" ({ cls := "java/util/ArrayList", name := "add", desc := "(Ljava/lang/Object;)Z" } : Jvm.MethodName) ({ cls := "java/util/ArrayList", name := "add", desc := "(Ljava/lang/Object;)Z" } : Jvm.MethodName)) ∈ lw_all := lw_g (lw_at lw_m4 126 rfl) rfl
theorem q983 : (Jvm.Cond.code ({ cls := "java/util/ArrayList", name := "add", desc := "(Ljava/lang/Object;)Z" } : Jvm.MethodName) prog_23_method_25_code (2 : Nat) (Option.some Jvm.ClassFile.FieldType.boolean)) ∈ lw_all := lw_g (lw_at lw_m4 127 rfl) rfl
theorem q984 : (Jvm.Cond.methodLink "java/util/ArrayList" (131 : Nat) ({ cls := "java/util/ArrayList", name := "add", desc := "(Ljava/lang/Object;[Ljava/lang/Object;I)V" } : Jvm.MethodName)) ∈ lw_all := lw_g (lw_at lw_m4 128 rfl) rfl
theorem q985 : (Jvm.Cond.privateMethod ({ cls := "java/util/ArrayList", name := "add", desc := "(Ljava/lang/Object;[Ljava/lang/Object;I)V" } : Jvm.MethodName)) ∈ lw_tbl := lw_at lw_m4 129 rfl
theorem q986 : (Jvm.Cond.instanceMethod ({ cls := "java/util/ArrayList", name := "add", desc := "(Ljava/lang/Object;[Ljava/lang/Object;I)V" } : Jvm.MethodName)) ∈ lw_all := lw_g (lw_at lw_m4 130 rfl) rfl
theorem q987 : (Jvm.Cond.code ({ cls := "java/util/ArrayList", name := "add", desc := "(Ljava/lang/Object;[Ljava/lang/Object;I)V" } : Jvm.MethodName) prog_23_method_24_code (4 : Nat) (Option.none : Option Jvm.ClassFile.FieldType)) ∈ lw_all := lw_g (lw_at lw_m4 131 rfl) rfl
theorem q988 : (Jvm.Cond.methodLink "java/util/ArrayList" (129 : Nat) ({ cls := "java/util/ArrayList", name := "grow", desc := "()[Ljava/lang/Object;" } : Jvm.MethodName)) ∈ lw_all := lw_g (lw_at lw_m4 132 rfl) rfl
theorem q989 : (Jvm.Cond.privateMethod ({ cls := "java/util/ArrayList", name := "grow", desc := "()[Ljava/lang/Object;" } : Jvm.MethodName)) ∈ lw_tbl := lw_at lw_m4 133 rfl
theorem q990 : (Jvm.Cond.instanceMethod ({ cls := "java/util/ArrayList", name := "grow", desc := "()[Ljava/lang/Object;" } : Jvm.MethodName)) ∈ lw_all := lw_g (lw_at lw_m4 134 rfl) rfl
theorem q991 : (Jvm.Cond.code ({ cls := "java/util/ArrayList", name := "grow", desc := "()[Ljava/lang/Object;" } : Jvm.MethodName) prog_23_method_7_code (1 : Nat) (Option.some (Jvm.ClassFile.FieldType.array (Jvm.ClassFile.FieldType.object "java/lang/Object")))) ∈ lw_all := lw_g (lw_at lw_m4 135 rfl) rfl
theorem q992 : (Jvm.Cond.methodLink "java/util/ArrayList" (69 : Nat) ({ cls := "java/util/ArrayList", name := "grow", desc := "(I)[Ljava/lang/Object;" } : Jvm.MethodName)) ∈ lw_all := lw_g (lw_at lw_m4 136 rfl) rfl
theorem q993 : (Jvm.Cond.privateMethod ({ cls := "java/util/ArrayList", name := "grow", desc := "(I)[Ljava/lang/Object;" } : Jvm.MethodName)) ∈ lw_tbl := lw_at lw_m4 137 rfl
theorem q994 : (Jvm.Cond.instanceMethod ({ cls := "java/util/ArrayList", name := "grow", desc := "(I)[Ljava/lang/Object;" } : Jvm.MethodName)) ∈ lw_all := lw_g (lw_at lw_m4 138 rfl) rfl
theorem q995 : (Jvm.Cond.code ({ cls := "java/util/ArrayList", name := "grow", desc := "(I)[Ljava/lang/Object;" } : Jvm.MethodName) prog_23_method_6_code (4 : Nat) (Option.some (Jvm.ClassFile.FieldType.array (Jvm.ClassFile.FieldType.object "java/lang/Object")))) ∈ lw_all := lw_g (lw_at lw_m4 139 rfl) rfl
theorem q996 : (Jvm.Cond.methodLink "java/util/ArrayList" (73 : Nat) ({ cls := "jdk/internal/util/ArraysSupport", name := "newLength", desc := "(III)I" } : Jvm.MethodName)) ∈ lw_all := lw_g (lw_at lw_m4 140 rfl) rfl
theorem q1004 : (Jvm.Cond.methodLink "java/util/ArrayList" (66 : Nat) ({ cls := "java/util/Arrays", name := "copyOf", desc := "([Ljava/lang/Object;I)[Ljava/lang/Object;" } : Jvm.MethodName)) ∈ lw_all := lw_g (lw_at lw_m4 148 rfl) rfl
theorem q1022 : (Jvm.Cond.selects "java/util/ArrayList" ({ cls := "java/lang/Object", name := "getClass", desc := "()Ljava/lang/Class;" } : Jvm.MethodName) ({ cls := "java/lang/Object", name := "getClass", desc := "()Ljava/lang/Class;" } : Jvm.MethodName)) ∈ lw_all := lw_g (lw_at lw_m4 166 rfl) rfl
theorem q1034 : (Jvm.Cond.methodLink "java/util/ArrayList" (79 : Nat) ({ cls := "java/lang/Math", name := "max", desc := "(II)I" } : Jvm.MethodName)) ∈ lw_all := lw_g (lw_at lw_m4 178 rfl) rfl
theorem q1035 : (Jvm.Cond.classLink "java/util/ArrayList" (7 : Nat) "java/lang/Object") ∈ lw_all := lw_g (lw_at lw_m4 179 rfl) rfl
theorem q1037 : (Jvm.Cond.instanceMethod ({ cls := "java/util/ArrayList", name := "addAll", desc := "(Ljava/util/Collection;)Z" } : Jvm.MethodName)) ∈ lw_all := lw_g (lw_at lw_m4 181 rfl) rfl
theorem q1038 : (Jvm.Cond.selects "java/util/ArrayList" ({ cls := "java/util/ArrayList", name := "addAll", desc := "(Ljava/util/Collection;)Z" } : Jvm.MethodName) ({ cls := "java/util/ArrayList", name := "addAll", desc := "(Ljava/util/Collection;)Z" } : Jvm.MethodName)) ∈ lw_all := lw_g (lw_at lw_m4 182 rfl) rfl
theorem q1039 : (Jvm.Cond.code ({ cls := "java/util/ArrayList", name := "addAll", desc := "(Ljava/util/Collection;)Z" } : Jvm.MethodName) prog_23_method_41_code (6 : Nat) (Option.some Jvm.ClassFile.FieldType.boolean)) ∈ lw_all := lw_g (lw_at lw_m4 183 rfl) rfl
theorem q1040 : (Jvm.Cond.interfaceEntry "java/util/ArrayList" (42 : Nat)) ∈ lw_tbl := lw_at lw_m4 184 rfl
theorem q1041 : (Jvm.Cond.methodLink "java/util/ArrayList" (42 : Nat) ({ cls := "java/util/Collection", name := "toArray", desc := "()[Ljava/lang/Object;" } : Jvm.MethodName)) ∈ lw_all := lw_g (lw_at lw_m4 185 rfl) rfl
theorem q1044 : (Jvm.Cond.castable "java/util/ArrayList" "java/util/Collection") ∈ lw_tbl := lw_at lw_m4 188 rfl
theorem q1045 : (Jvm.Cond.selects "java/util/ArrayList" ({ cls := "java/util/Collection", name := "toArray", desc := "()[Ljava/lang/Object;" } : Jvm.MethodName) ({ cls := "java/util/ArrayList", name := "toArray", desc := "()[Ljava/lang/Object;" } : Jvm.MethodName)) ∈ lw_all := lw_g (lw_at lw_m4 189 rfl) rfl
theorem q1046 : (Jvm.Cond.unhidden "java/util/ArrayList" "toArray" "()[Ljava/lang/Object;") ∈ lw_tbl := lw_at lw_m4 190 rfl
theorem q1047 : (Jvm.Cond.instanceMethod ({ cls := "java/util/ArrayList", name := "toArray", desc := "()[Ljava/lang/Object;" } : Jvm.MethodName)) ∈ lw_all := lw_g (lw_at lw_m4 191 rfl) rfl
theorem q1048 : (Jvm.Cond.publicMethod ({ cls := "java/util/ArrayList", name := "toArray", desc := "()[Ljava/lang/Object;" } : Jvm.MethodName)) ∈ lw_tbl := lw_at lw_m4 192 rfl
theorem q1049 : (Jvm.Cond.code ({ cls := "java/util/ArrayList", name := "toArray", desc := "()[Ljava/lang/Object;" } : Jvm.MethodName) prog_23_method_16_code (1 : Nat) (Option.some (Jvm.ClassFile.FieldType.array (Jvm.ClassFile.FieldType.object "java/lang/Object")))) ∈ lw_all := lw_g (lw_at lw_m4 193 rfl) rfl
theorem q1050 : (Jvm.Cond.methodLink "java/util/ArrayList" (112 : Nat) ({ cls := "java/lang/System", name := "arraycopy", desc := "(Ljava/lang/Object;ILjava/lang/Object;II)V" } : Jvm.MethodName)) ∈ lw_all := lw_g (lw_at lw_m4 194 rfl) rfl
theorem q1052 : (Jvm.Cond.instanceMethod ({ cls := "java/util/ArrayList", name := "size", desc := "()I" } : Jvm.MethodName)) ∈ lw_all := lw_g (lw_at lw_m4 196 rfl) rfl
theorem q1053 : (Jvm.Cond.selects "java/util/ArrayList" ({ cls := "java/util/ArrayList", name := "size", desc := "()I" } : Jvm.MethodName) ({ cls := "java/util/ArrayList", name := "size", desc := "()I" } : Jvm.MethodName)) ∈ lw_all := lw_g (lw_at lw_m4 197 rfl) rfl
theorem q1054 : (Jvm.Cond.code ({ cls := "java/util/ArrayList", name := "size", desc := "()I" } : Jvm.MethodName) prog_23_method_8_code (1 : Nat) (Option.some Jvm.ClassFile.FieldType.int)) ∈ lw_all := lw_g (lw_at lw_m4 198 rfl) rfl
theorem q1056 : (Jvm.Cond.instanceMethod ({ cls := "java/util/ArrayList", name := "get", desc := "(I)Ljava/lang/Object;" } : Jvm.MethodName)) ∈ lw_all := lw_g (lw_at lw_m4 200 rfl) rfl
theorem q1057 : (Jvm.Cond.selects "java/util/ArrayList" ({ cls := "java/util/ArrayList", name := "get", desc := "(I)Ljava/lang/Object;" } : Jvm.MethodName) ({ cls := "java/util/ArrayList", name := "get", desc := "(I)Ljava/lang/Object;" } : Jvm.MethodName)) ∈ lw_all := lw_g (lw_at lw_m4 201 rfl) rfl
theorem q1058 : (Jvm.Cond.code ({ cls := "java/util/ArrayList", name := "get", desc := "(I)Ljava/lang/Object;" } : Jvm.MethodName) prog_23_method_20_code (2 : Nat) (Option.some (Jvm.ClassFile.FieldType.object "java/lang/Object"))) ∈ lw_all := lw_g (lw_at lw_m4 202 rfl) rfl
theorem q1059 : (Jvm.Cond.methodLink "java/util/ArrayList" (118 : Nat) ({ cls := "java/util/Objects", name := "checkIndex", desc := "(II)I" } : Jvm.MethodName)) ∈ lw_all := lw_g (lw_at lw_m4 203 rfl) rfl
theorem q1065 : (Jvm.Cond.methodLink "java/util/ArrayList" (123 : Nat) ({ cls := "java/util/ArrayList", name := "elementData", desc := "(I)Ljava/lang/Object;" } : Jvm.MethodName)) ∈ lw_all := lw_g (lw_at lw_m4 209 rfl) rfl
theorem q1066 : (Jvm.Cond.instanceMethod ({ cls := "java/util/ArrayList", name := "elementData", desc := "(I)Ljava/lang/Object;" } : Jvm.MethodName)) ∈ lw_all := lw_g (lw_at lw_m4 210 rfl) rfl
theorem q1067 : (Jvm.Cond.selects "java/util/ArrayList" ({ cls := "java/util/ArrayList", name := "elementData", desc := "(I)Ljava/lang/Object;" } : Jvm.MethodName) ({ cls := "java/util/ArrayList", name := "elementData", desc := "(I)Ljava/lang/Object;" } : Jvm.MethodName)) ∈ lw_all := lw_g (lw_at lw_m4 211 rfl) rfl
theorem q1068 : (Jvm.Cond.code ({ cls := "java/util/ArrayList", name := "elementData", desc := "(I)Ljava/lang/Object;" } : Jvm.MethodName) prog_23_method_18_code (2 : Nat) (Option.some (Jvm.ClassFile.FieldType.object "java/lang/Object"))) ∈ lw_all := lw_g (lw_at lw_m4 212 rfl) rfl
theorem q1081 : (Jvm.Cond.instanceMethod ({ cls := "java/util/ArrayList", name := "add", desc := "(ILjava/lang/Object;)V" } : Jvm.MethodName)) ∈ lw_all := lw_g (lw_at lw_m4 225 rfl) rfl
theorem q1082 : (Jvm.Cond.selects "java/util/ArrayList" ({ cls := "java/util/ArrayList", name := "add", desc := "(ILjava/lang/Object;)V" } : Jvm.MethodName) ({ cls := "java/util/ArrayList", name := "add", desc := "(ILjava/lang/Object;)V" } : Jvm.MethodName)) ∈ lw_all := lw_g (lw_at lw_m4 226 rfl) rfl
theorem q1083 : (Jvm.Cond.code ({ cls := "java/util/ArrayList", name := "add", desc := "(ILjava/lang/Object;)V" } : Jvm.MethodName) prog_23_method_26_code (5 : Nat) (Option.none : Option Jvm.ClassFile.FieldType)) ∈ lw_all := lw_g (lw_at lw_m4 227 rfl) rfl
theorem q1084 : (Jvm.Cond.methodLink "java/util/ArrayList" (135 : Nat) ({ cls := "java/util/ArrayList", name := "rangeCheckForAdd", desc := "(I)V" } : Jvm.MethodName)) ∈ lw_all := lw_g (lw_at lw_m4 228 rfl) rfl
theorem q1085 : (Jvm.Cond.privateMethod ({ cls := "java/util/ArrayList", name := "rangeCheckForAdd", desc := "(I)V" } : Jvm.MethodName)) ∈ lw_tbl := lw_at lw_m4 229 rfl
theorem q1086 : (Jvm.Cond.instanceMethod ({ cls := "java/util/ArrayList", name := "rangeCheckForAdd", desc := "(I)V" } : Jvm.MethodName)) ∈ lw_all := lw_g (lw_at lw_m4 230 rfl) rfl
theorem q1087 : (Jvm.Cond.code ({ cls := "java/util/ArrayList", name := "rangeCheckForAdd", desc := "(I)V" } : Jvm.MethodName) prog_23_method_45_code (2 : Nat) (Option.none : Option Jvm.ClassFile.FieldType)) ∈ lw_all := lw_g (lw_at lw_m4 231 rfl) rfl
theorem q1114 : (Jvm.Cond.instanceMethod ({ cls := "java/util/ArrayList", name := "remove", desc := "(I)Ljava/lang/Object;" } : Jvm.MethodName)) ∈ lw_all := lw_g (lw_at lw_m5 18 rfl) rfl
theorem q1115 : (Jvm.Cond.selects "java/util/ArrayList" ({ cls := "java/util/ArrayList", name := "remove", desc := "(I)Ljava/lang/Object;" } : Jvm.MethodName) ({ cls := "java/util/ArrayList", name := "remove", desc := "(I)Ljava/lang/Object;" } : Jvm.MethodName)) ∈ lw_all := lw_g (lw_at lw_m5 19 rfl) rfl
theorem q1116 : (Jvm.Cond.code ({ cls := "java/util/ArrayList", name := "remove", desc := "(I)Ljava/lang/Object;" } : Jvm.MethodName) prog_23_method_29_code (4 : Nat) (Option.some (Jvm.ClassFile.FieldType.object "java/lang/Object"))) ∈ lw_all := lw_g (lw_at lw_m5 20 rfl) rfl
theorem q1117 : (Jvm.Cond.methodLink "java/util/ArrayList" (144 : Nat) ({ cls := "java/util/ArrayList", name := "fastRemove", desc := "([Ljava/lang/Object;I)V" } : Jvm.MethodName)) ∈ lw_all := lw_g (lw_at lw_m5 21 rfl) rfl
theorem q1118 : (Jvm.Cond.privateMethod ({ cls := "java/util/ArrayList", name := "fastRemove", desc := "([Ljava/lang/Object;I)V" } : Jvm.MethodName)) ∈ lw_tbl := lw_at lw_m5 22 rfl
theorem q1119 : (Jvm.Cond.instanceMethod ({ cls := "java/util/ArrayList", name := "fastRemove", desc := "([Ljava/lang/Object;I)V" } : Jvm.MethodName)) ∈ lw_all := lw_g (lw_at lw_m5 23 rfl) rfl
theorem q1120 : (Jvm.Cond.code ({ cls := "java/util/ArrayList", name := "fastRemove", desc := "([Ljava/lang/Object;I)V" } : Jvm.MethodName) prog_23_method_39_code (4 : Nat) (Option.none : Option Jvm.ClassFile.FieldType)) ∈ lw_all := lw_g (lw_at lw_m5 24 rfl) rfl
theorem q1215 : (Jvm.Cond.instanceMethod ({ cls := "java/util/ArrayList", name := "set", desc := "(ILjava/lang/Object;)Ljava/lang/Object;" } : Jvm.MethodName)) ∈ lw_all := lw_g (lw_at lw_m5 119 rfl) rfl
theorem q1216 : (Jvm.Cond.selects "java/util/ArrayList" ({ cls := "java/util/ArrayList", name := "set", desc := "(ILjava/lang/Object;)Ljava/lang/Object;" } : Jvm.MethodName) ({ cls := "java/util/ArrayList", name := "set", desc := "(ILjava/lang/Object;)Ljava/lang/Object;" } : Jvm.MethodName)) ∈ lw_all := lw_g (lw_at lw_m5 120 rfl) rfl
theorem q1217 : (Jvm.Cond.code ({ cls := "java/util/ArrayList", name := "set", desc := "(ILjava/lang/Object;)Ljava/lang/Object;" } : Jvm.MethodName) prog_23_method_23_code (4 : Nat) (Option.some (Jvm.ClassFile.FieldType.object "java/lang/Object"))) ∈ lw_all := lw_g (lw_at lw_m5 121 rfl) rfl
theorem q2065 : (Jvm.Cond.castable "java/util/ArrayList" "java/lang/Object") ∈ lw_tbl := lw_at lw_m9 9 rfl
theorem in_J3 : ∀ w ∈ wsJ30, w ∈ lw_all := lw_in wsJ30 [937, 933, 935] (by decide +kernel) (by decide +kernel)
/-! jdk/internal/util/ArraysSupport -/
set_option maxRecDepth 100000
def RJ4 : String := "jdk/internal/util/ArraysSupport"
abbrev cJ4_newLength : ByteArray := prog_30_method_27_code
def yJ4_newLength : MethodName := ⟨RJ4, "newLength", "(III)I"⟩
def dkwJ4_newLength_1 : List UInt8 := [184, 0, 201, 172]
abbrev dktJ4_newLength_1 : List UInt8 := dkwJ4_newLength_1 ++ []
def dkwJ4_newLength_0 : List UInt8 := [26, 27, 28, 184, 0, 194, 96, 62, 3, 29, 162, 0, 11, 29, 18, 200, 163, 0, 5, 29, 172, 26, 27]
abbrev dktJ4_newLength_0 : List UInt8 := dkwJ4_newLength_0 ++ dktJ4_newLength_1
theorem dksJ4_newLength_0 : cJ4_newLength.data.toList.drop 0 = dktJ4_newLength_0 := by decide +kernel
theorem dksJ4_newLength_1 : cJ4_newLength.data.toList.drop 23 = dktJ4_newLength_1 := dk_seg dksJ4_newLength_0 23 rfl rfl
theorem dJ4_newLength_0 : decode cJ4_newLength 0 = .ok (.iload_n 0, 1) := dk_26 (dk_at dksJ4_newLength_0 0 rfl rfl)
theorem dJ4_newLength_1 : decode cJ4_newLength 1 = .ok (.iload_n 1, 1) := dk_27 (dk_at dksJ4_newLength_0 1 rfl rfl)
theorem dJ4_newLength_2 : decode cJ4_newLength 2 = .ok (.iload_n 2, 1) := dk_28 (dk_at dksJ4_newLength_0 2 rfl rfl)
theorem dJ4_newLength_3 : decode cJ4_newLength 3 = .ok (.invokestatic 194, 3) := dk_184 0 194 (dk_at dksJ4_newLength_0 3 rfl rfl)
theorem dJ4_newLength_6 : decode cJ4_newLength 6 = .ok (.iadd, 1) := dk_96 (dk_at dksJ4_newLength_0 6 rfl rfl)
theorem dJ4_newLength_7 : decode cJ4_newLength 7 = .ok (.istore_n 3, 1) := dk_62 (dk_at dksJ4_newLength_0 7 rfl rfl)
theorem dJ4_newLength_8 : decode cJ4_newLength 8 = .ok (.iconst 0, 1) := dk_3 (dk_at dksJ4_newLength_0 8 rfl rfl)
theorem dJ4_newLength_9 : decode cJ4_newLength 9 = .ok (.iload_n 3, 1) := dk_29 (dk_at dksJ4_newLength_0 9 rfl rfl)
theorem dJ4_newLength_10 : decode cJ4_newLength 10 = .ok (.if_icmp .ge 11, 3) := dk_162 0 11 (dk_at dksJ4_newLength_0 10 rfl rfl)
theorem dJ4_newLength_13 : decode cJ4_newLength 13 = .ok (.iload_n 3, 1) := dk_29 (dk_at dksJ4_newLength_0 13 rfl rfl)
theorem dJ4_newLength_14 : decode cJ4_newLength 14 = .ok (.ldc 200, 2) := dk_18 200 (dk_at dksJ4_newLength_0 14 rfl rfl)
theorem dJ4_newLength_16 : decode cJ4_newLength 16 = .ok (.if_icmp .gt 5, 3) := dk_163 0 5 (dk_at dksJ4_newLength_0 16 rfl rfl)
theorem dJ4_newLength_19 : decode cJ4_newLength 19 = .ok (.iload_n 3, 1) := dk_29 (dk_at dksJ4_newLength_0 19 rfl rfl)
theorem dJ4_newLength_20 : decode cJ4_newLength 20 = .ok (.ireturn, 1) := dk_172 (dk_at dksJ4_newLength_0 20 rfl rfl)
theorem dJ4_newLength_21 : decode cJ4_newLength 21 = .ok (.iload_n 0, 1) := dk_26 (dk_at dksJ4_newLength_0 21 rfl rfl)
theorem dJ4_newLength_22 : decode cJ4_newLength 22 = .ok (.iload_n 1, 1) := dk_27 (dk_at dksJ4_newLength_0 22 rfl rfl)
theorem dJ4_newLength_23 : decode cJ4_newLength 23 = .ok (.invokestatic 201, 3) := dk_184 0 201 (dk_at dksJ4_newLength_1 0 rfl rfl)
theorem dJ4_newLength_26 : decode cJ4_newLength 26 = .ok (.ireturn, 1) := dk_172 (dk_at dksJ4_newLength_1 3 rfl rfl)
abbrev cJ4_hugeLength : ByteArray := prog_30_method_28_code
def yJ4_hugeLength : MethodName := ⟨RJ4, "hugeLength", "(II)I"⟩
def dkwJ4_hugeLength_2 : List UInt8 := [191, 28, 18, 200, 163, 0, 6, 18, 200, 172, 28, 172]
abbrev dktJ4_hugeLength_2 : List UInt8 := dkwJ4_hugeLength_2 ++ []
def dkwJ4_hugeLength_1 : List UInt8 := [26, 182, 0, 98, 18, 208, 182, 0, 94, 27, 182, 0, 98, 18, 210, 182, 0, 94, 182, 0, 101, 183, 0, 212]
abbrev dktJ4_hugeLength_1 : List UInt8 := dkwJ4_hugeLength_1 ++ dktJ4_hugeLength_2
def dkwJ4_hugeLength_0 : List UInt8 := [26, 27, 96, 61, 28, 156, 0, 44, 187, 0, 204, 89, 187, 0, 89, 89, 183, 0, 91, 18, 206, 182, 0, 94]
abbrev dktJ4_hugeLength_0 : List UInt8 := dkwJ4_hugeLength_0 ++ dktJ4_hugeLength_1
theorem dksJ4_hugeLength_0 : cJ4_hugeLength.data.toList.drop 0 = dktJ4_hugeLength_0 := by decide +kernel
theorem dksJ4_hugeLength_1 : cJ4_hugeLength.data.toList.drop 24 = dktJ4_hugeLength_1 := dk_seg dksJ4_hugeLength_0 24 rfl rfl
theorem dksJ4_hugeLength_2 : cJ4_hugeLength.data.toList.drop 48 = dktJ4_hugeLength_2 := dk_seg dksJ4_hugeLength_1 24 rfl rfl
theorem dJ4_hugeLength_0 : decode cJ4_hugeLength 0 = .ok (.iload_n 0, 1) := dk_26 (dk_at dksJ4_hugeLength_0 0 rfl rfl)
theorem dJ4_hugeLength_1 : decode cJ4_hugeLength 1 = .ok (.iload_n 1, 1) := dk_27 (dk_at dksJ4_hugeLength_0 1 rfl rfl)
theorem dJ4_hugeLength_2 : decode cJ4_hugeLength 2 = .ok (.iadd, 1) := dk_96 (dk_at dksJ4_hugeLength_0 2 rfl rfl)
theorem dJ4_hugeLength_3 : decode cJ4_hugeLength 3 = .ok (.istore_n 2, 1) := dk_61 (dk_at dksJ4_hugeLength_0 3 rfl rfl)
theorem dJ4_hugeLength_4 : decode cJ4_hugeLength 4 = .ok (.iload_n 2, 1) := dk_28 (dk_at dksJ4_hugeLength_0 4 rfl rfl)
theorem dJ4_hugeLength_5 : decode cJ4_hugeLength 5 = .ok (.ifCond .ge 44, 3) := dk_156 0 44 (dk_at dksJ4_hugeLength_0 5 rfl rfl)
theorem dJ4_hugeLength_8 : decode cJ4_hugeLength 8 = .ok (.new 204, 3) := dk_187 0 204 (dk_at dksJ4_hugeLength_0 8 rfl rfl)
theorem dJ4_hugeLength_11 : decode cJ4_hugeLength 11 = .ok (.dup, 1) := dk_89 (dk_at dksJ4_hugeLength_0 11 rfl rfl)
theorem dJ4_hugeLength_12 : decode cJ4_hugeLength 12 = .ok (.new 89, 3) := dk_187 0 89 (dk_at dksJ4_hugeLength_0 12 rfl rfl)
theorem dJ4_hugeLength_15 : decode cJ4_hugeLength 15 = .ok (.dup, 1) := dk_89 (dk_at dksJ4_hugeLength_0 15 rfl rfl)
theorem dJ4_hugeLength_16 : decode cJ4_hugeLength 16 = .ok (.invokespecial 91, 3) := dk_183 0 91 (dk_at dksJ4_hugeLength_0 16 rfl rfl)
theorem dJ4_hugeLength_19 : decode cJ4_hugeLength 19 = .ok (.ldc 206, 2) := dk_18 206 (dk_at dksJ4_hugeLength_0 19 rfl rfl)
theorem dJ4_hugeLength_21 : decode cJ4_hugeLength 21 = .ok (.invokevirtual 94, 3) := dk_182 0 94 (dk_at dksJ4_hugeLength_0 21 rfl rfl)
theorem dJ4_hugeLength_24 : decode cJ4_hugeLength 24 = .ok (.iload_n 0, 1) := dk_26 (dk_at dksJ4_hugeLength_1 0 rfl rfl)
theorem dJ4_hugeLength_25 : decode cJ4_hugeLength 25 = .ok (.invokevirtual 98, 3) := dk_182 0 98 (dk_at dksJ4_hugeLength_1 1 rfl rfl)
theorem dJ4_hugeLength_28 : decode cJ4_hugeLength 28 = .ok (.ldc 208, 2) := dk_18 208 (dk_at dksJ4_hugeLength_1 4 rfl rfl)
theorem dJ4_hugeLength_30 : decode cJ4_hugeLength 30 = .ok (.invokevirtual 94, 3) := dk_182 0 94 (dk_at dksJ4_hugeLength_1 6 rfl rfl)
theorem dJ4_hugeLength_33 : decode cJ4_hugeLength 33 = .ok (.iload_n 1, 1) := dk_27 (dk_at dksJ4_hugeLength_1 9 rfl rfl)
theorem dJ4_hugeLength_34 : decode cJ4_hugeLength 34 = .ok (.invokevirtual 98, 3) := dk_182 0 98 (dk_at dksJ4_hugeLength_1 10 rfl rfl)
theorem dJ4_hugeLength_37 : decode cJ4_hugeLength 37 = .ok (.ldc 210, 2) := dk_18 210 (dk_at dksJ4_hugeLength_1 13 rfl rfl)
theorem dJ4_hugeLength_39 : decode cJ4_hugeLength 39 = .ok (.invokevirtual 94, 3) := dk_182 0 94 (dk_at dksJ4_hugeLength_1 15 rfl rfl)
theorem dJ4_hugeLength_42 : decode cJ4_hugeLength 42 = .ok (.invokevirtual 101, 3) := dk_182 0 101 (dk_at dksJ4_hugeLength_1 18 rfl rfl)
theorem dJ4_hugeLength_45 : decode cJ4_hugeLength 45 = .ok (.invokespecial 212, 3) := dk_183 0 212 (dk_at dksJ4_hugeLength_1 21 rfl rfl)
theorem dJ4_hugeLength_48 : decode cJ4_hugeLength 48 = .ok (.athrow, 1) := dk_191 (dk_at dksJ4_hugeLength_2 0 rfl rfl)
theorem dJ4_hugeLength_49 : decode cJ4_hugeLength 49 = .ok (.iload_n 2, 1) := dk_28 (dk_at dksJ4_hugeLength_2 1 rfl rfl)
theorem dJ4_hugeLength_50 : decode cJ4_hugeLength 50 = .ok (.ldc 200, 2) := dk_18 200 (dk_at dksJ4_hugeLength_2 2 rfl rfl)
theorem dJ4_hugeLength_52 : decode cJ4_hugeLength 52 = .ok (.if_icmp .gt 6, 3) := dk_163 0 6 (dk_at dksJ4_hugeLength_2 4 rfl rfl)
theorem dJ4_hugeLength_55 : decode cJ4_hugeLength 55 = .ok (.ldc 200, 2) := dk_18 200 (dk_at dksJ4_hugeLength_2 7 rfl rfl)
theorem dJ4_hugeLength_57 : decode cJ4_hugeLength 57 = .ok (.ireturn, 1) := dk_172 (dk_at dksJ4_hugeLength_2 9 rfl rfl)
theorem dJ4_hugeLength_58 : decode cJ4_hugeLength 58 = .ok (.iload_n 2, 1) := dk_28 (dk_at dksJ4_hugeLength_2 10 rfl rfl)
theorem dJ4_hugeLength_59 : decode cJ4_hugeLength 59 = .ok (.ireturn, 1) := dk_172 (dk_at dksJ4_hugeLength_2 11 rfl rfl)
theorem q152 : (Jvm.Cond.initialized "jdk/internal/util/ArraysSupport") ∈ lw_all := lw_g (lw_at lw_m1 16 rfl) rfl
theorem q997 : (Jvm.Cond.static ({ cls := "jdk/internal/util/ArraysSupport", name := "newLength", desc := "(III)I" } : Jvm.MethodName)) ∈ lw_all := lw_g (lw_at lw_m4 141 rfl) rfl
theorem q998 : (Jvm.Cond.code ({ cls := "jdk/internal/util/ArraysSupport", name := "newLength", desc := "(III)I" } : Jvm.MethodName) prog_30_method_27_code (4 : Nat) (Option.some Jvm.ClassFile.FieldType.int)) ∈ lw_all := lw_g (lw_at lw_m4 142 rfl) rfl
theorem q999 : (Jvm.Cond.methodLink "jdk/internal/util/ArraysSupport" (194 : Nat) ({ cls := "java/lang/Math", name := "max", desc := "(II)I" } : Jvm.MethodName)) ∈ lw_all := lw_g (lw_at lw_m4 143 rfl) rfl
theorem q1000 : (Jvm.Cond.constant "jdk/internal/util/ArraysSupport" (200 : Nat) (2147483639 : Int32)) ∈ lw_all := lw_g (lw_at lw_m4 144 rfl) rfl
theorem q1001 : (Jvm.Cond.methodLink "jdk/internal/util/ArraysSupport" (201 : Nat) ({ cls := "jdk/internal/util/ArraysSupport", name := "hugeLength", desc := "(II)I" } : Jvm.MethodName)) ∈ lw_all := lw_g (lw_at lw_m4 145 rfl) rfl
theorem q1002 : (Jvm.Cond.static ({ cls := "jdk/internal/util/ArraysSupport", name := "hugeLength", desc := "(II)I" } : Jvm.MethodName)) ∈ lw_all := lw_g (lw_at lw_m4 146 rfl) rfl
theorem q1003 : (Jvm.Cond.code ({ cls := "jdk/internal/util/ArraysSupport", name := "hugeLength", desc := "(II)I" } : Jvm.MethodName) prog_30_method_28_code (3 : Nat) (Option.some Jvm.ClassFile.FieldType.int)) ∈ lw_all := lw_g (lw_at lw_m4 147 rfl) rfl
/-! java/util/Arrays -/
set_option maxRecDepth 100000
def RJ5 : String := "java/util/Arrays"
abbrev cJ5_copyOf : ByteArray := prog_24_method_119_code
def yJ5_copyOf : MethodName := ⟨RJ5, "copyOf", "([Ljava/lang/Object;I)[Ljava/lang/Object;"⟩
def dkwJ5_copyOf_0 : List UInt8 := [42, 27, 42, 182, 0, 86, 184, 1, 44, 176]
abbrev dktJ5_copyOf_0 : List UInt8 := dkwJ5_copyOf_0 ++ []
theorem dksJ5_copyOf_0 : cJ5_copyOf.data.toList.drop 0 = dktJ5_copyOf_0 := by decide +kernel
theorem dJ5_copyOf_0 : decode cJ5_copyOf 0 = .ok (.aload_n 0, 1) := dk_42 (dk_at dksJ5_copyOf_0 0 rfl rfl)
theorem dJ5_copyOf_1 : decode cJ5_copyOf 1 = .ok (.iload_n 1, 1) := dk_27 (dk_at dksJ5_copyOf_0 1 rfl rfl)
theorem dJ5_copyOf_2 : decode cJ5_copyOf 2 = .ok (.aload_n 0, 1) := dk_42 (dk_at dksJ5_copyOf_0 2 rfl rfl)
theorem dJ5_copyOf_3 : decode cJ5_copyOf 3 = .ok (.invokevirtual 86, 3) := dk_182 0 86 (dk_at dksJ5_copyOf_0 3 rfl rfl)
theorem dJ5_copyOf_6 : decode cJ5_copyOf 6 = .ok (.invokestatic 300, 3) := dk_184 1 44 (dk_at dksJ5_copyOf_0 6 rfl rfl)
theorem dJ5_copyOf_9 : decode cJ5_copyOf 9 = .ok (.areturn, 1) := dk_176 (dk_at dksJ5_copyOf_0 9 rfl rfl)
abbrev cJ5_copyOf_2 : ByteArray := prog_24_method_120_code
def yJ5_copyOf_2 : MethodName := ⟨RJ5, "copyOf", "([Ljava/lang/Object;ILjava/lang/Class;)[Ljava/lang/Object;"⟩
def dkwJ5_copyOf_2_1 : List UInt8 := [78, 42, 3, 45, 3, 42, 190, 27, 184, 1, 48, 184, 0, 150, 45, 176]
abbrev dktJ5_copyOf_2_1 : List UInt8 := dkwJ5_copyOf_2_1 ++ []
def dkwJ5_copyOf_2_0 : List UInt8 := [44, 18, 110, 166, 0, 10, 27, 189, 0, 2, 167, 0, 14, 44, 182, 0, 90, 27, 184, 0, 95, 192, 0, 110]
abbrev dktJ5_copyOf_2_0 : List UInt8 := dkwJ5_copyOf_2_0 ++ dktJ5_copyOf_2_1
theorem dksJ5_copyOf_2_0 : cJ5_copyOf_2.data.toList.drop 0 = dktJ5_copyOf_2_0 := by decide +kernel
theorem dksJ5_copyOf_2_1 : cJ5_copyOf_2.data.toList.drop 24 = dktJ5_copyOf_2_1 := dk_seg dksJ5_copyOf_2_0 24 rfl rfl
theorem dJ5_copyOf_2_0 : decode cJ5_copyOf_2 0 = .ok (.aload_n 2, 1) := dk_44 (dk_at dksJ5_copyOf_2_0 0 rfl rfl)
theorem dJ5_copyOf_2_1 : decode cJ5_copyOf_2 1 = .ok (.ldc 110, 2) := dk_18 110 (dk_at dksJ5_copyOf_2_0 1 rfl rfl)
theorem dJ5_copyOf_2_3 : decode cJ5_copyOf_2 3 = .ok (.if_acmp .ne 10, 3) := dk_166 0 10 (dk_at dksJ5_copyOf_2_0 3 rfl rfl)
theorem dJ5_copyOf_2_6 : decode cJ5_copyOf_2 6 = .ok (.iload_n 1, 1) := dk_27 (dk_at dksJ5_copyOf_2_0 6 rfl rfl)
theorem dJ5_copyOf_2_7 : decode cJ5_copyOf_2 7 = .ok (.anewarray 2, 3) := dk_189 0 2 (dk_at dksJ5_copyOf_2_0 7 rfl rfl)
theorem dJ5_copyOf_2_10 : decode cJ5_copyOf_2 10 = .ok (.goto 14, 3) := dk_167 0 14 (dk_at dksJ5_copyOf_2_0 10 rfl rfl)
theorem dJ5_copyOf_2_13 : decode cJ5_copyOf_2 13 = .ok (.aload_n 2, 1) := dk_44 (dk_at dksJ5_copyOf_2_0 13 rfl rfl)
theorem dJ5_copyOf_2_14 : decode cJ5_copyOf_2 14 = .ok (.invokevirtual 90, 3) := dk_182 0 90 (dk_at dksJ5_copyOf_2_0 14 rfl rfl)
theorem dJ5_copyOf_2_17 : decode cJ5_copyOf_2 17 = .ok (.iload_n 1, 1) := dk_27 (dk_at dksJ5_copyOf_2_0 17 rfl rfl)
theorem dJ5_copyOf_2_18 : decode cJ5_copyOf_2 18 = .ok (.invokestatic 95, 3) := dk_184 0 95 (dk_at dksJ5_copyOf_2_0 18 rfl rfl)
theorem dJ5_copyOf_2_21 : decode cJ5_copyOf_2 21 = .ok (.checkcast 110, 3) := dk_192 0 110 (dk_at dksJ5_copyOf_2_0 21 rfl rfl)
theorem dJ5_copyOf_2_24 : decode cJ5_copyOf_2 24 = .ok (.astore_n 3, 1) := dk_78 (dk_at dksJ5_copyOf_2_1 0 rfl rfl)
theorem dJ5_copyOf_2_25 : decode cJ5_copyOf_2 25 = .ok (.aload_n 0, 1) := dk_42 (dk_at dksJ5_copyOf_2_1 1 rfl rfl)
theorem dJ5_copyOf_2_26 : decode cJ5_copyOf_2 26 = .ok (.iconst 0, 1) := dk_3 (dk_at dksJ5_copyOf_2_1 2 rfl rfl)
theorem dJ5_copyOf_2_27 : decode cJ5_copyOf_2 27 = .ok (.aload_n 3, 1) := dk_45 (dk_at dksJ5_copyOf_2_1 3 rfl rfl)
theorem dJ5_copyOf_2_28 : decode cJ5_copyOf_2 28 = .ok (.iconst 0, 1) := dk_3 (dk_at dksJ5_copyOf_2_1 4 rfl rfl)
theorem dJ5_copyOf_2_29 : decode cJ5_copyOf_2 29 = .ok (.aload_n 0, 1) := dk_42 (dk_at dksJ5_copyOf_2_1 5 rfl rfl)
theorem dJ5_copyOf_2_30 : decode cJ5_copyOf_2 30 = .ok (.arraylength, 1) := dk_190 (dk_at dksJ5_copyOf_2_1 6 rfl rfl)
theorem dJ5_copyOf_2_31 : decode cJ5_copyOf_2 31 = .ok (.iload_n 1, 1) := dk_27 (dk_at dksJ5_copyOf_2_1 7 rfl rfl)
theorem dJ5_copyOf_2_32 : decode cJ5_copyOf_2 32 = .ok (.invokestatic 304, 3) := dk_184 1 48 (dk_at dksJ5_copyOf_2_1 8 rfl rfl)
theorem dJ5_copyOf_2_35 : decode cJ5_copyOf_2 35 = .ok (.invokestatic 150, 3) := dk_184 0 150 (dk_at dksJ5_copyOf_2_1 11 rfl rfl)
theorem dJ5_copyOf_2_38 : decode cJ5_copyOf_2 38 = .ok (.aload_n 3, 1) := dk_45 (dk_at dksJ5_copyOf_2_1 14 rfl rfl)
theorem dJ5_copyOf_2_39 : decode cJ5_copyOf_2 39 = .ok (.areturn, 1) := dk_176 (dk_at dksJ5_copyOf_2_1 15 rfl rfl)
theorem q153 : (Jvm.Cond.initialized "java/util/Arrays") ∈ lw_all := lw_g (lw_at lw_m1 17 rfl) rfl
theorem q1005 : (Jvm.Cond.static ({ cls := "java/util/Arrays", name := "copyOf", desc := "([Ljava/lang/Object;I)[Ljava/lang/Object;" } : Jvm.MethodName)) ∈ lw_all := lw_g (lw_at lw_m4 149 rfl) rfl
theorem q1006 : (Jvm.Cond.code ({ cls := "java/util/Arrays", name := "copyOf", desc := "([Ljava/lang/Object;I)[Ljava/lang/Object;" } : Jvm.MethodName) prog_24_method_119_code (2 : Nat) (Option.some (Jvm.ClassFile.FieldType.array (Jvm.ClassFile.FieldType.object "java/lang/Object")))) ∈ lw_all := lw_g (lw_at lw_m4 150 rfl) rfl
theorem q1007 : (Jvm.Cond.methodLink "java/util/Arrays" (86 : Nat) ({ cls := "java/lang/Object", name := "getClass", desc := "()Ljava/lang/Class;" } : Jvm.MethodName)) ∈ lw_all := lw_g (lw_at lw_m4 151 rfl) rfl
theorem q1024 : (Jvm.Cond.methodLink "java/util/Arrays" (300 : Nat) ({ cls := "java/util/Arrays", name := "copyOf", desc := "([Ljava/lang/Object;ILjava/lang/Class;)[Ljava/lang/Object;" } : Jvm.MethodName)) ∈ lw_all := lw_g (lw_at lw_m4 168 rfl) rfl
theorem q1025 : (Jvm.Cond.static ({ cls := "java/util/Arrays", name := "copyOf", desc := "([Ljava/lang/Object;ILjava/lang/Class;)[Ljava/lang/Object;" } : Jvm.MethodName)) ∈ lw_all := lw_g (lw_at lw_m4 169 rfl) rfl
theorem q1026 : (Jvm.Cond.code ({ cls := "java/util/Arrays", name := "copyOf", desc := "([Ljava/lang/Object;ILjava/lang/Class;)[Ljava/lang/Object;" } : Jvm.MethodName) prog_24_method_120_code (4 : Nat) (Option.some (Jvm.ClassFile.FieldType.array (Jvm.ClassFile.FieldType.object "java/lang/Object")))) ∈ lw_all := lw_g (lw_at lw_m4 170 rfl) rfl
theorem q1027 : (Jvm.Cond.classLink "java/util/Arrays" (110 : Nat) "[Ljava/lang/Object;") ∈ lw_all := lw_g (lw_at lw_m4 171 rfl) rfl
theorem q1029 : (Jvm.Cond.classLink "java/util/Arrays" (2 : Nat) "java/lang/Object") ∈ lw_all := lw_g (lw_at lw_m4 173 rfl) rfl
theorem q1030 : (Jvm.Cond.methodLink "java/util/Arrays" (304 : Nat) ({ cls := "java/lang/Math", name := "min", desc := "(II)I" } : Jvm.MethodName)) ∈ lw_all := lw_g (lw_at lw_m4 174 rfl) rfl
theorem q1031 : (Jvm.Cond.methodLink "java/util/Arrays" (150 : Nat) ({ cls := "java/lang/System", name := "arraycopy", desc := "(Ljava/lang/Object;ILjava/lang/Object;II)V" } : Jvm.MethodName)) ∈ lw_all := lw_g (lw_at lw_m4 175 rfl) rfl
/-! java/util/Objects -/
set_option maxRecDepth 100000
def RJ6 : String := "java/util/Objects"
abbrev cJ6_checkIndex : ByteArray := prog_27_method_17_code
def yJ6_checkIndex : MethodName := ⟨RJ6, "checkIndex", "(II)I"⟩
def dkwJ6_checkIndex_0 : List UInt8 := [26, 27, 1, 184, 0, 105, 172]
abbrev dktJ6_checkIndex_0 : List UInt8 := dkwJ6_checkIndex_0 ++ []
theorem dksJ6_checkIndex_0 : cJ6_checkIndex.data.toList.drop 0 = dktJ6_checkIndex_0 := by decide +kernel
theorem dJ6_checkIndex_0 : decode cJ6_checkIndex 0 = .ok (.iload_n 0, 1) := dk_26 (dk_at dksJ6_checkIndex_0 0 rfl rfl)
theorem dJ6_checkIndex_1 : decode cJ6_checkIndex 1 = .ok (.iload_n 1, 1) := dk_27 (dk_at dksJ6_checkIndex_0 1 rfl rfl)
theorem dJ6_checkIndex_2 : decode cJ6_checkIndex 2 = .ok (.aconst_null, 1) := dk_1 (dk_at dksJ6_checkIndex_0 2 rfl rfl)
theorem dJ6_checkIndex_3 : decode cJ6_checkIndex 3 = .ok (.invokestatic 105, 3) := dk_184 0 105 (dk_at dksJ6_checkIndex_0 3 rfl rfl)
theorem dJ6_checkIndex_6 : decode cJ6_checkIndex 6 = .ok (.ireturn, 1) := dk_172 (dk_at dksJ6_checkIndex_0 6 rfl rfl)
theorem q155 : (Jvm.Cond.initialized "java/util/Objects") ∈ lw_all := lw_g (lw_at lw_m1 19 rfl) rfl
theorem q1060 : (Jvm.Cond.static ({ cls := "java/util/Objects", name := "checkIndex", desc := "(II)I" } : Jvm.MethodName)) ∈ lw_all := lw_g (lw_at lw_m4 204 rfl) rfl
theorem q1061 : (Jvm.Cond.code ({ cls := "java/util/Objects", name := "checkIndex", desc := "(II)I" } : Jvm.MethodName) prog_27_method_17_code (2 : Nat) (Option.some Jvm.ClassFile.FieldType.int)) ∈ lw_all := lw_g (lw_at lw_m4 205 rfl) rfl
theorem q1062 : (Jvm.Cond.methodLink "java/util/Objects" (105 : Nat) ({ cls := "jdk/internal/util/Preconditions", name := "checkIndex", desc := "(IILjava/util/function/BiFunction;)I" } : Jvm.MethodName)) ∈ lw_all := lw_g (lw_at lw_m4 206 rfl) rfl
/-! jdk/internal/util/Preconditions -/
set_option maxRecDepth 100000
def RJ7 : String := "jdk/internal/util/Preconditions"
abbrev cJ7_checkIndex : ByteArray := prog_31_method_11_code
def yJ7_checkIndex : MethodName := ⟨RJ7, "checkIndex", "(IILjava/util/function/BiFunction;)I"⟩
def dkwJ7_checkIndex_0 : List UInt8 := [26, 155, 0, 8, 26, 27, 161, 0, 10, 44, 26, 27, 184, 0, 95, 191, 26, 172]
abbrev dktJ7_checkIndex_0 : List UInt8 := dkwJ7_checkIndex_0 ++ []
theorem dksJ7_checkIndex_0 : cJ7_checkIndex.data.toList.drop 0 = dktJ7_checkIndex_0 := by decide +kernel
theorem dJ7_checkIndex_0 : decode cJ7_checkIndex 0 = .ok (.iload_n 0, 1) := dk_26 (dk_at dksJ7_checkIndex_0 0 rfl rfl)
theorem dJ7_checkIndex_1 : decode cJ7_checkIndex 1 = .ok (.ifCond .lt 8, 3) := dk_155 0 8 (dk_at dksJ7_checkIndex_0 1 rfl rfl)
theorem dJ7_checkIndex_4 : decode cJ7_checkIndex 4 = .ok (.iload_n 0, 1) := dk_26 (dk_at dksJ7_checkIndex_0 4 rfl rfl)
theorem dJ7_checkIndex_5 : decode cJ7_checkIndex 5 = .ok (.iload_n 1, 1) := dk_27 (dk_at dksJ7_checkIndex_0 5 rfl rfl)
theorem dJ7_checkIndex_6 : decode cJ7_checkIndex 6 = .ok (.if_icmp .lt 10, 3) := dk_161 0 10 (dk_at dksJ7_checkIndex_0 6 rfl rfl)
theorem dJ7_checkIndex_9 : decode cJ7_checkIndex 9 = .ok (.aload_n 2, 1) := dk_44 (dk_at dksJ7_checkIndex_0 9 rfl rfl)
theorem dJ7_checkIndex_10 : decode cJ7_checkIndex 10 = .ok (.iload_n 0, 1) := dk_26 (dk_at dksJ7_checkIndex_0 10 rfl rfl)
theorem dJ7_checkIndex_11 : decode cJ7_checkIndex 11 = .ok (.iload_n 1, 1) := dk_27 (dk_at dksJ7_checkIndex_0 11 rfl rfl)
theorem dJ7_checkIndex_12 : decode cJ7_checkIndex 12 = .ok (.invokestatic 95, 3) := dk_184 0 95 (dk_at dksJ7_checkIndex_0 12 rfl rfl)
theorem dJ7_checkIndex_15 : decode cJ7_checkIndex 15 = .ok (.athrow, 1) := dk_191 (dk_at dksJ7_checkIndex_0 15 rfl rfl)
theorem dJ7_checkIndex_16 : decode cJ7_checkIndex 16 = .ok (.iload_n 0, 1) := dk_26 (dk_at dksJ7_checkIndex_0 16 rfl rfl)
theorem dJ7_checkIndex_17 : decode cJ7_checkIndex 17 = .ok (.ireturn, 1) := dk_172 (dk_at dksJ7_checkIndex_0 17 rfl rfl)
theorem q156 : (Jvm.Cond.initialized "jdk/internal/util/Preconditions") ∈ lw_all := lw_g (lw_at lw_m1 20 rfl) rfl
theorem q1063 : (Jvm.Cond.static ({ cls := "jdk/internal/util/Preconditions", name := "checkIndex", desc := "(IILjava/util/function/BiFunction;)I" } : Jvm.MethodName)) ∈ lw_all := lw_g (lw_at lw_m4 207 rfl) rfl
theorem q1064 : (Jvm.Cond.code ({ cls := "jdk/internal/util/Preconditions", name := "checkIndex", desc := "(IILjava/util/function/BiFunction;)I" } : Jvm.MethodName) prog_31_method_11_code (3 : Nat) (Option.some Jvm.ClassFile.FieldType.int)) ∈ lw_all := lw_g (lw_at lw_m4 208 rfl) rfl
/-! java/lang/Object -/
set_option maxRecDepth 100000
def RJ8 : String := "java/lang/Object"
abbrev cJ8_init : ByteArray := object_method_1_code
def yJ8_init : MethodName := ⟨RJ8, "<init>", "()V"⟩
theorem dJ8_init_0 : decode cJ8_init 0 = .ok (.return_, 1) := by decide +kernel
theorem q166 : (Jvm.Cond.instanceMethod ({ cls := "java/lang/Object", name := "<init>", desc := "()V" } : Jvm.MethodName)) ∈ lw_all := lw_g (lw_at lw_m1 30 rfl) rfl
theorem q167 : (Jvm.Cond.code ({ cls := "java/lang/Object", name := "<init>", desc := "()V" } : Jvm.MethodName) object_method_1_code (1 : Nat) (Option.none : Option Jvm.ClassFile.FieldType)) ∈ lw_all := lw_g (lw_at lw_m1 31 rfl) rfl
theorem q1008 : (Jvm.Cond.instanceMethod ({ cls := "java/lang/Object", name := "getClass", desc := "()Ljava/lang/Class;" } : Jvm.MethodName)) ∈ lw_all := lw_g (lw_at lw_m4 152 rfl) rfl
theorem q1009 : (Jvm.Cond.sameMethod "java/lang/Object" "java/lang/Object" "getClass" "()Ljava/lang/Class;") ∈ lw_all := lw_g (lw_at lw_m4 153 rfl) rfl
theorem q1023 : (Jvm.Cond.native ({ cls := "java/lang/Object", name := "getClass", desc := "()Ljava/lang/Class;" } : Jvm.MethodName)) ∈ lw_all := lw_g (lw_at lw_m4 167 rfl) rfl
theorem q2071 : (Jvm.Cond.declares ({ cls := "java/lang/Object", name := "getClass", desc := "()Ljava/lang/Class;" } : Jvm.MethodName)) ∈ lw_tbl := lw_at lw_m9 15 rfl
/-! CellRows$Places -/
set_option maxRecDepth 100000
def RX2 : String := "CellRows$Places"
abbrev cX2_init : ByteArray := prog_11_method_1_code
def yX2_init : MethodName := ⟨RX2, "<init>", "(LCellRows;)V"⟩
def dkwX2_init_0 : List UInt8 := [42, 43, 181, 0, 3, 42, 183, 0, 9, 177]
abbrev dktX2_init_0 : List UInt8 := dkwX2_init_0 ++ []
theorem dksX2_init_0 : cX2_init.data.toList.drop 0 = dktX2_init_0 := by decide +kernel
theorem dX2_init_0 : decode cX2_init 0 = .ok (.aload_n 0, 1) := dk_42 (dk_at dksX2_init_0 0 rfl rfl)
theorem dX2_init_1 : decode cX2_init 1 = .ok (.aload_n 1, 1) := dk_43 (dk_at dksX2_init_0 1 rfl rfl)
theorem dX2_init_2 : decode cX2_init 2 = .ok (.putfield 3, 3) := dk_181 0 3 (dk_at dksX2_init_0 2 rfl rfl)
theorem dX2_init_5 : decode cX2_init 5 = .ok (.aload_n 0, 1) := dk_42 (dk_at dksX2_init_0 5 rfl rfl)
theorem dX2_init_6 : decode cX2_init 6 = .ok (.invokespecial 9, 3) := dk_183 0 9 (dk_at dksX2_init_0 6 rfl rfl)
theorem dX2_init_9 : decode cX2_init 9 = .ok (.return_, 1) := dk_177 (dk_at dksX2_init_0 9 rfl rfl)
abbrev cX2_span : ByteArray := prog_11_method_10_code
def yX2_span : MethodName := ⟨RX2, "span", "(LCellRows$Net;)I"⟩
def dkwX2_span_1 : List UInt8 := [182, 0, 76, 42, 43, 182, 0, 79, 100, 104, 96, 172]
abbrev dktX2_span_1 : List UInt8 := dkwX2_span_1 ++ []
def dkwX2_span_0 : List UInt8 := [42, 43, 182, 0, 66, 42, 43, 182, 0, 70, 100, 42, 180, 0, 3, 180, 0, 73, 7, 46, 42, 43]
abbrev dktX2_span_0 : List UInt8 := dkwX2_span_0 ++ dktX2_span_1
theorem dksX2_span_0 : cX2_span.data.toList.drop 0 = dktX2_span_0 := by decide +kernel
theorem dksX2_span_1 : cX2_span.data.toList.drop 22 = dktX2_span_1 := dk_seg dksX2_span_0 22 rfl rfl
theorem dX2_span_0 : decode cX2_span 0 = .ok (.aload_n 0, 1) := dk_42 (dk_at dksX2_span_0 0 rfl rfl)
theorem dX2_span_1 : decode cX2_span 1 = .ok (.aload_n 1, 1) := dk_43 (dk_at dksX2_span_0 1 rfl rfl)
theorem dX2_span_2 : decode cX2_span 2 = .ok (.invokevirtual 66, 3) := dk_182 0 66 (dk_at dksX2_span_0 2 rfl rfl)
theorem dX2_span_5 : decode cX2_span 5 = .ok (.aload_n 0, 1) := dk_42 (dk_at dksX2_span_0 5 rfl rfl)
theorem dX2_span_6 : decode cX2_span 6 = .ok (.aload_n 1, 1) := dk_43 (dk_at dksX2_span_0 6 rfl rfl)
theorem dX2_span_7 : decode cX2_span 7 = .ok (.invokevirtual 70, 3) := dk_182 0 70 (dk_at dksX2_span_0 7 rfl rfl)
theorem dX2_span_10 : decode cX2_span 10 = .ok (.isub, 1) := dk_100 (dk_at dksX2_span_0 10 rfl rfl)
theorem dX2_span_11 : decode cX2_span 11 = .ok (.aload_n 0, 1) := dk_42 (dk_at dksX2_span_0 11 rfl rfl)
theorem dX2_span_12 : decode cX2_span 12 = .ok (.getfield 3, 3) := dk_180 0 3 (dk_at dksX2_span_0 12 rfl rfl)
theorem dX2_span_15 : decode cX2_span 15 = .ok (.getfield 73, 3) := dk_180 0 73 (dk_at dksX2_span_0 15 rfl rfl)
theorem dX2_span_18 : decode cX2_span 18 = .ok (.iconst 4, 1) := dk_7 (dk_at dksX2_span_0 18 rfl rfl)
theorem dX2_span_19 : decode cX2_span 19 = .ok (.iaload, 1) := dk_46 (dk_at dksX2_span_0 19 rfl rfl)
theorem dX2_span_20 : decode cX2_span 20 = .ok (.aload_n 0, 1) := dk_42 (dk_at dksX2_span_0 20 rfl rfl)
theorem dX2_span_21 : decode cX2_span 21 = .ok (.aload_n 1, 1) := dk_43 (dk_at dksX2_span_0 21 rfl rfl)
theorem dX2_span_22 : decode cX2_span 22 = .ok (.invokevirtual 76, 3) := dk_182 0 76 (dk_at dksX2_span_1 0 rfl rfl)
theorem dX2_span_25 : decode cX2_span 25 = .ok (.aload_n 0, 1) := dk_42 (dk_at dksX2_span_1 3 rfl rfl)
theorem dX2_span_26 : decode cX2_span 26 = .ok (.aload_n 1, 1) := dk_43 (dk_at dksX2_span_1 4 rfl rfl)
theorem dX2_span_27 : decode cX2_span 27 = .ok (.invokevirtual 79, 3) := dk_182 0 79 (dk_at dksX2_span_1 5 rfl rfl)
theorem dX2_span_30 : decode cX2_span 30 = .ok (.isub, 1) := dk_100 (dk_at dksX2_span_1 8 rfl rfl)
theorem dX2_span_31 : decode cX2_span 31 = .ok (.imul, 1) := dk_104 (dk_at dksX2_span_1 9 rfl rfl)
theorem dX2_span_32 : decode cX2_span 32 = .ok (.iadd, 1) := dk_96 (dk_at dksX2_span_1 10 rfl rfl)
theorem dX2_span_33 : decode cX2_span 33 = .ok (.ireturn, 1) := dk_172 (dk_at dksX2_span_1 11 rfl rfl)
abbrev cX2_mostX : ByteArray := prog_11_method_7_code
def yX2_mostX : MethodName := ⟨RX2, "mostX", "(LCellRows$Net;)I"⟩
def dkwX2_mostX_1 : List UInt8 := [132, 3, 1, 167, 255, 234, 28, 172]
abbrev dktX2_mostX_1 : List UInt8 := dkwX2_mostX_1 ++ []
def dkwX2_mostX_0 : List UInt8 := [3, 61, 3, 62, 29, 43, 180, 0, 46, 162, 0, 20, 28, 42, 43, 29, 182, 0, 50, 184, 0, 60, 61]
abbrev dktX2_mostX_0 : List UInt8 := dkwX2_mostX_0 ++ dktX2_mostX_1
theorem dksX2_mostX_0 : cX2_mostX.data.toList.drop 0 = dktX2_mostX_0 := by decide +kernel
theorem dksX2_mostX_1 : cX2_mostX.data.toList.drop 23 = dktX2_mostX_1 := dk_seg dksX2_mostX_0 23 rfl rfl
theorem dX2_mostX_0 : decode cX2_mostX 0 = .ok (.iconst 0, 1) := dk_3 (dk_at dksX2_mostX_0 0 rfl rfl)
theorem dX2_mostX_1 : decode cX2_mostX 1 = .ok (.istore_n 2, 1) := dk_61 (dk_at dksX2_mostX_0 1 rfl rfl)
theorem dX2_mostX_2 : decode cX2_mostX 2 = .ok (.iconst 0, 1) := dk_3 (dk_at dksX2_mostX_0 2 rfl rfl)
theorem dX2_mostX_3 : decode cX2_mostX 3 = .ok (.istore_n 3, 1) := dk_62 (dk_at dksX2_mostX_0 3 rfl rfl)
theorem dX2_mostX_4 : decode cX2_mostX 4 = .ok (.iload_n 3, 1) := dk_29 (dk_at dksX2_mostX_0 4 rfl rfl)
theorem dX2_mostX_5 : decode cX2_mostX 5 = .ok (.aload_n 1, 1) := dk_43 (dk_at dksX2_mostX_0 5 rfl rfl)
theorem dX2_mostX_6 : decode cX2_mostX 6 = .ok (.getfield 46, 3) := dk_180 0 46 (dk_at dksX2_mostX_0 6 rfl rfl)
theorem dX2_mostX_9 : decode cX2_mostX 9 = .ok (.if_icmp .ge 20, 3) := dk_162 0 20 (dk_at dksX2_mostX_0 9 rfl rfl)
theorem dX2_mostX_12 : decode cX2_mostX 12 = .ok (.iload_n 2, 1) := dk_28 (dk_at dksX2_mostX_0 12 rfl rfl)
theorem dX2_mostX_13 : decode cX2_mostX 13 = .ok (.aload_n 0, 1) := dk_42 (dk_at dksX2_mostX_0 13 rfl rfl)
theorem dX2_mostX_14 : decode cX2_mostX 14 = .ok (.aload_n 1, 1) := dk_43 (dk_at dksX2_mostX_0 14 rfl rfl)
theorem dX2_mostX_15 : decode cX2_mostX 15 = .ok (.iload_n 3, 1) := dk_29 (dk_at dksX2_mostX_0 15 rfl rfl)
theorem dX2_mostX_16 : decode cX2_mostX 16 = .ok (.invokevirtual 50, 3) := dk_182 0 50 (dk_at dksX2_mostX_0 16 rfl rfl)
theorem dX2_mostX_19 : decode cX2_mostX 19 = .ok (.invokestatic 60, 3) := dk_184 0 60 (dk_at dksX2_mostX_0 19 rfl rfl)
theorem dX2_mostX_22 : decode cX2_mostX 22 = .ok (.istore_n 2, 1) := dk_61 (dk_at dksX2_mostX_0 22 rfl rfl)
theorem dX2_mostX_23 : decode cX2_mostX 23 = .ok (.iinc 3 1, 3) := dk_132 3 1 (dk_at dksX2_mostX_1 0 rfl rfl)
theorem dX2_mostX_26 : decode cX2_mostX 26 = .ok (.goto (-22), 3) := dk_167 255 234 (dk_at dksX2_mostX_1 3 rfl rfl)
theorem dX2_mostX_29 : decode cX2_mostX 29 = .ok (.iload_n 2, 1) := dk_28 (dk_at dksX2_mostX_1 6 rfl rfl)
theorem dX2_mostX_30 : decode cX2_mostX 30 = .ok (.ireturn, 1) := dk_172 (dk_at dksX2_mostX_1 7 rfl rfl)
abbrev cX2_pinX : ByteArray := prog_11_method_4_code
def yX2_pinX : MethodName := ⟨RX2, "pinX", "(LCellRows$Net;I)I"⟩
def dkwX2_pinX_1 : List UInt8 := [42, 42, 180, 0, 3, 180, 0, 25, 180, 0, 29, 43, 180, 0, 35, 28, 46, 50, 182, 0, 38, 96, 172]
abbrev dktX2_pinX_1 : List UInt8 := dkwX2_pinX_1 ++ []
def dkwX2_pinX_0 : List UInt8 := [16, 8, 16, 16, 43, 180, 0, 15, 28, 46, 104, 96, 43, 28, 182, 0, 21, 153, 0, 7, 3, 167, 0, 24]
abbrev dktX2_pinX_0 : List UInt8 := dkwX2_pinX_0 ++ dktX2_pinX_1
theorem dksX2_pinX_0 : cX2_pinX.data.toList.drop 0 = dktX2_pinX_0 := by decide +kernel
theorem dksX2_pinX_1 : cX2_pinX.data.toList.drop 24 = dktX2_pinX_1 := dk_seg dksX2_pinX_0 24 rfl rfl
theorem dX2_pinX_0 : decode cX2_pinX 0 = .ok (.bipush 8, 2) := dk_16 8 (dk_at dksX2_pinX_0 0 rfl rfl)
theorem dX2_pinX_2 : decode cX2_pinX 2 = .ok (.bipush 16, 2) := dk_16 16 (dk_at dksX2_pinX_0 2 rfl rfl)
theorem dX2_pinX_4 : decode cX2_pinX 4 = .ok (.aload_n 1, 1) := dk_43 (dk_at dksX2_pinX_0 4 rfl rfl)
theorem dX2_pinX_5 : decode cX2_pinX 5 = .ok (.getfield 15, 3) := dk_180 0 15 (dk_at dksX2_pinX_0 5 rfl rfl)
theorem dX2_pinX_8 : decode cX2_pinX 8 = .ok (.iload_n 2, 1) := dk_28 (dk_at dksX2_pinX_0 8 rfl rfl)
theorem dX2_pinX_9 : decode cX2_pinX 9 = .ok (.iaload, 1) := dk_46 (dk_at dksX2_pinX_0 9 rfl rfl)
theorem dX2_pinX_10 : decode cX2_pinX 10 = .ok (.imul, 1) := dk_104 (dk_at dksX2_pinX_0 10 rfl rfl)
theorem dX2_pinX_11 : decode cX2_pinX 11 = .ok (.iadd, 1) := dk_96 (dk_at dksX2_pinX_0 11 rfl rfl)
theorem dX2_pinX_12 : decode cX2_pinX 12 = .ok (.aload_n 1, 1) := dk_43 (dk_at dksX2_pinX_0 12 rfl rfl)
theorem dX2_pinX_13 : decode cX2_pinX 13 = .ok (.iload_n 2, 1) := dk_28 (dk_at dksX2_pinX_0 13 rfl rfl)
theorem dX2_pinX_14 : decode cX2_pinX 14 = .ok (.invokevirtual 21, 3) := dk_182 0 21 (dk_at dksX2_pinX_0 14 rfl rfl)
theorem dX2_pinX_17 : decode cX2_pinX 17 = .ok (.ifCond .eq 7, 3) := dk_153 0 7 (dk_at dksX2_pinX_0 17 rfl rfl)
theorem dX2_pinX_20 : decode cX2_pinX 20 = .ok (.iconst 0, 1) := dk_3 (dk_at dksX2_pinX_0 20 rfl rfl)
theorem dX2_pinX_21 : decode cX2_pinX 21 = .ok (.goto 24, 3) := dk_167 0 24 (dk_at dksX2_pinX_0 21 rfl rfl)
theorem dX2_pinX_24 : decode cX2_pinX 24 = .ok (.aload_n 0, 1) := dk_42 (dk_at dksX2_pinX_1 0 rfl rfl)
theorem dX2_pinX_25 : decode cX2_pinX 25 = .ok (.aload_n 0, 1) := dk_42 (dk_at dksX2_pinX_1 1 rfl rfl)
theorem dX2_pinX_26 : decode cX2_pinX 26 = .ok (.getfield 3, 3) := dk_180 0 3 (dk_at dksX2_pinX_1 2 rfl rfl)
theorem dX2_pinX_29 : decode cX2_pinX 29 = .ok (.getfield 25, 3) := dk_180 0 25 (dk_at dksX2_pinX_1 5 rfl rfl)
theorem dX2_pinX_32 : decode cX2_pinX 32 = .ok (.getfield 29, 3) := dk_180 0 29 (dk_at dksX2_pinX_1 8 rfl rfl)
theorem dX2_pinX_35 : decode cX2_pinX 35 = .ok (.aload_n 1, 1) := dk_43 (dk_at dksX2_pinX_1 11 rfl rfl)
theorem dX2_pinX_36 : decode cX2_pinX 36 = .ok (.getfield 35, 3) := dk_180 0 35 (dk_at dksX2_pinX_1 12 rfl rfl)
theorem dX2_pinX_39 : decode cX2_pinX 39 = .ok (.iload_n 2, 1) := dk_28 (dk_at dksX2_pinX_1 15 rfl rfl)
theorem dX2_pinX_40 : decode cX2_pinX 40 = .ok (.iaload, 1) := dk_46 (dk_at dksX2_pinX_1 16 rfl rfl)
theorem dX2_pinX_41 : decode cX2_pinX 41 = .ok (.aaload, 1) := dk_50 (dk_at dksX2_pinX_1 17 rfl rfl)
theorem dX2_pinX_42 : decode cX2_pinX 42 = .ok (.invokevirtual 38, 3) := dk_182 0 38 (dk_at dksX2_pinX_1 18 rfl rfl)
theorem dX2_pinX_45 : decode cX2_pinX 45 = .ok (.iadd, 1) := dk_96 (dk_at dksX2_pinX_1 21 rfl rfl)
theorem dX2_pinX_46 : decode cX2_pinX 46 = .ok (.ireturn, 1) := dk_172 (dk_at dksX2_pinX_1 22 rfl rfl)
abbrev cX2_leastX : ByteArray := prog_11_method_6_code
def yX2_leastX : MethodName := ⟨RX2, "leastX", "(LCellRows$Net;)I"⟩
def dkwX2_leastX_1 : List UInt8 := [132, 3, 1, 167, 255, 234, 28, 172]
abbrev dktX2_leastX_1 : List UInt8 := dkwX2_leastX_1 ++ []
def dkwX2_leastX_0 : List UInt8 := [18, 45, 61, 3, 62, 29, 43, 180, 0, 46, 162, 0, 20, 28, 42, 43, 29, 182, 0, 50, 184, 0, 54, 61]
abbrev dktX2_leastX_0 : List UInt8 := dkwX2_leastX_0 ++ dktX2_leastX_1
theorem dksX2_leastX_0 : cX2_leastX.data.toList.drop 0 = dktX2_leastX_0 := by decide +kernel
theorem dksX2_leastX_1 : cX2_leastX.data.toList.drop 24 = dktX2_leastX_1 := dk_seg dksX2_leastX_0 24 rfl rfl
theorem dX2_leastX_0 : decode cX2_leastX 0 = .ok (.ldc 45, 2) := dk_18 45 (dk_at dksX2_leastX_0 0 rfl rfl)
theorem dX2_leastX_2 : decode cX2_leastX 2 = .ok (.istore_n 2, 1) := dk_61 (dk_at dksX2_leastX_0 2 rfl rfl)
theorem dX2_leastX_3 : decode cX2_leastX 3 = .ok (.iconst 0, 1) := dk_3 (dk_at dksX2_leastX_0 3 rfl rfl)
theorem dX2_leastX_4 : decode cX2_leastX 4 = .ok (.istore_n 3, 1) := dk_62 (dk_at dksX2_leastX_0 4 rfl rfl)
theorem dX2_leastX_5 : decode cX2_leastX 5 = .ok (.iload_n 3, 1) := dk_29 (dk_at dksX2_leastX_0 5 rfl rfl)
theorem dX2_leastX_6 : decode cX2_leastX 6 = .ok (.aload_n 1, 1) := dk_43 (dk_at dksX2_leastX_0 6 rfl rfl)
theorem dX2_leastX_7 : decode cX2_leastX 7 = .ok (.getfield 46, 3) := dk_180 0 46 (dk_at dksX2_leastX_0 7 rfl rfl)
theorem dX2_leastX_10 : decode cX2_leastX 10 = .ok (.if_icmp .ge 20, 3) := dk_162 0 20 (dk_at dksX2_leastX_0 10 rfl rfl)
theorem dX2_leastX_13 : decode cX2_leastX 13 = .ok (.iload_n 2, 1) := dk_28 (dk_at dksX2_leastX_0 13 rfl rfl)
theorem dX2_leastX_14 : decode cX2_leastX 14 = .ok (.aload_n 0, 1) := dk_42 (dk_at dksX2_leastX_0 14 rfl rfl)
theorem dX2_leastX_15 : decode cX2_leastX 15 = .ok (.aload_n 1, 1) := dk_43 (dk_at dksX2_leastX_0 15 rfl rfl)
theorem dX2_leastX_16 : decode cX2_leastX 16 = .ok (.iload_n 3, 1) := dk_29 (dk_at dksX2_leastX_0 16 rfl rfl)
theorem dX2_leastX_17 : decode cX2_leastX 17 = .ok (.invokevirtual 50, 3) := dk_182 0 50 (dk_at dksX2_leastX_0 17 rfl rfl)
theorem dX2_leastX_20 : decode cX2_leastX 20 = .ok (.invokestatic 54, 3) := dk_184 0 54 (dk_at dksX2_leastX_0 20 rfl rfl)
theorem dX2_leastX_23 : decode cX2_leastX 23 = .ok (.istore_n 2, 1) := dk_61 (dk_at dksX2_leastX_0 23 rfl rfl)
theorem dX2_leastX_24 : decode cX2_leastX 24 = .ok (.iinc 3 1, 3) := dk_132 3 1 (dk_at dksX2_leastX_1 0 rfl rfl)
theorem dX2_leastX_27 : decode cX2_leastX 27 = .ok (.goto (-22), 3) := dk_167 255 234 (dk_at dksX2_leastX_1 3 rfl rfl)
theorem dX2_leastX_30 : decode cX2_leastX 30 = .ok (.iload_n 2, 1) := dk_28 (dk_at dksX2_leastX_1 6 rfl rfl)
theorem dX2_leastX_31 : decode cX2_leastX 31 = .ok (.ireturn, 1) := dk_172 (dk_at dksX2_leastX_1 7 rfl rfl)
abbrev cX2_mostY : ByteArray := prog_11_method_9_code
def yX2_mostY : MethodName := ⟨RX2, "mostY", "(LCellRows$Net;)I"⟩
def dkwX2_mostY_1 : List UInt8 := [132, 3, 1, 167, 255, 234, 28, 172]
abbrev dktX2_mostY_1 : List UInt8 := dkwX2_mostY_1 ++ []
def dkwX2_mostY_0 : List UInt8 := [3, 61, 3, 62, 29, 43, 180, 0, 46, 162, 0, 20, 28, 42, 43, 29, 182, 0, 63, 184, 0, 60, 61]
abbrev dktX2_mostY_0 : List UInt8 := dkwX2_mostY_0 ++ dktX2_mostY_1
theorem dksX2_mostY_0 : cX2_mostY.data.toList.drop 0 = dktX2_mostY_0 := by decide +kernel
theorem dksX2_mostY_1 : cX2_mostY.data.toList.drop 23 = dktX2_mostY_1 := dk_seg dksX2_mostY_0 23 rfl rfl
theorem dX2_mostY_0 : decode cX2_mostY 0 = .ok (.iconst 0, 1) := dk_3 (dk_at dksX2_mostY_0 0 rfl rfl)
theorem dX2_mostY_1 : decode cX2_mostY 1 = .ok (.istore_n 2, 1) := dk_61 (dk_at dksX2_mostY_0 1 rfl rfl)
theorem dX2_mostY_2 : decode cX2_mostY 2 = .ok (.iconst 0, 1) := dk_3 (dk_at dksX2_mostY_0 2 rfl rfl)
theorem dX2_mostY_3 : decode cX2_mostY 3 = .ok (.istore_n 3, 1) := dk_62 (dk_at dksX2_mostY_0 3 rfl rfl)
theorem dX2_mostY_4 : decode cX2_mostY 4 = .ok (.iload_n 3, 1) := dk_29 (dk_at dksX2_mostY_0 4 rfl rfl)
theorem dX2_mostY_5 : decode cX2_mostY 5 = .ok (.aload_n 1, 1) := dk_43 (dk_at dksX2_mostY_0 5 rfl rfl)
theorem dX2_mostY_6 : decode cX2_mostY 6 = .ok (.getfield 46, 3) := dk_180 0 46 (dk_at dksX2_mostY_0 6 rfl rfl)
theorem dX2_mostY_9 : decode cX2_mostY 9 = .ok (.if_icmp .ge 20, 3) := dk_162 0 20 (dk_at dksX2_mostY_0 9 rfl rfl)
theorem dX2_mostY_12 : decode cX2_mostY 12 = .ok (.iload_n 2, 1) := dk_28 (dk_at dksX2_mostY_0 12 rfl rfl)
theorem dX2_mostY_13 : decode cX2_mostY 13 = .ok (.aload_n 0, 1) := dk_42 (dk_at dksX2_mostY_0 13 rfl rfl)
theorem dX2_mostY_14 : decode cX2_mostY 14 = .ok (.aload_n 1, 1) := dk_43 (dk_at dksX2_mostY_0 14 rfl rfl)
theorem dX2_mostY_15 : decode cX2_mostY 15 = .ok (.iload_n 3, 1) := dk_29 (dk_at dksX2_mostY_0 15 rfl rfl)
theorem dX2_mostY_16 : decode cX2_mostY 16 = .ok (.invokevirtual 63, 3) := dk_182 0 63 (dk_at dksX2_mostY_0 16 rfl rfl)
theorem dX2_mostY_19 : decode cX2_mostY 19 = .ok (.invokestatic 60, 3) := dk_184 0 60 (dk_at dksX2_mostY_0 19 rfl rfl)
theorem dX2_mostY_22 : decode cX2_mostY 22 = .ok (.istore_n 2, 1) := dk_61 (dk_at dksX2_mostY_0 22 rfl rfl)
theorem dX2_mostY_23 : decode cX2_mostY 23 = .ok (.iinc 3 1, 3) := dk_132 3 1 (dk_at dksX2_mostY_1 0 rfl rfl)
theorem dX2_mostY_26 : decode cX2_mostY 26 = .ok (.goto (-22), 3) := dk_167 255 234 (dk_at dksX2_mostY_1 3 rfl rfl)
theorem dX2_mostY_29 : decode cX2_mostY 29 = .ok (.iload_n 2, 1) := dk_28 (dk_at dksX2_mostY_1 6 rfl rfl)
theorem dX2_mostY_30 : decode cX2_mostY 30 = .ok (.ireturn, 1) := dk_172 (dk_at dksX2_mostY_1 7 rfl rfl)
abbrev cX2_pinY : ByteArray := prog_11_method_5_code
def yX2_pinY : MethodName := ⟨RX2, "pinY", "(LCellRows$Net;I)I"⟩
def dkwX2_pinY_2 : List UInt8 := [96, 172]
abbrev dktX2_pinY_2 : List UInt8 := dkwX2_pinY_2 ++ []
def dkwX2_pinY_1 : List UInt8 := [167, 0, 24, 42, 42, 180, 0, 3, 180, 0, 25, 180, 0, 29, 43, 180, 0, 35, 28, 46, 50, 182, 0, 42]
abbrev dktX2_pinY_1 : List UInt8 := dkwX2_pinY_1 ++ dktX2_pinY_2
def dkwX2_pinY_0 : List UInt8 := [16, 8, 43, 28, 182, 0, 21, 153, 0, 19, 16, 16, 43, 180, 0, 35, 28, 46, 17, 0, 200, 100, 104]
abbrev dktX2_pinY_0 : List UInt8 := dkwX2_pinY_0 ++ dktX2_pinY_1
theorem dksX2_pinY_0 : cX2_pinY.data.toList.drop 0 = dktX2_pinY_0 := by decide +kernel
theorem dksX2_pinY_1 : cX2_pinY.data.toList.drop 23 = dktX2_pinY_1 := dk_seg dksX2_pinY_0 23 rfl rfl
theorem dksX2_pinY_2 : cX2_pinY.data.toList.drop 47 = dktX2_pinY_2 := dk_seg dksX2_pinY_1 24 rfl rfl
theorem dX2_pinY_0 : decode cX2_pinY 0 = .ok (.bipush 8, 2) := dk_16 8 (dk_at dksX2_pinY_0 0 rfl rfl)
theorem dX2_pinY_2 : decode cX2_pinY 2 = .ok (.aload_n 1, 1) := dk_43 (dk_at dksX2_pinY_0 2 rfl rfl)
theorem dX2_pinY_3 : decode cX2_pinY 3 = .ok (.iload_n 2, 1) := dk_28 (dk_at dksX2_pinY_0 3 rfl rfl)
theorem dX2_pinY_4 : decode cX2_pinY 4 = .ok (.invokevirtual 21, 3) := dk_182 0 21 (dk_at dksX2_pinY_0 4 rfl rfl)
theorem dX2_pinY_7 : decode cX2_pinY 7 = .ok (.ifCond .eq 19, 3) := dk_153 0 19 (dk_at dksX2_pinY_0 7 rfl rfl)
theorem dX2_pinY_10 : decode cX2_pinY 10 = .ok (.bipush 16, 2) := dk_16 16 (dk_at dksX2_pinY_0 10 rfl rfl)
theorem dX2_pinY_12 : decode cX2_pinY 12 = .ok (.aload_n 1, 1) := dk_43 (dk_at dksX2_pinY_0 12 rfl rfl)
theorem dX2_pinY_13 : decode cX2_pinY 13 = .ok (.getfield 35, 3) := dk_180 0 35 (dk_at dksX2_pinY_0 13 rfl rfl)
theorem dX2_pinY_16 : decode cX2_pinY 16 = .ok (.iload_n 2, 1) := dk_28 (dk_at dksX2_pinY_0 16 rfl rfl)
theorem dX2_pinY_17 : decode cX2_pinY 17 = .ok (.iaload, 1) := dk_46 (dk_at dksX2_pinY_0 17 rfl rfl)
theorem dX2_pinY_18 : decode cX2_pinY 18 = .ok (.sipush 200, 3) := dk_17 0 200 (dk_at dksX2_pinY_0 18 rfl rfl)
theorem dX2_pinY_21 : decode cX2_pinY 21 = .ok (.isub, 1) := dk_100 (dk_at dksX2_pinY_0 21 rfl rfl)
theorem dX2_pinY_22 : decode cX2_pinY 22 = .ok (.imul, 1) := dk_104 (dk_at dksX2_pinY_0 22 rfl rfl)
theorem dX2_pinY_23 : decode cX2_pinY 23 = .ok (.goto 24, 3) := dk_167 0 24 (dk_at dksX2_pinY_1 0 rfl rfl)
theorem dX2_pinY_26 : decode cX2_pinY 26 = .ok (.aload_n 0, 1) := dk_42 (dk_at dksX2_pinY_1 3 rfl rfl)
theorem dX2_pinY_27 : decode cX2_pinY 27 = .ok (.aload_n 0, 1) := dk_42 (dk_at dksX2_pinY_1 4 rfl rfl)
theorem dX2_pinY_28 : decode cX2_pinY 28 = .ok (.getfield 3, 3) := dk_180 0 3 (dk_at dksX2_pinY_1 5 rfl rfl)
theorem dX2_pinY_31 : decode cX2_pinY 31 = .ok (.getfield 25, 3) := dk_180 0 25 (dk_at dksX2_pinY_1 8 rfl rfl)
theorem dX2_pinY_34 : decode cX2_pinY 34 = .ok (.getfield 29, 3) := dk_180 0 29 (dk_at dksX2_pinY_1 11 rfl rfl)
theorem dX2_pinY_37 : decode cX2_pinY 37 = .ok (.aload_n 1, 1) := dk_43 (dk_at dksX2_pinY_1 14 rfl rfl)
theorem dX2_pinY_38 : decode cX2_pinY 38 = .ok (.getfield 35, 3) := dk_180 0 35 (dk_at dksX2_pinY_1 15 rfl rfl)
theorem dX2_pinY_41 : decode cX2_pinY 41 = .ok (.iload_n 2, 1) := dk_28 (dk_at dksX2_pinY_1 18 rfl rfl)
theorem dX2_pinY_42 : decode cX2_pinY 42 = .ok (.iaload, 1) := dk_46 (dk_at dksX2_pinY_1 19 rfl rfl)
theorem dX2_pinY_43 : decode cX2_pinY 43 = .ok (.aaload, 1) := dk_50 (dk_at dksX2_pinY_1 20 rfl rfl)
theorem dX2_pinY_44 : decode cX2_pinY 44 = .ok (.invokevirtual 42, 3) := dk_182 0 42 (dk_at dksX2_pinY_1 21 rfl rfl)
theorem dX2_pinY_47 : decode cX2_pinY 47 = .ok (.iadd, 1) := dk_96 (dk_at dksX2_pinY_2 0 rfl rfl)
theorem dX2_pinY_48 : decode cX2_pinY 48 = .ok (.ireturn, 1) := dk_172 (dk_at dksX2_pinY_2 1 rfl rfl)
abbrev cX2_leastY : ByteArray := prog_11_method_8_code
def yX2_leastY : MethodName := ⟨RX2, "leastY", "(LCellRows$Net;)I"⟩
def dkwX2_leastY_1 : List UInt8 := [132, 3, 1, 167, 255, 234, 28, 172]
abbrev dktX2_leastY_1 : List UInt8 := dkwX2_leastY_1 ++ []
def dkwX2_leastY_0 : List UInt8 := [18, 45, 61, 3, 62, 29, 43, 180, 0, 46, 162, 0, 20, 28, 42, 43, 29, 182, 0, 63, 184, 0, 54, 61]
abbrev dktX2_leastY_0 : List UInt8 := dkwX2_leastY_0 ++ dktX2_leastY_1
theorem dksX2_leastY_0 : cX2_leastY.data.toList.drop 0 = dktX2_leastY_0 := by decide +kernel
theorem dksX2_leastY_1 : cX2_leastY.data.toList.drop 24 = dktX2_leastY_1 := dk_seg dksX2_leastY_0 24 rfl rfl
theorem dX2_leastY_0 : decode cX2_leastY 0 = .ok (.ldc 45, 2) := dk_18 45 (dk_at dksX2_leastY_0 0 rfl rfl)
theorem dX2_leastY_2 : decode cX2_leastY 2 = .ok (.istore_n 2, 1) := dk_61 (dk_at dksX2_leastY_0 2 rfl rfl)
theorem dX2_leastY_3 : decode cX2_leastY 3 = .ok (.iconst 0, 1) := dk_3 (dk_at dksX2_leastY_0 3 rfl rfl)
theorem dX2_leastY_4 : decode cX2_leastY 4 = .ok (.istore_n 3, 1) := dk_62 (dk_at dksX2_leastY_0 4 rfl rfl)
theorem dX2_leastY_5 : decode cX2_leastY 5 = .ok (.iload_n 3, 1) := dk_29 (dk_at dksX2_leastY_0 5 rfl rfl)
theorem dX2_leastY_6 : decode cX2_leastY 6 = .ok (.aload_n 1, 1) := dk_43 (dk_at dksX2_leastY_0 6 rfl rfl)
theorem dX2_leastY_7 : decode cX2_leastY 7 = .ok (.getfield 46, 3) := dk_180 0 46 (dk_at dksX2_leastY_0 7 rfl rfl)
theorem dX2_leastY_10 : decode cX2_leastY 10 = .ok (.if_icmp .ge 20, 3) := dk_162 0 20 (dk_at dksX2_leastY_0 10 rfl rfl)
theorem dX2_leastY_13 : decode cX2_leastY 13 = .ok (.iload_n 2, 1) := dk_28 (dk_at dksX2_leastY_0 13 rfl rfl)
theorem dX2_leastY_14 : decode cX2_leastY 14 = .ok (.aload_n 0, 1) := dk_42 (dk_at dksX2_leastY_0 14 rfl rfl)
theorem dX2_leastY_15 : decode cX2_leastY 15 = .ok (.aload_n 1, 1) := dk_43 (dk_at dksX2_leastY_0 15 rfl rfl)
theorem dX2_leastY_16 : decode cX2_leastY 16 = .ok (.iload_n 3, 1) := dk_29 (dk_at dksX2_leastY_0 16 rfl rfl)
theorem dX2_leastY_17 : decode cX2_leastY 17 = .ok (.invokevirtual 63, 3) := dk_182 0 63 (dk_at dksX2_leastY_0 17 rfl rfl)
theorem dX2_leastY_20 : decode cX2_leastY 20 = .ok (.invokestatic 54, 3) := dk_184 0 54 (dk_at dksX2_leastY_0 20 rfl rfl)
theorem dX2_leastY_23 : decode cX2_leastY 23 = .ok (.istore_n 2, 1) := dk_61 (dk_at dksX2_leastY_0 23 rfl rfl)
theorem dX2_leastY_24 : decode cX2_leastY 24 = .ok (.iinc 3 1, 3) := dk_132 3 1 (dk_at dksX2_leastY_1 0 rfl rfl)
theorem dX2_leastY_27 : decode cX2_leastY 27 = .ok (.goto (-22), 3) := dk_167 255 234 (dk_at dksX2_leastY_1 3 rfl rfl)
theorem dX2_leastY_30 : decode cX2_leastY 30 = .ok (.iload_n 2, 1) := dk_28 (dk_at dksX2_leastY_1 6 rfl rfl)
theorem dX2_leastY_31 : decode cX2_leastY 31 = .ok (.ireturn, 1) := dk_172 (dk_at dksX2_leastY_1 7 rfl rfl)
abbrev cX2_smooth : ByteArray := prog_11_method_12_code
def yX2_smooth : MethodName := ⟨RX2, "smooth", "(LCellRows$Net;)I"⟩
def dkwX2_smooth_3 : List UInt8 := [28, 42, 180, 0, 3, 180, 0, 73, 7, 46, 29, 104, 96, 172]
abbrev dktX2_smooth_3 : List UInt8 := dkwX2_smooth_3 ++ []
def dkwX2_smooth_2 : List UInt8 := [3, 182, 0, 86, 100, 42, 43, 182, 0, 79, 100, 42, 43, 42, 43, 182, 0, 79, 3, 182, 0, 86, 100, 62]
abbrev dktX2_smooth_2 : List UInt8 := dkwX2_smooth_2 ++ dktX2_smooth_3
def dkwX2_smooth_1 : List UInt8 := [43, 42, 43, 182, 0, 70, 4, 182, 0, 86, 100, 61, 42, 43, 182, 0, 76, 42, 43, 42, 43, 182, 0, 76]
abbrev dktX2_smooth_1 : List UInt8 := dkwX2_smooth_1 ++ dktX2_smooth_2
def dkwX2_smooth_0 : List UInt8 := [42, 43, 182, 0, 66, 42, 43, 42, 43, 182, 0, 66, 4, 182, 0, 86, 100, 42, 43, 182, 0, 70, 100, 42]
abbrev dktX2_smooth_0 : List UInt8 := dkwX2_smooth_0 ++ dktX2_smooth_1
theorem dksX2_smooth_0 : cX2_smooth.data.toList.drop 0 = dktX2_smooth_0 := by decide +kernel
theorem dksX2_smooth_1 : cX2_smooth.data.toList.drop 24 = dktX2_smooth_1 := dk_seg dksX2_smooth_0 24 rfl rfl
theorem dksX2_smooth_2 : cX2_smooth.data.toList.drop 48 = dktX2_smooth_2 := dk_seg dksX2_smooth_1 24 rfl rfl
theorem dksX2_smooth_3 : cX2_smooth.data.toList.drop 72 = dktX2_smooth_3 := dk_seg dksX2_smooth_2 24 rfl rfl
theorem dX2_smooth_0 : decode cX2_smooth 0 = .ok (.aload_n 0, 1) := dk_42 (dk_at dksX2_smooth_0 0 rfl rfl)
theorem dX2_smooth_1 : decode cX2_smooth 1 = .ok (.aload_n 1, 1) := dk_43 (dk_at dksX2_smooth_0 1 rfl rfl)
theorem dX2_smooth_2 : decode cX2_smooth 2 = .ok (.invokevirtual 66, 3) := dk_182 0 66 (dk_at dksX2_smooth_0 2 rfl rfl)
theorem dX2_smooth_5 : decode cX2_smooth 5 = .ok (.aload_n 0, 1) := dk_42 (dk_at dksX2_smooth_0 5 rfl rfl)
theorem dX2_smooth_6 : decode cX2_smooth 6 = .ok (.aload_n 1, 1) := dk_43 (dk_at dksX2_smooth_0 6 rfl rfl)
theorem dX2_smooth_7 : decode cX2_smooth 7 = .ok (.aload_n 0, 1) := dk_42 (dk_at dksX2_smooth_0 7 rfl rfl)
theorem dX2_smooth_8 : decode cX2_smooth 8 = .ok (.aload_n 1, 1) := dk_43 (dk_at dksX2_smooth_0 8 rfl rfl)
theorem dX2_smooth_9 : decode cX2_smooth 9 = .ok (.invokevirtual 66, 3) := dk_182 0 66 (dk_at dksX2_smooth_0 9 rfl rfl)
theorem dX2_smooth_12 : decode cX2_smooth 12 = .ok (.iconst 1, 1) := dk_4 (dk_at dksX2_smooth_0 12 rfl rfl)
theorem dX2_smooth_13 : decode cX2_smooth 13 = .ok (.invokevirtual 86, 3) := dk_182 0 86 (dk_at dksX2_smooth_0 13 rfl rfl)
theorem dX2_smooth_16 : decode cX2_smooth 16 = .ok (.isub, 1) := dk_100 (dk_at dksX2_smooth_0 16 rfl rfl)
theorem dX2_smooth_17 : decode cX2_smooth 17 = .ok (.aload_n 0, 1) := dk_42 (dk_at dksX2_smooth_0 17 rfl rfl)
theorem dX2_smooth_18 : decode cX2_smooth 18 = .ok (.aload_n 1, 1) := dk_43 (dk_at dksX2_smooth_0 18 rfl rfl)
theorem dX2_smooth_19 : decode cX2_smooth 19 = .ok (.invokevirtual 70, 3) := dk_182 0 70 (dk_at dksX2_smooth_0 19 rfl rfl)
theorem dX2_smooth_22 : decode cX2_smooth 22 = .ok (.isub, 1) := dk_100 (dk_at dksX2_smooth_0 22 rfl rfl)
theorem dX2_smooth_23 : decode cX2_smooth 23 = .ok (.aload_n 0, 1) := dk_42 (dk_at dksX2_smooth_0 23 rfl rfl)
theorem dX2_smooth_24 : decode cX2_smooth 24 = .ok (.aload_n 1, 1) := dk_43 (dk_at dksX2_smooth_1 0 rfl rfl)
theorem dX2_smooth_25 : decode cX2_smooth 25 = .ok (.aload_n 0, 1) := dk_42 (dk_at dksX2_smooth_1 1 rfl rfl)
theorem dX2_smooth_26 : decode cX2_smooth 26 = .ok (.aload_n 1, 1) := dk_43 (dk_at dksX2_smooth_1 2 rfl rfl)
theorem dX2_smooth_27 : decode cX2_smooth 27 = .ok (.invokevirtual 70, 3) := dk_182 0 70 (dk_at dksX2_smooth_1 3 rfl rfl)
theorem dX2_smooth_30 : decode cX2_smooth 30 = .ok (.iconst 1, 1) := dk_4 (dk_at dksX2_smooth_1 6 rfl rfl)
theorem dX2_smooth_31 : decode cX2_smooth 31 = .ok (.invokevirtual 86, 3) := dk_182 0 86 (dk_at dksX2_smooth_1 7 rfl rfl)
theorem dX2_smooth_34 : decode cX2_smooth 34 = .ok (.isub, 1) := dk_100 (dk_at dksX2_smooth_1 10 rfl rfl)
theorem dX2_smooth_35 : decode cX2_smooth 35 = .ok (.istore_n 2, 1) := dk_61 (dk_at dksX2_smooth_1 11 rfl rfl)
theorem dX2_smooth_36 : decode cX2_smooth 36 = .ok (.aload_n 0, 1) := dk_42 (dk_at dksX2_smooth_1 12 rfl rfl)
theorem dX2_smooth_37 : decode cX2_smooth 37 = .ok (.aload_n 1, 1) := dk_43 (dk_at dksX2_smooth_1 13 rfl rfl)
theorem dX2_smooth_38 : decode cX2_smooth 38 = .ok (.invokevirtual 76, 3) := dk_182 0 76 (dk_at dksX2_smooth_1 14 rfl rfl)
theorem dX2_smooth_41 : decode cX2_smooth 41 = .ok (.aload_n 0, 1) := dk_42 (dk_at dksX2_smooth_1 17 rfl rfl)
theorem dX2_smooth_42 : decode cX2_smooth 42 = .ok (.aload_n 1, 1) := dk_43 (dk_at dksX2_smooth_1 18 rfl rfl)
theorem dX2_smooth_43 : decode cX2_smooth 43 = .ok (.aload_n 0, 1) := dk_42 (dk_at dksX2_smooth_1 19 rfl rfl)
theorem dX2_smooth_44 : decode cX2_smooth 44 = .ok (.aload_n 1, 1) := dk_43 (dk_at dksX2_smooth_1 20 rfl rfl)
theorem dX2_smooth_45 : decode cX2_smooth 45 = .ok (.invokevirtual 76, 3) := dk_182 0 76 (dk_at dksX2_smooth_1 21 rfl rfl)
theorem dX2_smooth_48 : decode cX2_smooth 48 = .ok (.iconst 0, 1) := dk_3 (dk_at dksX2_smooth_2 0 rfl rfl)
theorem dX2_smooth_49 : decode cX2_smooth 49 = .ok (.invokevirtual 86, 3) := dk_182 0 86 (dk_at dksX2_smooth_2 1 rfl rfl)
theorem dX2_smooth_52 : decode cX2_smooth 52 = .ok (.isub, 1) := dk_100 (dk_at dksX2_smooth_2 4 rfl rfl)
theorem dX2_smooth_53 : decode cX2_smooth 53 = .ok (.aload_n 0, 1) := dk_42 (dk_at dksX2_smooth_2 5 rfl rfl)
theorem dX2_smooth_54 : decode cX2_smooth 54 = .ok (.aload_n 1, 1) := dk_43 (dk_at dksX2_smooth_2 6 rfl rfl)
theorem dX2_smooth_55 : decode cX2_smooth 55 = .ok (.invokevirtual 79, 3) := dk_182 0 79 (dk_at dksX2_smooth_2 7 rfl rfl)
theorem dX2_smooth_58 : decode cX2_smooth 58 = .ok (.isub, 1) := dk_100 (dk_at dksX2_smooth_2 10 rfl rfl)
theorem dX2_smooth_59 : decode cX2_smooth 59 = .ok (.aload_n 0, 1) := dk_42 (dk_at dksX2_smooth_2 11 rfl rfl)
theorem dX2_smooth_60 : decode cX2_smooth 60 = .ok (.aload_n 1, 1) := dk_43 (dk_at dksX2_smooth_2 12 rfl rfl)
theorem dX2_smooth_61 : decode cX2_smooth 61 = .ok (.aload_n 0, 1) := dk_42 (dk_at dksX2_smooth_2 13 rfl rfl)
theorem dX2_smooth_62 : decode cX2_smooth 62 = .ok (.aload_n 1, 1) := dk_43 (dk_at dksX2_smooth_2 14 rfl rfl)
theorem dX2_smooth_63 : decode cX2_smooth 63 = .ok (.invokevirtual 79, 3) := dk_182 0 79 (dk_at dksX2_smooth_2 15 rfl rfl)
theorem dX2_smooth_66 : decode cX2_smooth 66 = .ok (.iconst 0, 1) := dk_3 (dk_at dksX2_smooth_2 18 rfl rfl)
theorem dX2_smooth_67 : decode cX2_smooth 67 = .ok (.invokevirtual 86, 3) := dk_182 0 86 (dk_at dksX2_smooth_2 19 rfl rfl)
theorem dX2_smooth_70 : decode cX2_smooth 70 = .ok (.isub, 1) := dk_100 (dk_at dksX2_smooth_2 22 rfl rfl)
theorem dX2_smooth_71 : decode cX2_smooth 71 = .ok (.istore_n 3, 1) := dk_62 (dk_at dksX2_smooth_2 23 rfl rfl)
theorem dX2_smooth_72 : decode cX2_smooth 72 = .ok (.iload_n 2, 1) := dk_28 (dk_at dksX2_smooth_3 0 rfl rfl)
theorem dX2_smooth_73 : decode cX2_smooth 73 = .ok (.aload_n 0, 1) := dk_42 (dk_at dksX2_smooth_3 1 rfl rfl)
theorem dX2_smooth_74 : decode cX2_smooth 74 = .ok (.getfield 3, 3) := dk_180 0 3 (dk_at dksX2_smooth_3 2 rfl rfl)
theorem dX2_smooth_77 : decode cX2_smooth 77 = .ok (.getfield 73, 3) := dk_180 0 73 (dk_at dksX2_smooth_3 5 rfl rfl)
theorem dX2_smooth_80 : decode cX2_smooth 80 = .ok (.iconst 4, 1) := dk_7 (dk_at dksX2_smooth_3 8 rfl rfl)
theorem dX2_smooth_81 : decode cX2_smooth 81 = .ok (.iaload, 1) := dk_46 (dk_at dksX2_smooth_3 9 rfl rfl)
theorem dX2_smooth_82 : decode cX2_smooth 82 = .ok (.iload_n 3, 1) := dk_29 (dk_at dksX2_smooth_3 10 rfl rfl)
theorem dX2_smooth_83 : decode cX2_smooth 83 = .ok (.imul, 1) := dk_104 (dk_at dksX2_smooth_3 11 rfl rfl)
theorem dX2_smooth_84 : decode cX2_smooth 84 = .ok (.iadd, 1) := dk_96 (dk_at dksX2_smooth_3 12 rfl rfl)
theorem dX2_smooth_85 : decode cX2_smooth 85 = .ok (.ireturn, 1) := dk_172 (dk_at dksX2_smooth_3 13 rfl rfl)
abbrev cX2_meanFar : ByteArray := prog_11_method_11_code
def yX2_meanFar : MethodName := ⟨RX2, "meanFar", "(LCellRows$Net;IZ)I"⟩
def dkwX2_meanFar_4 : List UInt8 := [21, 5, 21, 8, 96, 54, 5, 132, 6, 1, 167, 255, 160, 21, 4, 21, 5, 108, 172]
abbrev dktX2_meanFar_4 : List UInt8 := dkwX2_meanFar_4 ++ []
def dkwX2_meanFar_3 : List UInt8 := [180, 0, 73, 3, 46, 108, 122, 167, 0, 4, 3, 54, 8, 21, 4, 21, 7, 21, 8, 104, 96, 54, 4]
abbrev dktX2_meanFar_3 : List UInt8 := dkwX2_meanFar_3 ++ dktX2_meanFar_4
def dkwX2_meanFar_2 : List UInt8 := [42, 180, 0, 3, 180, 0, 73, 3, 46, 108, 16, 13, 162, 0, 22, 17, 16, 0, 21, 7, 42, 180, 0, 3]
abbrev dktX2_meanFar_2 : List UInt8 := dkwX2_meanFar_2 ++ dktX2_meanFar_3
def dkwX2_meanFar_1 : List UInt8 := [43, 21, 6, 182, 0, 50, 167, 0, 10, 42, 43, 21, 6, 182, 0, 63, 100, 184, 0, 82, 54, 7, 21, 7]
abbrev dktX2_meanFar_1 : List UInt8 := dkwX2_meanFar_1 ++ dktX2_meanFar_2
def dkwX2_meanFar_0 : List UInt8 := [3, 54, 4, 3, 54, 5, 3, 54, 6, 21, 6, 43, 180, 0, 46, 162, 0, 93, 28, 29, 153, 0, 13, 42]
abbrev dktX2_meanFar_0 : List UInt8 := dkwX2_meanFar_0 ++ dktX2_meanFar_1
theorem dksX2_meanFar_0 : cX2_meanFar.data.toList.drop 0 = dktX2_meanFar_0 := by decide +kernel
theorem dksX2_meanFar_1 : cX2_meanFar.data.toList.drop 24 = dktX2_meanFar_1 := dk_seg dksX2_meanFar_0 24 rfl rfl
theorem dksX2_meanFar_2 : cX2_meanFar.data.toList.drop 48 = dktX2_meanFar_2 := dk_seg dksX2_meanFar_1 24 rfl rfl
theorem dksX2_meanFar_3 : cX2_meanFar.data.toList.drop 72 = dktX2_meanFar_3 := dk_seg dksX2_meanFar_2 24 rfl rfl
theorem dksX2_meanFar_4 : cX2_meanFar.data.toList.drop 95 = dktX2_meanFar_4 := dk_seg dksX2_meanFar_3 23 rfl rfl
theorem dX2_meanFar_0 : decode cX2_meanFar 0 = .ok (.iconst 0, 1) := dk_3 (dk_at dksX2_meanFar_0 0 rfl rfl)
theorem dX2_meanFar_1 : decode cX2_meanFar 1 = .ok (.istore 4, 2) := dk_54 4 (dk_at dksX2_meanFar_0 1 rfl rfl)
theorem dX2_meanFar_3 : decode cX2_meanFar 3 = .ok (.iconst 0, 1) := dk_3 (dk_at dksX2_meanFar_0 3 rfl rfl)
theorem dX2_meanFar_4 : decode cX2_meanFar 4 = .ok (.istore 5, 2) := dk_54 5 (dk_at dksX2_meanFar_0 4 rfl rfl)
theorem dX2_meanFar_6 : decode cX2_meanFar 6 = .ok (.iconst 0, 1) := dk_3 (dk_at dksX2_meanFar_0 6 rfl rfl)
theorem dX2_meanFar_7 : decode cX2_meanFar 7 = .ok (.istore 6, 2) := dk_54 6 (dk_at dksX2_meanFar_0 7 rfl rfl)
theorem dX2_meanFar_9 : decode cX2_meanFar 9 = .ok (.iload 6, 2) := dk_21 6 (dk_at dksX2_meanFar_0 9 rfl rfl)
theorem dX2_meanFar_11 : decode cX2_meanFar 11 = .ok (.aload_n 1, 1) := dk_43 (dk_at dksX2_meanFar_0 11 rfl rfl)
theorem dX2_meanFar_12 : decode cX2_meanFar 12 = .ok (.getfield 46, 3) := dk_180 0 46 (dk_at dksX2_meanFar_0 12 rfl rfl)
theorem dX2_meanFar_15 : decode cX2_meanFar 15 = .ok (.if_icmp .ge 93, 3) := dk_162 0 93 (dk_at dksX2_meanFar_0 15 rfl rfl)
theorem dX2_meanFar_18 : decode cX2_meanFar 18 = .ok (.iload_n 2, 1) := dk_28 (dk_at dksX2_meanFar_0 18 rfl rfl)
theorem dX2_meanFar_19 : decode cX2_meanFar 19 = .ok (.iload_n 3, 1) := dk_29 (dk_at dksX2_meanFar_0 19 rfl rfl)
theorem dX2_meanFar_20 : decode cX2_meanFar 20 = .ok (.ifCond .eq 13, 3) := dk_153 0 13 (dk_at dksX2_meanFar_0 20 rfl rfl)
theorem dX2_meanFar_23 : decode cX2_meanFar 23 = .ok (.aload_n 0, 1) := dk_42 (dk_at dksX2_meanFar_0 23 rfl rfl)
theorem dX2_meanFar_24 : decode cX2_meanFar 24 = .ok (.aload_n 1, 1) := dk_43 (dk_at dksX2_meanFar_1 0 rfl rfl)
theorem dX2_meanFar_25 : decode cX2_meanFar 25 = .ok (.iload 6, 2) := dk_21 6 (dk_at dksX2_meanFar_1 1 rfl rfl)
theorem dX2_meanFar_27 : decode cX2_meanFar 27 = .ok (.invokevirtual 50, 3) := dk_182 0 50 (dk_at dksX2_meanFar_1 3 rfl rfl)
theorem dX2_meanFar_30 : decode cX2_meanFar 30 = .ok (.goto 10, 3) := dk_167 0 10 (dk_at dksX2_meanFar_1 6 rfl rfl)
theorem dX2_meanFar_33 : decode cX2_meanFar 33 = .ok (.aload_n 0, 1) := dk_42 (dk_at dksX2_meanFar_1 9 rfl rfl)
theorem dX2_meanFar_34 : decode cX2_meanFar 34 = .ok (.aload_n 1, 1) := dk_43 (dk_at dksX2_meanFar_1 10 rfl rfl)
theorem dX2_meanFar_35 : decode cX2_meanFar 35 = .ok (.iload 6, 2) := dk_21 6 (dk_at dksX2_meanFar_1 11 rfl rfl)
theorem dX2_meanFar_37 : decode cX2_meanFar 37 = .ok (.invokevirtual 63, 3) := dk_182 0 63 (dk_at dksX2_meanFar_1 13 rfl rfl)
theorem dX2_meanFar_40 : decode cX2_meanFar 40 = .ok (.isub, 1) := dk_100 (dk_at dksX2_meanFar_1 16 rfl rfl)
theorem dX2_meanFar_41 : decode cX2_meanFar 41 = .ok (.invokestatic 82, 3) := dk_184 0 82 (dk_at dksX2_meanFar_1 17 rfl rfl)
theorem dX2_meanFar_44 : decode cX2_meanFar 44 = .ok (.istore 7, 2) := dk_54 7 (dk_at dksX2_meanFar_1 20 rfl rfl)
theorem dX2_meanFar_46 : decode cX2_meanFar 46 = .ok (.iload 7, 2) := dk_21 7 (dk_at dksX2_meanFar_1 22 rfl rfl)
theorem dX2_meanFar_48 : decode cX2_meanFar 48 = .ok (.aload_n 0, 1) := dk_42 (dk_at dksX2_meanFar_2 0 rfl rfl)
theorem dX2_meanFar_49 : decode cX2_meanFar 49 = .ok (.getfield 3, 3) := dk_180 0 3 (dk_at dksX2_meanFar_2 1 rfl rfl)
theorem dX2_meanFar_52 : decode cX2_meanFar 52 = .ok (.getfield 73, 3) := dk_180 0 73 (dk_at dksX2_meanFar_2 4 rfl rfl)
theorem dX2_meanFar_55 : decode cX2_meanFar 55 = .ok (.iconst 0, 1) := dk_3 (dk_at dksX2_meanFar_2 7 rfl rfl)
theorem dX2_meanFar_56 : decode cX2_meanFar 56 = .ok (.iaload, 1) := dk_46 (dk_at dksX2_meanFar_2 8 rfl rfl)
theorem dX2_meanFar_57 : decode cX2_meanFar 57 = .ok (.idiv, 1) := dk_108 (dk_at dksX2_meanFar_2 9 rfl rfl)
theorem dX2_meanFar_58 : decode cX2_meanFar 58 = .ok (.bipush 13, 2) := dk_16 13 (dk_at dksX2_meanFar_2 10 rfl rfl)
theorem dX2_meanFar_60 : decode cX2_meanFar 60 = .ok (.if_icmp .ge 22, 3) := dk_162 0 22 (dk_at dksX2_meanFar_2 12 rfl rfl)
theorem dX2_meanFar_63 : decode cX2_meanFar 63 = .ok (.sipush 4096, 3) := dk_17 16 0 (dk_at dksX2_meanFar_2 15 rfl rfl)
theorem dX2_meanFar_66 : decode cX2_meanFar 66 = .ok (.iload 7, 2) := dk_21 7 (dk_at dksX2_meanFar_2 18 rfl rfl)
theorem dX2_meanFar_68 : decode cX2_meanFar 68 = .ok (.aload_n 0, 1) := dk_42 (dk_at dksX2_meanFar_2 20 rfl rfl)
theorem dX2_meanFar_69 : decode cX2_meanFar 69 = .ok (.getfield 3, 3) := dk_180 0 3 (dk_at dksX2_meanFar_2 21 rfl rfl)
theorem dX2_meanFar_72 : decode cX2_meanFar 72 = .ok (.getfield 73, 3) := dk_180 0 73 (dk_at dksX2_meanFar_3 0 rfl rfl)
theorem dX2_meanFar_75 : decode cX2_meanFar 75 = .ok (.iconst 0, 1) := dk_3 (dk_at dksX2_meanFar_3 3 rfl rfl)
theorem dX2_meanFar_76 : decode cX2_meanFar 76 = .ok (.iaload, 1) := dk_46 (dk_at dksX2_meanFar_3 4 rfl rfl)
theorem dX2_meanFar_77 : decode cX2_meanFar 77 = .ok (.idiv, 1) := dk_108 (dk_at dksX2_meanFar_3 5 rfl rfl)
theorem dX2_meanFar_78 : decode cX2_meanFar 78 = .ok (.ishr, 1) := dk_122 (dk_at dksX2_meanFar_3 6 rfl rfl)
theorem dX2_meanFar_79 : decode cX2_meanFar 79 = .ok (.goto 4, 3) := dk_167 0 4 (dk_at dksX2_meanFar_3 7 rfl rfl)
theorem dX2_meanFar_82 : decode cX2_meanFar 82 = .ok (.iconst 0, 1) := dk_3 (dk_at dksX2_meanFar_3 10 rfl rfl)
theorem dX2_meanFar_83 : decode cX2_meanFar 83 = .ok (.istore 8, 2) := dk_54 8 (dk_at dksX2_meanFar_3 11 rfl rfl)
theorem dX2_meanFar_85 : decode cX2_meanFar 85 = .ok (.iload 4, 2) := dk_21 4 (dk_at dksX2_meanFar_3 13 rfl rfl)
theorem dX2_meanFar_87 : decode cX2_meanFar 87 = .ok (.iload 7, 2) := dk_21 7 (dk_at dksX2_meanFar_3 15 rfl rfl)
theorem dX2_meanFar_89 : decode cX2_meanFar 89 = .ok (.iload 8, 2) := dk_21 8 (dk_at dksX2_meanFar_3 17 rfl rfl)
theorem dX2_meanFar_91 : decode cX2_meanFar 91 = .ok (.imul, 1) := dk_104 (dk_at dksX2_meanFar_3 19 rfl rfl)
theorem dX2_meanFar_92 : decode cX2_meanFar 92 = .ok (.iadd, 1) := dk_96 (dk_at dksX2_meanFar_3 20 rfl rfl)
theorem dX2_meanFar_93 : decode cX2_meanFar 93 = .ok (.istore 4, 2) := dk_54 4 (dk_at dksX2_meanFar_3 21 rfl rfl)
theorem dX2_meanFar_95 : decode cX2_meanFar 95 = .ok (.iload 5, 2) := dk_21 5 (dk_at dksX2_meanFar_4 0 rfl rfl)
theorem dX2_meanFar_97 : decode cX2_meanFar 97 = .ok (.iload 8, 2) := dk_21 8 (dk_at dksX2_meanFar_4 2 rfl rfl)
theorem dX2_meanFar_99 : decode cX2_meanFar 99 = .ok (.iadd, 1) := dk_96 (dk_at dksX2_meanFar_4 4 rfl rfl)
theorem dX2_meanFar_100 : decode cX2_meanFar 100 = .ok (.istore 5, 2) := dk_54 5 (dk_at dksX2_meanFar_4 5 rfl rfl)
theorem dX2_meanFar_102 : decode cX2_meanFar 102 = .ok (.iinc 6 1, 3) := dk_132 6 1 (dk_at dksX2_meanFar_4 7 rfl rfl)
theorem dX2_meanFar_105 : decode cX2_meanFar 105 = .ok (.goto (-96), 3) := dk_167 255 160 (dk_at dksX2_meanFar_4 10 rfl rfl)
theorem dX2_meanFar_108 : decode cX2_meanFar 108 = .ok (.iload 4, 2) := dk_21 4 (dk_at dksX2_meanFar_4 13 rfl rfl)
theorem dX2_meanFar_110 : decode cX2_meanFar 110 = .ok (.iload 5, 2) := dk_21 5 (dk_at dksX2_meanFar_4 15 rfl rfl)
theorem dX2_meanFar_112 : decode cX2_meanFar 112 = .ok (.idiv, 1) := dk_108 (dk_at dksX2_meanFar_4 17 rfl rfl)
theorem dX2_meanFar_113 : decode cX2_meanFar 113 = .ok (.ireturn, 1) := dk_172 (dk_at dksX2_meanFar_4 18 rfl rfl)
theorem q138 : (Jvm.Cond.initialized "CellRows$Places") ∈ lw_all := lw_g (lw_at lw_m1 2 rfl) rfl
theorem q176 : (Jvm.Cond.instanceMethod ({ cls := "CellRows$Places", name := "<init>", desc := "(LCellRows;)V" } : Jvm.MethodName)) ∈ lw_all := lw_g (lw_at lw_m1 40 rfl) rfl
theorem q177 : (Jvm.Cond.code ({ cls := "CellRows$Places", name := "<init>", desc := "(LCellRows;)V" } : Jvm.MethodName) prog_11_method_1_code (2 : Nat) (Option.none : Option Jvm.ClassFile.FieldType)) ∈ lw_all := lw_g (lw_at lw_m1 41 rfl) rfl
theorem q178 : (Jvm.Cond.methodLink "CellRows$Places" (9 : Nat) ({ cls := "java/lang/Object", name := "<init>", desc := "()V" } : Jvm.MethodName)) ∈ lw_all := lw_g (lw_at lw_m1 42 rfl) rfl
theorem q180 : (Jvm.Cond.fieldLink "CellRows$Places" (3 : Nat) "CellRows$Places" "this$0" "LCellRows;") ∈ lw_all := lw_g (lw_at lw_m1 44 rfl) rfl
theorem q184 : (Jvm.Cond.soleField "CellRows$Places" "this$0") ∈ lw_all := lw_g (lw_at lw_m1 48 rfl) rfl
theorem q291 : (Jvm.Cond.fieldLinkNest "CellRows$Places" (46 : Nat) "CellRows$Net" "pins" "I" "CellRows") ∈ lw_tbl := lw_at lw_m1 155 rfl
theorem q294 : (Jvm.Cond.fieldLinkNest "CellRows$Places" (35 : Nat) "CellRows$Net" "who" "[I" "CellRows") ∈ lw_tbl := lw_at lw_m1 158 rfl
theorem q297 : (Jvm.Cond.fieldLinkNest "CellRows$Places" (15 : Nat) "CellRows$Net" "where" "[I" "CellRows") ∈ lw_tbl := lw_at lw_m1 161 rfl
theorem q337 : (Jvm.Cond.fieldLinkNest "CellRows$Places" (29 : Nat) "CellRows$Chip" "cell" "[LCellRows$Cell;" "CellRows") ∈ lw_tbl := lw_at lw_m1 201 rfl
theorem q391 : (Jvm.Cond.fieldLinkNest "CellRows$Places" (73 : Nat) "CellRows" "term" "[I" "CellRows") ∈ lw_tbl := lw_at lw_m2 15 rfl
theorem q395 : (Jvm.Cond.fieldLinkNest "CellRows$Places" (25 : Nat) "CellRows" "chip" "LCellRows$Chip;" "CellRows") ∈ lw_tbl := lw_at lw_m2 19 rfl
theorem q702 : (Jvm.Cond.instanceMethod ({ cls := "CellRows$Places", name := "span", desc := "(LCellRows$Net;)I" } : Jvm.MethodName)) ∈ lw_all := lw_g (lw_at lw_m3 86 rfl) rfl
theorem q703 : (Jvm.Cond.sameMethod "CellRows$Places" "CellRows$Places" "span" "(LCellRows$Net;)I") ∈ lw_all := lw_g (lw_at lw_m3 87 rfl) rfl
theorem q706 : (Jvm.Cond.code ({ cls := "CellRows$Places", name := "span", desc := "(LCellRows$Net;)I" } : Jvm.MethodName) prog_11_method_10_code (2 : Nat) (Option.some Jvm.ClassFile.FieldType.int)) ∈ lw_all := lw_g (lw_at lw_m3 90 rfl) rfl
theorem q707 : (Jvm.Cond.methodLink "CellRows$Places" (66 : Nat) ({ cls := "CellRows$Places", name := "mostX", desc := "(LCellRows$Net;)I" } : Jvm.MethodName)) ∈ lw_all := lw_g (lw_at lw_m3 91 rfl) rfl
theorem q708 : (Jvm.Cond.instanceMethod ({ cls := "CellRows$Places", name := "mostX", desc := "(LCellRows$Net;)I" } : Jvm.MethodName)) ∈ lw_all := lw_g (lw_at lw_m3 92 rfl) rfl
theorem q709 : (Jvm.Cond.sameMethod "CellRows$Places" "CellRows$Places" "mostX" "(LCellRows$Net;)I") ∈ lw_all := lw_g (lw_at lw_m3 93 rfl) rfl
theorem q712 : (Jvm.Cond.code ({ cls := "CellRows$Places", name := "mostX", desc := "(LCellRows$Net;)I" } : Jvm.MethodName) prog_11_method_7_code (4 : Nat) (Option.some Jvm.ClassFile.FieldType.int)) ∈ lw_all := lw_g (lw_at lw_m3 96 rfl) rfl
theorem q713 : (Jvm.Cond.methodLink "CellRows$Places" (50 : Nat) ({ cls := "CellRows$Places", name := "pinX", desc := "(LCellRows$Net;I)I" } : Jvm.MethodName)) ∈ lw_all := lw_g (lw_at lw_m3 97 rfl) rfl
theorem q714 : (Jvm.Cond.instanceMethod ({ cls := "CellRows$Places", name := "pinX", desc := "(LCellRows$Net;I)I" } : Jvm.MethodName)) ∈ lw_all := lw_g (lw_at lw_m3 98 rfl) rfl
theorem q715 : (Jvm.Cond.sameMethod "CellRows$Places" "CellRows$Places" "pinX" "(LCellRows$Net;I)I") ∈ lw_all := lw_g (lw_at lw_m3 99 rfl) rfl
theorem q718 : (Jvm.Cond.code ({ cls := "CellRows$Places", name := "pinX", desc := "(LCellRows$Net;I)I" } : Jvm.MethodName) prog_11_method_4_code (3 : Nat) (Option.some Jvm.ClassFile.FieldType.int)) ∈ lw_all := lw_g (lw_at lw_m3 102 rfl) rfl
theorem q719 : (Jvm.Cond.methodLink "CellRows$Places" (21 : Nat) ({ cls := "CellRows$Net", name := "isPad", desc := "(I)Z" } : Jvm.MethodName)) ∈ lw_all := lw_g (lw_at lw_m3 103 rfl) rfl
theorem q723 : (Jvm.Cond.methodLink "CellRows$Places" (38 : Nat) ({ cls := "CellRows$Places", name := "x", desc := "(LCellRows$Cell;)I" } : Jvm.MethodName)) ∈ lw_all := lw_g (lw_at lw_m3 107 rfl) rfl
theorem q724 : (Jvm.Cond.declares ({ cls := "CellRows$Places", name := "x", desc := "(LCellRows$Cell;)I" } : Jvm.MethodName)) ∈ lw_tbl := lw_at lw_m3 108 rfl
theorem q725 : (Jvm.Cond.sameMethod "CellRows$Places" "CellRows$Places" "x" "(LCellRows$Cell;)I") ∈ lw_all := lw_g (lw_at lw_m3 109 rfl) rfl
theorem q733 : (Jvm.Cond.methodLink "CellRows$Places" (60 : Nat) ({ cls := "java/lang/Math", name := "max", desc := "(II)I" } : Jvm.MethodName)) ∈ lw_all := lw_g (lw_at lw_m3 117 rfl) rfl
theorem q734 : (Jvm.Cond.methodLink "CellRows$Places" (70 : Nat) ({ cls := "CellRows$Places", name := "leastX", desc := "(LCellRows$Net;)I" } : Jvm.MethodName)) ∈ lw_all := lw_g (lw_at lw_m3 118 rfl) rfl
theorem q735 : (Jvm.Cond.instanceMethod ({ cls := "CellRows$Places", name := "leastX", desc := "(LCellRows$Net;)I" } : Jvm.MethodName)) ∈ lw_all := lw_g (lw_at lw_m3 119 rfl) rfl
theorem q736 : (Jvm.Cond.sameMethod "CellRows$Places" "CellRows$Places" "leastX" "(LCellRows$Net;)I") ∈ lw_all := lw_g (lw_at lw_m3 120 rfl) rfl
theorem q739 : (Jvm.Cond.code ({ cls := "CellRows$Places", name := "leastX", desc := "(LCellRows$Net;)I" } : Jvm.MethodName) prog_11_method_6_code (4 : Nat) (Option.some Jvm.ClassFile.FieldType.int)) ∈ lw_all := lw_g (lw_at lw_m3 123 rfl) rfl
theorem q740 : (Jvm.Cond.constant "CellRows$Places" (45 : Nat) (1000000000 : Int32)) ∈ lw_all := lw_g (lw_at lw_m3 124 rfl) rfl
theorem q741 : (Jvm.Cond.methodLink "CellRows$Places" (54 : Nat) ({ cls := "java/lang/Math", name := "min", desc := "(II)I" } : Jvm.MethodName)) ∈ lw_all := lw_g (lw_at lw_m3 125 rfl) rfl
theorem q742 : (Jvm.Cond.methodLink "CellRows$Places" (76 : Nat) ({ cls := "CellRows$Places", name := "mostY", desc := "(LCellRows$Net;)I" } : Jvm.MethodName)) ∈ lw_all := lw_g (lw_at lw_m3 126 rfl) rfl
theorem q743 : (Jvm.Cond.instanceMethod ({ cls := "CellRows$Places", name := "mostY", desc := "(LCellRows$Net;)I" } : Jvm.MethodName)) ∈ lw_all := lw_g (lw_at lw_m3 127 rfl) rfl
theorem q744 : (Jvm.Cond.sameMethod "CellRows$Places" "CellRows$Places" "mostY" "(LCellRows$Net;)I") ∈ lw_all := lw_g (lw_at lw_m3 128 rfl) rfl
theorem q747 : (Jvm.Cond.code ({ cls := "CellRows$Places", name := "mostY", desc := "(LCellRows$Net;)I" } : Jvm.MethodName) prog_11_method_9_code (4 : Nat) (Option.some Jvm.ClassFile.FieldType.int)) ∈ lw_all := lw_g (lw_at lw_m3 131 rfl) rfl
theorem q748 : (Jvm.Cond.methodLink "CellRows$Places" (63 : Nat) ({ cls := "CellRows$Places", name := "pinY", desc := "(LCellRows$Net;I)I" } : Jvm.MethodName)) ∈ lw_all := lw_g (lw_at lw_m3 132 rfl) rfl
theorem q749 : (Jvm.Cond.instanceMethod ({ cls := "CellRows$Places", name := "pinY", desc := "(LCellRows$Net;I)I" } : Jvm.MethodName)) ∈ lw_all := lw_g (lw_at lw_m3 133 rfl) rfl
theorem q750 : (Jvm.Cond.sameMethod "CellRows$Places" "CellRows$Places" "pinY" "(LCellRows$Net;I)I") ∈ lw_all := lw_g (lw_at lw_m3 134 rfl) rfl
theorem q753 : (Jvm.Cond.code ({ cls := "CellRows$Places", name := "pinY", desc := "(LCellRows$Net;I)I" } : Jvm.MethodName) prog_11_method_5_code (3 : Nat) (Option.some Jvm.ClassFile.FieldType.int)) ∈ lw_all := lw_g (lw_at lw_m3 137 rfl) rfl
theorem q754 : (Jvm.Cond.methodLink "CellRows$Places" (42 : Nat) ({ cls := "CellRows$Places", name := "y", desc := "(LCellRows$Cell;)I" } : Jvm.MethodName)) ∈ lw_all := lw_g (lw_at lw_m3 138 rfl) rfl
theorem q755 : (Jvm.Cond.declares ({ cls := "CellRows$Places", name := "y", desc := "(LCellRows$Cell;)I" } : Jvm.MethodName)) ∈ lw_tbl := lw_at lw_m3 139 rfl
theorem q756 : (Jvm.Cond.sameMethod "CellRows$Places" "CellRows$Places" "y" "(LCellRows$Cell;)I") ∈ lw_all := lw_g (lw_at lw_m3 140 rfl) rfl
theorem q763 : (Jvm.Cond.methodLink "CellRows$Places" (79 : Nat) ({ cls := "CellRows$Places", name := "leastY", desc := "(LCellRows$Net;)I" } : Jvm.MethodName)) ∈ lw_all := lw_g (lw_at lw_m3 147 rfl) rfl
theorem q764 : (Jvm.Cond.instanceMethod ({ cls := "CellRows$Places", name := "leastY", desc := "(LCellRows$Net;)I" } : Jvm.MethodName)) ∈ lw_all := lw_g (lw_at lw_m3 148 rfl) rfl
theorem q765 : (Jvm.Cond.sameMethod "CellRows$Places" "CellRows$Places" "leastY" "(LCellRows$Net;)I") ∈ lw_all := lw_g (lw_at lw_m3 149 rfl) rfl
theorem q768 : (Jvm.Cond.code ({ cls := "CellRows$Places", name := "leastY", desc := "(LCellRows$Net;)I" } : Jvm.MethodName) prog_11_method_8_code (4 : Nat) (Option.some Jvm.ClassFile.FieldType.int)) ∈ lw_all := lw_g (lw_at lw_m3 152 rfl) rfl
theorem q859 : (Jvm.Cond.instanceMethod ({ cls := "CellRows$Places", name := "smooth", desc := "(LCellRows$Net;)I" } : Jvm.MethodName)) ∈ lw_all := lw_g (lw_at lw_m4 3 rfl) rfl
theorem q860 : (Jvm.Cond.sameMethod "CellRows$Places" "CellRows$Places" "smooth" "(LCellRows$Net;)I") ∈ lw_all := lw_g (lw_at lw_m4 4 rfl) rfl
theorem q863 : (Jvm.Cond.code ({ cls := "CellRows$Places", name := "smooth", desc := "(LCellRows$Net;)I" } : Jvm.MethodName) prog_11_method_12_code (4 : Nat) (Option.some Jvm.ClassFile.FieldType.int)) ∈ lw_all := lw_g (lw_at lw_m4 7 rfl) rfl
theorem q864 : (Jvm.Cond.methodLink "CellRows$Places" (86 : Nat) ({ cls := "CellRows$Places", name := "meanFar", desc := "(LCellRows$Net;IZ)I" } : Jvm.MethodName)) ∈ lw_all := lw_g (lw_at lw_m4 8 rfl) rfl
theorem q865 : (Jvm.Cond.privateMethod ({ cls := "CellRows$Places", name := "meanFar", desc := "(LCellRows$Net;IZ)I" } : Jvm.MethodName)) ∈ lw_tbl := lw_at lw_m4 9 rfl
theorem q866 : (Jvm.Cond.instanceMethod ({ cls := "CellRows$Places", name := "meanFar", desc := "(LCellRows$Net;IZ)I" } : Jvm.MethodName)) ∈ lw_all := lw_g (lw_at lw_m4 10 rfl) rfl
theorem q867 : (Jvm.Cond.code ({ cls := "CellRows$Places", name := "meanFar", desc := "(LCellRows$Net;IZ)I" } : Jvm.MethodName) prog_11_method_11_code (9 : Nat) (Option.some Jvm.ClassFile.FieldType.int)) ∈ lw_all := lw_g (lw_at lw_m4 11 rfl) rfl
theorem q868 : (Jvm.Cond.methodLink "CellRows$Places" (82 : Nat) ({ cls := "java/lang/Math", name := "abs", desc := "(I)I" } : Jvm.MethodName)) ∈ lw_all := lw_g (lw_at lw_m4 12 rfl) rfl
theorem q2054 : (Jvm.Cond.sameMethod "CellRows$Places" "CellRows$Places" "meanFar" "(LCellRows$Net;IZ)I") ∈ lw_all := lw_g (lw_at lw_m8 238 rfl) rfl
/-! CellRows$1 -/
set_option maxRecDepth 100000
def RX3 : String := "CellRows$1"
def TX3 : u_T := fun k => match k with
  | 0 => ("CellRows$Places", "this$0", "LCellRows;", true)
  | _ => ("CellRows$1", "this$0", "LCellRows;", true)
def tyX3 : Nat → FieldType := fun k => match k with
  | 0 => .object "CellRows"
  | _ => .object "CellRows"
abbrev wsX30 : List Cond := u_ws RX3 TX3 2
-- two fields of one name: no nmX3
theorem tyX3_ok : ∀ k, k < 2 → parseFieldDescriptor (TX3 k).2.2.1 = some (tyX3 k) := by decide +kernel
abbrev cX3_init : ByteArray := prog_2_method_1_code
def yX3_init : MethodName := ⟨RX3, "<init>", "(LCellRows;)V"⟩
def dkwX3_init_0 : List UInt8 := [42, 43, 181, 0, 1, 42, 43, 183, 0, 7, 177]
abbrev dktX3_init_0 : List UInt8 := dkwX3_init_0 ++ []
theorem dksX3_init_0 : cX3_init.data.toList.drop 0 = dktX3_init_0 := by decide +kernel
theorem dX3_init_0 : decode cX3_init 0 = .ok (.aload_n 0, 1) := dk_42 (dk_at dksX3_init_0 0 rfl rfl)
theorem dX3_init_1 : decode cX3_init 1 = .ok (.aload_n 1, 1) := dk_43 (dk_at dksX3_init_0 1 rfl rfl)
theorem dX3_init_2 : decode cX3_init 2 = .ok (.putfield 1, 3) := dk_181 0 1 (dk_at dksX3_init_0 2 rfl rfl)
theorem dX3_init_5 : decode cX3_init 5 = .ok (.aload_n 0, 1) := dk_42 (dk_at dksX3_init_0 5 rfl rfl)
theorem dX3_init_6 : decode cX3_init 6 = .ok (.aload_n 1, 1) := dk_43 (dk_at dksX3_init_0 6 rfl rfl)
theorem dX3_init_7 : decode cX3_init 7 = .ok (.invokespecial 7, 3) := dk_183 0 7 (dk_at dksX3_init_0 7 rfl rfl)
theorem dX3_init_10 : decode cX3_init 10 = .ok (.return_, 1) := dk_177 (dk_at dksX3_init_0 10 rfl rfl)
abbrev cX3_x : ByteArray := prog_2_method_2_code
def yX3_x : MethodName := ⟨RX3, "x", "(LCellRows$Cell;)I"⟩
theorem dX3_x_0 : decode cX3_x 0 = .ok (.aload_n 1, 1) := by decide +kernel
theorem dX3_x_1 : decode cX3_x 1 = .ok (.getfield 13, 3) := by decide +kernel
theorem dX3_x_4 : decode cX3_x 4 = .ok (.ireturn, 1) := by decide +kernel
abbrev cX3_y : ByteArray := prog_2_method_3_code
def yX3_y : MethodName := ⟨RX3, "y", "(LCellRows$Cell;)I"⟩
theorem dX3_y_0 : decode cX3_y 0 = .ok (.aload_n 1, 1) := by decide +kernel
theorem dX3_y_1 : decode cX3_y 1 = .ok (.getfield 19, 3) := by decide +kernel
theorem dX3_y_4 : decode cX3_y 4 = .ok (.ireturn, 1) := by decide +kernel
theorem q139 : (Jvm.Cond.initialized "CellRows$1") ∈ lw_all := lw_g (lw_at lw_m1 3 rfl) rfl
theorem q171 : (Jvm.Cond.instantiable "CellRows$1" (2 : Nat)) ∈ lw_all := lw_g (lw_at lw_m1 35 rfl) rfl
theorem q173 : (Jvm.Cond.instanceMethod ({ cls := "CellRows$1", name := "<init>", desc := "(LCellRows;)V" } : Jvm.MethodName)) ∈ lw_all := lw_g (lw_at lw_m1 37 rfl) rfl
theorem q174 : (Jvm.Cond.code ({ cls := "CellRows$1", name := "<init>", desc := "(LCellRows;)V" } : Jvm.MethodName) prog_2_method_1_code (2 : Nat) (Option.none : Option Jvm.ClassFile.FieldType)) ∈ lw_all := lw_g (lw_at lw_m1 38 rfl) rfl
theorem q175 : (Jvm.Cond.methodLinkNest "CellRows$1" (7 : Nat) ({ cls := "CellRows$Places", name := "<init>", desc := "(LCellRows;)V" } : Jvm.MethodName) "CellRows") ∈ lw_tbl := lw_at lw_m1 39 rfl
theorem q179 : (Jvm.Cond.fieldLink "CellRows$1" (1 : Nat) "CellRows$1" "this$0" "LCellRows;") ∈ lw_all := lw_g (lw_at lw_m1 43 rfl) rfl
theorem q181 : (Jvm.Cond.laysFinal "CellRows$1" "CellRows$1" "this$0" "LCellRows;") ∈ lw_all := lw_g (lw_at lw_m1 45 rfl) rfl
theorem q182 : (Jvm.Cond.soleField "CellRows$1" "this$0") ∈ lw_all := lw_g (lw_at lw_m1 46 rfl) rfl
theorem q183 : (Jvm.Cond.laysFinal "CellRows$1" "CellRows$Places" "this$0" "LCellRows;") ∈ lw_all := lw_g (lw_at lw_m1 47 rfl) rfl
theorem q185 : (Jvm.Cond.superclass "CellRows$1" "CellRows$Places") ∈ lw_all := lw_g (lw_at lw_m1 49 rfl) rfl
theorem q237 : (Jvm.Cond.fieldLinkNest "CellRows$1" (13 : Nat) "CellRows$Cell" "x" "I" "CellRows") ∈ lw_tbl := lw_at lw_m1 101 rfl
theorem q243 : (Jvm.Cond.fieldLinkNest "CellRows$1" (19 : Nat) "CellRows$Cell" "y" "I" "CellRows") ∈ lw_tbl := lw_at lw_m1 107 rfl
theorem q704 : (Jvm.Cond.selects "CellRows$1" ({ cls := "CellRows$Places", name := "span", desc := "(LCellRows$Net;)I" } : Jvm.MethodName) ({ cls := "CellRows$Places", name := "span", desc := "(LCellRows$Net;)I" } : Jvm.MethodName)) ∈ lw_all := lw_g (lw_at lw_m3 88 rfl) rfl
theorem q710 : (Jvm.Cond.selects "CellRows$1" ({ cls := "CellRows$Places", name := "mostX", desc := "(LCellRows$Net;)I" } : Jvm.MethodName) ({ cls := "CellRows$Places", name := "mostX", desc := "(LCellRows$Net;)I" } : Jvm.MethodName)) ∈ lw_all := lw_g (lw_at lw_m3 94 rfl) rfl
theorem q716 : (Jvm.Cond.selects "CellRows$1" ({ cls := "CellRows$Places", name := "pinX", desc := "(LCellRows$Net;I)I" } : Jvm.MethodName) ({ cls := "CellRows$Places", name := "pinX", desc := "(LCellRows$Net;I)I" } : Jvm.MethodName)) ∈ lw_all := lw_g (lw_at lw_m3 100 rfl) rfl
theorem q726 : (Jvm.Cond.selects "CellRows$1" ({ cls := "CellRows$Places", name := "x", desc := "(LCellRows$Cell;)I" } : Jvm.MethodName) ({ cls := "CellRows$1", name := "x", desc := "(LCellRows$Cell;)I" } : Jvm.MethodName)) ∈ lw_all := lw_g (lw_at lw_m3 110 rfl) rfl
theorem q727 : (Jvm.Cond.instanceMethod ({ cls := "CellRows$1", name := "x", desc := "(LCellRows$Cell;)I" } : Jvm.MethodName)) ∈ lw_all := lw_g (lw_at lw_m3 111 rfl) rfl
theorem q728 : (Jvm.Cond.code ({ cls := "CellRows$1", name := "x", desc := "(LCellRows$Cell;)I" } : Jvm.MethodName) prog_2_method_2_code (2 : Nat) (Option.some Jvm.ClassFile.FieldType.int)) ∈ lw_all := lw_g (lw_at lw_m3 112 rfl) rfl
theorem q737 : (Jvm.Cond.selects "CellRows$1" ({ cls := "CellRows$Places", name := "leastX", desc := "(LCellRows$Net;)I" } : Jvm.MethodName) ({ cls := "CellRows$Places", name := "leastX", desc := "(LCellRows$Net;)I" } : Jvm.MethodName)) ∈ lw_all := lw_g (lw_at lw_m3 121 rfl) rfl
theorem q745 : (Jvm.Cond.selects "CellRows$1" ({ cls := "CellRows$Places", name := "mostY", desc := "(LCellRows$Net;)I" } : Jvm.MethodName) ({ cls := "CellRows$Places", name := "mostY", desc := "(LCellRows$Net;)I" } : Jvm.MethodName)) ∈ lw_all := lw_g (lw_at lw_m3 129 rfl) rfl
theorem q751 : (Jvm.Cond.selects "CellRows$1" ({ cls := "CellRows$Places", name := "pinY", desc := "(LCellRows$Net;I)I" } : Jvm.MethodName) ({ cls := "CellRows$Places", name := "pinY", desc := "(LCellRows$Net;I)I" } : Jvm.MethodName)) ∈ lw_all := lw_g (lw_at lw_m3 135 rfl) rfl
theorem q757 : (Jvm.Cond.selects "CellRows$1" ({ cls := "CellRows$Places", name := "y", desc := "(LCellRows$Cell;)I" } : Jvm.MethodName) ({ cls := "CellRows$1", name := "y", desc := "(LCellRows$Cell;)I" } : Jvm.MethodName)) ∈ lw_all := lw_g (lw_at lw_m3 141 rfl) rfl
theorem q758 : (Jvm.Cond.instanceMethod ({ cls := "CellRows$1", name := "y", desc := "(LCellRows$Cell;)I" } : Jvm.MethodName)) ∈ lw_all := lw_g (lw_at lw_m3 142 rfl) rfl
theorem q759 : (Jvm.Cond.code ({ cls := "CellRows$1", name := "y", desc := "(LCellRows$Cell;)I" } : Jvm.MethodName) prog_2_method_3_code (2 : Nat) (Option.some Jvm.ClassFile.FieldType.int)) ∈ lw_all := lw_g (lw_at lw_m3 143 rfl) rfl
theorem q766 : (Jvm.Cond.selects "CellRows$1" ({ cls := "CellRows$Places", name := "leastY", desc := "(LCellRows$Net;)I" } : Jvm.MethodName) ({ cls := "CellRows$Places", name := "leastY", desc := "(LCellRows$Net;)I" } : Jvm.MethodName)) ∈ lw_all := lw_g (lw_at lw_m3 150 rfl) rfl
theorem q861 : (Jvm.Cond.selects "CellRows$1" ({ cls := "CellRows$Places", name := "smooth", desc := "(LCellRows$Net;)I" } : Jvm.MethodName) ({ cls := "CellRows$Places", name := "smooth", desc := "(LCellRows$Net;)I" } : Jvm.MethodName)) ∈ lw_all := lw_g (lw_at lw_m4 5 rfl) rfl
theorem q1011 : (Jvm.Cond.selects "CellRows$1" ({ cls := "java/lang/Object", name := "getClass", desc := "()Ljava/lang/Class;" } : Jvm.MethodName) ({ cls := "java/lang/Object", name := "getClass", desc := "()Ljava/lang/Class;" } : Jvm.MethodName)) ∈ lw_all := lw_g (lw_at lw_m4 155 rfl) rfl
theorem q2062 : (Jvm.Cond.castable "CellRows$1" "java/lang/Object") ∈ lw_tbl := lw_at lw_m9 6 rfl
theorem in_X3 : ∀ w ∈ wsX30, w ∈ lw_all := lw_in wsX30 [183, 181] (by decide +kernel) (by decide +kernel)
/-! CellRows$2 -/
set_option maxRecDepth 100000
def RX4 : String := "CellRows$2"
def TX4 : u_T := fun k => match k with
  | 0 => ("CellRows$Places", "this$0", "LCellRows;", true)
  | _ => ("CellRows$2", "this$0", "LCellRows;", true)
def tyX4 : Nat → FieldType := fun k => match k with
  | 0 => .object "CellRows"
  | _ => .object "CellRows"
abbrev wsX40 : List Cond := u_ws RX4 TX4 2
-- two fields of one name: no nmX4
theorem tyX4_ok : ∀ k, k < 2 → parseFieldDescriptor (TX4 k).2.2.1 = some (tyX4 k) := by decide +kernel
abbrev cX4_init : ByteArray := prog_3_method_1_code
def yX4_init : MethodName := ⟨RX4, "<init>", "(LCellRows;)V"⟩
def dkwX4_init_0 : List UInt8 := [42, 43, 181, 0, 3, 42, 43, 183, 0, 9, 177]
abbrev dktX4_init_0 : List UInt8 := dkwX4_init_0 ++ []
theorem dksX4_init_0 : cX4_init.data.toList.drop 0 = dktX4_init_0 := by decide +kernel
theorem dX4_init_0 : decode cX4_init 0 = .ok (.aload_n 0, 1) := dk_42 (dk_at dksX4_init_0 0 rfl rfl)
theorem dX4_init_1 : decode cX4_init 1 = .ok (.aload_n 1, 1) := dk_43 (dk_at dksX4_init_0 1 rfl rfl)
theorem dX4_init_2 : decode cX4_init 2 = .ok (.putfield 3, 3) := dk_181 0 3 (dk_at dksX4_init_0 2 rfl rfl)
theorem dX4_init_5 : decode cX4_init 5 = .ok (.aload_n 0, 1) := dk_42 (dk_at dksX4_init_0 5 rfl rfl)
theorem dX4_init_6 : decode cX4_init 6 = .ok (.aload_n 1, 1) := dk_43 (dk_at dksX4_init_0 6 rfl rfl)
theorem dX4_init_7 : decode cX4_init 7 = .ok (.invokespecial 9, 3) := dk_183 0 9 (dk_at dksX4_init_0 7 rfl rfl)
theorem dX4_init_10 : decode cX4_init 10 = .ok (.return_, 1) := dk_177 (dk_at dksX4_init_0 10 rfl rfl)
abbrev cX4_x : ByteArray := prog_3_method_2_code
def yX4_x : MethodName := ⟨RX4, "x", "(LCellRows$Cell;)I"⟩
def dkwX4_x_0 : List UInt8 := [43, 182, 0, 15, 153, 0, 13, 16, 16, 43, 180, 0, 21, 104, 167, 0, 7, 43, 180, 0, 25, 172]
abbrev dktX4_x_0 : List UInt8 := dkwX4_x_0 ++ []
theorem dksX4_x_0 : cX4_x.data.toList.drop 0 = dktX4_x_0 := by decide +kernel
theorem dX4_x_0 : decode cX4_x 0 = .ok (.aload_n 1, 1) := dk_43 (dk_at dksX4_x_0 0 rfl rfl)
theorem dX4_x_1 : decode cX4_x 1 = .ok (.invokevirtual 15, 3) := dk_182 0 15 (dk_at dksX4_x_0 1 rfl rfl)
theorem dX4_x_4 : decode cX4_x 4 = .ok (.ifCond .eq 13, 3) := dk_153 0 13 (dk_at dksX4_x_0 4 rfl rfl)
theorem dX4_x_7 : decode cX4_x 7 = .ok (.bipush 16, 2) := dk_16 16 (dk_at dksX4_x_0 7 rfl rfl)
theorem dX4_x_9 : decode cX4_x 9 = .ok (.aload_n 1, 1) := dk_43 (dk_at dksX4_x_0 9 rfl rfl)
theorem dX4_x_10 : decode cX4_x 10 = .ok (.getfield 21, 3) := dk_180 0 21 (dk_at dksX4_x_0 10 rfl rfl)
theorem dX4_x_13 : decode cX4_x 13 = .ok (.imul, 1) := dk_104 (dk_at dksX4_x_0 13 rfl rfl)
theorem dX4_x_14 : decode cX4_x 14 = .ok (.goto 7, 3) := dk_167 0 7 (dk_at dksX4_x_0 14 rfl rfl)
theorem dX4_x_17 : decode cX4_x 17 = .ok (.aload_n 1, 1) := dk_43 (dk_at dksX4_x_0 17 rfl rfl)
theorem dX4_x_18 : decode cX4_x 18 = .ok (.getfield 25, 3) := dk_180 0 25 (dk_at dksX4_x_0 18 rfl rfl)
theorem dX4_x_21 : decode cX4_x 21 = .ok (.ireturn, 1) := dk_172 (dk_at dksX4_x_0 21 rfl rfl)
abbrev cX4_y : ByteArray := prog_3_method_3_code
def yX4_y : MethodName := ⟨RX4, "y", "(LCellRows$Cell;)I"⟩
def dkwX4_y_0 : List UInt8 := [43, 182, 0, 15, 153, 0, 13, 16, 16, 43, 180, 0, 28, 104, 167, 0, 7, 43, 180, 0, 31, 172]
abbrev dktX4_y_0 : List UInt8 := dkwX4_y_0 ++ []
theorem dksX4_y_0 : cX4_y.data.toList.drop 0 = dktX4_y_0 := by decide +kernel
theorem dX4_y_0 : decode cX4_y 0 = .ok (.aload_n 1, 1) := dk_43 (dk_at dksX4_y_0 0 rfl rfl)
theorem dX4_y_1 : decode cX4_y 1 = .ok (.invokevirtual 15, 3) := dk_182 0 15 (dk_at dksX4_y_0 1 rfl rfl)
theorem dX4_y_4 : decode cX4_y 4 = .ok (.ifCond .eq 13, 3) := dk_153 0 13 (dk_at dksX4_y_0 4 rfl rfl)
theorem dX4_y_7 : decode cX4_y 7 = .ok (.bipush 16, 2) := dk_16 16 (dk_at dksX4_y_0 7 rfl rfl)
theorem dX4_y_9 : decode cX4_y 9 = .ok (.aload_n 1, 1) := dk_43 (dk_at dksX4_y_0 9 rfl rfl)
theorem dX4_y_10 : decode cX4_y 10 = .ok (.getfield 28, 3) := dk_180 0 28 (dk_at dksX4_y_0 10 rfl rfl)
theorem dX4_y_13 : decode cX4_y 13 = .ok (.imul, 1) := dk_104 (dk_at dksX4_y_0 13 rfl rfl)
theorem dX4_y_14 : decode cX4_y 14 = .ok (.goto 7, 3) := dk_167 0 7 (dk_at dksX4_y_0 14 rfl rfl)
theorem dX4_y_17 : decode cX4_y 17 = .ok (.aload_n 1, 1) := dk_43 (dk_at dksX4_y_0 17 rfl rfl)
theorem dX4_y_18 : decode cX4_y 18 = .ok (.getfield 31, 3) := dk_180 0 31 (dk_at dksX4_y_0 18 rfl rfl)
theorem dX4_y_21 : decode cX4_y 21 = .ok (.ireturn, 1) := dk_172 (dk_at dksX4_y_0 21 rfl rfl)
theorem q140 : (Jvm.Cond.initialized "CellRows$2") ∈ lw_all := lw_g (lw_at lw_m1 4 rfl) rfl
theorem q189 : (Jvm.Cond.instantiable "CellRows$2" (2 : Nat)) ∈ lw_all := lw_g (lw_at lw_m1 53 rfl) rfl
theorem q191 : (Jvm.Cond.instanceMethod ({ cls := "CellRows$2", name := "<init>", desc := "(LCellRows;)V" } : Jvm.MethodName)) ∈ lw_all := lw_g (lw_at lw_m1 55 rfl) rfl
theorem q192 : (Jvm.Cond.code ({ cls := "CellRows$2", name := "<init>", desc := "(LCellRows;)V" } : Jvm.MethodName) prog_3_method_1_code (2 : Nat) (Option.none : Option Jvm.ClassFile.FieldType)) ∈ lw_all := lw_g (lw_at lw_m1 56 rfl) rfl
theorem q193 : (Jvm.Cond.methodLinkNest "CellRows$2" (9 : Nat) ({ cls := "CellRows$Places", name := "<init>", desc := "(LCellRows;)V" } : Jvm.MethodName) "CellRows") ∈ lw_tbl := lw_at lw_m1 57 rfl
theorem q194 : (Jvm.Cond.fieldLink "CellRows$2" (3 : Nat) "CellRows$2" "this$0" "LCellRows;") ∈ lw_all := lw_g (lw_at lw_m1 58 rfl) rfl
theorem q195 : (Jvm.Cond.laysFinal "CellRows$2" "CellRows$2" "this$0" "LCellRows;") ∈ lw_all := lw_g (lw_at lw_m1 59 rfl) rfl
theorem q196 : (Jvm.Cond.soleField "CellRows$2" "this$0") ∈ lw_all := lw_g (lw_at lw_m1 60 rfl) rfl
theorem q197 : (Jvm.Cond.laysFinal "CellRows$2" "CellRows$Places" "this$0" "LCellRows;") ∈ lw_all := lw_g (lw_at lw_m1 61 rfl) rfl
theorem q198 : (Jvm.Cond.superclass "CellRows$2" "CellRows$Places") ∈ lw_all := lw_g (lw_at lw_m1 62 rfl) rfl
theorem q238 : (Jvm.Cond.fieldLinkNest "CellRows$2" (25 : Nat) "CellRows$Cell" "x" "I" "CellRows") ∈ lw_tbl := lw_at lw_m1 102 rfl
theorem q244 : (Jvm.Cond.fieldLinkNest "CellRows$2" (31 : Nat) "CellRows$Cell" "y" "I" "CellRows") ∈ lw_tbl := lw_at lw_m1 108 rfl
theorem q249 : (Jvm.Cond.fieldLinkNest "CellRows$2" (28 : Nat) "CellRows$Cell" "row" "I" "CellRows") ∈ lw_tbl := lw_at lw_m1 113 rfl
theorem q253 : (Jvm.Cond.fieldLinkNest "CellRows$2" (21 : Nat) "CellRows$Cell" "site" "I" "CellRows") ∈ lw_tbl := lw_at lw_m1 117 rfl
theorem q705 : (Jvm.Cond.selects "CellRows$2" ({ cls := "CellRows$Places", name := "span", desc := "(LCellRows$Net;)I" } : Jvm.MethodName) ({ cls := "CellRows$Places", name := "span", desc := "(LCellRows$Net;)I" } : Jvm.MethodName)) ∈ lw_all := lw_g (lw_at lw_m3 89 rfl) rfl
theorem q711 : (Jvm.Cond.selects "CellRows$2" ({ cls := "CellRows$Places", name := "mostX", desc := "(LCellRows$Net;)I" } : Jvm.MethodName) ({ cls := "CellRows$Places", name := "mostX", desc := "(LCellRows$Net;)I" } : Jvm.MethodName)) ∈ lw_all := lw_g (lw_at lw_m3 95 rfl) rfl
theorem q717 : (Jvm.Cond.selects "CellRows$2" ({ cls := "CellRows$Places", name := "pinX", desc := "(LCellRows$Net;I)I" } : Jvm.MethodName) ({ cls := "CellRows$Places", name := "pinX", desc := "(LCellRows$Net;I)I" } : Jvm.MethodName)) ∈ lw_all := lw_g (lw_at lw_m3 101 rfl) rfl
theorem q729 : (Jvm.Cond.selects "CellRows$2" ({ cls := "CellRows$Places", name := "x", desc := "(LCellRows$Cell;)I" } : Jvm.MethodName) ({ cls := "CellRows$2", name := "x", desc := "(LCellRows$Cell;)I" } : Jvm.MethodName)) ∈ lw_all := lw_g (lw_at lw_m3 113 rfl) rfl
theorem q730 : (Jvm.Cond.instanceMethod ({ cls := "CellRows$2", name := "x", desc := "(LCellRows$Cell;)I" } : Jvm.MethodName)) ∈ lw_all := lw_g (lw_at lw_m3 114 rfl) rfl
theorem q731 : (Jvm.Cond.code ({ cls := "CellRows$2", name := "x", desc := "(LCellRows$Cell;)I" } : Jvm.MethodName) prog_3_method_2_code (2 : Nat) (Option.some Jvm.ClassFile.FieldType.int)) ∈ lw_all := lw_g (lw_at lw_m3 115 rfl) rfl
theorem q732 : (Jvm.Cond.methodLink "CellRows$2" (15 : Nat) ({ cls := "CellRows$Cell", name := "isOn", desc := "()Z" } : Jvm.MethodName)) ∈ lw_all := lw_g (lw_at lw_m3 116 rfl) rfl
theorem q738 : (Jvm.Cond.selects "CellRows$2" ({ cls := "CellRows$Places", name := "leastX", desc := "(LCellRows$Net;)I" } : Jvm.MethodName) ({ cls := "CellRows$Places", name := "leastX", desc := "(LCellRows$Net;)I" } : Jvm.MethodName)) ∈ lw_all := lw_g (lw_at lw_m3 122 rfl) rfl
theorem q746 : (Jvm.Cond.selects "CellRows$2" ({ cls := "CellRows$Places", name := "mostY", desc := "(LCellRows$Net;)I" } : Jvm.MethodName) ({ cls := "CellRows$Places", name := "mostY", desc := "(LCellRows$Net;)I" } : Jvm.MethodName)) ∈ lw_all := lw_g (lw_at lw_m3 130 rfl) rfl
theorem q752 : (Jvm.Cond.selects "CellRows$2" ({ cls := "CellRows$Places", name := "pinY", desc := "(LCellRows$Net;I)I" } : Jvm.MethodName) ({ cls := "CellRows$Places", name := "pinY", desc := "(LCellRows$Net;I)I" } : Jvm.MethodName)) ∈ lw_all := lw_g (lw_at lw_m3 136 rfl) rfl
theorem q760 : (Jvm.Cond.selects "CellRows$2" ({ cls := "CellRows$Places", name := "y", desc := "(LCellRows$Cell;)I" } : Jvm.MethodName) ({ cls := "CellRows$2", name := "y", desc := "(LCellRows$Cell;)I" } : Jvm.MethodName)) ∈ lw_all := lw_g (lw_at lw_m3 144 rfl) rfl
theorem q761 : (Jvm.Cond.instanceMethod ({ cls := "CellRows$2", name := "y", desc := "(LCellRows$Cell;)I" } : Jvm.MethodName)) ∈ lw_all := lw_g (lw_at lw_m3 145 rfl) rfl
theorem q762 : (Jvm.Cond.code ({ cls := "CellRows$2", name := "y", desc := "(LCellRows$Cell;)I" } : Jvm.MethodName) prog_3_method_3_code (2 : Nat) (Option.some Jvm.ClassFile.FieldType.int)) ∈ lw_all := lw_g (lw_at lw_m3 146 rfl) rfl
theorem q767 : (Jvm.Cond.selects "CellRows$2" ({ cls := "CellRows$Places", name := "leastY", desc := "(LCellRows$Net;)I" } : Jvm.MethodName) ({ cls := "CellRows$Places", name := "leastY", desc := "(LCellRows$Net;)I" } : Jvm.MethodName)) ∈ lw_all := lw_g (lw_at lw_m3 151 rfl) rfl
theorem q862 : (Jvm.Cond.selects "CellRows$2" ({ cls := "CellRows$Places", name := "smooth", desc := "(LCellRows$Net;)I" } : Jvm.MethodName) ({ cls := "CellRows$Places", name := "smooth", desc := "(LCellRows$Net;)I" } : Jvm.MethodName)) ∈ lw_all := lw_g (lw_at lw_m4 6 rfl) rfl
theorem q1012 : (Jvm.Cond.selects "CellRows$2" ({ cls := "java/lang/Object", name := "getClass", desc := "()Ljava/lang/Class;" } : Jvm.MethodName) ({ cls := "java/lang/Object", name := "getClass", desc := "()Ljava/lang/Class;" } : Jvm.MethodName)) ∈ lw_all := lw_g (lw_at lw_m4 156 rfl) rfl
theorem q2063 : (Jvm.Cond.castable "CellRows$2" "java/lang/Object") ∈ lw_tbl := lw_at lw_m9 7 rfl
theorem in_X4 : ∀ w ∈ wsX40, w ∈ lw_all := lw_in wsX40 [197, 195] (by decide +kernel) (by decide +kernel)
/-! CellRows$Chip -/
set_option maxRecDepth 100000
def RX5 : String := "CellRows$Chip"
def TX5 : u_T := fun k => match k with
  | 0 => ("CellRows$Chip", "cell", "[LCellRows$Cell;", true)
  | 1 => ("CellRows$Chip", "net", "[LCellRows$Net;", true)
  | 2 => ("CellRows$Chip", "block", "[LCellRows$Rect;", true)
  | 3 => ("CellRows$Chip", "fence", "[LCellRows$Rect;", true)
  | 4 => ("CellRows$Chip", "cells", "I", false)
  | 5 => ("CellRows$Chip", "nets", "I", false)
  | 6 => ("CellRows$Chip", "blocks", "I", false)
  | 7 => ("CellRows$Chip", "fences", "I", false)
  | _ => ("CellRows$Chip", "this$0", "LCellRows;", true)
def tyX5 : Nat → FieldType := fun k => match k with
  | 0 => .array (.object "CellRows$Cell")
  | 1 => .array (.object "CellRows$Net")
  | 2 => .array (.object "CellRows$Rect")
  | 3 => .array (.object "CellRows$Rect")
  | 4 => .int
  | 5 => .int
  | 6 => .int
  | 7 => .int
  | _ => .object "CellRows"
abbrev wsX50 : List Cond := u_ws RX5 TX5 9
theorem nmX5 : ∀ a, a < 9 → ∀ b, b < 9 → a ≠ b → (TX5 a).2.1 ≠ (TX5 b).2.1 := by decide +kernel
theorem tyX5_ok : ∀ k, k < 9 → parseFieldDescriptor (TX5 k).2.2.1 = some (tyX5 k) := by decide +kernel
abbrev cX5_init : ByteArray := prog_8_method_1_code
def yX5_init : MethodName := ⟨RX5, "<init>", "(LCellRows;)V"⟩
def dkwX5_init_6 : List UInt8 := [183, 0, 40, 83, 132, 2, 1, 167, 255, 235, 177]
abbrev dktX5_init_6 : List UInt8 := dkwX5_init_6 ++ []
def dkwX5_init_5 : List UInt8 := [132, 2, 1, 167, 255, 235, 3, 61, 28, 6, 162, 0, 22, 42, 180, 0, 33, 28, 187, 0, 27, 89]
abbrev dktX5_init_5 : List UInt8 := dkwX5_init_5 ++ dktX5_init_6
def dkwX5_init_4 : List UInt8 := [167, 255, 234, 3, 61, 28, 7, 162, 0, 22, 42, 180, 0, 29, 28, 187, 0, 27, 89, 183, 0, 40, 83]
abbrev dktX5_init_4 : List UInt8 := dkwX5_init_4 ++ dktX5_init_5
def dkwX5_init_3 : List UInt8 := [3, 61, 28, 16, 16, 162, 0, 22, 42, 180, 0, 23, 28, 187, 0, 21, 89, 183, 0, 39, 83, 132, 2, 1]
abbrev dktX5_init_3 : List UInt8 := dkwX5_init_3 ++ dktX5_init_4
def dkwX5_init_2 : List UInt8 := [162, 0, 24, 42, 180, 0, 17, 28, 187, 0, 15, 89, 43, 28, 183, 0, 36, 83, 132, 2, 1, 167, 255, 232]
abbrev dktX5_init_2 : List UInt8 := dkwX5_init_2 ++ dktX5_init_3
def dkwX5_init_1 : List UInt8 := [181, 0, 23, 42, 7, 189, 0, 27, 181, 0, 29, 42, 6, 189, 0, 27, 181, 0, 33, 3, 61, 28, 16, 20]
abbrev dktX5_init_1 : List UInt8 := dkwX5_init_1 ++ dktX5_init_2
def dkwX5_init_0 : List UInt8 := [42, 43, 181, 0, 3, 42, 183, 0, 9, 42, 16, 20, 189, 0, 15, 181, 0, 17, 42, 16, 16, 189, 0, 21]
abbrev dktX5_init_0 : List UInt8 := dkwX5_init_0 ++ dktX5_init_1
theorem dksX5_init_0 : cX5_init.data.toList.drop 0 = dktX5_init_0 := by decide +kernel
theorem dksX5_init_1 : cX5_init.data.toList.drop 24 = dktX5_init_1 := dk_seg dksX5_init_0 24 rfl rfl
theorem dksX5_init_2 : cX5_init.data.toList.drop 48 = dktX5_init_2 := dk_seg dksX5_init_1 24 rfl rfl
theorem dksX5_init_3 : cX5_init.data.toList.drop 72 = dktX5_init_3 := dk_seg dksX5_init_2 24 rfl rfl
theorem dksX5_init_4 : cX5_init.data.toList.drop 96 = dktX5_init_4 := dk_seg dksX5_init_3 24 rfl rfl
theorem dksX5_init_5 : cX5_init.data.toList.drop 119 = dktX5_init_5 := dk_seg dksX5_init_4 23 rfl rfl
theorem dksX5_init_6 : cX5_init.data.toList.drop 141 = dktX5_init_6 := dk_seg dksX5_init_5 22 rfl rfl
theorem dX5_init_0 : decode cX5_init 0 = .ok (.aload_n 0, 1) := dk_42 (dk_at dksX5_init_0 0 rfl rfl)
theorem dX5_init_1 : decode cX5_init 1 = .ok (.aload_n 1, 1) := dk_43 (dk_at dksX5_init_0 1 rfl rfl)
theorem dX5_init_2 : decode cX5_init 2 = .ok (.putfield 3, 3) := dk_181 0 3 (dk_at dksX5_init_0 2 rfl rfl)
theorem dX5_init_5 : decode cX5_init 5 = .ok (.aload_n 0, 1) := dk_42 (dk_at dksX5_init_0 5 rfl rfl)
theorem dX5_init_6 : decode cX5_init 6 = .ok (.invokespecial 9, 3) := dk_183 0 9 (dk_at dksX5_init_0 6 rfl rfl)
theorem dX5_init_9 : decode cX5_init 9 = .ok (.aload_n 0, 1) := dk_42 (dk_at dksX5_init_0 9 rfl rfl)
theorem dX5_init_10 : decode cX5_init 10 = .ok (.bipush 20, 2) := dk_16 20 (dk_at dksX5_init_0 10 rfl rfl)
theorem dX5_init_12 : decode cX5_init 12 = .ok (.anewarray 15, 3) := dk_189 0 15 (dk_at dksX5_init_0 12 rfl rfl)
theorem dX5_init_15 : decode cX5_init 15 = .ok (.putfield 17, 3) := dk_181 0 17 (dk_at dksX5_init_0 15 rfl rfl)
theorem dX5_init_18 : decode cX5_init 18 = .ok (.aload_n 0, 1) := dk_42 (dk_at dksX5_init_0 18 rfl rfl)
theorem dX5_init_19 : decode cX5_init 19 = .ok (.bipush 16, 2) := dk_16 16 (dk_at dksX5_init_0 19 rfl rfl)
theorem dX5_init_21 : decode cX5_init 21 = .ok (.anewarray 21, 3) := dk_189 0 21 (dk_at dksX5_init_0 21 rfl rfl)
theorem dX5_init_24 : decode cX5_init 24 = .ok (.putfield 23, 3) := dk_181 0 23 (dk_at dksX5_init_1 0 rfl rfl)
theorem dX5_init_27 : decode cX5_init 27 = .ok (.aload_n 0, 1) := dk_42 (dk_at dksX5_init_1 3 rfl rfl)
theorem dX5_init_28 : decode cX5_init 28 = .ok (.iconst 4, 1) := dk_7 (dk_at dksX5_init_1 4 rfl rfl)
theorem dX5_init_29 : decode cX5_init 29 = .ok (.anewarray 27, 3) := dk_189 0 27 (dk_at dksX5_init_1 5 rfl rfl)
theorem dX5_init_32 : decode cX5_init 32 = .ok (.putfield 29, 3) := dk_181 0 29 (dk_at dksX5_init_1 8 rfl rfl)
theorem dX5_init_35 : decode cX5_init 35 = .ok (.aload_n 0, 1) := dk_42 (dk_at dksX5_init_1 11 rfl rfl)
theorem dX5_init_36 : decode cX5_init 36 = .ok (.iconst 3, 1) := dk_6 (dk_at dksX5_init_1 12 rfl rfl)
theorem dX5_init_37 : decode cX5_init 37 = .ok (.anewarray 27, 3) := dk_189 0 27 (dk_at dksX5_init_1 13 rfl rfl)
theorem dX5_init_40 : decode cX5_init 40 = .ok (.putfield 33, 3) := dk_181 0 33 (dk_at dksX5_init_1 16 rfl rfl)
theorem dX5_init_43 : decode cX5_init 43 = .ok (.iconst 0, 1) := dk_3 (dk_at dksX5_init_1 19 rfl rfl)
theorem dX5_init_44 : decode cX5_init 44 = .ok (.istore_n 2, 1) := dk_61 (dk_at dksX5_init_1 20 rfl rfl)
theorem dX5_init_45 : decode cX5_init 45 = .ok (.iload_n 2, 1) := dk_28 (dk_at dksX5_init_1 21 rfl rfl)
theorem dX5_init_46 : decode cX5_init 46 = .ok (.bipush 20, 2) := dk_16 20 (dk_at dksX5_init_1 22 rfl rfl)
theorem dX5_init_48 : decode cX5_init 48 = .ok (.if_icmp .ge 24, 3) := dk_162 0 24 (dk_at dksX5_init_2 0 rfl rfl)
theorem dX5_init_51 : decode cX5_init 51 = .ok (.aload_n 0, 1) := dk_42 (dk_at dksX5_init_2 3 rfl rfl)
theorem dX5_init_52 : decode cX5_init 52 = .ok (.getfield 17, 3) := dk_180 0 17 (dk_at dksX5_init_2 4 rfl rfl)
theorem dX5_init_55 : decode cX5_init 55 = .ok (.iload_n 2, 1) := dk_28 (dk_at dksX5_init_2 7 rfl rfl)
theorem dX5_init_56 : decode cX5_init 56 = .ok (.new 15, 3) := dk_187 0 15 (dk_at dksX5_init_2 8 rfl rfl)
theorem dX5_init_59 : decode cX5_init 59 = .ok (.dup, 1) := dk_89 (dk_at dksX5_init_2 11 rfl rfl)
theorem dX5_init_60 : decode cX5_init 60 = .ok (.aload_n 1, 1) := dk_43 (dk_at dksX5_init_2 12 rfl rfl)
theorem dX5_init_61 : decode cX5_init 61 = .ok (.iload_n 2, 1) := dk_28 (dk_at dksX5_init_2 13 rfl rfl)
theorem dX5_init_62 : decode cX5_init 62 = .ok (.invokespecial 36, 3) := dk_183 0 36 (dk_at dksX5_init_2 14 rfl rfl)
theorem dX5_init_65 : decode cX5_init 65 = .ok (.aastore, 1) := dk_83 (dk_at dksX5_init_2 17 rfl rfl)
theorem dX5_init_66 : decode cX5_init 66 = .ok (.iinc 2 1, 3) := dk_132 2 1 (dk_at dksX5_init_2 18 rfl rfl)
theorem dX5_init_69 : decode cX5_init 69 = .ok (.goto (-24), 3) := dk_167 255 232 (dk_at dksX5_init_2 21 rfl rfl)
theorem dX5_init_72 : decode cX5_init 72 = .ok (.iconst 0, 1) := dk_3 (dk_at dksX5_init_3 0 rfl rfl)
theorem dX5_init_73 : decode cX5_init 73 = .ok (.istore_n 2, 1) := dk_61 (dk_at dksX5_init_3 1 rfl rfl)
theorem dX5_init_74 : decode cX5_init 74 = .ok (.iload_n 2, 1) := dk_28 (dk_at dksX5_init_3 2 rfl rfl)
theorem dX5_init_75 : decode cX5_init 75 = .ok (.bipush 16, 2) := dk_16 16 (dk_at dksX5_init_3 3 rfl rfl)
theorem dX5_init_77 : decode cX5_init 77 = .ok (.if_icmp .ge 22, 3) := dk_162 0 22 (dk_at dksX5_init_3 5 rfl rfl)
theorem dX5_init_80 : decode cX5_init 80 = .ok (.aload_n 0, 1) := dk_42 (dk_at dksX5_init_3 8 rfl rfl)
theorem dX5_init_81 : decode cX5_init 81 = .ok (.getfield 23, 3) := dk_180 0 23 (dk_at dksX5_init_3 9 rfl rfl)
theorem dX5_init_84 : decode cX5_init 84 = .ok (.iload_n 2, 1) := dk_28 (dk_at dksX5_init_3 12 rfl rfl)
theorem dX5_init_85 : decode cX5_init 85 = .ok (.new 21, 3) := dk_187 0 21 (dk_at dksX5_init_3 13 rfl rfl)
theorem dX5_init_88 : decode cX5_init 88 = .ok (.dup, 1) := dk_89 (dk_at dksX5_init_3 16 rfl rfl)
theorem dX5_init_89 : decode cX5_init 89 = .ok (.invokespecial 39, 3) := dk_183 0 39 (dk_at dksX5_init_3 17 rfl rfl)
theorem dX5_init_92 : decode cX5_init 92 = .ok (.aastore, 1) := dk_83 (dk_at dksX5_init_3 20 rfl rfl)
theorem dX5_init_93 : decode cX5_init 93 = .ok (.iinc 2 1, 3) := dk_132 2 1 (dk_at dksX5_init_3 21 rfl rfl)
theorem dX5_init_96 : decode cX5_init 96 = .ok (.goto (-22), 3) := dk_167 255 234 (dk_at dksX5_init_4 0 rfl rfl)
theorem dX5_init_99 : decode cX5_init 99 = .ok (.iconst 0, 1) := dk_3 (dk_at dksX5_init_4 3 rfl rfl)
theorem dX5_init_100 : decode cX5_init 100 = .ok (.istore_n 2, 1) := dk_61 (dk_at dksX5_init_4 4 rfl rfl)
theorem dX5_init_101 : decode cX5_init 101 = .ok (.iload_n 2, 1) := dk_28 (dk_at dksX5_init_4 5 rfl rfl)
theorem dX5_init_102 : decode cX5_init 102 = .ok (.iconst 4, 1) := dk_7 (dk_at dksX5_init_4 6 rfl rfl)
theorem dX5_init_103 : decode cX5_init 103 = .ok (.if_icmp .ge 22, 3) := dk_162 0 22 (dk_at dksX5_init_4 7 rfl rfl)
theorem dX5_init_106 : decode cX5_init 106 = .ok (.aload_n 0, 1) := dk_42 (dk_at dksX5_init_4 10 rfl rfl)
theorem dX5_init_107 : decode cX5_init 107 = .ok (.getfield 29, 3) := dk_180 0 29 (dk_at dksX5_init_4 11 rfl rfl)
theorem dX5_init_110 : decode cX5_init 110 = .ok (.iload_n 2, 1) := dk_28 (dk_at dksX5_init_4 14 rfl rfl)
theorem dX5_init_111 : decode cX5_init 111 = .ok (.new 27, 3) := dk_187 0 27 (dk_at dksX5_init_4 15 rfl rfl)
theorem dX5_init_114 : decode cX5_init 114 = .ok (.dup, 1) := dk_89 (dk_at dksX5_init_4 18 rfl rfl)
theorem dX5_init_115 : decode cX5_init 115 = .ok (.invokespecial 40, 3) := dk_183 0 40 (dk_at dksX5_init_4 19 rfl rfl)
theorem dX5_init_118 : decode cX5_init 118 = .ok (.aastore, 1) := dk_83 (dk_at dksX5_init_4 22 rfl rfl)
theorem dX5_init_119 : decode cX5_init 119 = .ok (.iinc 2 1, 3) := dk_132 2 1 (dk_at dksX5_init_5 0 rfl rfl)
theorem dX5_init_122 : decode cX5_init 122 = .ok (.goto (-21), 3) := dk_167 255 235 (dk_at dksX5_init_5 3 rfl rfl)
theorem dX5_init_125 : decode cX5_init 125 = .ok (.iconst 0, 1) := dk_3 (dk_at dksX5_init_5 6 rfl rfl)
theorem dX5_init_126 : decode cX5_init 126 = .ok (.istore_n 2, 1) := dk_61 (dk_at dksX5_init_5 7 rfl rfl)
theorem dX5_init_127 : decode cX5_init 127 = .ok (.iload_n 2, 1) := dk_28 (dk_at dksX5_init_5 8 rfl rfl)
theorem dX5_init_128 : decode cX5_init 128 = .ok (.iconst 3, 1) := dk_6 (dk_at dksX5_init_5 9 rfl rfl)
theorem dX5_init_129 : decode cX5_init 129 = .ok (.if_icmp .ge 22, 3) := dk_162 0 22 (dk_at dksX5_init_5 10 rfl rfl)
theorem dX5_init_132 : decode cX5_init 132 = .ok (.aload_n 0, 1) := dk_42 (dk_at dksX5_init_5 13 rfl rfl)
theorem dX5_init_133 : decode cX5_init 133 = .ok (.getfield 33, 3) := dk_180 0 33 (dk_at dksX5_init_5 14 rfl rfl)
theorem dX5_init_136 : decode cX5_init 136 = .ok (.iload_n 2, 1) := dk_28 (dk_at dksX5_init_5 17 rfl rfl)
theorem dX5_init_137 : decode cX5_init 137 = .ok (.new 27, 3) := dk_187 0 27 (dk_at dksX5_init_5 18 rfl rfl)
theorem dX5_init_140 : decode cX5_init 140 = .ok (.dup, 1) := dk_89 (dk_at dksX5_init_5 21 rfl rfl)
theorem dX5_init_141 : decode cX5_init 141 = .ok (.invokespecial 40, 3) := dk_183 0 40 (dk_at dksX5_init_6 0 rfl rfl)
theorem dX5_init_144 : decode cX5_init 144 = .ok (.aastore, 1) := dk_83 (dk_at dksX5_init_6 3 rfl rfl)
theorem dX5_init_145 : decode cX5_init 145 = .ok (.iinc 2 1, 3) := dk_132 2 1 (dk_at dksX5_init_6 4 rfl rfl)
theorem dX5_init_148 : decode cX5_init 148 = .ok (.goto (-21), 3) := dk_167 255 235 (dk_at dksX5_init_6 7 rfl rfl)
theorem dX5_init_151 : decode cX5_init 151 = .ok (.return_, 1) := dk_177 (dk_at dksX5_init_6 10 rfl rfl)
abbrev cX5_takes : ByteArray := prog_8_method_2_code
def yX5_takes : MethodName := ⟨RX5, "takes", "(LCellRows$Chip;)LCellRows$Chip;"⟩
def dkwX5_takes_6 : List UInt8 := [50, 43, 180, 0, 33, 28, 50, 182, 0, 61, 132, 2, 1, 167, 255, 230, 42, 176]
abbrev dktX5_takes_6 : List UInt8 := dkwX5_takes_6 ++ []
def dkwX5_takes_5 : List UInt8 := [182, 0, 61, 132, 2, 1, 167, 255, 230, 3, 61, 28, 42, 180, 0, 51, 162, 0, 24, 42, 180, 0, 33, 28]
abbrev dktX5_takes_5 : List UInt8 := dkwX5_takes_5 ++ dktX5_takes_6
def dkwX5_takes_4 : List UInt8 := [3, 61, 28, 42, 180, 0, 48, 162, 0, 24, 42, 180, 0, 29, 28, 50, 43, 180, 0, 29, 28, 50]
abbrev dktX5_takes_4 : List UInt8 := dkwX5_takes_4 ++ dktX5_takes_5
def dkwX5_takes_3 : List UInt8 := [162, 0, 24, 42, 180, 0, 23, 28, 50, 43, 180, 0, 23, 28, 50, 182, 0, 58, 132, 2, 1, 167, 255, 230]
abbrev dktX5_takes_3 : List UInt8 := dkwX5_takes_3 ++ dktX5_takes_4
def dkwX5_takes_2 : List UInt8 := [43, 180, 0, 17, 28, 50, 182, 0, 54, 132, 2, 1, 167, 255, 230, 3, 61, 28, 42, 180, 0, 45]
abbrev dktX5_takes_2 : List UInt8 := dkwX5_takes_2 ++ dktX5_takes_3
def dkwX5_takes_1 : List UInt8 := [42, 43, 180, 0, 51, 181, 0, 51, 3, 61, 28, 42, 180, 0, 41, 162, 0, 24, 42, 180, 0, 17, 28, 50]
abbrev dktX5_takes_1 : List UInt8 := dkwX5_takes_1 ++ dktX5_takes_2
def dkwX5_takes_0 : List UInt8 := [42, 43, 180, 0, 41, 181, 0, 41, 42, 43, 180, 0, 45, 181, 0, 45, 42, 43, 180, 0, 48, 181, 0, 48]
abbrev dktX5_takes_0 : List UInt8 := dkwX5_takes_0 ++ dktX5_takes_1
theorem dksX5_takes_0 : cX5_takes.data.toList.drop 0 = dktX5_takes_0 := by decide +kernel
theorem dksX5_takes_1 : cX5_takes.data.toList.drop 24 = dktX5_takes_1 := dk_seg dksX5_takes_0 24 rfl rfl
theorem dksX5_takes_2 : cX5_takes.data.toList.drop 48 = dktX5_takes_2 := dk_seg dksX5_takes_1 24 rfl rfl
theorem dksX5_takes_3 : cX5_takes.data.toList.drop 70 = dktX5_takes_3 := dk_seg dksX5_takes_2 22 rfl rfl
theorem dksX5_takes_4 : cX5_takes.data.toList.drop 94 = dktX5_takes_4 := dk_seg dksX5_takes_3 24 rfl rfl
theorem dksX5_takes_5 : cX5_takes.data.toList.drop 116 = dktX5_takes_5 := dk_seg dksX5_takes_4 22 rfl rfl
theorem dksX5_takes_6 : cX5_takes.data.toList.drop 140 = dktX5_takes_6 := dk_seg dksX5_takes_5 24 rfl rfl
theorem dX5_takes_0 : decode cX5_takes 0 = .ok (.aload_n 0, 1) := dk_42 (dk_at dksX5_takes_0 0 rfl rfl)
theorem dX5_takes_1 : decode cX5_takes 1 = .ok (.aload_n 1, 1) := dk_43 (dk_at dksX5_takes_0 1 rfl rfl)
theorem dX5_takes_2 : decode cX5_takes 2 = .ok (.getfield 41, 3) := dk_180 0 41 (dk_at dksX5_takes_0 2 rfl rfl)
theorem dX5_takes_5 : decode cX5_takes 5 = .ok (.putfield 41, 3) := dk_181 0 41 (dk_at dksX5_takes_0 5 rfl rfl)
theorem dX5_takes_8 : decode cX5_takes 8 = .ok (.aload_n 0, 1) := dk_42 (dk_at dksX5_takes_0 8 rfl rfl)
theorem dX5_takes_9 : decode cX5_takes 9 = .ok (.aload_n 1, 1) := dk_43 (dk_at dksX5_takes_0 9 rfl rfl)
theorem dX5_takes_10 : decode cX5_takes 10 = .ok (.getfield 45, 3) := dk_180 0 45 (dk_at dksX5_takes_0 10 rfl rfl)
theorem dX5_takes_13 : decode cX5_takes 13 = .ok (.putfield 45, 3) := dk_181 0 45 (dk_at dksX5_takes_0 13 rfl rfl)
theorem dX5_takes_16 : decode cX5_takes 16 = .ok (.aload_n 0, 1) := dk_42 (dk_at dksX5_takes_0 16 rfl rfl)
theorem dX5_takes_17 : decode cX5_takes 17 = .ok (.aload_n 1, 1) := dk_43 (dk_at dksX5_takes_0 17 rfl rfl)
theorem dX5_takes_18 : decode cX5_takes 18 = .ok (.getfield 48, 3) := dk_180 0 48 (dk_at dksX5_takes_0 18 rfl rfl)
theorem dX5_takes_21 : decode cX5_takes 21 = .ok (.putfield 48, 3) := dk_181 0 48 (dk_at dksX5_takes_0 21 rfl rfl)
theorem dX5_takes_24 : decode cX5_takes 24 = .ok (.aload_n 0, 1) := dk_42 (dk_at dksX5_takes_1 0 rfl rfl)
theorem dX5_takes_25 : decode cX5_takes 25 = .ok (.aload_n 1, 1) := dk_43 (dk_at dksX5_takes_1 1 rfl rfl)
theorem dX5_takes_26 : decode cX5_takes 26 = .ok (.getfield 51, 3) := dk_180 0 51 (dk_at dksX5_takes_1 2 rfl rfl)
theorem dX5_takes_29 : decode cX5_takes 29 = .ok (.putfield 51, 3) := dk_181 0 51 (dk_at dksX5_takes_1 5 rfl rfl)
theorem dX5_takes_32 : decode cX5_takes 32 = .ok (.iconst 0, 1) := dk_3 (dk_at dksX5_takes_1 8 rfl rfl)
theorem dX5_takes_33 : decode cX5_takes 33 = .ok (.istore_n 2, 1) := dk_61 (dk_at dksX5_takes_1 9 rfl rfl)
theorem dX5_takes_34 : decode cX5_takes 34 = .ok (.iload_n 2, 1) := dk_28 (dk_at dksX5_takes_1 10 rfl rfl)
theorem dX5_takes_35 : decode cX5_takes 35 = .ok (.aload_n 0, 1) := dk_42 (dk_at dksX5_takes_1 11 rfl rfl)
theorem dX5_takes_36 : decode cX5_takes 36 = .ok (.getfield 41, 3) := dk_180 0 41 (dk_at dksX5_takes_1 12 rfl rfl)
theorem dX5_takes_39 : decode cX5_takes 39 = .ok (.if_icmp .ge 24, 3) := dk_162 0 24 (dk_at dksX5_takes_1 15 rfl rfl)
theorem dX5_takes_42 : decode cX5_takes 42 = .ok (.aload_n 0, 1) := dk_42 (dk_at dksX5_takes_1 18 rfl rfl)
theorem dX5_takes_43 : decode cX5_takes 43 = .ok (.getfield 17, 3) := dk_180 0 17 (dk_at dksX5_takes_1 19 rfl rfl)
theorem dX5_takes_46 : decode cX5_takes 46 = .ok (.iload_n 2, 1) := dk_28 (dk_at dksX5_takes_1 22 rfl rfl)
theorem dX5_takes_47 : decode cX5_takes 47 = .ok (.aaload, 1) := dk_50 (dk_at dksX5_takes_1 23 rfl rfl)
theorem dX5_takes_48 : decode cX5_takes 48 = .ok (.aload_n 1, 1) := dk_43 (dk_at dksX5_takes_2 0 rfl rfl)
theorem dX5_takes_49 : decode cX5_takes 49 = .ok (.getfield 17, 3) := dk_180 0 17 (dk_at dksX5_takes_2 1 rfl rfl)
theorem dX5_takes_52 : decode cX5_takes 52 = .ok (.iload_n 2, 1) := dk_28 (dk_at dksX5_takes_2 4 rfl rfl)
theorem dX5_takes_53 : decode cX5_takes 53 = .ok (.aaload, 1) := dk_50 (dk_at dksX5_takes_2 5 rfl rfl)
theorem dX5_takes_54 : decode cX5_takes 54 = .ok (.invokevirtual 54, 3) := dk_182 0 54 (dk_at dksX5_takes_2 6 rfl rfl)
theorem dX5_takes_57 : decode cX5_takes 57 = .ok (.iinc 2 1, 3) := dk_132 2 1 (dk_at dksX5_takes_2 9 rfl rfl)
theorem dX5_takes_60 : decode cX5_takes 60 = .ok (.goto (-26), 3) := dk_167 255 230 (dk_at dksX5_takes_2 12 rfl rfl)
theorem dX5_takes_63 : decode cX5_takes 63 = .ok (.iconst 0, 1) := dk_3 (dk_at dksX5_takes_2 15 rfl rfl)
theorem dX5_takes_64 : decode cX5_takes 64 = .ok (.istore_n 2, 1) := dk_61 (dk_at dksX5_takes_2 16 rfl rfl)
theorem dX5_takes_65 : decode cX5_takes 65 = .ok (.iload_n 2, 1) := dk_28 (dk_at dksX5_takes_2 17 rfl rfl)
theorem dX5_takes_66 : decode cX5_takes 66 = .ok (.aload_n 0, 1) := dk_42 (dk_at dksX5_takes_2 18 rfl rfl)
theorem dX5_takes_67 : decode cX5_takes 67 = .ok (.getfield 45, 3) := dk_180 0 45 (dk_at dksX5_takes_2 19 rfl rfl)
theorem dX5_takes_70 : decode cX5_takes 70 = .ok (.if_icmp .ge 24, 3) := dk_162 0 24 (dk_at dksX5_takes_3 0 rfl rfl)
theorem dX5_takes_73 : decode cX5_takes 73 = .ok (.aload_n 0, 1) := dk_42 (dk_at dksX5_takes_3 3 rfl rfl)
theorem dX5_takes_74 : decode cX5_takes 74 = .ok (.getfield 23, 3) := dk_180 0 23 (dk_at dksX5_takes_3 4 rfl rfl)
theorem dX5_takes_77 : decode cX5_takes 77 = .ok (.iload_n 2, 1) := dk_28 (dk_at dksX5_takes_3 7 rfl rfl)
theorem dX5_takes_78 : decode cX5_takes 78 = .ok (.aaload, 1) := dk_50 (dk_at dksX5_takes_3 8 rfl rfl)
theorem dX5_takes_79 : decode cX5_takes 79 = .ok (.aload_n 1, 1) := dk_43 (dk_at dksX5_takes_3 9 rfl rfl)
theorem dX5_takes_80 : decode cX5_takes 80 = .ok (.getfield 23, 3) := dk_180 0 23 (dk_at dksX5_takes_3 10 rfl rfl)
theorem dX5_takes_83 : decode cX5_takes 83 = .ok (.iload_n 2, 1) := dk_28 (dk_at dksX5_takes_3 13 rfl rfl)
theorem dX5_takes_84 : decode cX5_takes 84 = .ok (.aaload, 1) := dk_50 (dk_at dksX5_takes_3 14 rfl rfl)
theorem dX5_takes_85 : decode cX5_takes 85 = .ok (.invokevirtual 58, 3) := dk_182 0 58 (dk_at dksX5_takes_3 15 rfl rfl)
theorem dX5_takes_88 : decode cX5_takes 88 = .ok (.iinc 2 1, 3) := dk_132 2 1 (dk_at dksX5_takes_3 18 rfl rfl)
theorem dX5_takes_91 : decode cX5_takes 91 = .ok (.goto (-26), 3) := dk_167 255 230 (dk_at dksX5_takes_3 21 rfl rfl)
theorem dX5_takes_94 : decode cX5_takes 94 = .ok (.iconst 0, 1) := dk_3 (dk_at dksX5_takes_4 0 rfl rfl)
theorem dX5_takes_95 : decode cX5_takes 95 = .ok (.istore_n 2, 1) := dk_61 (dk_at dksX5_takes_4 1 rfl rfl)
theorem dX5_takes_96 : decode cX5_takes 96 = .ok (.iload_n 2, 1) := dk_28 (dk_at dksX5_takes_4 2 rfl rfl)
theorem dX5_takes_97 : decode cX5_takes 97 = .ok (.aload_n 0, 1) := dk_42 (dk_at dksX5_takes_4 3 rfl rfl)
theorem dX5_takes_98 : decode cX5_takes 98 = .ok (.getfield 48, 3) := dk_180 0 48 (dk_at dksX5_takes_4 4 rfl rfl)
theorem dX5_takes_101 : decode cX5_takes 101 = .ok (.if_icmp .ge 24, 3) := dk_162 0 24 (dk_at dksX5_takes_4 7 rfl rfl)
theorem dX5_takes_104 : decode cX5_takes 104 = .ok (.aload_n 0, 1) := dk_42 (dk_at dksX5_takes_4 10 rfl rfl)
theorem dX5_takes_105 : decode cX5_takes 105 = .ok (.getfield 29, 3) := dk_180 0 29 (dk_at dksX5_takes_4 11 rfl rfl)
theorem dX5_takes_108 : decode cX5_takes 108 = .ok (.iload_n 2, 1) := dk_28 (dk_at dksX5_takes_4 14 rfl rfl)
theorem dX5_takes_109 : decode cX5_takes 109 = .ok (.aaload, 1) := dk_50 (dk_at dksX5_takes_4 15 rfl rfl)
theorem dX5_takes_110 : decode cX5_takes 110 = .ok (.aload_n 1, 1) := dk_43 (dk_at dksX5_takes_4 16 rfl rfl)
theorem dX5_takes_111 : decode cX5_takes 111 = .ok (.getfield 29, 3) := dk_180 0 29 (dk_at dksX5_takes_4 17 rfl rfl)
theorem dX5_takes_114 : decode cX5_takes 114 = .ok (.iload_n 2, 1) := dk_28 (dk_at dksX5_takes_4 20 rfl rfl)
theorem dX5_takes_115 : decode cX5_takes 115 = .ok (.aaload, 1) := dk_50 (dk_at dksX5_takes_4 21 rfl rfl)
theorem dX5_takes_116 : decode cX5_takes 116 = .ok (.invokevirtual 61, 3) := dk_182 0 61 (dk_at dksX5_takes_5 0 rfl rfl)
theorem dX5_takes_119 : decode cX5_takes 119 = .ok (.iinc 2 1, 3) := dk_132 2 1 (dk_at dksX5_takes_5 3 rfl rfl)
theorem dX5_takes_122 : decode cX5_takes 122 = .ok (.goto (-26), 3) := dk_167 255 230 (dk_at dksX5_takes_5 6 rfl rfl)
theorem dX5_takes_125 : decode cX5_takes 125 = .ok (.iconst 0, 1) := dk_3 (dk_at dksX5_takes_5 9 rfl rfl)
theorem dX5_takes_126 : decode cX5_takes 126 = .ok (.istore_n 2, 1) := dk_61 (dk_at dksX5_takes_5 10 rfl rfl)
theorem dX5_takes_127 : decode cX5_takes 127 = .ok (.iload_n 2, 1) := dk_28 (dk_at dksX5_takes_5 11 rfl rfl)
theorem dX5_takes_128 : decode cX5_takes 128 = .ok (.aload_n 0, 1) := dk_42 (dk_at dksX5_takes_5 12 rfl rfl)
theorem dX5_takes_129 : decode cX5_takes 129 = .ok (.getfield 51, 3) := dk_180 0 51 (dk_at dksX5_takes_5 13 rfl rfl)
theorem dX5_takes_132 : decode cX5_takes 132 = .ok (.if_icmp .ge 24, 3) := dk_162 0 24 (dk_at dksX5_takes_5 16 rfl rfl)
theorem dX5_takes_135 : decode cX5_takes 135 = .ok (.aload_n 0, 1) := dk_42 (dk_at dksX5_takes_5 19 rfl rfl)
theorem dX5_takes_136 : decode cX5_takes 136 = .ok (.getfield 33, 3) := dk_180 0 33 (dk_at dksX5_takes_5 20 rfl rfl)
theorem dX5_takes_139 : decode cX5_takes 139 = .ok (.iload_n 2, 1) := dk_28 (dk_at dksX5_takes_5 23 rfl rfl)
theorem dX5_takes_140 : decode cX5_takes 140 = .ok (.aaload, 1) := dk_50 (dk_at dksX5_takes_6 0 rfl rfl)
theorem dX5_takes_141 : decode cX5_takes 141 = .ok (.aload_n 1, 1) := dk_43 (dk_at dksX5_takes_6 1 rfl rfl)
theorem dX5_takes_142 : decode cX5_takes 142 = .ok (.getfield 33, 3) := dk_180 0 33 (dk_at dksX5_takes_6 2 rfl rfl)
theorem dX5_takes_145 : decode cX5_takes 145 = .ok (.iload_n 2, 1) := dk_28 (dk_at dksX5_takes_6 5 rfl rfl)
theorem dX5_takes_146 : decode cX5_takes 146 = .ok (.aaload, 1) := dk_50 (dk_at dksX5_takes_6 6 rfl rfl)
theorem dX5_takes_147 : decode cX5_takes 147 = .ok (.invokevirtual 61, 3) := dk_182 0 61 (dk_at dksX5_takes_6 7 rfl rfl)
theorem dX5_takes_150 : decode cX5_takes 150 = .ok (.iinc 2 1, 3) := dk_132 2 1 (dk_at dksX5_takes_6 10 rfl rfl)
theorem dX5_takes_153 : decode cX5_takes 153 = .ok (.goto (-26), 3) := dk_167 255 230 (dk_at dksX5_takes_6 13 rfl rfl)
theorem dX5_takes_156 : decode cX5_takes 156 = .ok (.aload_n 0, 1) := dk_42 (dk_at dksX5_takes_6 16 rfl rfl)
theorem dX5_takes_157 : decode cX5_takes 157 = .ok (.areturn, 1) := dk_176 (dk_at dksX5_takes_6 17 rfl rfl)
abbrev cX5_isFixedAt : ByteArray := prog_8_method_5_code
def yX5_isFixedAt : MethodName := ⟨RX5, "isFixedAt", "(II)Z"⟩
def dkwX5_isFixedAt_1 : List UInt8 := [180, 0, 17, 29, 50, 27, 28, 182, 0, 75, 153, 0, 5, 4, 172, 132, 3, 1, 167, 255, 217, 3, 172]
abbrev dktX5_isFixedAt_1 : List UInt8 := dkwX5_isFixedAt_1 ++ []
def dkwX5_isFixedAt_0 : List UInt8 := [3, 62, 29, 42, 180, 0, 41, 162, 0, 37, 42, 180, 0, 17, 29, 50, 180, 0, 71, 153, 0, 19, 42]
abbrev dktX5_isFixedAt_0 : List UInt8 := dkwX5_isFixedAt_0 ++ dktX5_isFixedAt_1
theorem dksX5_isFixedAt_0 : cX5_isFixedAt.data.toList.drop 0 = dktX5_isFixedAt_0 := by decide +kernel
theorem dksX5_isFixedAt_1 : cX5_isFixedAt.data.toList.drop 23 = dktX5_isFixedAt_1 := dk_seg dksX5_isFixedAt_0 23 rfl rfl
theorem dX5_isFixedAt_0 : decode cX5_isFixedAt 0 = .ok (.iconst 0, 1) := dk_3 (dk_at dksX5_isFixedAt_0 0 rfl rfl)
theorem dX5_isFixedAt_1 : decode cX5_isFixedAt 1 = .ok (.istore_n 3, 1) := dk_62 (dk_at dksX5_isFixedAt_0 1 rfl rfl)
theorem dX5_isFixedAt_2 : decode cX5_isFixedAt 2 = .ok (.iload_n 3, 1) := dk_29 (dk_at dksX5_isFixedAt_0 2 rfl rfl)
theorem dX5_isFixedAt_3 : decode cX5_isFixedAt 3 = .ok (.aload_n 0, 1) := dk_42 (dk_at dksX5_isFixedAt_0 3 rfl rfl)
theorem dX5_isFixedAt_4 : decode cX5_isFixedAt 4 = .ok (.getfield 41, 3) := dk_180 0 41 (dk_at dksX5_isFixedAt_0 4 rfl rfl)
theorem dX5_isFixedAt_7 : decode cX5_isFixedAt 7 = .ok (.if_icmp .ge 37, 3) := dk_162 0 37 (dk_at dksX5_isFixedAt_0 7 rfl rfl)
theorem dX5_isFixedAt_10 : decode cX5_isFixedAt 10 = .ok (.aload_n 0, 1) := dk_42 (dk_at dksX5_isFixedAt_0 10 rfl rfl)
theorem dX5_isFixedAt_11 : decode cX5_isFixedAt 11 = .ok (.getfield 17, 3) := dk_180 0 17 (dk_at dksX5_isFixedAt_0 11 rfl rfl)
theorem dX5_isFixedAt_14 : decode cX5_isFixedAt 14 = .ok (.iload_n 3, 1) := dk_29 (dk_at dksX5_isFixedAt_0 14 rfl rfl)
theorem dX5_isFixedAt_15 : decode cX5_isFixedAt 15 = .ok (.aaload, 1) := dk_50 (dk_at dksX5_isFixedAt_0 15 rfl rfl)
theorem dX5_isFixedAt_16 : decode cX5_isFixedAt 16 = .ok (.getfield 71, 3) := dk_180 0 71 (dk_at dksX5_isFixedAt_0 16 rfl rfl)
theorem dX5_isFixedAt_19 : decode cX5_isFixedAt 19 = .ok (.ifCond .eq 19, 3) := dk_153 0 19 (dk_at dksX5_isFixedAt_0 19 rfl rfl)
theorem dX5_isFixedAt_22 : decode cX5_isFixedAt 22 = .ok (.aload_n 0, 1) := dk_42 (dk_at dksX5_isFixedAt_0 22 rfl rfl)
theorem dX5_isFixedAt_23 : decode cX5_isFixedAt 23 = .ok (.getfield 17, 3) := dk_180 0 17 (dk_at dksX5_isFixedAt_1 0 rfl rfl)
theorem dX5_isFixedAt_26 : decode cX5_isFixedAt 26 = .ok (.iload_n 3, 1) := dk_29 (dk_at dksX5_isFixedAt_1 3 rfl rfl)
theorem dX5_isFixedAt_27 : decode cX5_isFixedAt 27 = .ok (.aaload, 1) := dk_50 (dk_at dksX5_isFixedAt_1 4 rfl rfl)
theorem dX5_isFixedAt_28 : decode cX5_isFixedAt 28 = .ok (.iload_n 1, 1) := dk_27 (dk_at dksX5_isFixedAt_1 5 rfl rfl)
theorem dX5_isFixedAt_29 : decode cX5_isFixedAt 29 = .ok (.iload_n 2, 1) := dk_28 (dk_at dksX5_isFixedAt_1 6 rfl rfl)
theorem dX5_isFixedAt_30 : decode cX5_isFixedAt 30 = .ok (.invokevirtual 75, 3) := dk_182 0 75 (dk_at dksX5_isFixedAt_1 7 rfl rfl)
theorem dX5_isFixedAt_33 : decode cX5_isFixedAt 33 = .ok (.ifCond .eq 5, 3) := dk_153 0 5 (dk_at dksX5_isFixedAt_1 10 rfl rfl)
theorem dX5_isFixedAt_36 : decode cX5_isFixedAt 36 = .ok (.iconst 1, 1) := dk_4 (dk_at dksX5_isFixedAt_1 13 rfl rfl)
theorem dX5_isFixedAt_37 : decode cX5_isFixedAt 37 = .ok (.ireturn, 1) := dk_172 (dk_at dksX5_isFixedAt_1 14 rfl rfl)
theorem dX5_isFixedAt_38 : decode cX5_isFixedAt 38 = .ok (.iinc 3 1, 3) := dk_132 3 1 (dk_at dksX5_isFixedAt_1 15 rfl rfl)
theorem dX5_isFixedAt_41 : decode cX5_isFixedAt 41 = .ok (.goto (-39), 3) := dk_167 255 217 (dk_at dksX5_isFixedAt_1 18 rfl rfl)
theorem dX5_isFixedAt_44 : decode cX5_isFixedAt 44 = .ok (.iconst 0, 1) := dk_3 (dk_at dksX5_isFixedAt_1 21 rfl rfl)
theorem dX5_isFixedAt_45 : decode cX5_isFixedAt 45 = .ok (.ireturn, 1) := dk_172 (dk_at dksX5_isFixedAt_1 22 rfl rfl)
abbrev cX5_losesUnlawful : ByteArray := prog_8_method_9_code
def yX5_losesUnlawful : MethodName := ⟨RX5, "losesUnlawful", "()V"⟩
def dkwX5_losesUnlawful_2 : List UInt8 := [182, 0, 113, 154, 0, 12, 42, 180, 0, 17, 27, 50, 182, 0, 117, 132, 1, 1, 167, 255, 192, 177]
abbrev dktX5_losesUnlawful_2 : List UInt8 := dkwX5_losesUnlawful_2 ++ []
def dkwX5_losesUnlawful_1 : List UInt8 := [180, 0, 17, 27, 50, 42, 180, 0, 17, 27, 50, 180, 0, 107, 42, 180, 0, 17, 27, 50, 180, 0, 110, 4]
abbrev dktX5_losesUnlawful_1 : List UInt8 := dkwX5_losesUnlawful_1 ++ dktX5_losesUnlawful_2
def dkwX5_losesUnlawful_0 : List UInt8 := [3, 60, 27, 42, 180, 0, 41, 162, 0, 62, 42, 180, 0, 17, 27, 50, 182, 0, 103, 153, 0, 44, 42, 42]
abbrev dktX5_losesUnlawful_0 : List UInt8 := dkwX5_losesUnlawful_0 ++ dktX5_losesUnlawful_1
theorem dksX5_losesUnlawful_0 : cX5_losesUnlawful.data.toList.drop 0 = dktX5_losesUnlawful_0 := by decide +kernel
theorem dksX5_losesUnlawful_1 : cX5_losesUnlawful.data.toList.drop 24 = dktX5_losesUnlawful_1 := dk_seg dksX5_losesUnlawful_0 24 rfl rfl
theorem dksX5_losesUnlawful_2 : cX5_losesUnlawful.data.toList.drop 48 = dktX5_losesUnlawful_2 := dk_seg dksX5_losesUnlawful_1 24 rfl rfl
theorem dX5_losesUnlawful_0 : decode cX5_losesUnlawful 0 = .ok (.iconst 0, 1) := dk_3 (dk_at dksX5_losesUnlawful_0 0 rfl rfl)
theorem dX5_losesUnlawful_1 : decode cX5_losesUnlawful 1 = .ok (.istore_n 1, 1) := dk_60 (dk_at dksX5_losesUnlawful_0 1 rfl rfl)
theorem dX5_losesUnlawful_2 : decode cX5_losesUnlawful 2 = .ok (.iload_n 1, 1) := dk_27 (dk_at dksX5_losesUnlawful_0 2 rfl rfl)
theorem dX5_losesUnlawful_3 : decode cX5_losesUnlawful 3 = .ok (.aload_n 0, 1) := dk_42 (dk_at dksX5_losesUnlawful_0 3 rfl rfl)
theorem dX5_losesUnlawful_4 : decode cX5_losesUnlawful 4 = .ok (.getfield 41, 3) := dk_180 0 41 (dk_at dksX5_losesUnlawful_0 4 rfl rfl)
theorem dX5_losesUnlawful_7 : decode cX5_losesUnlawful 7 = .ok (.if_icmp .ge 62, 3) := dk_162 0 62 (dk_at dksX5_losesUnlawful_0 7 rfl rfl)
theorem dX5_losesUnlawful_10 : decode cX5_losesUnlawful 10 = .ok (.aload_n 0, 1) := dk_42 (dk_at dksX5_losesUnlawful_0 10 rfl rfl)
theorem dX5_losesUnlawful_11 : decode cX5_losesUnlawful 11 = .ok (.getfield 17, 3) := dk_180 0 17 (dk_at dksX5_losesUnlawful_0 11 rfl rfl)
theorem dX5_losesUnlawful_14 : decode cX5_losesUnlawful 14 = .ok (.iload_n 1, 1) := dk_27 (dk_at dksX5_losesUnlawful_0 14 rfl rfl)
theorem dX5_losesUnlawful_15 : decode cX5_losesUnlawful 15 = .ok (.aaload, 1) := dk_50 (dk_at dksX5_losesUnlawful_0 15 rfl rfl)
theorem dX5_losesUnlawful_16 : decode cX5_losesUnlawful 16 = .ok (.invokevirtual 103, 3) := dk_182 0 103 (dk_at dksX5_losesUnlawful_0 16 rfl rfl)
theorem dX5_losesUnlawful_19 : decode cX5_losesUnlawful 19 = .ok (.ifCond .eq 44, 3) := dk_153 0 44 (dk_at dksX5_losesUnlawful_0 19 rfl rfl)
theorem dX5_losesUnlawful_22 : decode cX5_losesUnlawful 22 = .ok (.aload_n 0, 1) := dk_42 (dk_at dksX5_losesUnlawful_0 22 rfl rfl)
theorem dX5_losesUnlawful_23 : decode cX5_losesUnlawful 23 = .ok (.aload_n 0, 1) := dk_42 (dk_at dksX5_losesUnlawful_0 23 rfl rfl)
theorem dX5_losesUnlawful_24 : decode cX5_losesUnlawful 24 = .ok (.getfield 17, 3) := dk_180 0 17 (dk_at dksX5_losesUnlawful_1 0 rfl rfl)
theorem dX5_losesUnlawful_27 : decode cX5_losesUnlawful 27 = .ok (.iload_n 1, 1) := dk_27 (dk_at dksX5_losesUnlawful_1 3 rfl rfl)
theorem dX5_losesUnlawful_28 : decode cX5_losesUnlawful 28 = .ok (.aaload, 1) := dk_50 (dk_at dksX5_losesUnlawful_1 4 rfl rfl)
theorem dX5_losesUnlawful_29 : decode cX5_losesUnlawful 29 = .ok (.aload_n 0, 1) := dk_42 (dk_at dksX5_losesUnlawful_1 5 rfl rfl)
theorem dX5_losesUnlawful_30 : decode cX5_losesUnlawful 30 = .ok (.getfield 17, 3) := dk_180 0 17 (dk_at dksX5_losesUnlawful_1 6 rfl rfl)
theorem dX5_losesUnlawful_33 : decode cX5_losesUnlawful 33 = .ok (.iload_n 1, 1) := dk_27 (dk_at dksX5_losesUnlawful_1 9 rfl rfl)
theorem dX5_losesUnlawful_34 : decode cX5_losesUnlawful 34 = .ok (.aaload, 1) := dk_50 (dk_at dksX5_losesUnlawful_1 10 rfl rfl)
theorem dX5_losesUnlawful_35 : decode cX5_losesUnlawful 35 = .ok (.getfield 107, 3) := dk_180 0 107 (dk_at dksX5_losesUnlawful_1 11 rfl rfl)
theorem dX5_losesUnlawful_38 : decode cX5_losesUnlawful 38 = .ok (.aload_n 0, 1) := dk_42 (dk_at dksX5_losesUnlawful_1 14 rfl rfl)
theorem dX5_losesUnlawful_39 : decode cX5_losesUnlawful 39 = .ok (.getfield 17, 3) := dk_180 0 17 (dk_at dksX5_losesUnlawful_1 15 rfl rfl)
theorem dX5_losesUnlawful_42 : decode cX5_losesUnlawful 42 = .ok (.iload_n 1, 1) := dk_27 (dk_at dksX5_losesUnlawful_1 18 rfl rfl)
theorem dX5_losesUnlawful_43 : decode cX5_losesUnlawful 43 = .ok (.aaload, 1) := dk_50 (dk_at dksX5_losesUnlawful_1 19 rfl rfl)
theorem dX5_losesUnlawful_44 : decode cX5_losesUnlawful 44 = .ok (.getfield 110, 3) := dk_180 0 110 (dk_at dksX5_losesUnlawful_1 20 rfl rfl)
theorem dX5_losesUnlawful_47 : decode cX5_losesUnlawful 47 = .ok (.iconst 1, 1) := dk_4 (dk_at dksX5_losesUnlawful_1 23 rfl rfl)
theorem dX5_losesUnlawful_48 : decode cX5_losesUnlawful 48 = .ok (.invokevirtual 113, 3) := dk_182 0 113 (dk_at dksX5_losesUnlawful_2 0 rfl rfl)
theorem dX5_losesUnlawful_51 : decode cX5_losesUnlawful 51 = .ok (.ifCond .ne 12, 3) := dk_154 0 12 (dk_at dksX5_losesUnlawful_2 3 rfl rfl)
theorem dX5_losesUnlawful_54 : decode cX5_losesUnlawful 54 = .ok (.aload_n 0, 1) := dk_42 (dk_at dksX5_losesUnlawful_2 6 rfl rfl)
theorem dX5_losesUnlawful_55 : decode cX5_losesUnlawful 55 = .ok (.getfield 17, 3) := dk_180 0 17 (dk_at dksX5_losesUnlawful_2 7 rfl rfl)
theorem dX5_losesUnlawful_58 : decode cX5_losesUnlawful 58 = .ok (.iload_n 1, 1) := dk_27 (dk_at dksX5_losesUnlawful_2 10 rfl rfl)
theorem dX5_losesUnlawful_59 : decode cX5_losesUnlawful 59 = .ok (.aaload, 1) := dk_50 (dk_at dksX5_losesUnlawful_2 11 rfl rfl)
theorem dX5_losesUnlawful_60 : decode cX5_losesUnlawful 60 = .ok (.invokevirtual 117, 3) := dk_182 0 117 (dk_at dksX5_losesUnlawful_2 12 rfl rfl)
theorem dX5_losesUnlawful_63 : decode cX5_losesUnlawful 63 = .ok (.iinc 1 1, 3) := dk_132 1 1 (dk_at dksX5_losesUnlawful_2 15 rfl rfl)
theorem dX5_losesUnlawful_66 : decode cX5_losesUnlawful 66 = .ok (.goto (-64), 3) := dk_167 255 192 (dk_at dksX5_losesUnlawful_2 18 rfl rfl)
theorem dX5_losesUnlawful_69 : decode cX5_losesUnlawful 69 = .ok (.return_, 1) := dk_177 (dk_at dksX5_losesUnlawful_2 21 rfl rfl)
abbrev cX5_isLawful : ByteArray := prog_8_method_8_code
def yX5_isLawful : MethodName := ⟨RX5, "isLawful", "(LCellRows$Cell;IIZ)Z"⟩
def dkwX5_isLawful_6 : List UInt8 := [132, 6, 1, 167, 255, 197, 132, 5, 1, 167, 255, 151, 4, 172]
abbrev dktX5_isLawful_6 : List UInt8 := dkwX5_isLawful_6 ++ []
def dkwX5_isLawful_5 : List UInt8 := [153, 0, 23, 21, 4, 154, 0, 16, 42, 180, 0, 17, 21, 6, 50, 180, 0, 71, 153, 0, 5, 3, 172]
abbrev dktX5_isLawful_5 : List UInt8 := dkwX5_isLawful_5 ++ dktX5_isLawful_6
def dkwX5_isLawful_4 : List UInt8 := [180, 0, 17, 21, 6, 50, 43, 165, 0, 39, 42, 180, 0, 17, 21, 6, 50, 28, 21, 5, 182, 0, 75]
abbrev dktX5_isLawful_4 : List UInt8 := dkwX5_isLawful_4 ++ dktX5_isLawful_5
def dkwX5_isLawful_3 : List UInt8 := [43, 180, 0, 101, 159, 0, 5, 3, 172, 3, 54, 6, 21, 6, 42, 180, 0, 41, 162, 0, 56, 42]
abbrev dktX5_isLawful_3 : List UInt8 := dkwX5_isLawful_3 ++ dktX5_isLawful_4
def dkwX5_isLawful_2 : List UInt8 := [180, 0, 98, 96, 162, 0, 100, 42, 28, 21, 5, 182, 0, 78, 154, 0, 17, 42, 28, 21, 5, 182, 0, 81]
abbrev dktX5_isLawful_2 : List UInt8 := dkwX5_isLawful_2 ++ dktX5_isLawful_3
def dkwX5_isLawful_1 : List UInt8 := [180, 0, 95, 43, 180, 0, 98, 100, 184, 0, 91, 154, 0, 5, 3, 172, 29, 54, 5, 21, 5, 29, 43]
abbrev dktX5_isLawful_1 : List UInt8 := dkwX5_isLawful_1 ++ dktX5_isLawful_2
def dkwX5_isLawful_0 : List UInt8 := [28, 3, 42, 180, 0, 3, 180, 0, 88, 4, 100, 184, 0, 91, 153, 0, 23, 29, 3, 42, 180, 0, 3]
abbrev dktX5_isLawful_0 : List UInt8 := dkwX5_isLawful_0 ++ dktX5_isLawful_1
theorem dksX5_isLawful_0 : cX5_isLawful.data.toList.drop 0 = dktX5_isLawful_0 := by decide +kernel
theorem dksX5_isLawful_1 : cX5_isLawful.data.toList.drop 23 = dktX5_isLawful_1 := dk_seg dksX5_isLawful_0 23 rfl rfl
theorem dksX5_isLawful_2 : cX5_isLawful.data.toList.drop 46 = dktX5_isLawful_2 := dk_seg dksX5_isLawful_1 23 rfl rfl
theorem dksX5_isLawful_3 : cX5_isLawful.data.toList.drop 70 = dktX5_isLawful_3 := dk_seg dksX5_isLawful_2 24 rfl rfl
theorem dksX5_isLawful_4 : cX5_isLawful.data.toList.drop 92 = dktX5_isLawful_4 := dk_seg dksX5_isLawful_3 22 rfl rfl
theorem dksX5_isLawful_5 : cX5_isLawful.data.toList.drop 115 = dktX5_isLawful_5 := dk_seg dksX5_isLawful_4 23 rfl rfl
theorem dksX5_isLawful_6 : cX5_isLawful.data.toList.drop 138 = dktX5_isLawful_6 := dk_seg dksX5_isLawful_5 23 rfl rfl
theorem dX5_isLawful_0 : decode cX5_isLawful 0 = .ok (.iload_n 2, 1) := dk_28 (dk_at dksX5_isLawful_0 0 rfl rfl)
theorem dX5_isLawful_1 : decode cX5_isLawful 1 = .ok (.iconst 0, 1) := dk_3 (dk_at dksX5_isLawful_0 1 rfl rfl)
theorem dX5_isLawful_2 : decode cX5_isLawful 2 = .ok (.aload_n 0, 1) := dk_42 (dk_at dksX5_isLawful_0 2 rfl rfl)
theorem dX5_isLawful_3 : decode cX5_isLawful 3 = .ok (.getfield 3, 3) := dk_180 0 3 (dk_at dksX5_isLawful_0 3 rfl rfl)
theorem dX5_isLawful_6 : decode cX5_isLawful 6 = .ok (.getfield 88, 3) := dk_180 0 88 (dk_at dksX5_isLawful_0 6 rfl rfl)
theorem dX5_isLawful_9 : decode cX5_isLawful 9 = .ok (.iconst 1, 1) := dk_4 (dk_at dksX5_isLawful_0 9 rfl rfl)
theorem dX5_isLawful_10 : decode cX5_isLawful 10 = .ok (.isub, 1) := dk_100 (dk_at dksX5_isLawful_0 10 rfl rfl)
theorem dX5_isLawful_11 : decode cX5_isLawful 11 = .ok (.invokestatic 91, 3) := dk_184 0 91 (dk_at dksX5_isLawful_0 11 rfl rfl)
theorem dX5_isLawful_14 : decode cX5_isLawful 14 = .ok (.ifCond .eq 23, 3) := dk_153 0 23 (dk_at dksX5_isLawful_0 14 rfl rfl)
theorem dX5_isLawful_17 : decode cX5_isLawful 17 = .ok (.iload_n 3, 1) := dk_29 (dk_at dksX5_isLawful_0 17 rfl rfl)
theorem dX5_isLawful_18 : decode cX5_isLawful 18 = .ok (.iconst 0, 1) := dk_3 (dk_at dksX5_isLawful_0 18 rfl rfl)
theorem dX5_isLawful_19 : decode cX5_isLawful 19 = .ok (.aload_n 0, 1) := dk_42 (dk_at dksX5_isLawful_0 19 rfl rfl)
theorem dX5_isLawful_20 : decode cX5_isLawful 20 = .ok (.getfield 3, 3) := dk_180 0 3 (dk_at dksX5_isLawful_0 20 rfl rfl)
theorem dX5_isLawful_23 : decode cX5_isLawful 23 = .ok (.getfield 95, 3) := dk_180 0 95 (dk_at dksX5_isLawful_1 0 rfl rfl)
theorem dX5_isLawful_26 : decode cX5_isLawful 26 = .ok (.aload_n 1, 1) := dk_43 (dk_at dksX5_isLawful_1 3 rfl rfl)
theorem dX5_isLawful_27 : decode cX5_isLawful 27 = .ok (.getfield 98, 3) := dk_180 0 98 (dk_at dksX5_isLawful_1 4 rfl rfl)
theorem dX5_isLawful_30 : decode cX5_isLawful 30 = .ok (.isub, 1) := dk_100 (dk_at dksX5_isLawful_1 7 rfl rfl)
theorem dX5_isLawful_31 : decode cX5_isLawful 31 = .ok (.invokestatic 91, 3) := dk_184 0 91 (dk_at dksX5_isLawful_1 8 rfl rfl)
theorem dX5_isLawful_34 : decode cX5_isLawful 34 = .ok (.ifCond .ne 5, 3) := dk_154 0 5 (dk_at dksX5_isLawful_1 11 rfl rfl)
theorem dX5_isLawful_37 : decode cX5_isLawful 37 = .ok (.iconst 0, 1) := dk_3 (dk_at dksX5_isLawful_1 14 rfl rfl)
theorem dX5_isLawful_38 : decode cX5_isLawful 38 = .ok (.ireturn, 1) := dk_172 (dk_at dksX5_isLawful_1 15 rfl rfl)
theorem dX5_isLawful_39 : decode cX5_isLawful 39 = .ok (.iload_n 3, 1) := dk_29 (dk_at dksX5_isLawful_1 16 rfl rfl)
theorem dX5_isLawful_40 : decode cX5_isLawful 40 = .ok (.istore 5, 2) := dk_54 5 (dk_at dksX5_isLawful_1 17 rfl rfl)
theorem dX5_isLawful_42 : decode cX5_isLawful 42 = .ok (.iload 5, 2) := dk_21 5 (dk_at dksX5_isLawful_1 19 rfl rfl)
theorem dX5_isLawful_44 : decode cX5_isLawful 44 = .ok (.iload_n 3, 1) := dk_29 (dk_at dksX5_isLawful_1 21 rfl rfl)
theorem dX5_isLawful_45 : decode cX5_isLawful 45 = .ok (.aload_n 1, 1) := dk_43 (dk_at dksX5_isLawful_1 22 rfl rfl)
theorem dX5_isLawful_46 : decode cX5_isLawful 46 = .ok (.getfield 98, 3) := dk_180 0 98 (dk_at dksX5_isLawful_2 0 rfl rfl)
theorem dX5_isLawful_49 : decode cX5_isLawful 49 = .ok (.iadd, 1) := dk_96 (dk_at dksX5_isLawful_2 3 rfl rfl)
theorem dX5_isLawful_50 : decode cX5_isLawful 50 = .ok (.if_icmp .ge 100, 3) := dk_162 0 100 (dk_at dksX5_isLawful_2 4 rfl rfl)
theorem dX5_isLawful_53 : decode cX5_isLawful 53 = .ok (.aload_n 0, 1) := dk_42 (dk_at dksX5_isLawful_2 7 rfl rfl)
theorem dX5_isLawful_54 : decode cX5_isLawful 54 = .ok (.iload_n 2, 1) := dk_28 (dk_at dksX5_isLawful_2 8 rfl rfl)
theorem dX5_isLawful_55 : decode cX5_isLawful 55 = .ok (.iload 5, 2) := dk_21 5 (dk_at dksX5_isLawful_2 9 rfl rfl)
theorem dX5_isLawful_57 : decode cX5_isLawful 57 = .ok (.invokevirtual 78, 3) := dk_182 0 78 (dk_at dksX5_isLawful_2 11 rfl rfl)
theorem dX5_isLawful_60 : decode cX5_isLawful 60 = .ok (.ifCond .ne 17, 3) := dk_154 0 17 (dk_at dksX5_isLawful_2 14 rfl rfl)
theorem dX5_isLawful_63 : decode cX5_isLawful 63 = .ok (.aload_n 0, 1) := dk_42 (dk_at dksX5_isLawful_2 17 rfl rfl)
theorem dX5_isLawful_64 : decode cX5_isLawful 64 = .ok (.iload_n 2, 1) := dk_28 (dk_at dksX5_isLawful_2 18 rfl rfl)
theorem dX5_isLawful_65 : decode cX5_isLawful 65 = .ok (.iload 5, 2) := dk_21 5 (dk_at dksX5_isLawful_2 19 rfl rfl)
theorem dX5_isLawful_67 : decode cX5_isLawful 67 = .ok (.invokevirtual 81, 3) := dk_182 0 81 (dk_at dksX5_isLawful_2 21 rfl rfl)
theorem dX5_isLawful_70 : decode cX5_isLawful 70 = .ok (.aload_n 1, 1) := dk_43 (dk_at dksX5_isLawful_3 0 rfl rfl)
theorem dX5_isLawful_71 : decode cX5_isLawful 71 = .ok (.getfield 101, 3) := dk_180 0 101 (dk_at dksX5_isLawful_3 1 rfl rfl)
theorem dX5_isLawful_74 : decode cX5_isLawful 74 = .ok (.if_icmp .eq 5, 3) := dk_159 0 5 (dk_at dksX5_isLawful_3 4 rfl rfl)
theorem dX5_isLawful_77 : decode cX5_isLawful 77 = .ok (.iconst 0, 1) := dk_3 (dk_at dksX5_isLawful_3 7 rfl rfl)
theorem dX5_isLawful_78 : decode cX5_isLawful 78 = .ok (.ireturn, 1) := dk_172 (dk_at dksX5_isLawful_3 8 rfl rfl)
theorem dX5_isLawful_79 : decode cX5_isLawful 79 = .ok (.iconst 0, 1) := dk_3 (dk_at dksX5_isLawful_3 9 rfl rfl)
theorem dX5_isLawful_80 : decode cX5_isLawful 80 = .ok (.istore 6, 2) := dk_54 6 (dk_at dksX5_isLawful_3 10 rfl rfl)
theorem dX5_isLawful_82 : decode cX5_isLawful 82 = .ok (.iload 6, 2) := dk_21 6 (dk_at dksX5_isLawful_3 12 rfl rfl)
theorem dX5_isLawful_84 : decode cX5_isLawful 84 = .ok (.aload_n 0, 1) := dk_42 (dk_at dksX5_isLawful_3 14 rfl rfl)
theorem dX5_isLawful_85 : decode cX5_isLawful 85 = .ok (.getfield 41, 3) := dk_180 0 41 (dk_at dksX5_isLawful_3 15 rfl rfl)
theorem dX5_isLawful_88 : decode cX5_isLawful 88 = .ok (.if_icmp .ge 56, 3) := dk_162 0 56 (dk_at dksX5_isLawful_3 18 rfl rfl)
theorem dX5_isLawful_91 : decode cX5_isLawful 91 = .ok (.aload_n 0, 1) := dk_42 (dk_at dksX5_isLawful_3 21 rfl rfl)
theorem dX5_isLawful_92 : decode cX5_isLawful 92 = .ok (.getfield 17, 3) := dk_180 0 17 (dk_at dksX5_isLawful_4 0 rfl rfl)
theorem dX5_isLawful_95 : decode cX5_isLawful 95 = .ok (.iload 6, 2) := dk_21 6 (dk_at dksX5_isLawful_4 3 rfl rfl)
theorem dX5_isLawful_97 : decode cX5_isLawful 97 = .ok (.aaload, 1) := dk_50 (dk_at dksX5_isLawful_4 5 rfl rfl)
theorem dX5_isLawful_98 : decode cX5_isLawful 98 = .ok (.aload_n 1, 1) := dk_43 (dk_at dksX5_isLawful_4 6 rfl rfl)
theorem dX5_isLawful_99 : decode cX5_isLawful 99 = .ok (.if_acmp .eq 39, 3) := dk_165 0 39 (dk_at dksX5_isLawful_4 7 rfl rfl)
theorem dX5_isLawful_102 : decode cX5_isLawful 102 = .ok (.aload_n 0, 1) := dk_42 (dk_at dksX5_isLawful_4 10 rfl rfl)
theorem dX5_isLawful_103 : decode cX5_isLawful 103 = .ok (.getfield 17, 3) := dk_180 0 17 (dk_at dksX5_isLawful_4 11 rfl rfl)
theorem dX5_isLawful_106 : decode cX5_isLawful 106 = .ok (.iload 6, 2) := dk_21 6 (dk_at dksX5_isLawful_4 14 rfl rfl)
theorem dX5_isLawful_108 : decode cX5_isLawful 108 = .ok (.aaload, 1) := dk_50 (dk_at dksX5_isLawful_4 16 rfl rfl)
theorem dX5_isLawful_109 : decode cX5_isLawful 109 = .ok (.iload_n 2, 1) := dk_28 (dk_at dksX5_isLawful_4 17 rfl rfl)
theorem dX5_isLawful_110 : decode cX5_isLawful 110 = .ok (.iload 5, 2) := dk_21 5 (dk_at dksX5_isLawful_4 18 rfl rfl)
theorem dX5_isLawful_112 : decode cX5_isLawful 112 = .ok (.invokevirtual 75, 3) := dk_182 0 75 (dk_at dksX5_isLawful_4 20 rfl rfl)
theorem dX5_isLawful_115 : decode cX5_isLawful 115 = .ok (.ifCond .eq 23, 3) := dk_153 0 23 (dk_at dksX5_isLawful_5 0 rfl rfl)
theorem dX5_isLawful_118 : decode cX5_isLawful 118 = .ok (.iload 4, 2) := dk_21 4 (dk_at dksX5_isLawful_5 3 rfl rfl)
theorem dX5_isLawful_120 : decode cX5_isLawful 120 = .ok (.ifCond .ne 16, 3) := dk_154 0 16 (dk_at dksX5_isLawful_5 5 rfl rfl)
theorem dX5_isLawful_123 : decode cX5_isLawful 123 = .ok (.aload_n 0, 1) := dk_42 (dk_at dksX5_isLawful_5 8 rfl rfl)
theorem dX5_isLawful_124 : decode cX5_isLawful 124 = .ok (.getfield 17, 3) := dk_180 0 17 (dk_at dksX5_isLawful_5 9 rfl rfl)
theorem dX5_isLawful_127 : decode cX5_isLawful 127 = .ok (.iload 6, 2) := dk_21 6 (dk_at dksX5_isLawful_5 12 rfl rfl)
theorem dX5_isLawful_129 : decode cX5_isLawful 129 = .ok (.aaload, 1) := dk_50 (dk_at dksX5_isLawful_5 14 rfl rfl)
theorem dX5_isLawful_130 : decode cX5_isLawful 130 = .ok (.getfield 71, 3) := dk_180 0 71 (dk_at dksX5_isLawful_5 15 rfl rfl)
theorem dX5_isLawful_133 : decode cX5_isLawful 133 = .ok (.ifCond .eq 5, 3) := dk_153 0 5 (dk_at dksX5_isLawful_5 18 rfl rfl)
theorem dX5_isLawful_136 : decode cX5_isLawful 136 = .ok (.iconst 0, 1) := dk_3 (dk_at dksX5_isLawful_5 21 rfl rfl)
theorem dX5_isLawful_137 : decode cX5_isLawful 137 = .ok (.ireturn, 1) := dk_172 (dk_at dksX5_isLawful_5 22 rfl rfl)
theorem dX5_isLawful_138 : decode cX5_isLawful 138 = .ok (.iinc 6 1, 3) := dk_132 6 1 (dk_at dksX5_isLawful_6 0 rfl rfl)
theorem dX5_isLawful_141 : decode cX5_isLawful 141 = .ok (.goto (-59), 3) := dk_167 255 197 (dk_at dksX5_isLawful_6 3 rfl rfl)
theorem dX5_isLawful_144 : decode cX5_isLawful 144 = .ok (.iinc 5 1, 3) := dk_132 5 1 (dk_at dksX5_isLawful_6 6 rfl rfl)
theorem dX5_isLawful_147 : decode cX5_isLawful 147 = .ok (.goto (-105), 3) := dk_167 255 151 (dk_at dksX5_isLawful_6 9 rfl rfl)
theorem dX5_isLawful_150 : decode cX5_isLawful 150 = .ok (.iconst 1, 1) := dk_4 (dk_at dksX5_isLawful_6 12 rfl rfl)
theorem dX5_isLawful_151 : decode cX5_isLawful 151 = .ok (.ireturn, 1) := dk_172 (dk_at dksX5_isLawful_6 13 rfl rfl)
abbrev cX5_isBarred : ByteArray := prog_8_method_3_code
def yX5_isBarred : MethodName := ⟨RX5, "isBarred", "(II)Z"⟩
def dkwX5_isBarred_1 : List UInt8 := [4, 172, 132, 3, 1, 167, 255, 229, 3, 172]
abbrev dktX5_isBarred_1 : List UInt8 := dkwX5_isBarred_1 ++ []
def dkwX5_isBarred_0 : List UInt8 := [3, 62, 29, 42, 180, 0, 48, 162, 0, 25, 42, 180, 0, 29, 29, 50, 27, 28, 182, 0, 64, 153, 0, 5]
abbrev dktX5_isBarred_0 : List UInt8 := dkwX5_isBarred_0 ++ dktX5_isBarred_1
theorem dksX5_isBarred_0 : cX5_isBarred.data.toList.drop 0 = dktX5_isBarred_0 := by decide +kernel
theorem dksX5_isBarred_1 : cX5_isBarred.data.toList.drop 24 = dktX5_isBarred_1 := dk_seg dksX5_isBarred_0 24 rfl rfl
theorem dX5_isBarred_0 : decode cX5_isBarred 0 = .ok (.iconst 0, 1) := dk_3 (dk_at dksX5_isBarred_0 0 rfl rfl)
theorem dX5_isBarred_1 : decode cX5_isBarred 1 = .ok (.istore_n 3, 1) := dk_62 (dk_at dksX5_isBarred_0 1 rfl rfl)
theorem dX5_isBarred_2 : decode cX5_isBarred 2 = .ok (.iload_n 3, 1) := dk_29 (dk_at dksX5_isBarred_0 2 rfl rfl)
theorem dX5_isBarred_3 : decode cX5_isBarred 3 = .ok (.aload_n 0, 1) := dk_42 (dk_at dksX5_isBarred_0 3 rfl rfl)
theorem dX5_isBarred_4 : decode cX5_isBarred 4 = .ok (.getfield 48, 3) := dk_180 0 48 (dk_at dksX5_isBarred_0 4 rfl rfl)
theorem dX5_isBarred_7 : decode cX5_isBarred 7 = .ok (.if_icmp .ge 25, 3) := dk_162 0 25 (dk_at dksX5_isBarred_0 7 rfl rfl)
theorem dX5_isBarred_10 : decode cX5_isBarred 10 = .ok (.aload_n 0, 1) := dk_42 (dk_at dksX5_isBarred_0 10 rfl rfl)
theorem dX5_isBarred_11 : decode cX5_isBarred 11 = .ok (.getfield 29, 3) := dk_180 0 29 (dk_at dksX5_isBarred_0 11 rfl rfl)
theorem dX5_isBarred_14 : decode cX5_isBarred 14 = .ok (.iload_n 3, 1) := dk_29 (dk_at dksX5_isBarred_0 14 rfl rfl)
theorem dX5_isBarred_15 : decode cX5_isBarred 15 = .ok (.aaload, 1) := dk_50 (dk_at dksX5_isBarred_0 15 rfl rfl)
theorem dX5_isBarred_16 : decode cX5_isBarred 16 = .ok (.iload_n 1, 1) := dk_27 (dk_at dksX5_isBarred_0 16 rfl rfl)
theorem dX5_isBarred_17 : decode cX5_isBarred 17 = .ok (.iload_n 2, 1) := dk_28 (dk_at dksX5_isBarred_0 17 rfl rfl)
theorem dX5_isBarred_18 : decode cX5_isBarred 18 = .ok (.invokevirtual 64, 3) := dk_182 0 64 (dk_at dksX5_isBarred_0 18 rfl rfl)
theorem dX5_isBarred_21 : decode cX5_isBarred 21 = .ok (.ifCond .eq 5, 3) := dk_153 0 5 (dk_at dksX5_isBarred_0 21 rfl rfl)
theorem dX5_isBarred_24 : decode cX5_isBarred 24 = .ok (.iconst 1, 1) := dk_4 (dk_at dksX5_isBarred_1 0 rfl rfl)
theorem dX5_isBarred_25 : decode cX5_isBarred 25 = .ok (.ireturn, 1) := dk_172 (dk_at dksX5_isBarred_1 1 rfl rfl)
theorem dX5_isBarred_26 : decode cX5_isBarred 26 = .ok (.iinc 3 1, 3) := dk_132 3 1 (dk_at dksX5_isBarred_1 2 rfl rfl)
theorem dX5_isBarred_29 : decode cX5_isBarred 29 = .ok (.goto (-27), 3) := dk_167 255 229 (dk_at dksX5_isBarred_1 5 rfl rfl)
theorem dX5_isBarred_32 : decode cX5_isBarred 32 = .ok (.iconst 0, 1) := dk_3 (dk_at dksX5_isBarred_1 8 rfl rfl)
theorem dX5_isBarred_33 : decode cX5_isBarred 33 = .ok (.ireturn, 1) := dk_172 (dk_at dksX5_isBarred_1 9 rfl rfl)
abbrev cX5_fenceAt : ByteArray := prog_8_method_4_code
def yX5_fenceAt : MethodName := ⟨RX5, "fenceAt", "(II)I"⟩
def dkwX5_fenceAt_1 : List UInt8 := [29, 172, 132, 3, 1, 167, 255, 229, 2, 172]
abbrev dktX5_fenceAt_1 : List UInt8 := dkwX5_fenceAt_1 ++ []
def dkwX5_fenceAt_0 : List UInt8 := [3, 62, 29, 42, 180, 0, 51, 162, 0, 25, 42, 180, 0, 33, 29, 50, 27, 28, 182, 0, 68, 153, 0, 5]
abbrev dktX5_fenceAt_0 : List UInt8 := dkwX5_fenceAt_0 ++ dktX5_fenceAt_1
theorem dksX5_fenceAt_0 : cX5_fenceAt.data.toList.drop 0 = dktX5_fenceAt_0 := by decide +kernel
theorem dksX5_fenceAt_1 : cX5_fenceAt.data.toList.drop 24 = dktX5_fenceAt_1 := dk_seg dksX5_fenceAt_0 24 rfl rfl
theorem dX5_fenceAt_0 : decode cX5_fenceAt 0 = .ok (.iconst 0, 1) := dk_3 (dk_at dksX5_fenceAt_0 0 rfl rfl)
theorem dX5_fenceAt_1 : decode cX5_fenceAt 1 = .ok (.istore_n 3, 1) := dk_62 (dk_at dksX5_fenceAt_0 1 rfl rfl)
theorem dX5_fenceAt_2 : decode cX5_fenceAt 2 = .ok (.iload_n 3, 1) := dk_29 (dk_at dksX5_fenceAt_0 2 rfl rfl)
theorem dX5_fenceAt_3 : decode cX5_fenceAt 3 = .ok (.aload_n 0, 1) := dk_42 (dk_at dksX5_fenceAt_0 3 rfl rfl)
theorem dX5_fenceAt_4 : decode cX5_fenceAt 4 = .ok (.getfield 51, 3) := dk_180 0 51 (dk_at dksX5_fenceAt_0 4 rfl rfl)
theorem dX5_fenceAt_7 : decode cX5_fenceAt 7 = .ok (.if_icmp .ge 25, 3) := dk_162 0 25 (dk_at dksX5_fenceAt_0 7 rfl rfl)
theorem dX5_fenceAt_10 : decode cX5_fenceAt 10 = .ok (.aload_n 0, 1) := dk_42 (dk_at dksX5_fenceAt_0 10 rfl rfl)
theorem dX5_fenceAt_11 : decode cX5_fenceAt 11 = .ok (.getfield 33, 3) := dk_180 0 33 (dk_at dksX5_fenceAt_0 11 rfl rfl)
theorem dX5_fenceAt_14 : decode cX5_fenceAt 14 = .ok (.iload_n 3, 1) := dk_29 (dk_at dksX5_fenceAt_0 14 rfl rfl)
theorem dX5_fenceAt_15 : decode cX5_fenceAt 15 = .ok (.aaload, 1) := dk_50 (dk_at dksX5_fenceAt_0 15 rfl rfl)
theorem dX5_fenceAt_16 : decode cX5_fenceAt 16 = .ok (.iload_n 1, 1) := dk_27 (dk_at dksX5_fenceAt_0 16 rfl rfl)
theorem dX5_fenceAt_17 : decode cX5_fenceAt 17 = .ok (.iload_n 2, 1) := dk_28 (dk_at dksX5_fenceAt_0 17 rfl rfl)
theorem dX5_fenceAt_18 : decode cX5_fenceAt 18 = .ok (.invokevirtual 68, 3) := dk_182 0 68 (dk_at dksX5_fenceAt_0 18 rfl rfl)
theorem dX5_fenceAt_21 : decode cX5_fenceAt 21 = .ok (.ifCond .eq 5, 3) := dk_153 0 5 (dk_at dksX5_fenceAt_0 21 rfl rfl)
theorem dX5_fenceAt_24 : decode cX5_fenceAt 24 = .ok (.iload_n 3, 1) := dk_29 (dk_at dksX5_fenceAt_1 0 rfl rfl)
theorem dX5_fenceAt_25 : decode cX5_fenceAt 25 = .ok (.ireturn, 1) := dk_172 (dk_at dksX5_fenceAt_1 1 rfl rfl)
theorem dX5_fenceAt_26 : decode cX5_fenceAt 26 = .ok (.iinc 3 1, 3) := dk_132 3 1 (dk_at dksX5_fenceAt_1 2 rfl rfl)
theorem dX5_fenceAt_29 : decode cX5_fenceAt 29 = .ok (.goto (-27), 3) := dk_167 255 229 (dk_at dksX5_fenceAt_1 5 rfl rfl)
theorem dX5_fenceAt_32 : decode cX5_fenceAt 32 = .ok (.iconst (-1), 1) := dk_2 (dk_at dksX5_fenceAt_1 8 rfl rfl)
theorem dX5_fenceAt_33 : decode cX5_fenceAt 33 = .ok (.ireturn, 1) := dk_172 (dk_at dksX5_fenceAt_1 9 rfl rfl)
abbrev cX5_lierAt : ByteArray := prog_8_method_7_code
def yX5_lierAt : MethodName := ⟨RX5, "lierAt", "(IILCellRows$Cell;)LCellRows$Cell;"⟩
def dkwX5_lierAt_2 : List UInt8 := [132, 4, 1, 167, 255, 210, 1, 176]
abbrev dktX5_lierAt_2 : List UInt8 := dkwX5_lierAt_2 ++ []
def dkwX5_lierAt_1 : List UInt8 := [180, 0, 17, 21, 4, 50, 27, 28, 182, 0, 75, 153, 0, 11, 42, 180, 0, 17, 21, 4, 50, 176]
abbrev dktX5_lierAt_1 : List UInt8 := dkwX5_lierAt_1 ++ dktX5_lierAt_2
def dkwX5_lierAt_0 : List UInt8 := [3, 54, 4, 21, 4, 42, 180, 0, 41, 162, 0, 43, 42, 180, 0, 17, 21, 4, 50, 45, 165, 0, 26, 42]
abbrev dktX5_lierAt_0 : List UInt8 := dkwX5_lierAt_0 ++ dktX5_lierAt_1
theorem dksX5_lierAt_0 : cX5_lierAt.data.toList.drop 0 = dktX5_lierAt_0 := by decide +kernel
theorem dksX5_lierAt_1 : cX5_lierAt.data.toList.drop 24 = dktX5_lierAt_1 := dk_seg dksX5_lierAt_0 24 rfl rfl
theorem dksX5_lierAt_2 : cX5_lierAt.data.toList.drop 46 = dktX5_lierAt_2 := dk_seg dksX5_lierAt_1 22 rfl rfl
theorem dX5_lierAt_0 : decode cX5_lierAt 0 = .ok (.iconst 0, 1) := dk_3 (dk_at dksX5_lierAt_0 0 rfl rfl)
theorem dX5_lierAt_1 : decode cX5_lierAt 1 = .ok (.istore 4, 2) := dk_54 4 (dk_at dksX5_lierAt_0 1 rfl rfl)
theorem dX5_lierAt_3 : decode cX5_lierAt 3 = .ok (.iload 4, 2) := dk_21 4 (dk_at dksX5_lierAt_0 3 rfl rfl)
theorem dX5_lierAt_5 : decode cX5_lierAt 5 = .ok (.aload_n 0, 1) := dk_42 (dk_at dksX5_lierAt_0 5 rfl rfl)
theorem dX5_lierAt_6 : decode cX5_lierAt 6 = .ok (.getfield 41, 3) := dk_180 0 41 (dk_at dksX5_lierAt_0 6 rfl rfl)
theorem dX5_lierAt_9 : decode cX5_lierAt 9 = .ok (.if_icmp .ge 43, 3) := dk_162 0 43 (dk_at dksX5_lierAt_0 9 rfl rfl)
theorem dX5_lierAt_12 : decode cX5_lierAt 12 = .ok (.aload_n 0, 1) := dk_42 (dk_at dksX5_lierAt_0 12 rfl rfl)
theorem dX5_lierAt_13 : decode cX5_lierAt 13 = .ok (.getfield 17, 3) := dk_180 0 17 (dk_at dksX5_lierAt_0 13 rfl rfl)
theorem dX5_lierAt_16 : decode cX5_lierAt 16 = .ok (.iload 4, 2) := dk_21 4 (dk_at dksX5_lierAt_0 16 rfl rfl)
theorem dX5_lierAt_18 : decode cX5_lierAt 18 = .ok (.aaload, 1) := dk_50 (dk_at dksX5_lierAt_0 18 rfl rfl)
theorem dX5_lierAt_19 : decode cX5_lierAt 19 = .ok (.aload_n 3, 1) := dk_45 (dk_at dksX5_lierAt_0 19 rfl rfl)
theorem dX5_lierAt_20 : decode cX5_lierAt 20 = .ok (.if_acmp .eq 26, 3) := dk_165 0 26 (dk_at dksX5_lierAt_0 20 rfl rfl)
theorem dX5_lierAt_23 : decode cX5_lierAt 23 = .ok (.aload_n 0, 1) := dk_42 (dk_at dksX5_lierAt_0 23 rfl rfl)
theorem dX5_lierAt_24 : decode cX5_lierAt 24 = .ok (.getfield 17, 3) := dk_180 0 17 (dk_at dksX5_lierAt_1 0 rfl rfl)
theorem dX5_lierAt_27 : decode cX5_lierAt 27 = .ok (.iload 4, 2) := dk_21 4 (dk_at dksX5_lierAt_1 3 rfl rfl)
theorem dX5_lierAt_29 : decode cX5_lierAt 29 = .ok (.aaload, 1) := dk_50 (dk_at dksX5_lierAt_1 5 rfl rfl)
theorem dX5_lierAt_30 : decode cX5_lierAt 30 = .ok (.iload_n 1, 1) := dk_27 (dk_at dksX5_lierAt_1 6 rfl rfl)
theorem dX5_lierAt_31 : decode cX5_lierAt 31 = .ok (.iload_n 2, 1) := dk_28 (dk_at dksX5_lierAt_1 7 rfl rfl)
theorem dX5_lierAt_32 : decode cX5_lierAt 32 = .ok (.invokevirtual 75, 3) := dk_182 0 75 (dk_at dksX5_lierAt_1 8 rfl rfl)
theorem dX5_lierAt_35 : decode cX5_lierAt 35 = .ok (.ifCond .eq 11, 3) := dk_153 0 11 (dk_at dksX5_lierAt_1 11 rfl rfl)
theorem dX5_lierAt_38 : decode cX5_lierAt 38 = .ok (.aload_n 0, 1) := dk_42 (dk_at dksX5_lierAt_1 14 rfl rfl)
theorem dX5_lierAt_39 : decode cX5_lierAt 39 = .ok (.getfield 17, 3) := dk_180 0 17 (dk_at dksX5_lierAt_1 15 rfl rfl)
theorem dX5_lierAt_42 : decode cX5_lierAt 42 = .ok (.iload 4, 2) := dk_21 4 (dk_at dksX5_lierAt_1 18 rfl rfl)
theorem dX5_lierAt_44 : decode cX5_lierAt 44 = .ok (.aaload, 1) := dk_50 (dk_at dksX5_lierAt_1 20 rfl rfl)
theorem dX5_lierAt_45 : decode cX5_lierAt 45 = .ok (.areturn, 1) := dk_176 (dk_at dksX5_lierAt_1 21 rfl rfl)
theorem dX5_lierAt_46 : decode cX5_lierAt 46 = .ok (.iinc 4 1, 3) := dk_132 4 1 (dk_at dksX5_lierAt_2 0 rfl rfl)
theorem dX5_lierAt_49 : decode cX5_lierAt 49 = .ok (.goto (-46), 3) := dk_167 255 210 (dk_at dksX5_lierAt_2 3 rfl rfl)
theorem dX5_lierAt_52 : decode cX5_lierAt 52 = .ok (.aconst_null, 1) := dk_1 (dk_at dksX5_lierAt_2 6 rfl rfl)
theorem dX5_lierAt_53 : decode cX5_lierAt 53 = .ok (.areturn, 1) := dk_176 (dk_at dksX5_lierAt_2 7 rfl rfl)
abbrev cX5_isOpen : ByteArray := prog_8_method_6_code
def yX5_isOpen : MethodName := ⟨RX5, "isOpen", "(III)Z"⟩
def dkwX5_isOpen_1 : List UInt8 := [182, 0, 85, 154, 0, 7, 4, 167, 0, 4, 3, 172]
abbrev dktX5_isOpen_1 : List UInt8 := dkwX5_isOpen_1 ++ []
def dkwX5_isOpen_0 : List UInt8 := [42, 27, 28, 182, 0, 78, 154, 0, 26, 42, 27, 28, 182, 0, 81, 29, 160, 0, 16, 42, 27, 28]
abbrev dktX5_isOpen_0 : List UInt8 := dkwX5_isOpen_0 ++ dktX5_isOpen_1
theorem dksX5_isOpen_0 : cX5_isOpen.data.toList.drop 0 = dktX5_isOpen_0 := by decide +kernel
theorem dksX5_isOpen_1 : cX5_isOpen.data.toList.drop 22 = dktX5_isOpen_1 := dk_seg dksX5_isOpen_0 22 rfl rfl
theorem dX5_isOpen_0 : decode cX5_isOpen 0 = .ok (.aload_n 0, 1) := dk_42 (dk_at dksX5_isOpen_0 0 rfl rfl)
theorem dX5_isOpen_1 : decode cX5_isOpen 1 = .ok (.iload_n 1, 1) := dk_27 (dk_at dksX5_isOpen_0 1 rfl rfl)
theorem dX5_isOpen_2 : decode cX5_isOpen 2 = .ok (.iload_n 2, 1) := dk_28 (dk_at dksX5_isOpen_0 2 rfl rfl)
theorem dX5_isOpen_3 : decode cX5_isOpen 3 = .ok (.invokevirtual 78, 3) := dk_182 0 78 (dk_at dksX5_isOpen_0 3 rfl rfl)
theorem dX5_isOpen_6 : decode cX5_isOpen 6 = .ok (.ifCond .ne 26, 3) := dk_154 0 26 (dk_at dksX5_isOpen_0 6 rfl rfl)
theorem dX5_isOpen_9 : decode cX5_isOpen 9 = .ok (.aload_n 0, 1) := dk_42 (dk_at dksX5_isOpen_0 9 rfl rfl)
theorem dX5_isOpen_10 : decode cX5_isOpen 10 = .ok (.iload_n 1, 1) := dk_27 (dk_at dksX5_isOpen_0 10 rfl rfl)
theorem dX5_isOpen_11 : decode cX5_isOpen 11 = .ok (.iload_n 2, 1) := dk_28 (dk_at dksX5_isOpen_0 11 rfl rfl)
theorem dX5_isOpen_12 : decode cX5_isOpen 12 = .ok (.invokevirtual 81, 3) := dk_182 0 81 (dk_at dksX5_isOpen_0 12 rfl rfl)
theorem dX5_isOpen_15 : decode cX5_isOpen 15 = .ok (.iload_n 3, 1) := dk_29 (dk_at dksX5_isOpen_0 15 rfl rfl)
theorem dX5_isOpen_16 : decode cX5_isOpen 16 = .ok (.if_icmp .ne 16, 3) := dk_160 0 16 (dk_at dksX5_isOpen_0 16 rfl rfl)
theorem dX5_isOpen_19 : decode cX5_isOpen 19 = .ok (.aload_n 0, 1) := dk_42 (dk_at dksX5_isOpen_0 19 rfl rfl)
theorem dX5_isOpen_20 : decode cX5_isOpen 20 = .ok (.iload_n 1, 1) := dk_27 (dk_at dksX5_isOpen_0 20 rfl rfl)
theorem dX5_isOpen_21 : decode cX5_isOpen 21 = .ok (.iload_n 2, 1) := dk_28 (dk_at dksX5_isOpen_0 21 rfl rfl)
theorem dX5_isOpen_22 : decode cX5_isOpen 22 = .ok (.invokevirtual 85, 3) := dk_182 0 85 (dk_at dksX5_isOpen_1 0 rfl rfl)
theorem dX5_isOpen_25 : decode cX5_isOpen 25 = .ok (.ifCond .ne 7, 3) := dk_154 0 7 (dk_at dksX5_isOpen_1 3 rfl rfl)
theorem dX5_isOpen_28 : decode cX5_isOpen 28 = .ok (.iconst 1, 1) := dk_4 (dk_at dksX5_isOpen_1 6 rfl rfl)
theorem dX5_isOpen_29 : decode cX5_isOpen 29 = .ok (.goto 4, 3) := dk_167 0 4 (dk_at dksX5_isOpen_1 7 rfl rfl)
theorem dX5_isOpen_32 : decode cX5_isOpen 32 = .ok (.iconst 0, 1) := dk_3 (dk_at dksX5_isOpen_1 10 rfl rfl)
theorem dX5_isOpen_33 : decode cX5_isOpen 33 = .ok (.ireturn, 1) := dk_172 (dk_at dksX5_isOpen_1 11 rfl rfl)
theorem q142 : (Jvm.Cond.initialized "CellRows$Chip") ∈ lw_all := lw_g (lw_at lw_m1 6 rfl) rfl
theorem q210 : (Jvm.Cond.instantiable "CellRows$Chip" (9 : Nat)) ∈ lw_all := lw_g (lw_at lw_m1 74 rfl) rfl
theorem q212 : (Jvm.Cond.instanceMethod ({ cls := "CellRows$Chip", name := "<init>", desc := "(LCellRows;)V" } : Jvm.MethodName)) ∈ lw_all := lw_g (lw_at lw_m1 76 rfl) rfl
theorem q213 : (Jvm.Cond.code ({ cls := "CellRows$Chip", name := "<init>", desc := "(LCellRows;)V" } : Jvm.MethodName) prog_8_method_1_code (3 : Nat) (Option.none : Option Jvm.ClassFile.FieldType)) ∈ lw_all := lw_g (lw_at lw_m1 77 rfl) rfl
theorem q214 : (Jvm.Cond.methodLink "CellRows$Chip" (9 : Nat) ({ cls := "java/lang/Object", name := "<init>", desc := "()V" } : Jvm.MethodName)) ∈ lw_all := lw_g (lw_at lw_m1 78 rfl) rfl
theorem q215 : (Jvm.Cond.classLink "CellRows$Chip" (15 : Nat) "CellRows$Cell") ∈ lw_all := lw_g (lw_at lw_m1 79 rfl) rfl
theorem q217 : (Jvm.Cond.classLink "CellRows$Chip" (21 : Nat) "CellRows$Net") ∈ lw_all := lw_g (lw_at lw_m1 81 rfl) rfl
theorem q219 : (Jvm.Cond.classLink "CellRows$Chip" (27 : Nat) "CellRows$Rect") ∈ lw_all := lw_g (lw_at lw_m1 83 rfl) rfl
theorem q222 : (Jvm.Cond.methodLink "CellRows$Chip" (36 : Nat) ({ cls := "CellRows$Cell", name := "<init>", desc := "(LCellRows;I)V" } : Jvm.MethodName)) ∈ lw_all := lw_g (lw_at lw_m1 86 rfl) rfl
theorem q232 : (Jvm.Cond.fieldLinkNest "CellRows$Chip" (98 : Nat) "CellRows$Cell" "width" "I" "CellRows") ∈ lw_tbl := lw_at lw_m1 96 rfl
theorem q235 : (Jvm.Cond.fieldLinkNest "CellRows$Chip" (101 : Nat) "CellRows$Cell" "fence" "I" "CellRows") ∈ lw_tbl := lw_at lw_m1 99 rfl
theorem q251 : (Jvm.Cond.fieldLinkNest "CellRows$Chip" (107 : Nat) "CellRows$Cell" "row" "I" "CellRows") ∈ lw_tbl := lw_at lw_m1 115 rfl
theorem q256 : (Jvm.Cond.fieldLinkNest "CellRows$Chip" (110 : Nat) "CellRows$Cell" "site" "I" "CellRows") ∈ lw_tbl := lw_at lw_m1 120 rfl
theorem q259 : (Jvm.Cond.fieldLinkNest "CellRows$Chip" (71 : Nat) "CellRows$Cell" "isFixed" "Z" "CellRows") ∈ lw_tbl := lw_at lw_m1 123 rfl
theorem q283 : (Jvm.Cond.methodLinkNest "CellRows$Chip" (39 : Nat) ({ cls := "CellRows$Net", name := "<init>", desc := "()V" } : Jvm.MethodName) "CellRows") ∈ lw_tbl := lw_at lw_m1 147 rfl
theorem q309 : (Jvm.Cond.methodLinkNest "CellRows$Chip" (40 : Nat) ({ cls := "CellRows$Rect", name := "<init>", desc := "()V" } : Jvm.MethodName) "CellRows") ∈ lw_tbl := lw_at lw_m1 173 rfl
theorem q335 : (Jvm.Cond.fieldLink "CellRows$Chip" (17 : Nat) "CellRows$Chip" "cell" "[LCellRows$Cell;") ∈ lw_all := lw_g (lw_at lw_m1 199 rfl) rfl
theorem q340 : (Jvm.Cond.fieldLink "CellRows$Chip" (23 : Nat) "CellRows$Chip" "net" "[LCellRows$Net;") ∈ lw_all := lw_g (lw_at lw_m1 204 rfl) rfl
theorem q343 : (Jvm.Cond.fieldLink "CellRows$Chip" (29 : Nat) "CellRows$Chip" "block" "[LCellRows$Rect;") ∈ lw_all := lw_g (lw_at lw_m1 207 rfl) rfl
theorem q345 : (Jvm.Cond.fieldLink "CellRows$Chip" (33 : Nat) "CellRows$Chip" "fence" "[LCellRows$Rect;") ∈ lw_all := lw_g (lw_at lw_m1 209 rfl) rfl
theorem q348 : (Jvm.Cond.fieldLink "CellRows$Chip" (41 : Nat) "CellRows$Chip" "cells" "I") ∈ lw_all := lw_g (lw_at lw_m1 212 rfl) rfl
theorem q352 : (Jvm.Cond.fieldLink "CellRows$Chip" (45 : Nat) "CellRows$Chip" "nets" "I") ∈ lw_all := lw_g (lw_at lw_m1 216 rfl) rfl
theorem q355 : (Jvm.Cond.fieldLink "CellRows$Chip" (48 : Nat) "CellRows$Chip" "blocks" "I") ∈ lw_all := lw_g (lw_at lw_m1 219 rfl) rfl
theorem q357 : (Jvm.Cond.fieldLink "CellRows$Chip" (51 : Nat) "CellRows$Chip" "fences" "I") ∈ lw_all := lw_g (lw_at lw_m1 221 rfl) rfl
theorem q359 : (Jvm.Cond.fieldLink "CellRows$Chip" (3 : Nat) "CellRows$Chip" "this$0" "LCellRows;") ∈ lw_all := lw_g (lw_at lw_m1 223 rfl) rfl
theorem q360 : (Jvm.Cond.laysFinal "CellRows$Chip" "CellRows$Chip" "cell" "[LCellRows$Cell;") ∈ lw_all := lw_g (lw_at lw_m1 224 rfl) rfl
theorem q361 : (Jvm.Cond.soleField "CellRows$Chip" "cell") ∈ lw_all := lw_g (lw_at lw_m1 225 rfl) rfl
theorem q362 : (Jvm.Cond.laysFinal "CellRows$Chip" "CellRows$Chip" "net" "[LCellRows$Net;") ∈ lw_all := lw_g (lw_at lw_m1 226 rfl) rfl
theorem q363 : (Jvm.Cond.soleField "CellRows$Chip" "net") ∈ lw_all := lw_g (lw_at lw_m1 227 rfl) rfl
theorem q364 : (Jvm.Cond.laysFinal "CellRows$Chip" "CellRows$Chip" "block" "[LCellRows$Rect;") ∈ lw_all := lw_g (lw_at lw_m1 228 rfl) rfl
theorem q365 : (Jvm.Cond.soleField "CellRows$Chip" "block") ∈ lw_all := lw_g (lw_at lw_m1 229 rfl) rfl
theorem q366 : (Jvm.Cond.laysFinal "CellRows$Chip" "CellRows$Chip" "fence" "[LCellRows$Rect;") ∈ lw_all := lw_g (lw_at lw_m1 230 rfl) rfl
theorem q367 : (Jvm.Cond.soleField "CellRows$Chip" "fence") ∈ lw_all := lw_g (lw_at lw_m1 231 rfl) rfl
theorem q368 : (Jvm.Cond.lays "CellRows$Chip" "CellRows$Chip" "cells" "I") ∈ lw_all := lw_g (lw_at lw_m1 232 rfl) rfl
theorem q369 : (Jvm.Cond.soleField "CellRows$Chip" "cells") ∈ lw_all := lw_g (lw_at lw_m1 233 rfl) rfl
theorem q370 : (Jvm.Cond.lays "CellRows$Chip" "CellRows$Chip" "nets" "I") ∈ lw_all := lw_g (lw_at lw_m1 234 rfl) rfl
theorem q371 : (Jvm.Cond.soleField "CellRows$Chip" "nets") ∈ lw_all := lw_g (lw_at lw_m1 235 rfl) rfl
theorem q372 : (Jvm.Cond.lays "CellRows$Chip" "CellRows$Chip" "blocks" "I") ∈ lw_all := lw_g (lw_at lw_m1 236 rfl) rfl
theorem q373 : (Jvm.Cond.soleField "CellRows$Chip" "blocks") ∈ lw_all := lw_g (lw_at lw_m1 237 rfl) rfl
theorem q374 : (Jvm.Cond.lays "CellRows$Chip" "CellRows$Chip" "fences" "I") ∈ lw_all := lw_g (lw_at lw_m1 238 rfl) rfl
theorem q375 : (Jvm.Cond.soleField "CellRows$Chip" "fences") ∈ lw_all := lw_g (lw_at lw_m1 239 rfl) rfl
theorem q376 : (Jvm.Cond.laysFinal "CellRows$Chip" "CellRows$Chip" "this$0" "LCellRows;") ∈ lw_all := lw_g (lw_at lw_m2 0 rfl) rfl
theorem q377 : (Jvm.Cond.soleField "CellRows$Chip" "this$0") ∈ lw_all := lw_g (lw_at lw_m2 1 rfl) rfl
theorem q378 : (Jvm.Cond.superclass "CellRows$Chip" "java/lang/Object") ∈ lw_all := lw_g (lw_at lw_m2 2 rfl) rfl
theorem q382 : (Jvm.Cond.fieldLinkNest "CellRows$Chip" (88 : Nat) "CellRows" "rows" "I" "CellRows") ∈ lw_tbl := lw_at lw_m2 6 rfl
theorem q386 : (Jvm.Cond.fieldLinkNest "CellRows$Chip" (95 : Nat) "CellRows" "sites" "I" "CellRows") ∈ lw_tbl := lw_at lw_m2 10 rfl
theorem q467 : (Jvm.Cond.instanceMethod ({ cls := "CellRows$Chip", name := "takes", desc := "(LCellRows$Chip;)LCellRows$Chip;" } : Jvm.MethodName)) ∈ lw_all := lw_g (lw_at lw_m2 91 rfl) rfl
theorem q468 : (Jvm.Cond.selects "CellRows$Chip" ({ cls := "CellRows$Chip", name := "takes", desc := "(LCellRows$Chip;)LCellRows$Chip;" } : Jvm.MethodName) ({ cls := "CellRows$Chip", name := "takes", desc := "(LCellRows$Chip;)LCellRows$Chip;" } : Jvm.MethodName)) ∈ lw_all := lw_g (lw_at lw_m2 92 rfl) rfl
theorem q469 : (Jvm.Cond.code ({ cls := "CellRows$Chip", name := "takes", desc := "(LCellRows$Chip;)LCellRows$Chip;" } : Jvm.MethodName) prog_8_method_2_code (3 : Nat) (Option.some (Jvm.ClassFile.FieldType.object "CellRows$Chip"))) ∈ lw_all := lw_g (lw_at lw_m2 93 rfl) rfl
theorem q470 : (Jvm.Cond.methodLink "CellRows$Chip" (54 : Nat) ({ cls := "CellRows$Cell", name := "takes", desc := "(LCellRows$Cell;)V" } : Jvm.MethodName)) ∈ lw_all := lw_g (lw_at lw_m2 94 rfl) rfl
theorem q474 : (Jvm.Cond.methodLink "CellRows$Chip" (58 : Nat) ({ cls := "CellRows$Net", name := "takes", desc := "(LCellRows$Net;)V" } : Jvm.MethodName)) ∈ lw_all := lw_g (lw_at lw_m2 98 rfl) rfl
theorem q486 : (Jvm.Cond.methodLink "CellRows$Chip" (61 : Nat) ({ cls := "CellRows$Rect", name := "takes", desc := "(LCellRows$Rect;)V" } : Jvm.MethodName)) ∈ lw_all := lw_g (lw_at lw_m2 110 rfl) rfl
theorem q552 : (Jvm.Cond.instanceMethod ({ cls := "CellRows$Chip", name := "isFixedAt", desc := "(II)Z" } : Jvm.MethodName)) ∈ lw_all := lw_g (lw_at lw_m2 176 rfl) rfl
theorem q553 : (Jvm.Cond.selects "CellRows$Chip" ({ cls := "CellRows$Chip", name := "isFixedAt", desc := "(II)Z" } : Jvm.MethodName) ({ cls := "CellRows$Chip", name := "isFixedAt", desc := "(II)Z" } : Jvm.MethodName)) ∈ lw_all := lw_g (lw_at lw_m2 177 rfl) rfl
theorem q554 : (Jvm.Cond.code ({ cls := "CellRows$Chip", name := "isFixedAt", desc := "(II)Z" } : Jvm.MethodName) prog_8_method_5_code (4 : Nat) (Option.some Jvm.ClassFile.FieldType.boolean)) ∈ lw_all := lw_g (lw_at lw_m2 178 rfl) rfl
theorem q555 : (Jvm.Cond.methodLink "CellRows$Chip" (75 : Nat) ({ cls := "CellRows$Cell", name := "lies", desc := "(II)Z" } : Jvm.MethodName)) ∈ lw_all := lw_g (lw_at lw_m2 179 rfl) rfl
theorem q566 : (Jvm.Cond.instanceMethod ({ cls := "CellRows$Chip", name := "losesUnlawful", desc := "()V" } : Jvm.MethodName)) ∈ lw_all := lw_g (lw_at lw_m2 190 rfl) rfl
theorem q567 : (Jvm.Cond.selects "CellRows$Chip" ({ cls := "CellRows$Chip", name := "losesUnlawful", desc := "()V" } : Jvm.MethodName) ({ cls := "CellRows$Chip", name := "losesUnlawful", desc := "()V" } : Jvm.MethodName)) ∈ lw_all := lw_g (lw_at lw_m2 191 rfl) rfl
theorem q568 : (Jvm.Cond.code ({ cls := "CellRows$Chip", name := "losesUnlawful", desc := "()V" } : Jvm.MethodName) prog_8_method_9_code (2 : Nat) (Option.none : Option Jvm.ClassFile.FieldType)) ∈ lw_all := lw_g (lw_at lw_m2 192 rfl) rfl
theorem q569 : (Jvm.Cond.methodLink "CellRows$Chip" (103 : Nat) ({ cls := "CellRows$Cell", name := "isMoved", desc := "()Z" } : Jvm.MethodName)) ∈ lw_all := lw_g (lw_at lw_m2 193 rfl) rfl
theorem q577 : (Jvm.Cond.methodLink "CellRows$Chip" (113 : Nat) ({ cls := "CellRows$Chip", name := "isLawful", desc := "(LCellRows$Cell;IIZ)Z" } : Jvm.MethodName)) ∈ lw_all := lw_g (lw_at lw_m2 201 rfl) rfl
theorem q578 : (Jvm.Cond.instanceMethod ({ cls := "CellRows$Chip", name := "isLawful", desc := "(LCellRows$Cell;IIZ)Z" } : Jvm.MethodName)) ∈ lw_all := lw_g (lw_at lw_m2 202 rfl) rfl
theorem q579 : (Jvm.Cond.selects "CellRows$Chip" ({ cls := "CellRows$Chip", name := "isLawful", desc := "(LCellRows$Cell;IIZ)Z" } : Jvm.MethodName) ({ cls := "CellRows$Chip", name := "isLawful", desc := "(LCellRows$Cell;IIZ)Z" } : Jvm.MethodName)) ∈ lw_all := lw_g (lw_at lw_m2 203 rfl) rfl
theorem q580 : (Jvm.Cond.code ({ cls := "CellRows$Chip", name := "isLawful", desc := "(LCellRows$Cell;IIZ)Z" } : Jvm.MethodName) prog_8_method_8_code (7 : Nat) (Option.some Jvm.ClassFile.FieldType.boolean)) ∈ lw_all := lw_g (lw_at lw_m2 204 rfl) rfl
theorem q581 : (Jvm.Cond.methodLinkNest "CellRows$Chip" (91 : Nat) ({ cls := "CellRows", name := "in", desc := "(III)Z" } : Jvm.MethodName) "CellRows") ∈ lw_tbl := lw_at lw_m2 205 rfl
theorem q582 : (Jvm.Cond.methodLink "CellRows$Chip" (78 : Nat) ({ cls := "CellRows$Chip", name := "isBarred", desc := "(II)Z" } : Jvm.MethodName)) ∈ lw_all := lw_g (lw_at lw_m2 206 rfl) rfl
theorem q583 : (Jvm.Cond.instanceMethod ({ cls := "CellRows$Chip", name := "isBarred", desc := "(II)Z" } : Jvm.MethodName)) ∈ lw_all := lw_g (lw_at lw_m2 207 rfl) rfl
theorem q584 : (Jvm.Cond.selects "CellRows$Chip" ({ cls := "CellRows$Chip", name := "isBarred", desc := "(II)Z" } : Jvm.MethodName) ({ cls := "CellRows$Chip", name := "isBarred", desc := "(II)Z" } : Jvm.MethodName)) ∈ lw_all := lw_g (lw_at lw_m2 208 rfl) rfl
theorem q585 : (Jvm.Cond.code ({ cls := "CellRows$Chip", name := "isBarred", desc := "(II)Z" } : Jvm.MethodName) prog_8_method_3_code (4 : Nat) (Option.some Jvm.ClassFile.FieldType.boolean)) ∈ lw_all := lw_g (lw_at lw_m2 209 rfl) rfl
theorem q586 : (Jvm.Cond.methodLink "CellRows$Chip" (64 : Nat) ({ cls := "CellRows$Rect", name := "bars", desc := "(II)Z" } : Jvm.MethodName)) ∈ lw_all := lw_g (lw_at lw_m2 210 rfl) rfl
theorem q587 : (Jvm.Cond.methodLink "CellRows$Chip" (81 : Nat) ({ cls := "CellRows$Chip", name := "fenceAt", desc := "(II)I" } : Jvm.MethodName)) ∈ lw_all := lw_g (lw_at lw_m2 211 rfl) rfl
theorem q588 : (Jvm.Cond.instanceMethod ({ cls := "CellRows$Chip", name := "fenceAt", desc := "(II)I" } : Jvm.MethodName)) ∈ lw_all := lw_g (lw_at lw_m2 212 rfl) rfl
theorem q589 : (Jvm.Cond.selects "CellRows$Chip" ({ cls := "CellRows$Chip", name := "fenceAt", desc := "(II)I" } : Jvm.MethodName) ({ cls := "CellRows$Chip", name := "fenceAt", desc := "(II)I" } : Jvm.MethodName)) ∈ lw_all := lw_g (lw_at lw_m2 213 rfl) rfl
theorem q590 : (Jvm.Cond.code ({ cls := "CellRows$Chip", name := "fenceAt", desc := "(II)I" } : Jvm.MethodName) prog_8_method_4_code (4 : Nat) (Option.some Jvm.ClassFile.FieldType.int)) ∈ lw_all := lw_g (lw_at lw_m2 214 rfl) rfl
theorem q591 : (Jvm.Cond.methodLink "CellRows$Chip" (68 : Nat) ({ cls := "CellRows$Rect", name := "has", desc := "(II)Z" } : Jvm.MethodName)) ∈ lw_all := lw_g (lw_at lw_m2 215 rfl) rfl
theorem q592 : (Jvm.Cond.methodLink "CellRows$Chip" (117 : Nat) ({ cls := "CellRows$Cell", name := "leaves", desc := "()V" } : Jvm.MethodName)) ∈ lw_all := lw_g (lw_at lw_m2 216 rfl) rfl
theorem q684 : (Jvm.Cond.instanceMethod ({ cls := "CellRows$Chip", name := "lierAt", desc := "(IILCellRows$Cell;)LCellRows$Cell;" } : Jvm.MethodName)) ∈ lw_all := lw_g (lw_at lw_m3 68 rfl) rfl
theorem q685 : (Jvm.Cond.selects "CellRows$Chip" ({ cls := "CellRows$Chip", name := "lierAt", desc := "(IILCellRows$Cell;)LCellRows$Cell;" } : Jvm.MethodName) ({ cls := "CellRows$Chip", name := "lierAt", desc := "(IILCellRows$Cell;)LCellRows$Cell;" } : Jvm.MethodName)) ∈ lw_all := lw_g (lw_at lw_m3 69 rfl) rfl
theorem q686 : (Jvm.Cond.code ({ cls := "CellRows$Chip", name := "lierAt", desc := "(IILCellRows$Cell;)LCellRows$Cell;" } : Jvm.MethodName) prog_8_method_7_code (5 : Nat) (Option.some (Jvm.ClassFile.FieldType.object "CellRows$Cell"))) ∈ lw_all := lw_g (lw_at lw_m3 70 rfl) rfl
theorem q945 : (Jvm.Cond.instanceMethod ({ cls := "CellRows$Chip", name := "isOpen", desc := "(III)Z" } : Jvm.MethodName)) ∈ lw_all := lw_g (lw_at lw_m4 89 rfl) rfl
theorem q946 : (Jvm.Cond.selects "CellRows$Chip" ({ cls := "CellRows$Chip", name := "isOpen", desc := "(III)Z" } : Jvm.MethodName) ({ cls := "CellRows$Chip", name := "isOpen", desc := "(III)Z" } : Jvm.MethodName)) ∈ lw_all := lw_g (lw_at lw_m4 90 rfl) rfl
theorem q947 : (Jvm.Cond.code ({ cls := "CellRows$Chip", name := "isOpen", desc := "(III)Z" } : Jvm.MethodName) prog_8_method_6_code (4 : Nat) (Option.some Jvm.ClassFile.FieldType.boolean)) ∈ lw_all := lw_g (lw_at lw_m4 91 rfl) rfl
theorem q948 : (Jvm.Cond.methodLink "CellRows$Chip" (85 : Nat) ({ cls := "CellRows$Chip", name := "isFixedAt", desc := "(II)Z" } : Jvm.MethodName)) ∈ lw_all := lw_g (lw_at lw_m4 92 rfl) rfl
theorem q1017 : (Jvm.Cond.selects "CellRows$Chip" ({ cls := "java/lang/Object", name := "getClass", desc := "()Ljava/lang/Class;" } : Jvm.MethodName) ({ cls := "java/lang/Object", name := "getClass", desc := "()Ljava/lang/Class;" } : Jvm.MethodName)) ∈ lw_all := lw_g (lw_at lw_m4 161 rfl) rfl
theorem q2056 : (Jvm.Cond.castable "CellRows$Chip" "java/lang/Object") ∈ lw_tbl := lw_at lw_m9 0 rfl
theorem in_X5 : ∀ w ∈ wsX50, w ∈ lw_all := lw_in wsX50 [360, 362, 364, 366, 368, 370, 372, 374, 376] (by decide +kernel) (by decide +kernel)
/-! CellRows$Cell -/
set_option maxRecDepth 100000
def RX6 : String := "CellRows$Cell"
def TX6 : u_T := fun k => match k with
  | 0 => ("CellRows$Cell", "number", "I", true)
  | 1 => ("CellRows$Cell", "width", "I", false)
  | 2 => ("CellRows$Cell", "fence", "I", false)
  | 3 => ("CellRows$Cell", "x", "I", false)
  | 4 => ("CellRows$Cell", "y", "I", false)
  | 5 => ("CellRows$Cell", "row", "I", false)
  | 6 => ("CellRows$Cell", "site", "I", false)
  | 7 => ("CellRows$Cell", "isFixed", "Z", false)
  | _ => ("CellRows$Cell", "this$0", "LCellRows;", true)
def tyX6 : Nat → FieldType := fun k => match k with
  | 0 => .int
  | 1 => .int
  | 2 => .int
  | 3 => .int
  | 4 => .int
  | 5 => .int
  | 6 => .int
  | 7 => .boolean
  | _ => .object "CellRows"
abbrev wsX60 : List Cond := u_ws RX6 TX6 9
theorem nmX6 : ∀ a, a < 9 → ∀ b, b < 9 → a ≠ b → (TX6 a).2.1 ≠ (TX6 b).2.1 := by decide +kernel
theorem tyX6_ok : ∀ k, k < 9 → parseFieldDescriptor (TX6 k).2.2.1 = some (tyX6 k) := by decide +kernel
abbrev cX6_init : ByteArray := prog_7_method_1_code
def yX6_init : MethodName := ⟨RX6, "<init>", "(LCellRows;I)V"⟩
def dkwX6_init_0 : List UInt8 := [42, 43, 181, 0, 3, 42, 183, 0, 9, 42, 28, 181, 0, 15, 177]
abbrev dktX6_init_0 : List UInt8 := dkwX6_init_0 ++ []
theorem dksX6_init_0 : cX6_init.data.toList.drop 0 = dktX6_init_0 := by decide +kernel
theorem dX6_init_0 : decode cX6_init 0 = .ok (.aload_n 0, 1) := dk_42 (dk_at dksX6_init_0 0 rfl rfl)
theorem dX6_init_1 : decode cX6_init 1 = .ok (.aload_n 1, 1) := dk_43 (dk_at dksX6_init_0 1 rfl rfl)
theorem dX6_init_2 : decode cX6_init 2 = .ok (.putfield 3, 3) := dk_181 0 3 (dk_at dksX6_init_0 2 rfl rfl)
theorem dX6_init_5 : decode cX6_init 5 = .ok (.aload_n 0, 1) := dk_42 (dk_at dksX6_init_0 5 rfl rfl)
theorem dX6_init_6 : decode cX6_init 6 = .ok (.invokespecial 9, 3) := dk_183 0 9 (dk_at dksX6_init_0 6 rfl rfl)
theorem dX6_init_9 : decode cX6_init 9 = .ok (.aload_n 0, 1) := dk_42 (dk_at dksX6_init_0 9 rfl rfl)
theorem dX6_init_10 : decode cX6_init 10 = .ok (.iload_n 2, 1) := dk_28 (dk_at dksX6_init_0 10 rfl rfl)
theorem dX6_init_11 : decode cX6_init 11 = .ok (.putfield 15, 3) := dk_181 0 15 (dk_at dksX6_init_0 11 rfl rfl)
theorem dX6_init_14 : decode cX6_init 14 = .ok (.return_, 1) := dk_177 (dk_at dksX6_init_0 14 rfl rfl)
abbrev cX6_takes : ByteArray := prog_7_method_3_code
def yX6_takes : MethodName := ⟨RX6, "takes", "(LCellRows$Cell;)V"⟩
def dkwX6_takes_2 : List UInt8 := [42, 43, 180, 0, 48, 181, 0, 48, 177]
abbrev dktX6_takes_2 : List UInt8 := dkwX6_takes_2 ++ []
def dkwX6_takes_1 : List UInt8 := [42, 43, 180, 0, 33, 181, 0, 33, 42, 43, 180, 0, 39, 181, 0, 39, 42, 43, 180, 0, 45, 181, 0, 45]
abbrev dktX6_takes_1 : List UInt8 := dkwX6_takes_1 ++ dktX6_takes_2
def dkwX6_takes_0 : List UInt8 := [42, 43, 180, 0, 19, 181, 0, 19, 42, 43, 180, 0, 22, 181, 0, 22, 42, 43, 180, 0, 25, 181, 0, 25]
abbrev dktX6_takes_0 : List UInt8 := dkwX6_takes_0 ++ dktX6_takes_1
theorem dksX6_takes_0 : cX6_takes.data.toList.drop 0 = dktX6_takes_0 := by decide +kernel
theorem dksX6_takes_1 : cX6_takes.data.toList.drop 24 = dktX6_takes_1 := dk_seg dksX6_takes_0 24 rfl rfl
theorem dksX6_takes_2 : cX6_takes.data.toList.drop 48 = dktX6_takes_2 := dk_seg dksX6_takes_1 24 rfl rfl
theorem dX6_takes_0 : decode cX6_takes 0 = .ok (.aload_n 0, 1) := dk_42 (dk_at dksX6_takes_0 0 rfl rfl)
theorem dX6_takes_1 : decode cX6_takes 1 = .ok (.aload_n 1, 1) := dk_43 (dk_at dksX6_takes_0 1 rfl rfl)
theorem dX6_takes_2 : decode cX6_takes 2 = .ok (.getfield 19, 3) := dk_180 0 19 (dk_at dksX6_takes_0 2 rfl rfl)
theorem dX6_takes_5 : decode cX6_takes 5 = .ok (.putfield 19, 3) := dk_181 0 19 (dk_at dksX6_takes_0 5 rfl rfl)
theorem dX6_takes_8 : decode cX6_takes 8 = .ok (.aload_n 0, 1) := dk_42 (dk_at dksX6_takes_0 8 rfl rfl)
theorem dX6_takes_9 : decode cX6_takes 9 = .ok (.aload_n 1, 1) := dk_43 (dk_at dksX6_takes_0 9 rfl rfl)
theorem dX6_takes_10 : decode cX6_takes 10 = .ok (.getfield 22, 3) := dk_180 0 22 (dk_at dksX6_takes_0 10 rfl rfl)
theorem dX6_takes_13 : decode cX6_takes 13 = .ok (.putfield 22, 3) := dk_181 0 22 (dk_at dksX6_takes_0 13 rfl rfl)
theorem dX6_takes_16 : decode cX6_takes 16 = .ok (.aload_n 0, 1) := dk_42 (dk_at dksX6_takes_0 16 rfl rfl)
theorem dX6_takes_17 : decode cX6_takes 17 = .ok (.aload_n 1, 1) := dk_43 (dk_at dksX6_takes_0 17 rfl rfl)
theorem dX6_takes_18 : decode cX6_takes 18 = .ok (.getfield 25, 3) := dk_180 0 25 (dk_at dksX6_takes_0 18 rfl rfl)
theorem dX6_takes_21 : decode cX6_takes 21 = .ok (.putfield 25, 3) := dk_181 0 25 (dk_at dksX6_takes_0 21 rfl rfl)
theorem dX6_takes_24 : decode cX6_takes 24 = .ok (.aload_n 0, 1) := dk_42 (dk_at dksX6_takes_1 0 rfl rfl)
theorem dX6_takes_25 : decode cX6_takes 25 = .ok (.aload_n 1, 1) := dk_43 (dk_at dksX6_takes_1 1 rfl rfl)
theorem dX6_takes_26 : decode cX6_takes 26 = .ok (.getfield 33, 3) := dk_180 0 33 (dk_at dksX6_takes_1 2 rfl rfl)
theorem dX6_takes_29 : decode cX6_takes 29 = .ok (.putfield 33, 3) := dk_181 0 33 (dk_at dksX6_takes_1 5 rfl rfl)
theorem dX6_takes_32 : decode cX6_takes 32 = .ok (.aload_n 0, 1) := dk_42 (dk_at dksX6_takes_1 8 rfl rfl)
theorem dX6_takes_33 : decode cX6_takes 33 = .ok (.aload_n 1, 1) := dk_43 (dk_at dksX6_takes_1 9 rfl rfl)
theorem dX6_takes_34 : decode cX6_takes 34 = .ok (.getfield 39, 3) := dk_180 0 39 (dk_at dksX6_takes_1 10 rfl rfl)
theorem dX6_takes_37 : decode cX6_takes 37 = .ok (.putfield 39, 3) := dk_181 0 39 (dk_at dksX6_takes_1 13 rfl rfl)
theorem dX6_takes_40 : decode cX6_takes 40 = .ok (.aload_n 0, 1) := dk_42 (dk_at dksX6_takes_1 16 rfl rfl)
theorem dX6_takes_41 : decode cX6_takes 41 = .ok (.aload_n 1, 1) := dk_43 (dk_at dksX6_takes_1 17 rfl rfl)
theorem dX6_takes_42 : decode cX6_takes 42 = .ok (.getfield 45, 3) := dk_180 0 45 (dk_at dksX6_takes_1 18 rfl rfl)
theorem dX6_takes_45 : decode cX6_takes 45 = .ok (.putfield 45, 3) := dk_181 0 45 (dk_at dksX6_takes_1 21 rfl rfl)
theorem dX6_takes_48 : decode cX6_takes 48 = .ok (.aload_n 0, 1) := dk_42 (dk_at dksX6_takes_2 0 rfl rfl)
theorem dX6_takes_49 : decode cX6_takes 49 = .ok (.aload_n 1, 1) := dk_43 (dk_at dksX6_takes_2 1 rfl rfl)
theorem dX6_takes_50 : decode cX6_takes 50 = .ok (.getfield 48, 3) := dk_180 0 48 (dk_at dksX6_takes_2 2 rfl rfl)
theorem dX6_takes_53 : decode cX6_takes 53 = .ok (.putfield 48, 3) := dk_181 0 48 (dk_at dksX6_takes_2 5 rfl rfl)
theorem dX6_takes_56 : decode cX6_takes 56 = .ok (.return_, 1) := dk_177 (dk_at dksX6_takes_2 8 rfl rfl)
abbrev cX6_lies : ByteArray := prog_7_method_8_code
def yX6_lies : MethodName := ⟨RX6, "lies", "(II)Z"⟩
def dkwX6_lies_1 : List UInt8 := [184, 0, 61, 153, 0, 7, 4, 167, 0, 4, 3, 172]
abbrev dktX6_lies_1 : List UInt8 := dkwX6_lies_1 ++ []
def dkwX6_lies_0 : List UInt8 := [42, 180, 0, 45, 27, 160, 0, 29, 28, 42, 180, 0, 48, 42, 180, 0, 48, 42, 180, 0, 19, 96, 4, 100]
abbrev dktX6_lies_0 : List UInt8 := dkwX6_lies_0 ++ dktX6_lies_1
theorem dksX6_lies_0 : cX6_lies.data.toList.drop 0 = dktX6_lies_0 := by decide +kernel
theorem dksX6_lies_1 : cX6_lies.data.toList.drop 24 = dktX6_lies_1 := dk_seg dksX6_lies_0 24 rfl rfl
theorem dX6_lies_0 : decode cX6_lies 0 = .ok (.aload_n 0, 1) := dk_42 (dk_at dksX6_lies_0 0 rfl rfl)
theorem dX6_lies_1 : decode cX6_lies 1 = .ok (.getfield 45, 3) := dk_180 0 45 (dk_at dksX6_lies_0 1 rfl rfl)
theorem dX6_lies_4 : decode cX6_lies 4 = .ok (.iload_n 1, 1) := dk_27 (dk_at dksX6_lies_0 4 rfl rfl)
theorem dX6_lies_5 : decode cX6_lies 5 = .ok (.if_icmp .ne 29, 3) := dk_160 0 29 (dk_at dksX6_lies_0 5 rfl rfl)
theorem dX6_lies_8 : decode cX6_lies 8 = .ok (.iload_n 2, 1) := dk_28 (dk_at dksX6_lies_0 8 rfl rfl)
theorem dX6_lies_9 : decode cX6_lies 9 = .ok (.aload_n 0, 1) := dk_42 (dk_at dksX6_lies_0 9 rfl rfl)
theorem dX6_lies_10 : decode cX6_lies 10 = .ok (.getfield 48, 3) := dk_180 0 48 (dk_at dksX6_lies_0 10 rfl rfl)
theorem dX6_lies_13 : decode cX6_lies 13 = .ok (.aload_n 0, 1) := dk_42 (dk_at dksX6_lies_0 13 rfl rfl)
theorem dX6_lies_14 : decode cX6_lies 14 = .ok (.getfield 48, 3) := dk_180 0 48 (dk_at dksX6_lies_0 14 rfl rfl)
theorem dX6_lies_17 : decode cX6_lies 17 = .ok (.aload_n 0, 1) := dk_42 (dk_at dksX6_lies_0 17 rfl rfl)
theorem dX6_lies_18 : decode cX6_lies 18 = .ok (.getfield 19, 3) := dk_180 0 19 (dk_at dksX6_lies_0 18 rfl rfl)
theorem dX6_lies_21 : decode cX6_lies 21 = .ok (.iadd, 1) := dk_96 (dk_at dksX6_lies_0 21 rfl rfl)
theorem dX6_lies_22 : decode cX6_lies 22 = .ok (.iconst 1, 1) := dk_4 (dk_at dksX6_lies_0 22 rfl rfl)
theorem dX6_lies_23 : decode cX6_lies 23 = .ok (.isub, 1) := dk_100 (dk_at dksX6_lies_0 23 rfl rfl)
theorem dX6_lies_24 : decode cX6_lies 24 = .ok (.invokestatic 61, 3) := dk_184 0 61 (dk_at dksX6_lies_1 0 rfl rfl)
theorem dX6_lies_27 : decode cX6_lies 27 = .ok (.ifCond .eq 7, 3) := dk_153 0 7 (dk_at dksX6_lies_1 3 rfl rfl)
theorem dX6_lies_30 : decode cX6_lies 30 = .ok (.iconst 1, 1) := dk_4 (dk_at dksX6_lies_1 6 rfl rfl)
theorem dX6_lies_31 : decode cX6_lies 31 = .ok (.goto 4, 3) := dk_167 0 4 (dk_at dksX6_lies_1 7 rfl rfl)
theorem dX6_lies_34 : decode cX6_lies 34 = .ok (.iconst 0, 1) := dk_3 (dk_at dksX6_lies_1 10 rfl rfl)
theorem dX6_lies_35 : decode cX6_lies 35 = .ok (.ireturn, 1) := dk_172 (dk_at dksX6_lies_1 11 rfl rfl)
abbrev cX6_isMoved : ByteArray := prog_7_method_7_code
def yX6_isMoved : MethodName := ⟨RX6, "isMoved", "()Z"⟩
def dkwX6_isMoved_0 : List UInt8 := [42, 182, 0, 57, 153, 0, 14, 42, 180, 0, 25, 154, 0, 7, 4, 167, 0, 4, 3, 172]
abbrev dktX6_isMoved_0 : List UInt8 := dkwX6_isMoved_0 ++ []
theorem dksX6_isMoved_0 : cX6_isMoved.data.toList.drop 0 = dktX6_isMoved_0 := by decide +kernel
theorem dX6_isMoved_0 : decode cX6_isMoved 0 = .ok (.aload_n 0, 1) := dk_42 (dk_at dksX6_isMoved_0 0 rfl rfl)
theorem dX6_isMoved_1 : decode cX6_isMoved 1 = .ok (.invokevirtual 57, 3) := dk_182 0 57 (dk_at dksX6_isMoved_0 1 rfl rfl)
theorem dX6_isMoved_4 : decode cX6_isMoved 4 = .ok (.ifCond .eq 14, 3) := dk_153 0 14 (dk_at dksX6_isMoved_0 4 rfl rfl)
theorem dX6_isMoved_7 : decode cX6_isMoved 7 = .ok (.aload_n 0, 1) := dk_42 (dk_at dksX6_isMoved_0 7 rfl rfl)
theorem dX6_isMoved_8 : decode cX6_isMoved 8 = .ok (.getfield 25, 3) := dk_180 0 25 (dk_at dksX6_isMoved_0 8 rfl rfl)
theorem dX6_isMoved_11 : decode cX6_isMoved 11 = .ok (.ifCond .ne 7, 3) := dk_154 0 7 (dk_at dksX6_isMoved_0 11 rfl rfl)
theorem dX6_isMoved_14 : decode cX6_isMoved 14 = .ok (.iconst 1, 1) := dk_4 (dk_at dksX6_isMoved_0 14 rfl rfl)
theorem dX6_isMoved_15 : decode cX6_isMoved 15 = .ok (.goto 4, 3) := dk_167 0 4 (dk_at dksX6_isMoved_0 15 rfl rfl)
theorem dX6_isMoved_18 : decode cX6_isMoved 18 = .ok (.iconst 0, 1) := dk_3 (dk_at dksX6_isMoved_0 18 rfl rfl)
theorem dX6_isMoved_19 : decode cX6_isMoved 19 = .ok (.ireturn, 1) := dk_172 (dk_at dksX6_isMoved_0 19 rfl rfl)
abbrev cX6_isOn : ByteArray := prog_7_method_6_code
def yX6_isOn : MethodName := ⟨RX6, "isOn", "()Z"⟩
def dkwX6_isOn_0 : List UInt8 := [42, 180, 0, 45, 2, 159, 0, 7, 4, 167, 0, 4, 3, 172]
abbrev dktX6_isOn_0 : List UInt8 := dkwX6_isOn_0 ++ []
theorem dksX6_isOn_0 : cX6_isOn.data.toList.drop 0 = dktX6_isOn_0 := by decide +kernel
theorem dX6_isOn_0 : decode cX6_isOn 0 = .ok (.aload_n 0, 1) := dk_42 (dk_at dksX6_isOn_0 0 rfl rfl)
theorem dX6_isOn_1 : decode cX6_isOn 1 = .ok (.getfield 45, 3) := dk_180 0 45 (dk_at dksX6_isOn_0 1 rfl rfl)
theorem dX6_isOn_4 : decode cX6_isOn 4 = .ok (.iconst (-1), 1) := dk_2 (dk_at dksX6_isOn_0 4 rfl rfl)
theorem dX6_isOn_5 : decode cX6_isOn 5 = .ok (.if_icmp .eq 7, 3) := dk_159 0 7 (dk_at dksX6_isOn_0 5 rfl rfl)
theorem dX6_isOn_8 : decode cX6_isOn 8 = .ok (.iconst 1, 1) := dk_4 (dk_at dksX6_isOn_0 8 rfl rfl)
theorem dX6_isOn_9 : decode cX6_isOn 9 = .ok (.goto 4, 3) := dk_167 0 4 (dk_at dksX6_isOn_0 9 rfl rfl)
theorem dX6_isOn_12 : decode cX6_isOn 12 = .ok (.iconst 0, 1) := dk_3 (dk_at dksX6_isOn_0 12 rfl rfl)
theorem dX6_isOn_13 : decode cX6_isOn 13 = .ok (.ireturn, 1) := dk_172 (dk_at dksX6_isOn_0 13 rfl rfl)
abbrev cX6_leaves : ByteArray := prog_7_method_10_code
def yX6_leaves : MethodName := ⟨RX6, "leaves", "()V"⟩
def dkwX6_leaves_0 : List UInt8 := [42, 2, 2, 182, 0, 65, 177]
abbrev dktX6_leaves_0 : List UInt8 := dkwX6_leaves_0 ++ []
theorem dksX6_leaves_0 : cX6_leaves.data.toList.drop 0 = dktX6_leaves_0 := by decide +kernel
theorem dX6_leaves_0 : decode cX6_leaves 0 = .ok (.aload_n 0, 1) := dk_42 (dk_at dksX6_leaves_0 0 rfl rfl)
theorem dX6_leaves_1 : decode cX6_leaves 1 = .ok (.iconst (-1), 1) := dk_2 (dk_at dksX6_leaves_0 1 rfl rfl)
theorem dX6_leaves_2 : decode cX6_leaves 2 = .ok (.iconst (-1), 1) := dk_2 (dk_at dksX6_leaves_0 2 rfl rfl)
theorem dX6_leaves_3 : decode cX6_leaves 3 = .ok (.invokevirtual 65, 3) := dk_182 0 65 (dk_at dksX6_leaves_0 3 rfl rfl)
theorem dX6_leaves_6 : decode cX6_leaves 6 = .ok (.return_, 1) := dk_177 (dk_at dksX6_leaves_0 6 rfl rfl)
abbrev cX6_comes : ByteArray := prog_7_method_9_code
def yX6_comes : MethodName := ⟨RX6, "comes", "(II)V"⟩
def dkwX6_comes_0 : List UInt8 := [42, 27, 181, 0, 45, 42, 28, 181, 0, 48, 177]
abbrev dktX6_comes_0 : List UInt8 := dkwX6_comes_0 ++ []
theorem dksX6_comes_0 : cX6_comes.data.toList.drop 0 = dktX6_comes_0 := by decide +kernel
theorem dX6_comes_0 : decode cX6_comes 0 = .ok (.aload_n 0, 1) := dk_42 (dk_at dksX6_comes_0 0 rfl rfl)
theorem dX6_comes_1 : decode cX6_comes 1 = .ok (.iload_n 1, 1) := dk_27 (dk_at dksX6_comes_0 1 rfl rfl)
theorem dX6_comes_2 : decode cX6_comes 2 = .ok (.putfield 45, 3) := dk_181 0 45 (dk_at dksX6_comes_0 2 rfl rfl)
theorem dX6_comes_5 : decode cX6_comes 5 = .ok (.aload_n 0, 1) := dk_42 (dk_at dksX6_comes_0 5 rfl rfl)
theorem dX6_comes_6 : decode cX6_comes 6 = .ok (.iload_n 2, 1) := dk_28 (dk_at dksX6_comes_0 6 rfl rfl)
theorem dX6_comes_7 : decode cX6_comes 7 = .ok (.putfield 48, 3) := dk_181 0 48 (dk_at dksX6_comes_0 7 rfl rfl)
theorem dX6_comes_10 : decode cX6_comes 10 = .ok (.return_, 1) := dk_177 (dk_at dksX6_comes_0 10 rfl rfl)
abbrev cX6_begins : ByteArray := prog_7_method_2_code
def yX6_begins : MethodName := ⟨RX6, "begins", "(II)V"⟩
def dkwX6_begins_1 : List UInt8 := [181, 0, 33, 42, 42, 182, 0, 36, 5, 108, 181, 0, 39, 42, 182, 0, 42, 177]
abbrev dktX6_begins_1 : List UInt8 := dkwX6_begins_1 ++ []
def dkwX6_begins_0 : List UInt8 := [42, 27, 181, 0, 19, 42, 28, 181, 0, 22, 42, 3, 181, 0, 25, 42, 42, 182, 0, 29, 5, 108]
abbrev dktX6_begins_0 : List UInt8 := dkwX6_begins_0 ++ dktX6_begins_1
theorem dksX6_begins_0 : cX6_begins.data.toList.drop 0 = dktX6_begins_0 := by decide +kernel
theorem dksX6_begins_1 : cX6_begins.data.toList.drop 22 = dktX6_begins_1 := dk_seg dksX6_begins_0 22 rfl rfl
theorem dX6_begins_0 : decode cX6_begins 0 = .ok (.aload_n 0, 1) := dk_42 (dk_at dksX6_begins_0 0 rfl rfl)
theorem dX6_begins_1 : decode cX6_begins 1 = .ok (.iload_n 1, 1) := dk_27 (dk_at dksX6_begins_0 1 rfl rfl)
theorem dX6_begins_2 : decode cX6_begins 2 = .ok (.putfield 19, 3) := dk_181 0 19 (dk_at dksX6_begins_0 2 rfl rfl)
theorem dX6_begins_5 : decode cX6_begins 5 = .ok (.aload_n 0, 1) := dk_42 (dk_at dksX6_begins_0 5 rfl rfl)
theorem dX6_begins_6 : decode cX6_begins 6 = .ok (.iload_n 2, 1) := dk_28 (dk_at dksX6_begins_0 6 rfl rfl)
theorem dX6_begins_7 : decode cX6_begins 7 = .ok (.putfield 22, 3) := dk_181 0 22 (dk_at dksX6_begins_0 7 rfl rfl)
theorem dX6_begins_10 : decode cX6_begins 10 = .ok (.aload_n 0, 1) := dk_42 (dk_at dksX6_begins_0 10 rfl rfl)
theorem dX6_begins_11 : decode cX6_begins 11 = .ok (.iconst 0, 1) := dk_3 (dk_at dksX6_begins_0 11 rfl rfl)
theorem dX6_begins_12 : decode cX6_begins 12 = .ok (.putfield 25, 3) := dk_181 0 25 (dk_at dksX6_begins_0 12 rfl rfl)
theorem dX6_begins_15 : decode cX6_begins 15 = .ok (.aload_n 0, 1) := dk_42 (dk_at dksX6_begins_0 15 rfl rfl)
theorem dX6_begins_16 : decode cX6_begins 16 = .ok (.aload_n 0, 1) := dk_42 (dk_at dksX6_begins_0 16 rfl rfl)
theorem dX6_begins_17 : decode cX6_begins 17 = .ok (.invokevirtual 29, 3) := dk_182 0 29 (dk_at dksX6_begins_0 17 rfl rfl)
theorem dX6_begins_20 : decode cX6_begins 20 = .ok (.iconst 2, 1) := dk_5 (dk_at dksX6_begins_0 20 rfl rfl)
theorem dX6_begins_21 : decode cX6_begins 21 = .ok (.idiv, 1) := dk_108 (dk_at dksX6_begins_0 21 rfl rfl)
theorem dX6_begins_22 : decode cX6_begins 22 = .ok (.putfield 33, 3) := dk_181 0 33 (dk_at dksX6_begins_1 0 rfl rfl)
theorem dX6_begins_25 : decode cX6_begins 25 = .ok (.aload_n 0, 1) := dk_42 (dk_at dksX6_begins_1 3 rfl rfl)
theorem dX6_begins_26 : decode cX6_begins 26 = .ok (.aload_n 0, 1) := dk_42 (dk_at dksX6_begins_1 4 rfl rfl)
theorem dX6_begins_27 : decode cX6_begins 27 = .ok (.invokevirtual 36, 3) := dk_182 0 36 (dk_at dksX6_begins_1 5 rfl rfl)
theorem dX6_begins_30 : decode cX6_begins 30 = .ok (.iconst 2, 1) := dk_5 (dk_at dksX6_begins_1 8 rfl rfl)
theorem dX6_begins_31 : decode cX6_begins 31 = .ok (.idiv, 1) := dk_108 (dk_at dksX6_begins_1 9 rfl rfl)
theorem dX6_begins_32 : decode cX6_begins 32 = .ok (.putfield 39, 3) := dk_181 0 39 (dk_at dksX6_begins_1 10 rfl rfl)
theorem dX6_begins_35 : decode cX6_begins 35 = .ok (.aload_n 0, 1) := dk_42 (dk_at dksX6_begins_1 13 rfl rfl)
theorem dX6_begins_36 : decode cX6_begins 36 = .ok (.invokevirtual 42, 3) := dk_182 0 42 (dk_at dksX6_begins_1 14 rfl rfl)
theorem dX6_begins_39 : decode cX6_begins 39 = .ok (.return_, 1) := dk_177 (dk_at dksX6_begins_1 17 rfl rfl)
abbrev cX6_mostX : ByteArray := prog_7_method_4_code
def yX6_mostX : MethodName := ⟨RX6, "mostX", "()I"⟩
def dkwX6_mostX_0 : List UInt8 := [16, 16, 42, 180, 0, 3, 180, 0, 51, 42, 180, 0, 19, 100, 104, 172]
abbrev dktX6_mostX_0 : List UInt8 := dkwX6_mostX_0 ++ []
theorem dksX6_mostX_0 : cX6_mostX.data.toList.drop 0 = dktX6_mostX_0 := by decide +kernel
theorem dX6_mostX_0 : decode cX6_mostX 0 = .ok (.bipush 16, 2) := dk_16 16 (dk_at dksX6_mostX_0 0 rfl rfl)
theorem dX6_mostX_2 : decode cX6_mostX 2 = .ok (.aload_n 0, 1) := dk_42 (dk_at dksX6_mostX_0 2 rfl rfl)
theorem dX6_mostX_3 : decode cX6_mostX 3 = .ok (.getfield 3, 3) := dk_180 0 3 (dk_at dksX6_mostX_0 3 rfl rfl)
theorem dX6_mostX_6 : decode cX6_mostX 6 = .ok (.getfield 51, 3) := dk_180 0 51 (dk_at dksX6_mostX_0 6 rfl rfl)
theorem dX6_mostX_9 : decode cX6_mostX 9 = .ok (.aload_n 0, 1) := dk_42 (dk_at dksX6_mostX_0 9 rfl rfl)
theorem dX6_mostX_10 : decode cX6_mostX 10 = .ok (.getfield 19, 3) := dk_180 0 19 (dk_at dksX6_mostX_0 10 rfl rfl)
theorem dX6_mostX_13 : decode cX6_mostX 13 = .ok (.isub, 1) := dk_100 (dk_at dksX6_mostX_0 13 rfl rfl)
theorem dX6_mostX_14 : decode cX6_mostX 14 = .ok (.imul, 1) := dk_104 (dk_at dksX6_mostX_0 14 rfl rfl)
theorem dX6_mostX_15 : decode cX6_mostX 15 = .ok (.ireturn, 1) := dk_172 (dk_at dksX6_mostX_0 15 rfl rfl)
abbrev cX6_mostY : ByteArray := prog_7_method_5_code
def yX6_mostY : MethodName := ⟨RX6, "mostY", "()I"⟩
def dkwX6_mostY_0 : List UInt8 := [16, 16, 42, 180, 0, 3, 180, 0, 54, 4, 100, 104, 172]
abbrev dktX6_mostY_0 : List UInt8 := dkwX6_mostY_0 ++ []
theorem dksX6_mostY_0 : cX6_mostY.data.toList.drop 0 = dktX6_mostY_0 := by decide +kernel
theorem dX6_mostY_0 : decode cX6_mostY 0 = .ok (.bipush 16, 2) := dk_16 16 (dk_at dksX6_mostY_0 0 rfl rfl)
theorem dX6_mostY_2 : decode cX6_mostY 2 = .ok (.aload_n 0, 1) := dk_42 (dk_at dksX6_mostY_0 2 rfl rfl)
theorem dX6_mostY_3 : decode cX6_mostY 3 = .ok (.getfield 3, 3) := dk_180 0 3 (dk_at dksX6_mostY_0 3 rfl rfl)
theorem dX6_mostY_6 : decode cX6_mostY 6 = .ok (.getfield 54, 3) := dk_180 0 54 (dk_at dksX6_mostY_0 6 rfl rfl)
theorem dX6_mostY_9 : decode cX6_mostY 9 = .ok (.iconst 1, 1) := dk_4 (dk_at dksX6_mostY_0 9 rfl rfl)
theorem dX6_mostY_10 : decode cX6_mostY 10 = .ok (.isub, 1) := dk_100 (dk_at dksX6_mostY_0 10 rfl rfl)
theorem dX6_mostY_11 : decode cX6_mostY 11 = .ok (.imul, 1) := dk_104 (dk_at dksX6_mostY_0 11 rfl rfl)
theorem dX6_mostY_12 : decode cX6_mostY 12 = .ok (.ireturn, 1) := dk_172 (dk_at dksX6_mostY_0 12 rfl rfl)
abbrev cX6_heldX : ByteArray := prog_7_method_15_code
def yX6_heldX : MethodName := ⟨RX6, "heldX", "(I)I"⟩
def dkwX6_heldX_3 : List UInt8 := [182, 0, 29, 184, 0, 85, 172]
abbrev dktX6_heldX_3 : List UInt8 := dkwX6_heldX_3 ++ []
def dkwX6_heldX_2 : List UInt8 := [16, 16, 44, 180, 0, 103, 4, 96, 42, 180, 0, 19, 100, 104, 184, 0, 106, 184, 0, 85, 3, 42]
abbrev dktX6_heldX_2 : List UInt8 := dkwX6_heldX_2 ++ dktX6_heldX_3
def dkwX6_heldX_1 : List UInt8 := [180, 0, 89, 180, 0, 93, 42, 180, 0, 22, 50, 77, 16, 16, 44, 180, 0, 98, 104, 62, 27, 29, 29]
abbrev dktX6_heldX_1 : List UInt8 := dkwX6_heldX_1 ++ dktX6_heldX_2
def dkwX6_heldX_0 : List UInt8 := [42, 180, 0, 22, 2, 160, 0, 13, 27, 3, 42, 182, 0, 29, 184, 0, 85, 172, 42, 180, 0, 3]
abbrev dktX6_heldX_0 : List UInt8 := dkwX6_heldX_0 ++ dktX6_heldX_1
theorem dksX6_heldX_0 : cX6_heldX.data.toList.drop 0 = dktX6_heldX_0 := by decide +kernel
theorem dksX6_heldX_1 : cX6_heldX.data.toList.drop 22 = dktX6_heldX_1 := dk_seg dksX6_heldX_0 22 rfl rfl
theorem dksX6_heldX_2 : cX6_heldX.data.toList.drop 45 = dktX6_heldX_2 := dk_seg dksX6_heldX_1 23 rfl rfl
theorem dksX6_heldX_3 : cX6_heldX.data.toList.drop 67 = dktX6_heldX_3 := dk_seg dksX6_heldX_2 22 rfl rfl
theorem dX6_heldX_0 : decode cX6_heldX 0 = .ok (.aload_n 0, 1) := dk_42 (dk_at dksX6_heldX_0 0 rfl rfl)
theorem dX6_heldX_1 : decode cX6_heldX 1 = .ok (.getfield 22, 3) := dk_180 0 22 (dk_at dksX6_heldX_0 1 rfl rfl)
theorem dX6_heldX_4 : decode cX6_heldX 4 = .ok (.iconst (-1), 1) := dk_2 (dk_at dksX6_heldX_0 4 rfl rfl)
theorem dX6_heldX_5 : decode cX6_heldX 5 = .ok (.if_icmp .ne 13, 3) := dk_160 0 13 (dk_at dksX6_heldX_0 5 rfl rfl)
theorem dX6_heldX_8 : decode cX6_heldX 8 = .ok (.iload_n 1, 1) := dk_27 (dk_at dksX6_heldX_0 8 rfl rfl)
theorem dX6_heldX_9 : decode cX6_heldX 9 = .ok (.iconst 0, 1) := dk_3 (dk_at dksX6_heldX_0 9 rfl rfl)
theorem dX6_heldX_10 : decode cX6_heldX 10 = .ok (.aload_n 0, 1) := dk_42 (dk_at dksX6_heldX_0 10 rfl rfl)
theorem dX6_heldX_11 : decode cX6_heldX 11 = .ok (.invokevirtual 29, 3) := dk_182 0 29 (dk_at dksX6_heldX_0 11 rfl rfl)
theorem dX6_heldX_14 : decode cX6_heldX 14 = .ok (.invokestatic 85, 3) := dk_184 0 85 (dk_at dksX6_heldX_0 14 rfl rfl)
theorem dX6_heldX_17 : decode cX6_heldX 17 = .ok (.ireturn, 1) := dk_172 (dk_at dksX6_heldX_0 17 rfl rfl)
theorem dX6_heldX_18 : decode cX6_heldX 18 = .ok (.aload_n 0, 1) := dk_42 (dk_at dksX6_heldX_0 18 rfl rfl)
theorem dX6_heldX_19 : decode cX6_heldX 19 = .ok (.getfield 3, 3) := dk_180 0 3 (dk_at dksX6_heldX_0 19 rfl rfl)
theorem dX6_heldX_22 : decode cX6_heldX 22 = .ok (.getfield 89, 3) := dk_180 0 89 (dk_at dksX6_heldX_1 0 rfl rfl)
theorem dX6_heldX_25 : decode cX6_heldX 25 = .ok (.getfield 93, 3) := dk_180 0 93 (dk_at dksX6_heldX_1 3 rfl rfl)
theorem dX6_heldX_28 : decode cX6_heldX 28 = .ok (.aload_n 0, 1) := dk_42 (dk_at dksX6_heldX_1 6 rfl rfl)
theorem dX6_heldX_29 : decode cX6_heldX 29 = .ok (.getfield 22, 3) := dk_180 0 22 (dk_at dksX6_heldX_1 7 rfl rfl)
theorem dX6_heldX_32 : decode cX6_heldX 32 = .ok (.aaload, 1) := dk_50 (dk_at dksX6_heldX_1 10 rfl rfl)
theorem dX6_heldX_33 : decode cX6_heldX 33 = .ok (.astore_n 2, 1) := dk_77 (dk_at dksX6_heldX_1 11 rfl rfl)
theorem dX6_heldX_34 : decode cX6_heldX 34 = .ok (.bipush 16, 2) := dk_16 16 (dk_at dksX6_heldX_1 12 rfl rfl)
theorem dX6_heldX_36 : decode cX6_heldX 36 = .ok (.aload_n 2, 1) := dk_44 (dk_at dksX6_heldX_1 14 rfl rfl)
theorem dX6_heldX_37 : decode cX6_heldX 37 = .ok (.getfield 98, 3) := dk_180 0 98 (dk_at dksX6_heldX_1 15 rfl rfl)
theorem dX6_heldX_40 : decode cX6_heldX 40 = .ok (.imul, 1) := dk_104 (dk_at dksX6_heldX_1 18 rfl rfl)
theorem dX6_heldX_41 : decode cX6_heldX 41 = .ok (.istore_n 3, 1) := dk_62 (dk_at dksX6_heldX_1 19 rfl rfl)
theorem dX6_heldX_42 : decode cX6_heldX 42 = .ok (.iload_n 1, 1) := dk_27 (dk_at dksX6_heldX_1 20 rfl rfl)
theorem dX6_heldX_43 : decode cX6_heldX 43 = .ok (.iload_n 3, 1) := dk_29 (dk_at dksX6_heldX_1 21 rfl rfl)
theorem dX6_heldX_44 : decode cX6_heldX 44 = .ok (.iload_n 3, 1) := dk_29 (dk_at dksX6_heldX_1 22 rfl rfl)
theorem dX6_heldX_45 : decode cX6_heldX 45 = .ok (.bipush 16, 2) := dk_16 16 (dk_at dksX6_heldX_2 0 rfl rfl)
theorem dX6_heldX_47 : decode cX6_heldX 47 = .ok (.aload_n 2, 1) := dk_44 (dk_at dksX6_heldX_2 2 rfl rfl)
theorem dX6_heldX_48 : decode cX6_heldX 48 = .ok (.getfield 103, 3) := dk_180 0 103 (dk_at dksX6_heldX_2 3 rfl rfl)
theorem dX6_heldX_51 : decode cX6_heldX 51 = .ok (.iconst 1, 1) := dk_4 (dk_at dksX6_heldX_2 6 rfl rfl)
theorem dX6_heldX_52 : decode cX6_heldX 52 = .ok (.iadd, 1) := dk_96 (dk_at dksX6_heldX_2 7 rfl rfl)
theorem dX6_heldX_53 : decode cX6_heldX 53 = .ok (.aload_n 0, 1) := dk_42 (dk_at dksX6_heldX_2 8 rfl rfl)
theorem dX6_heldX_54 : decode cX6_heldX 54 = .ok (.getfield 19, 3) := dk_180 0 19 (dk_at dksX6_heldX_2 9 rfl rfl)
theorem dX6_heldX_57 : decode cX6_heldX 57 = .ok (.isub, 1) := dk_100 (dk_at dksX6_heldX_2 12 rfl rfl)
theorem dX6_heldX_58 : decode cX6_heldX 58 = .ok (.imul, 1) := dk_104 (dk_at dksX6_heldX_2 13 rfl rfl)
theorem dX6_heldX_59 : decode cX6_heldX 59 = .ok (.invokestatic 106, 3) := dk_184 0 106 (dk_at dksX6_heldX_2 14 rfl rfl)
theorem dX6_heldX_62 : decode cX6_heldX 62 = .ok (.invokestatic 85, 3) := dk_184 0 85 (dk_at dksX6_heldX_2 17 rfl rfl)
theorem dX6_heldX_65 : decode cX6_heldX 65 = .ok (.iconst 0, 1) := dk_3 (dk_at dksX6_heldX_2 20 rfl rfl)
theorem dX6_heldX_66 : decode cX6_heldX 66 = .ok (.aload_n 0, 1) := dk_42 (dk_at dksX6_heldX_2 21 rfl rfl)
theorem dX6_heldX_67 : decode cX6_heldX 67 = .ok (.invokevirtual 29, 3) := dk_182 0 29 (dk_at dksX6_heldX_3 0 rfl rfl)
theorem dX6_heldX_70 : decode cX6_heldX 70 = .ok (.invokestatic 85, 3) := dk_184 0 85 (dk_at dksX6_heldX_3 3 rfl rfl)
theorem dX6_heldX_73 : decode cX6_heldX 73 = .ok (.ireturn, 1) := dk_172 (dk_at dksX6_heldX_3 6 rfl rfl)
abbrev cX6_heldY : ByteArray := prog_7_method_16_code
def yX6_heldY : MethodName := ⟨RX6, "heldY", "(I)I"⟩
def dkwX6_heldY_2 : List UInt8 := [180, 0, 89, 180, 0, 93, 42, 180, 0, 22, 50, 180, 0, 113, 104, 184, 0, 85, 172]
abbrev dktX6_heldY_2 : List UInt8 := dkwX6_heldY_2 ++ []
def dkwX6_heldY_1 : List UInt8 := [180, 0, 3, 180, 0, 89, 180, 0, 93, 42, 180, 0, 22, 50, 180, 0, 110, 104, 16, 16, 42, 180, 0, 3]
abbrev dktX6_heldY_1 : List UInt8 := dkwX6_heldY_1 ++ dktX6_heldY_2
def dkwX6_heldY_0 : List UInt8 := [42, 180, 0, 22, 2, 160, 0, 15, 27, 3, 42, 182, 0, 36, 184, 0, 85, 167, 0, 49, 27, 16, 16, 42]
abbrev dktX6_heldY_0 : List UInt8 := dkwX6_heldY_0 ++ dktX6_heldY_1
theorem dksX6_heldY_0 : cX6_heldY.data.toList.drop 0 = dktX6_heldY_0 := by decide +kernel
theorem dksX6_heldY_1 : cX6_heldY.data.toList.drop 24 = dktX6_heldY_1 := dk_seg dksX6_heldY_0 24 rfl rfl
theorem dksX6_heldY_2 : cX6_heldY.data.toList.drop 48 = dktX6_heldY_2 := dk_seg dksX6_heldY_1 24 rfl rfl
theorem dX6_heldY_0 : decode cX6_heldY 0 = .ok (.aload_n 0, 1) := dk_42 (dk_at dksX6_heldY_0 0 rfl rfl)
theorem dX6_heldY_1 : decode cX6_heldY 1 = .ok (.getfield 22, 3) := dk_180 0 22 (dk_at dksX6_heldY_0 1 rfl rfl)
theorem dX6_heldY_4 : decode cX6_heldY 4 = .ok (.iconst (-1), 1) := dk_2 (dk_at dksX6_heldY_0 4 rfl rfl)
theorem dX6_heldY_5 : decode cX6_heldY 5 = .ok (.if_icmp .ne 15, 3) := dk_160 0 15 (dk_at dksX6_heldY_0 5 rfl rfl)
theorem dX6_heldY_8 : decode cX6_heldY 8 = .ok (.iload_n 1, 1) := dk_27 (dk_at dksX6_heldY_0 8 rfl rfl)
theorem dX6_heldY_9 : decode cX6_heldY 9 = .ok (.iconst 0, 1) := dk_3 (dk_at dksX6_heldY_0 9 rfl rfl)
theorem dX6_heldY_10 : decode cX6_heldY 10 = .ok (.aload_n 0, 1) := dk_42 (dk_at dksX6_heldY_0 10 rfl rfl)
theorem dX6_heldY_11 : decode cX6_heldY 11 = .ok (.invokevirtual 36, 3) := dk_182 0 36 (dk_at dksX6_heldY_0 11 rfl rfl)
theorem dX6_heldY_14 : decode cX6_heldY 14 = .ok (.invokestatic 85, 3) := dk_184 0 85 (dk_at dksX6_heldY_0 14 rfl rfl)
theorem dX6_heldY_17 : decode cX6_heldY 17 = .ok (.goto 49, 3) := dk_167 0 49 (dk_at dksX6_heldY_0 17 rfl rfl)
theorem dX6_heldY_20 : decode cX6_heldY 20 = .ok (.iload_n 1, 1) := dk_27 (dk_at dksX6_heldY_0 20 rfl rfl)
theorem dX6_heldY_21 : decode cX6_heldY 21 = .ok (.bipush 16, 2) := dk_16 16 (dk_at dksX6_heldY_0 21 rfl rfl)
theorem dX6_heldY_23 : decode cX6_heldY 23 = .ok (.aload_n 0, 1) := dk_42 (dk_at dksX6_heldY_0 23 rfl rfl)
theorem dX6_heldY_24 : decode cX6_heldY 24 = .ok (.getfield 3, 3) := dk_180 0 3 (dk_at dksX6_heldY_1 0 rfl rfl)
theorem dX6_heldY_27 : decode cX6_heldY 27 = .ok (.getfield 89, 3) := dk_180 0 89 (dk_at dksX6_heldY_1 3 rfl rfl)
theorem dX6_heldY_30 : decode cX6_heldY 30 = .ok (.getfield 93, 3) := dk_180 0 93 (dk_at dksX6_heldY_1 6 rfl rfl)
theorem dX6_heldY_33 : decode cX6_heldY 33 = .ok (.aload_n 0, 1) := dk_42 (dk_at dksX6_heldY_1 9 rfl rfl)
theorem dX6_heldY_34 : decode cX6_heldY 34 = .ok (.getfield 22, 3) := dk_180 0 22 (dk_at dksX6_heldY_1 10 rfl rfl)
theorem dX6_heldY_37 : decode cX6_heldY 37 = .ok (.aaload, 1) := dk_50 (dk_at dksX6_heldY_1 13 rfl rfl)
theorem dX6_heldY_38 : decode cX6_heldY 38 = .ok (.getfield 110, 3) := dk_180 0 110 (dk_at dksX6_heldY_1 14 rfl rfl)
theorem dX6_heldY_41 : decode cX6_heldY 41 = .ok (.imul, 1) := dk_104 (dk_at dksX6_heldY_1 17 rfl rfl)
theorem dX6_heldY_42 : decode cX6_heldY 42 = .ok (.bipush 16, 2) := dk_16 16 (dk_at dksX6_heldY_1 18 rfl rfl)
theorem dX6_heldY_44 : decode cX6_heldY 44 = .ok (.aload_n 0, 1) := dk_42 (dk_at dksX6_heldY_1 20 rfl rfl)
theorem dX6_heldY_45 : decode cX6_heldY 45 = .ok (.getfield 3, 3) := dk_180 0 3 (dk_at dksX6_heldY_1 21 rfl rfl)
theorem dX6_heldY_48 : decode cX6_heldY 48 = .ok (.getfield 89, 3) := dk_180 0 89 (dk_at dksX6_heldY_2 0 rfl rfl)
theorem dX6_heldY_51 : decode cX6_heldY 51 = .ok (.getfield 93, 3) := dk_180 0 93 (dk_at dksX6_heldY_2 3 rfl rfl)
theorem dX6_heldY_54 : decode cX6_heldY 54 = .ok (.aload_n 0, 1) := dk_42 (dk_at dksX6_heldY_2 6 rfl rfl)
theorem dX6_heldY_55 : decode cX6_heldY 55 = .ok (.getfield 22, 3) := dk_180 0 22 (dk_at dksX6_heldY_2 7 rfl rfl)
theorem dX6_heldY_58 : decode cX6_heldY 58 = .ok (.aaload, 1) := dk_50 (dk_at dksX6_heldY_2 10 rfl rfl)
theorem dX6_heldY_59 : decode cX6_heldY 59 = .ok (.getfield 113, 3) := dk_180 0 113 (dk_at dksX6_heldY_2 11 rfl rfl)
theorem dX6_heldY_62 : decode cX6_heldY 62 = .ok (.imul, 1) := dk_104 (dk_at dksX6_heldY_2 14 rfl rfl)
theorem dX6_heldY_63 : decode cX6_heldY 63 = .ok (.invokestatic 85, 3) := dk_184 0 85 (dk_at dksX6_heldY_2 15 rfl rfl)
theorem dX6_heldY_66 : decode cX6_heldY 66 = .ok (.ireturn, 1) := dk_172 (dk_at dksX6_heldY_2 18 rfl rfl)
abbrev cX6_farAt : ByteArray := prog_7_method_12_code
def yX6_farAt : MethodName := ⟨RX6, "farAt", "(I)I"⟩
def dkwX6_farAt_0 : List UInt8 := [42, 180, 0, 19, 16, 16, 27, 104, 42, 180, 0, 33, 100, 184, 0, 69, 104, 172]
abbrev dktX6_farAt_0 : List UInt8 := dkwX6_farAt_0 ++ []
theorem dksX6_farAt_0 : cX6_farAt.data.toList.drop 0 = dktX6_farAt_0 := by decide +kernel
theorem dX6_farAt_0 : decode cX6_farAt 0 = .ok (.aload_n 0, 1) := dk_42 (dk_at dksX6_farAt_0 0 rfl rfl)
theorem dX6_farAt_1 : decode cX6_farAt 1 = .ok (.getfield 19, 3) := dk_180 0 19 (dk_at dksX6_farAt_0 1 rfl rfl)
theorem dX6_farAt_4 : decode cX6_farAt 4 = .ok (.bipush 16, 2) := dk_16 16 (dk_at dksX6_farAt_0 4 rfl rfl)
theorem dX6_farAt_6 : decode cX6_farAt 6 = .ok (.iload_n 1, 1) := dk_27 (dk_at dksX6_farAt_0 6 rfl rfl)
theorem dX6_farAt_7 : decode cX6_farAt 7 = .ok (.imul, 1) := dk_104 (dk_at dksX6_farAt_0 7 rfl rfl)
theorem dX6_farAt_8 : decode cX6_farAt 8 = .ok (.aload_n 0, 1) := dk_42 (dk_at dksX6_farAt_0 8 rfl rfl)
theorem dX6_farAt_9 : decode cX6_farAt 9 = .ok (.getfield 33, 3) := dk_180 0 33 (dk_at dksX6_farAt_0 9 rfl rfl)
theorem dX6_farAt_12 : decode cX6_farAt 12 = .ok (.isub, 1) := dk_100 (dk_at dksX6_farAt_0 12 rfl rfl)
theorem dX6_farAt_13 : decode cX6_farAt 13 = .ok (.invokestatic 69, 3) := dk_184 0 69 (dk_at dksX6_farAt_0 13 rfl rfl)
theorem dX6_farAt_16 : decode cX6_farAt 16 = .ok (.imul, 1) := dk_104 (dk_at dksX6_farAt_0 16 rfl rfl)
theorem dX6_farAt_17 : decode cX6_farAt 17 = .ok (.ireturn, 1) := dk_172 (dk_at dksX6_farAt_0 17 rfl rfl)
abbrev cX6_highAt : ByteArray := prog_7_method_13_code
def yX6_highAt : MethodName := ⟨RX6, "highAt", "(I)I"⟩
def dkwX6_highAt_1 : List UInt8 := [184, 0, 69, 104, 172]
abbrev dktX6_highAt_1 : List UInt8 := dkwX6_highAt_1 ++ []
def dkwX6_highAt_0 : List UInt8 := [42, 180, 0, 19, 42, 180, 0, 3, 180, 0, 75, 7, 46, 104, 16, 16, 27, 104, 42, 180, 0, 39, 100]
abbrev dktX6_highAt_0 : List UInt8 := dkwX6_highAt_0 ++ dktX6_highAt_1
theorem dksX6_highAt_0 : cX6_highAt.data.toList.drop 0 = dktX6_highAt_0 := by decide +kernel
theorem dksX6_highAt_1 : cX6_highAt.data.toList.drop 23 = dktX6_highAt_1 := dk_seg dksX6_highAt_0 23 rfl rfl
theorem dX6_highAt_0 : decode cX6_highAt 0 = .ok (.aload_n 0, 1) := dk_42 (dk_at dksX6_highAt_0 0 rfl rfl)
theorem dX6_highAt_1 : decode cX6_highAt 1 = .ok (.getfield 19, 3) := dk_180 0 19 (dk_at dksX6_highAt_0 1 rfl rfl)
theorem dX6_highAt_4 : decode cX6_highAt 4 = .ok (.aload_n 0, 1) := dk_42 (dk_at dksX6_highAt_0 4 rfl rfl)
theorem dX6_highAt_5 : decode cX6_highAt 5 = .ok (.getfield 3, 3) := dk_180 0 3 (dk_at dksX6_highAt_0 5 rfl rfl)
theorem dX6_highAt_8 : decode cX6_highAt 8 = .ok (.getfield 75, 3) := dk_180 0 75 (dk_at dksX6_highAt_0 8 rfl rfl)
theorem dX6_highAt_11 : decode cX6_highAt 11 = .ok (.iconst 4, 1) := dk_7 (dk_at dksX6_highAt_0 11 rfl rfl)
theorem dX6_highAt_12 : decode cX6_highAt 12 = .ok (.iaload, 1) := dk_46 (dk_at dksX6_highAt_0 12 rfl rfl)
theorem dX6_highAt_13 : decode cX6_highAt 13 = .ok (.imul, 1) := dk_104 (dk_at dksX6_highAt_0 13 rfl rfl)
theorem dX6_highAt_14 : decode cX6_highAt 14 = .ok (.bipush 16, 2) := dk_16 16 (dk_at dksX6_highAt_0 14 rfl rfl)
theorem dX6_highAt_16 : decode cX6_highAt 16 = .ok (.iload_n 1, 1) := dk_27 (dk_at dksX6_highAt_0 16 rfl rfl)
theorem dX6_highAt_17 : decode cX6_highAt 17 = .ok (.imul, 1) := dk_104 (dk_at dksX6_highAt_0 17 rfl rfl)
theorem dX6_highAt_18 : decode cX6_highAt 18 = .ok (.aload_n 0, 1) := dk_42 (dk_at dksX6_highAt_0 18 rfl rfl)
theorem dX6_highAt_19 : decode cX6_highAt 19 = .ok (.getfield 39, 3) := dk_180 0 39 (dk_at dksX6_highAt_0 19 rfl rfl)
theorem dX6_highAt_22 : decode cX6_highAt 22 = .ok (.isub, 1) := dk_100 (dk_at dksX6_highAt_0 22 rfl rfl)
theorem dX6_highAt_23 : decode cX6_highAt 23 = .ok (.invokestatic 69, 3) := dk_184 0 69 (dk_at dksX6_highAt_1 0 rfl rfl)
theorem dX6_highAt_26 : decode cX6_highAt 26 = .ok (.imul, 1) := dk_104 (dk_at dksX6_highAt_1 3 rfl rfl)
theorem dX6_highAt_27 : decode cX6_highAt 27 = .ok (.ireturn, 1) := dk_172 (dk_at dksX6_highAt_1 4 rfl rfl)
abbrev cX6_move : ByteArray := prog_7_method_14_code
def yX6_move : MethodName := ⟨RX6, "move", "()I"⟩
def dkwX6_move_1 : List UInt8 := [167, 0, 4, 3, 172]
abbrev dktX6_move_1 : List UInt8 := dkwX6_move_1 ++ []
def dkwX6_move_0 : List UInt8 := [42, 182, 0, 57, 153, 0, 23, 42, 42, 180, 0, 48, 182, 0, 79, 42, 42, 180, 0, 45, 182, 0, 82, 96]
abbrev dktX6_move_0 : List UInt8 := dkwX6_move_0 ++ dktX6_move_1
theorem dksX6_move_0 : cX6_move.data.toList.drop 0 = dktX6_move_0 := by decide +kernel
theorem dksX6_move_1 : cX6_move.data.toList.drop 24 = dktX6_move_1 := dk_seg dksX6_move_0 24 rfl rfl
theorem dX6_move_0 : decode cX6_move 0 = .ok (.aload_n 0, 1) := dk_42 (dk_at dksX6_move_0 0 rfl rfl)
theorem dX6_move_1 : decode cX6_move 1 = .ok (.invokevirtual 57, 3) := dk_182 0 57 (dk_at dksX6_move_0 1 rfl rfl)
theorem dX6_move_4 : decode cX6_move 4 = .ok (.ifCond .eq 23, 3) := dk_153 0 23 (dk_at dksX6_move_0 4 rfl rfl)
theorem dX6_move_7 : decode cX6_move 7 = .ok (.aload_n 0, 1) := dk_42 (dk_at dksX6_move_0 7 rfl rfl)
theorem dX6_move_8 : decode cX6_move 8 = .ok (.aload_n 0, 1) := dk_42 (dk_at dksX6_move_0 8 rfl rfl)
theorem dX6_move_9 : decode cX6_move 9 = .ok (.getfield 48, 3) := dk_180 0 48 (dk_at dksX6_move_0 9 rfl rfl)
theorem dX6_move_12 : decode cX6_move 12 = .ok (.invokevirtual 79, 3) := dk_182 0 79 (dk_at dksX6_move_0 12 rfl rfl)
theorem dX6_move_15 : decode cX6_move 15 = .ok (.aload_n 0, 1) := dk_42 (dk_at dksX6_move_0 15 rfl rfl)
theorem dX6_move_16 : decode cX6_move 16 = .ok (.aload_n 0, 1) := dk_42 (dk_at dksX6_move_0 16 rfl rfl)
theorem dX6_move_17 : decode cX6_move 17 = .ok (.getfield 45, 3) := dk_180 0 45 (dk_at dksX6_move_0 17 rfl rfl)
theorem dX6_move_20 : decode cX6_move 20 = .ok (.invokevirtual 82, 3) := dk_182 0 82 (dk_at dksX6_move_0 20 rfl rfl)
theorem dX6_move_23 : decode cX6_move 23 = .ok (.iadd, 1) := dk_96 (dk_at dksX6_move_0 23 rfl rfl)
theorem dX6_move_24 : decode cX6_move 24 = .ok (.goto 4, 3) := dk_167 0 4 (dk_at dksX6_move_1 0 rfl rfl)
theorem dX6_move_27 : decode cX6_move 27 = .ok (.iconst 0, 1) := dk_3 (dk_at dksX6_move_1 3 rfl rfl)
theorem dX6_move_28 : decode cX6_move 28 = .ok (.ireturn, 1) := dk_172 (dk_at dksX6_move_1 4 rfl rfl)
abbrev cX6_isLike : ByteArray := prog_7_method_11_code
def yX6_isLike : MethodName := ⟨RX6, "isLike", "(LCellRows$Cell;)Z"⟩
def dkwX6_isLike_1 : List UInt8 := [167, 0, 4, 3, 172]
abbrev dktX6_isLike_1 : List UInt8 := dkwX6_isLike_1 ++ []
def dkwX6_isLike_0 : List UInt8 := [42, 180, 0, 19, 43, 180, 0, 19, 160, 0, 18, 42, 180, 0, 22, 43, 180, 0, 22, 160, 0, 7, 4]
abbrev dktX6_isLike_0 : List UInt8 := dkwX6_isLike_0 ++ dktX6_isLike_1
theorem dksX6_isLike_0 : cX6_isLike.data.toList.drop 0 = dktX6_isLike_0 := by decide +kernel
theorem dksX6_isLike_1 : cX6_isLike.data.toList.drop 23 = dktX6_isLike_1 := dk_seg dksX6_isLike_0 23 rfl rfl
theorem dX6_isLike_0 : decode cX6_isLike 0 = .ok (.aload_n 0, 1) := dk_42 (dk_at dksX6_isLike_0 0 rfl rfl)
theorem dX6_isLike_1 : decode cX6_isLike 1 = .ok (.getfield 19, 3) := dk_180 0 19 (dk_at dksX6_isLike_0 1 rfl rfl)
theorem dX6_isLike_4 : decode cX6_isLike 4 = .ok (.aload_n 1, 1) := dk_43 (dk_at dksX6_isLike_0 4 rfl rfl)
theorem dX6_isLike_5 : decode cX6_isLike 5 = .ok (.getfield 19, 3) := dk_180 0 19 (dk_at dksX6_isLike_0 5 rfl rfl)
theorem dX6_isLike_8 : decode cX6_isLike 8 = .ok (.if_icmp .ne 18, 3) := dk_160 0 18 (dk_at dksX6_isLike_0 8 rfl rfl)
theorem dX6_isLike_11 : decode cX6_isLike 11 = .ok (.aload_n 0, 1) := dk_42 (dk_at dksX6_isLike_0 11 rfl rfl)
theorem dX6_isLike_12 : decode cX6_isLike 12 = .ok (.getfield 22, 3) := dk_180 0 22 (dk_at dksX6_isLike_0 12 rfl rfl)
theorem dX6_isLike_15 : decode cX6_isLike 15 = .ok (.aload_n 1, 1) := dk_43 (dk_at dksX6_isLike_0 15 rfl rfl)
theorem dX6_isLike_16 : decode cX6_isLike 16 = .ok (.getfield 22, 3) := dk_180 0 22 (dk_at dksX6_isLike_0 16 rfl rfl)
theorem dX6_isLike_19 : decode cX6_isLike 19 = .ok (.if_icmp .ne 7, 3) := dk_160 0 7 (dk_at dksX6_isLike_0 19 rfl rfl)
theorem dX6_isLike_22 : decode cX6_isLike 22 = .ok (.iconst 1, 1) := dk_4 (dk_at dksX6_isLike_0 22 rfl rfl)
theorem dX6_isLike_23 : decode cX6_isLike 23 = .ok (.goto 4, 3) := dk_167 0 4 (dk_at dksX6_isLike_1 0 rfl rfl)
theorem dX6_isLike_26 : decode cX6_isLike 26 = .ok (.iconst 0, 1) := dk_3 (dk_at dksX6_isLike_1 3 rfl rfl)
theorem dX6_isLike_27 : decode cX6_isLike 27 = .ok (.ireturn, 1) := dk_172 (dk_at dksX6_isLike_1 4 rfl rfl)
theorem q143 : (Jvm.Cond.initialized "CellRows$Cell") ∈ lw_all := lw_g (lw_at lw_m1 7 rfl) rfl
theorem q221 : (Jvm.Cond.instantiable "CellRows$Cell" (9 : Nat)) ∈ lw_all := lw_g (lw_at lw_m1 85 rfl) rfl
theorem q223 : (Jvm.Cond.instanceMethod ({ cls := "CellRows$Cell", name := "<init>", desc := "(LCellRows;I)V" } : Jvm.MethodName)) ∈ lw_all := lw_g (lw_at lw_m1 87 rfl) rfl
theorem q224 : (Jvm.Cond.code ({ cls := "CellRows$Cell", name := "<init>", desc := "(LCellRows;I)V" } : Jvm.MethodName) prog_7_method_1_code (3 : Nat) (Option.none : Option Jvm.ClassFile.FieldType)) ∈ lw_all := lw_g (lw_at lw_m1 88 rfl) rfl
theorem q225 : (Jvm.Cond.methodLink "CellRows$Cell" (9 : Nat) ({ cls := "java/lang/Object", name := "<init>", desc := "()V" } : Jvm.MethodName)) ∈ lw_all := lw_g (lw_at lw_m1 89 rfl) rfl
theorem q226 : (Jvm.Cond.fieldLink "CellRows$Cell" (15 : Nat) "CellRows$Cell" "number" "I") ∈ lw_all := lw_g (lw_at lw_m1 90 rfl) rfl
theorem q228 : (Jvm.Cond.fieldLink "CellRows$Cell" (19 : Nat) "CellRows$Cell" "width" "I") ∈ lw_all := lw_g (lw_at lw_m1 92 rfl) rfl
theorem q234 : (Jvm.Cond.fieldLink "CellRows$Cell" (22 : Nat) "CellRows$Cell" "fence" "I") ∈ lw_all := lw_g (lw_at lw_m1 98 rfl) rfl
theorem q239 : (Jvm.Cond.fieldLink "CellRows$Cell" (33 : Nat) "CellRows$Cell" "x" "I") ∈ lw_all := lw_g (lw_at lw_m1 103 rfl) rfl
theorem q242 : (Jvm.Cond.fieldLink "CellRows$Cell" (39 : Nat) "CellRows$Cell" "y" "I") ∈ lw_all := lw_g (lw_at lw_m1 106 rfl) rfl
theorem q250 : (Jvm.Cond.fieldLink "CellRows$Cell" (45 : Nat) "CellRows$Cell" "row" "I") ∈ lw_all := lw_g (lw_at lw_m1 114 rfl) rfl
theorem q255 : (Jvm.Cond.fieldLink "CellRows$Cell" (48 : Nat) "CellRows$Cell" "site" "I") ∈ lw_all := lw_g (lw_at lw_m1 119 rfl) rfl
theorem q258 : (Jvm.Cond.fieldLink "CellRows$Cell" (25 : Nat) "CellRows$Cell" "isFixed" "Z") ∈ lw_all := lw_g (lw_at lw_m1 122 rfl) rfl
theorem q262 : (Jvm.Cond.fieldLink "CellRows$Cell" (3 : Nat) "CellRows$Cell" "this$0" "LCellRows;") ∈ lw_all := lw_g (lw_at lw_m1 126 rfl) rfl
theorem q263 : (Jvm.Cond.laysFinal "CellRows$Cell" "CellRows$Cell" "number" "I") ∈ lw_all := lw_g (lw_at lw_m1 127 rfl) rfl
theorem q264 : (Jvm.Cond.soleField "CellRows$Cell" "number") ∈ lw_all := lw_g (lw_at lw_m1 128 rfl) rfl
theorem q265 : (Jvm.Cond.lays "CellRows$Cell" "CellRows$Cell" "width" "I") ∈ lw_all := lw_g (lw_at lw_m1 129 rfl) rfl
theorem q266 : (Jvm.Cond.soleField "CellRows$Cell" "width") ∈ lw_all := lw_g (lw_at lw_m1 130 rfl) rfl
theorem q267 : (Jvm.Cond.lays "CellRows$Cell" "CellRows$Cell" "fence" "I") ∈ lw_all := lw_g (lw_at lw_m1 131 rfl) rfl
theorem q268 : (Jvm.Cond.soleField "CellRows$Cell" "fence") ∈ lw_all := lw_g (lw_at lw_m1 132 rfl) rfl
theorem q269 : (Jvm.Cond.lays "CellRows$Cell" "CellRows$Cell" "x" "I") ∈ lw_all := lw_g (lw_at lw_m1 133 rfl) rfl
theorem q270 : (Jvm.Cond.soleField "CellRows$Cell" "x") ∈ lw_all := lw_g (lw_at lw_m1 134 rfl) rfl
theorem q271 : (Jvm.Cond.lays "CellRows$Cell" "CellRows$Cell" "y" "I") ∈ lw_all := lw_g (lw_at lw_m1 135 rfl) rfl
theorem q272 : (Jvm.Cond.soleField "CellRows$Cell" "y") ∈ lw_all := lw_g (lw_at lw_m1 136 rfl) rfl
theorem q273 : (Jvm.Cond.lays "CellRows$Cell" "CellRows$Cell" "row" "I") ∈ lw_all := lw_g (lw_at lw_m1 137 rfl) rfl
theorem q274 : (Jvm.Cond.soleField "CellRows$Cell" "row") ∈ lw_all := lw_g (lw_at lw_m1 138 rfl) rfl
theorem q275 : (Jvm.Cond.lays "CellRows$Cell" "CellRows$Cell" "site" "I") ∈ lw_all := lw_g (lw_at lw_m1 139 rfl) rfl
theorem q276 : (Jvm.Cond.soleField "CellRows$Cell" "site") ∈ lw_all := lw_g (lw_at lw_m1 140 rfl) rfl
theorem q277 : (Jvm.Cond.lays "CellRows$Cell" "CellRows$Cell" "isFixed" "Z") ∈ lw_all := lw_g (lw_at lw_m1 141 rfl) rfl
theorem q278 : (Jvm.Cond.soleField "CellRows$Cell" "isFixed") ∈ lw_all := lw_g (lw_at lw_m1 142 rfl) rfl
theorem q279 : (Jvm.Cond.laysFinal "CellRows$Cell" "CellRows$Cell" "this$0" "LCellRows;") ∈ lw_all := lw_g (lw_at lw_m1 143 rfl) rfl
theorem q280 : (Jvm.Cond.soleField "CellRows$Cell" "this$0") ∈ lw_all := lw_g (lw_at lw_m1 144 rfl) rfl
theorem q281 : (Jvm.Cond.superclass "CellRows$Cell" "java/lang/Object") ∈ lw_all := lw_g (lw_at lw_m1 145 rfl) rfl
theorem q314 : (Jvm.Cond.fieldLinkNest "CellRows$Cell" (110 : Nat) "CellRows$Rect" "low" "I" "CellRows") ∈ lw_tbl := lw_at lw_m1 178 rfl
theorem q317 : (Jvm.Cond.fieldLinkNest "CellRows$Cell" (113 : Nat) "CellRows$Rect" "high" "I" "CellRows") ∈ lw_tbl := lw_at lw_m1 181 rfl
theorem q320 : (Jvm.Cond.fieldLinkNest "CellRows$Cell" (98 : Nat) "CellRows$Rect" "first" "I" "CellRows") ∈ lw_tbl := lw_at lw_m1 184 rfl
theorem q322 : (Jvm.Cond.fieldLinkNest "CellRows$Cell" (103 : Nat) "CellRows$Rect" "last" "I" "CellRows") ∈ lw_tbl := lw_at lw_m1 186 rfl
theorem q346 : (Jvm.Cond.fieldLinkNest "CellRows$Cell" (93 : Nat) "CellRows$Chip" "fence" "[LCellRows$Rect;" "CellRows") ∈ lw_tbl := lw_at lw_m1 210 rfl
theorem q381 : (Jvm.Cond.fieldLinkNest "CellRows$Cell" (54 : Nat) "CellRows" "rows" "I" "CellRows") ∈ lw_tbl := lw_at lw_m2 5 rfl
theorem q385 : (Jvm.Cond.fieldLinkNest "CellRows$Cell" (51 : Nat) "CellRows" "sites" "I" "CellRows") ∈ lw_tbl := lw_at lw_m2 9 rfl
theorem q392 : (Jvm.Cond.fieldLinkNest "CellRows$Cell" (75 : Nat) "CellRows" "term" "[I" "CellRows") ∈ lw_tbl := lw_at lw_m2 16 rfl
theorem q397 : (Jvm.Cond.fieldLinkNest "CellRows$Cell" (89 : Nat) "CellRows" "chip" "LCellRows$Chip;" "CellRows") ∈ lw_tbl := lw_at lw_m2 21 rfl
theorem q471 : (Jvm.Cond.instanceMethod ({ cls := "CellRows$Cell", name := "takes", desc := "(LCellRows$Cell;)V" } : Jvm.MethodName)) ∈ lw_all := lw_g (lw_at lw_m2 95 rfl) rfl
theorem q472 : (Jvm.Cond.selects "CellRows$Cell" ({ cls := "CellRows$Cell", name := "takes", desc := "(LCellRows$Cell;)V" } : Jvm.MethodName) ({ cls := "CellRows$Cell", name := "takes", desc := "(LCellRows$Cell;)V" } : Jvm.MethodName)) ∈ lw_all := lw_g (lw_at lw_m2 96 rfl) rfl
theorem q473 : (Jvm.Cond.code ({ cls := "CellRows$Cell", name := "takes", desc := "(LCellRows$Cell;)V" } : Jvm.MethodName) prog_7_method_3_code (2 : Nat) (Option.none : Option Jvm.ClassFile.FieldType)) ∈ lw_all := lw_g (lw_at lw_m2 97 rfl) rfl
theorem q556 : (Jvm.Cond.instanceMethod ({ cls := "CellRows$Cell", name := "lies", desc := "(II)Z" } : Jvm.MethodName)) ∈ lw_all := lw_g (lw_at lw_m2 180 rfl) rfl
theorem q557 : (Jvm.Cond.selects "CellRows$Cell" ({ cls := "CellRows$Cell", name := "lies", desc := "(II)Z" } : Jvm.MethodName) ({ cls := "CellRows$Cell", name := "lies", desc := "(II)Z" } : Jvm.MethodName)) ∈ lw_all := lw_g (lw_at lw_m2 181 rfl) rfl
theorem q558 : (Jvm.Cond.code ({ cls := "CellRows$Cell", name := "lies", desc := "(II)Z" } : Jvm.MethodName) prog_7_method_8_code (3 : Nat) (Option.some Jvm.ClassFile.FieldType.boolean)) ∈ lw_all := lw_g (lw_at lw_m2 182 rfl) rfl
theorem q559 : (Jvm.Cond.methodLinkNest "CellRows$Cell" (61 : Nat) ({ cls := "CellRows", name := "in", desc := "(III)Z" } : Jvm.MethodName) "CellRows") ∈ lw_tbl := lw_at lw_m2 183 rfl
theorem q570 : (Jvm.Cond.instanceMethod ({ cls := "CellRows$Cell", name := "isMoved", desc := "()Z" } : Jvm.MethodName)) ∈ lw_all := lw_g (lw_at lw_m2 194 rfl) rfl
theorem q571 : (Jvm.Cond.selects "CellRows$Cell" ({ cls := "CellRows$Cell", name := "isMoved", desc := "()Z" } : Jvm.MethodName) ({ cls := "CellRows$Cell", name := "isMoved", desc := "()Z" } : Jvm.MethodName)) ∈ lw_all := lw_g (lw_at lw_m2 195 rfl) rfl
theorem q572 : (Jvm.Cond.code ({ cls := "CellRows$Cell", name := "isMoved", desc := "()Z" } : Jvm.MethodName) prog_7_method_7_code (1 : Nat) (Option.some Jvm.ClassFile.FieldType.boolean)) ∈ lw_all := lw_g (lw_at lw_m2 196 rfl) rfl
theorem q573 : (Jvm.Cond.methodLink "CellRows$Cell" (57 : Nat) ({ cls := "CellRows$Cell", name := "isOn", desc := "()Z" } : Jvm.MethodName)) ∈ lw_all := lw_g (lw_at lw_m2 197 rfl) rfl
theorem q574 : (Jvm.Cond.instanceMethod ({ cls := "CellRows$Cell", name := "isOn", desc := "()Z" } : Jvm.MethodName)) ∈ lw_all := lw_g (lw_at lw_m2 198 rfl) rfl
theorem q575 : (Jvm.Cond.selects "CellRows$Cell" ({ cls := "CellRows$Cell", name := "isOn", desc := "()Z" } : Jvm.MethodName) ({ cls := "CellRows$Cell", name := "isOn", desc := "()Z" } : Jvm.MethodName)) ∈ lw_all := lw_g (lw_at lw_m2 199 rfl) rfl
theorem q576 : (Jvm.Cond.code ({ cls := "CellRows$Cell", name := "isOn", desc := "()Z" } : Jvm.MethodName) prog_7_method_6_code (1 : Nat) (Option.some Jvm.ClassFile.FieldType.boolean)) ∈ lw_all := lw_g (lw_at lw_m2 200 rfl) rfl
theorem q593 : (Jvm.Cond.instanceMethod ({ cls := "CellRows$Cell", name := "leaves", desc := "()V" } : Jvm.MethodName)) ∈ lw_all := lw_g (lw_at lw_m2 217 rfl) rfl
theorem q594 : (Jvm.Cond.selects "CellRows$Cell" ({ cls := "CellRows$Cell", name := "leaves", desc := "()V" } : Jvm.MethodName) ({ cls := "CellRows$Cell", name := "leaves", desc := "()V" } : Jvm.MethodName)) ∈ lw_all := lw_g (lw_at lw_m2 218 rfl) rfl
theorem q595 : (Jvm.Cond.code ({ cls := "CellRows$Cell", name := "leaves", desc := "()V" } : Jvm.MethodName) prog_7_method_10_code (1 : Nat) (Option.none : Option Jvm.ClassFile.FieldType)) ∈ lw_all := lw_g (lw_at lw_m2 219 rfl) rfl
theorem q596 : (Jvm.Cond.methodLink "CellRows$Cell" (65 : Nat) ({ cls := "CellRows$Cell", name := "comes", desc := "(II)V" } : Jvm.MethodName)) ∈ lw_all := lw_g (lw_at lw_m2 220 rfl) rfl
theorem q597 : (Jvm.Cond.instanceMethod ({ cls := "CellRows$Cell", name := "comes", desc := "(II)V" } : Jvm.MethodName)) ∈ lw_all := lw_g (lw_at lw_m2 221 rfl) rfl
theorem q598 : (Jvm.Cond.selects "CellRows$Cell" ({ cls := "CellRows$Cell", name := "comes", desc := "(II)V" } : Jvm.MethodName) ({ cls := "CellRows$Cell", name := "comes", desc := "(II)V" } : Jvm.MethodName)) ∈ lw_all := lw_g (lw_at lw_m2 222 rfl) rfl
theorem q599 : (Jvm.Cond.code ({ cls := "CellRows$Cell", name := "comes", desc := "(II)V" } : Jvm.MethodName) prog_7_method_9_code (3 : Nat) (Option.none : Option Jvm.ClassFile.FieldType)) ∈ lw_all := lw_g (lw_at lw_m2 223 rfl) rfl
theorem q617 : (Jvm.Cond.instanceMethod ({ cls := "CellRows$Cell", name := "begins", desc := "(II)V" } : Jvm.MethodName)) ∈ lw_all := lw_g (lw_at lw_m3 1 rfl) rfl
theorem q618 : (Jvm.Cond.selects "CellRows$Cell" ({ cls := "CellRows$Cell", name := "begins", desc := "(II)V" } : Jvm.MethodName) ({ cls := "CellRows$Cell", name := "begins", desc := "(II)V" } : Jvm.MethodName)) ∈ lw_all := lw_g (lw_at lw_m3 2 rfl) rfl
theorem q619 : (Jvm.Cond.code ({ cls := "CellRows$Cell", name := "begins", desc := "(II)V" } : Jvm.MethodName) prog_7_method_2_code (3 : Nat) (Option.none : Option Jvm.ClassFile.FieldType)) ∈ lw_all := lw_g (lw_at lw_m3 3 rfl) rfl
theorem q620 : (Jvm.Cond.methodLink "CellRows$Cell" (29 : Nat) ({ cls := "CellRows$Cell", name := "mostX", desc := "()I" } : Jvm.MethodName)) ∈ lw_all := lw_g (lw_at lw_m3 4 rfl) rfl
theorem q621 : (Jvm.Cond.instanceMethod ({ cls := "CellRows$Cell", name := "mostX", desc := "()I" } : Jvm.MethodName)) ∈ lw_all := lw_g (lw_at lw_m3 5 rfl) rfl
theorem q622 : (Jvm.Cond.selects "CellRows$Cell" ({ cls := "CellRows$Cell", name := "mostX", desc := "()I" } : Jvm.MethodName) ({ cls := "CellRows$Cell", name := "mostX", desc := "()I" } : Jvm.MethodName)) ∈ lw_all := lw_g (lw_at lw_m3 6 rfl) rfl
theorem q623 : (Jvm.Cond.code ({ cls := "CellRows$Cell", name := "mostX", desc := "()I" } : Jvm.MethodName) prog_7_method_4_code (1 : Nat) (Option.some Jvm.ClassFile.FieldType.int)) ∈ lw_all := lw_g (lw_at lw_m3 7 rfl) rfl
theorem q624 : (Jvm.Cond.methodLink "CellRows$Cell" (36 : Nat) ({ cls := "CellRows$Cell", name := "mostY", desc := "()I" } : Jvm.MethodName)) ∈ lw_all := lw_g (lw_at lw_m3 8 rfl) rfl
theorem q625 : (Jvm.Cond.instanceMethod ({ cls := "CellRows$Cell", name := "mostY", desc := "()I" } : Jvm.MethodName)) ∈ lw_all := lw_g (lw_at lw_m3 9 rfl) rfl
theorem q626 : (Jvm.Cond.selects "CellRows$Cell" ({ cls := "CellRows$Cell", name := "mostY", desc := "()I" } : Jvm.MethodName) ({ cls := "CellRows$Cell", name := "mostY", desc := "()I" } : Jvm.MethodName)) ∈ lw_all := lw_g (lw_at lw_m3 10 rfl) rfl
theorem q627 : (Jvm.Cond.code ({ cls := "CellRows$Cell", name := "mostY", desc := "()I" } : Jvm.MethodName) prog_7_method_5_code (1 : Nat) (Option.some Jvm.ClassFile.FieldType.int)) ∈ lw_all := lw_g (lw_at lw_m3 11 rfl) rfl
theorem q628 : (Jvm.Cond.methodLink "CellRows$Cell" (42 : Nat) ({ cls := "CellRows$Cell", name := "leaves", desc := "()V" } : Jvm.MethodName)) ∈ lw_all := lw_g (lw_at lw_m3 12 rfl) rfl
theorem q788 : (Jvm.Cond.instanceMethod ({ cls := "CellRows$Cell", name := "heldX", desc := "(I)I" } : Jvm.MethodName)) ∈ lw_all := lw_g (lw_at lw_m3 172 rfl) rfl
theorem q789 : (Jvm.Cond.selects "CellRows$Cell" ({ cls := "CellRows$Cell", name := "heldX", desc := "(I)I" } : Jvm.MethodName) ({ cls := "CellRows$Cell", name := "heldX", desc := "(I)I" } : Jvm.MethodName)) ∈ lw_all := lw_g (lw_at lw_m3 173 rfl) rfl
theorem q790 : (Jvm.Cond.code ({ cls := "CellRows$Cell", name := "heldX", desc := "(I)I" } : Jvm.MethodName) prog_7_method_15_code (4 : Nat) (Option.some Jvm.ClassFile.FieldType.int)) ∈ lw_all := lw_g (lw_at lw_m3 174 rfl) rfl
theorem q791 : (Jvm.Cond.methodLinkNest "CellRows$Cell" (85 : Nat) ({ cls := "CellRows", name := "bound", desc := "(III)I" } : Jvm.MethodName) "CellRows") ∈ lw_tbl := lw_at lw_m3 175 rfl
theorem q792 : (Jvm.Cond.methodLink "CellRows$Cell" (106 : Nat) ({ cls := "java/lang/Math", name := "max", desc := "(II)I" } : Jvm.MethodName)) ∈ lw_all := lw_g (lw_at lw_m3 176 rfl) rfl
theorem q794 : (Jvm.Cond.instanceMethod ({ cls := "CellRows$Cell", name := "heldY", desc := "(I)I" } : Jvm.MethodName)) ∈ lw_all := lw_g (lw_at lw_m3 178 rfl) rfl
theorem q795 : (Jvm.Cond.selects "CellRows$Cell" ({ cls := "CellRows$Cell", name := "heldY", desc := "(I)I" } : Jvm.MethodName) ({ cls := "CellRows$Cell", name := "heldY", desc := "(I)I" } : Jvm.MethodName)) ∈ lw_all := lw_g (lw_at lw_m3 179 rfl) rfl
theorem q796 : (Jvm.Cond.code ({ cls := "CellRows$Cell", name := "heldY", desc := "(I)I" } : Jvm.MethodName) prog_7_method_16_code (2 : Nat) (Option.some Jvm.ClassFile.FieldType.int)) ∈ lw_all := lw_g (lw_at lw_m3 180 rfl) rfl
theorem q1016 : (Jvm.Cond.selects "CellRows$Cell" ({ cls := "java/lang/Object", name := "getClass", desc := "()Ljava/lang/Class;" } : Jvm.MethodName) ({ cls := "java/lang/Object", name := "getClass", desc := "()Ljava/lang/Class;" } : Jvm.MethodName)) ∈ lw_all := lw_g (lw_at lw_m4 160 rfl) rfl
theorem q1108 : (Jvm.Cond.instanceMethod ({ cls := "CellRows$Cell", name := "farAt", desc := "(I)I" } : Jvm.MethodName)) ∈ lw_all := lw_g (lw_at lw_m5 12 rfl) rfl
theorem q1109 : (Jvm.Cond.selects "CellRows$Cell" ({ cls := "CellRows$Cell", name := "farAt", desc := "(I)I" } : Jvm.MethodName) ({ cls := "CellRows$Cell", name := "farAt", desc := "(I)I" } : Jvm.MethodName)) ∈ lw_all := lw_g (lw_at lw_m5 13 rfl) rfl
theorem q1110 : (Jvm.Cond.code ({ cls := "CellRows$Cell", name := "farAt", desc := "(I)I" } : Jvm.MethodName) prog_7_method_12_code (2 : Nat) (Option.some Jvm.ClassFile.FieldType.int)) ∈ lw_all := lw_g (lw_at lw_m5 14 rfl) rfl
theorem q1111 : (Jvm.Cond.methodLink "CellRows$Cell" (69 : Nat) ({ cls := "java/lang/Math", name := "abs", desc := "(I)I" } : Jvm.MethodName)) ∈ lw_all := lw_g (lw_at lw_m5 15 rfl) rfl
theorem q1122 : (Jvm.Cond.instanceMethod ({ cls := "CellRows$Cell", name := "highAt", desc := "(I)I" } : Jvm.MethodName)) ∈ lw_all := lw_g (lw_at lw_m5 26 rfl) rfl
theorem q1123 : (Jvm.Cond.selects "CellRows$Cell" ({ cls := "CellRows$Cell", name := "highAt", desc := "(I)I" } : Jvm.MethodName) ({ cls := "CellRows$Cell", name := "highAt", desc := "(I)I" } : Jvm.MethodName)) ∈ lw_all := lw_g (lw_at lw_m5 27 rfl) rfl
theorem q1124 : (Jvm.Cond.code ({ cls := "CellRows$Cell", name := "highAt", desc := "(I)I" } : Jvm.MethodName) prog_7_method_13_code (2 : Nat) (Option.some Jvm.ClassFile.FieldType.int)) ∈ lw_all := lw_g (lw_at lw_m5 28 rfl) rfl
theorem q1135 : (Jvm.Cond.instanceMethod ({ cls := "CellRows$Cell", name := "move", desc := "()I" } : Jvm.MethodName)) ∈ lw_all := lw_g (lw_at lw_m5 39 rfl) rfl
theorem q1136 : (Jvm.Cond.selects "CellRows$Cell" ({ cls := "CellRows$Cell", name := "move", desc := "()I" } : Jvm.MethodName) ({ cls := "CellRows$Cell", name := "move", desc := "()I" } : Jvm.MethodName)) ∈ lw_all := lw_g (lw_at lw_m5 40 rfl) rfl
theorem q1137 : (Jvm.Cond.code ({ cls := "CellRows$Cell", name := "move", desc := "()I" } : Jvm.MethodName) prog_7_method_14_code (1 : Nat) (Option.some Jvm.ClassFile.FieldType.int)) ∈ lw_all := lw_g (lw_at lw_m5 41 rfl) rfl
theorem q1138 : (Jvm.Cond.methodLink "CellRows$Cell" (79 : Nat) ({ cls := "CellRows$Cell", name := "farAt", desc := "(I)I" } : Jvm.MethodName)) ∈ lw_all := lw_g (lw_at lw_m5 42 rfl) rfl
theorem q1139 : (Jvm.Cond.methodLink "CellRows$Cell" (82 : Nat) ({ cls := "CellRows$Cell", name := "highAt", desc := "(I)I" } : Jvm.MethodName)) ∈ lw_all := lw_g (lw_at lw_m5 43 rfl) rfl
theorem q1238 : (Jvm.Cond.instanceMethod ({ cls := "CellRows$Cell", name := "isLike", desc := "(LCellRows$Cell;)Z" } : Jvm.MethodName)) ∈ lw_all := lw_g (lw_at lw_m5 142 rfl) rfl
theorem q1239 : (Jvm.Cond.selects "CellRows$Cell" ({ cls := "CellRows$Cell", name := "isLike", desc := "(LCellRows$Cell;)Z" } : Jvm.MethodName) ({ cls := "CellRows$Cell", name := "isLike", desc := "(LCellRows$Cell;)Z" } : Jvm.MethodName)) ∈ lw_all := lw_g (lw_at lw_m5 143 rfl) rfl
theorem q1240 : (Jvm.Cond.code ({ cls := "CellRows$Cell", name := "isLike", desc := "(LCellRows$Cell;)Z" } : Jvm.MethodName) prog_7_method_11_code (2 : Nat) (Option.some Jvm.ClassFile.FieldType.boolean)) ∈ lw_all := lw_g (lw_at lw_m5 144 rfl) rfl
theorem q2057 : (Jvm.Cond.castable "CellRows$Cell" "java/lang/Object") ∈ lw_tbl := lw_at lw_m9 1 rfl
theorem in_X6 : ∀ w ∈ wsX60, w ∈ lw_all := lw_in wsX60 [263, 265, 267, 269, 271, 273, 275, 277, 279] (by decide +kernel) (by decide +kernel)
/-! CellRows$Net -/
set_option maxRecDepth 100000
def RX7 : String := "CellRows$Net"
def TX7 : u_T := fun k => match k with
  | 0 => ("CellRows$Net", "weight", "I", false)
  | 1 => ("CellRows$Net", "pins", "I", false)
  | 2 => ("CellRows$Net", "who", "[I", true)
  | _ => ("CellRows$Net", "where", "[I", true)
def tyX7 : Nat → FieldType := fun k => match k with
  | 0 => .int
  | 1 => .int
  | 2 => .array .int
  | _ => .array .int
abbrev wsX70 : List Cond := u_ws RX7 TX7 4
theorem nmX7 : ∀ a, a < 4 → ∀ b, b < 4 → a ≠ b → (TX7 a).2.1 ≠ (TX7 b).2.1 := by decide +kernel
theorem tyX7_ok : ∀ k, k < 4 → parseFieldDescriptor (TX7 k).2.2.1 = some (tyX7 k) := by decide +kernel
abbrev cX7_init : ByteArray := prog_9_method_1_code
def yX7_init : MethodName := ⟨RX7, "<init>", "()V"⟩
def dkwX7_init_0 : List UInt8 := [42, 183, 0, 3, 42, 16, 6, 188, 10, 181, 0, 9, 42, 16, 6, 188, 10, 181, 0, 15, 177]
abbrev dktX7_init_0 : List UInt8 := dkwX7_init_0 ++ []
theorem dksX7_init_0 : cX7_init.data.toList.drop 0 = dktX7_init_0 := by decide +kernel
theorem dX7_init_0 : decode cX7_init 0 = .ok (.aload_n 0, 1) := dk_42 (dk_at dksX7_init_0 0 rfl rfl)
theorem dX7_init_1 : decode cX7_init 1 = .ok (.invokespecial 3, 3) := dk_183 0 3 (dk_at dksX7_init_0 1 rfl rfl)
theorem dX7_init_4 : decode cX7_init 4 = .ok (.aload_n 0, 1) := dk_42 (dk_at dksX7_init_0 4 rfl rfl)
theorem dX7_init_5 : decode cX7_init 5 = .ok (.bipush 6, 2) := dk_16 6 (dk_at dksX7_init_0 5 rfl rfl)
theorem dX7_init_7 : decode cX7_init 7 = .ok (.newarray .int, 2) := dk_188_10 (dk_at dksX7_init_0 7 rfl rfl)
theorem dX7_init_9 : decode cX7_init 9 = .ok (.putfield 9, 3) := dk_181 0 9 (dk_at dksX7_init_0 9 rfl rfl)
theorem dX7_init_12 : decode cX7_init 12 = .ok (.aload_n 0, 1) := dk_42 (dk_at dksX7_init_0 12 rfl rfl)
theorem dX7_init_13 : decode cX7_init 13 = .ok (.bipush 6, 2) := dk_16 6 (dk_at dksX7_init_0 13 rfl rfl)
theorem dX7_init_15 : decode cX7_init 15 = .ok (.newarray .int, 2) := dk_188_10 (dk_at dksX7_init_0 15 rfl rfl)
theorem dX7_init_17 : decode cX7_init 17 = .ok (.putfield 15, 3) := dk_181 0 15 (dk_at dksX7_init_0 17 rfl rfl)
theorem dX7_init_20 : decode cX7_init 20 = .ok (.return_, 1) := dk_177 (dk_at dksX7_init_0 20 rfl rfl)
abbrev cX7_takes : ByteArray := prog_9_method_4_code
def yX7_takes : MethodName := ⟨RX7, "takes", "(LCellRows$Net;)V"⟩
def dkwX7_takes_1 : List UInt8 := [46, 43, 180, 0, 15, 28, 46, 182, 0, 29, 132, 2, 1, 167, 255, 229, 177]
abbrev dktX7_takes_1 : List UInt8 := dkwX7_takes_1 ++ []
def dkwX7_takes_0 : List UInt8 := [42, 43, 180, 0, 18, 182, 0, 25, 3, 61, 28, 43, 180, 0, 22, 162, 0, 25, 42, 43, 180, 0, 9, 28]
abbrev dktX7_takes_0 : List UInt8 := dkwX7_takes_0 ++ dktX7_takes_1
theorem dksX7_takes_0 : cX7_takes.data.toList.drop 0 = dktX7_takes_0 := by decide +kernel
theorem dksX7_takes_1 : cX7_takes.data.toList.drop 24 = dktX7_takes_1 := dk_seg dksX7_takes_0 24 rfl rfl
theorem dX7_takes_0 : decode cX7_takes 0 = .ok (.aload_n 0, 1) := dk_42 (dk_at dksX7_takes_0 0 rfl rfl)
theorem dX7_takes_1 : decode cX7_takes 1 = .ok (.aload_n 1, 1) := dk_43 (dk_at dksX7_takes_0 1 rfl rfl)
theorem dX7_takes_2 : decode cX7_takes 2 = .ok (.getfield 18, 3) := dk_180 0 18 (dk_at dksX7_takes_0 2 rfl rfl)
theorem dX7_takes_5 : decode cX7_takes 5 = .ok (.invokevirtual 25, 3) := dk_182 0 25 (dk_at dksX7_takes_0 5 rfl rfl)
theorem dX7_takes_8 : decode cX7_takes 8 = .ok (.iconst 0, 1) := dk_3 (dk_at dksX7_takes_0 8 rfl rfl)
theorem dX7_takes_9 : decode cX7_takes 9 = .ok (.istore_n 2, 1) := dk_61 (dk_at dksX7_takes_0 9 rfl rfl)
theorem dX7_takes_10 : decode cX7_takes 10 = .ok (.iload_n 2, 1) := dk_28 (dk_at dksX7_takes_0 10 rfl rfl)
theorem dX7_takes_11 : decode cX7_takes 11 = .ok (.aload_n 1, 1) := dk_43 (dk_at dksX7_takes_0 11 rfl rfl)
theorem dX7_takes_12 : decode cX7_takes 12 = .ok (.getfield 22, 3) := dk_180 0 22 (dk_at dksX7_takes_0 12 rfl rfl)
theorem dX7_takes_15 : decode cX7_takes 15 = .ok (.if_icmp .ge 25, 3) := dk_162 0 25 (dk_at dksX7_takes_0 15 rfl rfl)
theorem dX7_takes_18 : decode cX7_takes 18 = .ok (.aload_n 0, 1) := dk_42 (dk_at dksX7_takes_0 18 rfl rfl)
theorem dX7_takes_19 : decode cX7_takes 19 = .ok (.aload_n 1, 1) := dk_43 (dk_at dksX7_takes_0 19 rfl rfl)
theorem dX7_takes_20 : decode cX7_takes 20 = .ok (.getfield 9, 3) := dk_180 0 9 (dk_at dksX7_takes_0 20 rfl rfl)
theorem dX7_takes_23 : decode cX7_takes 23 = .ok (.iload_n 2, 1) := dk_28 (dk_at dksX7_takes_0 23 rfl rfl)
theorem dX7_takes_24 : decode cX7_takes 24 = .ok (.iaload, 1) := dk_46 (dk_at dksX7_takes_1 0 rfl rfl)
theorem dX7_takes_25 : decode cX7_takes 25 = .ok (.aload_n 1, 1) := dk_43 (dk_at dksX7_takes_1 1 rfl rfl)
theorem dX7_takes_26 : decode cX7_takes 26 = .ok (.getfield 15, 3) := dk_180 0 15 (dk_at dksX7_takes_1 2 rfl rfl)
theorem dX7_takes_29 : decode cX7_takes 29 = .ok (.iload_n 2, 1) := dk_28 (dk_at dksX7_takes_1 5 rfl rfl)
theorem dX7_takes_30 : decode cX7_takes 30 = .ok (.iaload, 1) := dk_46 (dk_at dksX7_takes_1 6 rfl rfl)
theorem dX7_takes_31 : decode cX7_takes 31 = .ok (.invokevirtual 29, 3) := dk_182 0 29 (dk_at dksX7_takes_1 7 rfl rfl)
theorem dX7_takes_34 : decode cX7_takes 34 = .ok (.iinc 2 1, 3) := dk_132 2 1 (dk_at dksX7_takes_1 10 rfl rfl)
theorem dX7_takes_37 : decode cX7_takes 37 = .ok (.goto (-27), 3) := dk_167 255 229 (dk_at dksX7_takes_1 13 rfl rfl)
theorem dX7_takes_40 : decode cX7_takes 40 = .ok (.return_, 1) := dk_177 (dk_at dksX7_takes_1 16 rfl rfl)
abbrev cX7_begins : ByteArray := prog_9_method_2_code
def yX7_begins : MethodName := ⟨RX7, "begins", "(I)V"⟩
def dkwX7_begins_0 : List UInt8 := [42, 27, 181, 0, 18, 42, 3, 181, 0, 22, 177]
abbrev dktX7_begins_0 : List UInt8 := dkwX7_begins_0 ++ []
theorem dksX7_begins_0 : cX7_begins.data.toList.drop 0 = dktX7_begins_0 := by decide +kernel
theorem dX7_begins_0 : decode cX7_begins 0 = .ok (.aload_n 0, 1) := dk_42 (dk_at dksX7_begins_0 0 rfl rfl)
theorem dX7_begins_1 : decode cX7_begins 1 = .ok (.iload_n 1, 1) := dk_27 (dk_at dksX7_begins_0 1 rfl rfl)
theorem dX7_begins_2 : decode cX7_begins 2 = .ok (.putfield 18, 3) := dk_181 0 18 (dk_at dksX7_begins_0 2 rfl rfl)
theorem dX7_begins_5 : decode cX7_begins 5 = .ok (.aload_n 0, 1) := dk_42 (dk_at dksX7_begins_0 5 rfl rfl)
theorem dX7_begins_6 : decode cX7_begins 6 = .ok (.iconst 0, 1) := dk_3 (dk_at dksX7_begins_0 6 rfl rfl)
theorem dX7_begins_7 : decode cX7_begins 7 = .ok (.putfield 22, 3) := dk_181 0 22 (dk_at dksX7_begins_0 7 rfl rfl)
theorem dX7_begins_10 : decode cX7_begins 10 = .ok (.return_, 1) := dk_177 (dk_at dksX7_begins_0 10 rfl rfl)
abbrev cX7_adds : ByteArray := prog_9_method_3_code
def yX7_adds : MethodName := ⟨RX7, "adds", "(II)V"⟩
def dkwX7_adds_1 : List UInt8 := [180, 0, 22, 4, 96, 181, 0, 22, 177]
abbrev dktX7_adds_1 : List UInt8 := dkwX7_adds_1 ++ []
def dkwX7_adds_0 : List UInt8 := [42, 180, 0, 9, 42, 180, 0, 22, 27, 79, 42, 180, 0, 15, 42, 180, 0, 22, 28, 79, 42, 89]
abbrev dktX7_adds_0 : List UInt8 := dkwX7_adds_0 ++ dktX7_adds_1
theorem dksX7_adds_0 : cX7_adds.data.toList.drop 0 = dktX7_adds_0 := by decide +kernel
theorem dksX7_adds_1 : cX7_adds.data.toList.drop 22 = dktX7_adds_1 := dk_seg dksX7_adds_0 22 rfl rfl
theorem dX7_adds_0 : decode cX7_adds 0 = .ok (.aload_n 0, 1) := dk_42 (dk_at dksX7_adds_0 0 rfl rfl)
theorem dX7_adds_1 : decode cX7_adds 1 = .ok (.getfield 9, 3) := dk_180 0 9 (dk_at dksX7_adds_0 1 rfl rfl)
theorem dX7_adds_4 : decode cX7_adds 4 = .ok (.aload_n 0, 1) := dk_42 (dk_at dksX7_adds_0 4 rfl rfl)
theorem dX7_adds_5 : decode cX7_adds 5 = .ok (.getfield 22, 3) := dk_180 0 22 (dk_at dksX7_adds_0 5 rfl rfl)
theorem dX7_adds_8 : decode cX7_adds 8 = .ok (.iload_n 1, 1) := dk_27 (dk_at dksX7_adds_0 8 rfl rfl)
theorem dX7_adds_9 : decode cX7_adds 9 = .ok (.iastore, 1) := dk_79 (dk_at dksX7_adds_0 9 rfl rfl)
theorem dX7_adds_10 : decode cX7_adds 10 = .ok (.aload_n 0, 1) := dk_42 (dk_at dksX7_adds_0 10 rfl rfl)
theorem dX7_adds_11 : decode cX7_adds 11 = .ok (.getfield 15, 3) := dk_180 0 15 (dk_at dksX7_adds_0 11 rfl rfl)
theorem dX7_adds_14 : decode cX7_adds 14 = .ok (.aload_n 0, 1) := dk_42 (dk_at dksX7_adds_0 14 rfl rfl)
theorem dX7_adds_15 : decode cX7_adds 15 = .ok (.getfield 22, 3) := dk_180 0 22 (dk_at dksX7_adds_0 15 rfl rfl)
theorem dX7_adds_18 : decode cX7_adds 18 = .ok (.iload_n 2, 1) := dk_28 (dk_at dksX7_adds_0 18 rfl rfl)
theorem dX7_adds_19 : decode cX7_adds 19 = .ok (.iastore, 1) := dk_79 (dk_at dksX7_adds_0 19 rfl rfl)
theorem dX7_adds_20 : decode cX7_adds 20 = .ok (.aload_n 0, 1) := dk_42 (dk_at dksX7_adds_0 20 rfl rfl)
theorem dX7_adds_21 : decode cX7_adds 21 = .ok (.dup, 1) := dk_89 (dk_at dksX7_adds_0 21 rfl rfl)
theorem dX7_adds_22 : decode cX7_adds 22 = .ok (.getfield 22, 3) := dk_180 0 22 (dk_at dksX7_adds_1 0 rfl rfl)
theorem dX7_adds_25 : decode cX7_adds 25 = .ok (.iconst 1, 1) := dk_4 (dk_at dksX7_adds_1 3 rfl rfl)
theorem dX7_adds_26 : decode cX7_adds 26 = .ok (.iadd, 1) := dk_96 (dk_at dksX7_adds_1 4 rfl rfl)
theorem dX7_adds_27 : decode cX7_adds 27 = .ok (.putfield 22, 3) := dk_181 0 22 (dk_at dksX7_adds_1 5 rfl rfl)
theorem dX7_adds_30 : decode cX7_adds 30 = .ok (.return_, 1) := dk_177 (dk_at dksX7_adds_1 8 rfl rfl)
abbrev cX7_pinOf : ByteArray := prog_9_method_6_code
def yX7_pinOf : MethodName := ⟨RX7, "pinOf", "(I)I"⟩
def dkwX7_pinOf_1 : List UInt8 := [132, 2, 1, 167, 255, 233, 2, 172]
abbrev dktX7_pinOf_1 : List UInt8 := dkwX7_pinOf_1 ++ []
def dkwX7_pinOf_0 : List UInt8 := [3, 61, 28, 42, 180, 0, 22, 162, 0, 21, 42, 180, 0, 9, 28, 46, 27, 160, 0, 5, 28, 172]
abbrev dktX7_pinOf_0 : List UInt8 := dkwX7_pinOf_0 ++ dktX7_pinOf_1
theorem dksX7_pinOf_0 : cX7_pinOf.data.toList.drop 0 = dktX7_pinOf_0 := by decide +kernel
theorem dksX7_pinOf_1 : cX7_pinOf.data.toList.drop 22 = dktX7_pinOf_1 := dk_seg dksX7_pinOf_0 22 rfl rfl
theorem dX7_pinOf_0 : decode cX7_pinOf 0 = .ok (.iconst 0, 1) := dk_3 (dk_at dksX7_pinOf_0 0 rfl rfl)
theorem dX7_pinOf_1 : decode cX7_pinOf 1 = .ok (.istore_n 2, 1) := dk_61 (dk_at dksX7_pinOf_0 1 rfl rfl)
theorem dX7_pinOf_2 : decode cX7_pinOf 2 = .ok (.iload_n 2, 1) := dk_28 (dk_at dksX7_pinOf_0 2 rfl rfl)
theorem dX7_pinOf_3 : decode cX7_pinOf 3 = .ok (.aload_n 0, 1) := dk_42 (dk_at dksX7_pinOf_0 3 rfl rfl)
theorem dX7_pinOf_4 : decode cX7_pinOf 4 = .ok (.getfield 22, 3) := dk_180 0 22 (dk_at dksX7_pinOf_0 4 rfl rfl)
theorem dX7_pinOf_7 : decode cX7_pinOf 7 = .ok (.if_icmp .ge 21, 3) := dk_162 0 21 (dk_at dksX7_pinOf_0 7 rfl rfl)
theorem dX7_pinOf_10 : decode cX7_pinOf 10 = .ok (.aload_n 0, 1) := dk_42 (dk_at dksX7_pinOf_0 10 rfl rfl)
theorem dX7_pinOf_11 : decode cX7_pinOf 11 = .ok (.getfield 9, 3) := dk_180 0 9 (dk_at dksX7_pinOf_0 11 rfl rfl)
theorem dX7_pinOf_14 : decode cX7_pinOf 14 = .ok (.iload_n 2, 1) := dk_28 (dk_at dksX7_pinOf_0 14 rfl rfl)
theorem dX7_pinOf_15 : decode cX7_pinOf 15 = .ok (.iaload, 1) := dk_46 (dk_at dksX7_pinOf_0 15 rfl rfl)
theorem dX7_pinOf_16 : decode cX7_pinOf 16 = .ok (.iload_n 1, 1) := dk_27 (dk_at dksX7_pinOf_0 16 rfl rfl)
theorem dX7_pinOf_17 : decode cX7_pinOf 17 = .ok (.if_icmp .ne 5, 3) := dk_160 0 5 (dk_at dksX7_pinOf_0 17 rfl rfl)
theorem dX7_pinOf_20 : decode cX7_pinOf 20 = .ok (.iload_n 2, 1) := dk_28 (dk_at dksX7_pinOf_0 20 rfl rfl)
theorem dX7_pinOf_21 : decode cX7_pinOf 21 = .ok (.ireturn, 1) := dk_172 (dk_at dksX7_pinOf_0 21 rfl rfl)
theorem dX7_pinOf_22 : decode cX7_pinOf 22 = .ok (.iinc 2 1, 3) := dk_132 2 1 (dk_at dksX7_pinOf_1 0 rfl rfl)
theorem dX7_pinOf_25 : decode cX7_pinOf 25 = .ok (.goto (-23), 3) := dk_167 255 233 (dk_at dksX7_pinOf_1 3 rfl rfl)
theorem dX7_pinOf_28 : decode cX7_pinOf 28 = .ok (.iconst (-1), 1) := dk_2 (dk_at dksX7_pinOf_1 6 rfl rfl)
theorem dX7_pinOf_29 : decode cX7_pinOf 29 = .ok (.ireturn, 1) := dk_172 (dk_at dksX7_pinOf_1 7 rfl rfl)
abbrev cX7_isPad : ByteArray := prog_9_method_5_code
def yX7_isPad : MethodName := ⟨RX7, "isPad", "(I)Z"⟩
def dkwX7_isPad_0 : List UInt8 := [42, 180, 0, 9, 27, 46, 17, 0, 200, 161, 0, 7, 4, 167, 0, 4, 3, 172]
abbrev dktX7_isPad_0 : List UInt8 := dkwX7_isPad_0 ++ []
theorem dksX7_isPad_0 : cX7_isPad.data.toList.drop 0 = dktX7_isPad_0 := by decide +kernel
theorem dX7_isPad_0 : decode cX7_isPad 0 = .ok (.aload_n 0, 1) := dk_42 (dk_at dksX7_isPad_0 0 rfl rfl)
theorem dX7_isPad_1 : decode cX7_isPad 1 = .ok (.getfield 9, 3) := dk_180 0 9 (dk_at dksX7_isPad_0 1 rfl rfl)
theorem dX7_isPad_4 : decode cX7_isPad 4 = .ok (.iload_n 1, 1) := dk_27 (dk_at dksX7_isPad_0 4 rfl rfl)
theorem dX7_isPad_5 : decode cX7_isPad 5 = .ok (.iaload, 1) := dk_46 (dk_at dksX7_isPad_0 5 rfl rfl)
theorem dX7_isPad_6 : decode cX7_isPad 6 = .ok (.sipush 200, 3) := dk_17 0 200 (dk_at dksX7_isPad_0 6 rfl rfl)
theorem dX7_isPad_9 : decode cX7_isPad 9 = .ok (.if_icmp .lt 7, 3) := dk_161 0 7 (dk_at dksX7_isPad_0 9 rfl rfl)
theorem dX7_isPad_12 : decode cX7_isPad 12 = .ok (.iconst 1, 1) := dk_4 (dk_at dksX7_isPad_0 12 rfl rfl)
theorem dX7_isPad_13 : decode cX7_isPad 13 = .ok (.goto 4, 3) := dk_167 0 4 (dk_at dksX7_isPad_0 13 rfl rfl)
theorem dX7_isPad_16 : decode cX7_isPad 16 = .ok (.iconst 0, 1) := dk_3 (dk_at dksX7_isPad_0 16 rfl rfl)
theorem dX7_isPad_17 : decode cX7_isPad 17 = .ok (.ireturn, 1) := dk_172 (dk_at dksX7_isPad_0 17 rfl rfl)
theorem q144 : (Jvm.Cond.initialized "CellRows$Net") ∈ lw_all := lw_g (lw_at lw_m1 8 rfl) rfl
theorem q282 : (Jvm.Cond.instantiable "CellRows$Net" (4 : Nat)) ∈ lw_all := lw_g (lw_at lw_m1 146 rfl) rfl
theorem q284 : (Jvm.Cond.instanceMethod ({ cls := "CellRows$Net", name := "<init>", desc := "()V" } : Jvm.MethodName)) ∈ lw_all := lw_g (lw_at lw_m1 148 rfl) rfl
theorem q285 : (Jvm.Cond.code ({ cls := "CellRows$Net", name := "<init>", desc := "()V" } : Jvm.MethodName) prog_9_method_1_code (1 : Nat) (Option.none : Option Jvm.ClassFile.FieldType)) ∈ lw_all := lw_g (lw_at lw_m1 149 rfl) rfl
theorem q286 : (Jvm.Cond.methodLink "CellRows$Net" (3 : Nat) ({ cls := "java/lang/Object", name := "<init>", desc := "()V" } : Jvm.MethodName)) ∈ lw_all := lw_g (lw_at lw_m1 150 rfl) rfl
theorem q287 : (Jvm.Cond.fieldLink "CellRows$Net" (18 : Nat) "CellRows$Net" "weight" "I") ∈ lw_all := lw_g (lw_at lw_m1 151 rfl) rfl
theorem q290 : (Jvm.Cond.fieldLink "CellRows$Net" (22 : Nat) "CellRows$Net" "pins" "I") ∈ lw_all := lw_g (lw_at lw_m1 154 rfl) rfl
theorem q293 : (Jvm.Cond.fieldLink "CellRows$Net" (9 : Nat) "CellRows$Net" "who" "[I") ∈ lw_all := lw_g (lw_at lw_m1 157 rfl) rfl
theorem q296 : (Jvm.Cond.fieldLink "CellRows$Net" (15 : Nat) "CellRows$Net" "where" "[I") ∈ lw_all := lw_g (lw_at lw_m1 160 rfl) rfl
theorem q299 : (Jvm.Cond.lays "CellRows$Net" "CellRows$Net" "weight" "I") ∈ lw_all := lw_g (lw_at lw_m1 163 rfl) rfl
theorem q300 : (Jvm.Cond.soleField "CellRows$Net" "weight") ∈ lw_all := lw_g (lw_at lw_m1 164 rfl) rfl
theorem q301 : (Jvm.Cond.lays "CellRows$Net" "CellRows$Net" "pins" "I") ∈ lw_all := lw_g (lw_at lw_m1 165 rfl) rfl
theorem q302 : (Jvm.Cond.soleField "CellRows$Net" "pins") ∈ lw_all := lw_g (lw_at lw_m1 166 rfl) rfl
theorem q303 : (Jvm.Cond.laysFinal "CellRows$Net" "CellRows$Net" "who" "[I") ∈ lw_all := lw_g (lw_at lw_m1 167 rfl) rfl
theorem q304 : (Jvm.Cond.soleField "CellRows$Net" "who") ∈ lw_all := lw_g (lw_at lw_m1 168 rfl) rfl
theorem q305 : (Jvm.Cond.laysFinal "CellRows$Net" "CellRows$Net" "where" "[I") ∈ lw_all := lw_g (lw_at lw_m1 169 rfl) rfl
theorem q306 : (Jvm.Cond.soleField "CellRows$Net" "where") ∈ lw_all := lw_g (lw_at lw_m1 170 rfl) rfl
theorem q307 : (Jvm.Cond.superclass "CellRows$Net" "java/lang/Object") ∈ lw_all := lw_g (lw_at lw_m1 171 rfl) rfl
theorem q475 : (Jvm.Cond.instanceMethod ({ cls := "CellRows$Net", name := "takes", desc := "(LCellRows$Net;)V" } : Jvm.MethodName)) ∈ lw_all := lw_g (lw_at lw_m2 99 rfl) rfl
theorem q476 : (Jvm.Cond.selects "CellRows$Net" ({ cls := "CellRows$Net", name := "takes", desc := "(LCellRows$Net;)V" } : Jvm.MethodName) ({ cls := "CellRows$Net", name := "takes", desc := "(LCellRows$Net;)V" } : Jvm.MethodName)) ∈ lw_all := lw_g (lw_at lw_m2 100 rfl) rfl
theorem q477 : (Jvm.Cond.code ({ cls := "CellRows$Net", name := "takes", desc := "(LCellRows$Net;)V" } : Jvm.MethodName) prog_9_method_4_code (3 : Nat) (Option.none : Option Jvm.ClassFile.FieldType)) ∈ lw_all := lw_g (lw_at lw_m2 101 rfl) rfl
theorem q478 : (Jvm.Cond.methodLink "CellRows$Net" (25 : Nat) ({ cls := "CellRows$Net", name := "begins", desc := "(I)V" } : Jvm.MethodName)) ∈ lw_all := lw_g (lw_at lw_m2 102 rfl) rfl
theorem q479 : (Jvm.Cond.instanceMethod ({ cls := "CellRows$Net", name := "begins", desc := "(I)V" } : Jvm.MethodName)) ∈ lw_all := lw_g (lw_at lw_m2 103 rfl) rfl
theorem q480 : (Jvm.Cond.selects "CellRows$Net" ({ cls := "CellRows$Net", name := "begins", desc := "(I)V" } : Jvm.MethodName) ({ cls := "CellRows$Net", name := "begins", desc := "(I)V" } : Jvm.MethodName)) ∈ lw_all := lw_g (lw_at lw_m2 104 rfl) rfl
theorem q481 : (Jvm.Cond.code ({ cls := "CellRows$Net", name := "begins", desc := "(I)V" } : Jvm.MethodName) prog_9_method_2_code (2 : Nat) (Option.none : Option Jvm.ClassFile.FieldType)) ∈ lw_all := lw_g (lw_at lw_m2 105 rfl) rfl
theorem q482 : (Jvm.Cond.methodLink "CellRows$Net" (29 : Nat) ({ cls := "CellRows$Net", name := "adds", desc := "(II)V" } : Jvm.MethodName)) ∈ lw_all := lw_g (lw_at lw_m2 106 rfl) rfl
theorem q483 : (Jvm.Cond.instanceMethod ({ cls := "CellRows$Net", name := "adds", desc := "(II)V" } : Jvm.MethodName)) ∈ lw_all := lw_g (lw_at lw_m2 107 rfl) rfl
theorem q484 : (Jvm.Cond.selects "CellRows$Net" ({ cls := "CellRows$Net", name := "adds", desc := "(II)V" } : Jvm.MethodName) ({ cls := "CellRows$Net", name := "adds", desc := "(II)V" } : Jvm.MethodName)) ∈ lw_all := lw_g (lw_at lw_m2 108 rfl) rfl
theorem q485 : (Jvm.Cond.code ({ cls := "CellRows$Net", name := "adds", desc := "(II)V" } : Jvm.MethodName) prog_9_method_3_code (3 : Nat) (Option.none : Option Jvm.ClassFile.FieldType)) ∈ lw_all := lw_g (lw_at lw_m2 109 rfl) rfl
theorem q657 : (Jvm.Cond.instanceMethod ({ cls := "CellRows$Net", name := "pinOf", desc := "(I)I" } : Jvm.MethodName)) ∈ lw_all := lw_g (lw_at lw_m3 41 rfl) rfl
theorem q658 : (Jvm.Cond.selects "CellRows$Net" ({ cls := "CellRows$Net", name := "pinOf", desc := "(I)I" } : Jvm.MethodName) ({ cls := "CellRows$Net", name := "pinOf", desc := "(I)I" } : Jvm.MethodName)) ∈ lw_all := lw_g (lw_at lw_m3 42 rfl) rfl
theorem q659 : (Jvm.Cond.code ({ cls := "CellRows$Net", name := "pinOf", desc := "(I)I" } : Jvm.MethodName) prog_9_method_6_code (3 : Nat) (Option.some Jvm.ClassFile.FieldType.int)) ∈ lw_all := lw_g (lw_at lw_m3 43 rfl) rfl
theorem q720 : (Jvm.Cond.instanceMethod ({ cls := "CellRows$Net", name := "isPad", desc := "(I)Z" } : Jvm.MethodName)) ∈ lw_all := lw_g (lw_at lw_m3 104 rfl) rfl
theorem q721 : (Jvm.Cond.selects "CellRows$Net" ({ cls := "CellRows$Net", name := "isPad", desc := "(I)Z" } : Jvm.MethodName) ({ cls := "CellRows$Net", name := "isPad", desc := "(I)Z" } : Jvm.MethodName)) ∈ lw_all := lw_g (lw_at lw_m3 105 rfl) rfl
theorem q722 : (Jvm.Cond.code ({ cls := "CellRows$Net", name := "isPad", desc := "(I)Z" } : Jvm.MethodName) prog_9_method_5_code (2 : Nat) (Option.some Jvm.ClassFile.FieldType.boolean)) ∈ lw_all := lw_g (lw_at lw_m3 106 rfl) rfl
theorem q1018 : (Jvm.Cond.selects "CellRows$Net" ({ cls := "java/lang/Object", name := "getClass", desc := "()Ljava/lang/Class;" } : Jvm.MethodName) ({ cls := "java/lang/Object", name := "getClass", desc := "()Ljava/lang/Class;" } : Jvm.MethodName)) ∈ lw_all := lw_g (lw_at lw_m4 162 rfl) rfl
theorem q2058 : (Jvm.Cond.castable "CellRows$Net" "java/lang/Object") ∈ lw_tbl := lw_at lw_m9 2 rfl
theorem in_X7 : ∀ w ∈ wsX70, w ∈ lw_all := lw_in wsX70 [299, 301, 303, 305] (by decide +kernel) (by decide +kernel)
/-! CellRows$Rect -/
set_option maxRecDepth 100000
def RX8 : String := "CellRows$Rect"
def TX8 : u_T := fun k => match k with
  | 0 => ("CellRows$Rect", "low", "I", false)
  | 1 => ("CellRows$Rect", "high", "I", false)
  | 2 => ("CellRows$Rect", "first", "I", false)
  | 3 => ("CellRows$Rect", "last", "I", false)
  | _ => ("CellRows$Rect", "halo", "I", false)
def tyX8 : Nat → FieldType := fun k => match k with
  | 0 => .int
  | 1 => .int
  | 2 => .int
  | 3 => .int
  | _ => .int
abbrev wsX80 : List Cond := u_ws RX8 TX8 5
theorem nmX8 : ∀ a, a < 5 → ∀ b, b < 5 → a ≠ b → (TX8 a).2.1 ≠ (TX8 b).2.1 := by decide +kernel
theorem tyX8_ok : ∀ k, k < 5 → parseFieldDescriptor (TX8 k).2.2.1 = some (tyX8 k) := by decide +kernel
abbrev cX8_init : ByteArray := prog_12_method_1_code
def yX8_init : MethodName := ⟨RX8, "<init>", "()V"⟩
theorem dX8_init_0 : decode cX8_init 0 = .ok (.aload_n 0, 1) := by decide +kernel
theorem dX8_init_1 : decode cX8_init 1 = .ok (.invokespecial 1, 3) := by decide +kernel
theorem dX8_init_4 : decode cX8_init 4 = .ok (.return_, 1) := by decide +kernel
abbrev cX8_takes : ByteArray := prog_12_method_3_code
def yX8_takes : MethodName := ⟨RX8, "takes", "(LCellRows$Rect;)V"⟩
def dkwX8_takes_1 : List UInt8 := [177]
abbrev dktX8_takes_1 : List UInt8 := dkwX8_takes_1 ++ []
def dkwX8_takes_0 : List UInt8 := [42, 43, 180, 0, 7, 43, 180, 0, 13, 43, 180, 0, 16, 43, 180, 0, 19, 43, 180, 0, 22, 182, 0, 25]
abbrev dktX8_takes_0 : List UInt8 := dkwX8_takes_0 ++ dktX8_takes_1
theorem dksX8_takes_0 : cX8_takes.data.toList.drop 0 = dktX8_takes_0 := by decide +kernel
theorem dksX8_takes_1 : cX8_takes.data.toList.drop 24 = dktX8_takes_1 := dk_seg dksX8_takes_0 24 rfl rfl
theorem dX8_takes_0 : decode cX8_takes 0 = .ok (.aload_n 0, 1) := dk_42 (dk_at dksX8_takes_0 0 rfl rfl)
theorem dX8_takes_1 : decode cX8_takes 1 = .ok (.aload_n 1, 1) := dk_43 (dk_at dksX8_takes_0 1 rfl rfl)
theorem dX8_takes_2 : decode cX8_takes 2 = .ok (.getfield 7, 3) := dk_180 0 7 (dk_at dksX8_takes_0 2 rfl rfl)
theorem dX8_takes_5 : decode cX8_takes 5 = .ok (.aload_n 1, 1) := dk_43 (dk_at dksX8_takes_0 5 rfl rfl)
theorem dX8_takes_6 : decode cX8_takes 6 = .ok (.getfield 13, 3) := dk_180 0 13 (dk_at dksX8_takes_0 6 rfl rfl)
theorem dX8_takes_9 : decode cX8_takes 9 = .ok (.aload_n 1, 1) := dk_43 (dk_at dksX8_takes_0 9 rfl rfl)
theorem dX8_takes_10 : decode cX8_takes 10 = .ok (.getfield 16, 3) := dk_180 0 16 (dk_at dksX8_takes_0 10 rfl rfl)
theorem dX8_takes_13 : decode cX8_takes 13 = .ok (.aload_n 1, 1) := dk_43 (dk_at dksX8_takes_0 13 rfl rfl)
theorem dX8_takes_14 : decode cX8_takes 14 = .ok (.getfield 19, 3) := dk_180 0 19 (dk_at dksX8_takes_0 14 rfl rfl)
theorem dX8_takes_17 : decode cX8_takes 17 = .ok (.aload_n 1, 1) := dk_43 (dk_at dksX8_takes_0 17 rfl rfl)
theorem dX8_takes_18 : decode cX8_takes 18 = .ok (.getfield 22, 3) := dk_180 0 22 (dk_at dksX8_takes_0 18 rfl rfl)
theorem dX8_takes_21 : decode cX8_takes 21 = .ok (.invokevirtual 25, 3) := dk_182 0 25 (dk_at dksX8_takes_0 21 rfl rfl)
theorem dX8_takes_24 : decode cX8_takes 24 = .ok (.return_, 1) := dk_177 (dk_at dksX8_takes_1 0 rfl rfl)
abbrev cX8_begins : ByteArray := prog_12_method_2_code
def yX8_begins : MethodName := ⟨RX8, "begins", "(IIIII)V"⟩
def dkwX8_begins_1 : List UInt8 := [181, 0, 22, 177]
abbrev dktX8_begins_1 : List UInt8 := dkwX8_begins_1 ++ []
def dkwX8_begins_0 : List UInt8 := [42, 27, 181, 0, 7, 42, 28, 181, 0, 13, 42, 29, 181, 0, 16, 42, 21, 4, 181, 0, 19, 42, 21, 5]
abbrev dktX8_begins_0 : List UInt8 := dkwX8_begins_0 ++ dktX8_begins_1
theorem dksX8_begins_0 : cX8_begins.data.toList.drop 0 = dktX8_begins_0 := by decide +kernel
theorem dksX8_begins_1 : cX8_begins.data.toList.drop 24 = dktX8_begins_1 := dk_seg dksX8_begins_0 24 rfl rfl
theorem dX8_begins_0 : decode cX8_begins 0 = .ok (.aload_n 0, 1) := dk_42 (dk_at dksX8_begins_0 0 rfl rfl)
theorem dX8_begins_1 : decode cX8_begins 1 = .ok (.iload_n 1, 1) := dk_27 (dk_at dksX8_begins_0 1 rfl rfl)
theorem dX8_begins_2 : decode cX8_begins 2 = .ok (.putfield 7, 3) := dk_181 0 7 (dk_at dksX8_begins_0 2 rfl rfl)
theorem dX8_begins_5 : decode cX8_begins 5 = .ok (.aload_n 0, 1) := dk_42 (dk_at dksX8_begins_0 5 rfl rfl)
theorem dX8_begins_6 : decode cX8_begins 6 = .ok (.iload_n 2, 1) := dk_28 (dk_at dksX8_begins_0 6 rfl rfl)
theorem dX8_begins_7 : decode cX8_begins 7 = .ok (.putfield 13, 3) := dk_181 0 13 (dk_at dksX8_begins_0 7 rfl rfl)
theorem dX8_begins_10 : decode cX8_begins 10 = .ok (.aload_n 0, 1) := dk_42 (dk_at dksX8_begins_0 10 rfl rfl)
theorem dX8_begins_11 : decode cX8_begins 11 = .ok (.iload_n 3, 1) := dk_29 (dk_at dksX8_begins_0 11 rfl rfl)
theorem dX8_begins_12 : decode cX8_begins 12 = .ok (.putfield 16, 3) := dk_181 0 16 (dk_at dksX8_begins_0 12 rfl rfl)
theorem dX8_begins_15 : decode cX8_begins 15 = .ok (.aload_n 0, 1) := dk_42 (dk_at dksX8_begins_0 15 rfl rfl)
theorem dX8_begins_16 : decode cX8_begins 16 = .ok (.iload 4, 2) := dk_21 4 (dk_at dksX8_begins_0 16 rfl rfl)
theorem dX8_begins_18 : decode cX8_begins 18 = .ok (.putfield 19, 3) := dk_181 0 19 (dk_at dksX8_begins_0 18 rfl rfl)
theorem dX8_begins_21 : decode cX8_begins 21 = .ok (.aload_n 0, 1) := dk_42 (dk_at dksX8_begins_0 21 rfl rfl)
theorem dX8_begins_22 : decode cX8_begins 22 = .ok (.iload 5, 2) := dk_21 5 (dk_at dksX8_begins_0 22 rfl rfl)
theorem dX8_begins_24 : decode cX8_begins 24 = .ok (.putfield 22, 3) := dk_181 0 22 (dk_at dksX8_begins_1 0 rfl rfl)
theorem dX8_begins_27 : decode cX8_begins 27 = .ok (.return_, 1) := dk_177 (dk_at dksX8_begins_1 3 rfl rfl)
abbrev cX8_bars : ByteArray := prog_12_method_6_code
def yX8_bars : MethodName := ⟨RX8, "bars", "(II)Z"⟩
def dkwX8_bars_1 : List UInt8 := [180, 0, 22, 96, 184, 0, 29, 153, 0, 7, 4, 167, 0, 4, 3, 172]
abbrev dktX8_bars_1 : List UInt8 := dkwX8_bars_1 ++ []
def dkwX8_bars_0 : List UInt8 := [42, 27, 182, 0, 35, 153, 0, 32, 28, 42, 180, 0, 16, 42, 180, 0, 22, 100, 42, 180, 0, 19, 42]
abbrev dktX8_bars_0 : List UInt8 := dkwX8_bars_0 ++ dktX8_bars_1
theorem dksX8_bars_0 : cX8_bars.data.toList.drop 0 = dktX8_bars_0 := by decide +kernel
theorem dksX8_bars_1 : cX8_bars.data.toList.drop 23 = dktX8_bars_1 := dk_seg dksX8_bars_0 23 rfl rfl
theorem dX8_bars_0 : decode cX8_bars 0 = .ok (.aload_n 0, 1) := dk_42 (dk_at dksX8_bars_0 0 rfl rfl)
theorem dX8_bars_1 : decode cX8_bars 1 = .ok (.iload_n 1, 1) := dk_27 (dk_at dksX8_bars_0 1 rfl rfl)
theorem dX8_bars_2 : decode cX8_bars 2 = .ok (.invokevirtual 35, 3) := dk_182 0 35 (dk_at dksX8_bars_0 2 rfl rfl)
theorem dX8_bars_5 : decode cX8_bars 5 = .ok (.ifCond .eq 32, 3) := dk_153 0 32 (dk_at dksX8_bars_0 5 rfl rfl)
theorem dX8_bars_8 : decode cX8_bars 8 = .ok (.iload_n 2, 1) := dk_28 (dk_at dksX8_bars_0 8 rfl rfl)
theorem dX8_bars_9 : decode cX8_bars 9 = .ok (.aload_n 0, 1) := dk_42 (dk_at dksX8_bars_0 9 rfl rfl)
theorem dX8_bars_10 : decode cX8_bars 10 = .ok (.getfield 16, 3) := dk_180 0 16 (dk_at dksX8_bars_0 10 rfl rfl)
theorem dX8_bars_13 : decode cX8_bars 13 = .ok (.aload_n 0, 1) := dk_42 (dk_at dksX8_bars_0 13 rfl rfl)
theorem dX8_bars_14 : decode cX8_bars 14 = .ok (.getfield 22, 3) := dk_180 0 22 (dk_at dksX8_bars_0 14 rfl rfl)
theorem dX8_bars_17 : decode cX8_bars 17 = .ok (.isub, 1) := dk_100 (dk_at dksX8_bars_0 17 rfl rfl)
theorem dX8_bars_18 : decode cX8_bars 18 = .ok (.aload_n 0, 1) := dk_42 (dk_at dksX8_bars_0 18 rfl rfl)
theorem dX8_bars_19 : decode cX8_bars 19 = .ok (.getfield 19, 3) := dk_180 0 19 (dk_at dksX8_bars_0 19 rfl rfl)
theorem dX8_bars_22 : decode cX8_bars 22 = .ok (.aload_n 0, 1) := dk_42 (dk_at dksX8_bars_0 22 rfl rfl)
theorem dX8_bars_23 : decode cX8_bars 23 = .ok (.getfield 22, 3) := dk_180 0 22 (dk_at dksX8_bars_1 0 rfl rfl)
theorem dX8_bars_26 : decode cX8_bars 26 = .ok (.iadd, 1) := dk_96 (dk_at dksX8_bars_1 3 rfl rfl)
theorem dX8_bars_27 : decode cX8_bars 27 = .ok (.invokestatic 29, 3) := dk_184 0 29 (dk_at dksX8_bars_1 4 rfl rfl)
theorem dX8_bars_30 : decode cX8_bars 30 = .ok (.ifCond .eq 7, 3) := dk_153 0 7 (dk_at dksX8_bars_1 7 rfl rfl)
theorem dX8_bars_33 : decode cX8_bars 33 = .ok (.iconst 1, 1) := dk_4 (dk_at dksX8_bars_1 10 rfl rfl)
theorem dX8_bars_34 : decode cX8_bars 34 = .ok (.goto 4, 3) := dk_167 0 4 (dk_at dksX8_bars_1 11 rfl rfl)
theorem dX8_bars_37 : decode cX8_bars 37 = .ok (.iconst 0, 1) := dk_3 (dk_at dksX8_bars_1 14 rfl rfl)
theorem dX8_bars_38 : decode cX8_bars 38 = .ok (.ireturn, 1) := dk_172 (dk_at dksX8_bars_1 15 rfl rfl)
abbrev cX8_hasRow : ByteArray := prog_12_method_4_code
def yX8_hasRow : MethodName := ⟨RX8, "hasRow", "(I)Z"⟩
def dkwX8_hasRow_0 : List UInt8 := [27, 42, 180, 0, 7, 42, 180, 0, 13, 184, 0, 29, 172]
abbrev dktX8_hasRow_0 : List UInt8 := dkwX8_hasRow_0 ++ []
theorem dksX8_hasRow_0 : cX8_hasRow.data.toList.drop 0 = dktX8_hasRow_0 := by decide +kernel
theorem dX8_hasRow_0 : decode cX8_hasRow 0 = .ok (.iload_n 1, 1) := dk_27 (dk_at dksX8_hasRow_0 0 rfl rfl)
theorem dX8_hasRow_1 : decode cX8_hasRow 1 = .ok (.aload_n 0, 1) := dk_42 (dk_at dksX8_hasRow_0 1 rfl rfl)
theorem dX8_hasRow_2 : decode cX8_hasRow 2 = .ok (.getfield 7, 3) := dk_180 0 7 (dk_at dksX8_hasRow_0 2 rfl rfl)
theorem dX8_hasRow_5 : decode cX8_hasRow 5 = .ok (.aload_n 0, 1) := dk_42 (dk_at dksX8_hasRow_0 5 rfl rfl)
theorem dX8_hasRow_6 : decode cX8_hasRow 6 = .ok (.getfield 13, 3) := dk_180 0 13 (dk_at dksX8_hasRow_0 6 rfl rfl)
theorem dX8_hasRow_9 : decode cX8_hasRow 9 = .ok (.invokestatic 29, 3) := dk_184 0 29 (dk_at dksX8_hasRow_0 9 rfl rfl)
theorem dX8_hasRow_12 : decode cX8_hasRow 12 = .ok (.ireturn, 1) := dk_172 (dk_at dksX8_hasRow_0 12 rfl rfl)
abbrev cX8_has : ByteArray := prog_12_method_5_code
def yX8_has : MethodName := ⟨RX8, "has", "(II)Z"⟩
def dkwX8_has_1 : List UInt8 := [167, 0, 4, 3, 172]
abbrev dktX8_has_1 : List UInt8 := dkwX8_has_1 ++ []
def dkwX8_has_0 : List UInt8 := [42, 27, 182, 0, 35, 153, 0, 22, 28, 42, 180, 0, 16, 42, 180, 0, 19, 184, 0, 29, 153, 0, 7, 4]
abbrev dktX8_has_0 : List UInt8 := dkwX8_has_0 ++ dktX8_has_1
theorem dksX8_has_0 : cX8_has.data.toList.drop 0 = dktX8_has_0 := by decide +kernel
theorem dksX8_has_1 : cX8_has.data.toList.drop 24 = dktX8_has_1 := dk_seg dksX8_has_0 24 rfl rfl
theorem dX8_has_0 : decode cX8_has 0 = .ok (.aload_n 0, 1) := dk_42 (dk_at dksX8_has_0 0 rfl rfl)
theorem dX8_has_1 : decode cX8_has 1 = .ok (.iload_n 1, 1) := dk_27 (dk_at dksX8_has_0 1 rfl rfl)
theorem dX8_has_2 : decode cX8_has 2 = .ok (.invokevirtual 35, 3) := dk_182 0 35 (dk_at dksX8_has_0 2 rfl rfl)
theorem dX8_has_5 : decode cX8_has 5 = .ok (.ifCond .eq 22, 3) := dk_153 0 22 (dk_at dksX8_has_0 5 rfl rfl)
theorem dX8_has_8 : decode cX8_has 8 = .ok (.iload_n 2, 1) := dk_28 (dk_at dksX8_has_0 8 rfl rfl)
theorem dX8_has_9 : decode cX8_has 9 = .ok (.aload_n 0, 1) := dk_42 (dk_at dksX8_has_0 9 rfl rfl)
theorem dX8_has_10 : decode cX8_has 10 = .ok (.getfield 16, 3) := dk_180 0 16 (dk_at dksX8_has_0 10 rfl rfl)
theorem dX8_has_13 : decode cX8_has 13 = .ok (.aload_n 0, 1) := dk_42 (dk_at dksX8_has_0 13 rfl rfl)
theorem dX8_has_14 : decode cX8_has 14 = .ok (.getfield 19, 3) := dk_180 0 19 (dk_at dksX8_has_0 14 rfl rfl)
theorem dX8_has_17 : decode cX8_has 17 = .ok (.invokestatic 29, 3) := dk_184 0 29 (dk_at dksX8_has_0 17 rfl rfl)
theorem dX8_has_20 : decode cX8_has 20 = .ok (.ifCond .eq 7, 3) := dk_153 0 7 (dk_at dksX8_has_0 20 rfl rfl)
theorem dX8_has_23 : decode cX8_has 23 = .ok (.iconst 1, 1) := dk_4 (dk_at dksX8_has_0 23 rfl rfl)
theorem dX8_has_24 : decode cX8_has 24 = .ok (.goto 4, 3) := dk_167 0 4 (dk_at dksX8_has_1 0 rfl rfl)
theorem dX8_has_27 : decode cX8_has 27 = .ok (.iconst 0, 1) := dk_3 (dk_at dksX8_has_1 3 rfl rfl)
theorem dX8_has_28 : decode cX8_has 28 = .ok (.ireturn, 1) := dk_172 (dk_at dksX8_has_1 4 rfl rfl)
abbrev cX8_meets : ByteArray := prog_12_method_7_code
def yX8_meets : MethodName := ⟨RX8, "meets", "(LCellRows$Rect;)Z"⟩
def dkwX8_meets_2 : List UInt8 := [167, 0, 4, 3, 172]
abbrev dktX8_meets_2 : List UInt8 := dkwX8_meets_2 ++ []
def dkwX8_meets_1 : List UInt8 := [180, 0, 16, 43, 180, 0, 19, 163, 0, 18, 43, 180, 0, 16, 42, 180, 0, 19, 163, 0, 7, 4]
abbrev dktX8_meets_1 : List UInt8 := dkwX8_meets_1 ++ dktX8_meets_2
def dkwX8_meets_0 : List UInt8 := [42, 180, 0, 7, 43, 180, 0, 13, 163, 0, 40, 43, 180, 0, 7, 42, 180, 0, 13, 163, 0, 29, 42]
abbrev dktX8_meets_0 : List UInt8 := dkwX8_meets_0 ++ dktX8_meets_1
theorem dksX8_meets_0 : cX8_meets.data.toList.drop 0 = dktX8_meets_0 := by decide +kernel
theorem dksX8_meets_1 : cX8_meets.data.toList.drop 23 = dktX8_meets_1 := dk_seg dksX8_meets_0 23 rfl rfl
theorem dksX8_meets_2 : cX8_meets.data.toList.drop 45 = dktX8_meets_2 := dk_seg dksX8_meets_1 22 rfl rfl
theorem dX8_meets_0 : decode cX8_meets 0 = .ok (.aload_n 0, 1) := dk_42 (dk_at dksX8_meets_0 0 rfl rfl)
theorem dX8_meets_1 : decode cX8_meets 1 = .ok (.getfield 7, 3) := dk_180 0 7 (dk_at dksX8_meets_0 1 rfl rfl)
theorem dX8_meets_4 : decode cX8_meets 4 = .ok (.aload_n 1, 1) := dk_43 (dk_at dksX8_meets_0 4 rfl rfl)
theorem dX8_meets_5 : decode cX8_meets 5 = .ok (.getfield 13, 3) := dk_180 0 13 (dk_at dksX8_meets_0 5 rfl rfl)
theorem dX8_meets_8 : decode cX8_meets 8 = .ok (.if_icmp .gt 40, 3) := dk_163 0 40 (dk_at dksX8_meets_0 8 rfl rfl)
theorem dX8_meets_11 : decode cX8_meets 11 = .ok (.aload_n 1, 1) := dk_43 (dk_at dksX8_meets_0 11 rfl rfl)
theorem dX8_meets_12 : decode cX8_meets 12 = .ok (.getfield 7, 3) := dk_180 0 7 (dk_at dksX8_meets_0 12 rfl rfl)
theorem dX8_meets_15 : decode cX8_meets 15 = .ok (.aload_n 0, 1) := dk_42 (dk_at dksX8_meets_0 15 rfl rfl)
theorem dX8_meets_16 : decode cX8_meets 16 = .ok (.getfield 13, 3) := dk_180 0 13 (dk_at dksX8_meets_0 16 rfl rfl)
theorem dX8_meets_19 : decode cX8_meets 19 = .ok (.if_icmp .gt 29, 3) := dk_163 0 29 (dk_at dksX8_meets_0 19 rfl rfl)
theorem dX8_meets_22 : decode cX8_meets 22 = .ok (.aload_n 0, 1) := dk_42 (dk_at dksX8_meets_0 22 rfl rfl)
theorem dX8_meets_23 : decode cX8_meets 23 = .ok (.getfield 16, 3) := dk_180 0 16 (dk_at dksX8_meets_1 0 rfl rfl)
theorem dX8_meets_26 : decode cX8_meets 26 = .ok (.aload_n 1, 1) := dk_43 (dk_at dksX8_meets_1 3 rfl rfl)
theorem dX8_meets_27 : decode cX8_meets 27 = .ok (.getfield 19, 3) := dk_180 0 19 (dk_at dksX8_meets_1 4 rfl rfl)
theorem dX8_meets_30 : decode cX8_meets 30 = .ok (.if_icmp .gt 18, 3) := dk_163 0 18 (dk_at dksX8_meets_1 7 rfl rfl)
theorem dX8_meets_33 : decode cX8_meets 33 = .ok (.aload_n 1, 1) := dk_43 (dk_at dksX8_meets_1 10 rfl rfl)
theorem dX8_meets_34 : decode cX8_meets 34 = .ok (.getfield 16, 3) := dk_180 0 16 (dk_at dksX8_meets_1 11 rfl rfl)
theorem dX8_meets_37 : decode cX8_meets 37 = .ok (.aload_n 0, 1) := dk_42 (dk_at dksX8_meets_1 14 rfl rfl)
theorem dX8_meets_38 : decode cX8_meets 38 = .ok (.getfield 19, 3) := dk_180 0 19 (dk_at dksX8_meets_1 15 rfl rfl)
theorem dX8_meets_41 : decode cX8_meets 41 = .ok (.if_icmp .gt 7, 3) := dk_163 0 7 (dk_at dksX8_meets_1 18 rfl rfl)
theorem dX8_meets_44 : decode cX8_meets 44 = .ok (.iconst 1, 1) := dk_4 (dk_at dksX8_meets_1 21 rfl rfl)
theorem dX8_meets_45 : decode cX8_meets 45 = .ok (.goto 4, 3) := dk_167 0 4 (dk_at dksX8_meets_2 0 rfl rfl)
theorem dX8_meets_48 : decode cX8_meets 48 = .ok (.iconst 0, 1) := dk_3 (dk_at dksX8_meets_2 3 rfl rfl)
theorem dX8_meets_49 : decode cX8_meets 49 = .ok (.ireturn, 1) := dk_172 (dk_at dksX8_meets_2 4 rfl rfl)
theorem q145 : (Jvm.Cond.initialized "CellRows$Rect") ∈ lw_all := lw_g (lw_at lw_m1 9 rfl) rfl
theorem q308 : (Jvm.Cond.instantiable "CellRows$Rect" (5 : Nat)) ∈ lw_all := lw_g (lw_at lw_m1 172 rfl) rfl
theorem q310 : (Jvm.Cond.instanceMethod ({ cls := "CellRows$Rect", name := "<init>", desc := "()V" } : Jvm.MethodName)) ∈ lw_all := lw_g (lw_at lw_m1 174 rfl) rfl
theorem q311 : (Jvm.Cond.code ({ cls := "CellRows$Rect", name := "<init>", desc := "()V" } : Jvm.MethodName) prog_12_method_1_code (1 : Nat) (Option.none : Option Jvm.ClassFile.FieldType)) ∈ lw_all := lw_g (lw_at lw_m1 175 rfl) rfl
theorem q312 : (Jvm.Cond.methodLink "CellRows$Rect" (1 : Nat) ({ cls := "java/lang/Object", name := "<init>", desc := "()V" } : Jvm.MethodName)) ∈ lw_all := lw_g (lw_at lw_m1 176 rfl) rfl
theorem q313 : (Jvm.Cond.fieldLink "CellRows$Rect" (7 : Nat) "CellRows$Rect" "low" "I") ∈ lw_all := lw_g (lw_at lw_m1 177 rfl) rfl
theorem q316 : (Jvm.Cond.fieldLink "CellRows$Rect" (13 : Nat) "CellRows$Rect" "high" "I") ∈ lw_all := lw_g (lw_at lw_m1 180 rfl) rfl
theorem q319 : (Jvm.Cond.fieldLink "CellRows$Rect" (16 : Nat) "CellRows$Rect" "first" "I") ∈ lw_all := lw_g (lw_at lw_m1 183 rfl) rfl
theorem q321 : (Jvm.Cond.fieldLink "CellRows$Rect" (19 : Nat) "CellRows$Rect" "last" "I") ∈ lw_all := lw_g (lw_at lw_m1 185 rfl) rfl
theorem q323 : (Jvm.Cond.fieldLink "CellRows$Rect" (22 : Nat) "CellRows$Rect" "halo" "I") ∈ lw_all := lw_g (lw_at lw_m1 187 rfl) rfl
theorem q324 : (Jvm.Cond.lays "CellRows$Rect" "CellRows$Rect" "low" "I") ∈ lw_all := lw_g (lw_at lw_m1 188 rfl) rfl
theorem q325 : (Jvm.Cond.soleField "CellRows$Rect" "low") ∈ lw_all := lw_g (lw_at lw_m1 189 rfl) rfl
theorem q326 : (Jvm.Cond.lays "CellRows$Rect" "CellRows$Rect" "high" "I") ∈ lw_all := lw_g (lw_at lw_m1 190 rfl) rfl
theorem q327 : (Jvm.Cond.soleField "CellRows$Rect" "high") ∈ lw_all := lw_g (lw_at lw_m1 191 rfl) rfl
theorem q328 : (Jvm.Cond.lays "CellRows$Rect" "CellRows$Rect" "first" "I") ∈ lw_all := lw_g (lw_at lw_m1 192 rfl) rfl
theorem q329 : (Jvm.Cond.soleField "CellRows$Rect" "first") ∈ lw_all := lw_g (lw_at lw_m1 193 rfl) rfl
theorem q330 : (Jvm.Cond.lays "CellRows$Rect" "CellRows$Rect" "last" "I") ∈ lw_all := lw_g (lw_at lw_m1 194 rfl) rfl
theorem q331 : (Jvm.Cond.soleField "CellRows$Rect" "last") ∈ lw_all := lw_g (lw_at lw_m1 195 rfl) rfl
theorem q332 : (Jvm.Cond.lays "CellRows$Rect" "CellRows$Rect" "halo" "I") ∈ lw_all := lw_g (lw_at lw_m1 196 rfl) rfl
theorem q333 : (Jvm.Cond.soleField "CellRows$Rect" "halo") ∈ lw_all := lw_g (lw_at lw_m1 197 rfl) rfl
theorem q334 : (Jvm.Cond.superclass "CellRows$Rect" "java/lang/Object") ∈ lw_all := lw_g (lw_at lw_m1 198 rfl) rfl
theorem q487 : (Jvm.Cond.instanceMethod ({ cls := "CellRows$Rect", name := "takes", desc := "(LCellRows$Rect;)V" } : Jvm.MethodName)) ∈ lw_all := lw_g (lw_at lw_m2 111 rfl) rfl
theorem q488 : (Jvm.Cond.selects "CellRows$Rect" ({ cls := "CellRows$Rect", name := "takes", desc := "(LCellRows$Rect;)V" } : Jvm.MethodName) ({ cls := "CellRows$Rect", name := "takes", desc := "(LCellRows$Rect;)V" } : Jvm.MethodName)) ∈ lw_all := lw_g (lw_at lw_m2 112 rfl) rfl
theorem q489 : (Jvm.Cond.code ({ cls := "CellRows$Rect", name := "takes", desc := "(LCellRows$Rect;)V" } : Jvm.MethodName) prog_12_method_3_code (2 : Nat) (Option.none : Option Jvm.ClassFile.FieldType)) ∈ lw_all := lw_g (lw_at lw_m2 113 rfl) rfl
theorem q490 : (Jvm.Cond.methodLink "CellRows$Rect" (25 : Nat) ({ cls := "CellRows$Rect", name := "begins", desc := "(IIIII)V" } : Jvm.MethodName)) ∈ lw_all := lw_g (lw_at lw_m2 114 rfl) rfl
theorem q491 : (Jvm.Cond.instanceMethod ({ cls := "CellRows$Rect", name := "begins", desc := "(IIIII)V" } : Jvm.MethodName)) ∈ lw_all := lw_g (lw_at lw_m2 115 rfl) rfl
theorem q492 : (Jvm.Cond.selects "CellRows$Rect" ({ cls := "CellRows$Rect", name := "begins", desc := "(IIIII)V" } : Jvm.MethodName) ({ cls := "CellRows$Rect", name := "begins", desc := "(IIIII)V" } : Jvm.MethodName)) ∈ lw_all := lw_g (lw_at lw_m2 116 rfl) rfl
theorem q493 : (Jvm.Cond.code ({ cls := "CellRows$Rect", name := "begins", desc := "(IIIII)V" } : Jvm.MethodName) prog_12_method_2_code (6 : Nat) (Option.none : Option Jvm.ClassFile.FieldType)) ∈ lw_all := lw_g (lw_at lw_m2 117 rfl) rfl
theorem q539 : (Jvm.Cond.instanceMethod ({ cls := "CellRows$Rect", name := "bars", desc := "(II)Z" } : Jvm.MethodName)) ∈ lw_all := lw_g (lw_at lw_m2 163 rfl) rfl
theorem q540 : (Jvm.Cond.selects "CellRows$Rect" ({ cls := "CellRows$Rect", name := "bars", desc := "(II)Z" } : Jvm.MethodName) ({ cls := "CellRows$Rect", name := "bars", desc := "(II)Z" } : Jvm.MethodName)) ∈ lw_all := lw_g (lw_at lw_m2 164 rfl) rfl
theorem q541 : (Jvm.Cond.code ({ cls := "CellRows$Rect", name := "bars", desc := "(II)Z" } : Jvm.MethodName) prog_12_method_6_code (3 : Nat) (Option.some Jvm.ClassFile.FieldType.boolean)) ∈ lw_all := lw_g (lw_at lw_m2 165 rfl) rfl
theorem q542 : (Jvm.Cond.methodLink "CellRows$Rect" (35 : Nat) ({ cls := "CellRows$Rect", name := "hasRow", desc := "(I)Z" } : Jvm.MethodName)) ∈ lw_all := lw_g (lw_at lw_m2 166 rfl) rfl
theorem q543 : (Jvm.Cond.instanceMethod ({ cls := "CellRows$Rect", name := "hasRow", desc := "(I)Z" } : Jvm.MethodName)) ∈ lw_all := lw_g (lw_at lw_m2 167 rfl) rfl
theorem q544 : (Jvm.Cond.selects "CellRows$Rect" ({ cls := "CellRows$Rect", name := "hasRow", desc := "(I)Z" } : Jvm.MethodName) ({ cls := "CellRows$Rect", name := "hasRow", desc := "(I)Z" } : Jvm.MethodName)) ∈ lw_all := lw_g (lw_at lw_m2 168 rfl) rfl
theorem q545 : (Jvm.Cond.code ({ cls := "CellRows$Rect", name := "hasRow", desc := "(I)Z" } : Jvm.MethodName) prog_12_method_4_code (2 : Nat) (Option.some Jvm.ClassFile.FieldType.boolean)) ∈ lw_all := lw_g (lw_at lw_m2 169 rfl) rfl
theorem q546 : (Jvm.Cond.methodLinkNest "CellRows$Rect" (29 : Nat) ({ cls := "CellRows", name := "in", desc := "(III)Z" } : Jvm.MethodName) "CellRows") ∈ lw_tbl := lw_at lw_m2 170 rfl
theorem q548 : (Jvm.Cond.instanceMethod ({ cls := "CellRows$Rect", name := "has", desc := "(II)Z" } : Jvm.MethodName)) ∈ lw_all := lw_g (lw_at lw_m2 172 rfl) rfl
theorem q549 : (Jvm.Cond.selects "CellRows$Rect" ({ cls := "CellRows$Rect", name := "has", desc := "(II)Z" } : Jvm.MethodName) ({ cls := "CellRows$Rect", name := "has", desc := "(II)Z" } : Jvm.MethodName)) ∈ lw_all := lw_g (lw_at lw_m2 173 rfl) rfl
theorem q550 : (Jvm.Cond.code ({ cls := "CellRows$Rect", name := "has", desc := "(II)Z" } : Jvm.MethodName) prog_12_method_5_code (3 : Nat) (Option.some Jvm.ClassFile.FieldType.boolean)) ∈ lw_all := lw_g (lw_at lw_m2 174 rfl) rfl
theorem q605 : (Jvm.Cond.instanceMethod ({ cls := "CellRows$Rect", name := "meets", desc := "(LCellRows$Rect;)Z" } : Jvm.MethodName)) ∈ lw_all := lw_g (lw_at lw_m2 229 rfl) rfl
theorem q606 : (Jvm.Cond.selects "CellRows$Rect" ({ cls := "CellRows$Rect", name := "meets", desc := "(LCellRows$Rect;)Z" } : Jvm.MethodName) ({ cls := "CellRows$Rect", name := "meets", desc := "(LCellRows$Rect;)Z" } : Jvm.MethodName)) ∈ lw_all := lw_g (lw_at lw_m2 230 rfl) rfl
theorem q607 : (Jvm.Cond.code ({ cls := "CellRows$Rect", name := "meets", desc := "(LCellRows$Rect;)Z" } : Jvm.MethodName) prog_12_method_7_code (2 : Nat) (Option.some Jvm.ClassFile.FieldType.boolean)) ∈ lw_all := lw_g (lw_at lw_m2 231 rfl) rfl
theorem q1019 : (Jvm.Cond.selects "CellRows$Rect" ({ cls := "java/lang/Object", name := "getClass", desc := "()Ljava/lang/Class;" } : Jvm.MethodName) ({ cls := "java/lang/Object", name := "getClass", desc := "()Ljava/lang/Class;" } : Jvm.MethodName)) ∈ lw_all := lw_g (lw_at lw_m4 163 rfl) rfl
theorem q2059 : (Jvm.Cond.castable "CellRows$Rect" "java/lang/Object") ∈ lw_tbl := lw_at lw_m9 3 rfl
theorem in_X8 : ∀ w ∈ wsX80, w ∈ lw_all := lw_in wsX80 [324, 326, 328, 330, 332] (by decide +kernel) (by decide +kernel)
/-! CellRows$Bin -/
set_option maxRecDepth 100000
def RX10 : String := "CellRows$Bin"
def TX10 : u_T := fun k => match k with
  | 0 => ("CellRows$Bin", "low", "I", true)
  | 1 => ("CellRows$Bin", "first", "I", true)
  | 2 => ("CellRows$Bin", "supply", "I", false)
  | _ => ("CellRows$Bin", "this$0", "LCellRows;", true)
def tyX10 : Nat → FieldType := fun k => match k with
  | 0 => .int
  | 1 => .int
  | 2 => .int
  | _ => .object "CellRows"
abbrev wsX100 : List Cond := u_ws RX10 TX10 4
theorem nmX10 : ∀ a, a < 4 → ∀ b, b < 4 → a ≠ b → (TX10 a).2.1 ≠ (TX10 b).2.1 := by decide +kernel
theorem tyX10_ok : ∀ k, k < 4 → parseFieldDescriptor (TX10 k).2.2.1 = some (tyX10 k) := by decide +kernel
abbrev cX10_init : ByteArray := prog_6_method_1_code
def yX10_init : MethodName := ⟨RX10, "<init>", "(LCellRows;I)V"⟩
def dkwX10_init_1 : List UInt8 := [28, 43, 182, 0, 15, 112, 104, 181, 0, 23, 177]
abbrev dktX10_init_1 : List UInt8 := dkwX10_init_1 ++ []
def dkwX10_init_0 : List UInt8 := [42, 43, 181, 0, 3, 42, 183, 0, 9, 42, 5, 28, 43, 182, 0, 15, 108, 104, 181, 0, 19, 42, 16, 8]
abbrev dktX10_init_0 : List UInt8 := dkwX10_init_0 ++ dktX10_init_1
theorem dksX10_init_0 : cX10_init.data.toList.drop 0 = dktX10_init_0 := by decide +kernel
theorem dksX10_init_1 : cX10_init.data.toList.drop 24 = dktX10_init_1 := dk_seg dksX10_init_0 24 rfl rfl
theorem dX10_init_0 : decode cX10_init 0 = .ok (.aload_n 0, 1) := dk_42 (dk_at dksX10_init_0 0 rfl rfl)
theorem dX10_init_1 : decode cX10_init 1 = .ok (.aload_n 1, 1) := dk_43 (dk_at dksX10_init_0 1 rfl rfl)
theorem dX10_init_2 : decode cX10_init 2 = .ok (.putfield 3, 3) := dk_181 0 3 (dk_at dksX10_init_0 2 rfl rfl)
theorem dX10_init_5 : decode cX10_init 5 = .ok (.aload_n 0, 1) := dk_42 (dk_at dksX10_init_0 5 rfl rfl)
theorem dX10_init_6 : decode cX10_init 6 = .ok (.invokespecial 9, 3) := dk_183 0 9 (dk_at dksX10_init_0 6 rfl rfl)
theorem dX10_init_9 : decode cX10_init 9 = .ok (.aload_n 0, 1) := dk_42 (dk_at dksX10_init_0 9 rfl rfl)
theorem dX10_init_10 : decode cX10_init 10 = .ok (.iconst 2, 1) := dk_5 (dk_at dksX10_init_0 10 rfl rfl)
theorem dX10_init_11 : decode cX10_init 11 = .ok (.iload_n 2, 1) := dk_28 (dk_at dksX10_init_0 11 rfl rfl)
theorem dX10_init_12 : decode cX10_init 12 = .ok (.aload_n 1, 1) := dk_43 (dk_at dksX10_init_0 12 rfl rfl)
theorem dX10_init_13 : decode cX10_init 13 = .ok (.invokevirtual 15, 3) := dk_182 0 15 (dk_at dksX10_init_0 13 rfl rfl)
theorem dX10_init_16 : decode cX10_init 16 = .ok (.idiv, 1) := dk_108 (dk_at dksX10_init_0 16 rfl rfl)
theorem dX10_init_17 : decode cX10_init 17 = .ok (.imul, 1) := dk_104 (dk_at dksX10_init_0 17 rfl rfl)
theorem dX10_init_18 : decode cX10_init 18 = .ok (.putfield 19, 3) := dk_181 0 19 (dk_at dksX10_init_0 18 rfl rfl)
theorem dX10_init_21 : decode cX10_init 21 = .ok (.aload_n 0, 1) := dk_42 (dk_at dksX10_init_0 21 rfl rfl)
theorem dX10_init_22 : decode cX10_init 22 = .ok (.bipush 8, 2) := dk_16 8 (dk_at dksX10_init_0 22 rfl rfl)
theorem dX10_init_24 : decode cX10_init 24 = .ok (.iload_n 2, 1) := dk_28 (dk_at dksX10_init_1 0 rfl rfl)
theorem dX10_init_25 : decode cX10_init 25 = .ok (.aload_n 1, 1) := dk_43 (dk_at dksX10_init_1 1 rfl rfl)
theorem dX10_init_26 : decode cX10_init 26 = .ok (.invokevirtual 15, 3) := dk_182 0 15 (dk_at dksX10_init_1 2 rfl rfl)
theorem dX10_init_29 : decode cX10_init 29 = .ok (.irem, 1) := dk_112 (dk_at dksX10_init_1 5 rfl rfl)
theorem dX10_init_30 : decode cX10_init 30 = .ok (.imul, 1) := dk_104 (dk_at dksX10_init_1 6 rfl rfl)
theorem dX10_init_31 : decode cX10_init 31 = .ok (.putfield 23, 3) := dk_181 0 23 (dk_at dksX10_init_1 7 rfl rfl)
theorem dX10_init_34 : decode cX10_init 34 = .ok (.return_, 1) := dk_177 (dk_at dksX10_init_1 10 rfl rfl)
abbrev cX10_lays : ByteArray := prog_6_method_4_code
def yX10_lays : MethodName := ⟨RX10, "lays", "()LCellRows$Bin;"⟩
def dkwX10_lays_3 : List UInt8 := [17, 1, 0, 96, 181, 0, 38, 132, 2, 1, 167, 255, 199, 132, 1, 1, 167, 255, 180, 42, 176]
abbrev dktX10_lays_3 : List UInt8 := dkwX10_lays_3 ++ []
def dkwX10_lays_2 : List UInt8 := [154, 0, 18, 42, 180, 0, 3, 180, 0, 47, 27, 28, 182, 0, 57, 153, 0, 7, 3, 167, 0, 6]
abbrev dktX10_lays_2 : List UInt8 := dkwX10_lays_2 ++ dktX10_lays_3
def dkwX10_lays_1 : List UInt8 := [42, 182, 0, 44, 162, 0, 55, 42, 89, 180, 0, 38, 42, 180, 0, 3, 180, 0, 47, 27, 28, 182, 0, 51]
abbrev dktX10_lays_1 : List UInt8 := dkwX10_lays_1 ++ dktX10_lays_2
def dkwX10_lays_0 : List UInt8 := [42, 3, 181, 0, 38, 42, 180, 0, 19, 60, 27, 42, 182, 0, 41, 162, 0, 74, 42, 180, 0, 23, 61, 28]
abbrev dktX10_lays_0 : List UInt8 := dkwX10_lays_0 ++ dktX10_lays_1
theorem dksX10_lays_0 : cX10_lays.data.toList.drop 0 = dktX10_lays_0 := by decide +kernel
theorem dksX10_lays_1 : cX10_lays.data.toList.drop 24 = dktX10_lays_1 := dk_seg dksX10_lays_0 24 rfl rfl
theorem dksX10_lays_2 : cX10_lays.data.toList.drop 48 = dktX10_lays_2 := dk_seg dksX10_lays_1 24 rfl rfl
theorem dksX10_lays_3 : cX10_lays.data.toList.drop 70 = dktX10_lays_3 := dk_seg dksX10_lays_2 22 rfl rfl
theorem dX10_lays_0 : decode cX10_lays 0 = .ok (.aload_n 0, 1) := dk_42 (dk_at dksX10_lays_0 0 rfl rfl)
theorem dX10_lays_1 : decode cX10_lays 1 = .ok (.iconst 0, 1) := dk_3 (dk_at dksX10_lays_0 1 rfl rfl)
theorem dX10_lays_2 : decode cX10_lays 2 = .ok (.putfield 38, 3) := dk_181 0 38 (dk_at dksX10_lays_0 2 rfl rfl)
theorem dX10_lays_5 : decode cX10_lays 5 = .ok (.aload_n 0, 1) := dk_42 (dk_at dksX10_lays_0 5 rfl rfl)
theorem dX10_lays_6 : decode cX10_lays 6 = .ok (.getfield 19, 3) := dk_180 0 19 (dk_at dksX10_lays_0 6 rfl rfl)
theorem dX10_lays_9 : decode cX10_lays 9 = .ok (.istore_n 1, 1) := dk_60 (dk_at dksX10_lays_0 9 rfl rfl)
theorem dX10_lays_10 : decode cX10_lays 10 = .ok (.iload_n 1, 1) := dk_27 (dk_at dksX10_lays_0 10 rfl rfl)
theorem dX10_lays_11 : decode cX10_lays 11 = .ok (.aload_n 0, 1) := dk_42 (dk_at dksX10_lays_0 11 rfl rfl)
theorem dX10_lays_12 : decode cX10_lays 12 = .ok (.invokevirtual 41, 3) := dk_182 0 41 (dk_at dksX10_lays_0 12 rfl rfl)
theorem dX10_lays_15 : decode cX10_lays 15 = .ok (.if_icmp .ge 74, 3) := dk_162 0 74 (dk_at dksX10_lays_0 15 rfl rfl)
theorem dX10_lays_18 : decode cX10_lays 18 = .ok (.aload_n 0, 1) := dk_42 (dk_at dksX10_lays_0 18 rfl rfl)
theorem dX10_lays_19 : decode cX10_lays 19 = .ok (.getfield 23, 3) := dk_180 0 23 (dk_at dksX10_lays_0 19 rfl rfl)
theorem dX10_lays_22 : decode cX10_lays 22 = .ok (.istore_n 2, 1) := dk_61 (dk_at dksX10_lays_0 22 rfl rfl)
theorem dX10_lays_23 : decode cX10_lays 23 = .ok (.iload_n 2, 1) := dk_28 (dk_at dksX10_lays_0 23 rfl rfl)
theorem dX10_lays_24 : decode cX10_lays 24 = .ok (.aload_n 0, 1) := dk_42 (dk_at dksX10_lays_1 0 rfl rfl)
theorem dX10_lays_25 : decode cX10_lays 25 = .ok (.invokevirtual 44, 3) := dk_182 0 44 (dk_at dksX10_lays_1 1 rfl rfl)
theorem dX10_lays_28 : decode cX10_lays 28 = .ok (.if_icmp .ge 55, 3) := dk_162 0 55 (dk_at dksX10_lays_1 4 rfl rfl)
theorem dX10_lays_31 : decode cX10_lays 31 = .ok (.aload_n 0, 1) := dk_42 (dk_at dksX10_lays_1 7 rfl rfl)
theorem dX10_lays_32 : decode cX10_lays 32 = .ok (.dup, 1) := dk_89 (dk_at dksX10_lays_1 8 rfl rfl)
theorem dX10_lays_33 : decode cX10_lays 33 = .ok (.getfield 38, 3) := dk_180 0 38 (dk_at dksX10_lays_1 9 rfl rfl)
theorem dX10_lays_36 : decode cX10_lays 36 = .ok (.aload_n 0, 1) := dk_42 (dk_at dksX10_lays_1 12 rfl rfl)
theorem dX10_lays_37 : decode cX10_lays 37 = .ok (.getfield 3, 3) := dk_180 0 3 (dk_at dksX10_lays_1 13 rfl rfl)
theorem dX10_lays_40 : decode cX10_lays 40 = .ok (.getfield 47, 3) := dk_180 0 47 (dk_at dksX10_lays_1 16 rfl rfl)
theorem dX10_lays_43 : decode cX10_lays 43 = .ok (.iload_n 1, 1) := dk_27 (dk_at dksX10_lays_1 19 rfl rfl)
theorem dX10_lays_44 : decode cX10_lays 44 = .ok (.iload_n 2, 1) := dk_28 (dk_at dksX10_lays_1 20 rfl rfl)
theorem dX10_lays_45 : decode cX10_lays 45 = .ok (.invokevirtual 51, 3) := dk_182 0 51 (dk_at dksX10_lays_1 21 rfl rfl)
theorem dX10_lays_48 : decode cX10_lays 48 = .ok (.ifCond .ne 18, 3) := dk_154 0 18 (dk_at dksX10_lays_2 0 rfl rfl)
theorem dX10_lays_51 : decode cX10_lays 51 = .ok (.aload_n 0, 1) := dk_42 (dk_at dksX10_lays_2 3 rfl rfl)
theorem dX10_lays_52 : decode cX10_lays 52 = .ok (.getfield 3, 3) := dk_180 0 3 (dk_at dksX10_lays_2 4 rfl rfl)
theorem dX10_lays_55 : decode cX10_lays 55 = .ok (.getfield 47, 3) := dk_180 0 47 (dk_at dksX10_lays_2 7 rfl rfl)
theorem dX10_lays_58 : decode cX10_lays 58 = .ok (.iload_n 1, 1) := dk_27 (dk_at dksX10_lays_2 10 rfl rfl)
theorem dX10_lays_59 : decode cX10_lays 59 = .ok (.iload_n 2, 1) := dk_28 (dk_at dksX10_lays_2 11 rfl rfl)
theorem dX10_lays_60 : decode cX10_lays 60 = .ok (.invokevirtual 57, 3) := dk_182 0 57 (dk_at dksX10_lays_2 12 rfl rfl)
theorem dX10_lays_63 : decode cX10_lays 63 = .ok (.ifCond .eq 7, 3) := dk_153 0 7 (dk_at dksX10_lays_2 15 rfl rfl)
theorem dX10_lays_66 : decode cX10_lays 66 = .ok (.iconst 0, 1) := dk_3 (dk_at dksX10_lays_2 18 rfl rfl)
theorem dX10_lays_67 : decode cX10_lays 67 = .ok (.goto 6, 3) := dk_167 0 6 (dk_at dksX10_lays_2 19 rfl rfl)
theorem dX10_lays_70 : decode cX10_lays 70 = .ok (.sipush 256, 3) := dk_17 1 0 (dk_at dksX10_lays_3 0 rfl rfl)
theorem dX10_lays_73 : decode cX10_lays 73 = .ok (.iadd, 1) := dk_96 (dk_at dksX10_lays_3 3 rfl rfl)
theorem dX10_lays_74 : decode cX10_lays 74 = .ok (.putfield 38, 3) := dk_181 0 38 (dk_at dksX10_lays_3 4 rfl rfl)
theorem dX10_lays_77 : decode cX10_lays 77 = .ok (.iinc 2 1, 3) := dk_132 2 1 (dk_at dksX10_lays_3 7 rfl rfl)
theorem dX10_lays_80 : decode cX10_lays 80 = .ok (.goto (-57), 3) := dk_167 255 199 (dk_at dksX10_lays_3 10 rfl rfl)
theorem dX10_lays_83 : decode cX10_lays 83 = .ok (.iinc 1 1, 3) := dk_132 1 1 (dk_at dksX10_lays_3 13 rfl rfl)
theorem dX10_lays_86 : decode cX10_lays 86 = .ok (.goto (-76), 3) := dk_167 255 180 (dk_at dksX10_lays_3 16 rfl rfl)
theorem dX10_lays_89 : decode cX10_lays 89 = .ok (.aload_n 0, 1) := dk_42 (dk_at dksX10_lays_3 19 rfl rfl)
theorem dX10_lays_90 : decode cX10_lays 90 = .ok (.areturn, 1) := dk_176 (dk_at dksX10_lays_3 20 rfl rfl)
abbrev cX10_high : ByteArray := prog_6_method_2_code
def yX10_high : MethodName := ⟨RX10, "high", "()I"⟩
def dkwX10_high_0 : List UInt8 := [42, 180, 0, 3, 180, 0, 26, 42, 180, 0, 19, 5, 96, 184, 0, 29, 172]
abbrev dktX10_high_0 : List UInt8 := dkwX10_high_0 ++ []
theorem dksX10_high_0 : cX10_high.data.toList.drop 0 = dktX10_high_0 := by decide +kernel
theorem dX10_high_0 : decode cX10_high 0 = .ok (.aload_n 0, 1) := dk_42 (dk_at dksX10_high_0 0 rfl rfl)
theorem dX10_high_1 : decode cX10_high 1 = .ok (.getfield 3, 3) := dk_180 0 3 (dk_at dksX10_high_0 1 rfl rfl)
theorem dX10_high_4 : decode cX10_high 4 = .ok (.getfield 26, 3) := dk_180 0 26 (dk_at dksX10_high_0 4 rfl rfl)
theorem dX10_high_7 : decode cX10_high 7 = .ok (.aload_n 0, 1) := dk_42 (dk_at dksX10_high_0 7 rfl rfl)
theorem dX10_high_8 : decode cX10_high 8 = .ok (.getfield 19, 3) := dk_180 0 19 (dk_at dksX10_high_0 8 rfl rfl)
theorem dX10_high_11 : decode cX10_high 11 = .ok (.iconst 2, 1) := dk_5 (dk_at dksX10_high_0 11 rfl rfl)
theorem dX10_high_12 : decode cX10_high 12 = .ok (.iadd, 1) := dk_96 (dk_at dksX10_high_0 12 rfl rfl)
theorem dX10_high_13 : decode cX10_high 13 = .ok (.invokestatic 29, 3) := dk_184 0 29 (dk_at dksX10_high_0 13 rfl rfl)
theorem dX10_high_16 : decode cX10_high 16 = .ok (.ireturn, 1) := dk_172 (dk_at dksX10_high_0 16 rfl rfl)
abbrev cX10_end : ByteArray := prog_6_method_3_code
def yX10_end : MethodName := ⟨RX10, "end", "()I"⟩
def dkwX10_end_0 : List UInt8 := [42, 180, 0, 3, 180, 0, 35, 42, 180, 0, 23, 16, 8, 96, 184, 0, 29, 172]
abbrev dktX10_end_0 : List UInt8 := dkwX10_end_0 ++ []
theorem dksX10_end_0 : cX10_end.data.toList.drop 0 = dktX10_end_0 := by decide +kernel
theorem dX10_end_0 : decode cX10_end 0 = .ok (.aload_n 0, 1) := dk_42 (dk_at dksX10_end_0 0 rfl rfl)
theorem dX10_end_1 : decode cX10_end 1 = .ok (.getfield 3, 3) := dk_180 0 3 (dk_at dksX10_end_0 1 rfl rfl)
theorem dX10_end_4 : decode cX10_end 4 = .ok (.getfield 35, 3) := dk_180 0 35 (dk_at dksX10_end_0 4 rfl rfl)
theorem dX10_end_7 : decode cX10_end 7 = .ok (.aload_n 0, 1) := dk_42 (dk_at dksX10_end_0 7 rfl rfl)
theorem dX10_end_8 : decode cX10_end 8 = .ok (.getfield 23, 3) := dk_180 0 23 (dk_at dksX10_end_0 8 rfl rfl)
theorem dX10_end_11 : decode cX10_end 11 = .ok (.bipush 8, 2) := dk_16 8 (dk_at dksX10_end_0 11 rfl rfl)
theorem dX10_end_13 : decode cX10_end 13 = .ok (.iadd, 1) := dk_96 (dk_at dksX10_end_0 13 rfl rfl)
theorem dX10_end_14 : decode cX10_end 14 = .ok (.invokestatic 29, 3) := dk_184 0 29 (dk_at dksX10_end_0 14 rfl rfl)
theorem dX10_end_17 : decode cX10_end 17 = .ok (.ireturn, 1) := dk_172 (dk_at dksX10_end_0 17 rfl rfl)
abbrev cX10_over : ByteArray := prog_6_method_7_code
def yX10_over : MethodName := ⟨RX10, "over", "()I"⟩
def dkwX10_over_1 : List UInt8 := [184, 0, 60, 172]
abbrev dktX10_over_1 : List UInt8 := dkwX10_over_1 ++ []
def dkwX10_over_0 : List UInt8 := [3, 42, 182, 0, 89, 42, 180, 0, 38, 42, 180, 0, 3, 180, 0, 92, 4, 46, 104, 16, 100, 108, 100]
abbrev dktX10_over_0 : List UInt8 := dkwX10_over_0 ++ dktX10_over_1
theorem dksX10_over_0 : cX10_over.data.toList.drop 0 = dktX10_over_0 := by decide +kernel
theorem dksX10_over_1 : cX10_over.data.toList.drop 23 = dktX10_over_1 := dk_seg dksX10_over_0 23 rfl rfl
theorem dX10_over_0 : decode cX10_over 0 = .ok (.iconst 0, 1) := dk_3 (dk_at dksX10_over_0 0 rfl rfl)
theorem dX10_over_1 : decode cX10_over 1 = .ok (.aload_n 0, 1) := dk_42 (dk_at dksX10_over_0 1 rfl rfl)
theorem dX10_over_2 : decode cX10_over 2 = .ok (.invokevirtual 89, 3) := dk_182 0 89 (dk_at dksX10_over_0 2 rfl rfl)
theorem dX10_over_5 : decode cX10_over 5 = .ok (.aload_n 0, 1) := dk_42 (dk_at dksX10_over_0 5 rfl rfl)
theorem dX10_over_6 : decode cX10_over 6 = .ok (.getfield 38, 3) := dk_180 0 38 (dk_at dksX10_over_0 6 rfl rfl)
theorem dX10_over_9 : decode cX10_over 9 = .ok (.aload_n 0, 1) := dk_42 (dk_at dksX10_over_0 9 rfl rfl)
theorem dX10_over_10 : decode cX10_over 10 = .ok (.getfield 3, 3) := dk_180 0 3 (dk_at dksX10_over_0 10 rfl rfl)
theorem dX10_over_13 : decode cX10_over 13 = .ok (.getfield 92, 3) := dk_180 0 92 (dk_at dksX10_over_0 13 rfl rfl)
theorem dX10_over_16 : decode cX10_over 16 = .ok (.iconst 1, 1) := dk_4 (dk_at dksX10_over_0 16 rfl rfl)
theorem dX10_over_17 : decode cX10_over 17 = .ok (.iaload, 1) := dk_46 (dk_at dksX10_over_0 17 rfl rfl)
theorem dX10_over_18 : decode cX10_over 18 = .ok (.imul, 1) := dk_104 (dk_at dksX10_over_0 18 rfl rfl)
theorem dX10_over_19 : decode cX10_over 19 = .ok (.bipush 100, 2) := dk_16 100 (dk_at dksX10_over_0 19 rfl rfl)
theorem dX10_over_21 : decode cX10_over 21 = .ok (.idiv, 1) := dk_108 (dk_at dksX10_over_0 21 rfl rfl)
theorem dX10_over_22 : decode cX10_over 22 = .ok (.isub, 1) := dk_100 (dk_at dksX10_over_0 22 rfl rfl)
theorem dX10_over_23 : decode cX10_over 23 = .ok (.invokestatic 60, 3) := dk_184 0 60 (dk_at dksX10_over_1 0 rfl rfl)
theorem dX10_over_26 : decode cX10_over 26 = .ok (.ireturn, 1) := dk_172 (dk_at dksX10_over_1 3 rfl rfl)
abbrev cX10_need : ByteArray := prog_6_method_6_code
def yX10_need : MethodName := ⟨RX10, "need", "()I"⟩
def dkwX10_need_4 : List UInt8 := [16, 16, 42, 182, 0, 41, 104, 182, 0, 82, 104, 96, 60, 132, 2, 1, 167, 255, 152, 27, 172]
abbrev dktX10_need_4 : List UInt8 := dkwX10_need_4 ++ []
def dkwX10_need_3 : List UInt8 := [104, 182, 0, 82, 42, 45, 180, 0, 86, 45, 180, 0, 86, 16, 16, 96, 16, 16, 42, 180, 0, 19, 104]
abbrev dktX10_need_3 : List UInt8 := dkwX10_need_3 ++ dktX10_need_4
def dkwX10_need_2 : List UInt8 := [180, 0, 76, 16, 16, 45, 180, 0, 79, 104, 96, 16, 16, 42, 180, 0, 23, 104, 16, 16, 42, 182, 0, 44]
abbrev dktX10_need_2 : List UInt8 := dkwX10_need_2 ++ dktX10_need_3
def dkwX10_need_1 : List UInt8 := [180, 0, 47, 180, 0, 66, 28, 50, 78, 45, 180, 0, 70, 154, 0, 70, 27, 42, 45, 180, 0, 76, 45]
abbrev dktX10_need_1 : List UInt8 := dkwX10_need_1 ++ dktX10_need_2
def dkwX10_need_0 : List UInt8 := [3, 60, 3, 61, 28, 42, 180, 0, 3, 180, 0, 47, 180, 0, 63, 162, 0, 96, 42, 180, 0, 3]
abbrev dktX10_need_0 : List UInt8 := dkwX10_need_0 ++ dktX10_need_1
theorem dksX10_need_0 : cX10_need.data.toList.drop 0 = dktX10_need_0 := by decide +kernel
theorem dksX10_need_1 : cX10_need.data.toList.drop 22 = dktX10_need_1 := dk_seg dksX10_need_0 22 rfl rfl
theorem dksX10_need_2 : cX10_need.data.toList.drop 45 = dktX10_need_2 := dk_seg dksX10_need_1 23 rfl rfl
theorem dksX10_need_3 : cX10_need.data.toList.drop 69 = dktX10_need_3 := dk_seg dksX10_need_2 24 rfl rfl
theorem dksX10_need_4 : cX10_need.data.toList.drop 92 = dktX10_need_4 := dk_seg dksX10_need_3 23 rfl rfl
theorem dX10_need_0 : decode cX10_need 0 = .ok (.iconst 0, 1) := dk_3 (dk_at dksX10_need_0 0 rfl rfl)
theorem dX10_need_1 : decode cX10_need 1 = .ok (.istore_n 1, 1) := dk_60 (dk_at dksX10_need_0 1 rfl rfl)
theorem dX10_need_2 : decode cX10_need 2 = .ok (.iconst 0, 1) := dk_3 (dk_at dksX10_need_0 2 rfl rfl)
theorem dX10_need_3 : decode cX10_need 3 = .ok (.istore_n 2, 1) := dk_61 (dk_at dksX10_need_0 3 rfl rfl)
theorem dX10_need_4 : decode cX10_need 4 = .ok (.iload_n 2, 1) := dk_28 (dk_at dksX10_need_0 4 rfl rfl)
theorem dX10_need_5 : decode cX10_need 5 = .ok (.aload_n 0, 1) := dk_42 (dk_at dksX10_need_0 5 rfl rfl)
theorem dX10_need_6 : decode cX10_need 6 = .ok (.getfield 3, 3) := dk_180 0 3 (dk_at dksX10_need_0 6 rfl rfl)
theorem dX10_need_9 : decode cX10_need 9 = .ok (.getfield 47, 3) := dk_180 0 47 (dk_at dksX10_need_0 9 rfl rfl)
theorem dX10_need_12 : decode cX10_need 12 = .ok (.getfield 63, 3) := dk_180 0 63 (dk_at dksX10_need_0 12 rfl rfl)
theorem dX10_need_15 : decode cX10_need 15 = .ok (.if_icmp .ge 96, 3) := dk_162 0 96 (dk_at dksX10_need_0 15 rfl rfl)
theorem dX10_need_18 : decode cX10_need 18 = .ok (.aload_n 0, 1) := dk_42 (dk_at dksX10_need_0 18 rfl rfl)
theorem dX10_need_19 : decode cX10_need 19 = .ok (.getfield 3, 3) := dk_180 0 3 (dk_at dksX10_need_0 19 rfl rfl)
theorem dX10_need_22 : decode cX10_need 22 = .ok (.getfield 47, 3) := dk_180 0 47 (dk_at dksX10_need_1 0 rfl rfl)
theorem dX10_need_25 : decode cX10_need 25 = .ok (.getfield 66, 3) := dk_180 0 66 (dk_at dksX10_need_1 3 rfl rfl)
theorem dX10_need_28 : decode cX10_need 28 = .ok (.iload_n 2, 1) := dk_28 (dk_at dksX10_need_1 6 rfl rfl)
theorem dX10_need_29 : decode cX10_need 29 = .ok (.aaload, 1) := dk_50 (dk_at dksX10_need_1 7 rfl rfl)
theorem dX10_need_30 : decode cX10_need 30 = .ok (.astore_n 3, 1) := dk_78 (dk_at dksX10_need_1 8 rfl rfl)
theorem dX10_need_31 : decode cX10_need 31 = .ok (.aload_n 3, 1) := dk_45 (dk_at dksX10_need_1 9 rfl rfl)
theorem dX10_need_32 : decode cX10_need 32 = .ok (.getfield 70, 3) := dk_180 0 70 (dk_at dksX10_need_1 10 rfl rfl)
theorem dX10_need_35 : decode cX10_need 35 = .ok (.ifCond .ne 70, 3) := dk_154 0 70 (dk_at dksX10_need_1 13 rfl rfl)
theorem dX10_need_38 : decode cX10_need 38 = .ok (.iload_n 1, 1) := dk_27 (dk_at dksX10_need_1 16 rfl rfl)
theorem dX10_need_39 : decode cX10_need 39 = .ok (.aload_n 0, 1) := dk_42 (dk_at dksX10_need_1 17 rfl rfl)
theorem dX10_need_40 : decode cX10_need 40 = .ok (.aload_n 3, 1) := dk_45 (dk_at dksX10_need_1 18 rfl rfl)
theorem dX10_need_41 : decode cX10_need 41 = .ok (.getfield 76, 3) := dk_180 0 76 (dk_at dksX10_need_1 19 rfl rfl)
theorem dX10_need_44 : decode cX10_need 44 = .ok (.aload_n 3, 1) := dk_45 (dk_at dksX10_need_1 22 rfl rfl)
theorem dX10_need_45 : decode cX10_need 45 = .ok (.getfield 76, 3) := dk_180 0 76 (dk_at dksX10_need_2 0 rfl rfl)
theorem dX10_need_48 : decode cX10_need 48 = .ok (.bipush 16, 2) := dk_16 16 (dk_at dksX10_need_2 3 rfl rfl)
theorem dX10_need_50 : decode cX10_need 50 = .ok (.aload_n 3, 1) := dk_45 (dk_at dksX10_need_2 5 rfl rfl)
theorem dX10_need_51 : decode cX10_need 51 = .ok (.getfield 79, 3) := dk_180 0 79 (dk_at dksX10_need_2 6 rfl rfl)
theorem dX10_need_54 : decode cX10_need 54 = .ok (.imul, 1) := dk_104 (dk_at dksX10_need_2 9 rfl rfl)
theorem dX10_need_55 : decode cX10_need 55 = .ok (.iadd, 1) := dk_96 (dk_at dksX10_need_2 10 rfl rfl)
theorem dX10_need_56 : decode cX10_need 56 = .ok (.bipush 16, 2) := dk_16 16 (dk_at dksX10_need_2 11 rfl rfl)
theorem dX10_need_58 : decode cX10_need 58 = .ok (.aload_n 0, 1) := dk_42 (dk_at dksX10_need_2 13 rfl rfl)
theorem dX10_need_59 : decode cX10_need 59 = .ok (.getfield 23, 3) := dk_180 0 23 (dk_at dksX10_need_2 14 rfl rfl)
theorem dX10_need_62 : decode cX10_need 62 = .ok (.imul, 1) := dk_104 (dk_at dksX10_need_2 17 rfl rfl)
theorem dX10_need_63 : decode cX10_need 63 = .ok (.bipush 16, 2) := dk_16 16 (dk_at dksX10_need_2 18 rfl rfl)
theorem dX10_need_65 : decode cX10_need 65 = .ok (.aload_n 0, 1) := dk_42 (dk_at dksX10_need_2 20 rfl rfl)
theorem dX10_need_66 : decode cX10_need 66 = .ok (.invokevirtual 44, 3) := dk_182 0 44 (dk_at dksX10_need_2 21 rfl rfl)
theorem dX10_need_69 : decode cX10_need 69 = .ok (.imul, 1) := dk_104 (dk_at dksX10_need_3 0 rfl rfl)
theorem dX10_need_70 : decode cX10_need 70 = .ok (.invokevirtual 82, 3) := dk_182 0 82 (dk_at dksX10_need_3 1 rfl rfl)
theorem dX10_need_73 : decode cX10_need 73 = .ok (.aload_n 0, 1) := dk_42 (dk_at dksX10_need_3 4 rfl rfl)
theorem dX10_need_74 : decode cX10_need 74 = .ok (.aload_n 3, 1) := dk_45 (dk_at dksX10_need_3 5 rfl rfl)
theorem dX10_need_75 : decode cX10_need 75 = .ok (.getfield 86, 3) := dk_180 0 86 (dk_at dksX10_need_3 6 rfl rfl)
theorem dX10_need_78 : decode cX10_need 78 = .ok (.aload_n 3, 1) := dk_45 (dk_at dksX10_need_3 9 rfl rfl)
theorem dX10_need_79 : decode cX10_need 79 = .ok (.getfield 86, 3) := dk_180 0 86 (dk_at dksX10_need_3 10 rfl rfl)
theorem dX10_need_82 : decode cX10_need 82 = .ok (.bipush 16, 2) := dk_16 16 (dk_at dksX10_need_3 13 rfl rfl)
theorem dX10_need_84 : decode cX10_need 84 = .ok (.iadd, 1) := dk_96 (dk_at dksX10_need_3 15 rfl rfl)
theorem dX10_need_85 : decode cX10_need 85 = .ok (.bipush 16, 2) := dk_16 16 (dk_at dksX10_need_3 16 rfl rfl)
theorem dX10_need_87 : decode cX10_need 87 = .ok (.aload_n 0, 1) := dk_42 (dk_at dksX10_need_3 18 rfl rfl)
theorem dX10_need_88 : decode cX10_need 88 = .ok (.getfield 19, 3) := dk_180 0 19 (dk_at dksX10_need_3 19 rfl rfl)
theorem dX10_need_91 : decode cX10_need 91 = .ok (.imul, 1) := dk_104 (dk_at dksX10_need_3 22 rfl rfl)
theorem dX10_need_92 : decode cX10_need 92 = .ok (.bipush 16, 2) := dk_16 16 (dk_at dksX10_need_4 0 rfl rfl)
theorem dX10_need_94 : decode cX10_need 94 = .ok (.aload_n 0, 1) := dk_42 (dk_at dksX10_need_4 2 rfl rfl)
theorem dX10_need_95 : decode cX10_need 95 = .ok (.invokevirtual 41, 3) := dk_182 0 41 (dk_at dksX10_need_4 3 rfl rfl)
theorem dX10_need_98 : decode cX10_need 98 = .ok (.imul, 1) := dk_104 (dk_at dksX10_need_4 6 rfl rfl)
theorem dX10_need_99 : decode cX10_need 99 = .ok (.invokevirtual 82, 3) := dk_182 0 82 (dk_at dksX10_need_4 7 rfl rfl)
theorem dX10_need_102 : decode cX10_need 102 = .ok (.imul, 1) := dk_104 (dk_at dksX10_need_4 10 rfl rfl)
theorem dX10_need_103 : decode cX10_need 103 = .ok (.iadd, 1) := dk_96 (dk_at dksX10_need_4 11 rfl rfl)
theorem dX10_need_104 : decode cX10_need 104 = .ok (.istore_n 1, 1) := dk_60 (dk_at dksX10_need_4 12 rfl rfl)
theorem dX10_need_105 : decode cX10_need 105 = .ok (.iinc 2 1, 3) := dk_132 2 1 (dk_at dksX10_need_4 13 rfl rfl)
theorem dX10_need_108 : decode cX10_need 108 = .ok (.goto (-104), 3) := dk_167 255 152 (dk_at dksX10_need_4 16 rfl rfl)
theorem dX10_need_111 : decode cX10_need 111 = .ok (.iload_n 1, 1) := dk_27 (dk_at dksX10_need_4 19 rfl rfl)
theorem dX10_need_112 : decode cX10_need 112 = .ok (.ireturn, 1) := dk_172 (dk_at dksX10_need_4 20 rfl rfl)
abbrev cX10_common : ByteArray := prog_6_method_5_code
def yX10_common : MethodName := ⟨RX10, "common", "(IIII)I"⟩
def dkwX10_common_0 : List UInt8 := [3, 28, 21, 4, 184, 0, 29, 27, 29, 184, 0, 60, 100, 184, 0, 60, 172]
abbrev dktX10_common_0 : List UInt8 := dkwX10_common_0 ++ []
theorem dksX10_common_0 : cX10_common.data.toList.drop 0 = dktX10_common_0 := by decide +kernel
theorem dX10_common_0 : decode cX10_common 0 = .ok (.iconst 0, 1) := dk_3 (dk_at dksX10_common_0 0 rfl rfl)
theorem dX10_common_1 : decode cX10_common 1 = .ok (.iload_n 2, 1) := dk_28 (dk_at dksX10_common_0 1 rfl rfl)
theorem dX10_common_2 : decode cX10_common 2 = .ok (.iload 4, 2) := dk_21 4 (dk_at dksX10_common_0 2 rfl rfl)
theorem dX10_common_4 : decode cX10_common 4 = .ok (.invokestatic 29, 3) := dk_184 0 29 (dk_at dksX10_common_0 4 rfl rfl)
theorem dX10_common_7 : decode cX10_common 7 = .ok (.iload_n 1, 1) := dk_27 (dk_at dksX10_common_0 7 rfl rfl)
theorem dX10_common_8 : decode cX10_common 8 = .ok (.iload_n 3, 1) := dk_29 (dk_at dksX10_common_0 8 rfl rfl)
theorem dX10_common_9 : decode cX10_common 9 = .ok (.invokestatic 60, 3) := dk_184 0 60 (dk_at dksX10_common_0 9 rfl rfl)
theorem dX10_common_12 : decode cX10_common 12 = .ok (.isub, 1) := dk_100 (dk_at dksX10_common_0 12 rfl rfl)
theorem dX10_common_13 : decode cX10_common 13 = .ok (.invokestatic 60, 3) := dk_184 0 60 (dk_at dksX10_common_0 13 rfl rfl)
theorem dX10_common_16 : decode cX10_common 16 = .ok (.ireturn, 1) := dk_172 (dk_at dksX10_common_0 16 rfl rfl)
abbrev cX10_demand : ByteArray := prog_6_method_8_code
def yX10_demand : MethodName := ⟨RX10, "demand", "()I"⟩
def dkwX10_demand_6 : List UInt8 := [132, 2, 1, 167, 255, 119, 27, 172]
abbrev dktX10_demand_6 : List UInt8 := dkwX10_demand_6 ++ []
def dkwX10_demand_5 : List UInt8 := [4, 167, 0, 4, 3, 54, 4, 27, 21, 4, 153, 0, 10, 45, 180, 0, 122, 167, 0, 4, 3, 96, 60]
abbrev dktX10_demand_5 : List UInt8 := dkwX10_demand_5 ++ dktX10_demand_6
def dkwX10_demand_4 : List UInt8 := [162, 0, 28, 42, 180, 0, 3, 180, 0, 103, 45, 182, 0, 119, 16, 16, 42, 180, 0, 19, 104, 161, 0, 7]
abbrev dktX10_demand_4 : List UInt8 := dkwX10_demand_4 ++ dktX10_demand_5
def dkwX10_demand_3 : List UInt8 := [104, 161, 0, 49, 42, 180, 0, 3, 180, 0, 103, 45, 182, 0, 116, 16, 16, 42, 182, 0, 41, 104]
abbrev dktX10_demand_3 : List UInt8 := dkwX10_demand_3 ++ dktX10_demand_4
def dkwX10_demand_2 : List UInt8 := [182, 0, 44, 104, 162, 0, 70, 42, 180, 0, 3, 180, 0, 103, 45, 182, 0, 113, 16, 16, 42, 180, 0, 23]
abbrev dktX10_demand_2 : List UInt8 := dkwX10_demand_2 ++ dktX10_demand_3
def dkwX10_demand_1 : List UInt8 := [180, 0, 47, 180, 0, 99, 28, 50, 78, 42, 180, 0, 3, 180, 0, 103, 45, 182, 0, 107, 16, 16, 42]
abbrev dktX10_demand_1 : List UInt8 := dkwX10_demand_1 ++ dktX10_demand_2
def dkwX10_demand_0 : List UInt8 := [3, 60, 3, 61, 28, 42, 180, 0, 3, 180, 0, 47, 180, 0, 96, 162, 0, 129, 42, 180, 0, 3]
abbrev dktX10_demand_0 : List UInt8 := dkwX10_demand_0 ++ dktX10_demand_1
theorem dksX10_demand_0 : cX10_demand.data.toList.drop 0 = dktX10_demand_0 := by decide +kernel
theorem dksX10_demand_1 : cX10_demand.data.toList.drop 22 = dktX10_demand_1 := dk_seg dksX10_demand_0 22 rfl rfl
theorem dksX10_demand_2 : cX10_demand.data.toList.drop 45 = dktX10_demand_2 := dk_seg dksX10_demand_1 23 rfl rfl
theorem dksX10_demand_3 : cX10_demand.data.toList.drop 69 = dktX10_demand_3 := dk_seg dksX10_demand_2 24 rfl rfl
theorem dksX10_demand_4 : cX10_demand.data.toList.drop 91 = dktX10_demand_4 := dk_seg dksX10_demand_3 22 rfl rfl
theorem dksX10_demand_5 : cX10_demand.data.toList.drop 115 = dktX10_demand_5 := dk_seg dksX10_demand_4 24 rfl rfl
theorem dksX10_demand_6 : cX10_demand.data.toList.drop 138 = dktX10_demand_6 := dk_seg dksX10_demand_5 23 rfl rfl
theorem dX10_demand_0 : decode cX10_demand 0 = .ok (.iconst 0, 1) := dk_3 (dk_at dksX10_demand_0 0 rfl rfl)
theorem dX10_demand_1 : decode cX10_demand 1 = .ok (.istore_n 1, 1) := dk_60 (dk_at dksX10_demand_0 1 rfl rfl)
theorem dX10_demand_2 : decode cX10_demand 2 = .ok (.iconst 0, 1) := dk_3 (dk_at dksX10_demand_0 2 rfl rfl)
theorem dX10_demand_3 : decode cX10_demand 3 = .ok (.istore_n 2, 1) := dk_61 (dk_at dksX10_demand_0 3 rfl rfl)
theorem dX10_demand_4 : decode cX10_demand 4 = .ok (.iload_n 2, 1) := dk_28 (dk_at dksX10_demand_0 4 rfl rfl)
theorem dX10_demand_5 : decode cX10_demand 5 = .ok (.aload_n 0, 1) := dk_42 (dk_at dksX10_demand_0 5 rfl rfl)
theorem dX10_demand_6 : decode cX10_demand 6 = .ok (.getfield 3, 3) := dk_180 0 3 (dk_at dksX10_demand_0 6 rfl rfl)
theorem dX10_demand_9 : decode cX10_demand 9 = .ok (.getfield 47, 3) := dk_180 0 47 (dk_at dksX10_demand_0 9 rfl rfl)
theorem dX10_demand_12 : decode cX10_demand 12 = .ok (.getfield 96, 3) := dk_180 0 96 (dk_at dksX10_demand_0 12 rfl rfl)
theorem dX10_demand_15 : decode cX10_demand 15 = .ok (.if_icmp .ge 129, 3) := dk_162 0 129 (dk_at dksX10_demand_0 15 rfl rfl)
theorem dX10_demand_18 : decode cX10_demand 18 = .ok (.aload_n 0, 1) := dk_42 (dk_at dksX10_demand_0 18 rfl rfl)
theorem dX10_demand_19 : decode cX10_demand 19 = .ok (.getfield 3, 3) := dk_180 0 3 (dk_at dksX10_demand_0 19 rfl rfl)
theorem dX10_demand_22 : decode cX10_demand 22 = .ok (.getfield 47, 3) := dk_180 0 47 (dk_at dksX10_demand_1 0 rfl rfl)
theorem dX10_demand_25 : decode cX10_demand 25 = .ok (.getfield 99, 3) := dk_180 0 99 (dk_at dksX10_demand_1 3 rfl rfl)
theorem dX10_demand_28 : decode cX10_demand 28 = .ok (.iload_n 2, 1) := dk_28 (dk_at dksX10_demand_1 6 rfl rfl)
theorem dX10_demand_29 : decode cX10_demand 29 = .ok (.aaload, 1) := dk_50 (dk_at dksX10_demand_1 7 rfl rfl)
theorem dX10_demand_30 : decode cX10_demand 30 = .ok (.astore_n 3, 1) := dk_78 (dk_at dksX10_demand_1 8 rfl rfl)
theorem dX10_demand_31 : decode cX10_demand 31 = .ok (.aload_n 0, 1) := dk_42 (dk_at dksX10_demand_1 9 rfl rfl)
theorem dX10_demand_32 : decode cX10_demand 32 = .ok (.getfield 3, 3) := dk_180 0 3 (dk_at dksX10_demand_1 10 rfl rfl)
theorem dX10_demand_35 : decode cX10_demand 35 = .ok (.getfield 103, 3) := dk_180 0 103 (dk_at dksX10_demand_1 13 rfl rfl)
theorem dX10_demand_38 : decode cX10_demand 38 = .ok (.aload_n 3, 1) := dk_45 (dk_at dksX10_demand_1 16 rfl rfl)
theorem dX10_demand_39 : decode cX10_demand 39 = .ok (.invokevirtual 107, 3) := dk_182 0 107 (dk_at dksX10_demand_1 17 rfl rfl)
theorem dX10_demand_42 : decode cX10_demand 42 = .ok (.bipush 16, 2) := dk_16 16 (dk_at dksX10_demand_1 20 rfl rfl)
theorem dX10_demand_44 : decode cX10_demand 44 = .ok (.aload_n 0, 1) := dk_42 (dk_at dksX10_demand_1 22 rfl rfl)
theorem dX10_demand_45 : decode cX10_demand 45 = .ok (.invokevirtual 44, 3) := dk_182 0 44 (dk_at dksX10_demand_2 0 rfl rfl)
theorem dX10_demand_48 : decode cX10_demand 48 = .ok (.imul, 1) := dk_104 (dk_at dksX10_demand_2 3 rfl rfl)
theorem dX10_demand_49 : decode cX10_demand 49 = .ok (.if_icmp .ge 70, 3) := dk_162 0 70 (dk_at dksX10_demand_2 4 rfl rfl)
theorem dX10_demand_52 : decode cX10_demand 52 = .ok (.aload_n 0, 1) := dk_42 (dk_at dksX10_demand_2 7 rfl rfl)
theorem dX10_demand_53 : decode cX10_demand 53 = .ok (.getfield 3, 3) := dk_180 0 3 (dk_at dksX10_demand_2 8 rfl rfl)
theorem dX10_demand_56 : decode cX10_demand 56 = .ok (.getfield 103, 3) := dk_180 0 103 (dk_at dksX10_demand_2 11 rfl rfl)
theorem dX10_demand_59 : decode cX10_demand 59 = .ok (.aload_n 3, 1) := dk_45 (dk_at dksX10_demand_2 14 rfl rfl)
theorem dX10_demand_60 : decode cX10_demand 60 = .ok (.invokevirtual 113, 3) := dk_182 0 113 (dk_at dksX10_demand_2 15 rfl rfl)
theorem dX10_demand_63 : decode cX10_demand 63 = .ok (.bipush 16, 2) := dk_16 16 (dk_at dksX10_demand_2 18 rfl rfl)
theorem dX10_demand_65 : decode cX10_demand 65 = .ok (.aload_n 0, 1) := dk_42 (dk_at dksX10_demand_2 20 rfl rfl)
theorem dX10_demand_66 : decode cX10_demand 66 = .ok (.getfield 23, 3) := dk_180 0 23 (dk_at dksX10_demand_2 21 rfl rfl)
theorem dX10_demand_69 : decode cX10_demand 69 = .ok (.imul, 1) := dk_104 (dk_at dksX10_demand_3 0 rfl rfl)
theorem dX10_demand_70 : decode cX10_demand 70 = .ok (.if_icmp .lt 49, 3) := dk_161 0 49 (dk_at dksX10_demand_3 1 rfl rfl)
theorem dX10_demand_73 : decode cX10_demand 73 = .ok (.aload_n 0, 1) := dk_42 (dk_at dksX10_demand_3 4 rfl rfl)
theorem dX10_demand_74 : decode cX10_demand 74 = .ok (.getfield 3, 3) := dk_180 0 3 (dk_at dksX10_demand_3 5 rfl rfl)
theorem dX10_demand_77 : decode cX10_demand 77 = .ok (.getfield 103, 3) := dk_180 0 103 (dk_at dksX10_demand_3 8 rfl rfl)
theorem dX10_demand_80 : decode cX10_demand 80 = .ok (.aload_n 3, 1) := dk_45 (dk_at dksX10_demand_3 11 rfl rfl)
theorem dX10_demand_81 : decode cX10_demand 81 = .ok (.invokevirtual 116, 3) := dk_182 0 116 (dk_at dksX10_demand_3 12 rfl rfl)
theorem dX10_demand_84 : decode cX10_demand 84 = .ok (.bipush 16, 2) := dk_16 16 (dk_at dksX10_demand_3 15 rfl rfl)
theorem dX10_demand_86 : decode cX10_demand 86 = .ok (.aload_n 0, 1) := dk_42 (dk_at dksX10_demand_3 17 rfl rfl)
theorem dX10_demand_87 : decode cX10_demand 87 = .ok (.invokevirtual 41, 3) := dk_182 0 41 (dk_at dksX10_demand_3 18 rfl rfl)
theorem dX10_demand_90 : decode cX10_demand 90 = .ok (.imul, 1) := dk_104 (dk_at dksX10_demand_3 21 rfl rfl)
theorem dX10_demand_91 : decode cX10_demand 91 = .ok (.if_icmp .ge 28, 3) := dk_162 0 28 (dk_at dksX10_demand_4 0 rfl rfl)
theorem dX10_demand_94 : decode cX10_demand 94 = .ok (.aload_n 0, 1) := dk_42 (dk_at dksX10_demand_4 3 rfl rfl)
theorem dX10_demand_95 : decode cX10_demand 95 = .ok (.getfield 3, 3) := dk_180 0 3 (dk_at dksX10_demand_4 4 rfl rfl)
theorem dX10_demand_98 : decode cX10_demand 98 = .ok (.getfield 103, 3) := dk_180 0 103 (dk_at dksX10_demand_4 7 rfl rfl)
theorem dX10_demand_101 : decode cX10_demand 101 = .ok (.aload_n 3, 1) := dk_45 (dk_at dksX10_demand_4 10 rfl rfl)
theorem dX10_demand_102 : decode cX10_demand 102 = .ok (.invokevirtual 119, 3) := dk_182 0 119 (dk_at dksX10_demand_4 11 rfl rfl)
theorem dX10_demand_105 : decode cX10_demand 105 = .ok (.bipush 16, 2) := dk_16 16 (dk_at dksX10_demand_4 14 rfl rfl)
theorem dX10_demand_107 : decode cX10_demand 107 = .ok (.aload_n 0, 1) := dk_42 (dk_at dksX10_demand_4 16 rfl rfl)
theorem dX10_demand_108 : decode cX10_demand 108 = .ok (.getfield 19, 3) := dk_180 0 19 (dk_at dksX10_demand_4 17 rfl rfl)
theorem dX10_demand_111 : decode cX10_demand 111 = .ok (.imul, 1) := dk_104 (dk_at dksX10_demand_4 20 rfl rfl)
theorem dX10_demand_112 : decode cX10_demand 112 = .ok (.if_icmp .lt 7, 3) := dk_161 0 7 (dk_at dksX10_demand_4 21 rfl rfl)
theorem dX10_demand_115 : decode cX10_demand 115 = .ok (.iconst 1, 1) := dk_4 (dk_at dksX10_demand_5 0 rfl rfl)
theorem dX10_demand_116 : decode cX10_demand 116 = .ok (.goto 4, 3) := dk_167 0 4 (dk_at dksX10_demand_5 1 rfl rfl)
theorem dX10_demand_119 : decode cX10_demand 119 = .ok (.iconst 0, 1) := dk_3 (dk_at dksX10_demand_5 4 rfl rfl)
theorem dX10_demand_120 : decode cX10_demand 120 = .ok (.istore 4, 2) := dk_54 4 (dk_at dksX10_demand_5 5 rfl rfl)
theorem dX10_demand_122 : decode cX10_demand 122 = .ok (.iload_n 1, 1) := dk_27 (dk_at dksX10_demand_5 7 rfl rfl)
theorem dX10_demand_123 : decode cX10_demand 123 = .ok (.iload 4, 2) := dk_21 4 (dk_at dksX10_demand_5 8 rfl rfl)
theorem dX10_demand_125 : decode cX10_demand 125 = .ok (.ifCond .eq 10, 3) := dk_153 0 10 (dk_at dksX10_demand_5 10 rfl rfl)
theorem dX10_demand_128 : decode cX10_demand 128 = .ok (.aload_n 3, 1) := dk_45 (dk_at dksX10_demand_5 13 rfl rfl)
theorem dX10_demand_129 : decode cX10_demand 129 = .ok (.getfield 122, 3) := dk_180 0 122 (dk_at dksX10_demand_5 14 rfl rfl)
theorem dX10_demand_132 : decode cX10_demand 132 = .ok (.goto 4, 3) := dk_167 0 4 (dk_at dksX10_demand_5 17 rfl rfl)
theorem dX10_demand_135 : decode cX10_demand 135 = .ok (.iconst 0, 1) := dk_3 (dk_at dksX10_demand_5 20 rfl rfl)
theorem dX10_demand_136 : decode cX10_demand 136 = .ok (.iadd, 1) := dk_96 (dk_at dksX10_demand_5 21 rfl rfl)
theorem dX10_demand_137 : decode cX10_demand 137 = .ok (.istore_n 1, 1) := dk_60 (dk_at dksX10_demand_5 22 rfl rfl)
theorem dX10_demand_138 : decode cX10_demand 138 = .ok (.iinc 2 1, 3) := dk_132 2 1 (dk_at dksX10_demand_6 0 rfl rfl)
theorem dX10_demand_141 : decode cX10_demand 141 = .ok (.goto (-137), 3) := dk_167 255 119 (dk_at dksX10_demand_6 3 rfl rfl)
theorem dX10_demand_144 : decode cX10_demand 144 = .ok (.iload_n 1, 1) := dk_27 (dk_at dksX10_demand_6 6 rfl rfl)
theorem dX10_demand_145 : decode cX10_demand 145 = .ok (.ireturn, 1) := dk_172 (dk_at dksX10_demand_6 7 rfl rfl)
theorem q147 : (Jvm.Cond.initialized "CellRows$Bin") ∈ lw_all := lw_g (lw_at lw_m1 11 rfl) rfl
theorem q231 : (Jvm.Cond.fieldLinkNest "CellRows$Bin" (79 : Nat) "CellRows$Cell" "width" "I" "CellRows") ∈ lw_tbl := lw_at lw_m1 95 rfl
theorem q240 : (Jvm.Cond.fieldLinkNest "CellRows$Bin" (76 : Nat) "CellRows$Cell" "x" "I" "CellRows") ∈ lw_tbl := lw_at lw_m1 104 rfl
theorem q245 : (Jvm.Cond.fieldLinkNest "CellRows$Bin" (86 : Nat) "CellRows$Cell" "y" "I" "CellRows") ∈ lw_tbl := lw_at lw_m1 109 rfl
theorem q260 : (Jvm.Cond.fieldLinkNest "CellRows$Bin" (70 : Nat) "CellRows$Cell" "isFixed" "Z" "CellRows") ∈ lw_tbl := lw_at lw_m1 124 rfl
theorem q288 : (Jvm.Cond.fieldLinkNest "CellRows$Bin" (122 : Nat) "CellRows$Net" "weight" "I" "CellRows") ∈ lw_tbl := lw_at lw_m1 152 rfl
theorem q338 : (Jvm.Cond.fieldLinkNest "CellRows$Bin" (66 : Nat) "CellRows$Chip" "cell" "[LCellRows$Cell;" "CellRows") ∈ lw_tbl := lw_at lw_m1 202 rfl
theorem q341 : (Jvm.Cond.fieldLinkNest "CellRows$Bin" (99 : Nat) "CellRows$Chip" "net" "[LCellRows$Net;" "CellRows") ∈ lw_tbl := lw_at lw_m1 205 rfl
theorem q350 : (Jvm.Cond.fieldLinkNest "CellRows$Bin" (63 : Nat) "CellRows$Chip" "cells" "I" "CellRows") ∈ lw_tbl := lw_at lw_m1 214 rfl
theorem q353 : (Jvm.Cond.fieldLinkNest "CellRows$Bin" (96 : Nat) "CellRows$Chip" "nets" "I" "CellRows") ∈ lw_tbl := lw_at lw_m1 217 rfl
theorem q380 : (Jvm.Cond.fieldLinkNest "CellRows$Bin" (26 : Nat) "CellRows" "rows" "I" "CellRows") ∈ lw_tbl := lw_at lw_m2 4 rfl
theorem q384 : (Jvm.Cond.fieldLinkNest "CellRows$Bin" (35 : Nat) "CellRows" "sites" "I" "CellRows") ∈ lw_tbl := lw_at lw_m2 8 rfl
theorem q390 : (Jvm.Cond.fieldLinkNest "CellRows$Bin" (92 : Nat) "CellRows" "term" "[I" "CellRows") ∈ lw_tbl := lw_at lw_m2 14 rfl
theorem q396 : (Jvm.Cond.fieldLinkNest "CellRows$Bin" (47 : Nat) "CellRows" "chip" "LCellRows$Chip;" "CellRows") ∈ lw_tbl := lw_at lw_m2 20 rfl
theorem q406 : (Jvm.Cond.fieldLinkNest "CellRows$Bin" (103 : Nat) "CellRows" "atSpots" "LCellRows$Places;" "CellRows") ∈ lw_tbl := lw_at lw_m2 30 rfl
theorem q815 : (Jvm.Cond.instantiable "CellRows$Bin" (4 : Nat)) ∈ lw_all := lw_g (lw_at lw_m3 199 rfl) rfl
theorem q817 : (Jvm.Cond.instanceMethod ({ cls := "CellRows$Bin", name := "<init>", desc := "(LCellRows;I)V" } : Jvm.MethodName)) ∈ lw_all := lw_g (lw_at lw_m3 201 rfl) rfl
theorem q818 : (Jvm.Cond.code ({ cls := "CellRows$Bin", name := "<init>", desc := "(LCellRows;I)V" } : Jvm.MethodName) prog_6_method_1_code (3 : Nat) (Option.none : Option Jvm.ClassFile.FieldType)) ∈ lw_all := lw_g (lw_at lw_m3 202 rfl) rfl
theorem q819 : (Jvm.Cond.methodLink "CellRows$Bin" (9 : Nat) ({ cls := "java/lang/Object", name := "<init>", desc := "()V" } : Jvm.MethodName)) ∈ lw_all := lw_g (lw_at lw_m3 203 rfl) rfl
theorem q820 : (Jvm.Cond.methodLinkNest "CellRows$Bin" (15 : Nat) ({ cls := "CellRows", name := "binColumns", desc := "()I" } : Jvm.MethodName) "CellRows") ∈ lw_tbl := lw_at lw_m3 204 rfl
theorem q821 : (Jvm.Cond.fieldLink "CellRows$Bin" (19 : Nat) "CellRows$Bin" "low" "I") ∈ lw_all := lw_g (lw_at lw_m3 205 rfl) rfl
theorem q822 : (Jvm.Cond.fieldLink "CellRows$Bin" (23 : Nat) "CellRows$Bin" "first" "I") ∈ lw_all := lw_g (lw_at lw_m3 206 rfl) rfl
theorem q823 : (Jvm.Cond.fieldLink "CellRows$Bin" (38 : Nat) "CellRows$Bin" "supply" "I") ∈ lw_all := lw_g (lw_at lw_m3 207 rfl) rfl
theorem q825 : (Jvm.Cond.fieldLink "CellRows$Bin" (3 : Nat) "CellRows$Bin" "this$0" "LCellRows;") ∈ lw_all := lw_g (lw_at lw_m3 209 rfl) rfl
theorem q826 : (Jvm.Cond.laysFinal "CellRows$Bin" "CellRows$Bin" "low" "I") ∈ lw_all := lw_g (lw_at lw_m3 210 rfl) rfl
theorem q827 : (Jvm.Cond.soleField "CellRows$Bin" "low") ∈ lw_all := lw_g (lw_at lw_m3 211 rfl) rfl
theorem q828 : (Jvm.Cond.laysFinal "CellRows$Bin" "CellRows$Bin" "first" "I") ∈ lw_all := lw_g (lw_at lw_m3 212 rfl) rfl
theorem q829 : (Jvm.Cond.soleField "CellRows$Bin" "first") ∈ lw_all := lw_g (lw_at lw_m3 213 rfl) rfl
theorem q830 : (Jvm.Cond.lays "CellRows$Bin" "CellRows$Bin" "supply" "I") ∈ lw_all := lw_g (lw_at lw_m3 214 rfl) rfl
theorem q831 : (Jvm.Cond.soleField "CellRows$Bin" "supply") ∈ lw_all := lw_g (lw_at lw_m3 215 rfl) rfl
theorem q832 : (Jvm.Cond.laysFinal "CellRows$Bin" "CellRows$Bin" "this$0" "LCellRows;") ∈ lw_all := lw_g (lw_at lw_m3 216 rfl) rfl
theorem q833 : (Jvm.Cond.soleField "CellRows$Bin" "this$0") ∈ lw_all := lw_g (lw_at lw_m3 217 rfl) rfl
theorem q834 : (Jvm.Cond.superclass "CellRows$Bin" "java/lang/Object") ∈ lw_all := lw_g (lw_at lw_m3 218 rfl) rfl
theorem q836 : (Jvm.Cond.instanceMethod ({ cls := "CellRows$Bin", name := "lays", desc := "()LCellRows$Bin;" } : Jvm.MethodName)) ∈ lw_all := lw_g (lw_at lw_m3 220 rfl) rfl
theorem q837 : (Jvm.Cond.selects "CellRows$Bin" ({ cls := "CellRows$Bin", name := "lays", desc := "()LCellRows$Bin;" } : Jvm.MethodName) ({ cls := "CellRows$Bin", name := "lays", desc := "()LCellRows$Bin;" } : Jvm.MethodName)) ∈ lw_all := lw_g (lw_at lw_m3 221 rfl) rfl
theorem q838 : (Jvm.Cond.code ({ cls := "CellRows$Bin", name := "lays", desc := "()LCellRows$Bin;" } : Jvm.MethodName) prog_6_method_4_code (3 : Nat) (Option.some (Jvm.ClassFile.FieldType.object "CellRows$Bin"))) ∈ lw_all := lw_g (lw_at lw_m3 222 rfl) rfl
theorem q839 : (Jvm.Cond.methodLink "CellRows$Bin" (41 : Nat) ({ cls := "CellRows$Bin", name := "high", desc := "()I" } : Jvm.MethodName)) ∈ lw_all := lw_g (lw_at lw_m3 223 rfl) rfl
theorem q840 : (Jvm.Cond.instanceMethod ({ cls := "CellRows$Bin", name := "high", desc := "()I" } : Jvm.MethodName)) ∈ lw_all := lw_g (lw_at lw_m3 224 rfl) rfl
theorem q841 : (Jvm.Cond.selects "CellRows$Bin" ({ cls := "CellRows$Bin", name := "high", desc := "()I" } : Jvm.MethodName) ({ cls := "CellRows$Bin", name := "high", desc := "()I" } : Jvm.MethodName)) ∈ lw_all := lw_g (lw_at lw_m3 225 rfl) rfl
theorem q842 : (Jvm.Cond.code ({ cls := "CellRows$Bin", name := "high", desc := "()I" } : Jvm.MethodName) prog_6_method_2_code (1 : Nat) (Option.some Jvm.ClassFile.FieldType.int)) ∈ lw_all := lw_g (lw_at lw_m3 226 rfl) rfl
theorem q843 : (Jvm.Cond.methodLink "CellRows$Bin" (29 : Nat) ({ cls := "java/lang/Math", name := "min", desc := "(II)I" } : Jvm.MethodName)) ∈ lw_all := lw_g (lw_at lw_m3 227 rfl) rfl
theorem q844 : (Jvm.Cond.methodLink "CellRows$Bin" (44 : Nat) ({ cls := "CellRows$Bin", name := "end", desc := "()I" } : Jvm.MethodName)) ∈ lw_all := lw_g (lw_at lw_m3 228 rfl) rfl
theorem q845 : (Jvm.Cond.instanceMethod ({ cls := "CellRows$Bin", name := "end", desc := "()I" } : Jvm.MethodName)) ∈ lw_all := lw_g (lw_at lw_m3 229 rfl) rfl
theorem q846 : (Jvm.Cond.selects "CellRows$Bin" ({ cls := "CellRows$Bin", name := "end", desc := "()I" } : Jvm.MethodName) ({ cls := "CellRows$Bin", name := "end", desc := "()I" } : Jvm.MethodName)) ∈ lw_all := lw_g (lw_at lw_m3 230 rfl) rfl
theorem q847 : (Jvm.Cond.code ({ cls := "CellRows$Bin", name := "end", desc := "()I" } : Jvm.MethodName) prog_6_method_3_code (1 : Nat) (Option.some Jvm.ClassFile.FieldType.int)) ∈ lw_all := lw_g (lw_at lw_m3 231 rfl) rfl
theorem q848 : (Jvm.Cond.methodLink "CellRows$Bin" (51 : Nat) ({ cls := "CellRows$Chip", name := "isBarred", desc := "(II)Z" } : Jvm.MethodName)) ∈ lw_all := lw_g (lw_at lw_m3 232 rfl) rfl
theorem q849 : (Jvm.Cond.methodLink "CellRows$Bin" (57 : Nat) ({ cls := "CellRows$Chip", name := "isFixedAt", desc := "(II)Z" } : Jvm.MethodName)) ∈ lw_all := lw_g (lw_at lw_m3 233 rfl) rfl
theorem q874 : (Jvm.Cond.instanceMethod ({ cls := "CellRows$Bin", name := "over", desc := "()I" } : Jvm.MethodName)) ∈ lw_all := lw_g (lw_at lw_m4 18 rfl) rfl
theorem q875 : (Jvm.Cond.selects "CellRows$Bin" ({ cls := "CellRows$Bin", name := "over", desc := "()I" } : Jvm.MethodName) ({ cls := "CellRows$Bin", name := "over", desc := "()I" } : Jvm.MethodName)) ∈ lw_all := lw_g (lw_at lw_m4 19 rfl) rfl
theorem q876 : (Jvm.Cond.code ({ cls := "CellRows$Bin", name := "over", desc := "()I" } : Jvm.MethodName) prog_6_method_7_code (1 : Nat) (Option.some Jvm.ClassFile.FieldType.int)) ∈ lw_all := lw_g (lw_at lw_m4 20 rfl) rfl
theorem q877 : (Jvm.Cond.methodLink "CellRows$Bin" (89 : Nat) ({ cls := "CellRows$Bin", name := "need", desc := "()I" } : Jvm.MethodName)) ∈ lw_all := lw_g (lw_at lw_m4 21 rfl) rfl
theorem q878 : (Jvm.Cond.instanceMethod ({ cls := "CellRows$Bin", name := "need", desc := "()I" } : Jvm.MethodName)) ∈ lw_all := lw_g (lw_at lw_m4 22 rfl) rfl
theorem q879 : (Jvm.Cond.selects "CellRows$Bin" ({ cls := "CellRows$Bin", name := "need", desc := "()I" } : Jvm.MethodName) ({ cls := "CellRows$Bin", name := "need", desc := "()I" } : Jvm.MethodName)) ∈ lw_all := lw_g (lw_at lw_m4 23 rfl) rfl
theorem q880 : (Jvm.Cond.code ({ cls := "CellRows$Bin", name := "need", desc := "()I" } : Jvm.MethodName) prog_6_method_6_code (4 : Nat) (Option.some Jvm.ClassFile.FieldType.int)) ∈ lw_all := lw_g (lw_at lw_m4 24 rfl) rfl
theorem q881 : (Jvm.Cond.methodLink "CellRows$Bin" (82 : Nat) ({ cls := "CellRows$Bin", name := "common", desc := "(IIII)I" } : Jvm.MethodName)) ∈ lw_all := lw_g (lw_at lw_m4 25 rfl) rfl
theorem q882 : (Jvm.Cond.privateMethod ({ cls := "CellRows$Bin", name := "common", desc := "(IIII)I" } : Jvm.MethodName)) ∈ lw_tbl := lw_at lw_m4 26 rfl
theorem q883 : (Jvm.Cond.instanceMethod ({ cls := "CellRows$Bin", name := "common", desc := "(IIII)I" } : Jvm.MethodName)) ∈ lw_all := lw_g (lw_at lw_m4 27 rfl) rfl
theorem q884 : (Jvm.Cond.code ({ cls := "CellRows$Bin", name := "common", desc := "(IIII)I" } : Jvm.MethodName) prog_6_method_5_code (5 : Nat) (Option.some Jvm.ClassFile.FieldType.int)) ∈ lw_all := lw_g (lw_at lw_m4 28 rfl) rfl
theorem q885 : (Jvm.Cond.methodLink "CellRows$Bin" (60 : Nat) ({ cls := "java/lang/Math", name := "max", desc := "(II)I" } : Jvm.MethodName)) ∈ lw_all := lw_g (lw_at lw_m4 29 rfl) rfl
theorem q1015 : (Jvm.Cond.selects "CellRows$Bin" ({ cls := "java/lang/Object", name := "getClass", desc := "()Ljava/lang/Class;" } : Jvm.MethodName) ({ cls := "java/lang/Object", name := "getClass", desc := "()Ljava/lang/Class;" } : Jvm.MethodName)) ∈ lw_all := lw_g (lw_at lw_m4 159 rfl) rfl
theorem q1324 : (Jvm.Cond.instanceMethod ({ cls := "CellRows$Bin", name := "demand", desc := "()I" } : Jvm.MethodName)) ∈ lw_all := lw_g (lw_at lw_m5 228 rfl) rfl
theorem q1325 : (Jvm.Cond.selects "CellRows$Bin" ({ cls := "CellRows$Bin", name := "demand", desc := "()I" } : Jvm.MethodName) ({ cls := "CellRows$Bin", name := "demand", desc := "()I" } : Jvm.MethodName)) ∈ lw_all := lw_g (lw_at lw_m5 229 rfl) rfl
theorem q1326 : (Jvm.Cond.code ({ cls := "CellRows$Bin", name := "demand", desc := "()I" } : Jvm.MethodName) prog_6_method_8_code (5 : Nat) (Option.some Jvm.ClassFile.FieldType.int)) ∈ lw_all := lw_g (lw_at lw_m5 230 rfl) rfl
theorem q1327 : (Jvm.Cond.methodLink "CellRows$Bin" (107 : Nat) ({ cls := "CellRows$Places", name := "leastX", desc := "(LCellRows$Net;)I" } : Jvm.MethodName)) ∈ lw_all := lw_g (lw_at lw_m5 231 rfl) rfl
theorem q1328 : (Jvm.Cond.methodLink "CellRows$Bin" (113 : Nat) ({ cls := "CellRows$Places", name := "mostX", desc := "(LCellRows$Net;)I" } : Jvm.MethodName)) ∈ lw_all := lw_g (lw_at lw_m5 232 rfl) rfl
theorem q1329 : (Jvm.Cond.methodLink "CellRows$Bin" (116 : Nat) ({ cls := "CellRows$Places", name := "leastY", desc := "(LCellRows$Net;)I" } : Jvm.MethodName)) ∈ lw_all := lw_g (lw_at lw_m5 233 rfl) rfl
theorem q1330 : (Jvm.Cond.methodLink "CellRows$Bin" (119 : Nat) ({ cls := "CellRows$Places", name := "mostY", desc := "(LCellRows$Net;)I" } : Jvm.MethodName)) ∈ lw_all := lw_g (lw_at lw_m5 234 rfl) rfl
theorem q2060 : (Jvm.Cond.castable "CellRows$Bin" "java/lang/Object") ∈ lw_tbl := lw_at lw_m9 4 rfl
theorem in_X10 : ∀ w ∈ wsX100, w ∈ lw_all := lw_in wsX100 [826, 828, 830, 832] (by decide +kernel) (by decide +kernel)
/-! CellRows$Run -/
set_option maxRecDepth 100000
def RX11 : String := "CellRows$Run"
def TX11 : u_T := fun k => match k with
  | 0 => ("CellRows$Run", "row", "I", true)
  | 1 => ("CellRows$Run", "fence", "I", true)
  | 2 => ("CellRows$Run", "first", "I", true)
  | 3 => ("CellRows$Run", "length", "I", true)
  | 4 => ("CellRows$Run", "cells", "Ljava/util/ArrayList;", true)
  | _ => ("CellRows$Run", "this$0", "LCellRows;", true)
def tyX11 : Nat → FieldType := fun k => match k with
  | 0 => .int
  | 1 => .int
  | 2 => .int
  | 3 => .int
  | 4 => .object "java/util/ArrayList"
  | _ => .object "CellRows"
abbrev wsX110 : List Cond := u_ws RX11 TX11 6
theorem nmX11 : ∀ a, a < 6 → ∀ b, b < 6 → a ≠ b → (TX11 a).2.1 ≠ (TX11 b).2.1 := by decide +kernel
theorem tyX11_ok : ∀ k, k < 6 → parseFieldDescriptor (TX11 k).2.2.1 = some (tyX11 k) := by decide +kernel
abbrev cX11_init : ByteArray := prog_13_method_1_code
def yX11_init : MethodName := ⟨RX11, "<init>", "(LCellRows;IIII)V"⟩
def dkwX11_init_1 : List UInt8 := [181, 0, 20, 42, 29, 181, 0, 24, 42, 21, 4, 181, 0, 27, 42, 21, 5, 181, 0, 30, 177]
abbrev dktX11_init_1 : List UInt8 := dkwX11_init_1 ++ []
def dkwX11_init_0 : List UInt8 := [42, 43, 181, 0, 1, 42, 183, 0, 7, 42, 187, 0, 13, 89, 183, 0, 15, 181, 0, 16, 42, 28]
abbrev dktX11_init_0 : List UInt8 := dkwX11_init_0 ++ dktX11_init_1
theorem dksX11_init_0 : cX11_init.data.toList.drop 0 = dktX11_init_0 := by decide +kernel
theorem dksX11_init_1 : cX11_init.data.toList.drop 22 = dktX11_init_1 := dk_seg dksX11_init_0 22 rfl rfl
theorem dX11_init_0 : decode cX11_init 0 = .ok (.aload_n 0, 1) := dk_42 (dk_at dksX11_init_0 0 rfl rfl)
theorem dX11_init_1 : decode cX11_init 1 = .ok (.aload_n 1, 1) := dk_43 (dk_at dksX11_init_0 1 rfl rfl)
theorem dX11_init_2 : decode cX11_init 2 = .ok (.putfield 1, 3) := dk_181 0 1 (dk_at dksX11_init_0 2 rfl rfl)
theorem dX11_init_5 : decode cX11_init 5 = .ok (.aload_n 0, 1) := dk_42 (dk_at dksX11_init_0 5 rfl rfl)
theorem dX11_init_6 : decode cX11_init 6 = .ok (.invokespecial 7, 3) := dk_183 0 7 (dk_at dksX11_init_0 6 rfl rfl)
theorem dX11_init_9 : decode cX11_init 9 = .ok (.aload_n 0, 1) := dk_42 (dk_at dksX11_init_0 9 rfl rfl)
theorem dX11_init_10 : decode cX11_init 10 = .ok (.new 13, 3) := dk_187 0 13 (dk_at dksX11_init_0 10 rfl rfl)
theorem dX11_init_13 : decode cX11_init 13 = .ok (.dup, 1) := dk_89 (dk_at dksX11_init_0 13 rfl rfl)
theorem dX11_init_14 : decode cX11_init 14 = .ok (.invokespecial 15, 3) := dk_183 0 15 (dk_at dksX11_init_0 14 rfl rfl)
theorem dX11_init_17 : decode cX11_init 17 = .ok (.putfield 16, 3) := dk_181 0 16 (dk_at dksX11_init_0 17 rfl rfl)
theorem dX11_init_20 : decode cX11_init 20 = .ok (.aload_n 0, 1) := dk_42 (dk_at dksX11_init_0 20 rfl rfl)
theorem dX11_init_21 : decode cX11_init 21 = .ok (.iload_n 2, 1) := dk_28 (dk_at dksX11_init_0 21 rfl rfl)
theorem dX11_init_22 : decode cX11_init 22 = .ok (.putfield 20, 3) := dk_181 0 20 (dk_at dksX11_init_1 0 rfl rfl)
theorem dX11_init_25 : decode cX11_init 25 = .ok (.aload_n 0, 1) := dk_42 (dk_at dksX11_init_1 3 rfl rfl)
theorem dX11_init_26 : decode cX11_init 26 = .ok (.iload_n 3, 1) := dk_29 (dk_at dksX11_init_1 4 rfl rfl)
theorem dX11_init_27 : decode cX11_init 27 = .ok (.putfield 24, 3) := dk_181 0 24 (dk_at dksX11_init_1 5 rfl rfl)
theorem dX11_init_30 : decode cX11_init 30 = .ok (.aload_n 0, 1) := dk_42 (dk_at dksX11_init_1 8 rfl rfl)
theorem dX11_init_31 : decode cX11_init 31 = .ok (.iload 4, 2) := dk_21 4 (dk_at dksX11_init_1 9 rfl rfl)
theorem dX11_init_33 : decode cX11_init 33 = .ok (.putfield 27, 3) := dk_181 0 27 (dk_at dksX11_init_1 11 rfl rfl)
theorem dX11_init_36 : decode cX11_init 36 = .ok (.aload_n 0, 1) := dk_42 (dk_at dksX11_init_1 14 rfl rfl)
theorem dX11_init_37 : decode cX11_init 37 = .ok (.iload 5, 2) := dk_21 5 (dk_at dksX11_init_1 15 rfl rfl)
theorem dX11_init_39 : decode cX11_init 39 = .ok (.putfield 30, 3) := dk_181 0 30 (dk_at dksX11_init_1 17 rfl rfl)
theorem dX11_init_42 : decode cX11_init 42 = .ok (.return_, 1) := dk_177 (dk_at dksX11_init_1 20 rfl rfl)
abbrev cX11_fills : ByteArray := prog_13_method_2_code
def yX11_fills : MethodName := ⟨RX11, "fills", "()LCellRows$Run;"⟩
def dkwX11_fills_5 : List UInt8 := [132, 2, 1, 167, 255, 160, 132, 1, 1, 167, 255, 139, 42, 176]
abbrev dktX11_fills_5 : List UInt8 := dkwX11_fills_5 ++ []
def dkwX11_fills_4 : List UInt8 := [160, 0, 23, 42, 180, 0, 16, 42, 180, 0, 1, 180, 0, 33, 180, 0, 43, 28, 50, 182, 0, 57, 87]
abbrev dktX11_fills_4 : List UInt8 := dkwX11_fills_4 ++ dktX11_fills_5
def dkwX11_fills_3 : List UInt8 := [180, 0, 20, 160, 0, 42, 42, 180, 0, 1, 180, 0, 33, 180, 0, 43, 28, 50, 180, 0, 54, 27]
abbrev dktX11_fills_3 : List UInt8 := dkwX11_fills_3 ++ dktX11_fills_4
def dkwX11_fills_2 : List UInt8 := [182, 0, 47, 153, 0, 64, 42, 180, 0, 1, 180, 0, 33, 180, 0, 43, 28, 50, 180, 0, 53, 42]
abbrev dktX11_fills_2 : List UInt8 := dkwX11_fills_2 ++ dktX11_fills_3
def dkwX11_fills_1 : List UInt8 := [180, 0, 1, 180, 0, 33, 180, 0, 39, 162, 0, 88, 42, 180, 0, 1, 180, 0, 33, 180, 0, 43, 28, 50]
abbrev dktX11_fills_1 : List UInt8 := dkwX11_fills_1 ++ dktX11_fills_2
def dkwX11_fills_0 : List UInt8 := [42, 180, 0, 27, 60, 27, 42, 180, 0, 27, 42, 180, 0, 30, 96, 162, 0, 110, 3, 61, 28, 42]
abbrev dktX11_fills_0 : List UInt8 := dkwX11_fills_0 ++ dktX11_fills_1
theorem dksX11_fills_0 : cX11_fills.data.toList.drop 0 = dktX11_fills_0 := by decide +kernel
theorem dksX11_fills_1 : cX11_fills.data.toList.drop 22 = dktX11_fills_1 := dk_seg dksX11_fills_0 22 rfl rfl
theorem dksX11_fills_2 : cX11_fills.data.toList.drop 46 = dktX11_fills_2 := dk_seg dksX11_fills_1 24 rfl rfl
theorem dksX11_fills_3 : cX11_fills.data.toList.drop 68 = dktX11_fills_3 := dk_seg dksX11_fills_2 22 rfl rfl
theorem dksX11_fills_4 : cX11_fills.data.toList.drop 90 = dktX11_fills_4 := dk_seg dksX11_fills_3 22 rfl rfl
theorem dksX11_fills_5 : cX11_fills.data.toList.drop 113 = dktX11_fills_5 := dk_seg dksX11_fills_4 23 rfl rfl
theorem dX11_fills_0 : decode cX11_fills 0 = .ok (.aload_n 0, 1) := dk_42 (dk_at dksX11_fills_0 0 rfl rfl)
theorem dX11_fills_1 : decode cX11_fills 1 = .ok (.getfield 27, 3) := dk_180 0 27 (dk_at dksX11_fills_0 1 rfl rfl)
theorem dX11_fills_4 : decode cX11_fills 4 = .ok (.istore_n 1, 1) := dk_60 (dk_at dksX11_fills_0 4 rfl rfl)
theorem dX11_fills_5 : decode cX11_fills 5 = .ok (.iload_n 1, 1) := dk_27 (dk_at dksX11_fills_0 5 rfl rfl)
theorem dX11_fills_6 : decode cX11_fills 6 = .ok (.aload_n 0, 1) := dk_42 (dk_at dksX11_fills_0 6 rfl rfl)
theorem dX11_fills_7 : decode cX11_fills 7 = .ok (.getfield 27, 3) := dk_180 0 27 (dk_at dksX11_fills_0 7 rfl rfl)
theorem dX11_fills_10 : decode cX11_fills 10 = .ok (.aload_n 0, 1) := dk_42 (dk_at dksX11_fills_0 10 rfl rfl)
theorem dX11_fills_11 : decode cX11_fills 11 = .ok (.getfield 30, 3) := dk_180 0 30 (dk_at dksX11_fills_0 11 rfl rfl)
theorem dX11_fills_14 : decode cX11_fills 14 = .ok (.iadd, 1) := dk_96 (dk_at dksX11_fills_0 14 rfl rfl)
theorem dX11_fills_15 : decode cX11_fills 15 = .ok (.if_icmp .ge 110, 3) := dk_162 0 110 (dk_at dksX11_fills_0 15 rfl rfl)
theorem dX11_fills_18 : decode cX11_fills 18 = .ok (.iconst 0, 1) := dk_3 (dk_at dksX11_fills_0 18 rfl rfl)
theorem dX11_fills_19 : decode cX11_fills 19 = .ok (.istore_n 2, 1) := dk_61 (dk_at dksX11_fills_0 19 rfl rfl)
theorem dX11_fills_20 : decode cX11_fills 20 = .ok (.iload_n 2, 1) := dk_28 (dk_at dksX11_fills_0 20 rfl rfl)
theorem dX11_fills_21 : decode cX11_fills 21 = .ok (.aload_n 0, 1) := dk_42 (dk_at dksX11_fills_0 21 rfl rfl)
theorem dX11_fills_22 : decode cX11_fills 22 = .ok (.getfield 1, 3) := dk_180 0 1 (dk_at dksX11_fills_1 0 rfl rfl)
theorem dX11_fills_25 : decode cX11_fills 25 = .ok (.getfield 33, 3) := dk_180 0 33 (dk_at dksX11_fills_1 3 rfl rfl)
theorem dX11_fills_28 : decode cX11_fills 28 = .ok (.getfield 39, 3) := dk_180 0 39 (dk_at dksX11_fills_1 6 rfl rfl)
theorem dX11_fills_31 : decode cX11_fills 31 = .ok (.if_icmp .ge 88, 3) := dk_162 0 88 (dk_at dksX11_fills_1 9 rfl rfl)
theorem dX11_fills_34 : decode cX11_fills 34 = .ok (.aload_n 0, 1) := dk_42 (dk_at dksX11_fills_1 12 rfl rfl)
theorem dX11_fills_35 : decode cX11_fills 35 = .ok (.getfield 1, 3) := dk_180 0 1 (dk_at dksX11_fills_1 13 rfl rfl)
theorem dX11_fills_38 : decode cX11_fills 38 = .ok (.getfield 33, 3) := dk_180 0 33 (dk_at dksX11_fills_1 16 rfl rfl)
theorem dX11_fills_41 : decode cX11_fills 41 = .ok (.getfield 43, 3) := dk_180 0 43 (dk_at dksX11_fills_1 19 rfl rfl)
theorem dX11_fills_44 : decode cX11_fills 44 = .ok (.iload_n 2, 1) := dk_28 (dk_at dksX11_fills_1 22 rfl rfl)
theorem dX11_fills_45 : decode cX11_fills 45 = .ok (.aaload, 1) := dk_50 (dk_at dksX11_fills_1 23 rfl rfl)
theorem dX11_fills_46 : decode cX11_fills 46 = .ok (.invokevirtual 47, 3) := dk_182 0 47 (dk_at dksX11_fills_2 0 rfl rfl)
theorem dX11_fills_49 : decode cX11_fills 49 = .ok (.ifCond .eq 64, 3) := dk_153 0 64 (dk_at dksX11_fills_2 3 rfl rfl)
theorem dX11_fills_52 : decode cX11_fills 52 = .ok (.aload_n 0, 1) := dk_42 (dk_at dksX11_fills_2 6 rfl rfl)
theorem dX11_fills_53 : decode cX11_fills 53 = .ok (.getfield 1, 3) := dk_180 0 1 (dk_at dksX11_fills_2 7 rfl rfl)
theorem dX11_fills_56 : decode cX11_fills 56 = .ok (.getfield 33, 3) := dk_180 0 33 (dk_at dksX11_fills_2 10 rfl rfl)
theorem dX11_fills_59 : decode cX11_fills 59 = .ok (.getfield 43, 3) := dk_180 0 43 (dk_at dksX11_fills_2 13 rfl rfl)
theorem dX11_fills_62 : decode cX11_fills 62 = .ok (.iload_n 2, 1) := dk_28 (dk_at dksX11_fills_2 16 rfl rfl)
theorem dX11_fills_63 : decode cX11_fills 63 = .ok (.aaload, 1) := dk_50 (dk_at dksX11_fills_2 17 rfl rfl)
theorem dX11_fills_64 : decode cX11_fills 64 = .ok (.getfield 53, 3) := dk_180 0 53 (dk_at dksX11_fills_2 18 rfl rfl)
theorem dX11_fills_67 : decode cX11_fills 67 = .ok (.aload_n 0, 1) := dk_42 (dk_at dksX11_fills_2 21 rfl rfl)
theorem dX11_fills_68 : decode cX11_fills 68 = .ok (.getfield 20, 3) := dk_180 0 20 (dk_at dksX11_fills_3 0 rfl rfl)
theorem dX11_fills_71 : decode cX11_fills 71 = .ok (.if_icmp .ne 42, 3) := dk_160 0 42 (dk_at dksX11_fills_3 3 rfl rfl)
theorem dX11_fills_74 : decode cX11_fills 74 = .ok (.aload_n 0, 1) := dk_42 (dk_at dksX11_fills_3 6 rfl rfl)
theorem dX11_fills_75 : decode cX11_fills 75 = .ok (.getfield 1, 3) := dk_180 0 1 (dk_at dksX11_fills_3 7 rfl rfl)
theorem dX11_fills_78 : decode cX11_fills 78 = .ok (.getfield 33, 3) := dk_180 0 33 (dk_at dksX11_fills_3 10 rfl rfl)
theorem dX11_fills_81 : decode cX11_fills 81 = .ok (.getfield 43, 3) := dk_180 0 43 (dk_at dksX11_fills_3 13 rfl rfl)
theorem dX11_fills_84 : decode cX11_fills 84 = .ok (.iload_n 2, 1) := dk_28 (dk_at dksX11_fills_3 16 rfl rfl)
theorem dX11_fills_85 : decode cX11_fills 85 = .ok (.aaload, 1) := dk_50 (dk_at dksX11_fills_3 17 rfl rfl)
theorem dX11_fills_86 : decode cX11_fills 86 = .ok (.getfield 54, 3) := dk_180 0 54 (dk_at dksX11_fills_3 18 rfl rfl)
theorem dX11_fills_89 : decode cX11_fills 89 = .ok (.iload_n 1, 1) := dk_27 (dk_at dksX11_fills_3 21 rfl rfl)
theorem dX11_fills_90 : decode cX11_fills 90 = .ok (.if_icmp .ne 23, 3) := dk_160 0 23 (dk_at dksX11_fills_4 0 rfl rfl)
theorem dX11_fills_93 : decode cX11_fills 93 = .ok (.aload_n 0, 1) := dk_42 (dk_at dksX11_fills_4 3 rfl rfl)
theorem dX11_fills_94 : decode cX11_fills 94 = .ok (.getfield 16, 3) := dk_180 0 16 (dk_at dksX11_fills_4 4 rfl rfl)
theorem dX11_fills_97 : decode cX11_fills 97 = .ok (.aload_n 0, 1) := dk_42 (dk_at dksX11_fills_4 7 rfl rfl)
theorem dX11_fills_98 : decode cX11_fills 98 = .ok (.getfield 1, 3) := dk_180 0 1 (dk_at dksX11_fills_4 8 rfl rfl)
theorem dX11_fills_101 : decode cX11_fills 101 = .ok (.getfield 33, 3) := dk_180 0 33 (dk_at dksX11_fills_4 11 rfl rfl)
theorem dX11_fills_104 : decode cX11_fills 104 = .ok (.getfield 43, 3) := dk_180 0 43 (dk_at dksX11_fills_4 14 rfl rfl)
theorem dX11_fills_107 : decode cX11_fills 107 = .ok (.iload_n 2, 1) := dk_28 (dk_at dksX11_fills_4 17 rfl rfl)
theorem dX11_fills_108 : decode cX11_fills 108 = .ok (.aaload, 1) := dk_50 (dk_at dksX11_fills_4 18 rfl rfl)
theorem dX11_fills_109 : decode cX11_fills 109 = .ok (.invokevirtual 57, 3) := dk_182 0 57 (dk_at dksX11_fills_4 19 rfl rfl)
theorem dX11_fills_112 : decode cX11_fills 112 = .ok (.pop, 1) := dk_87 (dk_at dksX11_fills_4 22 rfl rfl)
theorem dX11_fills_113 : decode cX11_fills 113 = .ok (.iinc 2 1, 3) := dk_132 2 1 (dk_at dksX11_fills_5 0 rfl rfl)
theorem dX11_fills_116 : decode cX11_fills 116 = .ok (.goto (-96), 3) := dk_167 255 160 (dk_at dksX11_fills_5 3 rfl rfl)
theorem dX11_fills_119 : decode cX11_fills 119 = .ok (.iinc 1 1, 3) := dk_132 1 1 (dk_at dksX11_fills_5 6 rfl rfl)
theorem dX11_fills_122 : decode cX11_fills 122 = .ok (.goto (-117), 3) := dk_167 255 139 (dk_at dksX11_fills_5 9 rfl rfl)
theorem dX11_fills_125 : decode cX11_fills 125 = .ok (.aload_n 0, 1) := dk_42 (dk_at dksX11_fills_5 12 rfl rfl)
theorem dX11_fills_126 : decode cX11_fills 126 = .ok (.areturn, 1) := dk_176 (dk_at dksX11_fills_5 13 rfl rfl)
abbrev cX11_free : ByteArray := prog_13_method_3_code
def yX11_free : MethodName := ⟨RX11, "free", "()I"⟩
def dkwX11_free_1 : List UInt8 := [182, 0, 65, 192, 0, 48, 180, 0, 69, 100, 60, 132, 2, 1, 167, 255, 225, 27, 172]
abbrev dktX11_free_1 : List UInt8 := dkwX11_free_1 ++ []
def dkwX11_free_0 : List UInt8 := [42, 180, 0, 30, 60, 3, 61, 28, 42, 180, 0, 16, 182, 0, 61, 162, 0, 26, 27, 42, 180, 0, 16, 28]
abbrev dktX11_free_0 : List UInt8 := dkwX11_free_0 ++ dktX11_free_1
theorem dksX11_free_0 : cX11_free.data.toList.drop 0 = dktX11_free_0 := by decide +kernel
theorem dksX11_free_1 : cX11_free.data.toList.drop 24 = dktX11_free_1 := dk_seg dksX11_free_0 24 rfl rfl
theorem dX11_free_0 : decode cX11_free 0 = .ok (.aload_n 0, 1) := dk_42 (dk_at dksX11_free_0 0 rfl rfl)
theorem dX11_free_1 : decode cX11_free 1 = .ok (.getfield 30, 3) := dk_180 0 30 (dk_at dksX11_free_0 1 rfl rfl)
theorem dX11_free_4 : decode cX11_free 4 = .ok (.istore_n 1, 1) := dk_60 (dk_at dksX11_free_0 4 rfl rfl)
theorem dX11_free_5 : decode cX11_free 5 = .ok (.iconst 0, 1) := dk_3 (dk_at dksX11_free_0 5 rfl rfl)
theorem dX11_free_6 : decode cX11_free 6 = .ok (.istore_n 2, 1) := dk_61 (dk_at dksX11_free_0 6 rfl rfl)
theorem dX11_free_7 : decode cX11_free 7 = .ok (.iload_n 2, 1) := dk_28 (dk_at dksX11_free_0 7 rfl rfl)
theorem dX11_free_8 : decode cX11_free 8 = .ok (.aload_n 0, 1) := dk_42 (dk_at dksX11_free_0 8 rfl rfl)
theorem dX11_free_9 : decode cX11_free 9 = .ok (.getfield 16, 3) := dk_180 0 16 (dk_at dksX11_free_0 9 rfl rfl)
theorem dX11_free_12 : decode cX11_free 12 = .ok (.invokevirtual 61, 3) := dk_182 0 61 (dk_at dksX11_free_0 12 rfl rfl)
theorem dX11_free_15 : decode cX11_free 15 = .ok (.if_icmp .ge 26, 3) := dk_162 0 26 (dk_at dksX11_free_0 15 rfl rfl)
theorem dX11_free_18 : decode cX11_free 18 = .ok (.iload_n 1, 1) := dk_27 (dk_at dksX11_free_0 18 rfl rfl)
theorem dX11_free_19 : decode cX11_free 19 = .ok (.aload_n 0, 1) := dk_42 (dk_at dksX11_free_0 19 rfl rfl)
theorem dX11_free_20 : decode cX11_free 20 = .ok (.getfield 16, 3) := dk_180 0 16 (dk_at dksX11_free_0 20 rfl rfl)
theorem dX11_free_23 : decode cX11_free 23 = .ok (.iload_n 2, 1) := dk_28 (dk_at dksX11_free_0 23 rfl rfl)
theorem dX11_free_24 : decode cX11_free 24 = .ok (.invokevirtual 65, 3) := dk_182 0 65 (dk_at dksX11_free_1 0 rfl rfl)
theorem dX11_free_27 : decode cX11_free 27 = .ok (.checkcast 48, 3) := dk_192 0 48 (dk_at dksX11_free_1 3 rfl rfl)
theorem dX11_free_30 : decode cX11_free 30 = .ok (.getfield 69, 3) := dk_180 0 69 (dk_at dksX11_free_1 6 rfl rfl)
theorem dX11_free_33 : decode cX11_free 33 = .ok (.isub, 1) := dk_100 (dk_at dksX11_free_1 9 rfl rfl)
theorem dX11_free_34 : decode cX11_free 34 = .ok (.istore_n 1, 1) := dk_60 (dk_at dksX11_free_1 10 rfl rfl)
theorem dX11_free_35 : decode cX11_free 35 = .ok (.iinc 2 1, 3) := dk_132 2 1 (dk_at dksX11_free_1 11 rfl rfl)
theorem dX11_free_38 : decode cX11_free 38 = .ok (.goto (-31), 3) := dk_167 255 225 (dk_at dksX11_free_1 14 rfl rfl)
theorem dX11_free_41 : decode cX11_free 41 = .ok (.iload_n 1, 1) := dk_27 (dk_at dksX11_free_1 17 rfl rfl)
theorem dX11_free_42 : decode cX11_free 42 = .ok (.ireturn, 1) := dk_172 (dk_at dksX11_free_1 18 rfl rfl)
abbrev cX11_costWith : ByteArray := prog_13_method_6_code
def yX11_costWith : MethodName := ⟨RX11, "costWith", "(LCellRows$Cell;)I"⟩
def dkwX11_costWith_2 : List UInt8 := [182, 0, 93, 87, 29, 28, 100, 43, 42, 180, 0, 20, 182, 0, 96, 96, 172]
abbrev dktX11_costWith_2 : List UInt8 := dkwX11_costWith_2 ++ []
def dkwX11_costWith_1 : List UInt8 := [180, 0, 16, 182, 0, 61, 182, 0, 86, 62, 42, 180, 0, 16, 42, 180, 0, 16, 182, 0, 61, 4, 100]
abbrev dktX11_costWith_1 : List UInt8 := dkwX11_costWith_1 ++ dktX11_costWith_2
def dkwX11_costWith_0 : List UInt8 := [42, 42, 180, 0, 16, 182, 0, 61, 182, 0, 86, 61, 42, 180, 0, 16, 43, 182, 0, 57, 87, 42, 42]
abbrev dktX11_costWith_0 : List UInt8 := dkwX11_costWith_0 ++ dktX11_costWith_1
theorem dksX11_costWith_0 : cX11_costWith.data.toList.drop 0 = dktX11_costWith_0 := by decide +kernel
theorem dksX11_costWith_1 : cX11_costWith.data.toList.drop 23 = dktX11_costWith_1 := dk_seg dksX11_costWith_0 23 rfl rfl
theorem dksX11_costWith_2 : cX11_costWith.data.toList.drop 46 = dktX11_costWith_2 := dk_seg dksX11_costWith_1 23 rfl rfl
theorem dX11_costWith_0 : decode cX11_costWith 0 = .ok (.aload_n 0, 1) := dk_42 (dk_at dksX11_costWith_0 0 rfl rfl)
theorem dX11_costWith_1 : decode cX11_costWith 1 = .ok (.aload_n 0, 1) := dk_42 (dk_at dksX11_costWith_0 1 rfl rfl)
theorem dX11_costWith_2 : decode cX11_costWith 2 = .ok (.getfield 16, 3) := dk_180 0 16 (dk_at dksX11_costWith_0 2 rfl rfl)
theorem dX11_costWith_5 : decode cX11_costWith 5 = .ok (.invokevirtual 61, 3) := dk_182 0 61 (dk_at dksX11_costWith_0 5 rfl rfl)
theorem dX11_costWith_8 : decode cX11_costWith 8 = .ok (.invokevirtual 86, 3) := dk_182 0 86 (dk_at dksX11_costWith_0 8 rfl rfl)
theorem dX11_costWith_11 : decode cX11_costWith 11 = .ok (.istore_n 2, 1) := dk_61 (dk_at dksX11_costWith_0 11 rfl rfl)
theorem dX11_costWith_12 : decode cX11_costWith 12 = .ok (.aload_n 0, 1) := dk_42 (dk_at dksX11_costWith_0 12 rfl rfl)
theorem dX11_costWith_13 : decode cX11_costWith 13 = .ok (.getfield 16, 3) := dk_180 0 16 (dk_at dksX11_costWith_0 13 rfl rfl)
theorem dX11_costWith_16 : decode cX11_costWith 16 = .ok (.aload_n 1, 1) := dk_43 (dk_at dksX11_costWith_0 16 rfl rfl)
theorem dX11_costWith_17 : decode cX11_costWith 17 = .ok (.invokevirtual 57, 3) := dk_182 0 57 (dk_at dksX11_costWith_0 17 rfl rfl)
theorem dX11_costWith_20 : decode cX11_costWith 20 = .ok (.pop, 1) := dk_87 (dk_at dksX11_costWith_0 20 rfl rfl)
theorem dX11_costWith_21 : decode cX11_costWith 21 = .ok (.aload_n 0, 1) := dk_42 (dk_at dksX11_costWith_0 21 rfl rfl)
theorem dX11_costWith_22 : decode cX11_costWith 22 = .ok (.aload_n 0, 1) := dk_42 (dk_at dksX11_costWith_0 22 rfl rfl)
theorem dX11_costWith_23 : decode cX11_costWith 23 = .ok (.getfield 16, 3) := dk_180 0 16 (dk_at dksX11_costWith_1 0 rfl rfl)
theorem dX11_costWith_26 : decode cX11_costWith 26 = .ok (.invokevirtual 61, 3) := dk_182 0 61 (dk_at dksX11_costWith_1 3 rfl rfl)
theorem dX11_costWith_29 : decode cX11_costWith 29 = .ok (.invokevirtual 86, 3) := dk_182 0 86 (dk_at dksX11_costWith_1 6 rfl rfl)
theorem dX11_costWith_32 : decode cX11_costWith 32 = .ok (.istore_n 3, 1) := dk_62 (dk_at dksX11_costWith_1 9 rfl rfl)
theorem dX11_costWith_33 : decode cX11_costWith 33 = .ok (.aload_n 0, 1) := dk_42 (dk_at dksX11_costWith_1 10 rfl rfl)
theorem dX11_costWith_34 : decode cX11_costWith 34 = .ok (.getfield 16, 3) := dk_180 0 16 (dk_at dksX11_costWith_1 11 rfl rfl)
theorem dX11_costWith_37 : decode cX11_costWith 37 = .ok (.aload_n 0, 1) := dk_42 (dk_at dksX11_costWith_1 14 rfl rfl)
theorem dX11_costWith_38 : decode cX11_costWith 38 = .ok (.getfield 16, 3) := dk_180 0 16 (dk_at dksX11_costWith_1 15 rfl rfl)
theorem dX11_costWith_41 : decode cX11_costWith 41 = .ok (.invokevirtual 61, 3) := dk_182 0 61 (dk_at dksX11_costWith_1 18 rfl rfl)
theorem dX11_costWith_44 : decode cX11_costWith 44 = .ok (.iconst 1, 1) := dk_4 (dk_at dksX11_costWith_1 21 rfl rfl)
theorem dX11_costWith_45 : decode cX11_costWith 45 = .ok (.isub, 1) := dk_100 (dk_at dksX11_costWith_1 22 rfl rfl)
theorem dX11_costWith_46 : decode cX11_costWith 46 = .ok (.invokevirtual 93, 3) := dk_182 0 93 (dk_at dksX11_costWith_2 0 rfl rfl)
theorem dX11_costWith_49 : decode cX11_costWith 49 = .ok (.pop, 1) := dk_87 (dk_at dksX11_costWith_2 3 rfl rfl)
theorem dX11_costWith_50 : decode cX11_costWith 50 = .ok (.iload_n 3, 1) := dk_29 (dk_at dksX11_costWith_2 4 rfl rfl)
theorem dX11_costWith_51 : decode cX11_costWith 51 = .ok (.iload_n 2, 1) := dk_28 (dk_at dksX11_costWith_2 5 rfl rfl)
theorem dX11_costWith_52 : decode cX11_costWith 52 = .ok (.isub, 1) := dk_100 (dk_at dksX11_costWith_2 6 rfl rfl)
theorem dX11_costWith_53 : decode cX11_costWith 53 = .ok (.aload_n 1, 1) := dk_43 (dk_at dksX11_costWith_2 7 rfl rfl)
theorem dX11_costWith_54 : decode cX11_costWith 54 = .ok (.aload_n 0, 1) := dk_42 (dk_at dksX11_costWith_2 8 rfl rfl)
theorem dX11_costWith_55 : decode cX11_costWith 55 = .ok (.getfield 20, 3) := dk_180 0 20 (dk_at dksX11_costWith_2 9 rfl rfl)
theorem dX11_costWith_58 : decode cX11_costWith 58 = .ok (.invokevirtual 96, 3) := dk_182 0 96 (dk_at dksX11_costWith_2 12 rfl rfl)
theorem dX11_costWith_61 : decode cX11_costWith 61 = .ok (.iadd, 1) := dk_96 (dk_at dksX11_costWith_2 15 rfl rfl)
theorem dX11_costWith_62 : decode cX11_costWith 62 = .ok (.ireturn, 1) := dk_172 (dk_at dksX11_costWith_2 16 rfl rfl)
abbrev cX11_least : ByteArray := prog_13_method_4_code
def yX11_least : MethodName := ⟨RX11, "least", "(I)I"⟩
def dkwX11_least_8 : List UInt8 := [167, 0, 14, 42, 180, 0, 1, 180, 0, 76, 3, 50, 3, 46, 172]
abbrev dktX11_least_8 : List UInt8 := dkwX11_least_8 ++ []
def dkwX11_least_7 : List UInt8 := [46, 184, 0, 80, 79, 132, 6, 255, 167, 255, 165, 132, 4, 255, 167, 255, 129, 27, 154, 0, 7, 3]
abbrev dktX11_least_7 : List UInt8 := dkwX11_least_7 ++ dktX11_least_8
def dkwX11_least_6 : List UInt8 := [160, 0, 8, 21, 7, 167, 0, 23, 21, 7, 42, 180, 0, 1, 180, 0, 76, 21, 4, 50, 21, 6, 4, 96]
abbrev dktX11_least_6 : List UInt8 := dkwX11_least_6 ++ dktX11_least_7
def dkwX11_least_5 : List UInt8 := [167, 0, 4, 3, 96, 54, 7, 42, 180, 0, 1, 180, 0, 76, 21, 4, 50, 21, 6, 21, 6, 28]
abbrev dktX11_least_5 : List UInt8 := dkwX11_least_5 ++ dktX11_least_6
def dkwX11_least_4 : List UInt8 := [21, 4, 4, 96, 27, 162, 0, 21, 42, 180, 0, 1, 180, 0, 76, 21, 4, 4, 96, 50, 21, 6, 46]
abbrev dktX11_least_4 : List UInt8 := dkwX11_least_4 ++ dktX11_least_5
def dkwX11_least_3 : List UInt8 := [25, 5, 180, 0, 69, 100, 62, 28, 54, 6, 21, 6, 155, 0, 92, 25, 5, 29, 21, 6, 96, 182, 0, 72]
abbrev dktX11_least_3 : List UInt8 := dkwX11_least_3 ++ dktX11_least_4
def dkwX11_least_2 : List UInt8 := [4, 100, 54, 4, 21, 4, 155, 0, 128, 42, 180, 0, 16, 21, 4, 182, 0, 65, 192, 0, 48, 58, 5, 29]
abbrev dktX11_least_2 : List UInt8 := dkwX11_least_2 ++ dktX11_least_3
def dkwX11_least_1 : List UInt8 := [180, 0, 69, 100, 61, 132, 3, 1, 167, 255, 231, 42, 180, 0, 27, 42, 180, 0, 30, 96, 28, 100, 62, 27]
abbrev dktX11_least_1 : List UInt8 := dkwX11_least_1 ++ dktX11_least_2
def dkwX11_least_0 : List UInt8 := [42, 180, 0, 30, 61, 3, 62, 29, 27, 162, 0, 26, 28, 42, 180, 0, 16, 29, 182, 0, 65, 192, 0, 48]
abbrev dktX11_least_0 : List UInt8 := dkwX11_least_0 ++ dktX11_least_1
theorem dksX11_least_0 : cX11_least.data.toList.drop 0 = dktX11_least_0 := by decide +kernel
theorem dksX11_least_1 : cX11_least.data.toList.drop 24 = dktX11_least_1 := dk_seg dksX11_least_0 24 rfl rfl
theorem dksX11_least_2 : cX11_least.data.toList.drop 48 = dktX11_least_2 := dk_seg dksX11_least_1 24 rfl rfl
theorem dksX11_least_3 : cX11_least.data.toList.drop 72 = dktX11_least_3 := dk_seg dksX11_least_2 24 rfl rfl
theorem dksX11_least_4 : cX11_least.data.toList.drop 96 = dktX11_least_4 := dk_seg dksX11_least_3 24 rfl rfl
theorem dksX11_least_5 : cX11_least.data.toList.drop 119 = dktX11_least_5 := dk_seg dksX11_least_4 23 rfl rfl
theorem dksX11_least_6 : cX11_least.data.toList.drop 141 = dktX11_least_6 := dk_seg dksX11_least_5 22 rfl rfl
theorem dksX11_least_7 : cX11_least.data.toList.drop 165 = dktX11_least_7 := dk_seg dksX11_least_6 24 rfl rfl
theorem dksX11_least_8 : cX11_least.data.toList.drop 187 = dktX11_least_8 := dk_seg dksX11_least_7 22 rfl rfl
theorem dX11_least_0 : decode cX11_least 0 = .ok (.aload_n 0, 1) := dk_42 (dk_at dksX11_least_0 0 rfl rfl)
theorem dX11_least_1 : decode cX11_least 1 = .ok (.getfield 30, 3) := dk_180 0 30 (dk_at dksX11_least_0 1 rfl rfl)
theorem dX11_least_4 : decode cX11_least 4 = .ok (.istore_n 2, 1) := dk_61 (dk_at dksX11_least_0 4 rfl rfl)
theorem dX11_least_5 : decode cX11_least 5 = .ok (.iconst 0, 1) := dk_3 (dk_at dksX11_least_0 5 rfl rfl)
theorem dX11_least_6 : decode cX11_least 6 = .ok (.istore_n 3, 1) := dk_62 (dk_at dksX11_least_0 6 rfl rfl)
theorem dX11_least_7 : decode cX11_least 7 = .ok (.iload_n 3, 1) := dk_29 (dk_at dksX11_least_0 7 rfl rfl)
theorem dX11_least_8 : decode cX11_least 8 = .ok (.iload_n 1, 1) := dk_27 (dk_at dksX11_least_0 8 rfl rfl)
theorem dX11_least_9 : decode cX11_least 9 = .ok (.if_icmp .ge 26, 3) := dk_162 0 26 (dk_at dksX11_least_0 9 rfl rfl)
theorem dX11_least_12 : decode cX11_least 12 = .ok (.iload_n 2, 1) := dk_28 (dk_at dksX11_least_0 12 rfl rfl)
theorem dX11_least_13 : decode cX11_least 13 = .ok (.aload_n 0, 1) := dk_42 (dk_at dksX11_least_0 13 rfl rfl)
theorem dX11_least_14 : decode cX11_least 14 = .ok (.getfield 16, 3) := dk_180 0 16 (dk_at dksX11_least_0 14 rfl rfl)
theorem dX11_least_17 : decode cX11_least 17 = .ok (.iload_n 3, 1) := dk_29 (dk_at dksX11_least_0 17 rfl rfl)
theorem dX11_least_18 : decode cX11_least 18 = .ok (.invokevirtual 65, 3) := dk_182 0 65 (dk_at dksX11_least_0 18 rfl rfl)
theorem dX11_least_21 : decode cX11_least 21 = .ok (.checkcast 48, 3) := dk_192 0 48 (dk_at dksX11_least_0 21 rfl rfl)
theorem dX11_least_24 : decode cX11_least 24 = .ok (.getfield 69, 3) := dk_180 0 69 (dk_at dksX11_least_1 0 rfl rfl)
theorem dX11_least_27 : decode cX11_least 27 = .ok (.isub, 1) := dk_100 (dk_at dksX11_least_1 3 rfl rfl)
theorem dX11_least_28 : decode cX11_least 28 = .ok (.istore_n 2, 1) := dk_61 (dk_at dksX11_least_1 4 rfl rfl)
theorem dX11_least_29 : decode cX11_least 29 = .ok (.iinc 3 1, 3) := dk_132 3 1 (dk_at dksX11_least_1 5 rfl rfl)
theorem dX11_least_32 : decode cX11_least 32 = .ok (.goto (-25), 3) := dk_167 255 231 (dk_at dksX11_least_1 8 rfl rfl)
theorem dX11_least_35 : decode cX11_least 35 = .ok (.aload_n 0, 1) := dk_42 (dk_at dksX11_least_1 11 rfl rfl)
theorem dX11_least_36 : decode cX11_least 36 = .ok (.getfield 27, 3) := dk_180 0 27 (dk_at dksX11_least_1 12 rfl rfl)
theorem dX11_least_39 : decode cX11_least 39 = .ok (.aload_n 0, 1) := dk_42 (dk_at dksX11_least_1 15 rfl rfl)
theorem dX11_least_40 : decode cX11_least 40 = .ok (.getfield 30, 3) := dk_180 0 30 (dk_at dksX11_least_1 16 rfl rfl)
theorem dX11_least_43 : decode cX11_least 43 = .ok (.iadd, 1) := dk_96 (dk_at dksX11_least_1 19 rfl rfl)
theorem dX11_least_44 : decode cX11_least 44 = .ok (.iload_n 2, 1) := dk_28 (dk_at dksX11_least_1 20 rfl rfl)
theorem dX11_least_45 : decode cX11_least 45 = .ok (.isub, 1) := dk_100 (dk_at dksX11_least_1 21 rfl rfl)
theorem dX11_least_46 : decode cX11_least 46 = .ok (.istore_n 3, 1) := dk_62 (dk_at dksX11_least_1 22 rfl rfl)
theorem dX11_least_47 : decode cX11_least 47 = .ok (.iload_n 1, 1) := dk_27 (dk_at dksX11_least_1 23 rfl rfl)
theorem dX11_least_48 : decode cX11_least 48 = .ok (.iconst 1, 1) := dk_4 (dk_at dksX11_least_2 0 rfl rfl)
theorem dX11_least_49 : decode cX11_least 49 = .ok (.isub, 1) := dk_100 (dk_at dksX11_least_2 1 rfl rfl)
theorem dX11_least_50 : decode cX11_least 50 = .ok (.istore 4, 2) := dk_54 4 (dk_at dksX11_least_2 2 rfl rfl)
theorem dX11_least_52 : decode cX11_least 52 = .ok (.iload 4, 2) := dk_21 4 (dk_at dksX11_least_2 4 rfl rfl)
theorem dX11_least_54 : decode cX11_least 54 = .ok (.ifCond .lt 128, 3) := dk_155 0 128 (dk_at dksX11_least_2 6 rfl rfl)
theorem dX11_least_57 : decode cX11_least 57 = .ok (.aload_n 0, 1) := dk_42 (dk_at dksX11_least_2 9 rfl rfl)
theorem dX11_least_58 : decode cX11_least 58 = .ok (.getfield 16, 3) := dk_180 0 16 (dk_at dksX11_least_2 10 rfl rfl)
theorem dX11_least_61 : decode cX11_least 61 = .ok (.iload 4, 2) := dk_21 4 (dk_at dksX11_least_2 13 rfl rfl)
theorem dX11_least_63 : decode cX11_least 63 = .ok (.invokevirtual 65, 3) := dk_182 0 65 (dk_at dksX11_least_2 15 rfl rfl)
theorem dX11_least_66 : decode cX11_least 66 = .ok (.checkcast 48, 3) := dk_192 0 48 (dk_at dksX11_least_2 18 rfl rfl)
theorem dX11_least_69 : decode cX11_least 69 = .ok (.astore 5, 2) := dk_58 5 (dk_at dksX11_least_2 21 rfl rfl)
theorem dX11_least_71 : decode cX11_least 71 = .ok (.iload_n 3, 1) := dk_29 (dk_at dksX11_least_2 23 rfl rfl)
theorem dX11_least_72 : decode cX11_least 72 = .ok (.aload 5, 2) := dk_25 5 (dk_at dksX11_least_3 0 rfl rfl)
theorem dX11_least_74 : decode cX11_least 74 = .ok (.getfield 69, 3) := dk_180 0 69 (dk_at dksX11_least_3 2 rfl rfl)
theorem dX11_least_77 : decode cX11_least 77 = .ok (.isub, 1) := dk_100 (dk_at dksX11_least_3 5 rfl rfl)
theorem dX11_least_78 : decode cX11_least 78 = .ok (.istore_n 3, 1) := dk_62 (dk_at dksX11_least_3 6 rfl rfl)
theorem dX11_least_79 : decode cX11_least 79 = .ok (.iload_n 2, 1) := dk_28 (dk_at dksX11_least_3 7 rfl rfl)
theorem dX11_least_80 : decode cX11_least 80 = .ok (.istore 6, 2) := dk_54 6 (dk_at dksX11_least_3 8 rfl rfl)
theorem dX11_least_82 : decode cX11_least 82 = .ok (.iload 6, 2) := dk_21 6 (dk_at dksX11_least_3 10 rfl rfl)
theorem dX11_least_84 : decode cX11_least 84 = .ok (.ifCond .lt 92, 3) := dk_155 0 92 (dk_at dksX11_least_3 12 rfl rfl)
theorem dX11_least_87 : decode cX11_least 87 = .ok (.aload 5, 2) := dk_25 5 (dk_at dksX11_least_3 15 rfl rfl)
theorem dX11_least_89 : decode cX11_least 89 = .ok (.iload_n 3, 1) := dk_29 (dk_at dksX11_least_3 17 rfl rfl)
theorem dX11_least_90 : decode cX11_least 90 = .ok (.iload 6, 2) := dk_21 6 (dk_at dksX11_least_3 18 rfl rfl)
theorem dX11_least_92 : decode cX11_least 92 = .ok (.iadd, 1) := dk_96 (dk_at dksX11_least_3 20 rfl rfl)
theorem dX11_least_93 : decode cX11_least 93 = .ok (.invokevirtual 72, 3) := dk_182 0 72 (dk_at dksX11_least_3 21 rfl rfl)
theorem dX11_least_96 : decode cX11_least 96 = .ok (.iload 4, 2) := dk_21 4 (dk_at dksX11_least_4 0 rfl rfl)
theorem dX11_least_98 : decode cX11_least 98 = .ok (.iconst 1, 1) := dk_4 (dk_at dksX11_least_4 2 rfl rfl)
theorem dX11_least_99 : decode cX11_least 99 = .ok (.iadd, 1) := dk_96 (dk_at dksX11_least_4 3 rfl rfl)
theorem dX11_least_100 : decode cX11_least 100 = .ok (.iload_n 1, 1) := dk_27 (dk_at dksX11_least_4 4 rfl rfl)
theorem dX11_least_101 : decode cX11_least 101 = .ok (.if_icmp .ge 21, 3) := dk_162 0 21 (dk_at dksX11_least_4 5 rfl rfl)
theorem dX11_least_104 : decode cX11_least 104 = .ok (.aload_n 0, 1) := dk_42 (dk_at dksX11_least_4 8 rfl rfl)
theorem dX11_least_105 : decode cX11_least 105 = .ok (.getfield 1, 3) := dk_180 0 1 (dk_at dksX11_least_4 9 rfl rfl)
theorem dX11_least_108 : decode cX11_least 108 = .ok (.getfield 76, 3) := dk_180 0 76 (dk_at dksX11_least_4 12 rfl rfl)
theorem dX11_least_111 : decode cX11_least 111 = .ok (.iload 4, 2) := dk_21 4 (dk_at dksX11_least_4 15 rfl rfl)
theorem dX11_least_113 : decode cX11_least 113 = .ok (.iconst 1, 1) := dk_4 (dk_at dksX11_least_4 17 rfl rfl)
theorem dX11_least_114 : decode cX11_least 114 = .ok (.iadd, 1) := dk_96 (dk_at dksX11_least_4 18 rfl rfl)
theorem dX11_least_115 : decode cX11_least 115 = .ok (.aaload, 1) := dk_50 (dk_at dksX11_least_4 19 rfl rfl)
theorem dX11_least_116 : decode cX11_least 116 = .ok (.iload 6, 2) := dk_21 6 (dk_at dksX11_least_4 20 rfl rfl)
theorem dX11_least_118 : decode cX11_least 118 = .ok (.iaload, 1) := dk_46 (dk_at dksX11_least_4 22 rfl rfl)
theorem dX11_least_119 : decode cX11_least 119 = .ok (.goto 4, 3) := dk_167 0 4 (dk_at dksX11_least_5 0 rfl rfl)
theorem dX11_least_122 : decode cX11_least 122 = .ok (.iconst 0, 1) := dk_3 (dk_at dksX11_least_5 3 rfl rfl)
theorem dX11_least_123 : decode cX11_least 123 = .ok (.iadd, 1) := dk_96 (dk_at dksX11_least_5 4 rfl rfl)
theorem dX11_least_124 : decode cX11_least 124 = .ok (.istore 7, 2) := dk_54 7 (dk_at dksX11_least_5 5 rfl rfl)
theorem dX11_least_126 : decode cX11_least 126 = .ok (.aload_n 0, 1) := dk_42 (dk_at dksX11_least_5 7 rfl rfl)
theorem dX11_least_127 : decode cX11_least 127 = .ok (.getfield 1, 3) := dk_180 0 1 (dk_at dksX11_least_5 8 rfl rfl)
theorem dX11_least_130 : decode cX11_least 130 = .ok (.getfield 76, 3) := dk_180 0 76 (dk_at dksX11_least_5 11 rfl rfl)
theorem dX11_least_133 : decode cX11_least 133 = .ok (.iload 4, 2) := dk_21 4 (dk_at dksX11_least_5 14 rfl rfl)
theorem dX11_least_135 : decode cX11_least 135 = .ok (.aaload, 1) := dk_50 (dk_at dksX11_least_5 16 rfl rfl)
theorem dX11_least_136 : decode cX11_least 136 = .ok (.iload 6, 2) := dk_21 6 (dk_at dksX11_least_5 17 rfl rfl)
theorem dX11_least_138 : decode cX11_least 138 = .ok (.iload 6, 2) := dk_21 6 (dk_at dksX11_least_5 19 rfl rfl)
theorem dX11_least_140 : decode cX11_least 140 = .ok (.iload_n 2, 1) := dk_28 (dk_at dksX11_least_5 21 rfl rfl)
theorem dX11_least_141 : decode cX11_least 141 = .ok (.if_icmp .ne 8, 3) := dk_160 0 8 (dk_at dksX11_least_6 0 rfl rfl)
theorem dX11_least_144 : decode cX11_least 144 = .ok (.iload 7, 2) := dk_21 7 (dk_at dksX11_least_6 3 rfl rfl)
theorem dX11_least_146 : decode cX11_least 146 = .ok (.goto 23, 3) := dk_167 0 23 (dk_at dksX11_least_6 5 rfl rfl)
theorem dX11_least_149 : decode cX11_least 149 = .ok (.iload 7, 2) := dk_21 7 (dk_at dksX11_least_6 8 rfl rfl)
theorem dX11_least_151 : decode cX11_least 151 = .ok (.aload_n 0, 1) := dk_42 (dk_at dksX11_least_6 10 rfl rfl)
theorem dX11_least_152 : decode cX11_least 152 = .ok (.getfield 1, 3) := dk_180 0 1 (dk_at dksX11_least_6 11 rfl rfl)
theorem dX11_least_155 : decode cX11_least 155 = .ok (.getfield 76, 3) := dk_180 0 76 (dk_at dksX11_least_6 14 rfl rfl)
theorem dX11_least_158 : decode cX11_least 158 = .ok (.iload 4, 2) := dk_21 4 (dk_at dksX11_least_6 17 rfl rfl)
theorem dX11_least_160 : decode cX11_least 160 = .ok (.aaload, 1) := dk_50 (dk_at dksX11_least_6 19 rfl rfl)
theorem dX11_least_161 : decode cX11_least 161 = .ok (.iload 6, 2) := dk_21 6 (dk_at dksX11_least_6 20 rfl rfl)
theorem dX11_least_163 : decode cX11_least 163 = .ok (.iconst 1, 1) := dk_4 (dk_at dksX11_least_6 22 rfl rfl)
theorem dX11_least_164 : decode cX11_least 164 = .ok (.iadd, 1) := dk_96 (dk_at dksX11_least_6 23 rfl rfl)
theorem dX11_least_165 : decode cX11_least 165 = .ok (.iaload, 1) := dk_46 (dk_at dksX11_least_7 0 rfl rfl)
theorem dX11_least_166 : decode cX11_least 166 = .ok (.invokestatic 80, 3) := dk_184 0 80 (dk_at dksX11_least_7 1 rfl rfl)
theorem dX11_least_169 : decode cX11_least 169 = .ok (.iastore, 1) := dk_79 (dk_at dksX11_least_7 4 rfl rfl)
theorem dX11_least_170 : decode cX11_least 170 = .ok (.iinc 6 (-1), 3) := dk_132 6 255 (dk_at dksX11_least_7 5 rfl rfl)
theorem dX11_least_173 : decode cX11_least 173 = .ok (.goto (-91), 3) := dk_167 255 165 (dk_at dksX11_least_7 8 rfl rfl)
theorem dX11_least_176 : decode cX11_least 176 = .ok (.iinc 4 (-1), 3) := dk_132 4 255 (dk_at dksX11_least_7 11 rfl rfl)
theorem dX11_least_179 : decode cX11_least 179 = .ok (.goto (-127), 3) := dk_167 255 129 (dk_at dksX11_least_7 14 rfl rfl)
theorem dX11_least_182 : decode cX11_least 182 = .ok (.iload_n 1, 1) := dk_27 (dk_at dksX11_least_7 17 rfl rfl)
theorem dX11_least_183 : decode cX11_least 183 = .ok (.ifCond .ne 7, 3) := dk_154 0 7 (dk_at dksX11_least_7 18 rfl rfl)
theorem dX11_least_186 : decode cX11_least 186 = .ok (.iconst 0, 1) := dk_3 (dk_at dksX11_least_7 21 rfl rfl)
theorem dX11_least_187 : decode cX11_least 187 = .ok (.goto 14, 3) := dk_167 0 14 (dk_at dksX11_least_8 0 rfl rfl)
theorem dX11_least_190 : decode cX11_least 190 = .ok (.aload_n 0, 1) := dk_42 (dk_at dksX11_least_8 3 rfl rfl)
theorem dX11_least_191 : decode cX11_least 191 = .ok (.getfield 1, 3) := dk_180 0 1 (dk_at dksX11_least_8 4 rfl rfl)
theorem dX11_least_194 : decode cX11_least 194 = .ok (.getfield 76, 3) := dk_180 0 76 (dk_at dksX11_least_8 7 rfl rfl)
theorem dX11_least_197 : decode cX11_least 197 = .ok (.iconst 0, 1) := dk_3 (dk_at dksX11_least_8 10 rfl rfl)
theorem dX11_least_198 : decode cX11_least 198 = .ok (.aaload, 1) := dk_50 (dk_at dksX11_least_8 11 rfl rfl)
theorem dX11_least_199 : decode cX11_least 199 = .ok (.iconst 0, 1) := dk_3 (dk_at dksX11_least_8 12 rfl rfl)
theorem dX11_least_200 : decode cX11_least 200 = .ok (.iaload, 1) := dk_46 (dk_at dksX11_least_8 13 rfl rfl)
theorem dX11_least_201 : decode cX11_least 201 = .ok (.ireturn, 1) := dk_172 (dk_at dksX11_least_8 14 rfl rfl)
abbrev cX11_settles : ByteArray := prog_13_method_5_code
def yX11_settles : MethodName := ⟨RX11, "settles", "()V"⟩
def dkwX11_settles_5 : List UInt8 := [21, 4, 96, 182, 0, 89, 29, 25, 6, 180, 0, 69, 96, 62, 132, 5, 1, 167, 255, 149, 177]
abbrev dktX11_settles_5 : List UInt8 := dkwX11_settles_5 ++ []
def dkwX11_settles_4 : List UInt8 := [167, 0, 4, 3, 96, 21, 7, 159, 0, 9, 132, 4, 1, 167, 255, 211, 25, 6, 42, 180, 0, 20, 29]
abbrev dktX11_settles_4 : List UInt8 := dkwX11_settles_4 ++ dktX11_settles_5
def dkwX11_settles_3 : List UInt8 := [21, 5, 4, 96, 27, 162, 0, 21, 42, 180, 0, 1, 180, 0, 76, 21, 5, 4, 96, 50, 21, 4, 46]
abbrev dktX11_settles_3 : List UInt8 := dkwX11_settles_3 ++ dktX11_settles_4
def dkwX11_settles_2 : List UInt8 := [180, 0, 1, 180, 0, 76, 21, 5, 50, 21, 4, 46, 54, 7, 25, 6, 29, 21, 4, 96, 182, 0, 72]
abbrev dktX11_settles_2 : List UInt8 := dkwX11_settles_2 ++ dktX11_settles_3
def dkwX11_settles_1 : List UInt8 := [54, 5, 21, 5, 27, 162, 0, 107, 42, 180, 0, 16, 21, 5, 182, 0, 65, 192, 0, 48, 58, 6, 42]
abbrev dktX11_settles_1 : List UInt8 := dkwX11_settles_1 ++ dktX11_settles_2
def dkwX11_settles_0 : List UInt8 := [42, 180, 0, 16, 182, 0, 61, 60, 42, 27, 182, 0, 86, 61, 42, 180, 0, 27, 62, 3, 54, 4, 3]
abbrev dktX11_settles_0 : List UInt8 := dkwX11_settles_0 ++ dktX11_settles_1
theorem dksX11_settles_0 : cX11_settles.data.toList.drop 0 = dktX11_settles_0 := by decide +kernel
theorem dksX11_settles_1 : cX11_settles.data.toList.drop 23 = dktX11_settles_1 := dk_seg dksX11_settles_0 23 rfl rfl
theorem dksX11_settles_2 : cX11_settles.data.toList.drop 46 = dktX11_settles_2 := dk_seg dksX11_settles_1 23 rfl rfl
theorem dksX11_settles_3 : cX11_settles.data.toList.drop 69 = dktX11_settles_3 := dk_seg dksX11_settles_2 23 rfl rfl
theorem dksX11_settles_4 : cX11_settles.data.toList.drop 92 = dktX11_settles_4 := dk_seg dksX11_settles_3 23 rfl rfl
theorem dksX11_settles_5 : cX11_settles.data.toList.drop 115 = dktX11_settles_5 := dk_seg dksX11_settles_4 23 rfl rfl
theorem dX11_settles_0 : decode cX11_settles 0 = .ok (.aload_n 0, 1) := dk_42 (dk_at dksX11_settles_0 0 rfl rfl)
theorem dX11_settles_1 : decode cX11_settles 1 = .ok (.getfield 16, 3) := dk_180 0 16 (dk_at dksX11_settles_0 1 rfl rfl)
theorem dX11_settles_4 : decode cX11_settles 4 = .ok (.invokevirtual 61, 3) := dk_182 0 61 (dk_at dksX11_settles_0 4 rfl rfl)
theorem dX11_settles_7 : decode cX11_settles 7 = .ok (.istore_n 1, 1) := dk_60 (dk_at dksX11_settles_0 7 rfl rfl)
theorem dX11_settles_8 : decode cX11_settles 8 = .ok (.aload_n 0, 1) := dk_42 (dk_at dksX11_settles_0 8 rfl rfl)
theorem dX11_settles_9 : decode cX11_settles 9 = .ok (.iload_n 1, 1) := dk_27 (dk_at dksX11_settles_0 9 rfl rfl)
theorem dX11_settles_10 : decode cX11_settles 10 = .ok (.invokevirtual 86, 3) := dk_182 0 86 (dk_at dksX11_settles_0 10 rfl rfl)
theorem dX11_settles_13 : decode cX11_settles 13 = .ok (.istore_n 2, 1) := dk_61 (dk_at dksX11_settles_0 13 rfl rfl)
theorem dX11_settles_14 : decode cX11_settles 14 = .ok (.aload_n 0, 1) := dk_42 (dk_at dksX11_settles_0 14 rfl rfl)
theorem dX11_settles_15 : decode cX11_settles 15 = .ok (.getfield 27, 3) := dk_180 0 27 (dk_at dksX11_settles_0 15 rfl rfl)
theorem dX11_settles_18 : decode cX11_settles 18 = .ok (.istore_n 3, 1) := dk_62 (dk_at dksX11_settles_0 18 rfl rfl)
theorem dX11_settles_19 : decode cX11_settles 19 = .ok (.iconst 0, 1) := dk_3 (dk_at dksX11_settles_0 19 rfl rfl)
theorem dX11_settles_20 : decode cX11_settles 20 = .ok (.istore 4, 2) := dk_54 4 (dk_at dksX11_settles_0 20 rfl rfl)
theorem dX11_settles_22 : decode cX11_settles 22 = .ok (.iconst 0, 1) := dk_3 (dk_at dksX11_settles_0 22 rfl rfl)
theorem dX11_settles_23 : decode cX11_settles 23 = .ok (.istore 5, 2) := dk_54 5 (dk_at dksX11_settles_1 0 rfl rfl)
theorem dX11_settles_25 : decode cX11_settles 25 = .ok (.iload 5, 2) := dk_21 5 (dk_at dksX11_settles_1 2 rfl rfl)
theorem dX11_settles_27 : decode cX11_settles 27 = .ok (.iload_n 1, 1) := dk_27 (dk_at dksX11_settles_1 4 rfl rfl)
theorem dX11_settles_28 : decode cX11_settles 28 = .ok (.if_icmp .ge 107, 3) := dk_162 0 107 (dk_at dksX11_settles_1 5 rfl rfl)
theorem dX11_settles_31 : decode cX11_settles 31 = .ok (.aload_n 0, 1) := dk_42 (dk_at dksX11_settles_1 8 rfl rfl)
theorem dX11_settles_32 : decode cX11_settles 32 = .ok (.getfield 16, 3) := dk_180 0 16 (dk_at dksX11_settles_1 9 rfl rfl)
theorem dX11_settles_35 : decode cX11_settles 35 = .ok (.iload 5, 2) := dk_21 5 (dk_at dksX11_settles_1 12 rfl rfl)
theorem dX11_settles_37 : decode cX11_settles 37 = .ok (.invokevirtual 65, 3) := dk_182 0 65 (dk_at dksX11_settles_1 14 rfl rfl)
theorem dX11_settles_40 : decode cX11_settles 40 = .ok (.checkcast 48, 3) := dk_192 0 48 (dk_at dksX11_settles_1 17 rfl rfl)
theorem dX11_settles_43 : decode cX11_settles 43 = .ok (.astore 6, 2) := dk_58 6 (dk_at dksX11_settles_1 20 rfl rfl)
theorem dX11_settles_45 : decode cX11_settles 45 = .ok (.aload_n 0, 1) := dk_42 (dk_at dksX11_settles_1 22 rfl rfl)
theorem dX11_settles_46 : decode cX11_settles 46 = .ok (.getfield 1, 3) := dk_180 0 1 (dk_at dksX11_settles_2 0 rfl rfl)
theorem dX11_settles_49 : decode cX11_settles 49 = .ok (.getfield 76, 3) := dk_180 0 76 (dk_at dksX11_settles_2 3 rfl rfl)
theorem dX11_settles_52 : decode cX11_settles 52 = .ok (.iload 5, 2) := dk_21 5 (dk_at dksX11_settles_2 6 rfl rfl)
theorem dX11_settles_54 : decode cX11_settles 54 = .ok (.aaload, 1) := dk_50 (dk_at dksX11_settles_2 8 rfl rfl)
theorem dX11_settles_55 : decode cX11_settles 55 = .ok (.iload 4, 2) := dk_21 4 (dk_at dksX11_settles_2 9 rfl rfl)
theorem dX11_settles_57 : decode cX11_settles 57 = .ok (.iaload, 1) := dk_46 (dk_at dksX11_settles_2 11 rfl rfl)
theorem dX11_settles_58 : decode cX11_settles 58 = .ok (.istore 7, 2) := dk_54 7 (dk_at dksX11_settles_2 12 rfl rfl)
theorem dX11_settles_60 : decode cX11_settles 60 = .ok (.aload 6, 2) := dk_25 6 (dk_at dksX11_settles_2 14 rfl rfl)
theorem dX11_settles_62 : decode cX11_settles 62 = .ok (.iload_n 3, 1) := dk_29 (dk_at dksX11_settles_2 16 rfl rfl)
theorem dX11_settles_63 : decode cX11_settles 63 = .ok (.iload 4, 2) := dk_21 4 (dk_at dksX11_settles_2 17 rfl rfl)
theorem dX11_settles_65 : decode cX11_settles 65 = .ok (.iadd, 1) := dk_96 (dk_at dksX11_settles_2 19 rfl rfl)
theorem dX11_settles_66 : decode cX11_settles 66 = .ok (.invokevirtual 72, 3) := dk_182 0 72 (dk_at dksX11_settles_2 20 rfl rfl)
theorem dX11_settles_69 : decode cX11_settles 69 = .ok (.iload 5, 2) := dk_21 5 (dk_at dksX11_settles_3 0 rfl rfl)
theorem dX11_settles_71 : decode cX11_settles 71 = .ok (.iconst 1, 1) := dk_4 (dk_at dksX11_settles_3 2 rfl rfl)
theorem dX11_settles_72 : decode cX11_settles 72 = .ok (.iadd, 1) := dk_96 (dk_at dksX11_settles_3 3 rfl rfl)
theorem dX11_settles_73 : decode cX11_settles 73 = .ok (.iload_n 1, 1) := dk_27 (dk_at dksX11_settles_3 4 rfl rfl)
theorem dX11_settles_74 : decode cX11_settles 74 = .ok (.if_icmp .ge 21, 3) := dk_162 0 21 (dk_at dksX11_settles_3 5 rfl rfl)
theorem dX11_settles_77 : decode cX11_settles 77 = .ok (.aload_n 0, 1) := dk_42 (dk_at dksX11_settles_3 8 rfl rfl)
theorem dX11_settles_78 : decode cX11_settles 78 = .ok (.getfield 1, 3) := dk_180 0 1 (dk_at dksX11_settles_3 9 rfl rfl)
theorem dX11_settles_81 : decode cX11_settles 81 = .ok (.getfield 76, 3) := dk_180 0 76 (dk_at dksX11_settles_3 12 rfl rfl)
theorem dX11_settles_84 : decode cX11_settles 84 = .ok (.iload 5, 2) := dk_21 5 (dk_at dksX11_settles_3 15 rfl rfl)
theorem dX11_settles_86 : decode cX11_settles 86 = .ok (.iconst 1, 1) := dk_4 (dk_at dksX11_settles_3 17 rfl rfl)
theorem dX11_settles_87 : decode cX11_settles 87 = .ok (.iadd, 1) := dk_96 (dk_at dksX11_settles_3 18 rfl rfl)
theorem dX11_settles_88 : decode cX11_settles 88 = .ok (.aaload, 1) := dk_50 (dk_at dksX11_settles_3 19 rfl rfl)
theorem dX11_settles_89 : decode cX11_settles 89 = .ok (.iload 4, 2) := dk_21 4 (dk_at dksX11_settles_3 20 rfl rfl)
theorem dX11_settles_91 : decode cX11_settles 91 = .ok (.iaload, 1) := dk_46 (dk_at dksX11_settles_3 22 rfl rfl)
theorem dX11_settles_92 : decode cX11_settles 92 = .ok (.goto 4, 3) := dk_167 0 4 (dk_at dksX11_settles_4 0 rfl rfl)
theorem dX11_settles_95 : decode cX11_settles 95 = .ok (.iconst 0, 1) := dk_3 (dk_at dksX11_settles_4 3 rfl rfl)
theorem dX11_settles_96 : decode cX11_settles 96 = .ok (.iadd, 1) := dk_96 (dk_at dksX11_settles_4 4 rfl rfl)
theorem dX11_settles_97 : decode cX11_settles 97 = .ok (.iload 7, 2) := dk_21 7 (dk_at dksX11_settles_4 5 rfl rfl)
theorem dX11_settles_99 : decode cX11_settles 99 = .ok (.if_icmp .eq 9, 3) := dk_159 0 9 (dk_at dksX11_settles_4 7 rfl rfl)
theorem dX11_settles_102 : decode cX11_settles 102 = .ok (.iinc 4 1, 3) := dk_132 4 1 (dk_at dksX11_settles_4 10 rfl rfl)
theorem dX11_settles_105 : decode cX11_settles 105 = .ok (.goto (-45), 3) := dk_167 255 211 (dk_at dksX11_settles_4 13 rfl rfl)
theorem dX11_settles_108 : decode cX11_settles 108 = .ok (.aload 6, 2) := dk_25 6 (dk_at dksX11_settles_4 16 rfl rfl)
theorem dX11_settles_110 : decode cX11_settles 110 = .ok (.aload_n 0, 1) := dk_42 (dk_at dksX11_settles_4 18 rfl rfl)
theorem dX11_settles_111 : decode cX11_settles 111 = .ok (.getfield 20, 3) := dk_180 0 20 (dk_at dksX11_settles_4 19 rfl rfl)
theorem dX11_settles_114 : decode cX11_settles 114 = .ok (.iload_n 3, 1) := dk_29 (dk_at dksX11_settles_4 22 rfl rfl)
theorem dX11_settles_115 : decode cX11_settles 115 = .ok (.iload 4, 2) := dk_21 4 (dk_at dksX11_settles_5 0 rfl rfl)
theorem dX11_settles_117 : decode cX11_settles 117 = .ok (.iadd, 1) := dk_96 (dk_at dksX11_settles_5 2 rfl rfl)
theorem dX11_settles_118 : decode cX11_settles 118 = .ok (.invokevirtual 89, 3) := dk_182 0 89 (dk_at dksX11_settles_5 3 rfl rfl)
theorem dX11_settles_121 : decode cX11_settles 121 = .ok (.iload_n 3, 1) := dk_29 (dk_at dksX11_settles_5 6 rfl rfl)
theorem dX11_settles_122 : decode cX11_settles 122 = .ok (.aload 6, 2) := dk_25 6 (dk_at dksX11_settles_5 7 rfl rfl)
theorem dX11_settles_124 : decode cX11_settles 124 = .ok (.getfield 69, 3) := dk_180 0 69 (dk_at dksX11_settles_5 9 rfl rfl)
theorem dX11_settles_127 : decode cX11_settles 127 = .ok (.iadd, 1) := dk_96 (dk_at dksX11_settles_5 12 rfl rfl)
theorem dX11_settles_128 : decode cX11_settles 128 = .ok (.istore_n 3, 1) := dk_62 (dk_at dksX11_settles_5 13 rfl rfl)
theorem dX11_settles_129 : decode cX11_settles 129 = .ok (.iinc 5 1, 3) := dk_132 5 1 (dk_at dksX11_settles_5 14 rfl rfl)
theorem dX11_settles_132 : decode cX11_settles 132 = .ok (.goto (-107), 3) := dk_167 255 149 (dk_at dksX11_settles_5 17 rfl rfl)
theorem dX11_settles_135 : decode cX11_settles 135 = .ok (.return_, 1) := dk_177 (dk_at dksX11_settles_5 20 rfl rfl)
theorem q151 : (Jvm.Cond.initialized "CellRows$Run") ∈ lw_all := lw_g (lw_at lw_m1 15 rfl) rfl
theorem q230 : (Jvm.Cond.fieldLinkNest "CellRows$Run" (69 : Nat) "CellRows$Cell" "width" "I" "CellRows") ∈ lw_tbl := lw_at lw_m1 94 rfl
theorem q248 : (Jvm.Cond.fieldLinkNest "CellRows$Run" (53 : Nat) "CellRows$Cell" "row" "I" "CellRows") ∈ lw_tbl := lw_at lw_m1 112 rfl
theorem q254 : (Jvm.Cond.fieldLinkNest "CellRows$Run" (54 : Nat) "CellRows$Cell" "site" "I" "CellRows") ∈ lw_tbl := lw_at lw_m1 118 rfl
theorem q336 : (Jvm.Cond.fieldLinkNest "CellRows$Run" (43 : Nat) "CellRows$Chip" "cell" "[LCellRows$Cell;" "CellRows") ∈ lw_tbl := lw_at lw_m1 200 rfl
theorem q349 : (Jvm.Cond.fieldLinkNest "CellRows$Run" (39 : Nat) "CellRows$Chip" "cells" "I" "CellRows") ∈ lw_tbl := lw_at lw_m1 213 rfl
theorem q394 : (Jvm.Cond.fieldLinkNest "CellRows$Run" (33 : Nat) "CellRows" "chip" "LCellRows$Chip;" "CellRows") ∈ lw_tbl := lw_at lw_m2 18 rfl
theorem q409 : (Jvm.Cond.fieldLinkNest "CellRows$Run" (76 : Nat) "CellRows" "from" "[[I" "CellRows") ∈ lw_tbl := lw_at lw_m2 33 rfl
theorem q950 : (Jvm.Cond.instantiable "CellRows$Run" (6 : Nat)) ∈ lw_all := lw_g (lw_at lw_m4 94 rfl) rfl
theorem q952 : (Jvm.Cond.instanceMethod ({ cls := "CellRows$Run", name := "<init>", desc := "(LCellRows;IIII)V" } : Jvm.MethodName)) ∈ lw_all := lw_g (lw_at lw_m4 96 rfl) rfl
theorem q953 : (Jvm.Cond.code ({ cls := "CellRows$Run", name := "<init>", desc := "(LCellRows;IIII)V" } : Jvm.MethodName) prog_13_method_1_code (6 : Nat) (Option.none : Option Jvm.ClassFile.FieldType)) ∈ lw_all := lw_g (lw_at lw_m4 97 rfl) rfl
theorem q954 : (Jvm.Cond.methodLink "CellRows$Run" (7 : Nat) ({ cls := "java/lang/Object", name := "<init>", desc := "()V" } : Jvm.MethodName)) ∈ lw_all := lw_g (lw_at lw_m4 98 rfl) rfl
theorem q955 : (Jvm.Cond.classLink "CellRows$Run" (13 : Nat) "java/util/ArrayList") ∈ lw_all := lw_g (lw_at lw_m4 99 rfl) rfl
theorem q956 : (Jvm.Cond.methodLink "CellRows$Run" (15 : Nat) ({ cls := "java/util/ArrayList", name := "<init>", desc := "()V" } : Jvm.MethodName)) ∈ lw_all := lw_g (lw_at lw_m4 100 rfl) rfl
theorem q957 : (Jvm.Cond.fieldLink "CellRows$Run" (20 : Nat) "CellRows$Run" "row" "I") ∈ lw_all := lw_g (lw_at lw_m4 101 rfl) rfl
theorem q958 : (Jvm.Cond.fieldLink "CellRows$Run" (24 : Nat) "CellRows$Run" "fence" "I") ∈ lw_all := lw_g (lw_at lw_m4 102 rfl) rfl
theorem q960 : (Jvm.Cond.fieldLink "CellRows$Run" (27 : Nat) "CellRows$Run" "first" "I") ∈ lw_all := lw_g (lw_at lw_m4 104 rfl) rfl
theorem q962 : (Jvm.Cond.fieldLink "CellRows$Run" (30 : Nat) "CellRows$Run" "length" "I") ∈ lw_all := lw_g (lw_at lw_m4 106 rfl) rfl
theorem q964 : (Jvm.Cond.fieldLink "CellRows$Run" (16 : Nat) "CellRows$Run" "cells" "Ljava/util/ArrayList;") ∈ lw_all := lw_g (lw_at lw_m4 108 rfl) rfl
theorem q966 : (Jvm.Cond.fieldLink "CellRows$Run" (1 : Nat) "CellRows$Run" "this$0" "LCellRows;") ∈ lw_all := lw_g (lw_at lw_m4 110 rfl) rfl
theorem q967 : (Jvm.Cond.laysFinal "CellRows$Run" "CellRows$Run" "row" "I") ∈ lw_all := lw_g (lw_at lw_m4 111 rfl) rfl
theorem q968 : (Jvm.Cond.soleField "CellRows$Run" "row") ∈ lw_all := lw_g (lw_at lw_m4 112 rfl) rfl
theorem q969 : (Jvm.Cond.laysFinal "CellRows$Run" "CellRows$Run" "fence" "I") ∈ lw_all := lw_g (lw_at lw_m4 113 rfl) rfl
theorem q970 : (Jvm.Cond.soleField "CellRows$Run" "fence") ∈ lw_all := lw_g (lw_at lw_m4 114 rfl) rfl
theorem q971 : (Jvm.Cond.laysFinal "CellRows$Run" "CellRows$Run" "first" "I") ∈ lw_all := lw_g (lw_at lw_m4 115 rfl) rfl
theorem q972 : (Jvm.Cond.soleField "CellRows$Run" "first") ∈ lw_all := lw_g (lw_at lw_m4 116 rfl) rfl
theorem q973 : (Jvm.Cond.laysFinal "CellRows$Run" "CellRows$Run" "length" "I") ∈ lw_all := lw_g (lw_at lw_m4 117 rfl) rfl
theorem q974 : (Jvm.Cond.soleField "CellRows$Run" "length") ∈ lw_all := lw_g (lw_at lw_m4 118 rfl) rfl
theorem q975 : (Jvm.Cond.laysFinal "CellRows$Run" "CellRows$Run" "cells" "Ljava/util/ArrayList;") ∈ lw_all := lw_g (lw_at lw_m4 119 rfl) rfl
theorem q976 : (Jvm.Cond.soleField "CellRows$Run" "cells") ∈ lw_all := lw_g (lw_at lw_m4 120 rfl) rfl
theorem q977 : (Jvm.Cond.laysFinal "CellRows$Run" "CellRows$Run" "this$0" "LCellRows;") ∈ lw_all := lw_g (lw_at lw_m4 121 rfl) rfl
theorem q978 : (Jvm.Cond.soleField "CellRows$Run" "this$0") ∈ lw_all := lw_g (lw_at lw_m4 122 rfl) rfl
theorem q979 : (Jvm.Cond.superclass "CellRows$Run" "java/lang/Object") ∈ lw_all := lw_g (lw_at lw_m4 123 rfl) rfl
theorem q1020 : (Jvm.Cond.selects "CellRows$Run" ({ cls := "java/lang/Object", name := "getClass", desc := "()Ljava/lang/Class;" } : Jvm.MethodName) ({ cls := "java/lang/Object", name := "getClass", desc := "()Ljava/lang/Class;" } : Jvm.MethodName)) ∈ lw_all := lw_g (lw_at lw_m4 164 rfl) rfl
theorem q1070 : (Jvm.Cond.instanceMethod ({ cls := "CellRows$Run", name := "fills", desc := "()LCellRows$Run;" } : Jvm.MethodName)) ∈ lw_all := lw_g (lw_at lw_m4 214 rfl) rfl
theorem q1071 : (Jvm.Cond.selects "CellRows$Run" ({ cls := "CellRows$Run", name := "fills", desc := "()LCellRows$Run;" } : Jvm.MethodName) ({ cls := "CellRows$Run", name := "fills", desc := "()LCellRows$Run;" } : Jvm.MethodName)) ∈ lw_all := lw_g (lw_at lw_m4 215 rfl) rfl
theorem q1072 : (Jvm.Cond.code ({ cls := "CellRows$Run", name := "fills", desc := "()LCellRows$Run;" } : Jvm.MethodName) prog_13_method_2_code (3 : Nat) (Option.some (Jvm.ClassFile.FieldType.object "CellRows$Run"))) ∈ lw_all := lw_g (lw_at lw_m4 216 rfl) rfl
theorem q1073 : (Jvm.Cond.methodLink "CellRows$Run" (47 : Nat) ({ cls := "CellRows$Cell", name := "isMoved", desc := "()Z" } : Jvm.MethodName)) ∈ lw_all := lw_g (lw_at lw_m4 217 rfl) rfl
theorem q1074 : (Jvm.Cond.methodLink "CellRows$Run" (57 : Nat) ({ cls := "java/util/ArrayList", name := "add", desc := "(Ljava/lang/Object;)Z" } : Jvm.MethodName)) ∈ lw_all := lw_g (lw_at lw_m4 218 rfl) rfl
theorem q1093 : (Jvm.Cond.instanceMethod ({ cls := "CellRows$Run", name := "free", desc := "()I" } : Jvm.MethodName)) ∈ lw_all := lw_g (lw_at lw_m4 237 rfl) rfl
theorem q1094 : (Jvm.Cond.selects "CellRows$Run" ({ cls := "CellRows$Run", name := "free", desc := "()I" } : Jvm.MethodName) ({ cls := "CellRows$Run", name := "free", desc := "()I" } : Jvm.MethodName)) ∈ lw_all := lw_g (lw_at lw_m4 238 rfl) rfl
theorem q1095 : (Jvm.Cond.code ({ cls := "CellRows$Run", name := "free", desc := "()I" } : Jvm.MethodName) prog_13_method_3_code (3 : Nat) (Option.some Jvm.ClassFile.FieldType.int)) ∈ lw_all := lw_g (lw_at lw_m4 239 rfl) rfl
theorem q1096 : (Jvm.Cond.methodLink "CellRows$Run" (61 : Nat) ({ cls := "java/util/ArrayList", name := "size", desc := "()I" } : Jvm.MethodName)) ∈ lw_all := lw_g (lw_at lw_m5 0 rfl) rfl
theorem q1097 : (Jvm.Cond.methodLink "CellRows$Run" (65 : Nat) ({ cls := "java/util/ArrayList", name := "get", desc := "(I)Ljava/lang/Object;" } : Jvm.MethodName)) ∈ lw_all := lw_g (lw_at lw_m5 1 rfl) rfl
theorem q1098 : (Jvm.Cond.classLink "CellRows$Run" (48 : Nat) "CellRows$Cell") ∈ lw_all := lw_g (lw_at lw_m5 2 rfl) rfl
theorem q1100 : (Jvm.Cond.instanceMethod ({ cls := "CellRows$Run", name := "costWith", desc := "(LCellRows$Cell;)I" } : Jvm.MethodName)) ∈ lw_all := lw_g (lw_at lw_m5 4 rfl) rfl
theorem q1101 : (Jvm.Cond.selects "CellRows$Run" ({ cls := "CellRows$Run", name := "costWith", desc := "(LCellRows$Cell;)I" } : Jvm.MethodName) ({ cls := "CellRows$Run", name := "costWith", desc := "(LCellRows$Cell;)I" } : Jvm.MethodName)) ∈ lw_all := lw_g (lw_at lw_m5 5 rfl) rfl
theorem q1102 : (Jvm.Cond.code ({ cls := "CellRows$Run", name := "costWith", desc := "(LCellRows$Cell;)I" } : Jvm.MethodName) prog_13_method_6_code (4 : Nat) (Option.some Jvm.ClassFile.FieldType.int)) ∈ lw_all := lw_g (lw_at lw_m5 6 rfl) rfl
theorem q1103 : (Jvm.Cond.methodLink "CellRows$Run" (86 : Nat) ({ cls := "CellRows$Run", name := "least", desc := "(I)I" } : Jvm.MethodName)) ∈ lw_all := lw_g (lw_at lw_m5 7 rfl) rfl
theorem q1104 : (Jvm.Cond.instanceMethod ({ cls := "CellRows$Run", name := "least", desc := "(I)I" } : Jvm.MethodName)) ∈ lw_all := lw_g (lw_at lw_m5 8 rfl) rfl
theorem q1105 : (Jvm.Cond.selects "CellRows$Run" ({ cls := "CellRows$Run", name := "least", desc := "(I)I" } : Jvm.MethodName) ({ cls := "CellRows$Run", name := "least", desc := "(I)I" } : Jvm.MethodName)) ∈ lw_all := lw_g (lw_at lw_m5 9 rfl) rfl
theorem q1106 : (Jvm.Cond.code ({ cls := "CellRows$Run", name := "least", desc := "(I)I" } : Jvm.MethodName) prog_13_method_4_code (8 : Nat) (Option.some Jvm.ClassFile.FieldType.int)) ∈ lw_all := lw_g (lw_at lw_m5 10 rfl) rfl
theorem q1107 : (Jvm.Cond.methodLink "CellRows$Run" (72 : Nat) ({ cls := "CellRows$Cell", name := "farAt", desc := "(I)I" } : Jvm.MethodName)) ∈ lw_all := lw_g (lw_at lw_m5 11 rfl) rfl
theorem q1112 : (Jvm.Cond.methodLink "CellRows$Run" (80 : Nat) ({ cls := "java/lang/Math", name := "min", desc := "(II)I" } : Jvm.MethodName)) ∈ lw_all := lw_g (lw_at lw_m5 16 rfl) rfl
theorem q1113 : (Jvm.Cond.methodLink "CellRows$Run" (93 : Nat) ({ cls := "java/util/ArrayList", name := "remove", desc := "(I)Ljava/lang/Object;" } : Jvm.MethodName)) ∈ lw_all := lw_g (lw_at lw_m5 17 rfl) rfl
theorem q1121 : (Jvm.Cond.methodLink "CellRows$Run" (96 : Nat) ({ cls := "CellRows$Cell", name := "highAt", desc := "(I)I" } : Jvm.MethodName)) ∈ lw_all := lw_g (lw_at lw_m5 25 rfl) rfl
theorem q1126 : (Jvm.Cond.instanceMethod ({ cls := "CellRows$Run", name := "settles", desc := "()V" } : Jvm.MethodName)) ∈ lw_all := lw_g (lw_at lw_m5 30 rfl) rfl
theorem q1127 : (Jvm.Cond.selects "CellRows$Run" ({ cls := "CellRows$Run", name := "settles", desc := "()V" } : Jvm.MethodName) ({ cls := "CellRows$Run", name := "settles", desc := "()V" } : Jvm.MethodName)) ∈ lw_all := lw_g (lw_at lw_m5 31 rfl) rfl
theorem q1128 : (Jvm.Cond.code ({ cls := "CellRows$Run", name := "settles", desc := "()V" } : Jvm.MethodName) prog_13_method_5_code (8 : Nat) (Option.none : Option Jvm.ClassFile.FieldType)) ∈ lw_all := lw_g (lw_at lw_m5 32 rfl) rfl
theorem q1129 : (Jvm.Cond.methodLink "CellRows$Run" (89 : Nat) ({ cls := "CellRows$Cell", name := "comes", desc := "(II)V" } : Jvm.MethodName)) ∈ lw_all := lw_g (lw_at lw_m5 33 rfl) rfl
theorem q2066 : (Jvm.Cond.castable "CellRows$Run" "java/lang/Object") ∈ lw_tbl := lw_at lw_m9 10 rfl
theorem in_X11 : ∀ w ∈ wsX110, w ∈ lw_all := lw_in wsX110 [967, 969, 971, 973, 975, 977] (by decide +kernel) (by decide +kernel)
/-! CellRows$Orders -/
set_option maxRecDepth 100000
def RX12 : String := "CellRows$Orders"
abbrev cX12_init : ByteArray := prog_10_method_1_code
def yX12_init : MethodName := ⟨RX12, "<init>", "(LCellRows;I)V"⟩
def dkwX12_init_1 : List UInt8 := [28, 188, 4, 181, 0, 22, 177]
abbrev dktX12_init_1 : List UInt8 := dkwX12_init_1 ++ []
def dkwX12_init_0 : List UInt8 := [42, 43, 181, 0, 3, 42, 183, 0, 9, 42, 28, 188, 10, 181, 0, 15, 42, 28, 188, 10, 181, 0, 19, 42]
abbrev dktX12_init_0 : List UInt8 := dkwX12_init_0 ++ dktX12_init_1
theorem dksX12_init_0 : cX12_init.data.toList.drop 0 = dktX12_init_0 := by decide +kernel
theorem dksX12_init_1 : cX12_init.data.toList.drop 24 = dktX12_init_1 := dk_seg dksX12_init_0 24 rfl rfl
theorem dX12_init_0 : decode cX12_init 0 = .ok (.aload_n 0, 1) := dk_42 (dk_at dksX12_init_0 0 rfl rfl)
theorem dX12_init_1 : decode cX12_init 1 = .ok (.aload_n 1, 1) := dk_43 (dk_at dksX12_init_0 1 rfl rfl)
theorem dX12_init_2 : decode cX12_init 2 = .ok (.putfield 3, 3) := dk_181 0 3 (dk_at dksX12_init_0 2 rfl rfl)
theorem dX12_init_5 : decode cX12_init 5 = .ok (.aload_n 0, 1) := dk_42 (dk_at dksX12_init_0 5 rfl rfl)
theorem dX12_init_6 : decode cX12_init 6 = .ok (.invokespecial 9, 3) := dk_183 0 9 (dk_at dksX12_init_0 6 rfl rfl)
theorem dX12_init_9 : decode cX12_init 9 = .ok (.aload_n 0, 1) := dk_42 (dk_at dksX12_init_0 9 rfl rfl)
theorem dX12_init_10 : decode cX12_init 10 = .ok (.iload_n 2, 1) := dk_28 (dk_at dksX12_init_0 10 rfl rfl)
theorem dX12_init_11 : decode cX12_init 11 = .ok (.newarray .int, 2) := dk_188_10 (dk_at dksX12_init_0 11 rfl rfl)
theorem dX12_init_13 : decode cX12_init 13 = .ok (.putfield 15, 3) := dk_181 0 15 (dk_at dksX12_init_0 13 rfl rfl)
theorem dX12_init_16 : decode cX12_init 16 = .ok (.aload_n 0, 1) := dk_42 (dk_at dksX12_init_0 16 rfl rfl)
theorem dX12_init_17 : decode cX12_init 17 = .ok (.iload_n 2, 1) := dk_28 (dk_at dksX12_init_0 17 rfl rfl)
theorem dX12_init_18 : decode cX12_init 18 = .ok (.newarray .int, 2) := dk_188_10 (dk_at dksX12_init_0 18 rfl rfl)
theorem dX12_init_20 : decode cX12_init 20 = .ok (.putfield 19, 3) := dk_181 0 19 (dk_at dksX12_init_0 20 rfl rfl)
theorem dX12_init_23 : decode cX12_init 23 = .ok (.aload_n 0, 1) := dk_42 (dk_at dksX12_init_0 23 rfl rfl)
theorem dX12_init_24 : decode cX12_init 24 = .ok (.iload_n 2, 1) := dk_28 (dk_at dksX12_init_1 0 rfl rfl)
theorem dX12_init_25 : decode cX12_init 25 = .ok (.newarray .boolean, 2) := dk_188_4 (dk_at dksX12_init_1 1 rfl rfl)
theorem dX12_init_27 : decode cX12_init 27 = .ok (.putfield 22, 3) := dk_181 0 22 (dk_at dksX12_init_1 3 rfl rfl)
theorem dX12_init_30 : decode cX12_init 30 = .ok (.return_, 1) := dk_177 (dk_at dksX12_init_1 6 rfl rfl)
abbrev cX12_finds : ByteArray := prog_10_method_4_code
def yX12_finds : MethodName := ⟨RX12, "finds", "()V"⟩
def dkwX12_finds_0 : List UInt8 := [42, 18, 48, 181, 0, 34, 42, 3, 182, 0, 44, 42, 42, 180, 0, 19, 182, 0, 26, 177]
abbrev dktX12_finds_0 : List UInt8 := dkwX12_finds_0 ++ []
theorem dksX12_finds_0 : cX12_finds.data.toList.drop 0 = dktX12_finds_0 := by decide +kernel
theorem dX12_finds_0 : decode cX12_finds 0 = .ok (.aload_n 0, 1) := dk_42 (dk_at dksX12_finds_0 0 rfl rfl)
theorem dX12_finds_1 : decode cX12_finds 1 = .ok (.ldc 48, 2) := dk_18 48 (dk_at dksX12_finds_0 1 rfl rfl)
theorem dX12_finds_3 : decode cX12_finds 3 = .ok (.putfield 34, 3) := dk_181 0 34 (dk_at dksX12_finds_0 3 rfl rfl)
theorem dX12_finds_6 : decode cX12_finds 6 = .ok (.aload_n 0, 1) := dk_42 (dk_at dksX12_finds_0 6 rfl rfl)
theorem dX12_finds_7 : decode cX12_finds 7 = .ok (.iconst 0, 1) := dk_3 (dk_at dksX12_finds_0 7 rfl rfl)
theorem dX12_finds_8 : decode cX12_finds 8 = .ok (.invokevirtual 44, 3) := dk_182 0 44 (dk_at dksX12_finds_0 8 rfl rfl)
theorem dX12_finds_11 : decode cX12_finds 11 = .ok (.aload_n 0, 1) := dk_42 (dk_at dksX12_finds_0 11 rfl rfl)
theorem dX12_finds_12 : decode cX12_finds 12 = .ok (.aload_n 0, 1) := dk_42 (dk_at dksX12_finds_0 12 rfl rfl)
theorem dX12_finds_13 : decode cX12_finds 13 = .ok (.getfield 19, 3) := dk_180 0 19 (dk_at dksX12_finds_0 13 rfl rfl)
theorem dX12_finds_16 : decode cX12_finds 16 = .ok (.invokevirtual 26, 3) := dk_182 0 26 (dk_at dksX12_finds_0 16 rfl rfl)
theorem dX12_finds_19 : decode cX12_finds 19 = .ok (.return_, 1) := dk_177 (dk_at dksX12_finds_0 19 rfl rfl)
abbrev cX12_walks : ByteArray := prog_10_method_3_code
def yX12_walks : MethodName := ⟨RX12, "walks", "(I)V"⟩
def dkwX12_walks_4 : List UInt8 := [182, 0, 44, 42, 180, 0, 22, 28, 3, 84, 132, 2, 1, 167, 255, 204, 177]
abbrev dktX12_walks_4 : List UInt8 := dkwX12_walks_4 ++ []
def dkwX12_walks_3 : List UInt8 := [153, 0, 6, 167, 0, 31, 42, 180, 0, 22, 28, 4, 84, 42, 180, 0, 15, 27, 28, 79, 42, 27, 4, 96]
abbrev dktX12_walks_3 : List UInt8 := dkwX12_walks_3 ++ dktX12_walks_4
def dkwX12_walks_2 : List UInt8 := [3, 27, 184, 0, 38, 177, 3, 61, 28, 42, 180, 0, 15, 190, 162, 0, 49, 42, 180, 0, 22, 28, 51]
abbrev dktX12_walks_2 : List UInt8 := dkwX12_walks_2 ++ dktX12_walks_3
def dkwX12_walks_1 : List UInt8 := [61, 28, 42, 180, 0, 34, 161, 0, 4, 177, 42, 28, 181, 0, 34, 42, 180, 0, 15, 3, 42, 180, 0, 19]
abbrev dktX12_walks_1 : List UInt8 := dkwX12_walks_1 ++ dktX12_walks_2
def dkwX12_walks_0 : List UInt8 := [27, 42, 180, 0, 15, 190, 160, 0, 48, 42, 42, 180, 0, 15, 182, 0, 26, 42, 180, 0, 3, 182, 0, 30]
abbrev dktX12_walks_0 : List UInt8 := dkwX12_walks_0 ++ dktX12_walks_1
theorem dksX12_walks_0 : cX12_walks.data.toList.drop 0 = dktX12_walks_0 := by decide +kernel
theorem dksX12_walks_1 : cX12_walks.data.toList.drop 24 = dktX12_walks_1 := dk_seg dksX12_walks_0 24 rfl rfl
theorem dksX12_walks_2 : cX12_walks.data.toList.drop 48 = dktX12_walks_2 := dk_seg dksX12_walks_1 24 rfl rfl
theorem dksX12_walks_3 : cX12_walks.data.toList.drop 71 = dktX12_walks_3 := dk_seg dksX12_walks_2 23 rfl rfl
theorem dksX12_walks_4 : cX12_walks.data.toList.drop 95 = dktX12_walks_4 := dk_seg dksX12_walks_3 24 rfl rfl
theorem dX12_walks_0 : decode cX12_walks 0 = .ok (.iload_n 1, 1) := dk_27 (dk_at dksX12_walks_0 0 rfl rfl)
theorem dX12_walks_1 : decode cX12_walks 1 = .ok (.aload_n 0, 1) := dk_42 (dk_at dksX12_walks_0 1 rfl rfl)
theorem dX12_walks_2 : decode cX12_walks 2 = .ok (.getfield 15, 3) := dk_180 0 15 (dk_at dksX12_walks_0 2 rfl rfl)
theorem dX12_walks_5 : decode cX12_walks 5 = .ok (.arraylength, 1) := dk_190 (dk_at dksX12_walks_0 5 rfl rfl)
theorem dX12_walks_6 : decode cX12_walks 6 = .ok (.if_icmp .ne 48, 3) := dk_160 0 48 (dk_at dksX12_walks_0 6 rfl rfl)
theorem dX12_walks_9 : decode cX12_walks 9 = .ok (.aload_n 0, 1) := dk_42 (dk_at dksX12_walks_0 9 rfl rfl)
theorem dX12_walks_10 : decode cX12_walks 10 = .ok (.aload_n 0, 1) := dk_42 (dk_at dksX12_walks_0 10 rfl rfl)
theorem dX12_walks_11 : decode cX12_walks 11 = .ok (.getfield 15, 3) := dk_180 0 15 (dk_at dksX12_walks_0 11 rfl rfl)
theorem dX12_walks_14 : decode cX12_walks 14 = .ok (.invokevirtual 26, 3) := dk_182 0 26 (dk_at dksX12_walks_0 14 rfl rfl)
theorem dX12_walks_17 : decode cX12_walks 17 = .ok (.aload_n 0, 1) := dk_42 (dk_at dksX12_walks_0 17 rfl rfl)
theorem dX12_walks_18 : decode cX12_walks 18 = .ok (.getfield 3, 3) := dk_180 0 3 (dk_at dksX12_walks_0 18 rfl rfl)
theorem dX12_walks_21 : decode cX12_walks 21 = .ok (.invokevirtual 30, 3) := dk_182 0 30 (dk_at dksX12_walks_0 21 rfl rfl)
theorem dX12_walks_24 : decode cX12_walks 24 = .ok (.istore_n 2, 1) := dk_61 (dk_at dksX12_walks_1 0 rfl rfl)
theorem dX12_walks_25 : decode cX12_walks 25 = .ok (.iload_n 2, 1) := dk_28 (dk_at dksX12_walks_1 1 rfl rfl)
theorem dX12_walks_26 : decode cX12_walks 26 = .ok (.aload_n 0, 1) := dk_42 (dk_at dksX12_walks_1 2 rfl rfl)
theorem dX12_walks_27 : decode cX12_walks 27 = .ok (.getfield 34, 3) := dk_180 0 34 (dk_at dksX12_walks_1 3 rfl rfl)
theorem dX12_walks_30 : decode cX12_walks 30 = .ok (.if_icmp .lt 4, 3) := dk_161 0 4 (dk_at dksX12_walks_1 6 rfl rfl)
theorem dX12_walks_33 : decode cX12_walks 33 = .ok (.return_, 1) := dk_177 (dk_at dksX12_walks_1 9 rfl rfl)
theorem dX12_walks_34 : decode cX12_walks 34 = .ok (.aload_n 0, 1) := dk_42 (dk_at dksX12_walks_1 10 rfl rfl)
theorem dX12_walks_35 : decode cX12_walks 35 = .ok (.iload_n 2, 1) := dk_28 (dk_at dksX12_walks_1 11 rfl rfl)
theorem dX12_walks_36 : decode cX12_walks 36 = .ok (.putfield 34, 3) := dk_181 0 34 (dk_at dksX12_walks_1 12 rfl rfl)
theorem dX12_walks_39 : decode cX12_walks 39 = .ok (.aload_n 0, 1) := dk_42 (dk_at dksX12_walks_1 15 rfl rfl)
theorem dX12_walks_40 : decode cX12_walks 40 = .ok (.getfield 15, 3) := dk_180 0 15 (dk_at dksX12_walks_1 16 rfl rfl)
theorem dX12_walks_43 : decode cX12_walks 43 = .ok (.iconst 0, 1) := dk_3 (dk_at dksX12_walks_1 19 rfl rfl)
theorem dX12_walks_44 : decode cX12_walks 44 = .ok (.aload_n 0, 1) := dk_42 (dk_at dksX12_walks_1 20 rfl rfl)
theorem dX12_walks_45 : decode cX12_walks 45 = .ok (.getfield 19, 3) := dk_180 0 19 (dk_at dksX12_walks_1 21 rfl rfl)
theorem dX12_walks_48 : decode cX12_walks 48 = .ok (.iconst 0, 1) := dk_3 (dk_at dksX12_walks_2 0 rfl rfl)
theorem dX12_walks_49 : decode cX12_walks 49 = .ok (.iload_n 1, 1) := dk_27 (dk_at dksX12_walks_2 1 rfl rfl)
theorem dX12_walks_50 : decode cX12_walks 50 = .ok (.invokestatic 38, 3) := dk_184 0 38 (dk_at dksX12_walks_2 2 rfl rfl)
theorem dX12_walks_53 : decode cX12_walks 53 = .ok (.return_, 1) := dk_177 (dk_at dksX12_walks_2 5 rfl rfl)
theorem dX12_walks_54 : decode cX12_walks 54 = .ok (.iconst 0, 1) := dk_3 (dk_at dksX12_walks_2 6 rfl rfl)
theorem dX12_walks_55 : decode cX12_walks 55 = .ok (.istore_n 2, 1) := dk_61 (dk_at dksX12_walks_2 7 rfl rfl)
theorem dX12_walks_56 : decode cX12_walks 56 = .ok (.iload_n 2, 1) := dk_28 (dk_at dksX12_walks_2 8 rfl rfl)
theorem dX12_walks_57 : decode cX12_walks 57 = .ok (.aload_n 0, 1) := dk_42 (dk_at dksX12_walks_2 9 rfl rfl)
theorem dX12_walks_58 : decode cX12_walks 58 = .ok (.getfield 15, 3) := dk_180 0 15 (dk_at dksX12_walks_2 10 rfl rfl)
theorem dX12_walks_61 : decode cX12_walks 61 = .ok (.arraylength, 1) := dk_190 (dk_at dksX12_walks_2 13 rfl rfl)
theorem dX12_walks_62 : decode cX12_walks 62 = .ok (.if_icmp .ge 49, 3) := dk_162 0 49 (dk_at dksX12_walks_2 14 rfl rfl)
theorem dX12_walks_65 : decode cX12_walks 65 = .ok (.aload_n 0, 1) := dk_42 (dk_at dksX12_walks_2 17 rfl rfl)
theorem dX12_walks_66 : decode cX12_walks 66 = .ok (.getfield 22, 3) := dk_180 0 22 (dk_at dksX12_walks_2 18 rfl rfl)
theorem dX12_walks_69 : decode cX12_walks 69 = .ok (.iload_n 2, 1) := dk_28 (dk_at dksX12_walks_2 21 rfl rfl)
theorem dX12_walks_70 : decode cX12_walks 70 = .ok (.baload, 1) := dk_51 (dk_at dksX12_walks_2 22 rfl rfl)
theorem dX12_walks_71 : decode cX12_walks 71 = .ok (.ifCond .eq 6, 3) := dk_153 0 6 (dk_at dksX12_walks_3 0 rfl rfl)
theorem dX12_walks_74 : decode cX12_walks 74 = .ok (.goto 31, 3) := dk_167 0 31 (dk_at dksX12_walks_3 3 rfl rfl)
theorem dX12_walks_77 : decode cX12_walks 77 = .ok (.aload_n 0, 1) := dk_42 (dk_at dksX12_walks_3 6 rfl rfl)
theorem dX12_walks_78 : decode cX12_walks 78 = .ok (.getfield 22, 3) := dk_180 0 22 (dk_at dksX12_walks_3 7 rfl rfl)
theorem dX12_walks_81 : decode cX12_walks 81 = .ok (.iload_n 2, 1) := dk_28 (dk_at dksX12_walks_3 10 rfl rfl)
theorem dX12_walks_82 : decode cX12_walks 82 = .ok (.iconst 1, 1) := dk_4 (dk_at dksX12_walks_3 11 rfl rfl)
theorem dX12_walks_83 : decode cX12_walks 83 = .ok (.bastore, 1) := dk_84 (dk_at dksX12_walks_3 12 rfl rfl)
theorem dX12_walks_84 : decode cX12_walks 84 = .ok (.aload_n 0, 1) := dk_42 (dk_at dksX12_walks_3 13 rfl rfl)
theorem dX12_walks_85 : decode cX12_walks 85 = .ok (.getfield 15, 3) := dk_180 0 15 (dk_at dksX12_walks_3 14 rfl rfl)
theorem dX12_walks_88 : decode cX12_walks 88 = .ok (.iload_n 1, 1) := dk_27 (dk_at dksX12_walks_3 17 rfl rfl)
theorem dX12_walks_89 : decode cX12_walks 89 = .ok (.iload_n 2, 1) := dk_28 (dk_at dksX12_walks_3 18 rfl rfl)
theorem dX12_walks_90 : decode cX12_walks 90 = .ok (.iastore, 1) := dk_79 (dk_at dksX12_walks_3 19 rfl rfl)
theorem dX12_walks_91 : decode cX12_walks 91 = .ok (.aload_n 0, 1) := dk_42 (dk_at dksX12_walks_3 20 rfl rfl)
theorem dX12_walks_92 : decode cX12_walks 92 = .ok (.iload_n 1, 1) := dk_27 (dk_at dksX12_walks_3 21 rfl rfl)
theorem dX12_walks_93 : decode cX12_walks 93 = .ok (.iconst 1, 1) := dk_4 (dk_at dksX12_walks_3 22 rfl rfl)
theorem dX12_walks_94 : decode cX12_walks 94 = .ok (.iadd, 1) := dk_96 (dk_at dksX12_walks_3 23 rfl rfl)
theorem dX12_walks_95 : decode cX12_walks 95 = .ok (.invokevirtual 44, 3) := dk_182 0 44 (dk_at dksX12_walks_4 0 rfl rfl)
theorem dX12_walks_98 : decode cX12_walks 98 = .ok (.aload_n 0, 1) := dk_42 (dk_at dksX12_walks_4 3 rfl rfl)
theorem dX12_walks_99 : decode cX12_walks 99 = .ok (.getfield 22, 3) := dk_180 0 22 (dk_at dksX12_walks_4 4 rfl rfl)
theorem dX12_walks_102 : decode cX12_walks 102 = .ok (.iload_n 2, 1) := dk_28 (dk_at dksX12_walks_4 7 rfl rfl)
theorem dX12_walks_103 : decode cX12_walks 103 = .ok (.iconst 0, 1) := dk_3 (dk_at dksX12_walks_4 8 rfl rfl)
theorem dX12_walks_104 : decode cX12_walks 104 = .ok (.bastore, 1) := dk_84 (dk_at dksX12_walks_4 9 rfl rfl)
theorem dX12_walks_105 : decode cX12_walks 105 = .ok (.iinc 2 1, 3) := dk_132 2 1 (dk_at dksX12_walks_4 10 rfl rfl)
theorem dX12_walks_108 : decode cX12_walks 108 = .ok (.goto (-52), 3) := dk_167 255 204 (dk_at dksX12_walks_4 13 rfl rfl)
theorem dX12_walks_111 : decode cX12_walks 111 = .ok (.return_, 1) := dk_177 (dk_at dksX12_walks_4 16 rfl rfl)
theorem q157 : (Jvm.Cond.initialized "CellRows$Orders") ∈ lw_all := lw_g (lw_at lw_m1 21 rfl) rfl
theorem q1158 : (Jvm.Cond.instanceMethod ({ cls := "CellRows$Orders", name := "<init>", desc := "(LCellRows;I)V" } : Jvm.MethodName)) ∈ lw_all := lw_g (lw_at lw_m5 62 rfl) rfl
theorem q1159 : (Jvm.Cond.code ({ cls := "CellRows$Orders", name := "<init>", desc := "(LCellRows;I)V" } : Jvm.MethodName) prog_10_method_1_code (3 : Nat) (Option.none : Option Jvm.ClassFile.FieldType)) ∈ lw_all := lw_g (lw_at lw_m5 63 rfl) rfl
theorem q1160 : (Jvm.Cond.methodLink "CellRows$Orders" (9 : Nat) ({ cls := "java/lang/Object", name := "<init>", desc := "()V" } : Jvm.MethodName)) ∈ lw_all := lw_g (lw_at lw_m5 64 rfl) rfl
theorem q1167 : (Jvm.Cond.fieldLink "CellRows$Orders" (15 : Nat) "CellRows$Orders" "order" "[I") ∈ lw_all := lw_g (lw_at lw_m5 71 rfl) rfl
theorem q1168 : (Jvm.Cond.fieldLink "CellRows$Orders" (19 : Nat) "CellRows$Orders" "best" "[I") ∈ lw_all := lw_g (lw_at lw_m5 72 rfl) rfl
theorem q1169 : (Jvm.Cond.fieldLink "CellRows$Orders" (22 : Nat) "CellRows$Orders" "isTaken" "[Z") ∈ lw_all := lw_g (lw_at lw_m5 73 rfl) rfl
theorem q1170 : (Jvm.Cond.fieldLink "CellRows$Orders" (34 : Nat) "CellRows$Orders" "least" "I") ∈ lw_all := lw_g (lw_at lw_m5 74 rfl) rfl
theorem q1171 : (Jvm.Cond.fieldLink "CellRows$Orders" (3 : Nat) "CellRows$Orders" "this$0" "LCellRows;") ∈ lw_all := lw_g (lw_at lw_m5 75 rfl) rfl
theorem q1185 : (Jvm.Cond.soleField "CellRows$Orders" "order") ∈ lw_all := lw_g (lw_at lw_m5 89 rfl) rfl
theorem q1187 : (Jvm.Cond.soleField "CellRows$Orders" "best") ∈ lw_all := lw_g (lw_at lw_m5 91 rfl) rfl
theorem q1189 : (Jvm.Cond.soleField "CellRows$Orders" "isTaken") ∈ lw_all := lw_g (lw_at lw_m5 93 rfl) rfl
theorem q1191 : (Jvm.Cond.soleField "CellRows$Orders" "least") ∈ lw_all := lw_g (lw_at lw_m5 95 rfl) rfl
theorem q1193 : (Jvm.Cond.soleField "CellRows$Orders" "this$0") ∈ lw_all := lw_g (lw_at lw_m5 97 rfl) rfl
theorem q1198 : (Jvm.Cond.declares ({ cls := "CellRows$Orders", name := "finds", desc := "()V" } : Jvm.MethodName)) ∈ lw_tbl := lw_at lw_m5 102 rfl
theorem q1200 : (Jvm.Cond.instanceMethod ({ cls := "CellRows$Orders", name := "finds", desc := "()V" } : Jvm.MethodName)) ∈ lw_all := lw_g (lw_at lw_m5 104 rfl) rfl
theorem q1201 : (Jvm.Cond.code ({ cls := "CellRows$Orders", name := "finds", desc := "()V" } : Jvm.MethodName) prog_10_method_4_code (1 : Nat) (Option.none : Option Jvm.ClassFile.FieldType)) ∈ lw_all := lw_g (lw_at lw_m5 105 rfl) rfl
theorem q1202 : (Jvm.Cond.constant "CellRows$Orders" (48 : Nat) (1000000000 : Int32)) ∈ lw_all := lw_g (lw_at lw_m5 106 rfl) rfl
theorem q1203 : (Jvm.Cond.methodLink "CellRows$Orders" (44 : Nat) ({ cls := "CellRows$Orders", name := "walks", desc := "(I)V" } : Jvm.MethodName)) ∈ lw_all := lw_g (lw_at lw_m5 107 rfl) rfl
theorem q1204 : (Jvm.Cond.privateMethod ({ cls := "CellRows$Orders", name := "walks", desc := "(I)V" } : Jvm.MethodName)) ∈ lw_tbl := lw_at lw_m5 108 rfl
theorem q1205 : (Jvm.Cond.instanceMethod ({ cls := "CellRows$Orders", name := "walks", desc := "(I)V" } : Jvm.MethodName)) ∈ lw_all := lw_g (lw_at lw_m5 109 rfl) rfl
theorem q1206 : (Jvm.Cond.code ({ cls := "CellRows$Orders", name := "walks", desc := "(I)V" } : Jvm.MethodName) prog_10_method_3_code (3 : Nat) (Option.none : Option Jvm.ClassFile.FieldType)) ∈ lw_all := lw_g (lw_at lw_m5 110 rfl) rfl
theorem q1207 : (Jvm.Cond.methodLink "CellRows$Orders" (26 : Nat) ({ cls := "CellRows$Orders", name := "lays", desc := "([I)V" } : Jvm.MethodName)) ∈ lw_all := lw_g (lw_at lw_m5 111 rfl) rfl
theorem q1208 : (Jvm.Cond.declares ({ cls := "CellRows$Orders", name := "lays", desc := "([I)V" } : Jvm.MethodName)) ∈ lw_tbl := lw_at lw_m5 112 rfl
theorem q1209 : (Jvm.Cond.sameMethod "CellRows$Orders" "CellRows$Orders" "lays" "([I)V") ∈ lw_all := lw_g (lw_at lw_m5 113 rfl) rfl
theorem q1224 : (Jvm.Cond.methodLinkNest "CellRows$Orders" (30 : Nat) ({ cls := "CellRows", name := "wire", desc := "()I" } : Jvm.MethodName) "CellRows") ∈ lw_tbl := lw_at lw_m5 128 rfl
theorem q1225 : (Jvm.Cond.methodLink "CellRows$Orders" (38 : Nat) ({ cls := "java/lang/System", name := "arraycopy", desc := "(Ljava/lang/Object;ILjava/lang/Object;II)V" } : Jvm.MethodName)) ∈ lw_all := lw_g (lw_at lw_m5 129 rfl) rfl
theorem q2055 : (Jvm.Cond.sameMethod "CellRows$Orders" "CellRows$Orders" "walks" "(I)V") ∈ lw_all := lw_g (lw_at lw_m8 239 rfl) rfl
/-! CellRows$3 -/
set_option maxRecDepth 100000
def RX13 : String := "CellRows$3"
def TX13 : u_T := fun k => match k with
  | 0 => ("CellRows$Orders", "order", "[I", true)
  | 1 => ("CellRows$Orders", "best", "[I", true)
  | 2 => ("CellRows$Orders", "isTaken", "[Z", true)
  | 3 => ("CellRows$Orders", "least", "I", false)
  | 4 => ("CellRows$Orders", "this$0", "LCellRows;", true)
  | 5 => ("CellRows$3", "val$begin", "I", true)
  | 6 => ("CellRows$3", "val$was", "[LCellRows$Cell;", true)
  | 7 => ("CellRows$3", "val$gap", "[I", true)
  | 8 => ("CellRows$3", "val$cells", "Ljava/util/ArrayList;", true)
  | 9 => ("CellRows$3", "val$from", "I", true)
  | _ => ("CellRows$3", "this$0", "LCellRows;", true)
def tyX13 : Nat → FieldType := fun k => match k with
  | 0 => .array .int
  | 1 => .array .int
  | 2 => .array .boolean
  | 3 => .int
  | 4 => .object "CellRows"
  | 5 => .int
  | 6 => .array (.object "CellRows$Cell")
  | 7 => .array .int
  | 8 => .object "java/util/ArrayList"
  | 9 => .int
  | _ => .object "CellRows"
abbrev wsX130 : List Cond := u_ws RX13 TX13 11
-- two fields of one name: no nmX13
theorem tyX13_ok : ∀ k, k < 11 → parseFieldDescriptor (TX13 k).2.2.1 = some (tyX13 k) := by decide +kernel
abbrev cX13_init : ByteArray := prog_4_method_1_code
def yX13_init : MethodName := ⟨RX13, "<init>", "(LCellRows;II[LCellRows$Cell;[ILjava/util/ArrayList;I)V"⟩
def dkwX13_init_1 : List UInt8 := [25, 6, 181, 0, 19, 42, 21, 7, 181, 0, 23, 42, 43, 28, 183, 0, 26, 177]
abbrev dktX13_init_1 : List UInt8 := dkwX13_init_1 ++ []
def dkwX13_init_0 : List UInt8 := [42, 43, 181, 0, 1, 42, 29, 181, 0, 7, 42, 25, 4, 181, 0, 11, 42, 25, 5, 181, 0, 15, 42]
abbrev dktX13_init_0 : List UInt8 := dkwX13_init_0 ++ dktX13_init_1
theorem dksX13_init_0 : cX13_init.data.toList.drop 0 = dktX13_init_0 := by decide +kernel
theorem dksX13_init_1 : cX13_init.data.toList.drop 23 = dktX13_init_1 := dk_seg dksX13_init_0 23 rfl rfl
theorem dX13_init_0 : decode cX13_init 0 = .ok (.aload_n 0, 1) := dk_42 (dk_at dksX13_init_0 0 rfl rfl)
theorem dX13_init_1 : decode cX13_init 1 = .ok (.aload_n 1, 1) := dk_43 (dk_at dksX13_init_0 1 rfl rfl)
theorem dX13_init_2 : decode cX13_init 2 = .ok (.putfield 1, 3) := dk_181 0 1 (dk_at dksX13_init_0 2 rfl rfl)
theorem dX13_init_5 : decode cX13_init 5 = .ok (.aload_n 0, 1) := dk_42 (dk_at dksX13_init_0 5 rfl rfl)
theorem dX13_init_6 : decode cX13_init 6 = .ok (.iload_n 3, 1) := dk_29 (dk_at dksX13_init_0 6 rfl rfl)
theorem dX13_init_7 : decode cX13_init 7 = .ok (.putfield 7, 3) := dk_181 0 7 (dk_at dksX13_init_0 7 rfl rfl)
theorem dX13_init_10 : decode cX13_init 10 = .ok (.aload_n 0, 1) := dk_42 (dk_at dksX13_init_0 10 rfl rfl)
theorem dX13_init_11 : decode cX13_init 11 = .ok (.aload 4, 2) := dk_25 4 (dk_at dksX13_init_0 11 rfl rfl)
theorem dX13_init_13 : decode cX13_init 13 = .ok (.putfield 11, 3) := dk_181 0 11 (dk_at dksX13_init_0 13 rfl rfl)
theorem dX13_init_16 : decode cX13_init 16 = .ok (.aload_n 0, 1) := dk_42 (dk_at dksX13_init_0 16 rfl rfl)
theorem dX13_init_17 : decode cX13_init 17 = .ok (.aload 5, 2) := dk_25 5 (dk_at dksX13_init_0 17 rfl rfl)
theorem dX13_init_19 : decode cX13_init 19 = .ok (.putfield 15, 3) := dk_181 0 15 (dk_at dksX13_init_0 19 rfl rfl)
theorem dX13_init_22 : decode cX13_init 22 = .ok (.aload_n 0, 1) := dk_42 (dk_at dksX13_init_0 22 rfl rfl)
theorem dX13_init_23 : decode cX13_init 23 = .ok (.aload 6, 2) := dk_25 6 (dk_at dksX13_init_1 0 rfl rfl)
theorem dX13_init_25 : decode cX13_init 25 = .ok (.putfield 19, 3) := dk_181 0 19 (dk_at dksX13_init_1 2 rfl rfl)
theorem dX13_init_28 : decode cX13_init 28 = .ok (.aload_n 0, 1) := dk_42 (dk_at dksX13_init_1 5 rfl rfl)
theorem dX13_init_29 : decode cX13_init 29 = .ok (.iload 7, 2) := dk_21 7 (dk_at dksX13_init_1 6 rfl rfl)
theorem dX13_init_31 : decode cX13_init 31 = .ok (.putfield 23, 3) := dk_181 0 23 (dk_at dksX13_init_1 8 rfl rfl)
theorem dX13_init_34 : decode cX13_init 34 = .ok (.aload_n 0, 1) := dk_42 (dk_at dksX13_init_1 11 rfl rfl)
theorem dX13_init_35 : decode cX13_init 35 = .ok (.aload_n 1, 1) := dk_43 (dk_at dksX13_init_1 12 rfl rfl)
theorem dX13_init_36 : decode cX13_init 36 = .ok (.iload_n 2, 1) := dk_28 (dk_at dksX13_init_1 13 rfl rfl)
theorem dX13_init_37 : decode cX13_init 37 = .ok (.invokespecial 26, 3) := dk_183 0 26 (dk_at dksX13_init_1 14 rfl rfl)
theorem dX13_init_40 : decode cX13_init 40 = .ok (.return_, 1) := dk_177 (dk_at dksX13_init_1 17 rfl rfl)
abbrev cX13_lays : ByteArray := prog_4_method_2_code
def yX13_lays : MethodName := ⟨RX13, "lays", "([I)V"⟩
def dkwX13_lays_3 : List UInt8 := [167, 255, 193, 177]
abbrev dktX13_lays_3 : List UInt8 := dkwX13_lays_3 ++ []
def dkwX13_lays_2 : List UInt8 := [180, 0, 41, 96, 61, 42, 180, 0, 19, 42, 180, 0, 23, 29, 96, 25, 4, 182, 0, 44, 87, 132, 3, 1]
abbrev dktX13_lays_2 : List UInt8 := dkwX13_lays_2 ++ dktX13_lays_3
def dkwX13_lays_1 : List UInt8 := [42, 180, 0, 15, 29, 46, 96, 61, 25, 4, 25, 4, 180, 0, 32, 28, 182, 0, 37, 28, 25, 4]
abbrev dktX13_lays_1 : List UInt8 := dkwX13_lays_1 ++ dktX13_lays_2
def dkwX13_lays_0 : List UInt8 := [42, 180, 0, 7, 61, 3, 62, 29, 43, 190, 162, 0, 63, 42, 180, 0, 11, 43, 29, 46, 50, 58, 4, 28]
abbrev dktX13_lays_0 : List UInt8 := dkwX13_lays_0 ++ dktX13_lays_1
theorem dksX13_lays_0 : cX13_lays.data.toList.drop 0 = dktX13_lays_0 := by decide +kernel
theorem dksX13_lays_1 : cX13_lays.data.toList.drop 24 = dktX13_lays_1 := dk_seg dksX13_lays_0 24 rfl rfl
theorem dksX13_lays_2 : cX13_lays.data.toList.drop 46 = dktX13_lays_2 := dk_seg dksX13_lays_1 22 rfl rfl
theorem dksX13_lays_3 : cX13_lays.data.toList.drop 70 = dktX13_lays_3 := dk_seg dksX13_lays_2 24 rfl rfl
theorem dX13_lays_0 : decode cX13_lays 0 = .ok (.aload_n 0, 1) := dk_42 (dk_at dksX13_lays_0 0 rfl rfl)
theorem dX13_lays_1 : decode cX13_lays 1 = .ok (.getfield 7, 3) := dk_180 0 7 (dk_at dksX13_lays_0 1 rfl rfl)
theorem dX13_lays_4 : decode cX13_lays 4 = .ok (.istore_n 2, 1) := dk_61 (dk_at dksX13_lays_0 4 rfl rfl)
theorem dX13_lays_5 : decode cX13_lays 5 = .ok (.iconst 0, 1) := dk_3 (dk_at dksX13_lays_0 5 rfl rfl)
theorem dX13_lays_6 : decode cX13_lays 6 = .ok (.istore_n 3, 1) := dk_62 (dk_at dksX13_lays_0 6 rfl rfl)
theorem dX13_lays_7 : decode cX13_lays 7 = .ok (.iload_n 3, 1) := dk_29 (dk_at dksX13_lays_0 7 rfl rfl)
theorem dX13_lays_8 : decode cX13_lays 8 = .ok (.aload_n 1, 1) := dk_43 (dk_at dksX13_lays_0 8 rfl rfl)
theorem dX13_lays_9 : decode cX13_lays 9 = .ok (.arraylength, 1) := dk_190 (dk_at dksX13_lays_0 9 rfl rfl)
theorem dX13_lays_10 : decode cX13_lays 10 = .ok (.if_icmp .ge 63, 3) := dk_162 0 63 (dk_at dksX13_lays_0 10 rfl rfl)
theorem dX13_lays_13 : decode cX13_lays 13 = .ok (.aload_n 0, 1) := dk_42 (dk_at dksX13_lays_0 13 rfl rfl)
theorem dX13_lays_14 : decode cX13_lays 14 = .ok (.getfield 11, 3) := dk_180 0 11 (dk_at dksX13_lays_0 14 rfl rfl)
theorem dX13_lays_17 : decode cX13_lays 17 = .ok (.aload_n 1, 1) := dk_43 (dk_at dksX13_lays_0 17 rfl rfl)
theorem dX13_lays_18 : decode cX13_lays 18 = .ok (.iload_n 3, 1) := dk_29 (dk_at dksX13_lays_0 18 rfl rfl)
theorem dX13_lays_19 : decode cX13_lays 19 = .ok (.iaload, 1) := dk_46 (dk_at dksX13_lays_0 19 rfl rfl)
theorem dX13_lays_20 : decode cX13_lays 20 = .ok (.aaload, 1) := dk_50 (dk_at dksX13_lays_0 20 rfl rfl)
theorem dX13_lays_21 : decode cX13_lays 21 = .ok (.astore 4, 2) := dk_58 4 (dk_at dksX13_lays_0 21 rfl rfl)
theorem dX13_lays_23 : decode cX13_lays 23 = .ok (.iload_n 2, 1) := dk_28 (dk_at dksX13_lays_0 23 rfl rfl)
theorem dX13_lays_24 : decode cX13_lays 24 = .ok (.aload_n 0, 1) := dk_42 (dk_at dksX13_lays_1 0 rfl rfl)
theorem dX13_lays_25 : decode cX13_lays 25 = .ok (.getfield 15, 3) := dk_180 0 15 (dk_at dksX13_lays_1 1 rfl rfl)
theorem dX13_lays_28 : decode cX13_lays 28 = .ok (.iload_n 3, 1) := dk_29 (dk_at dksX13_lays_1 4 rfl rfl)
theorem dX13_lays_29 : decode cX13_lays 29 = .ok (.iaload, 1) := dk_46 (dk_at dksX13_lays_1 5 rfl rfl)
theorem dX13_lays_30 : decode cX13_lays 30 = .ok (.iadd, 1) := dk_96 (dk_at dksX13_lays_1 6 rfl rfl)
theorem dX13_lays_31 : decode cX13_lays 31 = .ok (.istore_n 2, 1) := dk_61 (dk_at dksX13_lays_1 7 rfl rfl)
theorem dX13_lays_32 : decode cX13_lays 32 = .ok (.aload 4, 2) := dk_25 4 (dk_at dksX13_lays_1 8 rfl rfl)
theorem dX13_lays_34 : decode cX13_lays 34 = .ok (.aload 4, 2) := dk_25 4 (dk_at dksX13_lays_1 10 rfl rfl)
theorem dX13_lays_36 : decode cX13_lays 36 = .ok (.getfield 32, 3) := dk_180 0 32 (dk_at dksX13_lays_1 12 rfl rfl)
theorem dX13_lays_39 : decode cX13_lays 39 = .ok (.iload_n 2, 1) := dk_28 (dk_at dksX13_lays_1 15 rfl rfl)
theorem dX13_lays_40 : decode cX13_lays 40 = .ok (.invokevirtual 37, 3) := dk_182 0 37 (dk_at dksX13_lays_1 16 rfl rfl)
theorem dX13_lays_43 : decode cX13_lays 43 = .ok (.iload_n 2, 1) := dk_28 (dk_at dksX13_lays_1 19 rfl rfl)
theorem dX13_lays_44 : decode cX13_lays 44 = .ok (.aload 4, 2) := dk_25 4 (dk_at dksX13_lays_1 20 rfl rfl)
theorem dX13_lays_46 : decode cX13_lays 46 = .ok (.getfield 41, 3) := dk_180 0 41 (dk_at dksX13_lays_2 0 rfl rfl)
theorem dX13_lays_49 : decode cX13_lays 49 = .ok (.iadd, 1) := dk_96 (dk_at dksX13_lays_2 3 rfl rfl)
theorem dX13_lays_50 : decode cX13_lays 50 = .ok (.istore_n 2, 1) := dk_61 (dk_at dksX13_lays_2 4 rfl rfl)
theorem dX13_lays_51 : decode cX13_lays 51 = .ok (.aload_n 0, 1) := dk_42 (dk_at dksX13_lays_2 5 rfl rfl)
theorem dX13_lays_52 : decode cX13_lays 52 = .ok (.getfield 19, 3) := dk_180 0 19 (dk_at dksX13_lays_2 6 rfl rfl)
theorem dX13_lays_55 : decode cX13_lays 55 = .ok (.aload_n 0, 1) := dk_42 (dk_at dksX13_lays_2 9 rfl rfl)
theorem dX13_lays_56 : decode cX13_lays 56 = .ok (.getfield 23, 3) := dk_180 0 23 (dk_at dksX13_lays_2 10 rfl rfl)
theorem dX13_lays_59 : decode cX13_lays 59 = .ok (.iload_n 3, 1) := dk_29 (dk_at dksX13_lays_2 13 rfl rfl)
theorem dX13_lays_60 : decode cX13_lays 60 = .ok (.iadd, 1) := dk_96 (dk_at dksX13_lays_2 14 rfl rfl)
theorem dX13_lays_61 : decode cX13_lays 61 = .ok (.aload 4, 2) := dk_25 4 (dk_at dksX13_lays_2 15 rfl rfl)
theorem dX13_lays_63 : decode cX13_lays 63 = .ok (.invokevirtual 44, 3) := dk_182 0 44 (dk_at dksX13_lays_2 17 rfl rfl)
theorem dX13_lays_66 : decode cX13_lays 66 = .ok (.pop, 1) := dk_87 (dk_at dksX13_lays_2 20 rfl rfl)
theorem dX13_lays_67 : decode cX13_lays 67 = .ok (.iinc 3 1, 3) := dk_132 3 1 (dk_at dksX13_lays_2 21 rfl rfl)
theorem dX13_lays_70 : decode cX13_lays 70 = .ok (.goto (-63), 3) := dk_167 255 193 (dk_at dksX13_lays_3 0 rfl rfl)
theorem dX13_lays_73 : decode cX13_lays 73 = .ok (.return_, 1) := dk_177 (dk_at dksX13_lays_3 3 rfl rfl)
theorem q158 : (Jvm.Cond.initialized "CellRows$3") ∈ lw_all := lw_g (lw_at lw_m1 22 rfl) rfl
theorem q229 : (Jvm.Cond.fieldLinkNest "CellRows$3" (41 : Nat) "CellRows$Cell" "width" "I" "CellRows") ∈ lw_tbl := lw_at lw_m1 93 rfl
theorem q247 : (Jvm.Cond.fieldLinkNest "CellRows$3" (32 : Nat) "CellRows$Cell" "row" "I" "CellRows") ∈ lw_tbl := lw_at lw_m1 111 rfl
theorem q1013 : (Jvm.Cond.selects "CellRows$3" ({ cls := "java/lang/Object", name := "getClass", desc := "()Ljava/lang/Class;" } : Jvm.MethodName) ({ cls := "java/lang/Object", name := "getClass", desc := "()Ljava/lang/Class;" } : Jvm.MethodName)) ∈ lw_all := lw_g (lw_at lw_m4 157 rfl) rfl
theorem q1153 : (Jvm.Cond.instantiable "CellRows$3" (11 : Nat)) ∈ lw_all := lw_g (lw_at lw_m5 57 rfl) rfl
theorem q1155 : (Jvm.Cond.instanceMethod ({ cls := "CellRows$3", name := "<init>", desc := "(LCellRows;II[LCellRows$Cell;[ILjava/util/ArrayList;I)V" } : Jvm.MethodName)) ∈ lw_all := lw_g (lw_at lw_m5 59 rfl) rfl
theorem q1156 : (Jvm.Cond.code ({ cls := "CellRows$3", name := "<init>", desc := "(LCellRows;II[LCellRows$Cell;[ILjava/util/ArrayList;I)V" } : Jvm.MethodName) prog_4_method_1_code (8 : Nat) (Option.none : Option Jvm.ClassFile.FieldType)) ∈ lw_all := lw_g (lw_at lw_m5 60 rfl) rfl
theorem q1157 : (Jvm.Cond.methodLink "CellRows$3" (26 : Nat) ({ cls := "CellRows$Orders", name := "<init>", desc := "(LCellRows;I)V" } : Jvm.MethodName)) ∈ lw_all := lw_g (lw_at lw_m5 61 rfl) rfl
theorem q1161 : (Jvm.Cond.fieldLink "CellRows$3" (7 : Nat) "CellRows$3" "val$begin" "I") ∈ lw_all := lw_g (lw_at lw_m5 65 rfl) rfl
theorem q1162 : (Jvm.Cond.fieldLink "CellRows$3" (11 : Nat) "CellRows$3" "val$was" "[LCellRows$Cell;") ∈ lw_all := lw_g (lw_at lw_m5 66 rfl) rfl
theorem q1163 : (Jvm.Cond.fieldLink "CellRows$3" (15 : Nat) "CellRows$3" "val$gap" "[I") ∈ lw_all := lw_g (lw_at lw_m5 67 rfl) rfl
theorem q1164 : (Jvm.Cond.fieldLink "CellRows$3" (19 : Nat) "CellRows$3" "val$cells" "Ljava/util/ArrayList;") ∈ lw_all := lw_g (lw_at lw_m5 68 rfl) rfl
theorem q1165 : (Jvm.Cond.fieldLink "CellRows$3" (23 : Nat) "CellRows$3" "val$from" "I") ∈ lw_all := lw_g (lw_at lw_m5 69 rfl) rfl
theorem q1166 : (Jvm.Cond.fieldLink "CellRows$3" (1 : Nat) "CellRows$3" "this$0" "LCellRows;") ∈ lw_all := lw_g (lw_at lw_m5 70 rfl) rfl
theorem q1172 : (Jvm.Cond.laysFinal "CellRows$3" "CellRows$3" "val$begin" "I") ∈ lw_all := lw_g (lw_at lw_m5 76 rfl) rfl
theorem q1173 : (Jvm.Cond.soleField "CellRows$3" "val$begin") ∈ lw_all := lw_g (lw_at lw_m5 77 rfl) rfl
theorem q1174 : (Jvm.Cond.laysFinal "CellRows$3" "CellRows$3" "val$was" "[LCellRows$Cell;") ∈ lw_all := lw_g (lw_at lw_m5 78 rfl) rfl
theorem q1175 : (Jvm.Cond.soleField "CellRows$3" "val$was") ∈ lw_all := lw_g (lw_at lw_m5 79 rfl) rfl
theorem q1176 : (Jvm.Cond.laysFinal "CellRows$3" "CellRows$3" "val$gap" "[I") ∈ lw_all := lw_g (lw_at lw_m5 80 rfl) rfl
theorem q1177 : (Jvm.Cond.soleField "CellRows$3" "val$gap") ∈ lw_all := lw_g (lw_at lw_m5 81 rfl) rfl
theorem q1178 : (Jvm.Cond.laysFinal "CellRows$3" "CellRows$3" "val$cells" "Ljava/util/ArrayList;") ∈ lw_all := lw_g (lw_at lw_m5 82 rfl) rfl
theorem q1179 : (Jvm.Cond.soleField "CellRows$3" "val$cells") ∈ lw_all := lw_g (lw_at lw_m5 83 rfl) rfl
theorem q1180 : (Jvm.Cond.laysFinal "CellRows$3" "CellRows$3" "val$from" "I") ∈ lw_all := lw_g (lw_at lw_m5 84 rfl) rfl
theorem q1181 : (Jvm.Cond.soleField "CellRows$3" "val$from") ∈ lw_all := lw_g (lw_at lw_m5 85 rfl) rfl
theorem q1182 : (Jvm.Cond.laysFinal "CellRows$3" "CellRows$3" "this$0" "LCellRows;") ∈ lw_all := lw_g (lw_at lw_m5 86 rfl) rfl
theorem q1183 : (Jvm.Cond.soleField "CellRows$3" "this$0") ∈ lw_all := lw_g (lw_at lw_m5 87 rfl) rfl
theorem q1184 : (Jvm.Cond.laysFinal "CellRows$3" "CellRows$Orders" "order" "[I") ∈ lw_all := lw_g (lw_at lw_m5 88 rfl) rfl
theorem q1186 : (Jvm.Cond.laysFinal "CellRows$3" "CellRows$Orders" "best" "[I") ∈ lw_all := lw_g (lw_at lw_m5 90 rfl) rfl
theorem q1188 : (Jvm.Cond.laysFinal "CellRows$3" "CellRows$Orders" "isTaken" "[Z") ∈ lw_all := lw_g (lw_at lw_m5 92 rfl) rfl
theorem q1190 : (Jvm.Cond.lays "CellRows$3" "CellRows$Orders" "least" "I") ∈ lw_all := lw_g (lw_at lw_m5 94 rfl) rfl
theorem q1192 : (Jvm.Cond.laysFinal "CellRows$3" "CellRows$Orders" "this$0" "LCellRows;") ∈ lw_all := lw_g (lw_at lw_m5 96 rfl) rfl
theorem q1194 : (Jvm.Cond.superclass "CellRows$3" "CellRows$Orders") ∈ lw_all := lw_g (lw_at lw_m5 98 rfl) rfl
theorem q1197 : (Jvm.Cond.sameMethod "CellRows$3" "CellRows$Orders" "finds" "()V") ∈ lw_all := lw_g (lw_at lw_m5 101 rfl) rfl
theorem q1199 : (Jvm.Cond.selects "CellRows$3" ({ cls := "CellRows$3", name := "finds", desc := "()V" } : Jvm.MethodName) ({ cls := "CellRows$Orders", name := "finds", desc := "()V" } : Jvm.MethodName)) ∈ lw_all := lw_g (lw_at lw_m5 103 rfl) rfl
theorem q1210 : (Jvm.Cond.selects "CellRows$3" ({ cls := "CellRows$Orders", name := "lays", desc := "([I)V" } : Jvm.MethodName) ({ cls := "CellRows$3", name := "lays", desc := "([I)V" } : Jvm.MethodName)) ∈ lw_all := lw_g (lw_at lw_m5 114 rfl) rfl
theorem q1211 : (Jvm.Cond.instanceMethod ({ cls := "CellRows$3", name := "lays", desc := "([I)V" } : Jvm.MethodName)) ∈ lw_all := lw_g (lw_at lw_m5 115 rfl) rfl
theorem q1212 : (Jvm.Cond.code ({ cls := "CellRows$3", name := "lays", desc := "([I)V" } : Jvm.MethodName) prog_4_method_2_code (5 : Nat) (Option.none : Option Jvm.ClassFile.FieldType)) ∈ lw_all := lw_g (lw_at lw_m5 116 rfl) rfl
theorem q1213 : (Jvm.Cond.methodLink "CellRows$3" (37 : Nat) ({ cls := "CellRows$Cell", name := "comes", desc := "(II)V" } : Jvm.MethodName)) ∈ lw_all := lw_g (lw_at lw_m5 117 rfl) rfl
theorem q1214 : (Jvm.Cond.methodLink "CellRows$3" (44 : Nat) ({ cls := "java/util/ArrayList", name := "set", desc := "(ILjava/lang/Object;)Ljava/lang/Object;" } : Jvm.MethodName)) ∈ lw_all := lw_g (lw_at lw_m5 118 rfl) rfl
theorem q2067 : (Jvm.Cond.castable "CellRows$3" "java/lang/Object") ∈ lw_tbl := lw_at lw_m9 11 rfl
theorem in_X13 : ∀ w ∈ wsX130, w ∈ lw_all := lw_in wsX130 [1184, 1186, 1188, 1190, 1192, 1172, 1174, 1176, 1178, 1180, 1182] (by decide +kernel) (by decide +kernel)
/-! CellRows$4 -/
set_option maxRecDepth 100000
def RX14 : String := "CellRows$4"
def TX14 : u_T := fun k => match k with
  | 0 => ("CellRows$Orders", "order", "[I", true)
  | 1 => ("CellRows$Orders", "best", "[I", true)
  | 2 => ("CellRows$Orders", "isTaken", "[Z", true)
  | 3 => ("CellRows$Orders", "least", "I", false)
  | 4 => ("CellRows$Orders", "this$0", "LCellRows;", true)
  | 5 => ("CellRows$4", "val$group", "Ljava/util/ArrayList;", true)
  | 6 => ("CellRows$4", "val$row", "[I", true)
  | 7 => ("CellRows$4", "val$site", "[I", true)
  | _ => ("CellRows$4", "this$0", "LCellRows;", true)
def tyX14 : Nat → FieldType := fun k => match k with
  | 0 => .array .int
  | 1 => .array .int
  | 2 => .array .boolean
  | 3 => .int
  | 4 => .object "CellRows"
  | 5 => .object "java/util/ArrayList"
  | 6 => .array .int
  | 7 => .array .int
  | _ => .object "CellRows"
abbrev wsX140 : List Cond := u_ws RX14 TX14 9
-- two fields of one name: no nmX14
theorem tyX14_ok : ∀ k, k < 9 → parseFieldDescriptor (TX14 k).2.2.1 = some (tyX14 k) := by decide +kernel
abbrev cX14_lays : ByteArray := prog_5_method_2_code
def yX14_lays : MethodName := ⟨RX14, "lays", "([I)V"⟩
def dkwX14_lays_1 : List UInt8 := [28, 46, 46, 42, 180, 0, 15, 43, 28, 46, 46, 182, 0, 32, 132, 2, 1, 167, 255, 217, 177]
abbrev dktX14_lays_1 : List UInt8 := dkwX14_lays_1 ++ []
def dkwX14_lays_0 : List UInt8 := [3, 61, 28, 43, 190, 162, 0, 39, 42, 180, 0, 7, 28, 182, 0, 24, 192, 0, 30, 42, 180, 0, 11, 43]
abbrev dktX14_lays_0 : List UInt8 := dkwX14_lays_0 ++ dktX14_lays_1
theorem dksX14_lays_0 : cX14_lays.data.toList.drop 0 = dktX14_lays_0 := by decide +kernel
theorem dksX14_lays_1 : cX14_lays.data.toList.drop 24 = dktX14_lays_1 := dk_seg dksX14_lays_0 24 rfl rfl
theorem dX14_lays_0 : decode cX14_lays 0 = .ok (.iconst 0, 1) := dk_3 (dk_at dksX14_lays_0 0 rfl rfl)
theorem dX14_lays_1 : decode cX14_lays 1 = .ok (.istore_n 2, 1) := dk_61 (dk_at dksX14_lays_0 1 rfl rfl)
theorem dX14_lays_2 : decode cX14_lays 2 = .ok (.iload_n 2, 1) := dk_28 (dk_at dksX14_lays_0 2 rfl rfl)
theorem dX14_lays_3 : decode cX14_lays 3 = .ok (.aload_n 1, 1) := dk_43 (dk_at dksX14_lays_0 3 rfl rfl)
theorem dX14_lays_4 : decode cX14_lays 4 = .ok (.arraylength, 1) := dk_190 (dk_at dksX14_lays_0 4 rfl rfl)
theorem dX14_lays_5 : decode cX14_lays 5 = .ok (.if_icmp .ge 39, 3) := dk_162 0 39 (dk_at dksX14_lays_0 5 rfl rfl)
theorem dX14_lays_8 : decode cX14_lays 8 = .ok (.aload_n 0, 1) := dk_42 (dk_at dksX14_lays_0 8 rfl rfl)
theorem dX14_lays_9 : decode cX14_lays 9 = .ok (.getfield 7, 3) := dk_180 0 7 (dk_at dksX14_lays_0 9 rfl rfl)
theorem dX14_lays_12 : decode cX14_lays 12 = .ok (.iload_n 2, 1) := dk_28 (dk_at dksX14_lays_0 12 rfl rfl)
theorem dX14_lays_13 : decode cX14_lays 13 = .ok (.invokevirtual 24, 3) := dk_182 0 24 (dk_at dksX14_lays_0 13 rfl rfl)
theorem dX14_lays_16 : decode cX14_lays 16 = .ok (.checkcast 30, 3) := dk_192 0 30 (dk_at dksX14_lays_0 16 rfl rfl)
theorem dX14_lays_19 : decode cX14_lays 19 = .ok (.aload_n 0, 1) := dk_42 (dk_at dksX14_lays_0 19 rfl rfl)
theorem dX14_lays_20 : decode cX14_lays 20 = .ok (.getfield 11, 3) := dk_180 0 11 (dk_at dksX14_lays_0 20 rfl rfl)
theorem dX14_lays_23 : decode cX14_lays 23 = .ok (.aload_n 1, 1) := dk_43 (dk_at dksX14_lays_0 23 rfl rfl)
theorem dX14_lays_24 : decode cX14_lays 24 = .ok (.iload_n 2, 1) := dk_28 (dk_at dksX14_lays_1 0 rfl rfl)
theorem dX14_lays_25 : decode cX14_lays 25 = .ok (.iaload, 1) := dk_46 (dk_at dksX14_lays_1 1 rfl rfl)
theorem dX14_lays_26 : decode cX14_lays 26 = .ok (.iaload, 1) := dk_46 (dk_at dksX14_lays_1 2 rfl rfl)
theorem dX14_lays_27 : decode cX14_lays 27 = .ok (.aload_n 0, 1) := dk_42 (dk_at dksX14_lays_1 3 rfl rfl)
theorem dX14_lays_28 : decode cX14_lays 28 = .ok (.getfield 15, 3) := dk_180 0 15 (dk_at dksX14_lays_1 4 rfl rfl)
theorem dX14_lays_31 : decode cX14_lays 31 = .ok (.aload_n 1, 1) := dk_43 (dk_at dksX14_lays_1 7 rfl rfl)
theorem dX14_lays_32 : decode cX14_lays 32 = .ok (.iload_n 2, 1) := dk_28 (dk_at dksX14_lays_1 8 rfl rfl)
theorem dX14_lays_33 : decode cX14_lays 33 = .ok (.iaload, 1) := dk_46 (dk_at dksX14_lays_1 9 rfl rfl)
theorem dX14_lays_34 : decode cX14_lays 34 = .ok (.iaload, 1) := dk_46 (dk_at dksX14_lays_1 10 rfl rfl)
theorem dX14_lays_35 : decode cX14_lays 35 = .ok (.invokevirtual 32, 3) := dk_182 0 32 (dk_at dksX14_lays_1 11 rfl rfl)
theorem dX14_lays_38 : decode cX14_lays 38 = .ok (.iinc 2 1, 3) := dk_132 2 1 (dk_at dksX14_lays_1 14 rfl rfl)
theorem dX14_lays_41 : decode cX14_lays 41 = .ok (.goto (-39), 3) := dk_167 255 217 (dk_at dksX14_lays_1 17 rfl rfl)
theorem dX14_lays_44 : decode cX14_lays 44 = .ok (.return_, 1) := dk_177 (dk_at dksX14_lays_1 20 rfl rfl)
abbrev cX14_init : ByteArray := prog_5_method_1_code
def yX14_init : MethodName := ⟨RX14, "<init>", "(LCellRows;ILjava/util/ArrayList;[I[I)V"⟩
def dkwX14_init_1 : List UInt8 := [28, 183, 0, 18, 177]
abbrev dktX14_init_1 : List UInt8 := dkwX14_init_1 ++ []
def dkwX14_init_0 : List UInt8 := [42, 43, 181, 0, 1, 42, 45, 181, 0, 7, 42, 25, 4, 181, 0, 11, 42, 25, 5, 181, 0, 15, 42, 43]
abbrev dktX14_init_0 : List UInt8 := dkwX14_init_0 ++ dktX14_init_1
theorem dksX14_init_0 : cX14_init.data.toList.drop 0 = dktX14_init_0 := by decide +kernel
theorem dksX14_init_1 : cX14_init.data.toList.drop 24 = dktX14_init_1 := dk_seg dksX14_init_0 24 rfl rfl
theorem dX14_init_0 : decode cX14_init 0 = .ok (.aload_n 0, 1) := dk_42 (dk_at dksX14_init_0 0 rfl rfl)
theorem dX14_init_1 : decode cX14_init 1 = .ok (.aload_n 1, 1) := dk_43 (dk_at dksX14_init_0 1 rfl rfl)
theorem dX14_init_2 : decode cX14_init 2 = .ok (.putfield 1, 3) := dk_181 0 1 (dk_at dksX14_init_0 2 rfl rfl)
theorem dX14_init_5 : decode cX14_init 5 = .ok (.aload_n 0, 1) := dk_42 (dk_at dksX14_init_0 5 rfl rfl)
theorem dX14_init_6 : decode cX14_init 6 = .ok (.aload_n 3, 1) := dk_45 (dk_at dksX14_init_0 6 rfl rfl)
theorem dX14_init_7 : decode cX14_init 7 = .ok (.putfield 7, 3) := dk_181 0 7 (dk_at dksX14_init_0 7 rfl rfl)
theorem dX14_init_10 : decode cX14_init 10 = .ok (.aload_n 0, 1) := dk_42 (dk_at dksX14_init_0 10 rfl rfl)
theorem dX14_init_11 : decode cX14_init 11 = .ok (.aload 4, 2) := dk_25 4 (dk_at dksX14_init_0 11 rfl rfl)
theorem dX14_init_13 : decode cX14_init 13 = .ok (.putfield 11, 3) := dk_181 0 11 (dk_at dksX14_init_0 13 rfl rfl)
theorem dX14_init_16 : decode cX14_init 16 = .ok (.aload_n 0, 1) := dk_42 (dk_at dksX14_init_0 16 rfl rfl)
theorem dX14_init_17 : decode cX14_init 17 = .ok (.aload 5, 2) := dk_25 5 (dk_at dksX14_init_0 17 rfl rfl)
theorem dX14_init_19 : decode cX14_init 19 = .ok (.putfield 15, 3) := dk_181 0 15 (dk_at dksX14_init_0 19 rfl rfl)
theorem dX14_init_22 : decode cX14_init 22 = .ok (.aload_n 0, 1) := dk_42 (dk_at dksX14_init_0 22 rfl rfl)
theorem dX14_init_23 : decode cX14_init 23 = .ok (.aload_n 1, 1) := dk_43 (dk_at dksX14_init_0 23 rfl rfl)
theorem dX14_init_24 : decode cX14_init 24 = .ok (.iload_n 2, 1) := dk_28 (dk_at dksX14_init_1 0 rfl rfl)
theorem dX14_init_25 : decode cX14_init 25 = .ok (.invokespecial 18, 3) := dk_183 0 18 (dk_at dksX14_init_1 1 rfl rfl)
theorem dX14_init_28 : decode cX14_init 28 = .ok (.return_, 1) := dk_177 (dk_at dksX14_init_1 4 rfl rfl)
theorem q159 : (Jvm.Cond.initialized "CellRows$4") ∈ lw_all := lw_g (lw_at lw_m1 23 rfl) rfl
theorem q1014 : (Jvm.Cond.selects "CellRows$4" ({ cls := "java/lang/Object", name := "getClass", desc := "()Ljava/lang/Class;" } : Jvm.MethodName) ({ cls := "java/lang/Object", name := "getClass", desc := "()Ljava/lang/Class;" } : Jvm.MethodName)) ∈ lw_all := lw_g (lw_at lw_m4 158 rfl) rfl
theorem q1218 : (Jvm.Cond.selects "CellRows$4" ({ cls := "CellRows$Orders", name := "lays", desc := "([I)V" } : Jvm.MethodName) ({ cls := "CellRows$4", name := "lays", desc := "([I)V" } : Jvm.MethodName)) ∈ lw_all := lw_g (lw_at lw_m5 122 rfl) rfl
theorem q1219 : (Jvm.Cond.instanceMethod ({ cls := "CellRows$4", name := "lays", desc := "([I)V" } : Jvm.MethodName)) ∈ lw_all := lw_g (lw_at lw_m5 123 rfl) rfl
theorem q1220 : (Jvm.Cond.code ({ cls := "CellRows$4", name := "lays", desc := "([I)V" } : Jvm.MethodName) prog_5_method_2_code (3 : Nat) (Option.none : Option Jvm.ClassFile.FieldType)) ∈ lw_all := lw_g (lw_at lw_m5 124 rfl) rfl
theorem q1221 : (Jvm.Cond.methodLink "CellRows$4" (24 : Nat) ({ cls := "java/util/ArrayList", name := "get", desc := "(I)Ljava/lang/Object;" } : Jvm.MethodName)) ∈ lw_all := lw_g (lw_at lw_m5 125 rfl) rfl
theorem q1222 : (Jvm.Cond.classLink "CellRows$4" (30 : Nat) "CellRows$Cell") ∈ lw_all := lw_g (lw_at lw_m5 126 rfl) rfl
theorem q1223 : (Jvm.Cond.methodLink "CellRows$4" (32 : Nat) ({ cls := "CellRows$Cell", name := "comes", desc := "(II)V" } : Jvm.MethodName)) ∈ lw_all := lw_g (lw_at lw_m5 127 rfl) rfl
theorem q1269 : (Jvm.Cond.instantiable "CellRows$4" (9 : Nat)) ∈ lw_all := lw_g (lw_at lw_m5 173 rfl) rfl
theorem q1271 : (Jvm.Cond.instanceMethod ({ cls := "CellRows$4", name := "<init>", desc := "(LCellRows;ILjava/util/ArrayList;[I[I)V" } : Jvm.MethodName)) ∈ lw_all := lw_g (lw_at lw_m5 175 rfl) rfl
theorem q1272 : (Jvm.Cond.code ({ cls := "CellRows$4", name := "<init>", desc := "(LCellRows;ILjava/util/ArrayList;[I[I)V" } : Jvm.MethodName) prog_5_method_1_code (6 : Nat) (Option.none : Option Jvm.ClassFile.FieldType)) ∈ lw_all := lw_g (lw_at lw_m5 176 rfl) rfl
theorem q1273 : (Jvm.Cond.methodLink "CellRows$4" (18 : Nat) ({ cls := "CellRows$Orders", name := "<init>", desc := "(LCellRows;I)V" } : Jvm.MethodName)) ∈ lw_all := lw_g (lw_at lw_m5 177 rfl) rfl
theorem q1274 : (Jvm.Cond.fieldLink "CellRows$4" (7 : Nat) "CellRows$4" "val$group" "Ljava/util/ArrayList;") ∈ lw_all := lw_g (lw_at lw_m5 178 rfl) rfl
theorem q1275 : (Jvm.Cond.fieldLink "CellRows$4" (11 : Nat) "CellRows$4" "val$row" "[I") ∈ lw_all := lw_g (lw_at lw_m5 179 rfl) rfl
theorem q1276 : (Jvm.Cond.fieldLink "CellRows$4" (15 : Nat) "CellRows$4" "val$site" "[I") ∈ lw_all := lw_g (lw_at lw_m5 180 rfl) rfl
theorem q1277 : (Jvm.Cond.fieldLink "CellRows$4" (1 : Nat) "CellRows$4" "this$0" "LCellRows;") ∈ lw_all := lw_g (lw_at lw_m5 181 rfl) rfl
theorem q1278 : (Jvm.Cond.laysFinal "CellRows$4" "CellRows$4" "val$group" "Ljava/util/ArrayList;") ∈ lw_all := lw_g (lw_at lw_m5 182 rfl) rfl
theorem q1279 : (Jvm.Cond.soleField "CellRows$4" "val$group") ∈ lw_all := lw_g (lw_at lw_m5 183 rfl) rfl
theorem q1280 : (Jvm.Cond.laysFinal "CellRows$4" "CellRows$4" "val$row" "[I") ∈ lw_all := lw_g (lw_at lw_m5 184 rfl) rfl
theorem q1281 : (Jvm.Cond.soleField "CellRows$4" "val$row") ∈ lw_all := lw_g (lw_at lw_m5 185 rfl) rfl
theorem q1282 : (Jvm.Cond.laysFinal "CellRows$4" "CellRows$4" "val$site" "[I") ∈ lw_all := lw_g (lw_at lw_m5 186 rfl) rfl
theorem q1283 : (Jvm.Cond.soleField "CellRows$4" "val$site") ∈ lw_all := lw_g (lw_at lw_m5 187 rfl) rfl
theorem q1284 : (Jvm.Cond.laysFinal "CellRows$4" "CellRows$4" "this$0" "LCellRows;") ∈ lw_all := lw_g (lw_at lw_m5 188 rfl) rfl
theorem q1285 : (Jvm.Cond.soleField "CellRows$4" "this$0") ∈ lw_all := lw_g (lw_at lw_m5 189 rfl) rfl
theorem q1286 : (Jvm.Cond.laysFinal "CellRows$4" "CellRows$Orders" "order" "[I") ∈ lw_all := lw_g (lw_at lw_m5 190 rfl) rfl
theorem q1287 : (Jvm.Cond.laysFinal "CellRows$4" "CellRows$Orders" "best" "[I") ∈ lw_all := lw_g (lw_at lw_m5 191 rfl) rfl
theorem q1288 : (Jvm.Cond.laysFinal "CellRows$4" "CellRows$Orders" "isTaken" "[Z") ∈ lw_all := lw_g (lw_at lw_m5 192 rfl) rfl
theorem q1289 : (Jvm.Cond.lays "CellRows$4" "CellRows$Orders" "least" "I") ∈ lw_all := lw_g (lw_at lw_m5 193 rfl) rfl
theorem q1290 : (Jvm.Cond.laysFinal "CellRows$4" "CellRows$Orders" "this$0" "LCellRows;") ∈ lw_all := lw_g (lw_at lw_m5 194 rfl) rfl
theorem q1291 : (Jvm.Cond.superclass "CellRows$4" "CellRows$Orders") ∈ lw_all := lw_g (lw_at lw_m5 195 rfl) rfl
theorem q1293 : (Jvm.Cond.sameMethod "CellRows$4" "CellRows$Orders" "finds" "()V") ∈ lw_all := lw_g (lw_at lw_m5 197 rfl) rfl
theorem q1294 : (Jvm.Cond.selects "CellRows$4" ({ cls := "CellRows$4", name := "finds", desc := "()V" } : Jvm.MethodName) ({ cls := "CellRows$Orders", name := "finds", desc := "()V" } : Jvm.MethodName)) ∈ lw_all := lw_g (lw_at lw_m5 198 rfl) rfl
theorem q2068 : (Jvm.Cond.castable "CellRows$4" "java/lang/Object") ∈ lw_tbl := lw_at lw_m9 12 rfl
theorem in_X14 : ∀ w ∈ wsX140, w ∈ lw_all := lw_in wsX140 [1286, 1287, 1288, 1289, 1290, 1278, 1280, 1282, 1284] (by decide +kernel) (by decide +kernel)
/-! CellRowsLaw -/
set_option maxRecDepth 100000
def RX0 : String := "CellRowsLaw"
abbrev cX0_cell : ByteArray := method_2_code
def yX0_cell : MethodName := ⟨RX0, "cell", "([II)I"⟩
def dkwX0_cell_0 : List UInt8 := [27, 42, 190, 162, 0, 9, 42, 27, 46, 167, 0, 4, 3, 172]
abbrev dktX0_cell_0 : List UInt8 := dkwX0_cell_0 ++ []
theorem dksX0_cell_0 : cX0_cell.data.toList.drop 0 = dktX0_cell_0 := by decide +kernel
theorem dX0_cell_0 : decode cX0_cell 0 = .ok (.iload_n 1, 1) := dk_27 (dk_at dksX0_cell_0 0 rfl rfl)
theorem dX0_cell_1 : decode cX0_cell 1 = .ok (.aload_n 0, 1) := dk_42 (dk_at dksX0_cell_0 1 rfl rfl)
theorem dX0_cell_2 : decode cX0_cell 2 = .ok (.arraylength, 1) := dk_190 (dk_at dksX0_cell_0 2 rfl rfl)
theorem dX0_cell_3 : decode cX0_cell 3 = .ok (.if_icmp .ge 9, 3) := dk_162 0 9 (dk_at dksX0_cell_0 3 rfl rfl)
theorem dX0_cell_6 : decode cX0_cell 6 = .ok (.aload_n 0, 1) := dk_42 (dk_at dksX0_cell_0 6 rfl rfl)
theorem dX0_cell_7 : decode cX0_cell 7 = .ok (.iload_n 1, 1) := dk_27 (dk_at dksX0_cell_0 7 rfl rfl)
theorem dX0_cell_8 : decode cX0_cell 8 = .ok (.iaload, 1) := dk_46 (dk_at dksX0_cell_0 8 rfl rfl)
theorem dX0_cell_9 : decode cX0_cell 9 = .ok (.goto 4, 3) := dk_167 0 4 (dk_at dksX0_cell_0 9 rfl rfl)
theorem dX0_cell_12 : decode cX0_cell 12 = .ok (.iconst 0, 1) := dk_3 (dk_at dksX0_cell_0 12 rfl rfl)
theorem dX0_cell_13 : decode cX0_cell 13 = .ok (.ireturn, 1) := dk_172 (dk_at dksX0_cell_0 13 rfl rfl)
theorem q136 : (Jvm.Cond.initialized "CellRowsLaw") ∈ lw_all := lw_g (lw_at lw_m1 0 rfl) rfl
theorem q160 : (Jvm.Cond.classLink "CellRowsLaw" (7 : Nat) "CellRows") ∈ lw_all := lw_g (lw_at lw_m1 24 rfl) rfl
theorem q162 : (Jvm.Cond.methodLink "CellRowsLaw" (15 : Nat) ({ cls := "CellRows", name := "<init>", desc := "(II)V" } : Jvm.MethodName)) ∈ lw_all := lw_g (lw_at lw_m1 26 rfl) rfl
theorem q458 : (Jvm.Cond.methodLink "CellRowsLaw" (110 : Nat) ({ cls := "CellRows", name := "undo", desc := "()I" } : Jvm.MethodName)) ∈ lw_all := lw_g (lw_at lw_m2 82 rfl) rfl
theorem q498 : (Jvm.Cond.methodLink "CellRowsLaw" (21 : Nat) ({ cls := "CellRows", name := "terms", desc := "(II)I" } : Jvm.MethodName)) ∈ lw_all := lw_g (lw_at lw_m2 122 rfl) rfl
theorem q511 : (Jvm.Cond.methodLink "CellRowsLaw" (26 : Nat) ({ cls := "CellRows", name := "feed", desc := "(IIIII)I" } : Jvm.MethodName)) ∈ lw_all := lw_g (lw_at lw_m2 135 rfl) rfl
theorem q519 : (Jvm.Cond.methodLink "CellRowsLaw" (31 : Nat) ({ cls := "CellRows", name := "end", desc := "(I)I" } : Jvm.MethodName)) ∈ lw_all := lw_g (lw_at lw_m2 143 rfl) rfl
theorem q523 : (Jvm.Cond.methodLink "CellRowsLaw" (36 : Nat) ({ cls := "CellRows", name := "block", desc := "(IIIII)I" } : Jvm.MethodName)) ∈ lw_all := lw_g (lw_at lw_m2 147 rfl) rfl
theorem q600 : (Jvm.Cond.methodLink "CellRowsLaw" (40 : Nat) ({ cls := "CellRows", name := "fence", desc := "(IIII)I" } : Jvm.MethodName)) ∈ lw_all := lw_g (lw_at lw_m2 224 rfl) rfl
theorem q608 : (Jvm.Cond.methodLink "CellRowsLaw" (45 : Nat) ({ cls := "CellRows", name := "cell", desc := "(II)I" } : Jvm.MethodName)) ∈ lw_all := lw_g (lw_at lw_m2 232 rfl) rfl
theorem q629 : (Jvm.Cond.methodLink "CellRowsLaw" (48 : Nat) ({ cls := "CellRows", name := "net", desc := "(I)I" } : Jvm.MethodName)) ∈ lw_all := lw_g (lw_at lw_m3 13 rfl) rfl
theorem q662 : (Jvm.Cond.methodLink "CellRowsLaw" (52 : Nat) ({ cls := "CellRows", name := "drop", desc := "(I)I" } : Jvm.MethodName)) ∈ lw_all := lw_g (lw_at lw_m3 46 rfl) rfl
theorem q670 : (Jvm.Cond.methodLink "CellRowsLaw" (56 : Nat) ({ cls := "CellRows", name := "want", desc := "(III)I" } : Jvm.MethodName)) ∈ lw_all := lw_g (lw_at lw_m3 54 rfl) rfl
theorem q678 : (Jvm.Cond.methodLink "CellRowsLaw" (61 : Nat) ({ cls := "CellRows", name := "fix", desc := "(III)I" } : Jvm.MethodName)) ∈ lw_all := lw_g (lw_at lw_m3 62 rfl) rfl
theorem q689 : (Jvm.Cond.methodLink "CellRowsLaw" (65 : Nat) ({ cls := "CellRows", name := "free", desc := "(I)I" } : Jvm.MethodName)) ∈ lw_all := lw_g (lw_at lw_m3 73 rfl) rfl
theorem q693 : (Jvm.Cond.methodLink "CellRowsLaw" (69 : Nat) ({ cls := "CellRows", name := "put", desc := "(III)I" } : Jvm.MethodName)) ∈ lw_all := lw_g (lw_at lw_m3 77 rfl) rfl
theorem q769 : (Jvm.Cond.methodLink "CellRowsLaw" (73 : Nat) ({ cls := "CellRows", name := "take", desc := "(I)I" } : Jvm.MethodName)) ∈ lw_all := lw_g (lw_at lw_m3 153 rfl) rfl
theorem q774 : (Jvm.Cond.methodLink "CellRowsLaw" (77 : Nat) ({ cls := "CellRows", name := "start", desc := "(I)I" } : Jvm.MethodName)) ∈ lw_all := lw_g (lw_at lw_m3 158 rfl) rfl
theorem q797 : (Jvm.Cond.methodLink "CellRowsLaw" (81 : Nat) ({ cls := "CellRows", name := "spread", desc := "(I)I" } : Jvm.MethodName)) ∈ lw_all := lw_g (lw_at lw_m3 181 rfl) rfl
theorem q898 : (Jvm.Cond.methodLink "CellRowsLaw" (85 : Nat) ({ cls := "CellRows", name := "legal", desc := "()I" } : Jvm.MethodName)) ∈ lw_all := lw_g (lw_at lw_m4 42 rfl) rfl
theorem q1140 : (Jvm.Cond.methodLink "CellRowsLaw" (151 : Nat) ({ cls := "CellRows", name := "lawfully", desc := "(I)I" } : Jvm.MethodName)) ∈ lw_all := lw_g (lw_at lw_m5 44 rfl) rfl
theorem q1144 : (Jvm.Cond.methodLink "CellRowsLaw" (90 : Nat) ({ cls := "CellRows", name := "windows", desc := "(I)I" } : Jvm.MethodName)) ∈ lw_all := lw_g (lw_at lw_m5 48 rfl) rfl
theorem q1226 : (Jvm.Cond.methodLink "CellRowsLaw" (94 : Nat) ({ cls := "CellRows", name := "swaps", desc := "()I" } : Jvm.MethodName)) ∈ lw_all := lw_g (lw_at lw_m5 130 rfl) rfl
theorem q1244 : (Jvm.Cond.methodLink "CellRowsLaw" (98 : Nat) ({ cls := "CellRows", name := "hops", desc := "()I" } : Jvm.MethodName)) ∈ lw_all := lw_g (lw_at lw_m5 148 rfl) rfl
theorem q1252 : (Jvm.Cond.methodLink "CellRowsLaw" (102 : Nat) ({ cls := "CellRows", name := "sorts", desc := "()I" } : Jvm.MethodName)) ∈ lw_all := lw_g (lw_at lw_m5 156 rfl) rfl
theorem q1295 : (Jvm.Cond.methodLink "CellRowsLaw" (106 : Nat) ({ cls := "CellRows", name := "shake", desc := "(III)I" } : Jvm.MethodName)) ∈ lw_all := lw_g (lw_at lw_m5 199 rfl) rfl
theorem q1305 : (Jvm.Cond.methodLink "CellRowsLaw" (114 : Nat) ({ cls := "CellRows", name := "cellOf", desc := "(II)I" } : Jvm.MethodName)) ∈ lw_all := lw_g (lw_at lw_m5 209 rfl) rfl
theorem q1314 : (Jvm.Cond.methodLink "CellRowsLaw" (118 : Nat) ({ cls := "CellRows", name := "netOf", desc := "(II)I" } : Jvm.MethodName)) ∈ lw_all := lw_g (lw_at lw_m5 218 rfl) rfl
theorem q1318 : (Jvm.Cond.methodLink "CellRowsLaw" (122 : Nat) ({ cls := "CellRows", name := "bin", desc := "(II)I" } : Jvm.MethodName)) ∈ lw_all := lw_g (lw_at lw_m5 222 rfl) rfl
theorem q1331 : (Jvm.Cond.methodLink "CellRowsLaw" (126 : Nat) ({ cls := "CellRows", name := "measure", desc := "(I)I" } : Jvm.MethodName)) ∈ lw_all := lw_g (lw_at lw_m5 235 rfl) rfl
theorem q1343 : (Jvm.Cond.methodLink "CellRowsLaw" (130 : Nat) ({ cls := "CellRows", name := "lawful", desc := "(III)Z" } : Jvm.MethodName)) ∈ lw_all := lw_g (lw_at lw_m6 7 rfl) rfl
theorem q1347 : (Jvm.Cond.methodLink "CellRowsLaw" (135 : Nat) ({ cls := "CellRows", name := "runs", desc := "(II)I" } : Jvm.MethodName)) ∈ lw_all := lw_g (lw_at lw_m6 11 rfl) rfl
theorem q1355 : (Jvm.Cond.methodLink "CellRowsLaw" (139 : Nat) ({ cls := "CellRows", name := "run", desc := "(IIII)I" } : Jvm.MethodName)) ∈ lw_all := lw_g (lw_at lw_m6 19 rfl) rfl
theorem q1360 : (Jvm.Cond.methodLink "CellRowsLaw" (143 : Nat) ({ cls := "CellRows", name := "would", desc := "(III)I" } : Jvm.MethodName)) ∈ lw_all := lw_g (lw_at lw_m6 24 rfl) rfl
theorem q1368 : (Jvm.Cond.methodLink "CellRowsLaw" (147 : Nat) ({ cls := "CellRows", name := "best", desc := "(II)I" } : Jvm.MethodName)) ∈ lw_all := lw_g (lw_at lw_m6 32 rfl) rfl
theorem q1372 : (Jvm.Cond.methodLink "CellRowsLaw" (155 : Nat) ({ cls := "CellRows", name := "fillers", desc := "(I)I" } : Jvm.MethodName)) ∈ lw_all := lw_g (lw_at lw_m6 36 rfl) rfl
theorem q1383 : (Jvm.Cond.methodLink "CellRowsLaw" (159 : Nat) ({ cls := "CellRows", name := "count", desc := "(I)I" } : Jvm.MethodName)) ∈ lw_all := lw_g (lw_at lw_m6 47 rfl) rfl
theorem q1387 : (Jvm.Cond.methodLink "CellRowsLaw" (163 : Nat) ({ cls := "CellRows", name := "status", desc := "()I" } : Jvm.MethodName)) ∈ lw_all := lw_g (lw_at lw_m6 51 rfl) rfl
theorem q1391 : (Jvm.Cond.methodLink "CellRowsLaw" (9 : Nat) ({ cls := "CellRowsLaw", name := "cell", desc := "([II)I" } : Jvm.MethodName)) ∈ lw_all := lw_g (lw_at lw_m6 55 rfl) rfl
theorem q1392 : (Jvm.Cond.static ({ cls := "CellRowsLaw", name := "cell", desc := "([II)I" } : Jvm.MethodName)) ∈ lw_all := lw_g (lw_at lw_m6 56 rfl) rfl
theorem q1393 : (Jvm.Cond.code ({ cls := "CellRowsLaw", name := "cell", desc := "([II)I" } : Jvm.MethodName) method_2_code (2 : Nat) (Option.some Jvm.ClassFile.FieldType.int)) ∈ lw_all := lw_g (lw_at lw_m6 57 rfl) rfl
theorem q1394 : (Jvm.Cond.classLink "CellRowsLaw" (18 : Nat) "CellRowsModel") ∈ lw_all := lw_g (lw_at lw_m6 58 rfl) rfl
theorem q1396 : (Jvm.Cond.methodLink "CellRowsLaw" (20 : Nat) ({ cls := "CellRowsModel", name := "<init>", desc := "(II)V" } : Jvm.MethodName)) ∈ lw_all := lw_g (lw_at lw_m6 60 rfl) rfl
theorem q1512 : (Jvm.Cond.methodLink "CellRowsLaw" (113 : Nat) ({ cls := "CellRowsModel", name := "undo", desc := "()I" } : Jvm.MethodName)) ∈ lw_all := lw_g (lw_at lw_m6 176 rfl) rfl
theorem q1527 : (Jvm.Cond.methodLink "CellRowsLaw" (134 : Nat) ({ cls := "CellRowsModel", name := "lawful", desc := "(III)Z" } : Jvm.MethodName)) ∈ lw_all := lw_g (lw_at lw_m6 191 rfl) rfl
theorem q1581 : (Jvm.Cond.methodLink "CellRowsLaw" (25 : Nat) ({ cls := "CellRowsModel", name := "terms", desc := "(II)I" } : Jvm.MethodName)) ∈ lw_all := lw_g (lw_at lw_m7 5 rfl) rfl
theorem q1586 : (Jvm.Cond.methodLink "CellRowsLaw" (30 : Nat) ({ cls := "CellRowsModel", name := "feed", desc := "(IIIII)I" } : Jvm.MethodName)) ∈ lw_all := lw_g (lw_at lw_m7 10 rfl) rfl
theorem q1594 : (Jvm.Cond.methodLink "CellRowsLaw" (35 : Nat) ({ cls := "CellRowsModel", name := "end", desc := "(I)I" } : Jvm.MethodName)) ∈ lw_all := lw_g (lw_at lw_m7 18 rfl) rfl
theorem q1598 : (Jvm.Cond.methodLink "CellRowsLaw" (39 : Nat) ({ cls := "CellRowsModel", name := "block", desc := "(IIIII)I" } : Jvm.MethodName)) ∈ lw_all := lw_g (lw_at lw_m7 22 rfl) rfl
theorem q1635 : (Jvm.Cond.methodLink "CellRowsLaw" (44 : Nat) ({ cls := "CellRowsModel", name := "fence", desc := "(IIII)I" } : Jvm.MethodName)) ∈ lw_all := lw_g (lw_at lw_m7 59 rfl) rfl
theorem q1639 : (Jvm.Cond.methodLink "CellRowsLaw" (47 : Nat) ({ cls := "CellRowsModel", name := "cell", desc := "(II)I" } : Jvm.MethodName)) ∈ lw_all := lw_g (lw_at lw_m7 63 rfl) rfl
theorem q1648 : (Jvm.Cond.methodLink "CellRowsLaw" (51 : Nat) ({ cls := "CellRowsModel", name := "net", desc := "(I)I" } : Jvm.MethodName)) ∈ lw_all := lw_g (lw_at lw_m7 72 rfl) rfl
theorem q1661 : (Jvm.Cond.methodLink "CellRowsLaw" (55 : Nat) ({ cls := "CellRowsModel", name := "drop", desc := "(I)I" } : Jvm.MethodName)) ∈ lw_all := lw_g (lw_at lw_m7 85 rfl) rfl
theorem q1669 : (Jvm.Cond.methodLink "CellRowsLaw" (60 : Nat) ({ cls := "CellRowsModel", name := "want", desc := "(III)I" } : Jvm.MethodName)) ∈ lw_all := lw_g (lw_at lw_m7 93 rfl) rfl
theorem q1677 : (Jvm.Cond.methodLink "CellRowsLaw" (64 : Nat) ({ cls := "CellRowsModel", name := "fix", desc := "(III)I" } : Jvm.MethodName)) ∈ lw_all := lw_g (lw_at lw_m7 101 rfl) rfl
theorem q1685 : (Jvm.Cond.methodLink "CellRowsLaw" (68 : Nat) ({ cls := "CellRowsModel", name := "free", desc := "(I)I" } : Jvm.MethodName)) ∈ lw_all := lw_g (lw_at lw_m7 109 rfl) rfl
theorem q1689 : (Jvm.Cond.methodLink "CellRowsLaw" (72 : Nat) ({ cls := "CellRowsModel", name := "put", desc := "(III)I" } : Jvm.MethodName)) ∈ lw_all := lw_g (lw_at lw_m7 113 rfl) rfl
theorem q1735 : (Jvm.Cond.methodLink "CellRowsLaw" (76 : Nat) ({ cls := "CellRowsModel", name := "take", desc := "(I)I" } : Jvm.MethodName)) ∈ lw_all := lw_g (lw_at lw_m7 159 rfl) rfl
theorem q1739 : (Jvm.Cond.methodLink "CellRowsLaw" (80 : Nat) ({ cls := "CellRowsModel", name := "start", desc := "(I)I" } : Jvm.MethodName)) ∈ lw_all := lw_g (lw_at lw_m7 163 rfl) rfl
theorem q1766 : (Jvm.Cond.methodLink "CellRowsLaw" (84 : Nat) ({ cls := "CellRowsModel", name := "spread", desc := "(I)I" } : Jvm.MethodName)) ∈ lw_all := lw_g (lw_at lw_m7 190 rfl) rfl
theorem q1832 : (Jvm.Cond.methodLink "CellRowsLaw" (89 : Nat) ({ cls := "CellRowsModel", name := "legal", desc := "()I" } : Jvm.MethodName)) ∈ lw_all := lw_g (lw_at lw_m8 16 rfl) rfl
theorem q1888 : (Jvm.Cond.methodLink "CellRowsLaw" (154 : Nat) ({ cls := "CellRowsModel", name := "lawfully", desc := "(I)I" } : Jvm.MethodName)) ∈ lw_all := lw_g (lw_at lw_m8 72 rfl) rfl
theorem q1892 : (Jvm.Cond.methodLink "CellRowsLaw" (93 : Nat) ({ cls := "CellRowsModel", name := "windows", desc := "(I)I" } : Jvm.MethodName)) ∈ lw_all := lw_g (lw_at lw_m8 76 rfl) rfl
theorem q1925 : (Jvm.Cond.methodLink "CellRowsLaw" (97 : Nat) ({ cls := "CellRowsModel", name := "swaps", desc := "()I" } : Jvm.MethodName)) ∈ lw_all := lw_g (lw_at lw_m8 109 rfl) rfl
theorem q1937 : (Jvm.Cond.methodLink "CellRowsLaw" (101 : Nat) ({ cls := "CellRowsModel", name := "hops", desc := "()I" } : Jvm.MethodName)) ∈ lw_all := lw_g (lw_at lw_m8 121 rfl) rfl
theorem q1945 : (Jvm.Cond.methodLink "CellRowsLaw" (105 : Nat) ({ cls := "CellRowsModel", name := "sorts", desc := "()I" } : Jvm.MethodName)) ∈ lw_all := lw_g (lw_at lw_m8 129 rfl) rfl
theorem q1965 : (Jvm.Cond.methodLink "CellRowsLaw" (109 : Nat) ({ cls := "CellRowsModel", name := "shake", desc := "(III)I" } : Jvm.MethodName)) ∈ lw_all := lw_g (lw_at lw_m8 149 rfl) rfl
theorem q1979 : (Jvm.Cond.methodLink "CellRowsLaw" (117 : Nat) ({ cls := "CellRowsModel", name := "cellOf", desc := "(II)I" } : Jvm.MethodName)) ∈ lw_all := lw_g (lw_at lw_m8 163 rfl) rfl
theorem q1983 : (Jvm.Cond.methodLink "CellRowsLaw" (121 : Nat) ({ cls := "CellRowsModel", name := "netOf", desc := "(II)I" } : Jvm.MethodName)) ∈ lw_all := lw_g (lw_at lw_m8 167 rfl) rfl
theorem q1987 : (Jvm.Cond.methodLink "CellRowsLaw" (125 : Nat) ({ cls := "CellRowsModel", name := "bin", desc := "(II)I" } : Jvm.MethodName)) ∈ lw_all := lw_g (lw_at lw_m8 171 rfl) rfl
theorem q1995 : (Jvm.Cond.methodLink "CellRowsLaw" (129 : Nat) ({ cls := "CellRowsModel", name := "measure", desc := "(I)I" } : Jvm.MethodName)) ∈ lw_all := lw_g (lw_at lw_m8 179 rfl) rfl
theorem q2012 : (Jvm.Cond.methodLink "CellRowsLaw" (138 : Nat) ({ cls := "CellRowsModel", name := "runs", desc := "(II)I" } : Jvm.MethodName)) ∈ lw_all := lw_g (lw_at lw_m8 196 rfl) rfl
theorem q2024 : (Jvm.Cond.methodLink "CellRowsLaw" (142 : Nat) ({ cls := "CellRowsModel", name := "run", desc := "(IIII)I" } : Jvm.MethodName)) ∈ lw_all := lw_g (lw_at lw_m8 208 rfl) rfl
theorem q2028 : (Jvm.Cond.methodLink "CellRowsLaw" (146 : Nat) ({ cls := "CellRowsModel", name := "would", desc := "(III)I" } : Jvm.MethodName)) ∈ lw_all := lw_g (lw_at lw_m8 212 rfl) rfl
theorem q2036 : (Jvm.Cond.methodLink "CellRowsLaw" (150 : Nat) ({ cls := "CellRowsModel", name := "best", desc := "(II)I" } : Jvm.MethodName)) ∈ lw_all := lw_g (lw_at lw_m8 220 rfl) rfl
theorem q2040 : (Jvm.Cond.methodLink "CellRowsLaw" (158 : Nat) ({ cls := "CellRowsModel", name := "fillers", desc := "(I)I" } : Jvm.MethodName)) ∈ lw_all := lw_g (lw_at lw_m8 224 rfl) rfl
theorem q2044 : (Jvm.Cond.methodLink "CellRowsLaw" (162 : Nat) ({ cls := "CellRowsModel", name := "count", desc := "(I)I" } : Jvm.MethodName)) ∈ lw_all := lw_g (lw_at lw_m8 228 rfl) rfl
theorem q2050 : (Jvm.Cond.methodLink "CellRowsLaw" (166 : Nat) ({ cls := "CellRowsModel", name := "status", desc := "()I" } : Jvm.MethodName)) ∈ lw_all := lw_g (lw_at lw_m8 234 rfl) rfl
