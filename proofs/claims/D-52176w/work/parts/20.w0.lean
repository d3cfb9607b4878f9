set_option maxRecDepth 100000
/-! DECODE ROWS BY BYTES: one lemma an opcode; a method's code is cut into short pieces once, and a row reads its own piece alone. -/
set_option maxRecDepth 100000
/-- the code has just these bytes from pc on -/
def DkAt (code : ByteArray) (pc : Nat) (bs : List UInt8) : Prop := ∀ (j : Nat) (b : UInt8), bs[j]? = some b → code.data.toList[pc + j]? = some b
/-- the piece W has the bytes bs from its place j on -/
def dkIn (W : List UInt8) (j : Nat) (bs : List UInt8) : Bool := decide ((W.drop j).take bs.length = bs)
theorem dk_seg {l W T : List UInt8} {o o2 : Nat} (h : l.drop o = W ++ T) (n : Nat) (hn : W.length = n) (ho : o + n = o2) : l.drop o2 = T := by
  subst ho
  rw [← List.drop_drop, h, List.drop_left' hn]
theorem dk_at {code : ByteArray} {W T bs : List UInt8} {o pc : Nat} (h : code.data.toList.drop o = W ++ T) (j : Nat) (hp : o + j = pc) (hw : dkIn W j bs = true) : DkAt code pc bs := by
  subst hp
  intro i b e
  have h1 := of_decide_eq_true hw
  have h2 : i < bs.length := (List.getElem?_eq_some_iff.mp e).1
  have h3 : W[j + i]? = some b := by
    rw [← h1, List.getElem?_take, if_pos h2, List.getElem?_drop] at e
    exact e
  have h4 : j + i < W.length := (List.getElem?_eq_some_iff.mp h3).1
  have h5 : (code.data.toList.drop o)[j + i]? = some b := by
    rw [h, List.getElem?_append_left h4]
    exact h3
  rw [List.getElem?_drop, ← Nat.add_assoc] at h5
  exact h5
theorem dk_u1 {A : ByteArray} {p : Nat} {b : UInt8} (h : A.data.toList[p]? = some b) : (Reader.u1 : Reader DecodeError Nat) A p = .ok (b.toNat, p + 1) := by
  obtain ⟨h1, h2⟩ := List.getElem?_eq_some_iff.mp h
  have h3 : p < A.size := by simpa using h1
  have h4 : A[p]'h3 = b := h2
  have e : (Reader.u1 : Reader DecodeError Nat) A p = (if h : p < A.size then .ok (A[p].toNat, p + 1) else .error (HasTruncated.truncated p)) := by
    show (do if h : p < A.size then do set (p + 1); Pure.pure A[p].toNat else MonadExcept.throw (HasTruncated.truncated p) : Reader DecodeError Nat) A p = _
    by_cases hi : p < A.size
    · rw [dif_pos hi, dif_pos hi]; rfl
    · rw [dif_neg hi, dif_neg hi]; rfl
  rw [e, dif_pos h3, h4]
theorem dk_bind {α β : Type} {r : Reader DecodeError α} {f : α → Reader DecodeError β} {A : ByteArray} {p s : Nat} {a : α} (h : r A p = .ok (a, s)) : (r >>= f) A p = f a A s := by
  show (do let (a, s) ← r A p; f a A s : Except DecodeError (β × Nat)) = _
  rw [h]
  rfl
theorem dk_map {α β : Type} {r : Reader DecodeError α} {g : α → β} {A : ByteArray} {p s : Nat} {a : α} (h : r A p = .ok (a, s)) : (g <$> r) A p = .ok (g a, s) := by
  show (do let (a, s) ← r A p; .ok (g a, s) : Except DecodeError (β × Nat)) = _
  rw [h]
  rfl
theorem dk_u2 {A : ByteArray} {p : Nat} {a b : UInt8} (h : A.data.toList[p]? = some a) (h2 : A.data.toList[p + 1]? = some b) : (Reader.u2 : Reader DecodeError Nat) A p = .ok (a.toNat * 256 + b.toNat, p + 2) := by
  show (Reader.u1 >>= fun hi => Reader.u1 >>= fun lo => Pure.pure (hi * 256 + lo) : Reader DecodeError Nat) A p = _
  rw [dk_bind (dk_u1 h), dk_bind (dk_u1 h2)]
  rfl
theorem dk_of {code : ByteArray} {pc n : Nat} {i : Instr} (h : Decoder.instr pc code pc = .ok (i, pc + n)) : decode code pc = .ok (i, n) := by
  have e : decode code pc = (match Decoder.instr pc code pc with | .error x => .error x | .ok (j, s) => .ok (j, s - pc)) := by
    show (do let (j, s) ← Decoder.instr pc code pc; Pure.pure (j, s - pc) : Except DecodeError (Instr × Nat)) = _
    cases Decoder.instr pc code pc <;> rfl
  rw [e, h]
  show Except.ok (i, pc + n - pc) = _
  rw [Nat.add_sub_cancel_left]
theorem dk_1 {code : ByteArray} {pc : Nat} (h : DkAt code pc [1]) : decode code pc = .ok (.aconst_null, 1) := dk_of ((dk_bind (dk_u1 (h 0 _ rfl))).trans rfl)
theorem dk_2 {code : ByteArray} {pc : Nat} (h : DkAt code pc [2]) : decode code pc = .ok (.iconst (-1), 1) := dk_of ((dk_bind (dk_u1 (h 0 _ rfl))).trans rfl)
theorem dk_3 {code : ByteArray} {pc : Nat} (h : DkAt code pc [3]) : decode code pc = .ok (.iconst 0, 1) := dk_of ((dk_bind (dk_u1 (h 0 _ rfl))).trans rfl)
theorem dk_4 {code : ByteArray} {pc : Nat} (h : DkAt code pc [4]) : decode code pc = .ok (.iconst 1, 1) := dk_of ((dk_bind (dk_u1 (h 0 _ rfl))).trans rfl)
theorem dk_5 {code : ByteArray} {pc : Nat} (h : DkAt code pc [5]) : decode code pc = .ok (.iconst 2, 1) := dk_of ((dk_bind (dk_u1 (h 0 _ rfl))).trans rfl)
theorem dk_6 {code : ByteArray} {pc : Nat} (h : DkAt code pc [6]) : decode code pc = .ok (.iconst 3, 1) := dk_of ((dk_bind (dk_u1 (h 0 _ rfl))).trans rfl)
theorem dk_7 {code : ByteArray} {pc : Nat} (h : DkAt code pc [7]) : decode code pc = .ok (.iconst 4, 1) := dk_of ((dk_bind (dk_u1 (h 0 _ rfl))).trans rfl)
theorem dk_8 {code : ByteArray} {pc : Nat} (h : DkAt code pc [8]) : decode code pc = .ok (.iconst 5, 1) := dk_of ((dk_bind (dk_u1 (h 0 _ rfl))).trans rfl)
theorem dk_9 {code : ByteArray} {pc : Nat} (h : DkAt code pc [9]) : decode code pc = .ok (.lconst 0, 1) := dk_of ((dk_bind (dk_u1 (h 0 _ rfl))).trans rfl)
theorem dk_10 {code : ByteArray} {pc : Nat} (h : DkAt code pc [10]) : decode code pc = .ok (.lconst 1, 1) := dk_of ((dk_bind (dk_u1 (h 0 _ rfl))).trans rfl)
theorem dk_14 {code : ByteArray} {pc : Nat} (h : DkAt code pc [14]) : decode code pc = .ok (.dconst 0, 1) := dk_of ((dk_bind (dk_u1 (h 0 _ rfl))).trans rfl)
theorem dk_16 {code : ByteArray} {pc : Nat} (a : UInt8) (h : DkAt code pc [16, a]) : decode code pc = .ok (.bipush (Reader.signed 8 a.toNat), 2) := dk_of ((dk_bind (dk_u1 (h 0 _ rfl))).trans ((dk_bind (dk_map (dk_u1 (h 1 _ rfl)))).trans rfl))
theorem dk_17 {code : ByteArray} {pc : Nat} (a b : UInt8) (h : DkAt code pc [17, a, b]) : decode code pc = .ok (.sipush (Reader.signed 16 (a.toNat * 256 + b.toNat)), 3) := dk_of ((dk_bind (dk_u1 (h 0 _ rfl))).trans ((dk_bind (dk_map (dk_u2 (h 1 _ rfl) (h 2 _ rfl)))).trans rfl))
theorem dk_18 {code : ByteArray} {pc : Nat} (a : UInt8) (h : DkAt code pc [18, a]) : decode code pc = .ok (.ldc a.toNat, 2) := dk_of ((dk_bind (dk_u1 (h 0 _ rfl))).trans ((dk_bind (dk_u1 (h 1 _ rfl))).trans rfl))
theorem dk_19 {code : ByteArray} {pc : Nat} (a b : UInt8) (h : DkAt code pc [19, a, b]) : decode code pc = .ok (.ldc_w (a.toNat * 256 + b.toNat), 3) := dk_of ((dk_bind (dk_u1 (h 0 _ rfl))).trans ((dk_bind (dk_u2 (h 1 _ rfl) (h 2 _ rfl))).trans rfl))
theorem dk_20 {code : ByteArray} {pc : Nat} (a b : UInt8) (h : DkAt code pc [20, a, b]) : decode code pc = .ok (.ldc2_w (a.toNat * 256 + b.toNat), 3) := dk_of ((dk_bind (dk_u1 (h 0 _ rfl))).trans ((dk_bind (dk_u2 (h 1 _ rfl) (h 2 _ rfl))).trans rfl))
theorem dk_21 {code : ByteArray} {pc : Nat} (a : UInt8) (h : DkAt code pc [21, a]) : decode code pc = .ok (.iload a.toNat, 2) := dk_of ((dk_bind (dk_u1 (h 0 _ rfl))).trans ((dk_bind (dk_u1 (h 1 _ rfl))).trans rfl))
theorem dk_22 {code : ByteArray} {pc : Nat} (a : UInt8) (h : DkAt code pc [22, a]) : decode code pc = .ok (.lload a.toNat, 2) := dk_of ((dk_bind (dk_u1 (h 0 _ rfl))).trans ((dk_bind (dk_u1 (h 1 _ rfl))).trans rfl))
theorem dk_23 {code : ByteArray} {pc : Nat} (a : UInt8) (h : DkAt code pc [23, a]) : decode code pc = .ok (.fload a.toNat, 2) := dk_of ((dk_bind (dk_u1 (h 0 _ rfl))).trans ((dk_bind (dk_u1 (h 1 _ rfl))).trans rfl))
theorem dk_24 {code : ByteArray} {pc : Nat} (a : UInt8) (h : DkAt code pc [24, a]) : decode code pc = .ok (.dload a.toNat, 2) := dk_of ((dk_bind (dk_u1 (h 0 _ rfl))).trans ((dk_bind (dk_u1 (h 1 _ rfl))).trans rfl))
theorem dk_25 {code : ByteArray} {pc : Nat} (a : UInt8) (h : DkAt code pc [25, a]) : decode code pc = .ok (.aload a.toNat, 2) := dk_of ((dk_bind (dk_u1 (h 0 _ rfl))).trans ((dk_bind (dk_u1 (h 1 _ rfl))).trans rfl))
theorem dk_26 {code : ByteArray} {pc : Nat} (h : DkAt code pc [26]) : decode code pc = .ok (.iload_n 0, 1) := dk_of ((dk_bind (dk_u1 (h 0 _ rfl))).trans rfl)
theorem dk_27 {code : ByteArray} {pc : Nat} (h : DkAt code pc [27]) : decode code pc = .ok (.iload_n 1, 1) := dk_of ((dk_bind (dk_u1 (h 0 _ rfl))).trans rfl)
theorem dk_28 {code : ByteArray} {pc : Nat} (h : DkAt code pc [28]) : decode code pc = .ok (.iload_n 2, 1) := dk_of ((dk_bind (dk_u1 (h 0 _ rfl))).trans rfl)
theorem dk_29 {code : ByteArray} {pc : Nat} (h : DkAt code pc [29]) : decode code pc = .ok (.iload_n 3, 1) := dk_of ((dk_bind (dk_u1 (h 0 _ rfl))).trans rfl)
theorem dk_30 {code : ByteArray} {pc : Nat} (h : DkAt code pc [30]) : decode code pc = .ok (.lload_n 0, 1) := dk_of ((dk_bind (dk_u1 (h 0 _ rfl))).trans rfl)
theorem dk_31 {code : ByteArray} {pc : Nat} (h : DkAt code pc [31]) : decode code pc = .ok (.lload_n 1, 1) := dk_of ((dk_bind (dk_u1 (h 0 _ rfl))).trans rfl)
theorem dk_32 {code : ByteArray} {pc : Nat} (h : DkAt code pc [32]) : decode code pc = .ok (.lload_n 2, 1) := dk_of ((dk_bind (dk_u1 (h 0 _ rfl))).trans rfl)
theorem dk_33 {code : ByteArray} {pc : Nat} (h : DkAt code pc [33]) : decode code pc = .ok (.lload_n 3, 1) := dk_of ((dk_bind (dk_u1 (h 0 _ rfl))).trans rfl)
theorem dk_42 {code : ByteArray} {pc : Nat} (h : DkAt code pc [42]) : decode code pc = .ok (.aload_n 0, 1) := dk_of ((dk_bind (dk_u1 (h 0 _ rfl))).trans rfl)
theorem dk_43 {code : ByteArray} {pc : Nat} (h : DkAt code pc [43]) : decode code pc = .ok (.aload_n 1, 1) := dk_of ((dk_bind (dk_u1 (h 0 _ rfl))).trans rfl)
theorem dk_44 {code : ByteArray} {pc : Nat} (h : DkAt code pc [44]) : decode code pc = .ok (.aload_n 2, 1) := dk_of ((dk_bind (dk_u1 (h 0 _ rfl))).trans rfl)
theorem dk_45 {code : ByteArray} {pc : Nat} (h : DkAt code pc [45]) : decode code pc = .ok (.aload_n 3, 1) := dk_of ((dk_bind (dk_u1 (h 0 _ rfl))).trans rfl)
theorem dk_46 {code : ByteArray} {pc : Nat} (h : DkAt code pc [46]) : decode code pc = .ok (.iaload, 1) := dk_of ((dk_bind (dk_u1 (h 0 _ rfl))).trans rfl)
theorem dk_47 {code : ByteArray} {pc : Nat} (h : DkAt code pc [47]) : decode code pc = .ok (.laload, 1) := dk_of ((dk_bind (dk_u1 (h 0 _ rfl))).trans rfl)
theorem dk_50 {code : ByteArray} {pc : Nat} (h : DkAt code pc [50]) : decode code pc = .ok (.aaload, 1) := dk_of ((dk_bind (dk_u1 (h 0 _ rfl))).trans rfl)
theorem dk_51 {code : ByteArray} {pc : Nat} (h : DkAt code pc [51]) : decode code pc = .ok (.baload, 1) := dk_of ((dk_bind (dk_u1 (h 0 _ rfl))).trans rfl)
theorem dk_52 {code : ByteArray} {pc : Nat} (h : DkAt code pc [52]) : decode code pc = .ok (.caload, 1) := dk_of ((dk_bind (dk_u1 (h 0 _ rfl))).trans rfl)
theorem dk_53 {code : ByteArray} {pc : Nat} (h : DkAt code pc [53]) : decode code pc = .ok (.saload, 1) := dk_of ((dk_bind (dk_u1 (h 0 _ rfl))).trans rfl)
theorem dk_54 {code : ByteArray} {pc : Nat} (a : UInt8) (h : DkAt code pc [54, a]) : decode code pc = .ok (.istore a.toNat, 2) := dk_of ((dk_bind (dk_u1 (h 0 _ rfl))).trans ((dk_bind (dk_u1 (h 1 _ rfl))).trans rfl))
theorem dk_55 {code : ByteArray} {pc : Nat} (a : UInt8) (h : DkAt code pc [55, a]) : decode code pc = .ok (.lstore a.toNat, 2) := dk_of ((dk_bind (dk_u1 (h 0 _ rfl))).trans ((dk_bind (dk_u1 (h 1 _ rfl))).trans rfl))
theorem dk_56 {code : ByteArray} {pc : Nat} (a : UInt8) (h : DkAt code pc [56, a]) : decode code pc = .ok (.fstore a.toNat, 2) := dk_of ((dk_bind (dk_u1 (h 0 _ rfl))).trans ((dk_bind (dk_u1 (h 1 _ rfl))).trans rfl))
theorem dk_57 {code : ByteArray} {pc : Nat} (a : UInt8) (h : DkAt code pc [57, a]) : decode code pc = .ok (.dstore a.toNat, 2) := dk_of ((dk_bind (dk_u1 (h 0 _ rfl))).trans ((dk_bind (dk_u1 (h 1 _ rfl))).trans rfl))
theorem dk_58 {code : ByteArray} {pc : Nat} (a : UInt8) (h : DkAt code pc [58, a]) : decode code pc = .ok (.astore a.toNat, 2) := dk_of ((dk_bind (dk_u1 (h 0 _ rfl))).trans ((dk_bind (dk_u1 (h 1 _ rfl))).trans rfl))
theorem dk_59 {code : ByteArray} {pc : Nat} (h : DkAt code pc [59]) : decode code pc = .ok (.istore_n 0, 1) := dk_of ((dk_bind (dk_u1 (h 0 _ rfl))).trans rfl)
theorem dk_60 {code : ByteArray} {pc : Nat} (h : DkAt code pc [60]) : decode code pc = .ok (.istore_n 1, 1) := dk_of ((dk_bind (dk_u1 (h 0 _ rfl))).trans rfl)
theorem dk_61 {code : ByteArray} {pc : Nat} (h : DkAt code pc [61]) : decode code pc = .ok (.istore_n 2, 1) := dk_of ((dk_bind (dk_u1 (h 0 _ rfl))).trans rfl)
theorem dk_62 {code : ByteArray} {pc : Nat} (h : DkAt code pc [62]) : decode code pc = .ok (.istore_n 3, 1) := dk_of ((dk_bind (dk_u1 (h 0 _ rfl))).trans rfl)
theorem dk_64 {code : ByteArray} {pc : Nat} (h : DkAt code pc [64]) : decode code pc = .ok (.lstore_n 1, 1) := dk_of ((dk_bind (dk_u1 (h 0 _ rfl))).trans rfl)
theorem dk_66 {code : ByteArray} {pc : Nat} (h : DkAt code pc [66]) : decode code pc = .ok (.lstore_n 3, 1) := dk_of ((dk_bind (dk_u1 (h 0 _ rfl))).trans rfl)
theorem dk_75 {code : ByteArray} {pc : Nat} (h : DkAt code pc [75]) : decode code pc = .ok (.astore_n 0, 1) := dk_of ((dk_bind (dk_u1 (h 0 _ rfl))).trans rfl)
theorem dk_76 {code : ByteArray} {pc : Nat} (h : DkAt code pc [76]) : decode code pc = .ok (.astore_n 1, 1) := dk_of ((dk_bind (dk_u1 (h 0 _ rfl))).trans rfl)
theorem dk_77 {code : ByteArray} {pc : Nat} (h : DkAt code pc [77]) : decode code pc = .ok (.astore_n 2, 1) := dk_of ((dk_bind (dk_u1 (h 0 _ rfl))).trans rfl)
theorem dk_78 {code : ByteArray} {pc : Nat} (h : DkAt code pc [78]) : decode code pc = .ok (.astore_n 3, 1) := dk_of ((dk_bind (dk_u1 (h 0 _ rfl))).trans rfl)
theorem dk_79 {code : ByteArray} {pc : Nat} (h : DkAt code pc [79]) : decode code pc = .ok (.iastore, 1) := dk_of ((dk_bind (dk_u1 (h 0 _ rfl))).trans rfl)
theorem dk_80 {code : ByteArray} {pc : Nat} (h : DkAt code pc [80]) : decode code pc = .ok (.lastore, 1) := dk_of ((dk_bind (dk_u1 (h 0 _ rfl))).trans rfl)
theorem dk_83 {code : ByteArray} {pc : Nat} (h : DkAt code pc [83]) : decode code pc = .ok (.aastore, 1) := dk_of ((dk_bind (dk_u1 (h 0 _ rfl))).trans rfl)
theorem dk_84 {code : ByteArray} {pc : Nat} (h : DkAt code pc [84]) : decode code pc = .ok (.bastore, 1) := dk_of ((dk_bind (dk_u1 (h 0 _ rfl))).trans rfl)
theorem dk_87 {code : ByteArray} {pc : Nat} (h : DkAt code pc [87]) : decode code pc = .ok (.pop, 1) := dk_of ((dk_bind (dk_u1 (h 0 _ rfl))).trans rfl)
theorem dk_89 {code : ByteArray} {pc : Nat} (h : DkAt code pc [89]) : decode code pc = .ok (.dup, 1) := dk_of ((dk_bind (dk_u1 (h 0 _ rfl))).trans rfl)
theorem dk_90 {code : ByteArray} {pc : Nat} (h : DkAt code pc [90]) : decode code pc = .ok (.dup_x1, 1) := dk_of ((dk_bind (dk_u1 (h 0 _ rfl))).trans rfl)
theorem dk_91 {code : ByteArray} {pc : Nat} (h : DkAt code pc [91]) : decode code pc = .ok (.dup_x2, 1) := dk_of ((dk_bind (dk_u1 (h 0 _ rfl))).trans rfl)
theorem dk_92 {code : ByteArray} {pc : Nat} (h : DkAt code pc [92]) : decode code pc = .ok (.dup2, 1) := dk_of ((dk_bind (dk_u1 (h 0 _ rfl))).trans rfl)
theorem dk_96 {code : ByteArray} {pc : Nat} (h : DkAt code pc [96]) : decode code pc = .ok (.iadd, 1) := dk_of ((dk_bind (dk_u1 (h 0 _ rfl))).trans rfl)
theorem dk_97 {code : ByteArray} {pc : Nat} (h : DkAt code pc [97]) : decode code pc = .ok (.ladd, 1) := dk_of ((dk_bind (dk_u1 (h 0 _ rfl))).trans rfl)
theorem dk_100 {code : ByteArray} {pc : Nat} (h : DkAt code pc [100]) : decode code pc = .ok (.isub, 1) := dk_of ((dk_bind (dk_u1 (h 0 _ rfl))).trans rfl)
theorem dk_101 {code : ByteArray} {pc : Nat} (h : DkAt code pc [101]) : decode code pc = .ok (.lsub, 1) := dk_of ((dk_bind (dk_u1 (h 0 _ rfl))).trans rfl)
theorem dk_104 {code : ByteArray} {pc : Nat} (h : DkAt code pc [104]) : decode code pc = .ok (.imul, 1) := dk_of ((dk_bind (dk_u1 (h 0 _ rfl))).trans rfl)
theorem dk_105 {code : ByteArray} {pc : Nat} (h : DkAt code pc [105]) : decode code pc = .ok (.lmul, 1) := dk_of ((dk_bind (dk_u1 (h 0 _ rfl))).trans rfl)
theorem dk_106 {code : ByteArray} {pc : Nat} (h : DkAt code pc [106]) : decode code pc = .ok (.fmul, 1) := dk_of ((dk_bind (dk_u1 (h 0 _ rfl))).trans rfl)
theorem dk_108 {code : ByteArray} {pc : Nat} (h : DkAt code pc [108]) : decode code pc = .ok (.idiv, 1) := dk_of ((dk_bind (dk_u1 (h 0 _ rfl))).trans rfl)
theorem dk_111 {code : ByteArray} {pc : Nat} (h : DkAt code pc [111]) : decode code pc = .ok (.ddiv, 1) := dk_of ((dk_bind (dk_u1 (h 0 _ rfl))).trans rfl)
theorem dk_112 {code : ByteArray} {pc : Nat} (h : DkAt code pc [112]) : decode code pc = .ok (.irem, 1) := dk_of ((dk_bind (dk_u1 (h 0 _ rfl))).trans rfl)
theorem dk_116 {code : ByteArray} {pc : Nat} (h : DkAt code pc [116]) : decode code pc = .ok (.ineg, 1) := dk_of ((dk_bind (dk_u1 (h 0 _ rfl))).trans rfl)
theorem dk_120 {code : ByteArray} {pc : Nat} (h : DkAt code pc [120]) : decode code pc = .ok (.ishl, 1) := dk_of ((dk_bind (dk_u1 (h 0 _ rfl))).trans rfl)
theorem dk_121 {code : ByteArray} {pc : Nat} (h : DkAt code pc [121]) : decode code pc = .ok (.lshl, 1) := dk_of ((dk_bind (dk_u1 (h 0 _ rfl))).trans rfl)
theorem dk_122 {code : ByteArray} {pc : Nat} (h : DkAt code pc [122]) : decode code pc = .ok (.ishr, 1) := dk_of ((dk_bind (dk_u1 (h 0 _ rfl))).trans rfl)
theorem dk_123 {code : ByteArray} {pc : Nat} (h : DkAt code pc [123]) : decode code pc = .ok (.lshr, 1) := dk_of ((dk_bind (dk_u1 (h 0 _ rfl))).trans rfl)
theorem dk_124 {code : ByteArray} {pc : Nat} (h : DkAt code pc [124]) : decode code pc = .ok (.iushr, 1) := dk_of ((dk_bind (dk_u1 (h 0 _ rfl))).trans rfl)
theorem dk_125 {code : ByteArray} {pc : Nat} (h : DkAt code pc [125]) : decode code pc = .ok (.lushr, 1) := dk_of ((dk_bind (dk_u1 (h 0 _ rfl))).trans rfl)
theorem dk_126 {code : ByteArray} {pc : Nat} (h : DkAt code pc [126]) : decode code pc = .ok (.iand, 1) := dk_of ((dk_bind (dk_u1 (h 0 _ rfl))).trans rfl)
theorem dk_127 {code : ByteArray} {pc : Nat} (h : DkAt code pc [127]) : decode code pc = .ok (.land, 1) := dk_of ((dk_bind (dk_u1 (h 0 _ rfl))).trans rfl)
theorem dk_128 {code : ByteArray} {pc : Nat} (h : DkAt code pc [128]) : decode code pc = .ok (.ior, 1) := dk_of ((dk_bind (dk_u1 (h 0 _ rfl))).trans rfl)
theorem dk_129 {code : ByteArray} {pc : Nat} (h : DkAt code pc [129]) : decode code pc = .ok (.lor, 1) := dk_of ((dk_bind (dk_u1 (h 0 _ rfl))).trans rfl)
theorem dk_130 {code : ByteArray} {pc : Nat} (h : DkAt code pc [130]) : decode code pc = .ok (.ixor, 1) := dk_of ((dk_bind (dk_u1 (h 0 _ rfl))).trans rfl)
theorem dk_131 {code : ByteArray} {pc : Nat} (h : DkAt code pc [131]) : decode code pc = .ok (.lxor, 1) := dk_of ((dk_bind (dk_u1 (h 0 _ rfl))).trans rfl)
theorem dk_132 {code : ByteArray} {pc : Nat} (a b : UInt8) (h : DkAt code pc [132, a, b]) : decode code pc = .ok (.iinc a.toNat (Reader.signed 8 b.toNat), 3) := dk_of ((dk_bind (dk_u1 (h 0 _ rfl))).trans ((dk_bind (dk_u1 (h 1 _ rfl))).trans ((dk_bind (dk_map (dk_u1 (h 2 _ rfl)))).trans rfl)))
theorem dk_133 {code : ByteArray} {pc : Nat} (h : DkAt code pc [133]) : decode code pc = .ok (.i2l, 1) := dk_of ((dk_bind (dk_u1 (h 0 _ rfl))).trans rfl)
theorem dk_134 {code : ByteArray} {pc : Nat} (h : DkAt code pc [134]) : decode code pc = .ok (.i2f, 1) := dk_of ((dk_bind (dk_u1 (h 0 _ rfl))).trans rfl)
theorem dk_135 {code : ByteArray} {pc : Nat} (h : DkAt code pc [135]) : decode code pc = .ok (.i2d, 1) := dk_of ((dk_bind (dk_u1 (h 0 _ rfl))).trans rfl)
theorem dk_136 {code : ByteArray} {pc : Nat} (h : DkAt code pc [136]) : decode code pc = .ok (.l2i, 1) := dk_of ((dk_bind (dk_u1 (h 0 _ rfl))).trans rfl)
theorem dk_139 {code : ByteArray} {pc : Nat} (h : DkAt code pc [139]) : decode code pc = .ok (.f2i, 1) := dk_of ((dk_bind (dk_u1 (h 0 _ rfl))).trans rfl)
theorem dk_145 {code : ByteArray} {pc : Nat} (h : DkAt code pc [145]) : decode code pc = .ok (.i2b, 1) := dk_of ((dk_bind (dk_u1 (h 0 _ rfl))).trans rfl)
theorem dk_146 {code : ByteArray} {pc : Nat} (h : DkAt code pc [146]) : decode code pc = .ok (.i2c, 1) := dk_of ((dk_bind (dk_u1 (h 0 _ rfl))).trans rfl)
theorem dk_148 {code : ByteArray} {pc : Nat} (h : DkAt code pc [148]) : decode code pc = .ok (.lcmp, 1) := dk_of ((dk_bind (dk_u1 (h 0 _ rfl))).trans rfl)
theorem dk_150 {code : ByteArray} {pc : Nat} (h : DkAt code pc [150]) : decode code pc = .ok (.fcmp .g, 1) := dk_of ((dk_bind (dk_u1 (h 0 _ rfl))).trans rfl)
theorem dk_151 {code : ByteArray} {pc : Nat} (h : DkAt code pc [151]) : decode code pc = .ok (.dcmp .l, 1) := dk_of ((dk_bind (dk_u1 (h 0 _ rfl))).trans rfl)
theorem dk_153 {code : ByteArray} {pc : Nat} (a b : UInt8) (h : DkAt code pc [153, a, b]) : decode code pc = .ok (.ifCond .eq (Reader.signed 16 (a.toNat * 256 + b.toNat)), 3) := dk_of ((dk_bind (dk_u1 (h 0 _ rfl))).trans ((dk_bind (dk_map (dk_u2 (h 1 _ rfl) (h 2 _ rfl)))).trans rfl))
theorem dk_154 {code : ByteArray} {pc : Nat} (a b : UInt8) (h : DkAt code pc [154, a, b]) : decode code pc = .ok (.ifCond .ne (Reader.signed 16 (a.toNat * 256 + b.toNat)), 3) := dk_of ((dk_bind (dk_u1 (h 0 _ rfl))).trans ((dk_bind (dk_map (dk_u2 (h 1 _ rfl) (h 2 _ rfl)))).trans rfl))
theorem dk_155 {code : ByteArray} {pc : Nat} (a b : UInt8) (h : DkAt code pc [155, a, b]) : decode code pc = .ok (.ifCond .lt (Reader.signed 16 (a.toNat * 256 + b.toNat)), 3) := dk_of ((dk_bind (dk_u1 (h 0 _ rfl))).trans ((dk_bind (dk_map (dk_u2 (h 1 _ rfl) (h 2 _ rfl)))).trans rfl))
theorem dk_156 {code : ByteArray} {pc : Nat} (a b : UInt8) (h : DkAt code pc [156, a, b]) : decode code pc = .ok (.ifCond .ge (Reader.signed 16 (a.toNat * 256 + b.toNat)), 3) := dk_of ((dk_bind (dk_u1 (h 0 _ rfl))).trans ((dk_bind (dk_map (dk_u2 (h 1 _ rfl) (h 2 _ rfl)))).trans rfl))
theorem dk_157 {code : ByteArray} {pc : Nat} (a b : UInt8) (h : DkAt code pc [157, a, b]) : decode code pc = .ok (.ifCond .gt (Reader.signed 16 (a.toNat * 256 + b.toNat)), 3) := dk_of ((dk_bind (dk_u1 (h 0 _ rfl))).trans ((dk_bind (dk_map (dk_u2 (h 1 _ rfl) (h 2 _ rfl)))).trans rfl))
theorem dk_158 {code : ByteArray} {pc : Nat} (a b : UInt8) (h : DkAt code pc [158, a, b]) : decode code pc = .ok (.ifCond .le (Reader.signed 16 (a.toNat * 256 + b.toNat)), 3) := dk_of ((dk_bind (dk_u1 (h 0 _ rfl))).trans ((dk_bind (dk_map (dk_u2 (h 1 _ rfl) (h 2 _ rfl)))).trans rfl))
theorem dk_159 {code : ByteArray} {pc : Nat} (a b : UInt8) (h : DkAt code pc [159, a, b]) : decode code pc = .ok (.if_icmp .eq (Reader.signed 16 (a.toNat * 256 + b.toNat)), 3) := dk_of ((dk_bind (dk_u1 (h 0 _ rfl))).trans ((dk_bind (dk_map (dk_u2 (h 1 _ rfl) (h 2 _ rfl)))).trans rfl))
theorem dk_160 {code : ByteArray} {pc : Nat} (a b : UInt8) (h : DkAt code pc [160, a, b]) : decode code pc = .ok (.if_icmp .ne (Reader.signed 16 (a.toNat * 256 + b.toNat)), 3) := dk_of ((dk_bind (dk_u1 (h 0 _ rfl))).trans ((dk_bind (dk_map (dk_u2 (h 1 _ rfl) (h 2 _ rfl)))).trans rfl))
theorem dk_161 {code : ByteArray} {pc : Nat} (a b : UInt8) (h : DkAt code pc [161, a, b]) : decode code pc = .ok (.if_icmp .lt (Reader.signed 16 (a.toNat * 256 + b.toNat)), 3) := dk_of ((dk_bind (dk_u1 (h 0 _ rfl))).trans ((dk_bind (dk_map (dk_u2 (h 1 _ rfl) (h 2 _ rfl)))).trans rfl))
theorem dk_162 {code : ByteArray} {pc : Nat} (a b : UInt8) (h : DkAt code pc [162, a, b]) : decode code pc = .ok (.if_icmp .ge (Reader.signed 16 (a.toNat * 256 + b.toNat)), 3) := dk_of ((dk_bind (dk_u1 (h 0 _ rfl))).trans ((dk_bind (dk_map (dk_u2 (h 1 _ rfl) (h 2 _ rfl)))).trans rfl))
theorem dk_163 {code : ByteArray} {pc : Nat} (a b : UInt8) (h : DkAt code pc [163, a, b]) : decode code pc = .ok (.if_icmp .gt (Reader.signed 16 (a.toNat * 256 + b.toNat)), 3) := dk_of ((dk_bind (dk_u1 (h 0 _ rfl))).trans ((dk_bind (dk_map (dk_u2 (h 1 _ rfl) (h 2 _ rfl)))).trans rfl))
theorem dk_164 {code : ByteArray} {pc : Nat} (a b : UInt8) (h : DkAt code pc [164, a, b]) : decode code pc = .ok (.if_icmp .le (Reader.signed 16 (a.toNat * 256 + b.toNat)), 3) := dk_of ((dk_bind (dk_u1 (h 0 _ rfl))).trans ((dk_bind (dk_map (dk_u2 (h 1 _ rfl) (h 2 _ rfl)))).trans rfl))
theorem dk_165 {code : ByteArray} {pc : Nat} (a b : UInt8) (h : DkAt code pc [165, a, b]) : decode code pc = .ok (.if_acmp .eq (Reader.signed 16 (a.toNat * 256 + b.toNat)), 3) := dk_of ((dk_bind (dk_u1 (h 0 _ rfl))).trans ((dk_bind (dk_map (dk_u2 (h 1 _ rfl) (h 2 _ rfl)))).trans rfl))
theorem dk_166 {code : ByteArray} {pc : Nat} (a b : UInt8) (h : DkAt code pc [166, a, b]) : decode code pc = .ok (.if_acmp .ne (Reader.signed 16 (a.toNat * 256 + b.toNat)), 3) := dk_of ((dk_bind (dk_u1 (h 0 _ rfl))).trans ((dk_bind (dk_map (dk_u2 (h 1 _ rfl) (h 2 _ rfl)))).trans rfl))
theorem dk_167 {code : ByteArray} {pc : Nat} (a b : UInt8) (h : DkAt code pc [167, a, b]) : decode code pc = .ok (.goto (Reader.signed 16 (a.toNat * 256 + b.toNat)), 3) := dk_of ((dk_bind (dk_u1 (h 0 _ rfl))).trans ((dk_bind (dk_map (dk_u2 (h 1 _ rfl) (h 2 _ rfl)))).trans rfl))
theorem dk_172 {code : ByteArray} {pc : Nat} (h : DkAt code pc [172]) : decode code pc = .ok (.ireturn, 1) := dk_of ((dk_bind (dk_u1 (h 0 _ rfl))).trans rfl)
theorem dk_173 {code : ByteArray} {pc : Nat} (h : DkAt code pc [173]) : decode code pc = .ok (.lreturn, 1) := dk_of ((dk_bind (dk_u1 (h 0 _ rfl))).trans rfl)
theorem dk_175 {code : ByteArray} {pc : Nat} (h : DkAt code pc [175]) : decode code pc = .ok (.dreturn, 1) := dk_of ((dk_bind (dk_u1 (h 0 _ rfl))).trans rfl)
theorem dk_176 {code : ByteArray} {pc : Nat} (h : DkAt code pc [176]) : decode code pc = .ok (.areturn, 1) := dk_of ((dk_bind (dk_u1 (h 0 _ rfl))).trans rfl)
theorem dk_177 {code : ByteArray} {pc : Nat} (h : DkAt code pc [177]) : decode code pc = .ok (.return_, 1) := dk_of ((dk_bind (dk_u1 (h 0 _ rfl))).trans rfl)
theorem dk_178 {code : ByteArray} {pc : Nat} (a b : UInt8) (h : DkAt code pc [178, a, b]) : decode code pc = .ok (.getstatic (a.toNat * 256 + b.toNat), 3) := dk_of ((dk_bind (dk_u1 (h 0 _ rfl))).trans ((dk_bind (dk_u2 (h 1 _ rfl) (h 2 _ rfl))).trans rfl))
theorem dk_180 {code : ByteArray} {pc : Nat} (a b : UInt8) (h : DkAt code pc [180, a, b]) : decode code pc = .ok (.getfield (a.toNat * 256 + b.toNat), 3) := dk_of ((dk_bind (dk_u1 (h 0 _ rfl))).trans ((dk_bind (dk_u2 (h 1 _ rfl) (h 2 _ rfl))).trans rfl))
theorem dk_181 {code : ByteArray} {pc : Nat} (a b : UInt8) (h : DkAt code pc [181, a, b]) : decode code pc = .ok (.putfield (a.toNat * 256 + b.toNat), 3) := dk_of ((dk_bind (dk_u1 (h 0 _ rfl))).trans ((dk_bind (dk_u2 (h 1 _ rfl) (h 2 _ rfl))).trans rfl))
theorem dk_182 {code : ByteArray} {pc : Nat} (a b : UInt8) (h : DkAt code pc [182, a, b]) : decode code pc = .ok (.invokevirtual (a.toNat * 256 + b.toNat), 3) := dk_of ((dk_bind (dk_u1 (h 0 _ rfl))).trans ((dk_bind (dk_u2 (h 1 _ rfl) (h 2 _ rfl))).trans rfl))
theorem dk_183 {code : ByteArray} {pc : Nat} (a b : UInt8) (h : DkAt code pc [183, a, b]) : decode code pc = .ok (.invokespecial (a.toNat * 256 + b.toNat), 3) := dk_of ((dk_bind (dk_u1 (h 0 _ rfl))).trans ((dk_bind (dk_u2 (h 1 _ rfl) (h 2 _ rfl))).trans rfl))
theorem dk_184 {code : ByteArray} {pc : Nat} (a b : UInt8) (h : DkAt code pc [184, a, b]) : decode code pc = .ok (.invokestatic (a.toNat * 256 + b.toNat), 3) := dk_of ((dk_bind (dk_u1 (h 0 _ rfl))).trans ((dk_bind (dk_u2 (h 1 _ rfl) (h 2 _ rfl))).trans rfl))
theorem dk_187 {code : ByteArray} {pc : Nat} (a b : UInt8) (h : DkAt code pc [187, a, b]) : decode code pc = .ok (.new (a.toNat * 256 + b.toNat), 3) := dk_of ((dk_bind (dk_u1 (h 0 _ rfl))).trans ((dk_bind (dk_u2 (h 1 _ rfl) (h 2 _ rfl))).trans rfl))
theorem dk_188_8 {code : ByteArray} {pc : Nat} (h : DkAt code pc [188, 8]) : decode code pc = .ok (.newarray .byte, 2) := dk_of ((dk_bind (dk_u1 (h 0 _ rfl))).trans ((dk_bind (dk_u1 (h 1 _ rfl))).trans rfl))
theorem dk_188_10 {code : ByteArray} {pc : Nat} (h : DkAt code pc [188, 10]) : decode code pc = .ok (.newarray .int, 2) := dk_of ((dk_bind (dk_u1 (h 0 _ rfl))).trans ((dk_bind (dk_u1 (h 1 _ rfl))).trans rfl))
theorem dk_188_11 {code : ByteArray} {pc : Nat} (h : DkAt code pc [188, 11]) : decode code pc = .ok (.newarray .long, 2) := dk_of ((dk_bind (dk_u1 (h 0 _ rfl))).trans ((dk_bind (dk_u1 (h 1 _ rfl))).trans rfl))
theorem dk_189 {code : ByteArray} {pc : Nat} (a b : UInt8) (h : DkAt code pc [189, a, b]) : decode code pc = .ok (.anewarray (a.toNat * 256 + b.toNat), 3) := dk_of ((dk_bind (dk_u1 (h 0 _ rfl))).trans ((dk_bind (dk_u2 (h 1 _ rfl) (h 2 _ rfl))).trans rfl))
theorem dk_190 {code : ByteArray} {pc : Nat} (h : DkAt code pc [190]) : decode code pc = .ok (.arraylength, 1) := dk_of ((dk_bind (dk_u1 (h 0 _ rfl))).trans rfl)
theorem dk_191 {code : ByteArray} {pc : Nat} (h : DkAt code pc [191]) : decode code pc = .ok (.athrow, 1) := dk_of ((dk_bind (dk_u1 (h 0 _ rfl))).trans rfl)
theorem dk_192 {code : ByteArray} {pc : Nat} (a b : UInt8) (h : DkAt code pc [192, a, b]) : decode code pc = .ok (.checkcast (a.toNat * 256 + b.toNat), 3) := dk_of ((dk_bind (dk_u1 (h 0 _ rfl))).trans ((dk_bind (dk_u2 (h 1 _ rfl) (h 2 _ rfl))).trans rfl))
theorem dk_193 {code : ByteArray} {pc : Nat} (a b : UInt8) (h : DkAt code pc [193, a, b]) : decode code pc = .ok (.instanceof (a.toNat * 256 + b.toNat), 3) := dk_of ((dk_bind (dk_u1 (h 0 _ rfl))).trans ((dk_bind (dk_u2 (h 1 _ rfl) (h 2 _ rfl))).trans rfl))
theorem dk_198 {code : ByteArray} {pc : Nat} (a b : UInt8) (h : DkAt code pc [198, a, b]) : decode code pc = .ok (.ifnull (Reader.signed 16 (a.toNat * 256 + b.toNat)), 3) := dk_of ((dk_bind (dk_u1 (h 0 _ rfl))).trans ((dk_bind (dk_map (dk_u2 (h 1 _ rfl) (h 2 _ rfl)))).trans rfl))
theorem dk_199 {code : ByteArray} {pc : Nat} (a b : UInt8) (h : DkAt code pc [199, a, b]) : decode code pc = .ok (.ifnonnull (Reader.signed 16 (a.toNat * 256 + b.toNat)), 3) := dk_of ((dk_bind (dk_u1 (h 0 _ rfl))).trans ((dk_bind (dk_map (dk_u2 (h 1 _ rfl) (h 2 _ rfl)))).trans rfl))
abbrev cX2_init : ByteArray := prog_19_method_1_code
def yX2_init : MethodName := ⟨"DebateHall$Tape", "<init>", "()V"⟩
def dkwX2_init_0 : List UInt8 := [42, 183, 0, 3, 42, 17, 7, 208, 188, 8, 181, 0, 9, 177]
abbrev dktX2_init_0 : List UInt8 := dkwX2_init_0 ++ []
theorem dksX2_init_0 : cX2_init.data.toList.drop 0 = dktX2_init_0 := by decide +kernel
theorem dX2_init_0 : decode cX2_init 0 = .ok (.aload_n 0, 1) := dk_42 (dk_at dksX2_init_0 0 rfl rfl)
theorem dX2_init_1 : decode cX2_init 1 = .ok (.invokespecial 3, 3) := dk_183 0 3 (dk_at dksX2_init_0 1 rfl rfl)
theorem dX2_init_4 : decode cX2_init 4 = .ok (.aload_n 0, 1) := dk_42 (dk_at dksX2_init_0 4 rfl rfl)
theorem dX2_init_5 : decode cX2_init 5 = .ok (.sipush 2000, 3) := dk_17 7 208 (dk_at dksX2_init_0 5 rfl rfl)
theorem dX2_init_8 : decode cX2_init 8 = .ok (.newarray .byte, 2) := dk_188_8 (dk_at dksX2_init_0 8 rfl rfl)
theorem dX2_init_10 : decode cX2_init 10 = .ok (.putfield 9, 3) := dk_181 0 9 (dk_at dksX2_init_0 10 rfl rfl)
theorem dX2_init_13 : decode cX2_init 13 = .ok (.return_, 1) := dk_177 (dk_at dksX2_init_0 13 rfl rfl)
theorem q153 : (Jvm.Cond.methodLink "DebateHall$Tape" (3 : Nat) ({ cls := "java/lang/Object", name := "<init>", desc := "()V" } : Jvm.MethodName)) ∈ lw_all := lw_g (lw_at lw_m1 73 rfl) rfl
theorem q146 : (Jvm.Cond.instanceMethod ({ cls := "java/lang/Object", name := "<init>", desc := "()V" } : Jvm.MethodName)) ∈ lw_all := lw_g (lw_at lw_m1 66 rfl) rfl
theorem q147 : (Jvm.Cond.code ({ cls := "java/lang/Object", name := "<init>", desc := "()V" } : Jvm.MethodName) object_method_1_code (1 : Nat) (Option.none : Option Jvm.ClassFile.FieldType)) ∈ lw_all := lw_g (lw_at lw_m1 67 rfl) rfl
theorem zf_1_0_ebateHall_Tape : zz_fok [1] 0 "DebateHall$Tape" "bytes" "[B" := zz_fok1 (zR_1, zT_1, 2) rfl (by decide) rfl rfl (Or.inl rfl)
theorem q154 : (Jvm.Cond.fieldLink "DebateHall$Tape" (9 : Nat) "DebateHall$Tape" "bytes" "[B") ∈ lw_all := lw_g (lw_at lw_m1 74 rfl) rfl
theorem zq_1_0 : zz_pokF [1] 0 "DebateHall$Tape" := zz_pokF1 (zR_1, zT_1, 2) (by decide) rfl rfl rfl
def wp_X2_init (Z : zzG) (this : Option Nat) (M : zzM) (bc bs : Nat) (K : Option Value → zzM → Prop) : Prop := zty Z M this fun _ => znar Z M bc bs 101 (2000 : Int32) (.int 0) fun q1 M2 bc3 bs4 => zput Z M2 this [1] 0 (va_rf (some q1)) fun M5 => K none M5
theorem ok_X2_init {Z : zzG} {l : Launch} (hl : l.stackTraces = false) {this : Option Nat} {M : zzM} {mc ms : Nat} {K : Option Value → zzM → Prop} (hw : wp_X2_init Z this M mc ms K) : zz_Met Z l yX2_init (zz_ws yX2_init cX2_init 1 none none) 2 [va_rf this] M mc ms K (fun _ _ _ => False) := by
  refine zz_ofW hl (plainFor_of_name (by decide)) (by simp only [zz_sl0, zz_slI, zz_slJ, zz_slA] <;> decide) (fun G hZ hll C E hH hR hin => ?_)
  subst hZ
  subst hll
  rw [show lv_args 0 [va_rf this] = [(0, va_rf this)] by simp only [zz_la0, zz_laI, zz_laJ, zz_laA]]
  unfold wp_X2_init at hw
  refine zz_aload_n C dX2_init_0 rfl 0 rfl ?_
  obtain ⟨a9, t9, b9, fs9, hro, hL, hw⟩ := ztyS hw
  refine zz_objInit9 C hR (by decide) hro dX2_init_1 q153 q146 q147 (zz_cat10 _ (Nat.le_of_ble_eq_true rfl)) ?_
  refine zz_aload_n C dX2_init_4 rfl 0 rfl ?_
  refine zz_sipush (v := (2000 : Int32)) C dX2_init_5 (by decide) ?_
  refine zz_newar (t := 101) (ty := .byte) C dX2_init_8 rfl rfl (by decide) (fun _ _ h9 => h9) rfl q163 hw (fun q1 M2 bc3 bs4 hw => ?_)
  refine zz_putF C hin dX2_init_10 q154 zf_1_0_ebateHall_Tape zq_1_0 (zz_hn1 (zz_nA _ rfl (some q1))) hw (fun M5 hw => ?_)
  exact zz_vret C E dX2_init_13 hw
abbrev cJ0_init : ByteArray := prog_56_method_1_code
def yJ0_init : MethodName := ⟨"java/util/AbstractCollection", "<init>", "()V"⟩
theorem dJ0_init_0 : decode cJ0_init 0 = .ok (.aload_n 0, 1) := by decide +kernel
theorem dJ0_init_1 : decode cJ0_init 1 = .ok (.invokespecial 1, 3) := by decide +kernel
theorem dJ0_init_4 : decode cJ0_init 4 = .ok (.return_, 1) := by decide +kernel
theorem q181 : (Jvm.Cond.methodLink "java/util/AbstractCollection" (1 : Nat) ({ cls := "java/lang/Object", name := "<init>", desc := "()V" } : Jvm.MethodName)) ∈ lw_all := lw_g (lw_at lw_m1 101 rfl) rfl
def wp_J0_init (Z : zzG) (this : Option Nat) (M : zzM) (K : Option Value → zzM → Prop) : Prop := zty Z M this fun _ => K none M
theorem ok_J0_init {Z : zzG} {l : Launch} (hl : l.stackTraces = false) {this : Option Nat} {M : zzM} {mc ms : Nat} {K : Option Value → zzM → Prop} (hw : wp_J0_init Z this M K) : zz_Met Z l yJ0_init (zz_ws yJ0_init cJ0_init 1 none none) 2 [va_rf this] M mc ms K (fun _ _ _ => False) := by
  refine zz_ofW hl (plainFor_of_name (by decide)) (by simp only [zz_sl0, zz_slI, zz_slJ, zz_slA] <;> decide) (fun G hZ hll C E hH hR hin => ?_)
  subst hZ
  subst hll
  rw [show lv_args 0 [va_rf this] = [(0, va_rf this)] by simp only [zz_la0, zz_laI, zz_laJ, zz_laA]]
  unfold wp_J0_init at hw
  refine zz_aload_n C dJ0_init_0 rfl 0 rfl ?_
  obtain ⟨a9, t9, b9, fs9, hro, hL, hw⟩ := ztyS hw
  refine zz_objInit9 C hR (by decide) hro dJ0_init_1 q181 q146 q147 (zz_cat10 _ (Nat.le_of_ble_eq_true rfl)) ?_
  exact zz_vret C E dJ0_init_4 hw
abbrev cJ1_init : ByteArray := prog_57_method_1_code
def yJ1_init : MethodName := ⟨"java/util/AbstractList", "<init>", "()V"⟩
def dkwJ1_init_0 : List UInt8 := [42, 183, 0, 1, 42, 3, 181, 0, 7, 177]
abbrev dktJ1_init_0 : List UInt8 := dkwJ1_init_0 ++ []
theorem dksJ1_init_0 : cJ1_init.data.toList.drop 0 = dktJ1_init_0 := by decide +kernel
theorem dJ1_init_0 : decode cJ1_init 0 = .ok (.aload_n 0, 1) := dk_42 (dk_at dksJ1_init_0 0 rfl rfl)
theorem dJ1_init_1 : decode cJ1_init 1 = .ok (.invokespecial 1, 3) := dk_183 0 1 (dk_at dksJ1_init_0 1 rfl rfl)
theorem dJ1_init_4 : decode cJ1_init 4 = .ok (.aload_n 0, 1) := dk_42 (dk_at dksJ1_init_0 4 rfl rfl)
theorem dJ1_init_5 : decode cJ1_init 5 = .ok (.iconst 0, 1) := dk_3 (dk_at dksJ1_init_0 5 rfl rfl)
theorem dJ1_init_6 : decode cJ1_init 6 = .ok (.putfield 7, 3) := dk_181 0 7 (dk_at dksJ1_init_0 6 rfl rfl)
theorem dJ1_init_9 : decode cJ1_init 9 = .ok (.return_, 1) := dk_177 (dk_at dksJ1_init_0 9 rfl rfl)
theorem q180 : (Jvm.Cond.code ({ cls := "java/util/AbstractCollection", name := "<init>", desc := "()V" } : Jvm.MethodName) prog_56_method_1_code (1 : Nat) (Option.none : Option Jvm.ClassFile.FieldType)) ∈ lw_all := lw_g (lw_at lw_m1 100 rfl) rfl
theorem zk_J0_init : zz_cd yJ0_init cJ0_init 1 none none ∈ lw_all := q180
theorem zy_J0_init : zz_yok yJ0_init 0 = true := by decide +kernel
theorem zf_18_0_l_AbstractList : zz_fok [18] 0 "java/util/AbstractList" "modCount" "I" := zz_fok1 (zR_18, zT_18, 3) rfl (by decide) rfl rfl (Or.inl rfl)
theorem q188 : (Jvm.Cond.fieldLink "java/util/AbstractList" (7 : Nat) "java/util/AbstractList" "modCount" "I") ∈ lw_all := lw_g (lw_at lw_m1 108 rfl) rfl
theorem zp_18_0 : zz_pok [18] 0 := zz_pok1 (zR_18, zT_18, 3) (by decide) rfl rfl
theorem q178 : (Jvm.Cond.methodLink "java/util/AbstractList" (1 : Nat) ({ cls := "java/util/AbstractCollection", name := "<init>", desc := "()V" } : Jvm.MethodName)) ∈ lw_all := lw_g (lw_at lw_m1 98 rfl) rfl
theorem q84 : (Jvm.Cond.initialized "java/util/AbstractCollection") ∈ lw_all := lw_g (lw_at lw_m1 4 rfl) rfl
theorem zl_java_util_AbstractCollection : Cond.initialized "java/util/AbstractCollection" ∈ lw_all := q84
theorem q179 : (Jvm.Cond.instanceMethod ({ cls := "java/util/AbstractCollection", name := "<init>", desc := "()V" } : Jvm.MethodName)) ∈ lw_all := lw_g (lw_at lw_m1 99 rfl) rfl
def wp_J1_init (Z : zzG) (this : Option Nat) (M : zzM) (K : Option Value → zzM → Prop) : Prop := zty Z M this fun _ => wp_J0_init Z this M (fun r1 M2 => zrV r1 (zput Z M2 this [18] 0 (.int (0 : Int32)) fun M5 => K none M5))
theorem ok_J1_init {Z : zzG} {l : Launch} (hl : l.stackTraces = false) {this : Option Nat} {M : zzM} {mc ms : Nat} {K : Option Value → zzM → Prop} (hw : wp_J1_init Z this M K) : zz_Met Z l yJ1_init (zz_ws yJ1_init cJ1_init 1 none none) 3 [va_rf this] M mc ms K (fun _ _ _ => False) := by
  refine zz_ofW hl (plainFor_of_name (by decide)) (by simp only [zz_sl0, zz_slI, zz_slJ, zz_slA] <;> decide) (fun G hZ hll C E hH hR hin => ?_)
  subst hZ
  subst hll
  rw [show lv_args 0 [va_rf this] = [(0, va_rf this)] by simp only [zz_la0, zz_laI, zz_laJ, zz_laA]]
  unfold wp_J1_init at hw
  refine zz_aload_n C dJ1_init_0 rfl 0 rfl ?_
  obtain ⟨a9, t9, b9, fs9, hro, hL, hw⟩ := ztyS hw
  refine zz_callI (As := []) (rest := []) (mc := 0) (ms := 0) C hR hro dJ1_init_1 (Or.inl q178) q179 zl_java_util_AbstractCollection zk_J0_init rfl zy_J0_init (by decide) (by decide) (ok_J0_init (zz_hl C) hw) (Nat.zero_le _) (Nat.zero_le _) (zz_cat10 _ (Nat.le_of_ble_eq_true rfl)) (fun r1 M2 hw => zz_kV hw (fun hw => ?_)) (fun _ _ _ h9 => h9.elim) rfl
  refine zz_aload_n C dJ1_init_4 rfl 0 rfl ?_
  refine zz_iconst (v := (0 : Int32)) C dJ1_init_5 (by decide) ?_
  refine zz_put C dJ1_init_6 (Or.inl q188) zf_18_0_l_AbstractList zp_18_0 (zz_hn1 ⟨rfl, rfl⟩) hw (fun M5 hw => ?_)
  exact zz_vret C E dJ1_init_9 hw
abbrev cJ2_init : ByteArray := prog_59_method_2_code
def yJ2_init : MethodName := ⟨"java/util/ArrayList", "<init>", "()V"⟩
def dkwJ2_init_0 : List UInt8 := [42, 183, 0, 1, 42, 178, 0, 39, 181, 0, 9, 177]
abbrev dktJ2_init_0 : List UInt8 := dkwJ2_init_0 ++ []
theorem dksJ2_init_0 : cJ2_init.data.toList.drop 0 = dktJ2_init_0 := by decide +kernel
theorem dJ2_init_0 : decode cJ2_init 0 = .ok (.aload_n 0, 1) := dk_42 (dk_at dksJ2_init_0 0 rfl rfl)
theorem dJ2_init_1 : decode cJ2_init 1 = .ok (.invokespecial 1, 3) := dk_183 0 1 (dk_at dksJ2_init_0 1 rfl rfl)
theorem dJ2_init_4 : decode cJ2_init 4 = .ok (.aload_n 0, 1) := dk_42 (dk_at dksJ2_init_0 4 rfl rfl)
theorem dJ2_init_5 : decode cJ2_init 5 = .ok (.getstatic 39, 3) := dk_178 0 39 (dk_at dksJ2_init_0 5 rfl rfl)
theorem dJ2_init_8 : decode cJ2_init 8 = .ok (.putfield 9, 3) := dk_181 0 9 (dk_at dksJ2_init_0 8 rfl rfl)
theorem dJ2_init_11 : decode cJ2_init 11 = .ok (.return_, 1) := dk_177 (dk_at dksJ2_init_0 11 rfl rfl)
theorem q177 : (Jvm.Cond.code ({ cls := "java/util/AbstractList", name := "<init>", desc := "()V" } : Jvm.MethodName) prog_57_method_1_code (1 : Nat) (Option.none : Option Jvm.ClassFile.FieldType)) ∈ lw_all := lw_g (lw_at lw_m1 97 rfl) rfl
theorem zk_J1_init : zz_cd yJ1_init cJ1_init 1 none none ∈ lw_all := q177
theorem zy_J1_init : zz_yok yJ1_init 0 = true := by decide +kernel
theorem q182 : (Jvm.Cond.fieldLink "java/util/ArrayList" (39 : Nat) "java/util/ArrayList" "DEFAULTCAPACITY_EMPTY_ELEMENTDATA" "[Ljava/lang/Object;") ∈ lw_all := lw_g (lw_at lw_m1 102 rfl) rfl
theorem zf_18_1_util_ArrayList : zz_fok [18] 1 "java/util/ArrayList" "elementData" "[Ljava/lang/Object;" := zz_fok1 (zR_18, zT_18, 3) rfl (by decide) rfl rfl (Or.inl rfl)
theorem q184 : (Jvm.Cond.fieldLink "java/util/ArrayList" (9 : Nat) "java/util/ArrayList" "elementData" "[Ljava/lang/Object;") ∈ lw_all := lw_g (lw_at lw_m1 104 rfl) rfl
theorem zp_18_1 : zz_pok [18] 1 := zz_pok1 (zR_18, zT_18, 3) (by decide) rfl rfl
theorem q175 : (Jvm.Cond.methodLink "java/util/ArrayList" (1 : Nat) ({ cls := "java/util/AbstractList", name := "<init>", desc := "()V" } : Jvm.MethodName)) ∈ lw_all := lw_g (lw_at lw_m1 95 rfl) rfl
theorem q85 : (Jvm.Cond.initialized "java/util/AbstractList") ∈ lw_all := lw_g (lw_at lw_m1 5 rfl) rfl
theorem zl_java_util_AbstractList : Cond.initialized "java/util/AbstractList" ∈ lw_all := q85
theorem q176 : (Jvm.Cond.instanceMethod ({ cls := "java/util/AbstractList", name := "<init>", desc := "()V" } : Jvm.MethodName)) ∈ lw_all := lw_g (lw_at lw_m1 96 rfl) rfl
def wp_J2_init (Z : zzG) (this : Option Nat) (M : zzM) (K : Option Value → zzM → Prop) : Prop := zty Z M this fun _ => wp_J1_init Z this M (fun r1 M2 => zrV r1 (zput Z M2 this [18] 1 (va_rf (some (zz_ad Z 0))) fun M5 => K none M5))
theorem ok_J2_init {Z : zzG} {l : Launch} (hl : l.stackTraces = false) {this : Option Nat} {M : zzM} {mc ms : Nat} {K : Option Value → zzM → Prop} (hw : wp_J2_init Z this M K) : zz_Met Z l yJ2_init (zz_ws yJ2_init cJ2_init 1 none none) 4 [va_rf this] M mc ms K (fun _ _ _ => False) := by
  refine zz_ofW hl (plainFor_of_name (by decide)) (by simp only [zz_sl0, zz_slI, zz_slJ, zz_slA] <;> decide) (fun G hZ hll C E hH hR hin => ?_)
  subst hZ
  subst hll
  rw [show lv_args 0 [va_rf this] = [(0, va_rf this)] by simp only [zz_la0, zz_laI, zz_laJ, zz_laA]]
  unfold wp_J2_init at hw
  refine zz_aload_n C dJ2_init_0 rfl 0 rfl ?_
  obtain ⟨a9, t9, b9, fs9, hro, hL, hw⟩ := ztyS hw
  refine zz_callI (As := []) (rest := []) (mc := 0) (ms := 0) C hR hro dJ2_init_1 (Or.inl q175) q176 zl_java_util_AbstractList zk_J1_init rfl zy_J1_init (by decide) (by decide) (ok_J1_init (zz_hl C) hw) (Nat.zero_le _) (Nat.zero_le _) (zz_cat10 _ (Nat.le_of_ble_eq_true rfl)) (fun r1 M2 hw => zz_kV hw (fun hw => ?_)) (fun _ _ _ h9 => h9.elim) rfl
  refine zz_aload_n C dJ2_init_4 rfl 0 rfl ?_
  refine zz_gets (j := 0) (v := va_rf (some (zz_ad (zz_Zof G) 0))) C dJ2_init_5 (Or.inl q182) rfl (Or.inl rfl) rfl ?_
  refine zz_put C dJ2_init_8 (Or.inl q184) zf_18_1_util_ArrayList zp_18_1 (zz_hn1 (zz_nA _ rfl (some (zz_ad (zz_Zof G) 0)))) hw (fun M5 hw => ?_)
  exact zz_vret C E dJ2_init_11 hw
abbrev cJ3_init : ByteArray := prog_58_method_1_code
def yJ3_init : MethodName := ⟨"java/util/AbstractMap", "<init>", "()V"⟩
theorem dJ3_init_0 : decode cJ3_init 0 = .ok (.aload_n 0, 1) := by decide +kernel
theorem dJ3_init_1 : decode cJ3_init 1 = .ok (.invokespecial 1, 3) := by decide +kernel
theorem dJ3_init_4 : decode cJ3_init 4 = .ok (.return_, 1) := by decide +kernel
theorem q207 : (Jvm.Cond.methodLink "java/util/AbstractMap" (1 : Nat) ({ cls := "java/lang/Object", name := "<init>", desc := "()V" } : Jvm.MethodName)) ∈ lw_all := lw_g (lw_at lw_m1 127 rfl) rfl
def wp_J3_init (Z : zzG) (this : Option Nat) (M : zzM) (K : Option Value → zzM → Prop) : Prop := zty Z M this fun _ => K none M
theorem ok_J3_init {Z : zzG} {l : Launch} (hl : l.stackTraces = false) {this : Option Nat} {M : zzM} {mc ms : Nat} {K : Option Value → zzM → Prop} (hw : wp_J3_init Z this M K) : zz_Met Z l yJ3_init (zz_ws yJ3_init cJ3_init 1 none none) 2 [va_rf this] M mc ms K (fun _ _ _ => False) := by
  refine zz_ofW hl (plainFor_of_name (by decide)) (by simp only [zz_sl0, zz_slI, zz_slJ, zz_slA] <;> decide) (fun G hZ hll C E hH hR hin => ?_)
  subst hZ
  subst hll
  rw [show lv_args 0 [va_rf this] = [(0, va_rf this)] by simp only [zz_la0, zz_laI, zz_laJ, zz_laA]]
  unfold wp_J3_init at hw
  refine zz_aload_n C dJ3_init_0 rfl 0 rfl ?_
  obtain ⟨a9, t9, b9, fs9, hro, hL, hw⟩ := ztyS hw
  refine zz_objInit9 C hR (by decide) hro dJ3_init_1 q207 q146 q147 (zz_cat10 _ (Nat.le_of_ble_eq_true rfl)) ?_
  exact zz_vret C E dJ3_init_4 hw
abbrev cJ4_init : ByteArray := prog_63_method_7_code
def yJ4_init : MethodName := ⟨"java/util/HashMap", "<init>", "()V"⟩
def dkwJ4_init_0 : List UInt8 := [42, 183, 0, 43, 42, 18, 92, 181, 0, 81, 177]
abbrev dktJ4_init_0 : List UInt8 := dkwJ4_init_0 ++ []
theorem dksJ4_init_0 : cJ4_init.data.toList.drop 0 = dktJ4_init_0 := by decide +kernel
theorem dJ4_init_0 : decode cJ4_init 0 = .ok (.aload_n 0, 1) := dk_42 (dk_at dksJ4_init_0 0 rfl rfl)
theorem dJ4_init_1 : decode cJ4_init 1 = .ok (.invokespecial 43, 3) := dk_183 0 43 (dk_at dksJ4_init_0 1 rfl rfl)
theorem dJ4_init_4 : decode cJ4_init 4 = .ok (.aload_n 0, 1) := dk_42 (dk_at dksJ4_init_0 4 rfl rfl)
theorem dJ4_init_5 : decode cJ4_init 5 = .ok (.ldc 92, 2) := dk_18 92 (dk_at dksJ4_init_0 5 rfl rfl)
theorem dJ4_init_7 : decode cJ4_init 7 = .ok (.putfield 81, 3) := dk_181 0 81 (dk_at dksJ4_init_0 7 rfl rfl)
theorem dJ4_init_10 : decode cJ4_init 10 = .ok (.return_, 1) := dk_177 (dk_at dksJ4_init_0 10 rfl rfl)
theorem q206 : (Jvm.Cond.code ({ cls := "java/util/AbstractMap", name := "<init>", desc := "()V" } : Jvm.MethodName) prog_58_method_1_code (1 : Nat) (Option.none : Option Jvm.ClassFile.FieldType)) ∈ lw_all := lw_g (lw_at lw_m1 126 rfl) rfl
theorem zk_J3_init : zz_cd yJ3_init cJ3_init 1 none none ∈ lw_all := q206
theorem zy_J3_init : zz_yok yJ3_init 0 = true := by decide +kernel
theorem q208 : (Jvm.Cond.constantFloat "java/util/HashMap" (92 : Nat) (1061158912 : UInt32)) ∈ lw_all := lw_g (lw_at lw_m1 128 rfl) rfl
theorem zf_19_7_a_util_HashMap : zz_fok [19] 7 "java/util/HashMap" "loadFactor" "F" := zz_fok1 (zR_19, zT_19, 8) rfl (by decide) rfl rfl (Or.inl rfl)
theorem q213 : (Jvm.Cond.fieldLink "java/util/HashMap" (81 : Nat) "java/util/HashMap" "loadFactor" "F") ∈ lw_all := lw_g (lw_at lw_m1 133 rfl) rfl
theorem zq_19_7 : zz_pokF [19] 7 "java/util/HashMap" := zz_pokF1 (zR_19, zT_19, 8) (by decide) rfl rfl rfl
theorem q204 : (Jvm.Cond.methodLink "java/util/HashMap" (43 : Nat) ({ cls := "java/util/AbstractMap", name := "<init>", desc := "()V" } : Jvm.MethodName)) ∈ lw_all := lw_g (lw_at lw_m1 124 rfl) rfl
theorem q87 : (Jvm.Cond.initialized "java/util/AbstractMap") ∈ lw_all := lw_g (lw_at lw_m1 7 rfl) rfl
theorem zl_java_util_AbstractMap : Cond.initialized "java/util/AbstractMap" ∈ lw_all := q87
theorem q205 : (Jvm.Cond.instanceMethod ({ cls := "java/util/AbstractMap", name := "<init>", desc := "()V" } : Jvm.MethodName)) ∈ lw_all := lw_g (lw_at lw_m1 125 rfl) rfl
def wp_J4_init (Z : zzG) (this : Option Nat) (M : zzM) (K : Option Value → zzM → Prop) : Prop := zty Z M this fun _ => wp_J3_init Z this M (fun r1 M2 => zrV r1 (zput Z M2 this [19] 7 (.float 1061158912) fun M5 => K none M5))
theorem ok_J4_init {Z : zzG} {l : Launch} (hl : l.stackTraces = false) {this : Option Nat} {M : zzM} {mc ms : Nat} {K : Option Value → zzM → Prop} (hw : wp_J4_init Z this M K) : zz_Met Z l yJ4_init (zz_ws yJ4_init cJ4_init 1 none none) 3 [va_rf this] M mc ms K (fun _ _ _ => False) := by
  refine zz_ofW hl (plainFor_of_name (by decide)) (by simp only [zz_sl0, zz_slI, zz_slJ, zz_slA] <;> decide) (fun G hZ hll C E hH hR hin => ?_)
  subst hZ
  subst hll
  rw [show lv_args 0 [va_rf this] = [(0, va_rf this)] by simp only [zz_la0, zz_laI, zz_laJ, zz_laA]]
  unfold wp_J4_init at hw
  refine zz_aload_n C dJ4_init_0 rfl 0 rfl ?_
  obtain ⟨a9, t9, b9, fs9, hro, hL, hw⟩ := ztyS hw
  refine zz_callI (As := []) (rest := []) (mc := 0) (ms := 0) C hR hro dJ4_init_1 (Or.inl q204) q205 zl_java_util_AbstractMap zk_J3_init rfl zy_J3_init (by decide) (by decide) (ok_J3_init (zz_hl C) hw) (Nat.zero_le _) (Nat.zero_le _) (zz_cat10 _ (Nat.le_of_ble_eq_true rfl)) (fun r1 M2 hw => zz_kV hw (fun hw => ?_)) (fun _ _ _ h9 => h9.elim) rfl
  refine zz_aload_n C dJ4_init_4 rfl 0 rfl ?_
  refine zz_ldcF C dJ4_init_5 q208 ?_
  refine zz_putF C hin dJ4_init_7 q213 zf_19_7_a_util_HashMap zq_19_7 (zz_hn1 ⟨rfl, rfl⟩) hw (fun M5 hw => ?_)
  exact zz_vret C E dJ4_init_10 hw
abbrev cX3_init : ByteArray := prog_12_method_1_code
def yX3_init : MethodName := ⟨"DebateHall$Minutes", "<init>", "()V"⟩
def dkwX3_init_3 : List UInt8 := [181, 0, 38, 177]
abbrev dktX3_init_3 : List UInt8 := dkwX3_init_3 ++ []
def dkwX3_init_2 : List UInt8 := [181, 0, 28, 42, 16, 40, 188, 10, 181, 0, 31, 42, 16, 40, 188, 10, 181, 0, 35, 42, 16, 40, 188, 10]
abbrev dktX3_init_2 : List UInt8 := dkwX3_init_2 ++ dktX3_init_3
def dkwX3_init_1 : List UInt8 := [181, 0, 18, 42, 187, 0, 21, 89, 183, 0, 23, 181, 0, 24, 42, 187, 0, 21, 89, 183, 0, 23]
abbrev dktX3_init_1 : List UInt8 := dkwX3_init_1 ++ dktX3_init_2
def dkwX3_init_0 : List UInt8 := [42, 183, 0, 3, 42, 187, 0, 9, 89, 183, 0, 11, 181, 0, 12, 42, 187, 0, 9, 89, 183, 0, 11]
abbrev dktX3_init_0 : List UInt8 := dkwX3_init_0 ++ dktX3_init_1
theorem dksX3_init_0 : cX3_init.data.toList.drop 0 = dktX3_init_0 := by decide +kernel
theorem dksX3_init_1 : cX3_init.data.toList.drop 23 = dktX3_init_1 := dk_seg dksX3_init_0 23 rfl rfl
theorem dksX3_init_2 : cX3_init.data.toList.drop 45 = dktX3_init_2 := dk_seg dksX3_init_1 22 rfl rfl
theorem dksX3_init_3 : cX3_init.data.toList.drop 69 = dktX3_init_3 := dk_seg dksX3_init_2 24 rfl rfl
theorem dX3_init_0 : decode cX3_init 0 = .ok (.aload_n 0, 1) := dk_42 (dk_at dksX3_init_0 0 rfl rfl)
theorem dX3_init_1 : decode cX3_init 1 = .ok (.invokespecial 3, 3) := dk_183 0 3 (dk_at dksX3_init_0 1 rfl rfl)
theorem dX3_init_4 : decode cX3_init 4 = .ok (.aload_n 0, 1) := dk_42 (dk_at dksX3_init_0 4 rfl rfl)
theorem dX3_init_5 : decode cX3_init 5 = .ok (.new 9, 3) := dk_187 0 9 (dk_at dksX3_init_0 5 rfl rfl)
theorem dX3_init_8 : decode cX3_init 8 = .ok (.dup, 1) := dk_89 (dk_at dksX3_init_0 8 rfl rfl)
theorem dX3_init_9 : decode cX3_init 9 = .ok (.invokespecial 11, 3) := dk_183 0 11 (dk_at dksX3_init_0 9 rfl rfl)
theorem dX3_init_12 : decode cX3_init 12 = .ok (.putfield 12, 3) := dk_181 0 12 (dk_at dksX3_init_0 12 rfl rfl)
theorem dX3_init_15 : decode cX3_init 15 = .ok (.aload_n 0, 1) := dk_42 (dk_at dksX3_init_0 15 rfl rfl)
theorem dX3_init_16 : decode cX3_init 16 = .ok (.new 9, 3) := dk_187 0 9 (dk_at dksX3_init_0 16 rfl rfl)
theorem dX3_init_19 : decode cX3_init 19 = .ok (.dup, 1) := dk_89 (dk_at dksX3_init_0 19 rfl rfl)
theorem dX3_init_20 : decode cX3_init 20 = .ok (.invokespecial 11, 3) := dk_183 0 11 (dk_at dksX3_init_0 20 rfl rfl)
theorem dX3_init_23 : decode cX3_init 23 = .ok (.putfield 18, 3) := dk_181 0 18 (dk_at dksX3_init_1 0 rfl rfl)
theorem dX3_init_26 : decode cX3_init 26 = .ok (.aload_n 0, 1) := dk_42 (dk_at dksX3_init_1 3 rfl rfl)
theorem dX3_init_27 : decode cX3_init 27 = .ok (.new 21, 3) := dk_187 0 21 (dk_at dksX3_init_1 4 rfl rfl)
theorem dX3_init_30 : decode cX3_init 30 = .ok (.dup, 1) := dk_89 (dk_at dksX3_init_1 7 rfl rfl)
theorem dX3_init_31 : decode cX3_init 31 = .ok (.invokespecial 23, 3) := dk_183 0 23 (dk_at dksX3_init_1 8 rfl rfl)
theorem dX3_init_34 : decode cX3_init 34 = .ok (.putfield 24, 3) := dk_181 0 24 (dk_at dksX3_init_1 11 rfl rfl)
theorem dX3_init_37 : decode cX3_init 37 = .ok (.aload_n 0, 1) := dk_42 (dk_at dksX3_init_1 14 rfl rfl)
theorem dX3_init_38 : decode cX3_init 38 = .ok (.new 21, 3) := dk_187 0 21 (dk_at dksX3_init_1 15 rfl rfl)
theorem dX3_init_41 : decode cX3_init 41 = .ok (.dup, 1) := dk_89 (dk_at dksX3_init_1 18 rfl rfl)
theorem dX3_init_42 : decode cX3_init 42 = .ok (.invokespecial 23, 3) := dk_183 0 23 (dk_at dksX3_init_1 19 rfl rfl)
theorem dX3_init_45 : decode cX3_init 45 = .ok (.putfield 28, 3) := dk_181 0 28 (dk_at dksX3_init_2 0 rfl rfl)
theorem dX3_init_48 : decode cX3_init 48 = .ok (.aload_n 0, 1) := dk_42 (dk_at dksX3_init_2 3 rfl rfl)
theorem dX3_init_49 : decode cX3_init 49 = .ok (.bipush 40, 2) := dk_16 40 (dk_at dksX3_init_2 4 rfl rfl)
theorem dX3_init_51 : decode cX3_init 51 = .ok (.newarray .int, 2) := dk_188_10 (dk_at dksX3_init_2 6 rfl rfl)
theorem dX3_init_53 : decode cX3_init 53 = .ok (.putfield 31, 3) := dk_181 0 31 (dk_at dksX3_init_2 8 rfl rfl)
theorem dX3_init_56 : decode cX3_init 56 = .ok (.aload_n 0, 1) := dk_42 (dk_at dksX3_init_2 11 rfl rfl)
theorem dX3_init_57 : decode cX3_init 57 = .ok (.bipush 40, 2) := dk_16 40 (dk_at dksX3_init_2 12 rfl rfl)
theorem dX3_init_59 : decode cX3_init 59 = .ok (.newarray .int, 2) := dk_188_10 (dk_at dksX3_init_2 14 rfl rfl)
theorem dX3_init_61 : decode cX3_init 61 = .ok (.putfield 35, 3) := dk_181 0 35 (dk_at dksX3_init_2 16 rfl rfl)
theorem dX3_init_64 : decode cX3_init 64 = .ok (.aload_n 0, 1) := dk_42 (dk_at dksX3_init_2 19 rfl rfl)
theorem dX3_init_65 : decode cX3_init 65 = .ok (.bipush 40, 2) := dk_16 40 (dk_at dksX3_init_2 20 rfl rfl)
theorem dX3_init_67 : decode cX3_init 67 = .ok (.newarray .int, 2) := dk_188_10 (dk_at dksX3_init_2 22 rfl rfl)
theorem dX3_init_69 : decode cX3_init 69 = .ok (.putfield 38, 3) := dk_181 0 38 (dk_at dksX3_init_3 0 rfl rfl)
theorem dX3_init_72 : decode cX3_init 72 = .ok (.return_, 1) := dk_177 (dk_at dksX3_init_3 3 rfl rfl)
theorem q169 : (Jvm.Cond.methodLink "DebateHall$Minutes" (3 : Nat) ({ cls := "java/lang/Object", name := "<init>", desc := "()V" } : Jvm.MethodName)) ∈ lw_all := lw_g (lw_at lw_m1 89 rfl) rfl
theorem q170 : (Jvm.Cond.classLink "DebateHall$Minutes" (9 : Nat) "java/util/ArrayList") ∈ lw_all := lw_g (lw_at lw_m1 90 rfl) rfl
theorem zl_java_util_ArrayList : Cond.initialized "java/util/ArrayList" ∈ lw_all := q86
theorem q174 : (Jvm.Cond.code ({ cls := "java/util/ArrayList", name := "<init>", desc := "()V" } : Jvm.MethodName) prog_59_method_2_code (1 : Nat) (Option.none : Option Jvm.ClassFile.FieldType)) ∈ lw_all := lw_g (lw_at lw_m1 94 rfl) rfl
theorem zk_J2_init : zz_cd yJ2_init cJ2_init 1 none none ∈ lw_all := q174
theorem zy_J2_init : zz_yok yJ2_init 0 = true := by decide +kernel
theorem zf_2_0_teHall_Minutes : zz_fok [2] 0 "DebateHall$Minutes" "speakers" "Ljava/util/ArrayList;" := zz_fok1 (zR_2, zT_2, 8) rfl (by decide) rfl rfl (Or.inl rfl)
theorem q231 : (Jvm.Cond.fieldLink "DebateHall$Minutes" (12 : Nat) "DebateHall$Minutes" "speakers" "Ljava/util/ArrayList;") ∈ lw_all := lw_g (lw_at lw_m1 151 rfl) rfl
theorem zq_2_0 : zz_pokF [2] 0 "DebateHall$Minutes" := zz_pokF1 (zR_2, zT_2, 8) (by decide) rfl rfl rfl
theorem zf_2_1_teHall_Minutes : zz_fok [2] 1 "DebateHall$Minutes" "items" "Ljava/util/ArrayList;" := zz_fok1 (zR_2, zT_2, 8) rfl (by decide) rfl rfl (Or.inl rfl)
theorem q235 : (Jvm.Cond.fieldLink "DebateHall$Minutes" (18 : Nat) "DebateHall$Minutes" "items" "Ljava/util/ArrayList;") ∈ lw_all := lw_g (lw_at lw_m1 155 rfl) rfl
theorem zq_2_1 : zz_pokF [2] 1 "DebateHall$Minutes" := zz_pokF1 (zR_2, zT_2, 8) (by decide) rfl rfl rfl
theorem q199 : (Jvm.Cond.classLink "DebateHall$Minutes" (21 : Nat) "java/util/HashMap") ∈ lw_all := lw_g (lw_at lw_m1 119 rfl) rfl
theorem q88 : (Jvm.Cond.initialized "java/util/HashMap") ∈ lw_all := lw_g (lw_at lw_m1 8 rfl) rfl
theorem zl_java_util_HashMap : Cond.initialized "java/util/HashMap" ∈ lw_all := q88
theorem q203 : (Jvm.Cond.code ({ cls := "java/util/HashMap", name := "<init>", desc := "()V" } : Jvm.MethodName) prog_63_method_7_code (1 : Nat) (Option.none : Option Jvm.ClassFile.FieldType)) ∈ lw_all := lw_g (lw_at lw_m1 123 rfl) rfl
theorem zk_J4_init : zz_cd yJ4_init cJ4_init 1 none none ∈ lw_all := q203
theorem zy_J4_init : zz_yok yJ4_init 0 = true := by decide +kernel
theorem zf_2_2_teHall_Minutes : zz_fok [2] 2 "DebateHall$Minutes" "speakerNames" "Ljava/util/HashMap;" := zz_fok1 (zR_2, zT_2, 8) rfl (by decide) rfl rfl (Or.inl rfl)
theorem q240 : (Jvm.Cond.fieldLink "DebateHall$Minutes" (24 : Nat) "DebateHall$Minutes" "speakerNames" "Ljava/util/HashMap;") ∈ lw_all := lw_g (lw_at lw_m1 160 rfl) rfl
theorem zq_2_2 : zz_pokF [2] 2 "DebateHall$Minutes" := zz_pokF1 (zR_2, zT_2, 8) (by decide) rfl rfl rfl
theorem zf_2_3_teHall_Minutes : zz_fok [2] 3 "DebateHall$Minutes" "itemNames" "Ljava/util/HashMap;" := zz_fok1 (zR_2, zT_2, 8) rfl (by decide) rfl rfl (Or.inl rfl)
theorem q243 : (Jvm.Cond.fieldLink "DebateHall$Minutes" (28 : Nat) "DebateHall$Minutes" "itemNames" "Ljava/util/HashMap;") ∈ lw_all := lw_g (lw_at lw_m1 163 rfl) rfl
theorem zq_2_3 : zz_pokF [2] 3 "DebateHall$Minutes" := zz_pokF1 (zR_2, zT_2, 8) (by decide) rfl rfl rfl
theorem zf_2_4_teHall_Minutes : zz_fok [2] 4 "DebateHall$Minutes" "state" "[I" := zz_fok1 (zR_2, zT_2, 8) rfl (by decide) rfl rfl (Or.inl rfl)
theorem q246 : (Jvm.Cond.fieldLink "DebateHall$Minutes" (31 : Nat) "DebateHall$Minutes" "state" "[I") ∈ lw_all := lw_g (lw_at lw_m1 166 rfl) rfl
theorem zq_2_4 : zz_pokF [2] 4 "DebateHall$Minutes" := zz_pokF1 (zR_2, zT_2, 8) (by decide) rfl rfl rfl
theorem zf_2_5_teHall_Minutes : zz_fok [2] 5 "DebateHall$Minutes" "next" "[I" := zz_fok1 (zR_2, zT_2, 8) rfl (by decide) rfl rfl (Or.inl rfl)
theorem q248 : (Jvm.Cond.fieldLink "DebateHall$Minutes" (35 : Nat) "DebateHall$Minutes" "next" "[I") ∈ lw_all := lw_g (lw_at lw_m1 168 rfl) rfl
theorem zq_2_5 : zz_pokF [2] 5 "DebateHall$Minutes" := zz_pokF1 (zR_2, zT_2, 8) (by decide) rfl rfl rfl
theorem zf_2_6_teHall_Minutes : zz_fok [2] 6 "DebateHall$Minutes" "round" "[I" := zz_fok1 (zR_2, zT_2, 8) rfl (by decide) rfl rfl (Or.inl rfl)
theorem q249 : (Jvm.Cond.fieldLink "DebateHall$Minutes" (38 : Nat) "DebateHall$Minutes" "round" "[I") ∈ lw_all := lw_g (lw_at lw_m1 169 rfl) rfl
theorem zq_2_6 : zz_pokF [2] 6 "DebateHall$Minutes" := zz_pokF1 (zR_2, zT_2, 8) (by decide) rfl rfl rfl
theorem q201 : (Jvm.Cond.methodLink "DebateHall$Minutes" (23 : Nat) ({ cls := "java/util/HashMap", name := "<init>", desc := "()V" } : Jvm.MethodName)) ∈ lw_all := lw_g (lw_at lw_m1 121 rfl) rfl
theorem q202 : (Jvm.Cond.instanceMethod ({ cls := "java/util/HashMap", name := "<init>", desc := "()V" } : Jvm.MethodName)) ∈ lw_all := lw_g (lw_at lw_m1 122 rfl) rfl
theorem q172 : (Jvm.Cond.methodLink "DebateHall$Minutes" (11 : Nat) ({ cls := "java/util/ArrayList", name := "<init>", desc := "()V" } : Jvm.MethodName)) ∈ lw_all := lw_g (lw_at lw_m1 92 rfl) rfl
theorem q173 : (Jvm.Cond.instanceMethod ({ cls := "java/util/ArrayList", name := "<init>", desc := "()V" } : Jvm.MethodName)) ∈ lw_all := lw_g (lw_at lw_m1 93 rfl) rfl
def wp_X3_init (Z : zzG) (this : Option Nat) (M : zzM) (bc bs : Nat) (K : Option Value → zzM → Prop) : Prop := zty Z M this fun _ => znew Z M bc bs 18 3 [.int 0, .null, .int 0] fun q1 M2 bc3 bs4 => wp_J2_init Z (some q1) M2 (fun r5 M6 => zrV r5 (zput Z M6 this [2] 0 (va_rf (some q1)) fun M9 => znew Z M9 bc3 bs4 18 3 [.int 0, .null, .int 0] fun q10 M11 bc12 bs13 => wp_J2_init Z (some q10) M11 (fun r14 M15 => zrV r14 (zput Z M15 this [2] 1 (va_rf (some q10)) fun M18 => znew Z M18 bc12 bs13 19 8 [.null, .null, .null, .null, .int 0, .int 0, .int 0, .float 0] fun q19 M20 bc21 bs22 => wp_J4_init Z (some q19) M20 (fun r23 M24 => zrV r23 (zput Z M24 this [2] 2 (va_rf (some q19)) fun M27 => znew Z M27 bc21 bs22 19 8 [.null, .null, .null, .null, .int 0, .int 0, .int 0, .float 0] fun q28 M29 bc30 bs31 => wp_J4_init Z (some q28) M29 (fun r32 M33 => zrV r32 (zput Z M33 this [2] 3 (va_rf (some q28)) fun M36 => znar Z M36 bc30 bs31 100 (40 : Int32) (.int 0) fun q37 M38 bc39 bs40 => zput Z M38 this [2] 4 (va_rf (some q37)) fun M41 => znar Z M41 bc39 bs40 100 (40 : Int32) (.int 0) fun q42 M43 bc44 bs45 => zput Z M43 this [2] 5 (va_rf (some q42)) fun M46 => znar Z M46 bc44 bs45 100 (40 : Int32) (.int 0) fun q47 M48 bc49 bs50 => zput Z M48 this [2] 6 (va_rf (some q47)) fun M51 => K none M51))))))))
theorem ok_X3_init {Z : zzG} {l : Launch} (hl : l.stackTraces = false) {this : Option Nat} {M : zzM} {mc ms : Nat} {K : Option Value → zzM → Prop} (hw : wp_X3_init Z this M mc ms K) : zz_Met Z l yX3_init (zz_ws yX3_init cX3_init 1 none none) 5 [va_rf this] M mc ms K (fun _ _ _ => False) := by
  refine zz_ofW hl (plainFor_of_name (by decide)) (by simp only [zz_sl0, zz_slI, zz_slJ, zz_slA] <;> decide) (fun G hZ hll C E hH hR hin => ?_)
  subst hZ
  subst hll
  rw [show lv_args 0 [va_rf this] = [(0, va_rf this)] by simp only [zz_la0, zz_laI, zz_laJ, zz_laA]]
  unfold wp_X3_init at hw
  refine zz_aload_n C dX3_init_0 rfl 0 rfl ?_
  obtain ⟨a9, t9, b9, fs9, hro, hL, hw⟩ := ztyS hw
  refine zz_objInit9 C hR (by decide) hro dX3_init_1 q169 q146 q147 (zz_cat10 _ (Nat.le_of_ble_eq_true rfl)) ?_
  refine zz_aload_n C dX3_init_4 rfl 0 rfl ?_
  refine zz_new (r := (zR_18, zT_18, 3)) C dX3_init_5 rfl (by decide) q170 q171 zl_java_util_ArrayList rfl hw (fun q1 M2 bc3 bs4 hw => ?_)
  refine zz_dup C dX3_init_8 (zz_cat _) ?_
  refine zz_callI (As := []) (rest := [va_rf (some q1), va_rf this]) (mc := 0) (ms := 0) C hR rfl dX3_init_9 (Or.inl q172) q173 zl_java_util_ArrayList zk_J2_init rfl zy_J2_init (by decide) (by decide) (ok_J2_init (zz_hl C) hw) (Nat.zero_le _) (Nat.zero_le _) (zz_cat10 _ (Nat.le_of_ble_eq_true rfl)) (fun r5 M6 hw => zz_kV hw (fun hw => ?_)) (fun _ _ _ h9 => h9.elim) rfl
  refine zz_putF C hin dX3_init_12 q231 zf_2_0_teHall_Minutes zq_2_0 (zz_hn1 (zz_nA _ rfl (some q1))) hw (fun M9 hw => ?_)
  refine zz_aload_n C dX3_init_15 rfl 0 rfl ?_
  refine zz_new (r := (zR_18, zT_18, 3)) C dX3_init_16 rfl (by decide) q170 q171 zl_java_util_ArrayList rfl hw (fun q10 M11 bc12 bs13 hw => ?_)
  refine zz_dup C dX3_init_19 (zz_cat _) ?_
  refine zz_callI (As := []) (rest := [va_rf (some q10), va_rf this]) (mc := 0) (ms := 0) C hR rfl dX3_init_20 (Or.inl q172) q173 zl_java_util_ArrayList zk_J2_init rfl zy_J2_init (by decide) (by decide) (ok_J2_init (zz_hl C) hw) (Nat.zero_le _) (Nat.zero_le _) (zz_cat10 _ (Nat.le_of_ble_eq_true rfl)) (fun r14 M15 hw => zz_kV hw (fun hw => ?_)) (fun _ _ _ h9 => h9.elim) rfl
  refine zz_putF C hin dX3_init_23 q235 zf_2_1_teHall_Minutes zq_2_1 (zz_hn1 (zz_nA _ rfl (some q10))) hw (fun M18 hw => ?_)
  refine zz_aload_n C dX3_init_26 rfl 0 rfl ?_
  refine zz_new (r := (zR_19, zT_19, 8)) C dX3_init_27 rfl (by decide) q199 q200 zl_java_util_HashMap rfl hw (fun q19 M20 bc21 bs22 hw => ?_)
  refine zz_dup C dX3_init_30 (zz_cat _) ?_
  refine zz_callI (As := []) (rest := [va_rf (some q19), va_rf this]) (mc := 0) (ms := 0) C hR rfl dX3_init_31 (Or.inl q201) q202 zl_java_util_HashMap zk_J4_init rfl zy_J4_init (by decide) (by decide) (ok_J4_init (zz_hl C) hw) (Nat.zero_le _) (Nat.zero_le _) (zz_cat10 _ (Nat.le_of_ble_eq_true rfl)) (fun r23 M24 hw => zz_kV hw (fun hw => ?_)) (fun _ _ _ h9 => h9.elim) rfl
  refine zz_putF C hin dX3_init_34 q240 zf_2_2_teHall_Minutes zq_2_2 (zz_hn1 (zz_nA _ rfl (some q19))) hw (fun M27 hw => ?_)
  refine zz_aload_n C dX3_init_37 rfl 0 rfl ?_
  refine zz_new (r := (zR_19, zT_19, 8)) C dX3_init_38 rfl (by decide) q199 q200 zl_java_util_HashMap rfl hw (fun q28 M29 bc30 bs31 hw => ?_)
  refine zz_dup C dX3_init_41 (zz_cat _) ?_
  refine zz_callI (As := []) (rest := [va_rf (some q28), va_rf this]) (mc := 0) (ms := 0) C hR rfl dX3_init_42 (Or.inl q201) q202 zl_java_util_HashMap zk_J4_init rfl zy_J4_init (by decide) (by decide) (ok_J4_init (zz_hl C) hw) (Nat.zero_le _) (Nat.zero_le _) (zz_cat10 _ (Nat.le_of_ble_eq_true rfl)) (fun r32 M33 hw => zz_kV hw (fun hw => ?_)) (fun _ _ _ h9 => h9.elim) rfl
  refine zz_putF C hin dX3_init_45 q243 zf_2_3_teHall_Minutes zq_2_3 (zz_hn1 (zz_nA _ rfl (some q28))) hw (fun M36 hw => ?_)
  refine zz_aload_n C dX3_init_48 rfl 0 rfl ?_
  refine zz_bipush (v := (40 : Int32)) C dX3_init_49 (by decide) ?_
  refine zz_newar (t := 100) (ty := .int) C dX3_init_51 rfl rfl (by decide) (fun _ _ h9 => h9) rfl q270 hw (fun q37 M38 bc39 bs40 hw => ?_)
  refine zz_putF C hin dX3_init_53 q246 zf_2_4_teHall_Minutes zq_2_4 (zz_hn1 (zz_nA _ rfl (some q37))) hw (fun M41 hw => ?_)
  refine zz_aload_n C dX3_init_56 rfl 0 rfl ?_
  refine zz_bipush (v := (40 : Int32)) C dX3_init_57 (by decide) ?_
  refine zz_newar (t := 100) (ty := .int) C dX3_init_59 rfl rfl (by decide) (fun _ _ h9 => h9) rfl q270 hw (fun q42 M43 bc44 bs45 hw => ?_)
  refine zz_putF C hin dX3_init_61 q248 zf_2_5_teHall_Minutes zq_2_5 (zz_hn1 (zz_nA _ rfl (some q42))) hw (fun M46 hw => ?_)
  refine zz_aload_n C dX3_init_64 rfl 0 rfl ?_
  refine zz_bipush (v := (40 : Int32)) C dX3_init_65 (by decide) ?_
  refine zz_newar (t := 100) (ty := .int) C dX3_init_67 rfl rfl (by decide) (fun _ _ h9 => h9) rfl q270 hw (fun q47 M48 bc49 bs50 hw => ?_)
  refine zz_putF C hin dX3_init_69 q249 zf_2_6_teHall_Minutes zq_2_6 (zz_hn1 (zz_nA _ rfl (some q47))) hw (fun M51 hw => ?_)
  exact zz_vret C E dX3_init_72 hw
abbrev cJ5_init : ByteArray := prog_28_method_2_code
def yJ5_init : MethodName := ⟨"java/lang/AbstractStringBuilder", "<init>", "(I)V"⟩
def dkwJ5_init_1 : List UInt8 := [167, 0, 16, 42, 27, 184, 0, 26, 181, 0, 15, 42, 4, 181, 0, 22, 177]
abbrev dktJ5_init_1 : List UInt8 := dkwJ5_init_1 ++ []
def dkwJ5_init_0 : List UInt8 := [42, 183, 0, 3, 178, 0, 18, 153, 0, 18, 42, 27, 188, 8, 181, 0, 15, 42, 3, 181, 0, 22]
abbrev dktJ5_init_0 : List UInt8 := dkwJ5_init_0 ++ dktJ5_init_1
theorem dksJ5_init_0 : cJ5_init.data.toList.drop 0 = dktJ5_init_0 := by decide +kernel
theorem dksJ5_init_1 : cJ5_init.data.toList.drop 22 = dktJ5_init_1 := dk_seg dksJ5_init_0 22 rfl rfl
theorem dJ5_init_0 : decode cJ5_init 0 = .ok (.aload_n 0, 1) := dk_42 (dk_at dksJ5_init_0 0 rfl rfl)
theorem dJ5_init_1 : decode cJ5_init 1 = .ok (.invokespecial 3, 3) := dk_183 0 3 (dk_at dksJ5_init_0 1 rfl rfl)
theorem dJ5_init_4 : decode cJ5_init 4 = .ok (.getstatic 18, 3) := dk_178 0 18 (dk_at dksJ5_init_0 4 rfl rfl)
theorem dJ5_init_7 : decode cJ5_init 7 = .ok (.ifCond .eq 18, 3) := dk_153 0 18 (dk_at dksJ5_init_0 7 rfl rfl)
theorem dJ5_init_10 : decode cJ5_init 10 = .ok (.aload_n 0, 1) := dk_42 (dk_at dksJ5_init_0 10 rfl rfl)
theorem dJ5_init_11 : decode cJ5_init 11 = .ok (.iload_n 1, 1) := dk_27 (dk_at dksJ5_init_0 11 rfl rfl)
theorem dJ5_init_12 : decode cJ5_init 12 = .ok (.newarray .byte, 2) := dk_188_8 (dk_at dksJ5_init_0 12 rfl rfl)
theorem dJ5_init_14 : decode cJ5_init 14 = .ok (.putfield 15, 3) := dk_181 0 15 (dk_at dksJ5_init_0 14 rfl rfl)
theorem dJ5_init_17 : decode cJ5_init 17 = .ok (.aload_n 0, 1) := dk_42 (dk_at dksJ5_init_0 17 rfl rfl)
theorem dJ5_init_18 : decode cJ5_init 18 = .ok (.iconst 0, 1) := dk_3 (dk_at dksJ5_init_0 18 rfl rfl)
theorem dJ5_init_19 : decode cJ5_init 19 = .ok (.putfield 22, 3) := dk_181 0 22 (dk_at dksJ5_init_0 19 rfl rfl)
theorem dJ5_init_22 : decode cJ5_init 22 = .ok (.goto 16, 3) := dk_167 0 16 (dk_at dksJ5_init_1 0 rfl rfl)
theorem dJ5_init_25 : decode cJ5_init 25 = .ok (.aload_n 0, 1) := dk_42 (dk_at dksJ5_init_1 3 rfl rfl)
theorem dJ5_init_26 : decode cJ5_init 26 = .ok (.iload_n 1, 1) := dk_27 (dk_at dksJ5_init_1 4 rfl rfl)
theorem dJ5_init_27 : decode cJ5_init 27 = .ok (.invokestatic 26, 3) := dk_184 0 26 (dk_at dksJ5_init_1 5 rfl rfl)
theorem dJ5_init_38 : decode cJ5_init 38 = .ok (.return_, 1) := dk_177 (dk_at dksJ5_init_1 16 rfl rfl)
theorem q279 : (Jvm.Cond.methodLink "java/lang/AbstractStringBuilder" (3 : Nat) ({ cls := "java/lang/Object", name := "<init>", desc := "()V" } : Jvm.MethodName)) ∈ lw_all := lw_g (lw_at lw_m1 199 rfl) rfl
theorem q280 : (Jvm.Cond.fieldLink "java/lang/AbstractStringBuilder" (18 : Nat) "java/lang/String" "COMPACT_STRINGS" "Z") ∈ lw_all := lw_g (lw_at lw_m1 200 rfl) rfl
theorem zf_20_0_tStringBuilder : zz_fok [20] 0 "java/lang/AbstractStringBuilder" "value" "[B" := zz_fok1 (zR_20, zT_20, 4) rfl (by decide) rfl rfl (Or.inl rfl)
theorem q289 : (Jvm.Cond.fieldLink "java/lang/AbstractStringBuilder" (15 : Nat) "java/lang/AbstractStringBuilder" "value" "[B") ∈ lw_all := lw_g (lw_at lw_m1 209 rfl) rfl
theorem zp_20_0 : zz_pok [20] 0 := zz_pok1 (zR_20, zT_20, 4) (by decide) rfl rfl
theorem zf_20_1_tStringBuilder : zz_fok [20] 1 "java/lang/AbstractStringBuilder" "coder" "B" := zz_fok1 (zR_20, zT_20, 4) rfl (by decide) rfl rfl (Or.inl rfl)
theorem q290 : (Jvm.Cond.fieldLink "java/lang/AbstractStringBuilder" (22 : Nat) "java/lang/AbstractStringBuilder" "coder" "B") ∈ lw_all := lw_g (lw_at lw_m1 210 rfl) rfl
theorem zp_20_1 : zz_pok [20] 1 := zz_pok1 (zR_20, zT_20, 4) (by decide) rfl rfl
def wp_J5_init (Z : zzG) (this : Option Nat) (p0 : Int32) (M : zzM) (bc bs : Nat) (K : Option Value → zzM → Prop) : Prop := zty Z M this fun _ => if (1 : Int32) = 0 then (False) else (znar Z M bc bs 101 p0 (.int 0) fun q1 M2 bc3 bs4 => zput Z M2 this [20] 0 (va_rf (some q1)) fun M5 => zfit .byte (0 : Int32) ∧ zput Z M5 this [20] 1 (.int (0 : Int32)) fun M6 => K none M6)
theorem ok_J5_init {Z : zzG} {l : Launch} (hl : l.stackTraces = false) {this : Option Nat} {p0 : Int32} {M : zzM} {mc ms : Nat} {K : Option Value → zzM → Prop} (hw : wp_J5_init Z this p0 M mc ms K) : zz_Met Z l yJ5_init (zz_ws yJ5_init cJ5_init 2 none none) 2 [va_rf this, .int p0] M mc ms K (fun _ _ _ => False) := by
  refine zz_ofW hl (plainFor_of_name (by decide)) (by simp only [zz_sl0, zz_slI, zz_slJ, zz_slA] <;> decide) (fun G hZ hll C E hH hR hin => ?_)
  subst hZ
  subst hll
  rw [show lv_args 0 [va_rf this, .int p0] = [(0, va_rf this), (1, .int p0)] by simp only [zz_la0, zz_laI, zz_laJ, zz_laA]]
  unfold wp_J5_init at hw
  refine zz_aload_n C dJ5_init_0 rfl 0 rfl ?_
  obtain ⟨a9, t9, b9, fs9, hro, hL, hw⟩ := ztyS hw
  refine zz_objInit9 C hR (by decide) hro dJ5_init_1 q279 q146 q147 (zz_cat10 _ (Nat.le_of_ble_eq_true rfl)) ?_
  refine zz_gets (j := 14) (v := .int (1 : Int32)) C dJ5_init_4 (Or.inl q280) rfl (Or.inl rfl) rfl ?_
  refine zz_if_eq (tgt := 25) C dJ5_init_7 (by decide) hw (fun hw => ?_) (fun hw => ?_)
  · refine zz_aload_n C dJ5_init_25 rfl 0 rfl ?_
    refine zz_iload_n C dJ5_init_26 rfl 1 rfl ?_
    exact hw.elim
  · refine zz_aload_n C dJ5_init_10 rfl 0 rfl ?_
    refine zz_iload_n C dJ5_init_11 rfl 1 rfl ?_
    refine zz_newar (t := 101) (ty := .byte) C dJ5_init_12 rfl rfl (by decide) (fun _ _ h9 => h9) rfl q163 hw (fun q1 M2 bc3 bs4 hw => ?_)
    refine zz_put C dJ5_init_14 (Or.inl q289) zf_20_0_tStringBuilder zp_20_0 (zz_hn1 (zz_nA _ rfl (some q1))) hw (fun M5 hw => ?_)
    refine zz_aload_n C dJ5_init_17 rfl 0 rfl ?_
    refine zz_iconst (v := (0 : Int32)) C dJ5_init_18 (by decide) ?_
    obtain ⟨hfit, hw⟩ := hw
    refine zz_put C dJ5_init_19 (Or.inl q290) zf_20_1_tStringBuilder zp_20_1 (zz_hn1 hfit) hw (fun M6 hw => ?_)
    refine zz_goto (tgt := 38) C dJ5_init_22 (by decide) ?_
    exact zz_vret C E dJ5_init_38 hw
abbrev cJ6_init : ByteArray := prog_47_method_1_code
def yJ6_init : MethodName := ⟨"java/lang/StringBuilder", "<init>", "()V"⟩
def dkwJ6_init_0 : List UInt8 := [42, 16, 16, 183, 0, 1, 177]
abbrev dktJ6_init_0 : List UInt8 := dkwJ6_init_0 ++ []
theorem dksJ6_init_0 : cJ6_init.data.toList.drop 0 = dktJ6_init_0 := by decide +kernel
theorem dJ6_init_0 : decode cJ6_init 0 = .ok (.aload_n 0, 1) := dk_42 (dk_at dksJ6_init_0 0 rfl rfl)
theorem dJ6_init_1 : decode cJ6_init 1 = .ok (.bipush 16, 2) := dk_16 16 (dk_at dksJ6_init_0 1 rfl rfl)
theorem dJ6_init_3 : decode cJ6_init 3 = .ok (.invokespecial 1, 3) := dk_183 0 1 (dk_at dksJ6_init_0 3 rfl rfl)
theorem dJ6_init_6 : decode cJ6_init 6 = .ok (.return_, 1) := dk_177 (dk_at dksJ6_init_0 6 rfl rfl)
theorem q278 : (Jvm.Cond.code ({ cls := "java/lang/AbstractStringBuilder", name := "<init>", desc := "(I)V" } : Jvm.MethodName) prog_28_method_2_code (2 : Nat) (Option.none : Option Jvm.ClassFile.FieldType)) ∈ lw_all := lw_g (lw_at lw_m1 198 rfl) rfl
theorem zk_J5_init : zz_cd yJ5_init cJ5_init 2 none none ∈ lw_all := q278
theorem zy_J5_init : zz_yok yJ5_init 1 = true := by decide +kernel
theorem q276 : (Jvm.Cond.methodLink "java/lang/StringBuilder" (1 : Nat) ({ cls := "java/lang/AbstractStringBuilder", name := "<init>", desc := "(I)V" } : Jvm.MethodName)) ∈ lw_all := lw_g (lw_at lw_m1 196 rfl) rfl
theorem q89 : (Jvm.Cond.initialized "java/lang/AbstractStringBuilder") ∈ lw_all := lw_g (lw_at lw_m1 9 rfl) rfl
theorem zl_java_lang_AbstractStringBuilder : Cond.initialized "java/lang/AbstractStringBuilder" ∈ lw_all := q89
theorem q277 : (Jvm.Cond.instanceMethod ({ cls := "java/lang/AbstractStringBuilder", name := "<init>", desc := "(I)V" } : Jvm.MethodName)) ∈ lw_all := lw_g (lw_at lw_m1 197 rfl) rfl
def wp_J6_init (Z : zzG) (this : Option Nat) (M : zzM) (bc bs : Nat) (K : Option Value → zzM → Prop) : Prop := zty Z M this fun _ => zcc bc bs (fun c s k => wp_J5_init Z this (16 : Int32) M c s k) fun r1 M2 bc3 bs4 => zrV r1 (K none M2)
theorem ok_J6_init {Z : zzG} {l : Launch} (hl : l.stackTraces = false) {this : Option Nat} {M : zzM} {mc ms : Nat} {K : Option Value → zzM → Prop} (hw : wp_J6_init Z this M mc ms K) : zz_Met Z l yJ6_init (zz_ws yJ6_init cJ6_init 1 none none) 3 [va_rf this] M mc ms K (fun _ _ _ => False) := by
  refine zz_ofW hl (plainFor_of_name (by decide)) (by simp only [zz_sl0, zz_slI, zz_slJ, zz_slA] <;> decide) (fun G hZ hll C E hH hR hin => ?_)
  subst hZ
  subst hll
  rw [show lv_args 0 [va_rf this] = [(0, va_rf this)] by simp only [zz_la0, zz_laI, zz_laJ, zz_laA]]
  unfold wp_J6_init at hw
  refine zz_aload_n C dJ6_init_0 rfl 0 rfl ?_
  refine zz_bipush (v := (16 : Int32)) C dJ6_init_1 (by decide) ?_
  obtain ⟨a9, t9, b9, fs9, hro, hL, hw⟩ := ztyS hw
  obtain ⟨c9, s9, hc9, hs9, hw⟩ := hw
  refine zz_callI (As := [.int (16 : Int32)]) (rest := []) C hR hro dJ6_init_3 (Or.inl q276) q277 zl_java_lang_AbstractStringBuilder zk_J5_init rfl zy_J5_init (by decide) (by decide) (ok_J5_init (zz_hl C) hw) hc9 hs9 (zz_cat10 _ (Nat.le_of_ble_eq_true rfl)) (fun r1 M2 hw => zz_kV hw (fun hw => ?_)) (fun _ _ _ h9 => h9.elim) rfl
  exact zz_vret C E dJ6_init_6 hw
abbrev cX1_init : ByteArray := prog_1_method_5_code
def yX1_init : MethodName := ⟨"DebateHall", "<init>", "()V"⟩
def dkwX1_init_1 : List UInt8 := [89, 183, 0, 35, 181, 0, 36, 42, 187, 0, 40, 89, 183, 0, 42, 181, 0, 43, 177]
abbrev dktX1_init_1 : List UInt8 := dkwX1_init_1 ++ []
def dkwX1_init_0 : List UInt8 := [42, 183, 0, 19, 42, 187, 0, 22, 89, 183, 0, 24, 181, 0, 25, 42, 2, 181, 0, 29, 42, 187, 0, 33]
abbrev dktX1_init_0 : List UInt8 := dkwX1_init_0 ++ dktX1_init_1
theorem dksX1_init_0 : cX1_init.data.toList.drop 0 = dktX1_init_0 := by decide +kernel
theorem dksX1_init_1 : cX1_init.data.toList.drop 24 = dktX1_init_1 := dk_seg dksX1_init_0 24 rfl rfl
theorem dX1_init_0 : decode cX1_init 0 = .ok (.aload_n 0, 1) := dk_42 (dk_at dksX1_init_0 0 rfl rfl)
theorem dX1_init_1 : decode cX1_init 1 = .ok (.invokespecial 19, 3) := dk_183 0 19 (dk_at dksX1_init_0 1 rfl rfl)
theorem dX1_init_4 : decode cX1_init 4 = .ok (.aload_n 0, 1) := dk_42 (dk_at dksX1_init_0 4 rfl rfl)
theorem dX1_init_5 : decode cX1_init 5 = .ok (.new 22, 3) := dk_187 0 22 (dk_at dksX1_init_0 5 rfl rfl)
theorem dX1_init_8 : decode cX1_init 8 = .ok (.dup, 1) := dk_89 (dk_at dksX1_init_0 8 rfl rfl)
theorem dX1_init_9 : decode cX1_init 9 = .ok (.invokespecial 24, 3) := dk_183 0 24 (dk_at dksX1_init_0 9 rfl rfl)
theorem dX1_init_12 : decode cX1_init 12 = .ok (.putfield 25, 3) := dk_181 0 25 (dk_at dksX1_init_0 12 rfl rfl)
theorem dX1_init_15 : decode cX1_init 15 = .ok (.aload_n 0, 1) := dk_42 (dk_at dksX1_init_0 15 rfl rfl)
theorem dX1_init_16 : decode cX1_init 16 = .ok (.iconst (-1), 1) := dk_2 (dk_at dksX1_init_0 16 rfl rfl)
theorem dX1_init_17 : decode cX1_init 17 = .ok (.putfield 29, 3) := dk_181 0 29 (dk_at dksX1_init_0 17 rfl rfl)
theorem dX1_init_20 : decode cX1_init 20 = .ok (.aload_n 0, 1) := dk_42 (dk_at dksX1_init_0 20 rfl rfl)
theorem dX1_init_21 : decode cX1_init 21 = .ok (.new 33, 3) := dk_187 0 33 (dk_at dksX1_init_0 21 rfl rfl)
theorem dX1_init_24 : decode cX1_init 24 = .ok (.dup, 1) := dk_89 (dk_at dksX1_init_1 0 rfl rfl)
theorem dX1_init_25 : decode cX1_init 25 = .ok (.invokespecial 35, 3) := dk_183 0 35 (dk_at dksX1_init_1 1 rfl rfl)
theorem dX1_init_28 : decode cX1_init 28 = .ok (.putfield 36, 3) := dk_181 0 36 (dk_at dksX1_init_1 4 rfl rfl)
theorem dX1_init_31 : decode cX1_init 31 = .ok (.aload_n 0, 1) := dk_42 (dk_at dksX1_init_1 7 rfl rfl)
theorem dX1_init_32 : decode cX1_init 32 = .ok (.new 40, 3) := dk_187 0 40 (dk_at dksX1_init_1 8 rfl rfl)
theorem dX1_init_35 : decode cX1_init 35 = .ok (.dup, 1) := dk_89 (dk_at dksX1_init_1 11 rfl rfl)
theorem dX1_init_36 : decode cX1_init 36 = .ok (.invokespecial 42, 3) := dk_183 0 42 (dk_at dksX1_init_1 12 rfl rfl)
theorem dX1_init_39 : decode cX1_init 39 = .ok (.putfield 43, 3) := dk_181 0 43 (dk_at dksX1_init_1 15 rfl rfl)
theorem dX1_init_42 : decode cX1_init 42 = .ok (.return_, 1) := dk_177 (dk_at dksX1_init_1 18 rfl rfl)
theorem q145 : (Jvm.Cond.methodLink "DebateHall" (19 : Nat) ({ cls := "java/lang/Object", name := "<init>", desc := "()V" } : Jvm.MethodName)) ∈ lw_all := lw_g (lw_at lw_m1 65 rfl) rfl
theorem q148 : (Jvm.Cond.classLink "DebateHall" (22 : Nat) "DebateHall$Tape") ∈ lw_all := lw_g (lw_at lw_m1 68 rfl) rfl
theorem q82 : (Jvm.Cond.initialized "DebateHall$Tape") ∈ lw_all := lw_g (lw_at lw_m1 2 rfl) rfl
theorem zl_DebateHall_Tape : Cond.initialized "DebateHall$Tape" ∈ lw_all := q82
theorem q152 : (Jvm.Cond.code ({ cls := "DebateHall$Tape", name := "<init>", desc := "()V" } : Jvm.MethodName) prog_19_method_1_code (1 : Nat) (Option.none : Option Jvm.ClassFile.FieldType)) ∈ lw_all := lw_g (lw_at lw_m1 72 rfl) rfl
theorem zk_X2_init : zz_cd yX2_init cX2_init 1 none none ∈ lw_all := q152
theorem zy_X2_init : zz_yok yX2_init 0 = true := by decide +kernel
theorem zf_0_0_DebateHall : zz_fok [0] 0 "DebateHall" "tape" "LDebateHall$Tape;" := zz_fok1 (zR_0, zT_0, 4) rfl (by decide) rfl rfl (Or.inl rfl)
theorem q303 : (Jvm.Cond.fieldLink "DebateHall" (25 : Nat) "DebateHall" "tape" "LDebateHall$Tape;") ∈ lw_all := lw_g (lw_at lw_m1 223 rfl) rfl
theorem zq_0_0 : zz_pokF [0] 0 "DebateHall" := zz_pokF1 (zR_0, zT_0, 4) (by decide) rfl rfl rfl
theorem zf_0_1_DebateHall : zz_fok [0] 1 "DebateHall" "errorAt" "I" := zz_fok1 (zR_0, zT_0, 4) rfl (by decide) rfl rfl (Or.inl rfl)
theorem q304 : (Jvm.Cond.fieldLink "DebateHall" (29 : Nat) "DebateHall" "errorAt" "I") ∈ lw_all := lw_g (lw_at lw_m1 224 rfl) rfl
theorem zp_0_1 : zz_pok [0] 1 := zz_pok1 (zR_0, zT_0, 4) (by decide) rfl rfl
theorem q164 : (Jvm.Cond.classLink "DebateHall" (33 : Nat) "DebateHall$Minutes") ∈ lw_all := lw_g (lw_at lw_m1 84 rfl) rfl
theorem q83 : (Jvm.Cond.initialized "DebateHall$Minutes") ∈ lw_all := lw_g (lw_at lw_m1 3 rfl) rfl
theorem zl_DebateHall_Minutes : Cond.initialized "DebateHall$Minutes" ∈ lw_all := q83
theorem q168 : (Jvm.Cond.code ({ cls := "DebateHall$Minutes", name := "<init>", desc := "()V" } : Jvm.MethodName) prog_12_method_1_code (1 : Nat) (Option.none : Option Jvm.ClassFile.FieldType)) ∈ lw_all := lw_g (lw_at lw_m1 88 rfl) rfl
theorem zk_X3_init : zz_cd yX3_init cX3_init 1 none none ∈ lw_all := q168
theorem zy_X3_init : zz_yok yX3_init 0 = true := by decide +kernel
theorem zf_0_2_DebateHall : zz_fok [0] 2 "DebateHall" "record" "LDebateHall$Minutes;" := zz_fok1 (zR_0, zT_0, 4) rfl (by decide) rfl rfl (Or.inl rfl)
theorem q305 : (Jvm.Cond.fieldLink "DebateHall" (36 : Nat) "DebateHall" "record" "LDebateHall$Minutes;") ∈ lw_all := lw_g (lw_at lw_m1 225 rfl) rfl
theorem zp_0_2 : zz_pok [0] 2 := zz_pok1 (zR_0, zT_0, 4) (by decide) rfl rfl
theorem q271 : (Jvm.Cond.classLink "DebateHall" (40 : Nat) "java/lang/StringBuilder") ∈ lw_all := lw_g (lw_at lw_m1 191 rfl) rfl
theorem q90 : (Jvm.Cond.initialized "java/lang/StringBuilder") ∈ lw_all := lw_g (lw_at lw_m1 10 rfl) rfl
theorem zl_java_lang_StringBuilder : Cond.initialized "java/lang/StringBuilder" ∈ lw_all := q90
theorem q275 : (Jvm.Cond.code ({ cls := "java/lang/StringBuilder", name := "<init>", desc := "()V" } : Jvm.MethodName) prog_47_method_1_code (1 : Nat) (Option.none : Option Jvm.ClassFile.FieldType)) ∈ lw_all := lw_g (lw_at lw_m1 195 rfl) rfl
theorem zk_J6_init : zz_cd yJ6_init cJ6_init 1 none none ∈ lw_all := q275
theorem zy_J6_init : zz_yok yJ6_init 0 = true := by decide +kernel
theorem zf_0_3_DebateHall : zz_fok [0] 3 "DebateHall" "paper" "Ljava/lang/StringBuilder;" := zz_fok1 (zR_0, zT_0, 4) rfl (by decide) rfl rfl (Or.inl rfl)
theorem q306 : (Jvm.Cond.fieldLink "DebateHall" (43 : Nat) "DebateHall" "paper" "Ljava/lang/StringBuilder;") ∈ lw_all := lw_g (lw_at lw_m1 226 rfl) rfl
theorem zq_0_3 : zz_pokF [0] 3 "DebateHall" := zz_pokF1 (zR_0, zT_0, 4) (by decide) rfl rfl rfl
theorem q273 : (Jvm.Cond.methodLink "DebateHall" (42 : Nat) ({ cls := "java/lang/StringBuilder", name := "<init>", desc := "()V" } : Jvm.MethodName)) ∈ lw_all := lw_g (lw_at lw_m1 193 rfl) rfl
theorem q274 : (Jvm.Cond.instanceMethod ({ cls := "java/lang/StringBuilder", name := "<init>", desc := "()V" } : Jvm.MethodName)) ∈ lw_all := lw_g (lw_at lw_m1 194 rfl) rfl
theorem q166 : (Jvm.Cond.methodLinkNest "DebateHall" (35 : Nat) ({ cls := "DebateHall$Minutes", name := "<init>", desc := "()V" } : Jvm.MethodName) "DebateHall") ∈ lw_tbl := lw_at lw_m1 86 rfl
theorem q167 : (Jvm.Cond.instanceMethod ({ cls := "DebateHall$Minutes", name := "<init>", desc := "()V" } : Jvm.MethodName)) ∈ lw_all := lw_g (lw_at lw_m1 87 rfl) rfl
theorem q150 : (Jvm.Cond.methodLinkNest "DebateHall" (24 : Nat) ({ cls := "DebateHall$Tape", name := "<init>", desc := "()V" } : Jvm.MethodName) "DebateHall") ∈ lw_tbl := lw_at lw_m1 70 rfl
theorem q151 : (Jvm.Cond.instanceMethod ({ cls := "DebateHall$Tape", name := "<init>", desc := "()V" } : Jvm.MethodName)) ∈ lw_all := lw_g (lw_at lw_m1 71 rfl) rfl
def wp_X1_init (Z : zzG) (this : Option Nat) (M : zzM) (bc bs : Nat) (K : Option Value → zzM → Prop) : Prop := zty Z M this fun _ => znew Z M bc bs 1 2 [.null, .int 0] fun q1 M2 bc3 bs4 => zcc bc3 bs4 (fun c s k => wp_X2_init Z (some q1) M2 c s k) fun r5 M6 bc7 bs8 => zrV r5 (zput Z M6 this [0] 0 (va_rf (some q1)) fun M9 => zput Z M9 this [0] 1 (.int (-1 : Int32)) fun M10 => znew Z M10 bc7 bs8 2 8 [.null, .null, .null, .null, .null, .null, .null, .int 0] fun q11 M12 bc13 bs14 => zcc bc13 bs14 (fun c s k => wp_X3_init Z (some q11) M12 c s k) fun r15 M16 bc17 bs18 => zrV r15 (zput Z M16 this [0] 2 (va_rf (some q11)) fun M19 => znew Z M19 bc17 bs18 20 4 [.null, .int 0, .int 0, .int 0] fun q20 M21 bc22 bs23 => zcc bc22 bs23 (fun c s k => wp_J6_init Z (some q20) M21 c s k) fun r24 M25 bc26 bs27 => zrV r24 (zput Z M25 this [0] 3 (va_rf (some q20)) fun M28 => K none M28)))
theorem ok_X1_init {Z : zzG} {l : Launch} (hl : l.stackTraces = false) {this : Option Nat} {M : zzM} {mc ms : Nat} {K : Option Value → zzM → Prop} (hw : wp_X1_init Z this M mc ms K) : zz_Met Z l yX1_init (zz_ws yX1_init cX1_init 1 none none) 6 [va_rf this] M mc ms K (fun _ _ _ => False) := by
  refine zz_ofW hl (plainFor_of_name (by decide)) (by simp only [zz_sl0, zz_slI, zz_slJ, zz_slA] <;> decide) (fun G hZ hll C E hH hR hin => ?_)
  subst hZ
  subst hll
  rw [show lv_args 0 [va_rf this] = [(0, va_rf this)] by simp only [zz_la0, zz_laI, zz_laJ, zz_laA]]
  unfold wp_X1_init at hw
  refine zz_aload_n C dX1_init_0 rfl 0 rfl ?_
  obtain ⟨a9, t9, b9, fs9, hro, hL, hw⟩ := ztyS hw
  refine zz_objInit9 C hR (by decide) hro dX1_init_1 q145 q146 q147 (zz_cat10 _ (Nat.le_of_ble_eq_true rfl)) ?_
  refine zz_aload_n C dX1_init_4 rfl 0 rfl ?_
  refine zz_new (r := (zR_1, zT_1, 2)) C dX1_init_5 rfl (by decide) q148 q149 zl_DebateHall_Tape rfl hw (fun q1 M2 bc3 bs4 hw => ?_)
  refine zz_dup C dX1_init_8 (zz_cat _) ?_
  obtain ⟨c9, s9, hc9, hs9, hw⟩ := hw
  refine zz_callI (As := []) (rest := [va_rf (some q1), va_rf this]) C hR rfl dX1_init_9 (Or.inr ⟨_, q150⟩) q151 zl_DebateHall_Tape zk_X2_init rfl zy_X2_init (by decide) (by decide) (ok_X2_init (zz_hl C) hw) hc9 hs9 (zz_cat10 _ (Nat.le_of_ble_eq_true rfl)) (fun r5 M6 hw => zz_kV hw (fun hw => ?_)) (fun _ _ _ h9 => h9.elim) rfl
  refine zz_putF C hin dX1_init_12 q303 zf_0_0_DebateHall zq_0_0 (zz_hn1 (zz_nA _ rfl (some q1))) hw (fun M9 hw => ?_)
  refine zz_aload_n C dX1_init_15 rfl 0 rfl ?_
  refine zz_iconst (v := (-1 : Int32)) C dX1_init_16 (by decide) ?_
  refine zz_put C dX1_init_17 (Or.inl q304) zf_0_1_DebateHall zp_0_1 (zz_hn1 ⟨rfl, rfl⟩) hw (fun M10 hw => ?_)
  refine zz_aload_n C dX1_init_20 rfl 0 rfl ?_
  refine zz_new (r := (zR_2, zT_2, 8)) C dX1_init_21 rfl (by decide) q164 q165 zl_DebateHall_Minutes rfl hw (fun q11 M12 bc13 bs14 hw => ?_)
  refine zz_dup C dX1_init_24 (zz_cat _) ?_
  obtain ⟨c9, s9, hc9, hs9, hw⟩ := hw
  refine zz_callI (As := []) (rest := [va_rf (some q11), va_rf this]) C hR rfl dX1_init_25 (Or.inr ⟨_, q166⟩) q167 zl_DebateHall_Minutes zk_X3_init rfl zy_X3_init (by decide) (by decide) (ok_X3_init (zz_hl C) hw) hc9 hs9 (zz_cat10 _ (Nat.le_of_ble_eq_true rfl)) (fun r15 M16 hw => zz_kV hw (fun hw => ?_)) (fun _ _ _ h9 => h9.elim) rfl
  refine zz_put C dX1_init_28 (Or.inl q305) zf_0_2_DebateHall zp_0_2 (zz_hn1 (zz_nA _ rfl (some q11))) hw (fun M19 hw => ?_)
  refine zz_aload_n C dX1_init_31 rfl 0 rfl ?_
  refine zz_new (r := (zR_20, zT_20, 4)) C dX1_init_32 rfl (by decide) q271 q272 zl_java_lang_StringBuilder rfl hw (fun q20 M21 bc22 bs23 hw => ?_)
  refine zz_dup C dX1_init_35 (zz_cat _) ?_
  obtain ⟨c9, s9, hc9, hs9, hw⟩ := hw
  refine zz_callI (As := []) (rest := [va_rf (some q20), va_rf this]) C hR rfl dX1_init_36 (Or.inl q273) q274 zl_java_lang_StringBuilder zk_J6_init rfl zy_J6_init (by decide) (by decide) (ok_J6_init (zz_hl C) hw) hc9 hs9 (zz_cat10 _ (Nat.le_of_ble_eq_true rfl)) (fun r24 M25 hw => zz_kV hw (fun hw => ?_)) (fun _ _ _ h9 => h9.elim) rfl
  refine zz_putF C hin dX1_init_39 q306 zf_0_3_DebateHall zq_0_3 (zz_hn1 (zz_nA _ rfl (some q20))) hw (fun M28 hw => ?_)
  exact zz_vret C E dX1_init_42 hw
abbrev cX5_init : ByteArray := prog_26_method_1_code
def yX5_init : MethodName := ⟨"DebateHallModel$State", "<init>", "(LDebateHallModel;)V"⟩
def dkwX5_init_3 : List UInt8 := [181, 0, 38, 42, 16, 40, 188, 10, 181, 0, 41, 177]
abbrev dktX5_init_3 : List UInt8 := dkwX5_init_3 ++ []
def dkwX5_init_2 : List UInt8 := [181, 0, 29, 42, 16, 40, 188, 10, 181, 0, 32, 42, 16, 40, 188, 10, 181, 0, 35, 42, 16, 40, 188, 10]
abbrev dktX5_init_2 : List UInt8 := dkwX5_init_2 ++ dktX5_init_3
def dkwX5_init_1 : List UInt8 := [181, 0, 19, 42, 16, 40, 188, 11, 181, 0, 23, 42, 16, 40, 188, 10, 181, 0, 26, 42, 16, 40, 188, 10]
abbrev dktX5_init_1 : List UInt8 := dkwX5_init_1 ++ dktX5_init_2
def dkwX5_init_0 : List UInt8 := [42, 43, 181, 0, 3, 42, 183, 0, 9, 42, 16, 6, 188, 11, 181, 0, 15, 42, 16, 6, 188, 10]
abbrev dktX5_init_0 : List UInt8 := dkwX5_init_0 ++ dktX5_init_1
theorem dksX5_init_0 : cX5_init.data.toList.drop 0 = dktX5_init_0 := by decide +kernel
theorem dksX5_init_1 : cX5_init.data.toList.drop 22 = dktX5_init_1 := dk_seg dksX5_init_0 22 rfl rfl
theorem dksX5_init_2 : cX5_init.data.toList.drop 46 = dktX5_init_2 := dk_seg dksX5_init_1 24 rfl rfl
theorem dksX5_init_3 : cX5_init.data.toList.drop 70 = dktX5_init_3 := dk_seg dksX5_init_2 24 rfl rfl
theorem dX5_init_0 : decode cX5_init 0 = .ok (.aload_n 0, 1) := dk_42 (dk_at dksX5_init_0 0 rfl rfl)
theorem dX5_init_1 : decode cX5_init 1 = .ok (.aload_n 1, 1) := dk_43 (dk_at dksX5_init_0 1 rfl rfl)
theorem dX5_init_2 : decode cX5_init 2 = .ok (.putfield 3, 3) := dk_181 0 3 (dk_at dksX5_init_0 2 rfl rfl)
theorem dX5_init_5 : decode cX5_init 5 = .ok (.aload_n 0, 1) := dk_42 (dk_at dksX5_init_0 5 rfl rfl)
theorem dX5_init_6 : decode cX5_init 6 = .ok (.invokespecial 9, 3) := dk_183 0 9 (dk_at dksX5_init_0 6 rfl rfl)
theorem dX5_init_9 : decode cX5_init 9 = .ok (.aload_n 0, 1) := dk_42 (dk_at dksX5_init_0 9 rfl rfl)
theorem dX5_init_10 : decode cX5_init 10 = .ok (.bipush 6, 2) := dk_16 6 (dk_at dksX5_init_0 10 rfl rfl)
theorem dX5_init_12 : decode cX5_init 12 = .ok (.newarray .long, 2) := dk_188_11 (dk_at dksX5_init_0 12 rfl rfl)
theorem dX5_init_14 : decode cX5_init 14 = .ok (.putfield 15, 3) := dk_181 0 15 (dk_at dksX5_init_0 14 rfl rfl)
theorem dX5_init_17 : decode cX5_init 17 = .ok (.aload_n 0, 1) := dk_42 (dk_at dksX5_init_0 17 rfl rfl)
theorem dX5_init_18 : decode cX5_init 18 = .ok (.bipush 6, 2) := dk_16 6 (dk_at dksX5_init_0 18 rfl rfl)
theorem dX5_init_20 : decode cX5_init 20 = .ok (.newarray .int, 2) := dk_188_10 (dk_at dksX5_init_0 20 rfl rfl)
theorem dX5_init_22 : decode cX5_init 22 = .ok (.putfield 19, 3) := dk_181 0 19 (dk_at dksX5_init_1 0 rfl rfl)
theorem dX5_init_25 : decode cX5_init 25 = .ok (.aload_n 0, 1) := dk_42 (dk_at dksX5_init_1 3 rfl rfl)
theorem dX5_init_26 : decode cX5_init 26 = .ok (.bipush 40, 2) := dk_16 40 (dk_at dksX5_init_1 4 rfl rfl)
theorem dX5_init_28 : decode cX5_init 28 = .ok (.newarray .long, 2) := dk_188_11 (dk_at dksX5_init_1 6 rfl rfl)
theorem dX5_init_30 : decode cX5_init 30 = .ok (.putfield 23, 3) := dk_181 0 23 (dk_at dksX5_init_1 8 rfl rfl)
theorem dX5_init_33 : decode cX5_init 33 = .ok (.aload_n 0, 1) := dk_42 (dk_at dksX5_init_1 11 rfl rfl)
theorem dX5_init_34 : decode cX5_init 34 = .ok (.bipush 40, 2) := dk_16 40 (dk_at dksX5_init_1 12 rfl rfl)
theorem dX5_init_36 : decode cX5_init 36 = .ok (.newarray .int, 2) := dk_188_10 (dk_at dksX5_init_1 14 rfl rfl)
theorem dX5_init_38 : decode cX5_init 38 = .ok (.putfield 26, 3) := dk_181 0 26 (dk_at dksX5_init_1 16 rfl rfl)
theorem dX5_init_41 : decode cX5_init 41 = .ok (.aload_n 0, 1) := dk_42 (dk_at dksX5_init_1 19 rfl rfl)
theorem dX5_init_42 : decode cX5_init 42 = .ok (.bipush 40, 2) := dk_16 40 (dk_at dksX5_init_1 20 rfl rfl)
theorem dX5_init_44 : decode cX5_init 44 = .ok (.newarray .int, 2) := dk_188_10 (dk_at dksX5_init_1 22 rfl rfl)
theorem dX5_init_46 : decode cX5_init 46 = .ok (.putfield 29, 3) := dk_181 0 29 (dk_at dksX5_init_2 0 rfl rfl)
theorem dX5_init_49 : decode cX5_init 49 = .ok (.aload_n 0, 1) := dk_42 (dk_at dksX5_init_2 3 rfl rfl)
theorem dX5_init_50 : decode cX5_init 50 = .ok (.bipush 40, 2) := dk_16 40 (dk_at dksX5_init_2 4 rfl rfl)
theorem dX5_init_52 : decode cX5_init 52 = .ok (.newarray .int, 2) := dk_188_10 (dk_at dksX5_init_2 6 rfl rfl)
theorem dX5_init_54 : decode cX5_init 54 = .ok (.putfield 32, 3) := dk_181 0 32 (dk_at dksX5_init_2 8 rfl rfl)
theorem dX5_init_57 : decode cX5_init 57 = .ok (.aload_n 0, 1) := dk_42 (dk_at dksX5_init_2 11 rfl rfl)
theorem dX5_init_58 : decode cX5_init 58 = .ok (.bipush 40, 2) := dk_16 40 (dk_at dksX5_init_2 12 rfl rfl)
theorem dX5_init_60 : decode cX5_init 60 = .ok (.newarray .int, 2) := dk_188_10 (dk_at dksX5_init_2 14 rfl rfl)
theorem dX5_init_62 : decode cX5_init 62 = .ok (.putfield 35, 3) := dk_181 0 35 (dk_at dksX5_init_2 16 rfl rfl)
theorem dX5_init_65 : decode cX5_init 65 = .ok (.aload_n 0, 1) := dk_42 (dk_at dksX5_init_2 19 rfl rfl)
theorem dX5_init_66 : decode cX5_init 66 = .ok (.bipush 40, 2) := dk_16 40 (dk_at dksX5_init_2 20 rfl rfl)
theorem dX5_init_68 : decode cX5_init 68 = .ok (.newarray .int, 2) := dk_188_10 (dk_at dksX5_init_2 22 rfl rfl)
theorem dX5_init_70 : decode cX5_init 70 = .ok (.putfield 38, 3) := dk_181 0 38 (dk_at dksX5_init_3 0 rfl rfl)
theorem dX5_init_73 : decode cX5_init 73 = .ok (.aload_n 0, 1) := dk_42 (dk_at dksX5_init_3 3 rfl rfl)
theorem dX5_init_74 : decode cX5_init 74 = .ok (.bipush 40, 2) := dk_16 40 (dk_at dksX5_init_3 4 rfl rfl)
theorem dX5_init_76 : decode cX5_init 76 = .ok (.newarray .int, 2) := dk_188_10 (dk_at dksX5_init_3 6 rfl rfl)
theorem dX5_init_78 : decode cX5_init 78 = .ok (.putfield 41, 3) := dk_181 0 41 (dk_at dksX5_init_3 8 rfl rfl)
theorem dX5_init_81 : decode cX5_init 81 = .ok (.return_, 1) := dk_177 (dk_at dksX5_init_3 11 rfl rfl)
theorem zf_17_11_allModel_State : zz_fok [17] 11 "DebateHallModel$State" "this$0" "LDebateHallModel;" := zz_fok1 (zR_17, zT_17, 12) rfl (by decide) rfl rfl (Or.inl rfl)
theorem q2409 : (Jvm.Cond.fieldLink "DebateHallModel$State" (3 : Nat) "DebateHallModel$State" "this$0" "LDebateHallModel;") ∈ lw_all := lw_g (lw_at lw_m10 169 rfl) rfl
theorem zq_17_11 : zz_pokF [17] 11 "DebateHallModel$State" := zz_pokF1 (zR_17, zT_17, 12) (by decide) rfl rfl rfl
theorem q2386 : (Jvm.Cond.methodLink "DebateHallModel$State" (9 : Nat) ({ cls := "java/lang/Object", name := "<init>", desc := "()V" } : Jvm.MethodName)) ∈ lw_all := lw_g (lw_at lw_m10 146 rfl) rfl
theorem zf_17_1_allModel_State : zz_fok [17] 1 "DebateHallModel$State" "speaker" "[J" := zz_fok1 (zR_17, zT_17, 12) rfl (by decide) rfl rfl (Or.inl rfl)
theorem q2389 : (Jvm.Cond.fieldLink "DebateHallModel$State" (15 : Nat) "DebateHallModel$State" "speaker" "[J") ∈ lw_all := lw_g (lw_at lw_m10 149 rfl) rfl
theorem zq_17_1 : zz_pokF [17] 1 "DebateHallModel$State" := zz_pokF1 (zR_17, zT_17, 12) (by decide) rfl rfl rfl
theorem zf_17_2_allModel_State : zz_fok [17] 2 "DebateHallModel$State" "time" "[I" := zz_fok1 (zR_17, zT_17, 12) rfl (by decide) rfl rfl (Or.inl rfl)
theorem q2391 : (Jvm.Cond.fieldLink "DebateHallModel$State" (19 : Nat) "DebateHallModel$State" "time" "[I") ∈ lw_all := lw_g (lw_at lw_m10 151 rfl) rfl
theorem zq_17_2 : zz_pokF [17] 2 "DebateHallModel$State" := zz_pokF1 (zR_17, zT_17, 12) (by decide) rfl rfl rfl
theorem zf_17_4_allModel_State : zz_fok [17] 4 "DebateHallModel$State" "name" "[J" := zz_fok1 (zR_17, zT_17, 12) rfl (by decide) rfl rfl (Or.inl rfl)
theorem q2395 : (Jvm.Cond.fieldLink "DebateHallModel$State" (23 : Nat) "DebateHallModel$State" "name" "[J") ∈ lw_all := lw_g (lw_at lw_m10 155 rfl) rfl
theorem zq_17_4 : zz_pokF [17] 4 "DebateHallModel$State" := zz_pokF1 (zR_17, zT_17, 12) (by decide) rfl rfl rfl
theorem zf_17_5_allModel_State : zz_fok [17] 5 "DebateHallModel$State" "kind" "[I" := zz_fok1 (zR_17, zT_17, 12) rfl (by decide) rfl rfl (Or.inl rfl)
theorem q2397 : (Jvm.Cond.fieldLink "DebateHallModel$State" (26 : Nat) "DebateHallModel$State" "kind" "[I") ∈ lw_all := lw_g (lw_at lw_m10 157 rfl) rfl
theorem zq_17_5 : zz_pokF [17] 5 "DebateHallModel$State" := zz_pokF1 (zR_17, zT_17, 12) (by decide) rfl rfl rfl
theorem zf_17_6_allModel_State : zz_fok [17] 6 "DebateHallModel$State" "by" "[I" := zz_fok1 (zR_17, zT_17, 12) rfl (by decide) rfl rfl (Or.inl rfl)
theorem q2399 : (Jvm.Cond.fieldLink "DebateHallModel$State" (29 : Nat) "DebateHallModel$State" "by" "[I") ∈ lw_all := lw_g (lw_at lw_m10 159 rfl) rfl
theorem zq_17_6 : zz_pokF [17] 6 "DebateHallModel$State" := zz_pokF1 (zR_17, zT_17, 12) (by decide) rfl rfl rfl
theorem zf_17_7_allModel_State : zz_fok [17] 7 "DebateHallModel$State" "size" "[I" := zz_fok1 (zR_17, zT_17, 12) rfl (by decide) rfl rfl (Or.inl rfl)
theorem q2401 : (Jvm.Cond.fieldLink "DebateHallModel$State" (32 : Nat) "DebateHallModel$State" "size" "[I") ∈ lw_all := lw_g (lw_at lw_m10 161 rfl) rfl
theorem zq_17_7 : zz_pokF [17] 7 "DebateHallModel$State" := zz_pokF1 (zR_17, zT_17, 12) (by decide) rfl rfl rfl
theorem zf_17_8_allModel_State : zz_fok [17] 8 "DebateHallModel$State" "source" "[I" := zz_fok1 (zR_17, zT_17, 12) rfl (by decide) rfl rfl (Or.inl rfl)
theorem q2403 : (Jvm.Cond.fieldLink "DebateHallModel$State" (35 : Nat) "DebateHallModel$State" "source" "[I") ∈ lw_all := lw_g (lw_at lw_m10 163 rfl) rfl
theorem zq_17_8 : zz_pokF [17] 8 "DebateHallModel$State" := zz_pokF1 (zR_17, zT_17, 12) (by decide) rfl rfl rfl
theorem zf_17_9_allModel_State : zz_fok [17] 9 "DebateHallModel$State" "target" "[I" := zz_fok1 (zR_17, zT_17, 12) rfl (by decide) rfl rfl (Or.inl rfl)
theorem q2405 : (Jvm.Cond.fieldLink "DebateHallModel$State" (38 : Nat) "DebateHallModel$State" "target" "[I") ∈ lw_all := lw_g (lw_at lw_m10 165 rfl) rfl
theorem zq_17_9 : zz_pokF [17] 9 "DebateHallModel$State" := zz_pokF1 (zR_17, zT_17, 12) (by decide) rfl rfl rfl
theorem zf_17_10_allModel_State : zz_fok [17] 10 "DebateHallModel$State" "conceded" "[I" := zz_fok1 (zR_17, zT_17, 12) rfl (by decide) rfl rfl (Or.inl rfl)
theorem q2407 : (Jvm.Cond.fieldLink "DebateHallModel$State" (41 : Nat) "DebateHallModel$State" "conceded" "[I") ∈ lw_all := lw_g (lw_at lw_m10 167 rfl) rfl
theorem zq_17_10 : zz_pokF [17] 10 "DebateHallModel$State" := zz_pokF1 (zR_17, zT_17, 12) (by decide) rfl rfl rfl
def wp_X5_init (Z : zzG) (this : Option Nat) (p0 : Option Nat) (M : zzM) (bc bs : Nat) (K : Option Value → zzM → Prop) : Prop := zput Z M this [17] 11 (va_rf p0) fun M1 => zty Z M1 this fun _ => znar Z M1 bc bs 102 (6 : Int32) (.long 0) fun q2 M3 bc4 bs5 => zput Z M3 this [17] 1 (va_rf (some q2)) fun M6 => znar Z M6 bc4 bs5 100 (6 : Int32) (.int 0) fun q7 M8 bc9 bs10 => zput Z M8 this [17] 2 (va_rf (some q7)) fun M11 => znar Z M11 bc9 bs10 102 (40 : Int32) (.long 0) fun q12 M13 bc14 bs15 => zput Z M13 this [17] 4 (va_rf (some q12)) fun M16 => znar Z M16 bc14 bs15 100 (40 : Int32) (.int 0) fun q17 M18 bc19 bs20 => zput Z M18 this [17] 5 (va_rf (some q17)) fun M21 => znar Z M21 bc19 bs20 100 (40 : Int32) (.int 0) fun q22 M23 bc24 bs25 => zput Z M23 this [17] 6 (va_rf (some q22)) fun M26 => znar Z M26 bc24 bs25 100 (40 : Int32) (.int 0) fun q27 M28 bc29 bs30 => zput Z M28 this [17] 7 (va_rf (some q27)) fun M31 => znar Z M31 bc29 bs30 100 (40 : Int32) (.int 0) fun q32 M33 bc34 bs35 => zput Z M33 this [17] 8 (va_rf (some q32)) fun M36 => znar Z M36 bc34 bs35 100 (40 : Int32) (.int 0) fun q37 M38 bc39 bs40 => zput Z M38 this [17] 9 (va_rf (some q37)) fun M41 => znar Z M41 bc39 bs40 100 (40 : Int32) (.int 0) fun q42 M43 bc44 bs45 => zput Z M43 this [17] 10 (va_rf (some q42)) fun M46 => K none M46
theorem ok_X5_init {Z : zzG} {l : Launch} (hl : l.stackTraces = false) {this : Option Nat} {p0 : Option Nat} {M : zzM} {mc ms : Nat} {K : Option Value → zzM → Prop} (hw : wp_X5_init Z this p0 M mc ms K) : zz_Met Z l yX5_init (zz_ws yX5_init cX5_init 2 none none) 2 [va_rf this, va_rf p0] M mc ms K (fun _ _ _ => False) := by
  refine zz_ofW hl (plainFor_of_name (by decide)) (by simp only [zz_sl0, zz_slI, zz_slJ, zz_slA] <;> decide) (fun G hZ hll C E hH hR hin => ?_)
  subst hZ
  subst hll
  rw [show lv_args 0 [va_rf this, va_rf p0] = [(0, va_rf this), (1, va_rf p0)] by simp only [zz_la0, zz_laI, zz_laJ, zz_laA]]
  unfold wp_X5_init at hw
  refine zz_aload_n C dX5_init_0 rfl 0 rfl ?_
  refine zz_aload_n C dX5_init_1 rfl 1 rfl ?_
  refine zz_putF C hin dX5_init_2 q2409 zf_17_11_allModel_State zq_17_11 (zz_hn1 (zz_nA _ rfl p0)) hw (fun M1 hw => ?_)
  refine zz_aload_n C dX5_init_5 rfl 0 rfl ?_
  obtain ⟨a9, t9, b9, fs9, hro, hL, hw⟩ := ztyS hw
  refine zz_objInit9 C hR (by decide) hro dX5_init_6 q2386 q146 q147 (zz_cat10 _ (Nat.le_of_ble_eq_true rfl)) ?_
  refine zz_aload_n C dX5_init_9 rfl 0 rfl ?_
  refine zz_bipush (v := (6 : Int32)) C dX5_init_10 (by decide) ?_
  refine zz_newar (t := 102) (ty := .long) C dX5_init_12 rfl rfl (by decide) (fun _ _ h9 => h9) rfl q2435 hw (fun q2 M3 bc4 bs5 hw => ?_)
  refine zz_putF C hin dX5_init_14 q2389 zf_17_1_allModel_State zq_17_1 (zz_hn1 (zz_nA _ rfl (some q2))) hw (fun M6 hw => ?_)
  refine zz_aload_n C dX5_init_17 rfl 0 rfl ?_
  refine zz_bipush (v := (6 : Int32)) C dX5_init_18 (by decide) ?_
  refine zz_newar (t := 100) (ty := .int) C dX5_init_20 rfl rfl (by decide) (fun _ _ h9 => h9) rfl q270 hw (fun q7 M8 bc9 bs10 hw => ?_)
  refine zz_putF C hin dX5_init_22 q2391 zf_17_2_allModel_State zq_17_2 (zz_hn1 (zz_nA _ rfl (some q7))) hw (fun M11 hw => ?_)
  refine zz_aload_n C dX5_init_25 rfl 0 rfl ?_
  refine zz_bipush (v := (40 : Int32)) C dX5_init_26 (by decide) ?_
  refine zz_newar (t := 102) (ty := .long) C dX5_init_28 rfl rfl (by decide) (fun _ _ h9 => h9) rfl q2435 hw (fun q12 M13 bc14 bs15 hw => ?_)
  refine zz_putF C hin dX5_init_30 q2395 zf_17_4_allModel_State zq_17_4 (zz_hn1 (zz_nA _ rfl (some q12))) hw (fun M16 hw => ?_)
  refine zz_aload_n C dX5_init_33 rfl 0 rfl ?_
  refine zz_bipush (v := (40 : Int32)) C dX5_init_34 (by decide) ?_
  refine zz_newar (t := 100) (ty := .int) C dX5_init_36 rfl rfl (by decide) (fun _ _ h9 => h9) rfl q270 hw (fun q17 M18 bc19 bs20 hw => ?_)
  refine zz_putF C hin dX5_init_38 q2397 zf_17_5_allModel_State zq_17_5 (zz_hn1 (zz_nA _ rfl (some q17))) hw (fun M21 hw => ?_)
  refine zz_aload_n C dX5_init_41 rfl 0 rfl ?_
  refine zz_bipush (v := (40 : Int32)) C dX5_init_42 (by decide) ?_
  refine zz_newar (t := 100) (ty := .int) C dX5_init_44 rfl rfl (by decide) (fun _ _ h9 => h9) rfl q270 hw (fun q22 M23 bc24 bs25 hw => ?_)
  refine zz_putF C hin dX5_init_46 q2399 zf_17_6_allModel_State zq_17_6 (zz_hn1 (zz_nA _ rfl (some q22))) hw (fun M26 hw => ?_)
  refine zz_aload_n C dX5_init_49 rfl 0 rfl ?_
  refine zz_bipush (v := (40 : Int32)) C dX5_init_50 (by decide) ?_
  refine zz_newar (t := 100) (ty := .int) C dX5_init_52 rfl rfl (by decide) (fun _ _ h9 => h9) rfl q270 hw (fun q27 M28 bc29 bs30 hw => ?_)
  refine zz_putF C hin dX5_init_54 q2401 zf_17_7_allModel_State zq_17_7 (zz_hn1 (zz_nA _ rfl (some q27))) hw (fun M31 hw => ?_)
  refine zz_aload_n C dX5_init_57 rfl 0 rfl ?_
  refine zz_bipush (v := (40 : Int32)) C dX5_init_58 (by decide) ?_
  refine zz_newar (t := 100) (ty := .int) C dX5_init_60 rfl rfl (by decide) (fun _ _ h9 => h9) rfl q270 hw (fun q32 M33 bc34 bs35 hw => ?_)
  refine zz_putF C hin dX5_init_62 q2403 zf_17_8_allModel_State zq_17_8 (zz_hn1 (zz_nA _ rfl (some q32))) hw (fun M36 hw => ?_)
  refine zz_aload_n C dX5_init_65 rfl 0 rfl ?_
  refine zz_bipush (v := (40 : Int32)) C dX5_init_66 (by decide) ?_
  refine zz_newar (t := 100) (ty := .int) C dX5_init_68 rfl rfl (by decide) (fun _ _ h9 => h9) rfl q270 hw (fun q37 M38 bc39 bs40 hw => ?_)
  refine zz_putF C hin dX5_init_70 q2405 zf_17_9_allModel_State zq_17_9 (zz_hn1 (zz_nA _ rfl (some q37))) hw (fun M41 hw => ?_)
  refine zz_aload_n C dX5_init_73 rfl 0 rfl ?_
  refine zz_bipush (v := (40 : Int32)) C dX5_init_74 (by decide) ?_
  refine zz_newar (t := 100) (ty := .int) C dX5_init_76 rfl rfl (by decide) (fun _ _ h9 => h9) rfl q270 hw (fun q42 M43 bc44 bs45 hw => ?_)
  refine zz_putF C hin dX5_init_78 q2407 zf_17_10_allModel_State zq_17_10 (zz_hn1 (zz_nA _ rfl (some q42))) hw (fun M46 hw => ?_)
  exact zz_vret C E dX5_init_81 hw
abbrev cX4_init : ByteArray := prog_25_method_3_code
def yX4_init : MethodName := ⟨"DebateHallModel", "<init>", "()V"⟩
def dkwX4_init_6 : List UInt8 := [42, 16, 40, 188, 10, 181, 0, 82, 177]
abbrev dktX4_init_6 : List UInt8 := dkwX4_init_6 ++ []
def dkwX4_init_5 : List UInt8 := [181, 0, 70, 42, 2, 181, 0, 73, 42, 16, 40, 188, 10, 181, 0, 76, 42, 16, 40, 188, 10, 181, 0, 79]
abbrev dktX4_init_5 : List UInt8 := dkwX4_init_5 ++ dktX4_init_6
def dkwX4_init_4 : List UInt8 := [42, 16, 40, 188, 10, 181, 0, 61, 42, 16, 40, 188, 10, 181, 0, 64, 42, 2, 181, 0, 67, 42, 2]
abbrev dktX4_init_4 : List UInt8 := dkwX4_init_4 ++ dktX4_init_5
def dkwX4_init_3 : List UInt8 := [89, 42, 183, 0, 45, 181, 0, 52, 42, 16, 40, 188, 10, 181, 0, 55, 42, 16, 40, 188, 10, 181, 0, 58]
abbrev dktX4_init_3 : List UInt8 := dkwX4_init_3 ++ dktX4_init_4
def dkwX4_init_2 : List UInt8 := [17, 1, 146, 188, 11, 181, 0, 40, 42, 187, 0, 43, 89, 42, 183, 0, 45, 181, 0, 48, 42, 187, 0, 43]
abbrev dktX4_init_2 : List UInt8 := dkwX4_init_2 ++ dktX4_init_3
def dkwX4_init_1 : List UInt8 := [181, 0, 31, 42, 17, 1, 146, 188, 10, 181, 0, 34, 42, 17, 1, 146, 188, 10, 181, 0, 37, 42]
abbrev dktX4_init_1 : List UInt8 := dkwX4_init_1 ++ dktX4_init_2
def dkwX4_init_0 : List UInt8 := [42, 183, 0, 17, 42, 2, 181, 0, 23, 42, 17, 7, 208, 188, 10, 181, 0, 27, 42, 17, 5, 0, 188, 10]
abbrev dktX4_init_0 : List UInt8 := dkwX4_init_0 ++ dktX4_init_1
theorem dksX4_init_0 : cX4_init.data.toList.drop 0 = dktX4_init_0 := by decide +kernel
theorem dksX4_init_1 : cX4_init.data.toList.drop 24 = dktX4_init_1 := dk_seg dksX4_init_0 24 rfl rfl
theorem dksX4_init_2 : cX4_init.data.toList.drop 46 = dktX4_init_2 := dk_seg dksX4_init_1 22 rfl rfl
theorem dksX4_init_3 : cX4_init.data.toList.drop 70 = dktX4_init_3 := dk_seg dksX4_init_2 24 rfl rfl
theorem dksX4_init_4 : cX4_init.data.toList.drop 94 = dktX4_init_4 := dk_seg dksX4_init_3 24 rfl rfl
theorem dksX4_init_5 : cX4_init.data.toList.drop 117 = dktX4_init_5 := dk_seg dksX4_init_4 23 rfl rfl
theorem dksX4_init_6 : cX4_init.data.toList.drop 141 = dktX4_init_6 := dk_seg dksX4_init_5 24 rfl rfl
theorem dX4_init_0 : decode cX4_init 0 = .ok (.aload_n 0, 1) := dk_42 (dk_at dksX4_init_0 0 rfl rfl)
theorem dX4_init_1 : decode cX4_init 1 = .ok (.invokespecial 17, 3) := dk_183 0 17 (dk_at dksX4_init_0 1 rfl rfl)
theorem dX4_init_4 : decode cX4_init 4 = .ok (.aload_n 0, 1) := dk_42 (dk_at dksX4_init_0 4 rfl rfl)
theorem dX4_init_5 : decode cX4_init 5 = .ok (.iconst (-1), 1) := dk_2 (dk_at dksX4_init_0 5 rfl rfl)
theorem dX4_init_6 : decode cX4_init 6 = .ok (.putfield 23, 3) := dk_181 0 23 (dk_at dksX4_init_0 6 rfl rfl)
theorem dX4_init_9 : decode cX4_init 9 = .ok (.aload_n 0, 1) := dk_42 (dk_at dksX4_init_0 9 rfl rfl)
theorem dX4_init_10 : decode cX4_init 10 = .ok (.sipush 2000, 3) := dk_17 7 208 (dk_at dksX4_init_0 10 rfl rfl)
theorem dX4_init_13 : decode cX4_init 13 = .ok (.newarray .int, 2) := dk_188_10 (dk_at dksX4_init_0 13 rfl rfl)
theorem dX4_init_15 : decode cX4_init 15 = .ok (.putfield 27, 3) := dk_181 0 27 (dk_at dksX4_init_0 15 rfl rfl)
theorem dX4_init_18 : decode cX4_init 18 = .ok (.aload_n 0, 1) := dk_42 (dk_at dksX4_init_0 18 rfl rfl)
theorem dX4_init_19 : decode cX4_init 19 = .ok (.sipush 1280, 3) := dk_17 5 0 (dk_at dksX4_init_0 19 rfl rfl)
theorem dX4_init_22 : decode cX4_init 22 = .ok (.newarray .int, 2) := dk_188_10 (dk_at dksX4_init_0 22 rfl rfl)
theorem dX4_init_24 : decode cX4_init 24 = .ok (.putfield 31, 3) := dk_181 0 31 (dk_at dksX4_init_1 0 rfl rfl)
theorem dX4_init_27 : decode cX4_init 27 = .ok (.aload_n 0, 1) := dk_42 (dk_at dksX4_init_1 3 rfl rfl)
theorem dX4_init_28 : decode cX4_init 28 = .ok (.sipush 402, 3) := dk_17 1 146 (dk_at dksX4_init_1 4 rfl rfl)
theorem dX4_init_31 : decode cX4_init 31 = .ok (.newarray .int, 2) := dk_188_10 (dk_at dksX4_init_1 7 rfl rfl)
theorem dX4_init_33 : decode cX4_init 33 = .ok (.putfield 34, 3) := dk_181 0 34 (dk_at dksX4_init_1 9 rfl rfl)
theorem dX4_init_36 : decode cX4_init 36 = .ok (.aload_n 0, 1) := dk_42 (dk_at dksX4_init_1 12 rfl rfl)
theorem dX4_init_37 : decode cX4_init 37 = .ok (.sipush 402, 3) := dk_17 1 146 (dk_at dksX4_init_1 13 rfl rfl)
theorem dX4_init_40 : decode cX4_init 40 = .ok (.newarray .int, 2) := dk_188_10 (dk_at dksX4_init_1 16 rfl rfl)
theorem dX4_init_42 : decode cX4_init 42 = .ok (.putfield 37, 3) := dk_181 0 37 (dk_at dksX4_init_1 18 rfl rfl)
theorem dX4_init_45 : decode cX4_init 45 = .ok (.aload_n 0, 1) := dk_42 (dk_at dksX4_init_1 21 rfl rfl)
theorem dX4_init_46 : decode cX4_init 46 = .ok (.sipush 402, 3) := dk_17 1 146 (dk_at dksX4_init_2 0 rfl rfl)
theorem dX4_init_49 : decode cX4_init 49 = .ok (.newarray .long, 2) := dk_188_11 (dk_at dksX4_init_2 3 rfl rfl)
theorem dX4_init_51 : decode cX4_init 51 = .ok (.putfield 40, 3) := dk_181 0 40 (dk_at dksX4_init_2 5 rfl rfl)
theorem dX4_init_54 : decode cX4_init 54 = .ok (.aload_n 0, 1) := dk_42 (dk_at dksX4_init_2 8 rfl rfl)
theorem dX4_init_55 : decode cX4_init 55 = .ok (.new 43, 3) := dk_187 0 43 (dk_at dksX4_init_2 9 rfl rfl)
theorem dX4_init_58 : decode cX4_init 58 = .ok (.dup, 1) := dk_89 (dk_at dksX4_init_2 12 rfl rfl)
theorem dX4_init_59 : decode cX4_init 59 = .ok (.aload_n 0, 1) := dk_42 (dk_at dksX4_init_2 13 rfl rfl)
theorem dX4_init_60 : decode cX4_init 60 = .ok (.invokespecial 45, 3) := dk_183 0 45 (dk_at dksX4_init_2 14 rfl rfl)
theorem dX4_init_63 : decode cX4_init 63 = .ok (.putfield 48, 3) := dk_181 0 48 (dk_at dksX4_init_2 17 rfl rfl)
theorem dX4_init_66 : decode cX4_init 66 = .ok (.aload_n 0, 1) := dk_42 (dk_at dksX4_init_2 20 rfl rfl)
theorem dX4_init_67 : decode cX4_init 67 = .ok (.new 43, 3) := dk_187 0 43 (dk_at dksX4_init_2 21 rfl rfl)
theorem dX4_init_70 : decode cX4_init 70 = .ok (.dup, 1) := dk_89 (dk_at dksX4_init_3 0 rfl rfl)
theorem dX4_init_71 : decode cX4_init 71 = .ok (.aload_n 0, 1) := dk_42 (dk_at dksX4_init_3 1 rfl rfl)
theorem dX4_init_72 : decode cX4_init 72 = .ok (.invokespecial 45, 3) := dk_183 0 45 (dk_at dksX4_init_3 2 rfl rfl)
theorem dX4_init_75 : decode cX4_init 75 = .ok (.putfield 52, 3) := dk_181 0 52 (dk_at dksX4_init_3 5 rfl rfl)
theorem dX4_init_78 : decode cX4_init 78 = .ok (.aload_n 0, 1) := dk_42 (dk_at dksX4_init_3 8 rfl rfl)
theorem dX4_init_79 : decode cX4_init 79 = .ok (.bipush 40, 2) := dk_16 40 (dk_at dksX4_init_3 9 rfl rfl)
theorem dX4_init_81 : decode cX4_init 81 = .ok (.newarray .int, 2) := dk_188_10 (dk_at dksX4_init_3 11 rfl rfl)
theorem dX4_init_83 : decode cX4_init 83 = .ok (.putfield 55, 3) := dk_181 0 55 (dk_at dksX4_init_3 13 rfl rfl)
theorem dX4_init_86 : decode cX4_init 86 = .ok (.aload_n 0, 1) := dk_42 (dk_at dksX4_init_3 16 rfl rfl)
theorem dX4_init_87 : decode cX4_init 87 = .ok (.bipush 40, 2) := dk_16 40 (dk_at dksX4_init_3 17 rfl rfl)
theorem dX4_init_89 : decode cX4_init 89 = .ok (.newarray .int, 2) := dk_188_10 (dk_at dksX4_init_3 19 rfl rfl)
theorem dX4_init_91 : decode cX4_init 91 = .ok (.putfield 58, 3) := dk_181 0 58 (dk_at dksX4_init_3 21 rfl rfl)
theorem dX4_init_94 : decode cX4_init 94 = .ok (.aload_n 0, 1) := dk_42 (dk_at dksX4_init_4 0 rfl rfl)
theorem dX4_init_95 : decode cX4_init 95 = .ok (.bipush 40, 2) := dk_16 40 (dk_at dksX4_init_4 1 rfl rfl)
theorem dX4_init_97 : decode cX4_init 97 = .ok (.newarray .int, 2) := dk_188_10 (dk_at dksX4_init_4 3 rfl rfl)
theorem dX4_init_99 : decode cX4_init 99 = .ok (.putfield 61, 3) := dk_181 0 61 (dk_at dksX4_init_4 5 rfl rfl)
theorem dX4_init_102 : decode cX4_init 102 = .ok (.aload_n 0, 1) := dk_42 (dk_at dksX4_init_4 8 rfl rfl)
theorem dX4_init_103 : decode cX4_init 103 = .ok (.bipush 40, 2) := dk_16 40 (dk_at dksX4_init_4 9 rfl rfl)
theorem dX4_init_105 : decode cX4_init 105 = .ok (.newarray .int, 2) := dk_188_10 (dk_at dksX4_init_4 11 rfl rfl)
theorem dX4_init_107 : decode cX4_init 107 = .ok (.putfield 64, 3) := dk_181 0 64 (dk_at dksX4_init_4 13 rfl rfl)
theorem dX4_init_110 : decode cX4_init 110 = .ok (.aload_n 0, 1) := dk_42 (dk_at dksX4_init_4 16 rfl rfl)
theorem dX4_init_111 : decode cX4_init 111 = .ok (.iconst (-1), 1) := dk_2 (dk_at dksX4_init_4 17 rfl rfl)
theorem dX4_init_112 : decode cX4_init 112 = .ok (.putfield 67, 3) := dk_181 0 67 (dk_at dksX4_init_4 18 rfl rfl)
theorem dX4_init_115 : decode cX4_init 115 = .ok (.aload_n 0, 1) := dk_42 (dk_at dksX4_init_4 21 rfl rfl)
theorem dX4_init_116 : decode cX4_init 116 = .ok (.iconst (-1), 1) := dk_2 (dk_at dksX4_init_4 22 rfl rfl)
theorem dX4_init_117 : decode cX4_init 117 = .ok (.putfield 70, 3) := dk_181 0 70 (dk_at dksX4_init_5 0 rfl rfl)
theorem dX4_init_120 : decode cX4_init 120 = .ok (.aload_n 0, 1) := dk_42 (dk_at dksX4_init_5 3 rfl rfl)
theorem dX4_init_121 : decode cX4_init 121 = .ok (.iconst (-1), 1) := dk_2 (dk_at dksX4_init_5 4 rfl rfl)
theorem dX4_init_122 : decode cX4_init 122 = .ok (.putfield 73, 3) := dk_181 0 73 (dk_at dksX4_init_5 5 rfl rfl)
theorem dX4_init_125 : decode cX4_init 125 = .ok (.aload_n 0, 1) := dk_42 (dk_at dksX4_init_5 8 rfl rfl)
theorem dX4_init_126 : decode cX4_init 126 = .ok (.bipush 40, 2) := dk_16 40 (dk_at dksX4_init_5 9 rfl rfl)
theorem dX4_init_128 : decode cX4_init 128 = .ok (.newarray .int, 2) := dk_188_10 (dk_at dksX4_init_5 11 rfl rfl)
theorem dX4_init_130 : decode cX4_init 130 = .ok (.putfield 76, 3) := dk_181 0 76 (dk_at dksX4_init_5 13 rfl rfl)
theorem dX4_init_133 : decode cX4_init 133 = .ok (.aload_n 0, 1) := dk_42 (dk_at dksX4_init_5 16 rfl rfl)
theorem dX4_init_134 : decode cX4_init 134 = .ok (.bipush 40, 2) := dk_16 40 (dk_at dksX4_init_5 17 rfl rfl)
theorem dX4_init_136 : decode cX4_init 136 = .ok (.newarray .int, 2) := dk_188_10 (dk_at dksX4_init_5 19 rfl rfl)
theorem dX4_init_138 : decode cX4_init 138 = .ok (.putfield 79, 3) := dk_181 0 79 (dk_at dksX4_init_5 21 rfl rfl)
theorem dX4_init_141 : decode cX4_init 141 = .ok (.aload_n 0, 1) := dk_42 (dk_at dksX4_init_6 0 rfl rfl)
theorem dX4_init_142 : decode cX4_init 142 = .ok (.bipush 40, 2) := dk_16 40 (dk_at dksX4_init_6 1 rfl rfl)
theorem dX4_init_144 : decode cX4_init 144 = .ok (.newarray .int, 2) := dk_188_10 (dk_at dksX4_init_6 3 rfl rfl)
theorem dX4_init_146 : decode cX4_init 146 = .ok (.putfield 82, 3) := dk_181 0 82 (dk_at dksX4_init_6 5 rfl rfl)
theorem dX4_init_149 : decode cX4_init 149 = .ok (.return_, 1) := dk_177 (dk_at dksX4_init_6 8 rfl rfl)
theorem q2380 : (Jvm.Cond.methodLink "DebateHallModel" (17 : Nat) ({ cls := "java/lang/Object", name := "<init>", desc := "()V" } : Jvm.MethodName)) ∈ lw_all := lw_g (lw_at lw_m10 140 rfl) rfl
theorem zf_16_1_ebateHallModel : zz_fok [16] 1 "DebateHallModel" "errorAt" "I" := zz_fok1 (zR_16, zT_16, 24) rfl (by decide) rfl rfl (Or.inl rfl)
theorem q2437 : (Jvm.Cond.fieldLink "DebateHallModel" (23 : Nat) "DebateHallModel" "errorAt" "I") ∈ lw_all := lw_g (lw_at lw_m10 197 rfl) rfl
theorem zp_16_1 : zz_pok [16] 1 := zz_pok1 (zR_16, zT_16, 24) (by decide) rfl rfl
theorem zf_16_3_ebateHallModel : zz_fok [16] 3 "DebateHallModel" "tape" "[I" := zz_fok1 (zR_16, zT_16, 24) rfl (by decide) rfl rfl (Or.inl rfl)
theorem q2439 : (Jvm.Cond.fieldLink "DebateHallModel" (27 : Nat) "DebateHallModel" "tape" "[I") ∈ lw_all := lw_g (lw_at lw_m10 199 rfl) rfl
theorem zq_16_3 : zz_pokF [16] 3 "DebateHallModel" := zz_pokF1 (zR_16, zT_16, 24) (by decide) rfl rfl rfl
theorem zf_16_5_ebateHallModel : zz_fok [16] 5 "DebateHallModel" "paper" "[I" := zz_fok1 (zR_16, zT_16, 24) rfl (by decide) rfl rfl (Or.inl rfl)
theorem q2441 : (Jvm.Cond.fieldLink "DebateHallModel" (31 : Nat) "DebateHallModel" "paper" "[I") ∈ lw_all := lw_g (lw_at lw_m10 201 rfl) rfl
theorem zq_16_5 : zz_pokF [16] 5 "DebateHallModel" := zz_pokF1 (zR_16, zT_16, 24) (by decide) rfl rfl rfl
theorem zf_16_7_ebateHallModel : zz_fok [16] 7 "DebateHallModel" "sort" "[I" := zz_fok1 (zR_16, zT_16, 24) rfl (by decide) rfl rfl (Or.inl rfl)
theorem q2443 : (Jvm.Cond.fieldLink "DebateHallModel" (34 : Nat) "DebateHallModel" "sort" "[I") ∈ lw_all := lw_g (lw_at lw_m10 203 rfl) rfl
theorem zq_16_7 : zz_pokF [16] 7 "DebateHallModel" := zz_pokF1 (zR_16, zT_16, 24) (by decide) rfl rfl rfl
theorem zf_16_8_ebateHallModel : zz_fok [16] 8 "DebateHallModel" "place" "[I" := zz_fok1 (zR_16, zT_16, 24) rfl (by decide) rfl rfl (Or.inl rfl)
theorem q2444 : (Jvm.Cond.fieldLink "DebateHallModel" (37 : Nat) "DebateHallModel" "place" "[I") ∈ lw_all := lw_g (lw_at lw_m10 204 rfl) rfl
theorem zq_16_8 : zz_pokF [16] 8 "DebateHallModel" := zz_pokF1 (zR_16, zT_16, 24) (by decide) rfl rfl rfl
theorem zf_16_9_ebateHallModel : zz_fok [16] 9 "DebateHallModel" "value" "[J" := zz_fok1 (zR_16, zT_16, 24) rfl (by decide) rfl rfl (Or.inl rfl)
theorem q2445 : (Jvm.Cond.fieldLink "DebateHallModel" (40 : Nat) "DebateHallModel" "value" "[J") ∈ lw_all := lw_g (lw_at lw_m10 205 rfl) rfl
theorem zq_16_9 : zz_pokF [16] 9 "DebateHallModel" := zz_pokF1 (zR_16, zT_16, 24) (by decide) rfl rfl rfl
theorem q2381 : (Jvm.Cond.classLink "DebateHallModel" (43 : Nat) "DebateHallModel$State") ∈ lw_all := lw_g (lw_at lw_m10 141 rfl) rfl
theorem q94 : (Jvm.Cond.initialized "DebateHallModel$State") ∈ lw_all := lw_g (lw_at lw_m1 14 rfl) rfl
theorem zl_DebateHallModel_State : Cond.initialized "DebateHallModel$State" ∈ lw_all := q94
theorem q2385 : (Jvm.Cond.code ({ cls := "DebateHallModel$State", name := "<init>", desc := "(LDebateHallModel;)V" } : Jvm.MethodName) prog_26_method_1_code (2 : Nat) (Option.none : Option Jvm.ClassFile.FieldType)) ∈ lw_all := lw_g (lw_at lw_m10 145 rfl) rfl
theorem zk_X5_init : zz_cd yX5_init cX5_init 2 none none ∈ lw_all := q2385
theorem zy_X5_init : zz_yok yX5_init 1 = true := by decide +kernel
theorem zf_16_11_ebateHallModel : zz_fok [16] 11 "DebateHallModel" "s" "LDebateHallModel$State;" := zz_fok1 (zR_16, zT_16, 24) rfl (by decide) rfl rfl (Or.inl rfl)
theorem q2447 : (Jvm.Cond.fieldLink "DebateHallModel" (48 : Nat) "DebateHallModel" "s" "LDebateHallModel$State;") ∈ lw_all := lw_g (lw_at lw_m10 207 rfl) rfl
theorem zq_16_11 : zz_pokF [16] 11 "DebateHallModel" := zz_pokF1 (zR_16, zT_16, 24) (by decide) rfl rfl rfl
theorem zf_16_12_ebateHallModel : zz_fok [16] 12 "DebateHallModel" "kept" "LDebateHallModel$State;" := zz_fok1 (zR_16, zT_16, 24) rfl (by decide) rfl rfl (Or.inl rfl)
theorem q2448 : (Jvm.Cond.fieldLink "DebateHallModel" (52 : Nat) "DebateHallModel" "kept" "LDebateHallModel$State;") ∈ lw_all := lw_g (lw_at lw_m10 208 rfl) rfl
theorem zq_16_12 : zz_pokF [16] 12 "DebateHallModel" := zz_pokF1 (zR_16, zT_16, 24) (by decide) rfl rfl rfl
theorem zf_16_13_ebateHallModel : zz_fok [16] 13 "DebateHallModel" "how" "[I" := zz_fok1 (zR_16, zT_16, 24) rfl (by decide) rfl rfl (Or.inl rfl)
theorem q2449 : (Jvm.Cond.fieldLink "DebateHallModel" (55 : Nat) "DebateHallModel" "how" "[I") ∈ lw_all := lw_g (lw_at lw_m10 209 rfl) rfl
theorem zq_16_13 : zz_pokF [16] 13 "DebateHallModel" := zz_pokF1 (zR_16, zT_16, 24) (by decide) rfl rfl rfl
theorem zf_16_14_ebateHallModel : zz_fok [16] 14 "DebateHallModel" "round" "[I" := zz_fok1 (zR_16, zT_16, 24) rfl (by decide) rfl rfl (Or.inl rfl)
theorem q2450 : (Jvm.Cond.fieldLink "DebateHallModel" (58 : Nat) "DebateHallModel" "round" "[I") ∈ lw_all := lw_g (lw_at lw_m10 210 rfl) rfl
theorem zq_16_14 : zz_pokF [16] 14 "DebateHallModel" := zz_pokF1 (zR_16, zT_16, 24) (by decide) rfl rfl rfl
theorem zf_16_16_ebateHallModel : zz_fok [16] 16 "DebateHallModel" "then" "[I" := zz_fok1 (zR_16, zT_16, 24) rfl (by decide) rfl rfl (Or.inl rfl)
theorem q2452 : (Jvm.Cond.fieldLink "DebateHallModel" (61 : Nat) "DebateHallModel" "then" "[I") ∈ lw_all := lw_g (lw_at lw_m10 212 rfl) rfl
theorem zq_16_16 : zz_pokF [16] 16 "DebateHallModel" := zz_pokF1 (zR_16, zT_16, 24) (by decide) rfl rfl rfl
theorem zf_16_17_ebateHallModel : zz_fok [16] 17 "DebateHallModel" "thenRound" "[I" := zz_fok1 (zR_16, zT_16, 24) rfl (by decide) rfl rfl (Or.inl rfl)
theorem q2453 : (Jvm.Cond.fieldLink "DebateHallModel" (64 : Nat) "DebateHallModel" "thenRound" "[I") ∈ lw_all := lw_g (lw_at lw_m10 213 rfl) rfl
theorem zq_16_17 : zz_pokF [16] 17 "DebateHallModel" := zz_pokF1 (zR_16, zT_16, 24) (by decide) rfl rfl rfl
theorem zf_16_18_ebateHallModel : zz_fok [16] 18 "DebateHallModel" "one" "I" := zz_fok1 (zR_16, zT_16, 24) rfl (by decide) rfl rfl (Or.inl rfl)
theorem q2454 : (Jvm.Cond.fieldLink "DebateHallModel" (67 : Nat) "DebateHallModel" "one" "I") ∈ lw_all := lw_g (lw_at lw_m10 214 rfl) rfl
theorem zp_16_18 : zz_pok [16] 18 := zz_pok1 (zR_16, zT_16, 24) (by decide) rfl rfl
theorem zf_16_19_ebateHallModel : zz_fok [16] 19 "DebateHallModel" "two" "I" := zz_fok1 (zR_16, zT_16, 24) rfl (by decide) rfl rfl (Or.inl rfl)
theorem q2455 : (Jvm.Cond.fieldLink "DebateHallModel" (70 : Nat) "DebateHallModel" "two" "I") ∈ lw_all := lw_g (lw_at lw_m10 215 rfl) rfl
theorem zp_16_19 : zz_pok [16] 19 := zz_pok1 (zR_16, zT_16, 24) (by decide) rfl rfl
theorem zf_16_20_ebateHallModel : zz_fok [16] 20 "DebateHallModel" "hit" "I" := zz_fok1 (zR_16, zT_16, 24) rfl (by decide) rfl rfl (Or.inl rfl)
theorem q2456 : (Jvm.Cond.fieldLink "DebateHallModel" (73 : Nat) "DebateHallModel" "hit" "I") ∈ lw_all := lw_g (lw_at lw_m10 216 rfl) rfl
theorem zp_16_20 : zz_pok [16] 20 := zz_pok1 (zR_16, zT_16, 24) (by decide) rfl rfl
theorem zf_16_21_ebateHallModel : zz_fok [16] 21 "DebateHallModel" "first" "[I" := zz_fok1 (zR_16, zT_16, 24) rfl (by decide) rfl rfl (Or.inl rfl)
theorem q2457 : (Jvm.Cond.fieldLink "DebateHallModel" (76 : Nat) "DebateHallModel" "first" "[I") ∈ lw_all := lw_g (lw_at lw_m10 217 rfl) rfl
theorem zq_16_21 : zz_pokF [16] 21 "DebateHallModel" := zz_pokF1 (zR_16, zT_16, 24) (by decide) rfl rfl rfl
theorem zf_16_22_ebateHallModel : zz_fok [16] 22 "DebateHallModel" "next" "[I" := zz_fok1 (zR_16, zT_16, 24) rfl (by decide) rfl rfl (Or.inl rfl)
theorem q2458 : (Jvm.Cond.fieldLink "DebateHallModel" (79 : Nat) "DebateHallModel" "next" "[I") ∈ lw_all := lw_g (lw_at lw_m10 218 rfl) rfl
theorem zq_16_22 : zz_pokF [16] 22 "DebateHallModel" := zz_pokF1 (zR_16, zT_16, 24) (by decide) rfl rfl rfl
theorem zf_16_23_ebateHallModel : zz_fok [16] 23 "DebateHallModel" "found" "[I" := zz_fok1 (zR_16, zT_16, 24) rfl (by decide) rfl rfl (Or.inl rfl)
theorem q2459 : (Jvm.Cond.fieldLink "DebateHallModel" (82 : Nat) "DebateHallModel" "found" "[I") ∈ lw_all := lw_g (lw_at lw_m10 219 rfl) rfl
theorem zq_16_23 : zz_pokF [16] 23 "DebateHallModel" := zz_pokF1 (zR_16, zT_16, 24) (by decide) rfl rfl rfl
theorem q2383 : (Jvm.Cond.methodLinkNest "DebateHallModel" (45 : Nat) ({ cls := "DebateHallModel$State", name := "<init>", desc := "(LDebateHallModel;)V" } : Jvm.MethodName) "DebateHallModel") ∈ lw_tbl := lw_at lw_m10 143 rfl
theorem q2384 : (Jvm.Cond.instanceMethod ({ cls := "DebateHallModel$State", name := "<init>", desc := "(LDebateHallModel;)V" } : Jvm.MethodName)) ∈ lw_all := lw_g (lw_at lw_m10 144 rfl) rfl
def wp_X4_init (Z : zzG) (this : Option Nat) (M : zzM) (bc bs : Nat) (K : Option Value → zzM → Prop) : Prop := zty Z M this fun _ => zput Z M this [16] 1 (.int (-1 : Int32)) fun M1 => znar Z M1 bc bs 100 (2000 : Int32) (.int 0) fun q2 M3 bc4 bs5 => zput Z M3 this [16] 3 (va_rf (some q2)) fun M6 => znar Z M6 bc4 bs5 100 (1280 : Int32) (.int 0) fun q7 M8 bc9 bs10 => zput Z M8 this [16] 5 (va_rf (some q7)) fun M11 => znar Z M11 bc9 bs10 100 (402 : Int32) (.int 0) fun q12 M13 bc14 bs15 => zput Z M13 this [16] 7 (va_rf (some q12)) fun M16 => znar Z M16 bc14 bs15 100 (402 : Int32) (.int 0) fun q17 M18 bc19 bs20 => zput Z M18 this [16] 8 (va_rf (some q17)) fun M21 => znar Z M21 bc19 bs20 102 (402 : Int32) (.long 0) fun q22 M23 bc24 bs25 => zput Z M23 this [16] 9 (va_rf (some q22)) fun M26 => znew Z M26 bc24 bs25 17 12 [.int 0, .null, .null, .int 0, .null, .null, .null, .null, .null, .null, .null, .null] fun q27 M28 bc29 bs30 => zcc bc29 bs30 (fun c s k => wp_X5_init Z (some q27) this M28 c s k) fun r31 M32 bc33 bs34 => zrV r31 (zput Z M32 this [16] 11 (va_rf (some q27)) fun M35 => znew Z M35 bc33 bs34 17 12 [.int 0, .null, .null, .int 0, .null, .null, .null, .null, .null, .null, .null, .null] fun q36 M37 bc38 bs39 => zcc bc38 bs39 (fun c s k => wp_X5_init Z (some q36) this M37 c s k) fun r40 M41 bc42 bs43 => zrV r40 (zput Z M41 this [16] 12 (va_rf (some q36)) fun M44 => znar Z M44 bc42 bs43 100 (40 : Int32) (.int 0) fun q45 M46 bc47 bs48 => zput Z M46 this [16] 13 (va_rf (some q45)) fun M49 => znar Z M49 bc47 bs48 100 (40 : Int32) (.int 0) fun q50 M51 bc52 bs53 => zput Z M51 this [16] 14 (va_rf (some q50)) fun M54 => znar Z M54 bc52 bs53 100 (40 : Int32) (.int 0) fun q55 M56 bc57 bs58 => zput Z M56 this [16] 16 (va_rf (some q55)) fun M59 => znar Z M59 bc57 bs58 100 (40 : Int32) (.int 0) fun q60 M61 bc62 bs63 => zput Z M61 this [16] 17 (va_rf (some q60)) fun M64 => zput Z M64 this [16] 18 (.int (-1 : Int32)) fun M65 => zput Z M65 this [16] 19 (.int (-1 : Int32)) fun M66 => zput Z M66 this [16] 20 (.int (-1 : Int32)) fun M67 => znar Z M67 bc62 bs63 100 (40 : Int32) (.int 0) fun q68 M69 bc70 bs71 => zput Z M69 this [16] 21 (va_rf (some q68)) fun M72 => znar Z M72 bc70 bs71 100 (40 : Int32) (.int 0) fun q73 M74 bc75 bs76 => zput Z M74 this [16] 22 (va_rf (some q73)) fun M77 => znar Z M77 bc75 bs76 100 (40 : Int32) (.int 0) fun q78 M79 bc80 bs81 => zput Z M79 this [16] 23 (va_rf (some q78)) fun M82 => K none M82))
theorem ok_X4_init {Z : zzG} {l : Launch} (hl : l.stackTraces = false) {this : Option Nat} {M : zzM} {mc ms : Nat} {K : Option Value → zzM → Prop} (hw : wp_X4_init Z this M mc ms K) : zz_Met Z l yX4_init (zz_ws yX4_init cX4_init 1 none none) 3 [va_rf this] M mc ms K (fun _ _ _ => False) := by
  refine zz_ofW hl (plainFor_of_name (by decide)) (by simp only [zz_sl0, zz_slI, zz_slJ, zz_slA] <;> decide) (fun G hZ hll C E hH hR hin => ?_)
  subst hZ
  subst hll
  rw [show lv_args 0 [va_rf this] = [(0, va_rf this)] by simp only [zz_la0, zz_laI, zz_laJ, zz_laA]]
  unfold wp_X4_init at hw
  refine zz_aload_n C dX4_init_0 rfl 0 rfl ?_
  obtain ⟨a9, t9, b9, fs9, hro, hL, hw⟩ := ztyS hw
  refine zz_objInit9 C hR (by decide) hro dX4_init_1 q2380 q146 q147 (zz_cat10 _ (Nat.le_of_ble_eq_true rfl)) ?_
  refine zz_aload_n C dX4_init_4 rfl 0 rfl ?_
  refine zz_iconst (v := (-1 : Int32)) C dX4_init_5 (by decide) ?_
  refine zz_put C dX4_init_6 (Or.inl q2437) zf_16_1_ebateHallModel zp_16_1 (zz_hn1 ⟨rfl, rfl⟩) hw (fun M1 hw => ?_)
  refine zz_aload_n C dX4_init_9 rfl 0 rfl ?_
  refine zz_sipush (v := (2000 : Int32)) C dX4_init_10 (by decide) ?_
  refine zz_newar (t := 100) (ty := .int) C dX4_init_13 rfl rfl (by decide) (fun _ _ h9 => h9) rfl q270 hw (fun q2 M3 bc4 bs5 hw => ?_)
  refine zz_putF C hin dX4_init_15 q2439 zf_16_3_ebateHallModel zq_16_3 (zz_hn1 (zz_nA _ rfl (some q2))) hw (fun M6 hw => ?_)
  refine zz_aload_n C dX4_init_18 rfl 0 rfl ?_
  refine zz_sipush (v := (1280 : Int32)) C dX4_init_19 (by decide) ?_
  refine zz_newar (t := 100) (ty := .int) C dX4_init_22 rfl rfl (by decide) (fun _ _ h9 => h9) rfl q270 hw (fun q7 M8 bc9 bs10 hw => ?_)
  refine zz_putF C hin dX4_init_24 q2441 zf_16_5_ebateHallModel zq_16_5 (zz_hn1 (zz_nA _ rfl (some q7))) hw (fun M11 hw => ?_)
  refine zz_aload_n C dX4_init_27 rfl 0 rfl ?_
  refine zz_sipush (v := (402 : Int32)) C dX4_init_28 (by decide) ?_
  refine zz_newar (t := 100) (ty := .int) C dX4_init_31 rfl rfl (by decide) (fun _ _ h9 => h9) rfl q270 hw (fun q12 M13 bc14 bs15 hw => ?_)
  refine zz_putF C hin dX4_init_33 q2443 zf_16_7_ebateHallModel zq_16_7 (zz_hn1 (zz_nA _ rfl (some q12))) hw (fun M16 hw => ?_)
  refine zz_aload_n C dX4_init_36 rfl 0 rfl ?_
  refine zz_sipush (v := (402 : Int32)) C dX4_init_37 (by decide) ?_
  refine zz_newar (t := 100) (ty := .int) C dX4_init_40 rfl rfl (by decide) (fun _ _ h9 => h9) rfl q270 hw (fun q17 M18 bc19 bs20 hw => ?_)
  refine zz_putF C hin dX4_init_42 q2444 zf_16_8_ebateHallModel zq_16_8 (zz_hn1 (zz_nA _ rfl (some q17))) hw (fun M21 hw => ?_)
  refine zz_aload_n C dX4_init_45 rfl 0 rfl ?_
  refine zz_sipush (v := (402 : Int32)) C dX4_init_46 (by decide) ?_
  refine zz_newar (t := 102) (ty := .long) C dX4_init_49 rfl rfl (by decide) (fun _ _ h9 => h9) rfl q2435 hw (fun q22 M23 bc24 bs25 hw => ?_)
  refine zz_putF C hin dX4_init_51 q2445 zf_16_9_ebateHallModel zq_16_9 (zz_hn1 (zz_nA _ rfl (some q22))) hw (fun M26 hw => ?_)
  refine zz_aload_n C dX4_init_54 rfl 0 rfl ?_
  refine zz_new (r := (zR_17, zT_17, 12)) C dX4_init_55 rfl (by decide) q2381 q2382 zl_DebateHallModel_State rfl hw (fun q27 M28 bc29 bs30 hw => ?_)
  refine zz_dup C dX4_init_58 (zz_cat _) ?_
  refine zz_aload_n C dX4_init_59 rfl 0 rfl ?_
  obtain ⟨c9, s9, hc9, hs9, hw⟩ := hw
  refine zz_callI (As := [va_rf this]) (rest := [va_rf (some q27), va_rf this]) C hR rfl dX4_init_60 (Or.inr ⟨_, q2383⟩) q2384 zl_DebateHallModel_State zk_X5_init rfl zy_X5_init (by decide) (by decide) (ok_X5_init (zz_hl C) hw) hc9 hs9 (zz_cat10 _ (Nat.le_of_ble_eq_true rfl)) (fun r31 M32 hw => zz_kV hw (fun hw => ?_)) (fun _ _ _ h9 => h9.elim) rfl
  refine zz_putF C hin dX4_init_63 q2447 zf_16_11_ebateHallModel zq_16_11 (zz_hn1 (zz_nA _ rfl (some q27))) hw (fun M35 hw => ?_)
  refine zz_aload_n C dX4_init_66 rfl 0 rfl ?_
  refine zz_new (r := (zR_17, zT_17, 12)) C dX4_init_67 rfl (by decide) q2381 q2382 zl_DebateHallModel_State rfl hw (fun q36 M37 bc38 bs39 hw => ?_)
  refine zz_dup C dX4_init_70 (zz_cat _) ?_
  refine zz_aload_n C dX4_init_71 rfl 0 rfl ?_
  obtain ⟨c9, s9, hc9, hs9, hw⟩ := hw
  refine zz_callI (As := [va_rf this]) (rest := [va_rf (some q36), va_rf this]) C hR rfl dX4_init_72 (Or.inr ⟨_, q2383⟩) q2384 zl_DebateHallModel_State zk_X5_init rfl zy_X5_init (by decide) (by decide) (ok_X5_init (zz_hl C) hw) hc9 hs9 (zz_cat10 _ (Nat.le_of_ble_eq_true rfl)) (fun r40 M41 hw => zz_kV hw (fun hw => ?_)) (fun _ _ _ h9 => h9.elim) rfl
  refine zz_putF C hin dX4_init_75 q2448 zf_16_12_ebateHallModel zq_16_12 (zz_hn1 (zz_nA _ rfl (some q36))) hw (fun M44 hw => ?_)
  refine zz_aload_n C dX4_init_78 rfl 0 rfl ?_
  refine zz_bipush (v := (40 : Int32)) C dX4_init_79 (by decide) ?_
  refine zz_newar (t := 100) (ty := .int) C dX4_init_81 rfl rfl (by decide) (fun _ _ h9 => h9) rfl q270 hw (fun q45 M46 bc47 bs48 hw => ?_)
  refine zz_putF C hin dX4_init_83 q2449 zf_16_13_ebateHallModel zq_16_13 (zz_hn1 (zz_nA _ rfl (some q45))) hw (fun M49 hw => ?_)
  refine zz_aload_n C dX4_init_86 rfl 0 rfl ?_
  refine zz_bipush (v := (40 : Int32)) C dX4_init_87 (by decide) ?_
  refine zz_newar (t := 100) (ty := .int) C dX4_init_89 rfl rfl (by decide) (fun _ _ h9 => h9) rfl q270 hw (fun q50 M51 bc52 bs53 hw => ?_)
  refine zz_putF C hin dX4_init_91 q2450 zf_16_14_ebateHallModel zq_16_14 (zz_hn1 (zz_nA _ rfl (some q50))) hw (fun M54 hw => ?_)
  refine zz_aload_n C dX4_init_94 rfl 0 rfl ?_
  refine zz_bipush (v := (40 : Int32)) C dX4_init_95 (by decide) ?_
  refine zz_newar (t := 100) (ty := .int) C dX4_init_97 rfl rfl (by decide) (fun _ _ h9 => h9) rfl q270 hw (fun q55 M56 bc57 bs58 hw => ?_)
  refine zz_putF C hin dX4_init_99 q2452 zf_16_16_ebateHallModel zq_16_16 (zz_hn1 (zz_nA _ rfl (some q55))) hw (fun M59 hw => ?_)
  refine zz_aload_n C dX4_init_102 rfl 0 rfl ?_
  refine zz_bipush (v := (40 : Int32)) C dX4_init_103 (by decide) ?_
  refine zz_newar (t := 100) (ty := .int) C dX4_init_105 rfl rfl (by decide) (fun _ _ h9 => h9) rfl q270 hw (fun q60 M61 bc62 bs63 hw => ?_)
  refine zz_putF C hin dX4_init_107 q2453 zf_16_17_ebateHallModel zq_16_17 (zz_hn1 (zz_nA _ rfl (some q60))) hw (fun M64 hw => ?_)
  refine zz_aload_n C dX4_init_110 rfl 0 rfl ?_
  refine zz_iconst (v := (-1 : Int32)) C dX4_init_111 (by decide) ?_
  refine zz_put C dX4_init_112 (Or.inl q2454) zf_16_18_ebateHallModel zp_16_18 (zz_hn1 ⟨rfl, rfl⟩) hw (fun M65 hw => ?_)
  refine zz_aload_n C dX4_init_115 rfl 0 rfl ?_
  refine zz_iconst (v := (-1 : Int32)) C dX4_init_116 (by decide) ?_
  refine zz_put C dX4_init_117 (Or.inl q2455) zf_16_19_ebateHallModel zp_16_19 (zz_hn1 ⟨rfl, rfl⟩) hw (fun M66 hw => ?_)
  refine zz_aload_n C dX4_init_120 rfl 0 rfl ?_
  refine zz_iconst (v := (-1 : Int32)) C dX4_init_121 (by decide) ?_
  refine zz_put C dX4_init_122 (Or.inl q2456) zf_16_20_ebateHallModel zp_16_20 (zz_hn1 ⟨rfl, rfl⟩) hw (fun M67 hw => ?_)
  refine zz_aload_n C dX4_init_125 rfl 0 rfl ?_
  refine zz_bipush (v := (40 : Int32)) C dX4_init_126 (by decide) ?_
  refine zz_newar (t := 100) (ty := .int) C dX4_init_128 rfl rfl (by decide) (fun _ _ h9 => h9) rfl q270 hw (fun q68 M69 bc70 bs71 hw => ?_)
  refine zz_putF C hin dX4_init_130 q2457 zf_16_21_ebateHallModel zq_16_21 (zz_hn1 (zz_nA _ rfl (some q68))) hw (fun M72 hw => ?_)
  refine zz_aload_n C dX4_init_133 rfl 0 rfl ?_
  refine zz_bipush (v := (40 : Int32)) C dX4_init_134 (by decide) ?_
  refine zz_newar (t := 100) (ty := .int) C dX4_init_136 rfl rfl (by decide) (fun _ _ h9 => h9) rfl q270 hw (fun q73 M74 bc75 bs76 hw => ?_)
  refine zz_putF C hin dX4_init_138 q2458 zf_16_22_ebateHallModel zq_16_22 (zz_hn1 (zz_nA _ rfl (some q73))) hw (fun M77 hw => ?_)
  refine zz_aload_n C dX4_init_141 rfl 0 rfl ?_
  refine zz_bipush (v := (40 : Int32)) C dX4_init_142 (by decide) ?_
  refine zz_newar (t := 100) (ty := .int) C dX4_init_144 rfl rfl (by decide) (fun _ _ h9 => h9) rfl q270 hw (fun q78 M79 bc80 bs81 hw => ?_)
  refine zz_putF C hin dX4_init_146 q2459 zf_16_23_ebateHallModel zq_16_23 (zz_hn1 (zz_nA _ rfl (some q78))) hw (fun M82 hw => ?_)
  exact zz_vret C E dX4_init_149 hw
abbrev cX1_requireIndex : ByteArray := prog_1_method_3_code
def yX1_requireIndex : MethodName := ⟨"DebateHall", "requireIndex", "(II)V"⟩
def dkwX1_requireIndex_0 : List UInt8 := [26, 155, 0, 8, 26, 27, 161, 0, 11, 187, 0, 10, 89, 183, 0, 12, 191, 177]
abbrev dktX1_requireIndex_0 : List UInt8 := dkwX1_requireIndex_0 ++ []
theorem dksX1_requireIndex_0 : cX1_requireIndex.data.toList.drop 0 = dktX1_requireIndex_0 := by decide +kernel
theorem dX1_requireIndex_0 : decode cX1_requireIndex 0 = .ok (.iload_n 0, 1) := dk_26 (dk_at dksX1_requireIndex_0 0 rfl rfl)
theorem dX1_requireIndex_1 : decode cX1_requireIndex 1 = .ok (.ifCond .lt 8, 3) := dk_155 0 8 (dk_at dksX1_requireIndex_0 1 rfl rfl)
theorem dX1_requireIndex_4 : decode cX1_requireIndex 4 = .ok (.iload_n 0, 1) := dk_26 (dk_at dksX1_requireIndex_0 4 rfl rfl)
theorem dX1_requireIndex_5 : decode cX1_requireIndex 5 = .ok (.iload_n 1, 1) := dk_27 (dk_at dksX1_requireIndex_0 5 rfl rfl)
theorem dX1_requireIndex_6 : decode cX1_requireIndex 6 = .ok (.if_icmp .lt 11, 3) := dk_161 0 11 (dk_at dksX1_requireIndex_0 6 rfl rfl)
theorem dX1_requireIndex_9 : decode cX1_requireIndex 9 = .ok (.new 10, 3) := dk_187 0 10 (dk_at dksX1_requireIndex_0 9 rfl rfl)
theorem dX1_requireIndex_12 : decode cX1_requireIndex 12 = .ok (.dup, 1) := dk_89 (dk_at dksX1_requireIndex_0 12 rfl rfl)
theorem dX1_requireIndex_13 : decode cX1_requireIndex 13 = .ok (.invokespecial 12, 3) := dk_183 0 12 (dk_at dksX1_requireIndex_0 13 rfl rfl)
theorem dX1_requireIndex_16 : decode cX1_requireIndex 16 = .ok (.athrow, 1) := dk_191 (dk_at dksX1_requireIndex_0 16 rfl rfl)
theorem dX1_requireIndex_17 : decode cX1_requireIndex 17 = .ok (.return_, 1) := dk_177 (dk_at dksX1_requireIndex_0 17 rfl rfl)
theorem q549 : (Jvm.Cond.lays "java/lang/Throwable" "java/lang/Throwable" "detailMessage" "Ljava/lang/String;") ∈ lw_all := lw_g (lw_at lw_m2 229 rfl) rfl
theorem q559 : (Jvm.Cond.fieldLink "java/lang/Throwable" (20 : Nat) "java/lang/Throwable" "SUPPRESSED_SENTINEL" "Ljava/util/List;") ∈ lw_all := lw_g (lw_at lw_m2 239 rfl) rfl
theorem q557 : (Jvm.Cond.fieldLink "java/lang/Throwable" (13 : Nat) "java/lang/Throwable" "UNASSIGNED_STACK" "[Ljava/lang/StackTraceElement;") ∈ lw_all := lw_g (lw_at lw_m2 237 rfl) rfl
theorem q547 : (Jvm.Cond.lays "java/lang/Throwable" "java/lang/Throwable" "suppressedExceptions" "Ljava/util/List;") ∈ lw_all := lw_g (lw_at lw_m2 227 rfl) rfl
theorem q667 : (Jvm.Cond.fieldLink "java/lang/Throwable" (24 : Nat) "java/lang/Throwable" "suppressedExceptions" "Ljava/util/List;") ∈ lw_all := lw_g (lw_at lw_m3 107 rfl) rfl
theorem q545 : (Jvm.Cond.lays "java/lang/Throwable" "java/lang/Throwable" "stackTrace" "[Ljava/lang/StackTraceElement;") ∈ lw_all := lw_g (lw_at lw_m2 225 rfl) rfl
theorem q666 : (Jvm.Cond.fieldLink "java/lang/Throwable" (17 : Nat) "java/lang/Throwable" "stackTrace" "[Ljava/lang/StackTraceElement;") ∈ lw_all := lw_g (lw_at lw_m3 106 rfl) rfl
theorem q543 : (Jvm.Cond.lays "java/lang/Throwable" "java/lang/Throwable" "cause" "Ljava/lang/Throwable;") ∈ lw_all := lw_g (lw_at lw_m2 223 rfl) rfl
theorem q665 : (Jvm.Cond.fieldLink "java/lang/Throwable" (7 : Nat) "java/lang/Throwable" "cause" "Ljava/lang/Throwable;") ∈ lw_all := lw_g (lw_at lw_m3 105 rfl) rfl
theorem q570 : (Jvm.Cond.methodLink "java/lang/Throwable" (202 : Nat) ({ cls := "java/lang/Throwable", name := "fillInStackTrace", desc := "(I)Ljava/lang/Throwable;" } : Jvm.MethodName)) ∈ lw_all := lw_g (lw_at lw_m3 10 rfl) rfl
theorem q561 : (Jvm.Cond.methodLink "java/lang/Throwable" (27 : Nat) ({ cls := "java/lang/Throwable", name := "fillInStackTrace", desc := "()Ljava/lang/Throwable;" } : Jvm.MethodName)) ∈ lw_all := lw_g (lw_at lw_m3 1 rfl) rfl
theorem q556 : (Jvm.Cond.methodLink "java/lang/Throwable" (1 : Nat) ({ cls := "java/lang/Object", name := "<init>", desc := "()V" } : Jvm.MethodName)) ∈ lw_all := lw_g (lw_at lw_m2 236 rfl) rfl
theorem q555 : (Jvm.Cond.code ({ cls := "java/lang/Throwable", name := "<init>", desc := "()V" } : Jvm.MethodName) prog_53_method_1_code (1 : Nat) (Option.none : Option Jvm.ClassFile.FieldType)) ∈ lw_all := lw_g (lw_at lw_m2 235 rfl) rfl
theorem q554 : (Jvm.Cond.instanceMethod ({ cls := "java/lang/Throwable", name := "<init>", desc := "()V" } : Jvm.MethodName)) ∈ lw_all := lw_g (lw_at lw_m2 234 rfl) rfl
theorem q574 : (Jvm.Cond.native ({ cls := "java/lang/Throwable", name := "fillInStackTrace", desc := "(I)Ljava/lang/Throwable;" } : Jvm.MethodName)) ∈ lw_all := lw_g (lw_at lw_m3 14 rfl) rfl
theorem q572 : (Jvm.Cond.instanceMethod ({ cls := "java/lang/Throwable", name := "fillInStackTrace", desc := "(I)Ljava/lang/Throwable;" } : Jvm.MethodName)) ∈ lw_all := lw_g (lw_at lw_m3 12 rfl) rfl
theorem q569 : (Jvm.Cond.codeSync ({ cls := "java/lang/Throwable", name := "fillInStackTrace", desc := "()Ljava/lang/Throwable;" } : Jvm.MethodName) prog_53_method_18_code (1 : Nat) (Option.some (Jvm.ClassFile.FieldType.object "java/lang/Throwable"))) ∈ lw_all := lw_g (lw_at lw_m3 9 rfl) rfl
theorem q562 : (Jvm.Cond.instanceMethod ({ cls := "java/lang/Throwable", name := "fillInStackTrace", desc := "()Ljava/lang/Throwable;" } : Jvm.MethodName)) ∈ lw_all := lw_g (lw_at lw_m3 2 rfl) rfl
theorem q553 : (Jvm.Cond.superclass "java/lang/Throwable" "java/lang/Object") ∈ lw_all := lw_g (lw_at lw_m2 233 rfl) rfl
theorem zx_thr : ∀ x ∈ Bundle.throwableAtoms, vx_no x = true → zz_hw x := (zz_hwN (fun _ => Or.inl q95) (zz_hwN (fun _ => Or.inl q553) (zz_hwN (fun _ => Or.inl q562) (zz_hwN (fun _ => Or.inl q569) (zz_hwN (fun _ => Or.inl q572) (zz_hwN (fun _ => Or.inl q574) (zz_hwN (fun _ => Or.inl q554) (zz_hwN (fun _ => Or.inl q555) (zz_hwN (fun _ => Or.inl q146) (zz_hwN (fun _ => Or.inl q147) (zz_hwN (fun _ => Or.inl q556) (zz_hwN (fun _ => Or.inl q561) (zz_hwN (fun _ => Or.inl q570) (zz_hwN (fun _ => Or.inl q665) (zz_hwN (fun _ => Or.inl q543) (zz_hwN (fun _ => Or.inl q666) (zz_hwN (fun _ => Or.inl q545) (zz_hwN (fun _ => Or.inl q667) (zz_hwN (fun _ => Or.inl q547) (zz_hwN (fun _ => Or.inl q557) (zz_hwN (fun h => absurd h (by decide)) (zz_hwN (fun _ => Or.inl q559) (zz_hwN (fun h => absurd h (by decide)) (zz_hwN (fun _ => Or.inl q549) zz_hw0))))))))))))))))))))))))
theorem q534 : (Jvm.Cond.declares ({ cls := "java/lang/RuntimeException", name := "<init>", desc := "()V" } : Jvm.MethodName)) ∈ lw_tbl := lw_at lw_m2 214 rfl
theorem q2148 : (Jvm.Cond.instanceMethod ({ cls := "java/lang/RuntimeException", name := "<init>", desc := "()V" } : Jvm.MethodName)) ∈ lw_all := lw_g (lw_at lw_m9 148 rfl) rfl
theorem q2147 : (Jvm.Cond.methodLink "java/lang/IndexOutOfBoundsException" (1 : Nat) ({ cls := "java/lang/RuntimeException", name := "<init>", desc := "()V" } : Jvm.MethodName)) ∈ lw_all := lw_g (lw_at lw_m9 147 rfl) rfl
theorem q2146 : (Jvm.Cond.code ({ cls := "java/lang/IndexOutOfBoundsException", name := "<init>", desc := "()V" } : Jvm.MethodName) prog_39_method_1_code (1 : Nat) (Option.none : Option Jvm.ClassFile.FieldType)) ∈ lw_all := lw_g (lw_at lw_m9 146 rfl) rfl
theorem q2145 : (Jvm.Cond.instanceMethod ({ cls := "java/lang/IndexOutOfBoundsException", name := "<init>", desc := "()V" } : Jvm.MethodName)) ∈ lw_all := lw_g (lw_at lw_m9 145 rfl) rfl
theorem q536 : (Jvm.Cond.declares ({ cls := "java/lang/Exception", name := "<init>", desc := "()V" } : Jvm.MethodName)) ∈ lw_tbl := lw_at lw_m2 216 rfl
theorem q928 : (Jvm.Cond.instanceMethod ({ cls := "java/lang/Exception", name := "<init>", desc := "()V" } : Jvm.MethodName)) ∈ lw_all := lw_g (lw_at lw_m4 128 rfl) rfl
theorem q2150 : (Jvm.Cond.methodLink "java/lang/RuntimeException" (1 : Nat) ({ cls := "java/lang/Exception", name := "<init>", desc := "()V" } : Jvm.MethodName)) ∈ lw_all := lw_g (lw_at lw_m9 150 rfl) rfl
theorem q2149 : (Jvm.Cond.code ({ cls := "java/lang/RuntimeException", name := "<init>", desc := "()V" } : Jvm.MethodName) prog_45_method_1_code (1 : Nat) (Option.none : Option Jvm.ClassFile.FieldType)) ∈ lw_all := lw_g (lw_at lw_m9 149 rfl) rfl
theorem q538 : (Jvm.Cond.declares ({ cls := "java/lang/Throwable", name := "<init>", desc := "()V" } : Jvm.MethodName)) ∈ lw_tbl := lw_at lw_m2 218 rfl
theorem q930 : (Jvm.Cond.methodLink "java/lang/Exception" (1 : Nat) ({ cls := "java/lang/Throwable", name := "<init>", desc := "()V" } : Jvm.MethodName)) ∈ lw_all := lw_g (lw_at lw_m4 130 rfl) rfl
theorem q929 : (Jvm.Cond.code ({ cls := "java/lang/Exception", name := "<init>", desc := "()V" } : Jvm.MethodName) prog_36_method_1_code (1 : Nat) (Option.none : Option Jvm.ClassFile.FieldType)) ∈ lw_all := lw_g (lw_at lw_m4 129 rfl) rfl
theorem zx_ch_java_lang_IndexOutOfBoundsException : ∀ x ∈ Bundle.chain0Atoms "java/lang/IndexOutOfBoundsException" ["java/lang/RuntimeException", "java/lang/Exception"], vx_no x = true → zz_hw x := (zz_hwA (zz_hwN (fun _ => Or.inl q2145) (zz_hwN (fun _ => Or.inl q2146) (zz_hwN (fun _ => Or.inl q2147) (zz_hwN (fun _ => Or.inl q2148) (zz_hwN (fun _ => Or.inr ⟨q534, rfl, rfl⟩) zz_hw0))))) (zz_hwA (zz_hwN (fun _ => Or.inl q2148) (zz_hwN (fun _ => Or.inl q2149) (zz_hwN (fun _ => Or.inl q2150) (zz_hwN (fun _ => Or.inl q928) (zz_hwN (fun _ => Or.inr ⟨q536, rfl, rfl⟩) zz_hw0))))) (zz_hwN (fun _ => Or.inl q928) (zz_hwN (fun _ => Or.inl q929) (zz_hwN (fun _ => Or.inl q930) (zz_hwN (fun _ => Or.inl q554) (zz_hwN (fun _ => Or.inr ⟨q538, rfl, rfl⟩) zz_hw0)))))))
theorem q2143 : (Jvm.Cond.lays "java/lang/IndexOutOfBoundsException" "java/lang/Throwable" "backtrace" "Ljava/lang/Object;") ∈ lw_all := lw_g (lw_at lw_m9 143 rfl) rfl
theorem q551 : (Jvm.Cond.lays "java/lang/Throwable" "java/lang/Throwable" "backtrace" "Ljava/lang/Object;") ∈ lw_all := lw_g (lw_at lw_m2 231 rfl) rfl
theorem q552 : (Jvm.Cond.fieldLink "java/lang/Throwable" (198 : Nat) "java/lang/Throwable" "backtrace" "Ljava/lang/Object;") ∈ lw_all := lw_g (lw_at lw_m2 232 rfl) rfl
theorem q2142 : (Jvm.Cond.lays "java/lang/IndexOutOfBoundsException" "java/lang/Throwable" "detailMessage" "Ljava/lang/String;") ∈ lw_all := lw_g (lw_at lw_m9 142 rfl) rfl
theorem q2141 : (Jvm.Cond.lays "java/lang/IndexOutOfBoundsException" "java/lang/Throwable" "suppressedExceptions" "Ljava/util/List;") ∈ lw_all := lw_g (lw_at lw_m9 141 rfl) rfl
theorem q2140 : (Jvm.Cond.lays "java/lang/IndexOutOfBoundsException" "java/lang/Throwable" "stackTrace" "[Ljava/lang/StackTraceElement;") ∈ lw_all := lw_g (lw_at lw_m9 140 rfl) rfl
theorem q2139 : (Jvm.Cond.lays "java/lang/IndexOutOfBoundsException" "java/lang/Throwable" "cause" "Ljava/lang/Throwable;") ∈ lw_all := lw_g (lw_at lw_m9 139 rfl) rfl
theorem q567 : (Jvm.Cond.selects "java/lang/IndexOutOfBoundsException" ({ cls := "java/lang/Throwable", name := "fillInStackTrace", desc := "()Ljava/lang/Throwable;" } : Jvm.MethodName) ({ cls := "java/lang/Throwable", name := "fillInStackTrace", desc := "()Ljava/lang/Throwable;" } : Jvm.MethodName)) ∈ lw_all := lw_g (lw_at lw_m3 7 rfl) rfl
theorem q2138 : (Jvm.Cond.selects "java/lang/IndexOutOfBoundsException" ({ cls := "java/lang/Throwable", name := "fillInStackTrace", desc := "(I)Ljava/lang/Throwable;" } : Jvm.MethodName) ({ cls := "java/lang/Throwable", name := "fillInStackTrace", desc := "(I)Ljava/lang/Throwable;" } : Jvm.MethodName)) ∈ lw_all := lw_g (lw_at lw_m9 138 rfl) rfl
theorem q2137 : (Jvm.Cond.castable "java/lang/IndexOutOfBoundsException" "java/lang/IndexOutOfBoundsException") ∈ lw_tbl := lw_at lw_m9 137 rfl
theorem q2144 : (Jvm.Cond.methodLink "DebateHall" (12 : Nat) ({ cls := "java/lang/IndexOutOfBoundsException", name := "<init>", desc := "()V" } : Jvm.MethodName)) ∈ lw_all := lw_g (lw_at lw_m9 144 rfl) rfl
theorem zx_at_28_DebateHall : ∀ w ∈ vx_at0 "DebateHall" 12 "java/lang/IndexOutOfBoundsException" ["java/lang/RuntimeException", "java/lang/Exception"], zz_hw w := zz_hwE (zz_hwA (zz_hwA zx_thr zx_ch_java_lang_IndexOutOfBoundsException) (zz_hwN (fun _ => Or.inl q2144) (zz_hwN (fun _ => Or.inl q2136) (zz_hwN (fun _ => Or.inr ⟨q2137, rfl, rfl⟩) (zz_hwN (fun _ => Or.inl q2138) (zz_hwN (fun _ => Or.inl q567) (zz_hwN (fun _ => Or.inl q2139) (zz_hwN (fun _ => Or.inl q2140) (zz_hwN (fun _ => Or.inl q2141) (zz_hwN (fun _ => Or.inl q2142) (zz_hwN (fun h => absurd h (by decide)) (zz_hwN (fun h => absurd h (by decide)) (zz_hwN (fun _ => Or.inl q552) (zz_hwN (fun _ => Or.inl q551) (zz_hwN (fun _ => Or.inl q2143) zz_hw0)))))))))))))))
theorem q2135 : (Jvm.Cond.classLink "DebateHall" (10 : Nat) "java/lang/IndexOutOfBoundsException") ∈ lw_all := lw_g (lw_at lw_m9 135 rfl) rfl
theorem q137 : (Jvm.Cond.initialized "java/lang/IndexOutOfBoundsException") ∈ lw_all := lw_g (lw_at lw_m1 57 rfl) rfl
theorem zl_java_lang_IndexOutOfBoundsException : Cond.initialized "java/lang/IndexOutOfBoundsException" ∈ lw_all := q137
def wp_X1_requireIndex_B9 (Z : zzG) (K : Option Value → zzM → Prop) (X : Nat → Nat → zzM → Prop) (M : zzM) (bc bs : Nat) : Prop := znew Z M bc bs 28 6 [] fun q1 M2 bc3 bs4 => X 28 q1 M2
def wp_X1_requireIndex (Z : zzG) (p0 : Int32) (p1 : Int32) (M : zzM) (bc bs : Nat) (K : Option Value → zzM → Prop) (X : Nat → Nat → zzM → Prop) : Prop := if p0 < 0 then (wp_X1_requireIndex_B9 Z K X M bc bs) else (if p0 < p1 then (K none M) else (wp_X1_requireIndex_B9 Z K X M bc bs))
theorem ok_X1_requireIndex_B9 {G : zzX} (C : zz_C G cX1_requireIndex "DebateHall" 2) {K : Option Value → zzM → Prop} {X : Nat → Nat → zzM → Prop} (E : zz_E G none K X) (hH : zz_H G []) (hR : zz_Rm G 6) {M : zzM} {bc bs : Nat} (hw : wp_X1_requireIndex_B9 (zz_Zof G) K X M bc bs) : zz_T G 2 M bc bs 9 [] [] := by
  unfold wp_X1_requireIndex_B9 at hw
  refine zz_throwX (names := ["java/lang/RuntimeException", "java/lang/Exception"]) (r := (zR_28, zT_28, 0)) C hR (by decide) rfl (by decide) rfl (by decide) (by decide) (by decide) dX1_requireIndex_9 dX1_requireIndex_12 dX1_requireIndex_13 dX1_requireIndex_16 q2135 zl_java_lang_IndexOutOfBoundsException zx_at_28_DebateHall (zz_cat10 _ (Nat.le_of_ble_eq_true rfl)) hw (fun q1 M2 bc3 bs4 hw => ?_)
  exact zz_out C E hH rfl hw
theorem ok_X1_requireIndex {Z : zzG} {l : Launch} (hl : l.stackTraces = false) {p0 : Int32} {p1 : Int32} {M : zzM} {mc ms : Nat} {K : Option Value → zzM → Prop} {X : Nat → Nat → zzM → Prop} (hw : wp_X1_requireIndex Z p0 p1 M mc ms K X) : zz_Met Z l yX1_requireIndex (zz_ws yX1_requireIndex cX1_requireIndex 2 none none) 6 [.int p0, .int p1] M mc ms K X := by
  refine zz_ofW hl (plainFor_of_name (by decide)) (by simp only [zz_sl0, zz_slI, zz_slJ, zz_slA] <;> decide) (fun G hZ hll C E hH hR hin => ?_)
  subst hZ
  subst hll
  rw [show lv_args 0 [.int p0, .int p1] = [(0, .int p0), (1, .int p1)] by simp only [zz_la0, zz_laI, zz_laJ, zz_laA]]
  unfold wp_X1_requireIndex at hw
  refine zz_iload_n C dX1_requireIndex_0 rfl 0 rfl ?_
  refine zz_if_lt (tgt := 9) C dX1_requireIndex_1 (by decide) hw (fun hw => ?_) (fun hw => ?_)
  · refine zz_subP [] rfl ?_
    exact ok_X1_requireIndex_B9 C E hH hR hw
  · refine zz_iload_n C dX1_requireIndex_4 rfl 0 rfl ?_
    refine zz_iload_n C dX1_requireIndex_5 rfl 1 rfl ?_
    refine zz_icmp_lt (tgt := 17) C dX1_requireIndex_6 (by decide) hw (fun hw => ?_) (fun hw => ?_)
    · exact zz_vret C E dX1_requireIndex_17 hw
    · refine zz_subP [] rfl ?_
      exact ok_X1_requireIndex_B9 C E hH hR hw
abbrev cJ5_length : ByteArray := prog_28_method_6_code
def yJ5_length : MethodName := ⟨"java/lang/AbstractStringBuilder", "length", "()I"⟩
theorem dJ5_length_0 : decode cJ5_length 0 = .ok (.aload_n 0, 1) := by decide +kernel
theorem dJ5_length_1 : decode cJ5_length 1 = .ok (.getfield 79, 3) := by decide +kernel
theorem dJ5_length_4 : decode cJ5_length 4 = .ok (.ireturn, 1) := by decide +kernel
theorem zf_20_3_tStringBuilder : zz_fok [20] 3 "java/lang/AbstractStringBuilder" "count" "I" := zz_fok1 (zR_20, zT_20, 4) rfl (by decide) rfl rfl (Or.inl rfl)
theorem q293 : (Jvm.Cond.fieldLink "java/lang/AbstractStringBuilder" (79 : Nat) "java/lang/AbstractStringBuilder" "count" "I") ∈ lw_all := lw_g (lw_at lw_m1 213 rfl) rfl
def wp_J5_length (Z : zzG) (this : Option Nat) (M : zzM) (K : Option Value → zzM → Prop) : Prop := zgI Z M this [20] 3 fun x1 => K (some (.int x1)) M
theorem ok_J5_length {Z : zzG} {l : Launch} (hl : l.stackTraces = false) {this : Option Nat} {M : zzM} {mc ms : Nat} {K : Option Value → zzM → Prop} (hw : wp_J5_length Z this M K) : zz_Met Z l yJ5_length (zz_ws yJ5_length cJ5_length 1 (some .int) none) 1 [va_rf this] M mc ms K (fun _ _ _ => False) := by
  refine zz_ofW hl (plainFor_of_name (by decide)) (by simp only [zz_sl0, zz_slI, zz_slJ, zz_slA] <;> decide) (fun G hZ hll C E hH hR hin => ?_)
  subst hZ
  subst hll
  rw [show lv_args 0 [va_rf this] = [(0, va_rf this)] by simp only [zz_la0, zz_laI, zz_laJ, zz_laA]]
  unfold wp_J5_length at hw
  refine zz_aload_n C dJ5_length_0 rfl 0 rfl ?_
  refine zz_getI C dJ5_length_1 (Or.inl q293) zf_20_3_tStringBuilder hw (fun x1 hw => ?_)
  exact zz_iret C E dJ5_length_4 hw
abbrev cJ6_length : ByteArray := prog_47_method_93_code
def yJ6_length : MethodName := ⟨"java/lang/StringBuilder", "length", "()I"⟩
theorem dJ6_length_0 : decode cJ6_length 0 = .ok (.aload_n 0, 1) := by decide +kernel
theorem dJ6_length_1 : decode cJ6_length 1 = .ok (.invokespecial 343, 3) := by decide +kernel
theorem dJ6_length_4 : decode cJ6_length 4 = .ok (.ireturn, 1) := by decide +kernel
theorem q520 : (Jvm.Cond.code ({ cls := "java/lang/AbstractStringBuilder", name := "length", desc := "()I" } : Jvm.MethodName) prog_28_method_6_code (1 : Nat) (Option.some Jvm.ClassFile.FieldType.int)) ∈ lw_all := lw_g (lw_at lw_m2 200 rfl) rfl
theorem zk_J5_length : zz_cd yJ5_length cJ5_length 1 (some .int) none ∈ lw_all := q520
theorem zy_J5_length : zz_yok yJ5_length 0 = true := by decide +kernel
theorem q519 : (Jvm.Cond.methodLink "java/lang/StringBuilder" (343 : Nat) ({ cls := "java/lang/AbstractStringBuilder", name := "length", desc := "()I" } : Jvm.MethodName)) ∈ lw_all := lw_g (lw_at lw_m2 199 rfl) rfl
theorem q515 : (Jvm.Cond.sameMethod "java/lang/AbstractStringBuilder" "java/lang/AbstractStringBuilder" "length" "()I") ∈ lw_all := lw_g (lw_at lw_m2 195 rfl) rfl
theorem q302 : (Jvm.Cond.superclass "java/lang/StringBuilder" "java/lang/AbstractStringBuilder") ∈ lw_all := lw_g (lw_at lw_m1 222 rfl) rfl
theorem q514 : (Jvm.Cond.instanceMethod ({ cls := "java/lang/AbstractStringBuilder", name := "length", desc := "()I" } : Jvm.MethodName)) ∈ lw_all := lw_g (lw_at lw_m2 194 rfl) rfl
def wp_J6_length (Z : zzG) (this : Option Nat) (M : zzM) (K : Option Value → zzM → Prop) : Prop := zty Z M this fun t => t = 20 ∧ wp_J5_length Z this M (fun r1 M2 => zrI r1 fun x5 => K (some (.int x5)) M2)
theorem ok_J6_length {Z : zzG} {l : Launch} (hl : l.stackTraces = false) {this : Option Nat} {M : zzM} {mc ms : Nat} {K : Option Value → zzM → Prop} (hw : wp_J6_length Z this M K) : zz_Met Z l yJ6_length (zz_ws yJ6_length cJ6_length 1 (some .int) none) 2 [va_rf this] M mc ms K (fun _ _ _ => False) := by
  refine zz_ofW hl (plainFor_of_name (by decide)) (by simp only [zz_sl0, zz_slI, zz_slJ, zz_slA] <;> decide) (fun G hZ hll C E hH hR hin => ?_)
  subst hZ
  subst hll
  rw [show lv_args 0 [va_rf this] = [(0, va_rf this)] by simp only [zz_la0, zz_laI, zz_laJ, zz_laA]]
  unfold wp_J6_length at hw
  refine zz_aload_n C dJ6_length_0 rfl 0 rfl ?_
  obtain ⟨a9, t9, b9, fs9, hro, hL, rfl, hw⟩ := ztyS hw
  refine zz_callSU (r := (zR_20, zT_20, 4)) (As := []) (rest := []) (mc := 0) (ms := 0) C hR hro dJ6_length_1 q519 q515 q302 q514 zl_java_lang_AbstractStringBuilder zk_J5_length (by decide) zy_J5_length rfl (by decide) (by decide) hL (ok_J5_length (zz_hl C) hw) (Nat.zero_le _) (Nat.zero_le _) (zz_cat10 _ (Nat.le_of_ble_eq_true rfl)) (fun r1 M2 hw => zz_kI hw (fun x5 hw => ?_)) (fun _ _ _ h9 => h9.elim) rfl
  exact zz_iret C E dJ6_length_4 hw
abbrev cJ24_init : ByteArray := prog_60_method_1_code
def yJ24_init : MethodName := ⟨"java/util/ArrayList$Itr", "<init>", "(Ljava/util/ArrayList;)V"⟩
def dkwJ24_init_1 : List UInt8 := [181, 0, 22, 177]
abbrev dktJ24_init_1 : List UInt8 := dkwJ24_init_1 ++ []
def dkwJ24_init_0 : List UInt8 := [42, 43, 181, 0, 1, 42, 183, 0, 7, 42, 2, 181, 0, 13, 42, 42, 180, 0, 1, 180, 0, 17]
abbrev dktJ24_init_0 : List UInt8 := dkwJ24_init_0 ++ dktJ24_init_1
theorem dksJ24_init_0 : cJ24_init.data.toList.drop 0 = dktJ24_init_0 := by decide +kernel
theorem dksJ24_init_1 : cJ24_init.data.toList.drop 22 = dktJ24_init_1 := dk_seg dksJ24_init_0 22 rfl rfl
theorem dJ24_init_0 : decode cJ24_init 0 = .ok (.aload_n 0, 1) := dk_42 (dk_at dksJ24_init_0 0 rfl rfl)
theorem dJ24_init_1 : decode cJ24_init 1 = .ok (.aload_n 1, 1) := dk_43 (dk_at dksJ24_init_0 1 rfl rfl)
theorem dJ24_init_2 : decode cJ24_init 2 = .ok (.putfield 1, 3) := dk_181 0 1 (dk_at dksJ24_init_0 2 rfl rfl)
theorem dJ24_init_5 : decode cJ24_init 5 = .ok (.aload_n 0, 1) := dk_42 (dk_at dksJ24_init_0 5 rfl rfl)
theorem dJ24_init_6 : decode cJ24_init 6 = .ok (.invokespecial 7, 3) := dk_183 0 7 (dk_at dksJ24_init_0 6 rfl rfl)
theorem dJ24_init_9 : decode cJ24_init 9 = .ok (.aload_n 0, 1) := dk_42 (dk_at dksJ24_init_0 9 rfl rfl)
theorem dJ24_init_10 : decode cJ24_init 10 = .ok (.iconst (-1), 1) := dk_2 (dk_at dksJ24_init_0 10 rfl rfl)
theorem dJ24_init_11 : decode cJ24_init 11 = .ok (.putfield 13, 3) := dk_181 0 13 (dk_at dksJ24_init_0 11 rfl rfl)
theorem dJ24_init_14 : decode cJ24_init 14 = .ok (.aload_n 0, 1) := dk_42 (dk_at dksJ24_init_0 14 rfl rfl)
theorem dJ24_init_15 : decode cJ24_init 15 = .ok (.aload_n 0, 1) := dk_42 (dk_at dksJ24_init_0 15 rfl rfl)
theorem dJ24_init_16 : decode cJ24_init 16 = .ok (.getfield 1, 3) := dk_180 0 1 (dk_at dksJ24_init_0 16 rfl rfl)
theorem dJ24_init_19 : decode cJ24_init 19 = .ok (.getfield 17, 3) := dk_180 0 17 (dk_at dksJ24_init_0 19 rfl rfl)
theorem dJ24_init_22 : decode cJ24_init 22 = .ok (.putfield 22, 3) := dk_181 0 22 (dk_at dksJ24_init_1 0 rfl rfl)
theorem dJ24_init_25 : decode cJ24_init 25 = .ok (.return_, 1) := dk_177 (dk_at dksJ24_init_1 3 rfl rfl)
theorem zf_23_3__ArrayList_Itr : zz_fok [23] 3 "java/util/ArrayList$Itr" "this$0" "Ljava/util/ArrayList;" := zz_fok1 (zR_23, zT_23, 4) rfl (by decide) rfl rfl (Or.inl rfl)
theorem q1157 : (Jvm.Cond.fieldLink "java/util/ArrayList$Itr" (1 : Nat) "java/util/ArrayList$Itr" "this$0" "Ljava/util/ArrayList;") ∈ lw_all := lw_g (lw_at lw_m5 117 rfl) rfl
theorem zq_23_3 : zz_pokF [23] 3 "java/util/ArrayList$Itr" := zz_pokF1 (zR_23, zT_23, 4) (by decide) rfl rfl rfl
theorem q1153 : (Jvm.Cond.methodLink "java/util/ArrayList$Itr" (7 : Nat) ({ cls := "java/lang/Object", name := "<init>", desc := "()V" } : Jvm.MethodName)) ∈ lw_all := lw_g (lw_at lw_m5 113 rfl) rfl
theorem zf_23_1__ArrayList_Itr : zz_fok [23] 1 "java/util/ArrayList$Itr" "lastRet" "I" := zz_fok1 (zR_23, zT_23, 4) rfl (by decide) rfl rfl (Or.inl rfl)
theorem q1155 : (Jvm.Cond.fieldLink "java/util/ArrayList$Itr" (13 : Nat) "java/util/ArrayList$Itr" "lastRet" "I") ∈ lw_all := lw_g (lw_at lw_m5 115 rfl) rfl
theorem zp_23_1 : zz_pok [23] 1 := zz_pok1 (zR_23, zT_23, 4) (by decide) rfl rfl
theorem q190 : (Jvm.Cond.sameField "java/util/ArrayList" "java/util/AbstractList" "modCount" "I") ∈ lw_all := lw_g (lw_at lw_m1 110 rfl) rfl
theorem zf_18_0_util_ArrayList : zz_fok [18] 0 "java/util/ArrayList" "modCount" "I" := zz_fok1 (zR_18, zT_18, 3) rfl (by decide) rfl rfl (Or.inr q190)
theorem q189 : (Jvm.Cond.fieldLink "java/util/ArrayList$Itr" (17 : Nat) "java/util/ArrayList" "modCount" "I") ∈ lw_all := lw_g (lw_at lw_m1 109 rfl) rfl
theorem zf_23_2__ArrayList_Itr : zz_fok [23] 2 "java/util/ArrayList$Itr" "expectedModCount" "I" := zz_fok1 (zR_23, zT_23, 4) rfl (by decide) rfl rfl (Or.inl rfl)
theorem q1156 : (Jvm.Cond.fieldLink "java/util/ArrayList$Itr" (22 : Nat) "java/util/ArrayList$Itr" "expectedModCount" "I") ∈ lw_all := lw_g (lw_at lw_m5 116 rfl) rfl
theorem zp_23_2 : zz_pok [23] 2 := zz_pok1 (zR_23, zT_23, 4) (by decide) rfl rfl
def wp_J24_init (Z : zzG) (this : Option Nat) (p0 : Option Nat) (M : zzM) (K : Option Value → zzM → Prop) : Prop := zput Z M this [23] 3 (va_rf p0) fun M1 => zty Z M1 this fun _ => zput Z M1 this [23] 1 (.int (-1 : Int32)) fun M2 => zgA Z M2 this [23] 3 fun x3 => zgI Z M2 x3 [18] 0 fun x4 => zput Z M2 this [23] 2 (.int x4) fun M5 => K none M5
theorem ok_J24_init {Z : zzG} {l : Launch} (hl : l.stackTraces = false) {this : Option Nat} {p0 : Option Nat} {M : zzM} {mc ms : Nat} {K : Option Value → zzM → Prop} (hw : wp_J24_init Z this p0 M K) : zz_Met Z l yJ24_init (zz_ws yJ24_init cJ24_init 2 none none) 2 [va_rf this, va_rf p0] M mc ms K (fun _ _ _ => False) := by
  refine zz_ofW hl (plainFor_of_name (by decide)) (by simp only [zz_sl0, zz_slI, zz_slJ, zz_slA] <;> decide) (fun G hZ hll C E hH hR hin => ?_)
  subst hZ
  subst hll
  rw [show lv_args 0 [va_rf this, va_rf p0] = [(0, va_rf this), (1, va_rf p0)] by simp only [zz_la0, zz_laI, zz_laJ, zz_laA]]
  unfold wp_J24_init at hw
  refine zz_aload_n C dJ24_init_0 rfl 0 rfl ?_
  refine zz_aload_n C dJ24_init_1 rfl 1 rfl ?_
  refine zz_putF C hin dJ24_init_2 q1157 zf_23_3__ArrayList_Itr zq_23_3 (zz_hn1 (zz_nA _ rfl p0)) hw (fun M1 hw => ?_)
  refine zz_aload_n C dJ24_init_5 rfl 0 rfl ?_
  obtain ⟨a9, t9, b9, fs9, hro, hL, hw⟩ := ztyS hw
  refine zz_objInit9 C hR (by decide) hro dJ24_init_6 q1153 q146 q147 (zz_cat10 _ (Nat.le_of_ble_eq_true rfl)) ?_
  refine zz_aload_n C dJ24_init_9 rfl 0 rfl ?_
  refine zz_iconst (v := (-1 : Int32)) C dJ24_init_10 (by decide) ?_
  refine zz_put C dJ24_init_11 (Or.inl q1155) zf_23_1__ArrayList_Itr zp_23_1 (zz_hn1 ⟨rfl, rfl⟩) hw (fun M2 hw => ?_)
  refine zz_aload_n C dJ24_init_14 rfl 0 rfl ?_
  refine zz_aload_n C dJ24_init_15 rfl 0 rfl ?_
  refine zz_getA C dJ24_init_16 (Or.inl q1157) zf_23_3__ArrayList_Itr hw (fun x3 hw => ?_)
  refine zz_getI C dJ24_init_19 (Or.inl q189) zf_18_0_util_ArrayList hw (fun x4 hw => ?_)
  refine zz_put C dJ24_init_22 (Or.inl q1156) zf_23_2__ArrayList_Itr zp_23_2 (zz_hn1 ⟨rfl, rfl⟩) hw (fun M5 hw => ?_)
  exact zz_vret C E dJ24_init_25 hw
abbrev cJ2_iterator : ByteArray := prog_59_method_55_code
def yJ2_iterator : MethodName := ⟨"java/util/ArrayList", "iterator", "()Ljava/util/Iterator;"⟩
def dkwJ2_iterator_0 : List UInt8 := [187, 1, 11, 89, 42, 183, 1, 13, 176]
abbrev dktJ2_iterator_0 : List UInt8 := dkwJ2_iterator_0 ++ []
theorem dksJ2_iterator_0 : cJ2_iterator.data.toList.drop 0 = dktJ2_iterator_0 := by decide +kernel
theorem dJ2_iterator_0 : decode cJ2_iterator 0 = .ok (.new 267, 3) := dk_187 1 11 (dk_at dksJ2_iterator_0 0 rfl rfl)
theorem dJ2_iterator_3 : decode cJ2_iterator 3 = .ok (.dup, 1) := dk_89 (dk_at dksJ2_iterator_0 3 rfl rfl)
theorem dJ2_iterator_4 : decode cJ2_iterator 4 = .ok (.aload_n 0, 1) := dk_42 (dk_at dksJ2_iterator_0 4 rfl rfl)
theorem dJ2_iterator_5 : decode cJ2_iterator 5 = .ok (.invokespecial 269, 3) := dk_183 1 13 (dk_at dksJ2_iterator_0 5 rfl rfl)
theorem dJ2_iterator_8 : decode cJ2_iterator 8 = .ok (.areturn, 1) := dk_176 (dk_at dksJ2_iterator_0 8 rfl rfl)
theorem q1148 : (Jvm.Cond.classLink "java/util/ArrayList" (267 : Nat) "java/util/ArrayList$Itr") ∈ lw_all := lw_g (lw_at lw_m5 108 rfl) rfl
theorem q127 : (Jvm.Cond.initialized "java/util/ArrayList$Itr") ∈ lw_all := lw_g (lw_at lw_m1 47 rfl) rfl
theorem zl_java_util_ArrayList_Itr : Cond.initialized "java/util/ArrayList$Itr" ∈ lw_all := q127
theorem q1152 : (Jvm.Cond.code ({ cls := "java/util/ArrayList$Itr", name := "<init>", desc := "(Ljava/util/ArrayList;)V" } : Jvm.MethodName) prog_60_method_1_code (2 : Nat) (Option.none : Option Jvm.ClassFile.FieldType)) ∈ lw_all := lw_g (lw_at lw_m5 112 rfl) rfl
theorem zk_J24_init : zz_cd yJ24_init cJ24_init 2 none none ∈ lw_all := q1152
theorem zy_J24_init : zz_yok yJ24_init 1 = true := by decide +kernel
theorem q1150 : (Jvm.Cond.methodLink "java/util/ArrayList" (269 : Nat) ({ cls := "java/util/ArrayList$Itr", name := "<init>", desc := "(Ljava/util/ArrayList;)V" } : Jvm.MethodName)) ∈ lw_all := lw_g (lw_at lw_m5 110 rfl) rfl
theorem q1151 : (Jvm.Cond.instanceMethod ({ cls := "java/util/ArrayList$Itr", name := "<init>", desc := "(Ljava/util/ArrayList;)V" } : Jvm.MethodName)) ∈ lw_all := lw_g (lw_at lw_m5 111 rfl) rfl
def wp_J2_iterator (Z : zzG) (this : Option Nat) (M : zzM) (bc bs : Nat) (K : Option Value → zzM → Prop) : Prop := znew Z M bc bs 23 4 [.int 0, .int 0, .int 0, .null] fun q1 M2 bc3 bs4 => wp_J24_init Z (some q1) this M2 (fun r5 M6 => zrV r5 (K (some (va_rf (some q1))) M6))
theorem ok_J2_iterator {Z : zzG} {l : Launch} (hl : l.stackTraces = false) {this : Option Nat} {M : zzM} {mc ms : Nat} {K : Option Value → zzM → Prop} (hw : wp_J2_iterator Z this M mc ms K) : zz_Met Z l yJ2_iterator (zz_ws yJ2_iterator cJ2_iterator 1 (some (.object "java/util/Iterator")) none) 3 [va_rf this] M mc ms K (fun _ _ _ => False) := by
  refine zz_ofW hl (plainFor_of_name (by decide)) (by simp only [zz_sl0, zz_slI, zz_slJ, zz_slA] <;> decide) (fun G hZ hll C E hH hR hin => ?_)
  subst hZ
  subst hll
  rw [show lv_args 0 [va_rf this] = [(0, va_rf this)] by simp only [zz_la0, zz_laI, zz_laJ, zz_laA]]
  unfold wp_J2_iterator at hw
  refine zz_new (r := (zR_23, zT_23, 4)) C dJ2_iterator_0 rfl (by decide) q1148 q1149 zl_java_util_ArrayList_Itr rfl hw (fun q1 M2 bc3 bs4 hw => ?_)
  refine zz_dup C dJ2_iterator_3 (zz_cat _) ?_
  refine zz_aload_n C dJ2_iterator_4 rfl 0 rfl ?_
  refine zz_callI (As := [va_rf this]) (rest := [va_rf (some q1)]) (mc := 0) (ms := 0) C hR rfl dJ2_iterator_5 (Or.inl q1150) q1151 zl_java_util_ArrayList_Itr zk_J24_init rfl zy_J24_init (by decide) (by decide) (ok_J24_init (zz_hl C) hw) (Nat.zero_le _) (Nat.zero_le _) (zz_cat10 _ (Nat.le_of_ble_eq_true rfl)) (fun r5 M6 hw => zz_kV hw (fun hw => ?_)) (fun _ _ _ h9 => h9.elim) rfl
  exact zz_aret C E (Or.inl ⟨_, rfl⟩) dJ2_iterator_8 hw
abbrev cJ24_hasNext : ByteArray := prog_60_method_2_code
def yJ24_hasNext : MethodName := ⟨"java/util/ArrayList$Itr", "hasNext", "()Z"⟩
def dkwJ24_hasNext_0 : List UInt8 := [42, 180, 0, 25, 42, 180, 0, 1, 180, 0, 28, 159, 0, 7, 4, 167, 0, 4, 3, 172]
abbrev dktJ24_hasNext_0 : List UInt8 := dkwJ24_hasNext_0 ++ []
theorem dksJ24_hasNext_0 : cJ24_hasNext.data.toList.drop 0 = dktJ24_hasNext_0 := by decide +kernel
theorem dJ24_hasNext_0 : decode cJ24_hasNext 0 = .ok (.aload_n 0, 1) := dk_42 (dk_at dksJ24_hasNext_0 0 rfl rfl)
theorem dJ24_hasNext_1 : decode cJ24_hasNext 1 = .ok (.getfield 25, 3) := dk_180 0 25 (dk_at dksJ24_hasNext_0 1 rfl rfl)
theorem dJ24_hasNext_4 : decode cJ24_hasNext 4 = .ok (.aload_n 0, 1) := dk_42 (dk_at dksJ24_hasNext_0 4 rfl rfl)
theorem dJ24_hasNext_5 : decode cJ24_hasNext 5 = .ok (.getfield 1, 3) := dk_180 0 1 (dk_at dksJ24_hasNext_0 5 rfl rfl)
theorem dJ24_hasNext_8 : decode cJ24_hasNext 8 = .ok (.getfield 28, 3) := dk_180 0 28 (dk_at dksJ24_hasNext_0 8 rfl rfl)
theorem dJ24_hasNext_11 : decode cJ24_hasNext 11 = .ok (.if_icmp .eq 7, 3) := dk_159 0 7 (dk_at dksJ24_hasNext_0 11 rfl rfl)
theorem dJ24_hasNext_14 : decode cJ24_hasNext 14 = .ok (.iconst 1, 1) := dk_4 (dk_at dksJ24_hasNext_0 14 rfl rfl)
theorem dJ24_hasNext_15 : decode cJ24_hasNext 15 = .ok (.goto 4, 3) := dk_167 0 4 (dk_at dksJ24_hasNext_0 15 rfl rfl)
theorem dJ24_hasNext_18 : decode cJ24_hasNext 18 = .ok (.iconst 0, 1) := dk_3 (dk_at dksJ24_hasNext_0 18 rfl rfl)
theorem dJ24_hasNext_19 : decode cJ24_hasNext 19 = .ok (.ireturn, 1) := dk_172 (dk_at dksJ24_hasNext_0 19 rfl rfl)
theorem zf_23_0__ArrayList_Itr : zz_fok [23] 0 "java/util/ArrayList$Itr" "cursor" "I" := zz_fok1 (zR_23, zT_23, 4) rfl (by decide) rfl rfl (Or.inl rfl)
theorem q1154 : (Jvm.Cond.fieldLink "java/util/ArrayList$Itr" (25 : Nat) "java/util/ArrayList$Itr" "cursor" "I") ∈ lw_all := lw_g (lw_at lw_m5 114 rfl) rfl
theorem zf_18_2_util_ArrayList : zz_fok [18] 2 "java/util/ArrayList" "size" "I" := zz_fok1 (zR_18, zT_18, 3) rfl (by decide) rfl rfl (Or.inl rfl)
theorem q186 : (Jvm.Cond.fieldLinkNest "java/util/ArrayList$Itr" (28 : Nat) "java/util/ArrayList" "size" "I" "java/util/ArrayList") ∈ lw_tbl := lw_at lw_m1 106 rfl
def wp_J24_hasNext_B19 (Z : zzG) (K : Option Value → zzM → Prop) (s0 : Int32) (M : zzM) : Prop := narrow .boolean (.int s0) = .int s0 ∧ K (some (.int s0)) M
def wp_J24_hasNext (Z : zzG) (this : Option Nat) (M : zzM) (K : Option Value → zzM → Prop) : Prop := zgI Z M this [23] 0 fun x1 => zgA Z M this [23] 3 fun x2 => zgI Z M x2 [18] 2 fun x3 => if x1 = x3 then (wp_J24_hasNext_B19 Z K (0 : Int32) M) else (wp_J24_hasNext_B19 Z K (1 : Int32) M)
theorem ok_J24_hasNext_B19 {G : zzX} (C : zz_C G cJ24_hasNext "java/util/ArrayList$Itr" 1) {K : Option Value → zzM → Prop} (E : zz_E G (some .boolean) K (fun _ _ _ => False)) (hH : zz_H G []) (hR : zz_Rm G 1) {s0 : Int32} {M : zzM} {bc bs : Nat} (hw : wp_J24_hasNext_B19 (zz_Zof G) K s0 M) : zz_T G 1 M bc bs 19 [] [.int s0] := by
  unfold wp_J24_hasNext_B19 at hw
  exact zz_zret C E dJ24_hasNext_19 hw
theorem ok_J24_hasNext {Z : zzG} {l : Launch} (hl : l.stackTraces = false) {this : Option Nat} {M : zzM} {mc ms : Nat} {K : Option Value → zzM → Prop} (hw : wp_J24_hasNext Z this M K) : zz_Met Z l yJ24_hasNext (zz_ws yJ24_hasNext cJ24_hasNext 1 (some .boolean) none) 1 [va_rf this] M mc ms K (fun _ _ _ => False) := by
  refine zz_ofW hl (plainFor_of_name (by decide)) (by simp only [zz_sl0, zz_slI, zz_slJ, zz_slA] <;> decide) (fun G hZ hll C E hH hR hin => ?_)
  subst hZ
  subst hll
  rw [show lv_args 0 [va_rf this] = [(0, va_rf this)] by simp only [zz_la0, zz_laI, zz_laJ, zz_laA]]
  unfold wp_J24_hasNext at hw
  refine zz_aload_n C dJ24_hasNext_0 rfl 0 rfl ?_
  refine zz_getI C dJ24_hasNext_1 (Or.inl q1154) zf_23_0__ArrayList_Itr hw (fun x1 hw => ?_)
  refine zz_aload_n C dJ24_hasNext_4 rfl 0 rfl ?_
  refine zz_getA C dJ24_hasNext_5 (Or.inl q1157) zf_23_3__ArrayList_Itr hw (fun x2 hw => ?_)
  refine zz_getI C dJ24_hasNext_8 (Or.inr ⟨_, q186⟩) zf_18_2_util_ArrayList hw (fun x3 hw => ?_)
  refine zz_icmp_eq (tgt := 18) C dJ24_hasNext_11 (by decide) hw (fun hw => ?_) (fun hw => ?_)
  · refine zz_iconst (v := (0 : Int32)) C dJ24_hasNext_18 (by decide) ?_
    refine zz_subP [] rfl ?_
    exact ok_J24_hasNext_B19 C E hH hR hw
  · refine zz_iconst (v := (1 : Int32)) C dJ24_hasNext_14 (by decide) ?_
    refine zz_goto (tgt := 19) C dJ24_hasNext_15 (by decide) ?_
    refine zz_subP [] rfl ?_
    exact ok_J24_hasNext_B19 C E hH hR hw
abbrev cJ24_checkForComodification : ByteArray := prog_60_method_6_code
def yJ24_checkForComodification : MethodName := ⟨"java/util/ArrayList$Itr", "checkForComodification", "()V"⟩
def dkwJ24_checkForComodification_0 : List UInt8 := [42, 180, 0, 1, 180, 0, 17, 42, 180, 0, 22, 159, 0, 11, 187, 0, 41, 89, 183, 0, 43, 191, 177]
abbrev dktJ24_checkForComodification_0 : List UInt8 := dkwJ24_checkForComodification_0 ++ []
theorem dksJ24_checkForComodification_0 : cJ24_checkForComodification.data.toList.drop 0 = dktJ24_checkForComodification_0 := by decide +kernel
theorem dJ24_checkForComodification_0 : decode cJ24_checkForComodification 0 = .ok (.aload_n 0, 1) := dk_42 (dk_at dksJ24_checkForComodification_0 0 rfl rfl)
theorem dJ24_checkForComodification_1 : decode cJ24_checkForComodification 1 = .ok (.getfield 1, 3) := dk_180 0 1 (dk_at dksJ24_checkForComodification_0 1 rfl rfl)
theorem dJ24_checkForComodification_4 : decode cJ24_checkForComodification 4 = .ok (.getfield 17, 3) := dk_180 0 17 (dk_at dksJ24_checkForComodification_0 4 rfl rfl)
theorem dJ24_checkForComodification_7 : decode cJ24_checkForComodification 7 = .ok (.aload_n 0, 1) := dk_42 (dk_at dksJ24_checkForComodification_0 7 rfl rfl)
theorem dJ24_checkForComodification_8 : decode cJ24_checkForComodification 8 = .ok (.getfield 22, 3) := dk_180 0 22 (dk_at dksJ24_checkForComodification_0 8 rfl rfl)
theorem dJ24_checkForComodification_11 : decode cJ24_checkForComodification 11 = .ok (.if_icmp .eq 11, 3) := dk_159 0 11 (dk_at dksJ24_checkForComodification_0 11 rfl rfl)
theorem dJ24_checkForComodification_14 : decode cJ24_checkForComodification 14 = .ok (.new 41, 3) := dk_187 0 41 (dk_at dksJ24_checkForComodification_0 14 rfl rfl)
theorem dJ24_checkForComodification_22 : decode cJ24_checkForComodification 22 = .ok (.return_, 1) := dk_177 (dk_at dksJ24_checkForComodification_0 22 rfl rfl)
def wp_J24_checkForComodification (Z : zzG) (this : Option Nat) (M : zzM) (K : Option Value → zzM → Prop) : Prop := zgA Z M this [23] 3 fun x1 => zgI Z M x1 [18] 0 fun x2 => zgI Z M this [23] 2 fun x3 => if x2 = x3 then (K none M) else (False)
theorem ok_J24_checkForComodification {Z : zzG} {l : Launch} (hl : l.stackTraces = false) {this : Option Nat} {M : zzM} {mc ms : Nat} {K : Option Value → zzM → Prop} (hw : wp_J24_checkForComodification Z this M K) : zz_Met Z l yJ24_checkForComodification (zz_ws yJ24_checkForComodification cJ24_checkForComodification 1 none none) 1 [va_rf this] M mc ms K (fun _ _ _ => False) := by
  refine zz_ofW hl (plainFor_of_name (by decide)) (by simp only [zz_sl0, zz_slI, zz_slJ, zz_slA] <;> decide) (fun G hZ hll C E hH hR hin => ?_)
  subst hZ
  subst hll
  rw [show lv_args 0 [va_rf this] = [(0, va_rf this)] by simp only [zz_la0, zz_laI, zz_laJ, zz_laA]]
  unfold wp_J24_checkForComodification at hw
  refine zz_aload_n C dJ24_checkForComodification_0 rfl 0 rfl ?_
  refine zz_getA C dJ24_checkForComodification_1 (Or.inl q1157) zf_23_3__ArrayList_Itr hw (fun x1 hw => ?_)
  refine zz_getI C dJ24_checkForComodification_4 (Or.inl q189) zf_18_0_util_ArrayList hw (fun x2 hw => ?_)
  refine zz_aload_n C dJ24_checkForComodification_7 rfl 0 rfl ?_
  refine zz_getI C dJ24_checkForComodification_8 (Or.inl q1156) zf_23_2__ArrayList_Itr hw (fun x3 hw => ?_)
  refine zz_icmp_eq (tgt := 22) C dJ24_checkForComodification_11 (by decide) hw (fun hw => ?_) (fun hw => ?_)
  · exact zz_vret C E dJ24_checkForComodification_22 hw
  · exact hw.elim
abbrev cJ24_next : ByteArray := prog_60_method_3_code
def yJ24_next : MethodName := ⟨"java/util/ArrayList$Itr", "next", "()Ljava/lang/Object;"⟩
def dkwJ24_next_2 : List UInt8 := [183, 0, 43, 191, 42, 27, 4, 96, 181, 0, 25, 44, 42, 27, 90, 181, 0, 13, 50, 176]
abbrev dktJ24_next_2 : List UInt8 := dkwJ24_next_2 ++ []
def dkwJ24_next_1 : List UInt8 := [183, 0, 36, 191, 42, 180, 0, 1, 180, 0, 37, 77, 27, 44, 190, 161, 0, 11, 187, 0, 41, 89]
abbrev dktJ24_next_1 : List UInt8 := dkwJ24_next_1 ++ dktJ24_next_2
def dkwJ24_next_0 : List UInt8 := [42, 182, 0, 31, 42, 180, 0, 25, 60, 27, 42, 180, 0, 1, 180, 0, 28, 161, 0, 11, 187, 0, 34, 89]
abbrev dktJ24_next_0 : List UInt8 := dkwJ24_next_0 ++ dktJ24_next_1
theorem dksJ24_next_0 : cJ24_next.data.toList.drop 0 = dktJ24_next_0 := by decide +kernel
theorem dksJ24_next_1 : cJ24_next.data.toList.drop 24 = dktJ24_next_1 := dk_seg dksJ24_next_0 24 rfl rfl
theorem dksJ24_next_2 : cJ24_next.data.toList.drop 46 = dktJ24_next_2 := dk_seg dksJ24_next_1 22 rfl rfl
theorem dJ24_next_0 : decode cJ24_next 0 = .ok (.aload_n 0, 1) := dk_42 (dk_at dksJ24_next_0 0 rfl rfl)
theorem dJ24_next_1 : decode cJ24_next 1 = .ok (.invokevirtual 31, 3) := dk_182 0 31 (dk_at dksJ24_next_0 1 rfl rfl)
theorem dJ24_next_4 : decode cJ24_next 4 = .ok (.aload_n 0, 1) := dk_42 (dk_at dksJ24_next_0 4 rfl rfl)
theorem dJ24_next_5 : decode cJ24_next 5 = .ok (.getfield 25, 3) := dk_180 0 25 (dk_at dksJ24_next_0 5 rfl rfl)
theorem dJ24_next_8 : decode cJ24_next 8 = .ok (.istore_n 1, 1) := dk_60 (dk_at dksJ24_next_0 8 rfl rfl)
theorem dJ24_next_9 : decode cJ24_next 9 = .ok (.iload_n 1, 1) := dk_27 (dk_at dksJ24_next_0 9 rfl rfl)
theorem dJ24_next_10 : decode cJ24_next 10 = .ok (.aload_n 0, 1) := dk_42 (dk_at dksJ24_next_0 10 rfl rfl)
theorem dJ24_next_11 : decode cJ24_next 11 = .ok (.getfield 1, 3) := dk_180 0 1 (dk_at dksJ24_next_0 11 rfl rfl)
theorem dJ24_next_14 : decode cJ24_next 14 = .ok (.getfield 28, 3) := dk_180 0 28 (dk_at dksJ24_next_0 14 rfl rfl)
theorem dJ24_next_17 : decode cJ24_next 17 = .ok (.if_icmp .lt 11, 3) := dk_161 0 11 (dk_at dksJ24_next_0 17 rfl rfl)
theorem dJ24_next_20 : decode cJ24_next 20 = .ok (.new 34, 3) := dk_187 0 34 (dk_at dksJ24_next_0 20 rfl rfl)
theorem dJ24_next_28 : decode cJ24_next 28 = .ok (.aload_n 0, 1) := dk_42 (dk_at dksJ24_next_1 4 rfl rfl)
theorem dJ24_next_29 : decode cJ24_next 29 = .ok (.getfield 1, 3) := dk_180 0 1 (dk_at dksJ24_next_1 5 rfl rfl)
theorem dJ24_next_32 : decode cJ24_next 32 = .ok (.getfield 37, 3) := dk_180 0 37 (dk_at dksJ24_next_1 8 rfl rfl)
theorem dJ24_next_35 : decode cJ24_next 35 = .ok (.astore_n 2, 1) := dk_77 (dk_at dksJ24_next_1 11 rfl rfl)
theorem dJ24_next_36 : decode cJ24_next 36 = .ok (.iload_n 1, 1) := dk_27 (dk_at dksJ24_next_1 12 rfl rfl)
theorem dJ24_next_37 : decode cJ24_next 37 = .ok (.aload_n 2, 1) := dk_44 (dk_at dksJ24_next_1 13 rfl rfl)
theorem dJ24_next_38 : decode cJ24_next 38 = .ok (.arraylength, 1) := dk_190 (dk_at dksJ24_next_1 14 rfl rfl)
theorem dJ24_next_39 : decode cJ24_next 39 = .ok (.if_icmp .lt 11, 3) := dk_161 0 11 (dk_at dksJ24_next_1 15 rfl rfl)
theorem dJ24_next_42 : decode cJ24_next 42 = .ok (.new 41, 3) := dk_187 0 41 (dk_at dksJ24_next_1 18 rfl rfl)
theorem dJ24_next_50 : decode cJ24_next 50 = .ok (.aload_n 0, 1) := dk_42 (dk_at dksJ24_next_2 4 rfl rfl)
theorem dJ24_next_51 : decode cJ24_next 51 = .ok (.iload_n 1, 1) := dk_27 (dk_at dksJ24_next_2 5 rfl rfl)
theorem dJ24_next_52 : decode cJ24_next 52 = .ok (.iconst 1, 1) := dk_4 (dk_at dksJ24_next_2 6 rfl rfl)
theorem dJ24_next_53 : decode cJ24_next 53 = .ok (.iadd, 1) := dk_96 (dk_at dksJ24_next_2 7 rfl rfl)
theorem dJ24_next_54 : decode cJ24_next 54 = .ok (.putfield 25, 3) := dk_181 0 25 (dk_at dksJ24_next_2 8 rfl rfl)
theorem dJ24_next_57 : decode cJ24_next 57 = .ok (.aload_n 2, 1) := dk_44 (dk_at dksJ24_next_2 11 rfl rfl)
theorem dJ24_next_58 : decode cJ24_next 58 = .ok (.aload_n 0, 1) := dk_42 (dk_at dksJ24_next_2 12 rfl rfl)
theorem dJ24_next_59 : decode cJ24_next 59 = .ok (.iload_n 1, 1) := dk_27 (dk_at dksJ24_next_2 13 rfl rfl)
theorem dJ24_next_60 : decode cJ24_next 60 = .ok (.dup_x1, 1) := dk_90 (dk_at dksJ24_next_2 14 rfl rfl)
theorem dJ24_next_61 : decode cJ24_next 61 = .ok (.putfield 13, 3) := dk_181 0 13 (dk_at dksJ24_next_2 15 rfl rfl)
theorem dJ24_next_64 : decode cJ24_next 64 = .ok (.aaload, 1) := dk_50 (dk_at dksJ24_next_2 18 rfl rfl)
theorem dJ24_next_65 : decode cJ24_next 65 = .ok (.areturn, 1) := dk_176 (dk_at dksJ24_next_2 19 rfl rfl)
theorem q1189 : (Jvm.Cond.code ({ cls := "java/util/ArrayList$Itr", name := "checkForComodification", desc := "()V" } : Jvm.MethodName) prog_60_method_6_code (1 : Nat) (Option.none : Option Jvm.ClassFile.FieldType)) ∈ lw_all := lw_g (lw_at lw_m5 149 rfl) rfl
theorem zk_J24_checkForComodification : zz_cd yJ24_checkForComodification cJ24_checkForComodification 1 none none ∈ lw_all := q1189
theorem zy_J24_checkForComodification : zz_yok yJ24_checkForComodification 0 = true := by decide +kernel
theorem q185 : (Jvm.Cond.fieldLink "java/util/ArrayList$Itr" (37 : Nat) "java/util/ArrayList" "elementData" "[Ljava/lang/Object;") ∈ lw_all := lw_g (lw_at lw_m1 105 rfl) rfl
theorem zp_23_0 : zz_pok [23] 0 := zz_pok1 (zR_23, zT_23, 4) (by decide) rfl rfl
theorem q1186 : (Jvm.Cond.methodLink "java/util/ArrayList$Itr" (31 : Nat) ({ cls := "java/util/ArrayList$Itr", name := "checkForComodification", desc := "()V" } : Jvm.MethodName)) ∈ lw_all := lw_g (lw_at lw_m5 146 rfl) rfl
theorem q1187 : (Jvm.Cond.instanceMethod ({ cls := "java/util/ArrayList$Itr", name := "checkForComodification", desc := "()V" } : Jvm.MethodName)) ∈ lw_all := lw_g (lw_at lw_m5 147 rfl) rfl
theorem q1188 : (Jvm.Cond.selects "java/util/ArrayList$Itr" ({ cls := "java/util/ArrayList$Itr", name := "checkForComodification", desc := "()V" } : Jvm.MethodName) ({ cls := "java/util/ArrayList$Itr", name := "checkForComodification", desc := "()V" } : Jvm.MethodName)) ∈ lw_all := lw_g (lw_at lw_m5 148 rfl) rfl
def wp_J24_next (Z : zzG) (this : Option Nat) (M : zzM) (K : Option Value → zzM → Prop) : Prop := zty Z M this fun t => t = 23 ∧ wp_J24_checkForComodification Z this M (fun r1 M2 => zrV r1 (zgI Z M2 this [23] 0 fun x5 => zgA Z M2 this [23] 3 fun x6 => zgI Z M2 x6 [18] 2 fun x7 => if x5 < x7 then (zgA Z M2 this [23] 3 fun x8 => zgA Z M2 x8 [18] 1 fun x9 => zlen Z M2 x9 fun x10 => if x5 < x10 then (zput Z M2 this [23] 0 (.int (x5 + (1 : Int32))) fun M11 => zput Z M11 this [23] 1 (.int x5) fun M12 => zaA Z M12 x9 [103, 104, 105] x5 fun x13 => K (some (va_rf x13)) M12) else (False)) else (False)))
theorem ok_J24_next {Z : zzG} {l : Launch} (hl : l.stackTraces = false) {this : Option Nat} {M : zzM} {mc ms : Nat} {K : Option Value → zzM → Prop} (hw : wp_J24_next Z this M K) : zz_Met Z l yJ24_next (zz_ws yJ24_next cJ24_next 3 (some (.object "java/lang/Object")) none) 2 [va_rf this] M mc ms K (fun _ _ _ => False) := by
  refine zz_ofW hl (plainFor_of_name (by decide)) (by simp only [zz_sl0, zz_slI, zz_slJ, zz_slA] <;> decide) (fun G hZ hll C E hH hR hin => ?_)
  subst hZ
  subst hll
  rw [show lv_args 0 [va_rf this] = [(0, va_rf this)] by simp only [zz_la0, zz_laI, zz_laJ, zz_laA]]
  unfold wp_J24_next at hw
  refine zz_aload_n C dJ24_next_0 rfl 0 rfl ?_
  obtain ⟨a9, t9, b9, fs9, hro, hL, rfl, hw⟩ := ztyS hw
  refine zz_callV (r := (zR_23, zT_23, 4)) (As := []) (rest := []) (mc := 0) (ms := 0) C hR hro dJ24_next_1 (Or.inl q1186) q1187 (Or.inl q1188) zl_java_util_ArrayList_Itr zk_J24_checkForComodification (Or.inl rfl) zy_J24_checkForComodification rfl (by decide) (by decide) hL (ok_J24_checkForComodification (zz_hl C) hw) (Nat.zero_le _) (Nat.zero_le _) (zz_cat10 _ (Nat.le_of_ble_eq_true rfl)) (fun r1 M2 hw => zz_kV hw (fun hw => ?_)) (fun _ _ _ h9 => h9.elim) rfl
  refine zz_aload_n C dJ24_next_4 rfl 0 rfl ?_
  refine zz_getI C dJ24_next_5 (Or.inl q1154) zf_23_0__ArrayList_Itr hw (fun x5 hw => ?_)
  refine zz_istore_n (i := 1) (lv' := [(1, .int x5), (0, va_rf this)]) C dJ24_next_8 rfl (by decide) (by simp [zz_cat, zz_catI, zz_catJ, zz_catD]) ?_
  refine zz_iload_n C dJ24_next_9 rfl 0 rfl ?_
  refine zz_aload_n C dJ24_next_10 rfl 1 rfl ?_
  refine zz_getA C dJ24_next_11 (Or.inl q1157) zf_23_3__ArrayList_Itr hw (fun x6 hw => ?_)
  refine zz_getI C dJ24_next_14 (Or.inr ⟨_, q186⟩) zf_18_2_util_ArrayList hw (fun x7 hw => ?_)
  refine zz_icmp_lt (tgt := 28) C dJ24_next_17 (by decide) hw (fun hw => ?_) (fun hw => ?_)
  · refine zz_aload_n C dJ24_next_28 rfl 1 rfl ?_
    refine zz_getA C dJ24_next_29 (Or.inl q1157) zf_23_3__ArrayList_Itr hw (fun x8 hw => ?_)
    refine zz_getA C dJ24_next_32 (Or.inl q185) zf_18_1_util_ArrayList hw (fun x9 hw => ?_)
    refine zz_astore_n (i := 2) (lv' := [(2, va_rf x9), (1, .int x5), (0, va_rf this)]) C dJ24_next_35 rfl (by decide) rfl ?_
    refine zz_iload_n C dJ24_next_36 rfl 1 rfl ?_
    refine zz_aload_n C dJ24_next_37 rfl 0 rfl ?_
    refine zz_alen C dJ24_next_38 hw (fun x10 hw => ?_)
    refine zz_icmp_lt (tgt := 50) C dJ24_next_39 (by decide) hw (fun hw => ?_) (fun hw => ?_)
    · refine zz_aload_n C dJ24_next_50 rfl 2 rfl ?_
      refine zz_iload_n C dJ24_next_51 rfl 1 rfl ?_
      refine zz_iconst (v := (1 : Int32)) C dJ24_next_52 (by decide) ?_
      refine zz_iadd C dJ24_next_53 ?_
      refine zz_put C dJ24_next_54 (Or.inl q1154) zf_23_0__ArrayList_Itr zp_23_0 (zz_hn1 ⟨rfl, rfl⟩) hw (fun M11 hw => ?_)
      refine zz_aload_n C dJ24_next_57 rfl 0 rfl ?_
      refine zz_aload_n C dJ24_next_58 rfl 2 rfl ?_
      refine zz_iload_n C dJ24_next_59 rfl 1 rfl ?_
      refine zz_dup_x1 C dJ24_next_60 rfl (zz_cat _) ?_
      refine zz_put C dJ24_next_61 (Or.inl q1155) zf_23_1__ArrayList_Itr zp_23_1 (zz_hn1 ⟨rfl, rfl⟩) hw (fun M12 hw => ?_)
      refine zz_aald C dJ24_next_64 hw (fun x13 hw => ?_)
      exact zz_aret C E (Or.inl ⟨_, rfl⟩) dJ24_next_65 hw
    · exact hw.elim
  · exact hw.elim
abbrev cX1_conceded : ByteArray := prog_1_method_13_code
def yX1_conceded : MethodName := ⟨"DebateHall", "conceded", "(I)I"⟩
def dkwX1_conceded_2 : List UInt8 := [25, 4, 180, 0, 143, 27, 160, 0, 7, 4, 167, 0, 4, 3, 96, 61, 167, 255, 206, 28, 172]
abbrev dktX1_conceded_2 : List UInt8 := dkwX1_conceded_2 ++ []
def dkwX1_conceded_1 : List UInt8 := [185, 0, 116, 1, 0, 192, 0, 68, 58, 4, 28, 25, 4, 180, 0, 146, 153, 0, 21, 27, 2, 159, 0, 12]
abbrev dktX1_conceded_1 : List UInt8 := dkwX1_conceded_1 ++ dktX1_conceded_2
def dkwX1_conceded_0 : List UInt8 := [3, 61, 42, 180, 0, 36, 180, 0, 61, 182, 0, 138, 78, 45, 185, 0, 110, 1, 0, 153, 0, 47, 45]
abbrev dktX1_conceded_0 : List UInt8 := dkwX1_conceded_0 ++ dktX1_conceded_1
theorem dksX1_conceded_0 : cX1_conceded.data.toList.drop 0 = dktX1_conceded_0 := by decide +kernel
theorem dksX1_conceded_1 : cX1_conceded.data.toList.drop 23 = dktX1_conceded_1 := dk_seg dksX1_conceded_0 23 rfl rfl
theorem dksX1_conceded_2 : cX1_conceded.data.toList.drop 47 = dktX1_conceded_2 := dk_seg dksX1_conceded_1 24 rfl rfl
theorem dX1_conceded_0 : decode cX1_conceded 0 = .ok (.iconst 0, 1) := dk_3 (dk_at dksX1_conceded_0 0 rfl rfl)
theorem dX1_conceded_1 : decode cX1_conceded 1 = .ok (.istore_n 2, 1) := dk_61 (dk_at dksX1_conceded_0 1 rfl rfl)
theorem dX1_conceded_2 : decode cX1_conceded 2 = .ok (.aload_n 0, 1) := dk_42 (dk_at dksX1_conceded_0 2 rfl rfl)
theorem dX1_conceded_3 : decode cX1_conceded 3 = .ok (.getfield 36, 3) := dk_180 0 36 (dk_at dksX1_conceded_0 3 rfl rfl)
theorem dX1_conceded_6 : decode cX1_conceded 6 = .ok (.getfield 61, 3) := dk_180 0 61 (dk_at dksX1_conceded_0 6 rfl rfl)
theorem dX1_conceded_9 : decode cX1_conceded 9 = .ok (.invokevirtual 138, 3) := dk_182 0 138 (dk_at dksX1_conceded_0 9 rfl rfl)
theorem dX1_conceded_12 : decode cX1_conceded 12 = .ok (.astore_n 3, 1) := dk_78 (dk_at dksX1_conceded_0 12 rfl rfl)
theorem dX1_conceded_13 : decode cX1_conceded 13 = .ok (.aload_n 3, 1) := dk_45 (dk_at dksX1_conceded_0 13 rfl rfl)
theorem dX1_conceded_14 : decode cX1_conceded 14 = .ok (.invokeinterface 110 1, 5) := by decide +kernel
theorem dX1_conceded_19 : decode cX1_conceded 19 = .ok (.ifCond .eq 47, 3) := dk_153 0 47 (dk_at dksX1_conceded_0 19 rfl rfl)
theorem dX1_conceded_22 : decode cX1_conceded 22 = .ok (.aload_n 3, 1) := dk_45 (dk_at dksX1_conceded_0 22 rfl rfl)
theorem dX1_conceded_23 : decode cX1_conceded 23 = .ok (.invokeinterface 116 1, 5) := by decide +kernel
theorem dX1_conceded_28 : decode cX1_conceded 28 = .ok (.checkcast 68, 3) := dk_192 0 68 (dk_at dksX1_conceded_1 5 rfl rfl)
theorem dX1_conceded_31 : decode cX1_conceded 31 = .ok (.astore 4, 2) := dk_58 4 (dk_at dksX1_conceded_1 8 rfl rfl)
theorem dX1_conceded_33 : decode cX1_conceded 33 = .ok (.iload_n 2, 1) := dk_28 (dk_at dksX1_conceded_1 10 rfl rfl)
theorem dX1_conceded_34 : decode cX1_conceded 34 = .ok (.aload 4, 2) := dk_25 4 (dk_at dksX1_conceded_1 11 rfl rfl)
theorem dX1_conceded_36 : decode cX1_conceded 36 = .ok (.getfield 146, 3) := dk_180 0 146 (dk_at dksX1_conceded_1 13 rfl rfl)
theorem dX1_conceded_39 : decode cX1_conceded 39 = .ok (.ifCond .eq 21, 3) := dk_153 0 21 (dk_at dksX1_conceded_1 16 rfl rfl)
theorem dX1_conceded_42 : decode cX1_conceded 42 = .ok (.iload_n 1, 1) := dk_27 (dk_at dksX1_conceded_1 19 rfl rfl)
theorem dX1_conceded_43 : decode cX1_conceded 43 = .ok (.iconst (-1), 1) := dk_2 (dk_at dksX1_conceded_1 20 rfl rfl)
theorem dX1_conceded_44 : decode cX1_conceded 44 = .ok (.if_icmp .eq 12, 3) := dk_159 0 12 (dk_at dksX1_conceded_1 21 rfl rfl)
theorem dX1_conceded_47 : decode cX1_conceded 47 = .ok (.aload 4, 2) := dk_25 4 (dk_at dksX1_conceded_2 0 rfl rfl)
theorem dX1_conceded_49 : decode cX1_conceded 49 = .ok (.getfield 143, 3) := dk_180 0 143 (dk_at dksX1_conceded_2 2 rfl rfl)
theorem dX1_conceded_52 : decode cX1_conceded 52 = .ok (.iload_n 1, 1) := dk_27 (dk_at dksX1_conceded_2 5 rfl rfl)
theorem dX1_conceded_53 : decode cX1_conceded 53 = .ok (.if_icmp .ne 7, 3) := dk_160 0 7 (dk_at dksX1_conceded_2 6 rfl rfl)
theorem dX1_conceded_56 : decode cX1_conceded 56 = .ok (.iconst 1, 1) := dk_4 (dk_at dksX1_conceded_2 9 rfl rfl)
theorem dX1_conceded_57 : decode cX1_conceded 57 = .ok (.goto 4, 3) := dk_167 0 4 (dk_at dksX1_conceded_2 10 rfl rfl)
theorem dX1_conceded_60 : decode cX1_conceded 60 = .ok (.iconst 0, 1) := dk_3 (dk_at dksX1_conceded_2 13 rfl rfl)
theorem dX1_conceded_61 : decode cX1_conceded 61 = .ok (.iadd, 1) := dk_96 (dk_at dksX1_conceded_2 14 rfl rfl)
theorem dX1_conceded_62 : decode cX1_conceded 62 = .ok (.istore_n 2, 1) := dk_61 (dk_at dksX1_conceded_2 15 rfl rfl)
theorem dX1_conceded_63 : decode cX1_conceded 63 = .ok (.goto (-50), 3) := dk_167 255 206 (dk_at dksX1_conceded_2 16 rfl rfl)
theorem dX1_conceded_66 : decode cX1_conceded 66 = .ok (.iload_n 2, 1) := dk_28 (dk_at dksX1_conceded_2 19 rfl rfl)
theorem dX1_conceded_67 : decode cX1_conceded 67 = .ok (.ireturn, 1) := dk_172 (dk_at dksX1_conceded_2 20 rfl rfl)
theorem q239 : (Jvm.Cond.fieldLinkNest "DebateHall" (61 : Nat) "DebateHall$Minutes" "items" "Ljava/util/ArrayList;" "DebateHall") ∈ lw_tbl := lw_at lw_m1 159 rfl
theorem q1147 : (Jvm.Cond.code ({ cls := "java/util/ArrayList", name := "iterator", desc := "()Ljava/util/Iterator;" } : Jvm.MethodName) prog_59_method_55_code (1 : Nat) (Option.some (Jvm.ClassFile.FieldType.object "java/util/Iterator"))) ∈ lw_all := lw_g (lw_at lw_m5 107 rfl) rfl
theorem zk_J2_iterator : zz_cd yJ2_iterator cJ2_iterator 1 (some (.object "java/util/Iterator")) none ∈ lw_all := q1147
theorem zy_J2_iterator : zz_yok yJ2_iterator 0 = true := by decide +kernel
theorem q2104 : (Jvm.Cond.methodLink "DebateHall" (138 : Nat) ({ cls := "java/util/ArrayList", name := "iterator", desc := "()Ljava/util/Iterator;" } : Jvm.MethodName)) ∈ lw_all := lw_g (lw_at lw_m9 104 rfl) rfl
theorem q1145 : (Jvm.Cond.instanceMethod ({ cls := "java/util/ArrayList", name := "iterator", desc := "()Ljava/util/Iterator;" } : Jvm.MethodName)) ∈ lw_all := lw_g (lw_at lw_m5 105 rfl) rfl
theorem q1146 : (Jvm.Cond.selects "java/util/ArrayList" ({ cls := "java/util/ArrayList", name := "iterator", desc := "()Ljava/util/Iterator;" } : Jvm.MethodName) ({ cls := "java/util/ArrayList", name := "iterator", desc := "()Ljava/util/Iterator;" } : Jvm.MethodName)) ∈ lw_all := lw_g (lw_at lw_m5 106 rfl) rfl
theorem q1176 : (Jvm.Cond.code ({ cls := "java/util/ArrayList$Itr", name := "hasNext", desc := "()Z" } : Jvm.MethodName) prog_60_method_2_code (1 : Nat) (Option.some Jvm.ClassFile.FieldType.boolean)) ∈ lw_all := lw_g (lw_at lw_m5 136 rfl) rfl
theorem zk_J24_hasNext : zz_cd yJ24_hasNext cJ24_hasNext 1 (some .boolean) none ∈ lw_all := q1176
theorem zy_J24_hasNext : zz_yok yJ24_hasNext 0 = true := by decide +kernel
theorem q1185 : (Jvm.Cond.code ({ cls := "java/util/ArrayList$Itr", name := "next", desc := "()Ljava/lang/Object;" } : Jvm.MethodName) prog_60_method_3_code (3 : Nat) (Option.some (Jvm.ClassFile.FieldType.object "java/lang/Object"))) ∈ lw_all := lw_g (lw_at lw_m5 145 rfl) rfl
theorem zk_J24_next : zz_cd yJ24_next cJ24_next 3 (some (.object "java/lang/Object")) none ∈ lw_all := q1185
theorem zy_J24_next : zz_yok yJ24_next 0 = true := by decide +kernel
theorem q2105 : (Jvm.Cond.classLink "DebateHall" (68 : Nat) "DebateHall$Item") ∈ lw_all := lw_g (lw_at lw_m9 105 rfl) rfl
theorem zc_15_ebateHall_Item : zz_cok [15] "DebateHall$Item" := by
  intro t ht
  simp only [List.mem_cons, List.not_mem_nil, or_false] at ht
  rcases ht with rfl
  · exact ⟨(zR_15, zT_15, 8), rfl, Or.inl rfl⟩
theorem zf_15_7_ebateHall_Item : zz_fok [15] 7 "DebateHall$Item" "isConceded" "Z" := zz_fok1 (zR_15, zT_15, 8) rfl (by decide) rfl rfl (Or.inl rfl)
theorem q1763 : (Jvm.Cond.fieldLinkNest "DebateHall" (146 : Nat) "DebateHall$Item" "isConceded" "Z" "DebateHall") ∈ lw_tbl := lw_at lw_m8 3 rfl
theorem zf_15_3_ebateHall_Item : zz_fok [15] 3 "DebateHall$Item" "speaker" "I" := zz_fok1 (zR_15, zT_15, 8) rfl (by decide) rfl rfl (Or.inl rfl)
theorem q1749 : (Jvm.Cond.fieldLinkNest "DebateHall" (143 : Nat) "DebateHall$Item" "speaker" "I" "DebateHall") ∈ lw_tbl := lw_at lw_m7 229 rfl
theorem q1795 : (Jvm.Cond.methodLink "DebateHall" (116 : Nat) ({ cls := "java/util/Iterator", name := "next", desc := "()Ljava/lang/Object;" } : Jvm.MethodName)) ∈ lw_all := lw_g (lw_at lw_m8 35 rfl) rfl
theorem q1183 : (Jvm.Cond.instanceMethod ({ cls := "java/util/ArrayList$Itr", name := "next", desc := "()Ljava/lang/Object;" } : Jvm.MethodName)) ∈ lw_all := lw_g (lw_at lw_m5 143 rfl) rfl
theorem q1181 : (Jvm.Cond.selects "java/util/ArrayList$Itr" ({ cls := "java/util/Iterator", name := "next", desc := "()Ljava/lang/Object;" } : Jvm.MethodName) ({ cls := "java/util/ArrayList$Itr", name := "next", desc := "()Ljava/lang/Object;" } : Jvm.MethodName)) ∈ lw_all := lw_g (lw_at lw_m5 141 rfl) rfl
theorem zyo_java_util_Iterator_next___Ljava_lang_Object_ : zz_yok ⟨"java/util/Iterator", "next", "()Ljava/lang/Object;"⟩ 0 = true := by decide +kernel
theorem q1793 : (Jvm.Cond.methodLink "DebateHall" (110 : Nat) ({ cls := "java/util/Iterator", name := "hasNext", desc := "()Z" } : Jvm.MethodName)) ∈ lw_all := lw_g (lw_at lw_m8 33 rfl) rfl
theorem q1174 : (Jvm.Cond.instanceMethod ({ cls := "java/util/ArrayList$Itr", name := "hasNext", desc := "()Z" } : Jvm.MethodName)) ∈ lw_all := lw_g (lw_at lw_m5 134 rfl) rfl
theorem q1172 : (Jvm.Cond.selects "java/util/ArrayList$Itr" ({ cls := "java/util/Iterator", name := "hasNext", desc := "()Z" } : Jvm.MethodName) ({ cls := "java/util/ArrayList$Itr", name := "hasNext", desc := "()Z" } : Jvm.MethodName)) ∈ lw_all := lw_g (lw_at lw_m5 132 rfl) rfl
theorem zyo_java_util_Iterator_hasNext___Z : zz_yok ⟨"java/util/Iterator", "hasNext", "()Z"⟩ 0 = true := by decide +kernel
def wp_X1_conceded_B61 (Z : zzG) (k13 : Int32 → Int32 → Option Nat → zzM → Nat → Nat → Prop) (K : Option Value → zzM → Prop) (v1 : Int32) (v3 : Option Nat) (s0 : Int32) (s1 : Int32) (M : zzM) (bc bs : Nat) : Prop := k13 v1 (s1 + s0) v3 M bc bs
def wp_X1_conceded_B56 (Z : zzG) (k13 : Int32 → Int32 → Option Nat → zzM → Nat → Nat → Prop) (K : Option Value → zzM → Prop) (v1 : Int32) (v3 : Option Nat) (s0 : Int32) (M : zzM) (bc bs : Nat) : Prop := wp_X1_conceded_B61 Z k13 K v1 v3 (1 : Int32) s0 M bc bs
def wp_X1_conceded_B60 (Z : zzG) (k13 : Int32 → Int32 → Option Nat → zzM → Nat → Nat → Prop) (K : Option Value → zzM → Prop) (v1 : Int32) (v3 : Option Nat) (s0 : Int32) (M : zzM) (bc bs : Nat) : Prop := wp_X1_conceded_B61 Z k13 K v1 v3 (0 : Int32) s0 M bc bs
def wp_X1_conceded_L13 (Z : zzG) (K : Option Value → zzM → Prop) : Nat → Int32 → Int32 → Option Nat → zzM → Nat → Nat → Prop
  | 0, _, _, _, _, _, _ => False
  | n + 1, v1, v2, v3, M, bc, bs => zty Z M v3 fun t => t = 23 ∧ wp_J24_hasNext Z v3 M (fun r8 M9 => zrI r8 fun x12 => if x12 = 0 then (K (some (.int v2)) M9) else (zty Z M9 v3 fun t => t = 23 ∧ wp_J24_next Z v3 M9 (fun r13 M14 => zrA r13 fun x17 => zcast Z M14 x17 [15] <| zgI Z M14 x17 [15] 7 fun x18 => if x18 = 0 then (wp_X1_conceded_B60 Z (wp_X1_conceded_L13 Z K n) K v1 v3 v2 M14 bc bs) else (if v1 = (-1 : Int32) then (wp_X1_conceded_B56 Z (wp_X1_conceded_L13 Z K n) K v1 v3 v2 M14 bc bs) else (zgI Z M14 x17 [15] 3 fun x19 => if x19 = v1 then (wp_X1_conceded_B56 Z (wp_X1_conceded_L13 Z K n) K v1 v3 v2 M14 bc bs) else (wp_X1_conceded_B60 Z (wp_X1_conceded_L13 Z K n) K v1 v3 v2 M14 bc bs))))))
def wp_X1_conceded (Z : zzG) (this : Option Nat) (p0 : Int32) (M : zzM) (bc bs : Nat) (K : Option Value → zzM → Prop) : Prop := zgA Z M this [0] 2 fun x1 => zgA Z M x1 [2] 1 fun x2 => zty Z M x2 fun t => t = 18 ∧ zcc bc bs (fun c s k => wp_J2_iterator Z x2 M c s k) fun r3 M4 bc5 bs6 => zrA r3 fun x7 => ∃ n13 : Nat, wp_X1_conceded_L13 Z K n13 p0 (0 : Int32) x7 M4 bc5 bs6
theorem ok_X1_conceded_B61 {G : zzX} (C : zz_C G cX1_conceded "DebateHall" 5) {K : Option Value → zzM → Prop} (E : zz_E G (some .int) K (fun _ _ _ => False)) (hH : zz_H G []) (hR : zz_Rm G 4) {k13 : Int32 → Int32 → Option Nat → zzM → Nat → Nat → Prop} (hk13 : ∀ (z0 : Int32) (z1 : Int32) (z2 : Option Nat) (M : zzM) (bc bs : Nat), k13 z0 z1 z2 M bc bs → zz_T G 5 M bc bs 13 [(1, .int z0), (2, .int z1), (3, va_rf z2)] []) {v1 : Int32} {v3 : Option Nat} {s0 : Int32} {s1 : Int32} {M : zzM} {bc bs : Nat} (hw : wp_X1_conceded_B61 (zz_Zof G) k13 K v1 v3 s0 s1 M bc bs) : zz_T G 5 M bc bs 61 [(1, .int v1), (3, va_rf v3)] [.int s0, .int s1] := by
  unfold wp_X1_conceded_B61 at hw
  refine zz_iadd C dX1_conceded_61 ?_
  refine zz_istore_n (i := 2) (lv' := [(2, .int (s1 + s0)), (1, .int v1), (3, va_rf v3)]) C dX1_conceded_62 rfl (by decide) rfl ?_
  refine zz_goto (tgt := 13) C dX1_conceded_63 (by decide) ?_
  refine zz_subP [1, 0, 2] rfl ?_
  exact hk13 _ _ _ _ _ _ hw
theorem ok_X1_conceded_B56 {G : zzX} (C : zz_C G cX1_conceded "DebateHall" 5) {K : Option Value → zzM → Prop} (E : zz_E G (some .int) K (fun _ _ _ => False)) (hH : zz_H G []) (hR : zz_Rm G 4) {k13 : Int32 → Int32 → Option Nat → zzM → Nat → Nat → Prop} (hk13 : ∀ (z0 : Int32) (z1 : Int32) (z2 : Option Nat) (M : zzM) (bc bs : Nat), k13 z0 z1 z2 M bc bs → zz_T G 5 M bc bs 13 [(1, .int z0), (2, .int z1), (3, va_rf z2)] []) {v1 : Int32} {v3 : Option Nat} {s0 : Int32} {M : zzM} {bc bs : Nat} (hw : wp_X1_conceded_B56 (zz_Zof G) k13 K v1 v3 s0 M bc bs) : zz_T G 5 M bc bs 56 [(1, .int v1), (3, va_rf v3)] [.int s0] := by
  unfold wp_X1_conceded_B56 at hw
  refine zz_iconst (v := (1 : Int32)) C dX1_conceded_56 (by decide) ?_
  refine zz_goto (tgt := 61) C dX1_conceded_57 (by decide) ?_
  refine zz_subP [0, 1] rfl ?_
  exact ok_X1_conceded_B61 C E hH hR hk13 hw
theorem ok_X1_conceded_B60 {G : zzX} (C : zz_C G cX1_conceded "DebateHall" 5) {K : Option Value → zzM → Prop} (E : zz_E G (some .int) K (fun _ _ _ => False)) (hH : zz_H G []) (hR : zz_Rm G 4) {k13 : Int32 → Int32 → Option Nat → zzM → Nat → Nat → Prop} (hk13 : ∀ (z0 : Int32) (z1 : Int32) (z2 : Option Nat) (M : zzM) (bc bs : Nat), k13 z0 z1 z2 M bc bs → zz_T G 5 M bc bs 13 [(1, .int z0), (2, .int z1), (3, va_rf z2)] []) {v1 : Int32} {v3 : Option Nat} {s0 : Int32} {M : zzM} {bc bs : Nat} (hw : wp_X1_conceded_B60 (zz_Zof G) k13 K v1 v3 s0 M bc bs) : zz_T G 5 M bc bs 60 [(1, .int v1), (3, va_rf v3)] [.int s0] := by
  unfold wp_X1_conceded_B60 at hw
  refine zz_iconst (v := (0 : Int32)) C dX1_conceded_60 (by decide) ?_
  refine zz_subP [0, 1] rfl ?_
  exact ok_X1_conceded_B61 C E hH hR hk13 hw
theorem ok_X1_conceded_L13 {G : zzX} (C : zz_C G cX1_conceded "DebateHall" 5) {K : Option Value → zzM → Prop} (E : zz_E G (some .int) K (fun _ _ _ => False)) (hH : zz_H G []) (hR : zz_Rm G 4) : ∀ (n : Nat) (v1 : Int32) (v2 : Int32) (v3 : Option Nat) (M : zzM) (bc bs : Nat), wp_X1_conceded_L13 (zz_Zof G) K n v1 v2 v3 M bc bs → zz_T G 5 M bc bs 13 [(1, .int v1), (2, .int v2), (3, va_rf v3)] [] := by
  intro n
  induction n with
  | zero =>
    intro v1 v2 v3 M bc bs hw
    exact False.elim hw
  | succ n ih =>
    intro v1 v2 v3 M bc bs hw
    refine zz_aload_n C dX1_conceded_13 rfl 2 rfl ?_
    obtain ⟨a9, t9, b9, fs9, hro, hL, rfl, hw⟩ := ztyS hw
    refine zz_callF (r := (zR_23, zT_23, 4)) (x := ⟨"java/util/Iterator", "hasNext", "()Z"⟩) (As := []) (rest := []) (mc := 0) (ms := 0) C hR hro dX1_conceded_14 q1793 (by decide +kernel) q1174 q1172 zl_java_util_ArrayList_Itr zk_J24_hasNext zyo_java_util_Iterator_hasNext___Z rfl (by decide) (by decide) hL (ok_J24_hasNext (zz_hl C) hw) (Nat.zero_le _) (Nat.zero_le _) (zz_cat10 _ (Nat.le_of_ble_eq_true rfl)) (fun r8 M9 hw => zz_kI hw (fun x12 hw => ?_)) (fun _ _ _ h9 => h9.elim) rfl
    refine zz_if_eq (tgt := 66) C dX1_conceded_19 (by decide) hw (fun hw => ?_) (fun hw => ?_)
    · refine zz_iload_n C dX1_conceded_66 rfl 1 rfl ?_
      exact zz_iret C E dX1_conceded_67 hw
    · refine zz_aload_n C dX1_conceded_22 rfl 2 rfl ?_
      obtain ⟨a9, t9, b9, fs9, hro, hL, rfl, hw⟩ := ztyS hw
      refine zz_callF (r := (zR_23, zT_23, 4)) (x := ⟨"java/util/Iterator", "next", "()Ljava/lang/Object;"⟩) (As := []) (rest := []) (mc := 0) (ms := 0) C hR hro dX1_conceded_23 q1795 (by decide +kernel) q1183 q1181 zl_java_util_ArrayList_Itr zk_J24_next zyo_java_util_Iterator_next___Ljava_lang_Object_ rfl (by decide) (by decide) hL (ok_J24_next (zz_hl C) hw) (Nat.zero_le _) (Nat.zero_le _) (zz_cat10 _ (Nat.le_of_ble_eq_true rfl)) (fun r13 M14 hw => zz_kA hw (fun x17 hw => ?_)) (fun _ _ _ h9 => h9.elim) rfl
      refine zz_cast C dX1_conceded_28 q2105 zc_15_ebateHall_Item hw (fun hw => ?_)
      refine zz_astore (lv' := [(4, va_rf x17), (1, .int v1), (2, .int v2), (3, va_rf v3)]) C dX1_conceded_31 (by decide) (by simp [zz_cat, zz_catI, zz_catJ, zz_catD]) ?_
      refine zz_iload_n C dX1_conceded_33 rfl 2 rfl ?_
      refine zz_aload C dX1_conceded_34 0 rfl ?_
      refine zz_getI C dX1_conceded_36 (Or.inr ⟨_, q1763⟩) zf_15_7_ebateHall_Item hw (fun x18 hw => ?_)
      refine zz_if_eq (tgt := 60) C dX1_conceded_39 (by decide) hw (fun hw => ?_) (fun hw => ?_)
      · refine zz_subP [1, 3] rfl ?_
        exact ok_X1_conceded_B60 C E hH hR (fun z0 z1 z2 z3 z4 z5 hw => ih z0 z1 z2 z3 z4 z5 hw) hw
      · refine zz_iload_n C dX1_conceded_42 rfl 1 rfl ?_
        refine zz_iconst (v := (-1 : Int32)) C dX1_conceded_43 (by decide) ?_
        refine zz_icmp_eq (tgt := 56) C dX1_conceded_44 (by decide) hw (fun hw => ?_) (fun hw => ?_)
        · refine zz_subP [1, 3] rfl ?_
          exact ok_X1_conceded_B56 C E hH hR (fun z0 z1 z2 z3 z4 z5 hw => ih z0 z1 z2 z3 z4 z5 hw) hw
        · refine zz_aload C dX1_conceded_47 0 rfl ?_
          refine zz_getI C dX1_conceded_49 (Or.inr ⟨_, q1749⟩) zf_15_3_ebateHall_Item hw (fun x19 hw => ?_)
          refine zz_iload_n C dX1_conceded_52 rfl 1 rfl ?_
          refine zz_icmp_ne (tgt := 60) C dX1_conceded_53 (by decide) hw (fun hw => ?_) (fun hw => ?_)
          · refine zz_subP [1, 3] rfl ?_
            exact ok_X1_conceded_B60 C E hH hR (fun z0 z1 z2 z3 z4 z5 hw => ih z0 z1 z2 z3 z4 z5 hw) hw
          · refine zz_subP [1, 3] rfl ?_
            exact ok_X1_conceded_B56 C E hH hR (fun z0 z1 z2 z3 z4 z5 hw => ih z0 z1 z2 z3 z4 z5 hw) hw
theorem ok_X1_conceded {Z : zzG} {l : Launch} (hl : l.stackTraces = false) {this : Option Nat} {p0 : Int32} {M : zzM} {mc ms : Nat} {K : Option Value → zzM → Prop} (hw : wp_X1_conceded Z this p0 M mc ms K) : zz_Met Z l yX1_conceded (zz_ws yX1_conceded cX1_conceded 5 (some .int) none) 4 [va_rf this, .int p0] M mc ms K (fun _ _ _ => False) := by
  refine zz_ofW hl (plainFor_of_name (by decide)) (by simp only [zz_sl0, zz_slI, zz_slJ, zz_slA] <;> decide) (fun G hZ hll C E hH hR hin => ?_)
  subst hZ
  subst hll
  rw [show lv_args 0 [va_rf this, .int p0] = [(0, va_rf this), (1, .int p0)] by simp only [zz_la0, zz_laI, zz_laJ, zz_laA]]
  unfold wp_X1_conceded at hw
  refine zz_iconst (v := (0 : Int32)) C dX1_conceded_0 (by decide) ?_
  refine zz_istore_n (i := 2) (lv' := [(2, .int (0 : Int32)), (0, va_rf this), (1, .int p0)]) C dX1_conceded_1 rfl (by decide) rfl ?_
  refine zz_aload_n C dX1_conceded_2 rfl 1 rfl ?_
  refine zz_getA C dX1_conceded_3 (Or.inl q305) zf_0_2_DebateHall hw (fun x1 hw => ?_)
  refine zz_getA C dX1_conceded_6 (Or.inr ⟨_, q239⟩) zf_2_1_teHall_Minutes hw (fun x2 hw => ?_)
  obtain ⟨a9, t9, b9, fs9, hro, hL, rfl, hw⟩ := ztyS hw
  obtain ⟨c9, s9, hc9, hs9, hw⟩ := hw
  refine zz_callV (r := (zR_18, zT_18, 3)) (As := []) (rest := []) C hR hro dX1_conceded_9 (Or.inl q2104) q1145 (Or.inl q1146) zl_java_util_ArrayList zk_J2_iterator (Or.inl rfl) zy_J2_iterator rfl (by decide) (by decide) hL (ok_J2_iterator (zz_hl C) hw) hc9 hs9 (zz_cat10 _ (Nat.le_of_ble_eq_true rfl)) (fun r3 M4 hw => zz_kA hw (fun x7 hw => ?_)) (fun _ _ _ h9 => h9.elim) rfl
  refine zz_astore_n (i := 3) (lv' := [(3, va_rf x7), (2, .int (0 : Int32)), (0, va_rf this), (1, .int p0)]) C dX1_conceded_12 rfl (by decide) rfl ?_
  refine zz_subP [3, 1, 0] rfl ?_
  obtain ⟨n13, hw⟩ := hw
  exact ok_X1_conceded_L13 C E hH hR n13 _ _ _ _ _ _ hw
