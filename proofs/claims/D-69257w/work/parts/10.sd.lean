/-! DECODE ROWS BY BYTES: one lemma an opcode; a method's code is cut into short pieces once, and a row reads its own piece alone. -/
set_option maxRecDepth 100000
/-- the code has just these bytes from pc on -/
def DkAt (code : ByteArray) (pc : Nat) (bs : List UInt8) : Prop := ∀ (j : Nat) (b : UInt8), bs[j]? = some b → code.data.toList[pc + j]? = some b
/-- the piece W has the bytes bs from its place j on -/
def dkIn (W : List UInt8) (j : Nat) (bs : List UInt8) : Bool := decide ((W.drop j).take bs.length = bs)
theorem dk_seg {l W T : List UInt8} {o o2 : Nat} (h : l.drop o = W ++ T) (n : Nat) (hn : W.length = n) (ho : o + n = o2) : l.drop o2 = T := by
  subst ho
  rw [← List.drop_drop, h, List.drop_left' hn]
theorem dk_at {code : ByteArray} {W T bs : List UInt8} {o pc : Nat} (h : code.data.toList.drop o = W ++ T) (j : Nat) (hp : o + j = pc) (hw : dkIn W j bs = true) : DkAt code pc bs := by
  subst hp
  intro i b e
  have h1 := of_decide_eq_true hw
  have h2 : i < bs.length := (List.getElem?_eq_some_iff.mp e).1
  have h3 : W[j + i]? = some b := by
    rw [← h1, List.getElem?_take, if_pos h2, List.getElem?_drop] at e
    exact e
  have h4 : j + i < W.length := (List.getElem?_eq_some_iff.mp h3).1
  have h5 : (code.data.toList.drop o)[j + i]? = some b := by
    rw [h, List.getElem?_append_left h4]
    exact h3
  rw [List.getElem?_drop, ← Nat.add_assoc] at h5
  exact h5
theorem dk_u1 {A : ByteArray} {p : Nat} {b : UInt8} (h : A.data.toList[p]? = some b) : (Reader.u1 : Reader DecodeError Nat) A p = .ok (b.toNat, p + 1) := by
  obtain ⟨h1, h2⟩ := List.getElem?_eq_some_iff.mp h
  have h3 : p < A.size := by simpa using h1
  have h4 : A[p]'h3 = b := h2
  have e : (Reader.u1 : Reader DecodeError Nat) A p = (if h : p < A.size then .ok (A[p].toNat, p + 1) else .error (HasTruncated.truncated p)) := by
    show (do if h : p < A.size then do set (p + 1); Pure.pure A[p].toNat else MonadExcept.throw (HasTruncated.truncated p) : Reader DecodeError Nat) A p = _
    by_cases hi : p < A.size
    · rw [dif_pos hi, dif_pos hi]; rfl
    · rw [dif_neg hi, dif_neg hi]; rfl
  rw [e, dif_pos h3, h4]
theorem dk_bind {α β : Type} {r : Reader DecodeError α} {f : α → Reader DecodeError β} {A : ByteArray} {p s : Nat} {a : α} (h : r A p = .ok (a, s)) : (r >>= f) A p = f a A s := by
  show (do let (a, s) ← r A p; f a A s : Except DecodeError (β × Nat)) = _
  rw [h]
  rfl
theorem dk_map {α β : Type} {r : Reader DecodeError α} {g : α → β} {A : ByteArray} {p s : Nat} {a : α} (h : r A p = .ok (a, s)) : (g <$> r) A p = .ok (g a, s) := by
  show (do let (a, s) ← r A p; .ok (g a, s) : Except DecodeError (β × Nat)) = _
  rw [h]
  rfl
theorem dk_u2 {A : ByteArray} {p : Nat} {a b : UInt8} (h : A.data.toList[p]? = some a) (h2 : A.data.toList[p + 1]? = some b) : (Reader.u2 : Reader DecodeError Nat) A p = .ok (a.toNat * 256 + b.toNat, p + 2) := by
  show (Reader.u1 >>= fun hi => Reader.u1 >>= fun lo => Pure.pure (hi * 256 + lo) : Reader DecodeError Nat) A p = _
  rw [dk_bind (dk_u1 h), dk_bind (dk_u1 h2)]
  rfl
theorem dk_of {code : ByteArray} {pc n : Nat} {i : Instr} (h : Decoder.instr pc code pc = .ok (i, pc + n)) : decode code pc = .ok (i, n) := by
  have e : decode code pc = (match Decoder.instr pc code pc with | .error x => .error x | .ok (j, s) => .ok (j, s - pc)) := by
    show (do let (j, s) ← Decoder.instr pc code pc; Pure.pure (j, s - pc) : Except DecodeError (Instr × Nat)) = _
    cases Decoder.instr pc code pc <;> rfl
  rw [e, h]
  show Except.ok (i, pc + n - pc) = _
  rw [Nat.add_sub_cancel_left]
theorem dk_1 {code : ByteArray} {pc : Nat} (h : DkAt code pc [1]) : decode code pc = .ok (.aconst_null, 1) := dk_of ((dk_bind (dk_u1 (h 0 _ rfl))).trans rfl)
theorem dk_2 {code : ByteArray} {pc : Nat} (h : DkAt code pc [2]) : decode code pc = .ok (.iconst (-1), 1) := dk_of ((dk_bind (dk_u1 (h 0 _ rfl))).trans rfl)
theorem dk_3 {code : ByteArray} {pc : Nat} (h : DkAt code pc [3]) : decode code pc = .ok (.iconst 0, 1) := dk_of ((dk_bind (dk_u1 (h 0 _ rfl))).trans rfl)
theorem dk_4 {code : ByteArray} {pc : Nat} (h : DkAt code pc [4]) : decode code pc = .ok (.iconst 1, 1) := dk_of ((dk_bind (dk_u1 (h 0 _ rfl))).trans rfl)
theorem dk_5 {code : ByteArray} {pc : Nat} (h : DkAt code pc [5]) : decode code pc = .ok (.iconst 2, 1) := dk_of ((dk_bind (dk_u1 (h 0 _ rfl))).trans rfl)
theorem dk_6 {code : ByteArray} {pc : Nat} (h : DkAt code pc [6]) : decode code pc = .ok (.iconst 3, 1) := dk_of ((dk_bind (dk_u1 (h 0 _ rfl))).trans rfl)
theorem dk_7 {code : ByteArray} {pc : Nat} (h : DkAt code pc [7]) : decode code pc = .ok (.iconst 4, 1) := dk_of ((dk_bind (dk_u1 (h 0 _ rfl))).trans rfl)
theorem dk_8 {code : ByteArray} {pc : Nat} (h : DkAt code pc [8]) : decode code pc = .ok (.iconst 5, 1) := dk_of ((dk_bind (dk_u1 (h 0 _ rfl))).trans rfl)
theorem dk_9 {code : ByteArray} {pc : Nat} (h : DkAt code pc [9]) : decode code pc = .ok (.lconst 0, 1) := dk_of ((dk_bind (dk_u1 (h 0 _ rfl))).trans rfl)
theorem dk_10 {code : ByteArray} {pc : Nat} (h : DkAt code pc [10]) : decode code pc = .ok (.lconst 1, 1) := dk_of ((dk_bind (dk_u1 (h 0 _ rfl))).trans rfl)
theorem dk_14 {code : ByteArray} {pc : Nat} (h : DkAt code pc [14]) : decode code pc = .ok (.dconst 0, 1) := dk_of ((dk_bind (dk_u1 (h 0 _ rfl))).trans rfl)
theorem dk_16 {code : ByteArray} {pc : Nat} (a : UInt8) (h : DkAt code pc [16, a]) : decode code pc = .ok (.bipush (Reader.signed 8 a.toNat), 2) := dk_of ((dk_bind (dk_u1 (h 0 _ rfl))).trans ((dk_bind (dk_map (dk_u1 (h 1 _ rfl)))).trans rfl))
theorem dk_17 {code : ByteArray} {pc : Nat} (a b : UInt8) (h : DkAt code pc [17, a, b]) : decode code pc = .ok (.sipush (Reader.signed 16 (a.toNat * 256 + b.toNat)), 3) := dk_of ((dk_bind (dk_u1 (h 0 _ rfl))).trans ((dk_bind (dk_map (dk_u2 (h 1 _ rfl) (h 2 _ rfl)))).trans rfl))
theorem dk_18 {code : ByteArray} {pc : Nat} (a : UInt8) (h : DkAt code pc [18, a]) : decode code pc = .ok (.ldc a.toNat, 2) := dk_of ((dk_bind (dk_u1 (h 0 _ rfl))).trans ((dk_bind (dk_u1 (h 1 _ rfl))).trans rfl))
theorem dk_19 {code : ByteArray} {pc : Nat} (a b : UInt8) (h : DkAt code pc [19, a, b]) : decode code pc = .ok (.ldc_w (a.toNat * 256 + b.toNat), 3) := dk_of ((dk_bind (dk_u1 (h 0 _ rfl))).trans ((dk_bind (dk_u2 (h 1 _ rfl) (h 2 _ rfl))).trans rfl))
theorem dk_20 {code : ByteArray} {pc : Nat} (a b : UInt8) (h : DkAt code pc [20, a, b]) : decode code pc = .ok (.ldc2_w (a.toNat * 256 + b.toNat), 3) := dk_of ((dk_bind (dk_u1 (h 0 _ rfl))).trans ((dk_bind (dk_u2 (h 1 _ rfl) (h 2 _ rfl))).trans rfl))
theorem dk_21 {code : ByteArray} {pc : Nat} (a : UInt8) (h : DkAt code pc [21, a]) : decode code pc = .ok (.iload a.toNat, 2) := dk_of ((dk_bind (dk_u1 (h 0 _ rfl))).trans ((dk_bind (dk_u1 (h 1 _ rfl))).trans rfl))
theorem dk_22 {code : ByteArray} {pc : Nat} (a : UInt8) (h : DkAt code pc [22, a]) : decode code pc = .ok (.lload a.toNat, 2) := dk_of ((dk_bind (dk_u1 (h 0 _ rfl))).trans ((dk_bind (dk_u1 (h 1 _ rfl))).trans rfl))
theorem dk_25 {code : ByteArray} {pc : Nat} (a : UInt8) (h : DkAt code pc [25, a]) : decode code pc = .ok (.aload a.toNat, 2) := dk_of ((dk_bind (dk_u1 (h 0 _ rfl))).trans ((dk_bind (dk_u1 (h 1 _ rfl))).trans rfl))
theorem dk_26 {code : ByteArray} {pc : Nat} (h : DkAt code pc [26]) : decode code pc = .ok (.iload_n 0, 1) := dk_of ((dk_bind (dk_u1 (h 0 _ rfl))).trans rfl)
theorem dk_27 {code : ByteArray} {pc : Nat} (h : DkAt code pc [27]) : decode code pc = .ok (.iload_n 1, 1) := dk_of ((dk_bind (dk_u1 (h 0 _ rfl))).trans rfl)
theorem dk_28 {code : ByteArray} {pc : Nat} (h : DkAt code pc [28]) : decode code pc = .ok (.iload_n 2, 1) := dk_of ((dk_bind (dk_u1 (h 0 _ rfl))).trans rfl)
theorem dk_29 {code : ByteArray} {pc : Nat} (h : DkAt code pc [29]) : decode code pc = .ok (.iload_n 3, 1) := dk_of ((dk_bind (dk_u1 (h 0 _ rfl))).trans rfl)
theorem dk_30 {code : ByteArray} {pc : Nat} (h : DkAt code pc [30]) : decode code pc = .ok (.lload_n 0, 1) := dk_of ((dk_bind (dk_u1 (h 0 _ rfl))).trans rfl)
theorem dk_31 {code : ByteArray} {pc : Nat} (h : DkAt code pc [31]) : decode code pc = .ok (.lload_n 1, 1) := dk_of ((dk_bind (dk_u1 (h 0 _ rfl))).trans rfl)
theorem dk_32 {code : ByteArray} {pc : Nat} (h : DkAt code pc [32]) : decode code pc = .ok (.lload_n 2, 1) := dk_of ((dk_bind (dk_u1 (h 0 _ rfl))).trans rfl)
theorem dk_33 {code : ByteArray} {pc : Nat} (h : DkAt code pc [33]) : decode code pc = .ok (.lload_n 3, 1) := dk_of ((dk_bind (dk_u1 (h 0 _ rfl))).trans rfl)
theorem dk_40 {code : ByteArray} {pc : Nat} (h : DkAt code pc [40]) : decode code pc = .ok (.dload_n 2, 1) := dk_of ((dk_bind (dk_u1 (h 0 _ rfl))).trans rfl)
theorem dk_42 {code : ByteArray} {pc : Nat} (h : DkAt code pc [42]) : decode code pc = .ok (.aload_n 0, 1) := dk_of ((dk_bind (dk_u1 (h 0 _ rfl))).trans rfl)
theorem dk_43 {code : ByteArray} {pc : Nat} (h : DkAt code pc [43]) : decode code pc = .ok (.aload_n 1, 1) := dk_of ((dk_bind (dk_u1 (h 0 _ rfl))).trans rfl)
theorem dk_44 {code : ByteArray} {pc : Nat} (h : DkAt code pc [44]) : decode code pc = .ok (.aload_n 2, 1) := dk_of ((dk_bind (dk_u1 (h 0 _ rfl))).trans rfl)
theorem dk_45 {code : ByteArray} {pc : Nat} (h : DkAt code pc [45]) : decode code pc = .ok (.aload_n 3, 1) := dk_of ((dk_bind (dk_u1 (h 0 _ rfl))).trans rfl)
theorem dk_46 {code : ByteArray} {pc : Nat} (h : DkAt code pc [46]) : decode code pc = .ok (.iaload, 1) := dk_of ((dk_bind (dk_u1 (h 0 _ rfl))).trans rfl)
theorem dk_47 {code : ByteArray} {pc : Nat} (h : DkAt code pc [47]) : decode code pc = .ok (.laload, 1) := dk_of ((dk_bind (dk_u1 (h 0 _ rfl))).trans rfl)
theorem dk_50 {code : ByteArray} {pc : Nat} (h : DkAt code pc [50]) : decode code pc = .ok (.aaload, 1) := dk_of ((dk_bind (dk_u1 (h 0 _ rfl))).trans rfl)
theorem dk_51 {code : ByteArray} {pc : Nat} (h : DkAt code pc [51]) : decode code pc = .ok (.baload, 1) := dk_of ((dk_bind (dk_u1 (h 0 _ rfl))).trans rfl)
theorem dk_52 {code : ByteArray} {pc : Nat} (h : DkAt code pc [52]) : decode code pc = .ok (.caload, 1) := dk_of ((dk_bind (dk_u1 (h 0 _ rfl))).trans rfl)
theorem dk_53 {code : ByteArray} {pc : Nat} (h : DkAt code pc [53]) : decode code pc = .ok (.saload, 1) := dk_of ((dk_bind (dk_u1 (h 0 _ rfl))).trans rfl)
theorem dk_54 {code : ByteArray} {pc : Nat} (a : UInt8) (h : DkAt code pc [54, a]) : decode code pc = .ok (.istore a.toNat, 2) := dk_of ((dk_bind (dk_u1 (h 0 _ rfl))).trans ((dk_bind (dk_u1 (h 1 _ rfl))).trans rfl))
theorem dk_55 {code : ByteArray} {pc : Nat} (a : UInt8) (h : DkAt code pc [55, a]) : decode code pc = .ok (.lstore a.toNat, 2) := dk_of ((dk_bind (dk_u1 (h 0 _ rfl))).trans ((dk_bind (dk_u1 (h 1 _ rfl))).trans rfl))
theorem dk_58 {code : ByteArray} {pc : Nat} (a : UInt8) (h : DkAt code pc [58, a]) : decode code pc = .ok (.astore a.toNat, 2) := dk_of ((dk_bind (dk_u1 (h 0 _ rfl))).trans ((dk_bind (dk_u1 (h 1 _ rfl))).trans rfl))
theorem dk_60 {code : ByteArray} {pc : Nat} (h : DkAt code pc [60]) : decode code pc = .ok (.istore_n 1, 1) := dk_of ((dk_bind (dk_u1 (h 0 _ rfl))).trans rfl)
theorem dk_61 {code : ByteArray} {pc : Nat} (h : DkAt code pc [61]) : decode code pc = .ok (.istore_n 2, 1) := dk_of ((dk_bind (dk_u1 (h 0 _ rfl))).trans rfl)
theorem dk_62 {code : ByteArray} {pc : Nat} (h : DkAt code pc [62]) : decode code pc = .ok (.istore_n 3, 1) := dk_of ((dk_bind (dk_u1 (h 0 _ rfl))).trans rfl)
theorem dk_64 {code : ByteArray} {pc : Nat} (h : DkAt code pc [64]) : decode code pc = .ok (.lstore_n 1, 1) := dk_of ((dk_bind (dk_u1 (h 0 _ rfl))).trans rfl)
theorem dk_65 {code : ByteArray} {pc : Nat} (h : DkAt code pc [65]) : decode code pc = .ok (.lstore_n 2, 1) := dk_of ((dk_bind (dk_u1 (h 0 _ rfl))).trans rfl)
theorem dk_66 {code : ByteArray} {pc : Nat} (h : DkAt code pc [66]) : decode code pc = .ok (.lstore_n 3, 1) := dk_of ((dk_bind (dk_u1 (h 0 _ rfl))).trans rfl)
theorem dk_76 {code : ByteArray} {pc : Nat} (h : DkAt code pc [76]) : decode code pc = .ok (.astore_n 1, 1) := dk_of ((dk_bind (dk_u1 (h 0 _ rfl))).trans rfl)
theorem dk_77 {code : ByteArray} {pc : Nat} (h : DkAt code pc [77]) : decode code pc = .ok (.astore_n 2, 1) := dk_of ((dk_bind (dk_u1 (h 0 _ rfl))).trans rfl)
theorem dk_78 {code : ByteArray} {pc : Nat} (h : DkAt code pc [78]) : decode code pc = .ok (.astore_n 3, 1) := dk_of ((dk_bind (dk_u1 (h 0 _ rfl))).trans rfl)
theorem dk_79 {code : ByteArray} {pc : Nat} (h : DkAt code pc [79]) : decode code pc = .ok (.iastore, 1) := dk_of ((dk_bind (dk_u1 (h 0 _ rfl))).trans rfl)
theorem dk_80 {code : ByteArray} {pc : Nat} (h : DkAt code pc [80]) : decode code pc = .ok (.lastore, 1) := dk_of ((dk_bind (dk_u1 (h 0 _ rfl))).trans rfl)
theorem dk_83 {code : ByteArray} {pc : Nat} (h : DkAt code pc [83]) : decode code pc = .ok (.aastore, 1) := dk_of ((dk_bind (dk_u1 (h 0 _ rfl))).trans rfl)
theorem dk_84 {code : ByteArray} {pc : Nat} (h : DkAt code pc [84]) : decode code pc = .ok (.bastore, 1) := dk_of ((dk_bind (dk_u1 (h 0 _ rfl))).trans rfl)
theorem dk_85 {code : ByteArray} {pc : Nat} (h : DkAt code pc [85]) : decode code pc = .ok (.castore, 1) := dk_of ((dk_bind (dk_u1 (h 0 _ rfl))).trans rfl)
theorem dk_86 {code : ByteArray} {pc : Nat} (h : DkAt code pc [86]) : decode code pc = .ok (.sastore, 1) := dk_of ((dk_bind (dk_u1 (h 0 _ rfl))).trans rfl)
theorem dk_87 {code : ByteArray} {pc : Nat} (h : DkAt code pc [87]) : decode code pc = .ok (.pop, 1) := dk_of ((dk_bind (dk_u1 (h 0 _ rfl))).trans rfl)
theorem dk_89 {code : ByteArray} {pc : Nat} (h : DkAt code pc [89]) : decode code pc = .ok (.dup, 1) := dk_of ((dk_bind (dk_u1 (h 0 _ rfl))).trans rfl)
theorem dk_90 {code : ByteArray} {pc : Nat} (h : DkAt code pc [90]) : decode code pc = .ok (.dup_x1, 1) := dk_of ((dk_bind (dk_u1 (h 0 _ rfl))).trans rfl)
theorem dk_91 {code : ByteArray} {pc : Nat} (h : DkAt code pc [91]) : decode code pc = .ok (.dup_x2, 1) := dk_of ((dk_bind (dk_u1 (h 0 _ rfl))).trans rfl)
theorem dk_92 {code : ByteArray} {pc : Nat} (h : DkAt code pc [92]) : decode code pc = .ok (.dup2, 1) := dk_of ((dk_bind (dk_u1 (h 0 _ rfl))).trans rfl)
theorem dk_96 {code : ByteArray} {pc : Nat} (h : DkAt code pc [96]) : decode code pc = .ok (.iadd, 1) := dk_of ((dk_bind (dk_u1 (h 0 _ rfl))).trans rfl)
theorem dk_97 {code : ByteArray} {pc : Nat} (h : DkAt code pc [97]) : decode code pc = .ok (.ladd, 1) := dk_of ((dk_bind (dk_u1 (h 0 _ rfl))).trans rfl)
theorem dk_100 {code : ByteArray} {pc : Nat} (h : DkAt code pc [100]) : decode code pc = .ok (.isub, 1) := dk_of ((dk_bind (dk_u1 (h 0 _ rfl))).trans rfl)
theorem dk_101 {code : ByteArray} {pc : Nat} (h : DkAt code pc [101]) : decode code pc = .ok (.lsub, 1) := dk_of ((dk_bind (dk_u1 (h 0 _ rfl))).trans rfl)
theorem dk_104 {code : ByteArray} {pc : Nat} (h : DkAt code pc [104]) : decode code pc = .ok (.imul, 1) := dk_of ((dk_bind (dk_u1 (h 0 _ rfl))).trans rfl)
theorem dk_105 {code : ByteArray} {pc : Nat} (h : DkAt code pc [105]) : decode code pc = .ok (.lmul, 1) := dk_of ((dk_bind (dk_u1 (h 0 _ rfl))).trans rfl)
theorem dk_108 {code : ByteArray} {pc : Nat} (h : DkAt code pc [108]) : decode code pc = .ok (.idiv, 1) := dk_of ((dk_bind (dk_u1 (h 0 _ rfl))).trans rfl)
theorem dk_109 {code : ByteArray} {pc : Nat} (h : DkAt code pc [109]) : decode code pc = .ok (.ldiv, 1) := dk_of ((dk_bind (dk_u1 (h 0 _ rfl))).trans rfl)
theorem dk_111 {code : ByteArray} {pc : Nat} (h : DkAt code pc [111]) : decode code pc = .ok (.ddiv, 1) := dk_of ((dk_bind (dk_u1 (h 0 _ rfl))).trans rfl)
theorem dk_112 {code : ByteArray} {pc : Nat} (h : DkAt code pc [112]) : decode code pc = .ok (.irem, 1) := dk_of ((dk_bind (dk_u1 (h 0 _ rfl))).trans rfl)
theorem dk_113 {code : ByteArray} {pc : Nat} (h : DkAt code pc [113]) : decode code pc = .ok (.lrem, 1) := dk_of ((dk_bind (dk_u1 (h 0 _ rfl))).trans rfl)
theorem dk_116 {code : ByteArray} {pc : Nat} (h : DkAt code pc [116]) : decode code pc = .ok (.ineg, 1) := dk_of ((dk_bind (dk_u1 (h 0 _ rfl))).trans rfl)
theorem dk_117 {code : ByteArray} {pc : Nat} (h : DkAt code pc [117]) : decode code pc = .ok (.lneg, 1) := dk_of ((dk_bind (dk_u1 (h 0 _ rfl))).trans rfl)
theorem dk_120 {code : ByteArray} {pc : Nat} (h : DkAt code pc [120]) : decode code pc = .ok (.ishl, 1) := dk_of ((dk_bind (dk_u1 (h 0 _ rfl))).trans rfl)
theorem dk_121 {code : ByteArray} {pc : Nat} (h : DkAt code pc [121]) : decode code pc = .ok (.lshl, 1) := dk_of ((dk_bind (dk_u1 (h 0 _ rfl))).trans rfl)
theorem dk_122 {code : ByteArray} {pc : Nat} (h : DkAt code pc [122]) : decode code pc = .ok (.ishr, 1) := dk_of ((dk_bind (dk_u1 (h 0 _ rfl))).trans rfl)
theorem dk_125 {code : ByteArray} {pc : Nat} (h : DkAt code pc [125]) : decode code pc = .ok (.lushr, 1) := dk_of ((dk_bind (dk_u1 (h 0 _ rfl))).trans rfl)
theorem dk_126 {code : ByteArray} {pc : Nat} (h : DkAt code pc [126]) : decode code pc = .ok (.iand, 1) := dk_of ((dk_bind (dk_u1 (h 0 _ rfl))).trans rfl)
theorem dk_127 {code : ByteArray} {pc : Nat} (h : DkAt code pc [127]) : decode code pc = .ok (.land, 1) := dk_of ((dk_bind (dk_u1 (h 0 _ rfl))).trans rfl)
theorem dk_128 {code : ByteArray} {pc : Nat} (h : DkAt code pc [128]) : decode code pc = .ok (.ior, 1) := dk_of ((dk_bind (dk_u1 (h 0 _ rfl))).trans rfl)
theorem dk_129 {code : ByteArray} {pc : Nat} (h : DkAt code pc [129]) : decode code pc = .ok (.lor, 1) := dk_of ((dk_bind (dk_u1 (h 0 _ rfl))).trans rfl)
theorem dk_130 {code : ByteArray} {pc : Nat} (h : DkAt code pc [130]) : decode code pc = .ok (.ixor, 1) := dk_of ((dk_bind (dk_u1 (h 0 _ rfl))).trans rfl)
theorem dk_131 {code : ByteArray} {pc : Nat} (h : DkAt code pc [131]) : decode code pc = .ok (.lxor, 1) := dk_of ((dk_bind (dk_u1 (h 0 _ rfl))).trans rfl)
theorem dk_132 {code : ByteArray} {pc : Nat} (a b : UInt8) (h : DkAt code pc [132, a, b]) : decode code pc = .ok (.iinc a.toNat (Reader.signed 8 b.toNat), 3) := dk_of ((dk_bind (dk_u1 (h 0 _ rfl))).trans ((dk_bind (dk_u1 (h 1 _ rfl))).trans ((dk_bind (dk_map (dk_u1 (h 2 _ rfl)))).trans rfl)))
theorem dk_133 {code : ByteArray} {pc : Nat} (h : DkAt code pc [133]) : decode code pc = .ok (.i2l, 1) := dk_of ((dk_bind (dk_u1 (h 0 _ rfl))).trans rfl)
theorem dk_135 {code : ByteArray} {pc : Nat} (h : DkAt code pc [135]) : decode code pc = .ok (.i2d, 1) := dk_of ((dk_bind (dk_u1 (h 0 _ rfl))).trans rfl)
theorem dk_136 {code : ByteArray} {pc : Nat} (h : DkAt code pc [136]) : decode code pc = .ok (.l2i, 1) := dk_of ((dk_bind (dk_u1 (h 0 _ rfl))).trans rfl)
theorem dk_145 {code : ByteArray} {pc : Nat} (h : DkAt code pc [145]) : decode code pc = .ok (.i2b, 1) := dk_of ((dk_bind (dk_u1 (h 0 _ rfl))).trans rfl)
theorem dk_146 {code : ByteArray} {pc : Nat} (h : DkAt code pc [146]) : decode code pc = .ok (.i2c, 1) := dk_of ((dk_bind (dk_u1 (h 0 _ rfl))).trans rfl)
theorem dk_147 {code : ByteArray} {pc : Nat} (h : DkAt code pc [147]) : decode code pc = .ok (.i2s, 1) := dk_of ((dk_bind (dk_u1 (h 0 _ rfl))).trans rfl)
theorem dk_148 {code : ByteArray} {pc : Nat} (h : DkAt code pc [148]) : decode code pc = .ok (.lcmp, 1) := dk_of ((dk_bind (dk_u1 (h 0 _ rfl))).trans rfl)
theorem dk_151 {code : ByteArray} {pc : Nat} (h : DkAt code pc [151]) : decode code pc = .ok (.dcmp .l, 1) := dk_of ((dk_bind (dk_u1 (h 0 _ rfl))).trans rfl)
theorem dk_152 {code : ByteArray} {pc : Nat} (h : DkAt code pc [152]) : decode code pc = .ok (.dcmp .g, 1) := dk_of ((dk_bind (dk_u1 (h 0 _ rfl))).trans rfl)
theorem dk_153 {code : ByteArray} {pc : Nat} (a b : UInt8) (h : DkAt code pc [153, a, b]) : decode code pc = .ok (.ifCond .eq (Reader.signed 16 (a.toNat * 256 + b.toNat)), 3) := dk_of ((dk_bind (dk_u1 (h 0 _ rfl))).trans ((dk_bind (dk_map (dk_u2 (h 1 _ rfl) (h 2 _ rfl)))).trans rfl))
theorem dk_154 {code : ByteArray} {pc : Nat} (a b : UInt8) (h : DkAt code pc [154, a, b]) : decode code pc = .ok (.ifCond .ne (Reader.signed 16 (a.toNat * 256 + b.toNat)), 3) := dk_of ((dk_bind (dk_u1 (h 0 _ rfl))).trans ((dk_bind (dk_map (dk_u2 (h 1 _ rfl) (h 2 _ rfl)))).trans rfl))
theorem dk_155 {code : ByteArray} {pc : Nat} (a b : UInt8) (h : DkAt code pc [155, a, b]) : decode code pc = .ok (.ifCond .lt (Reader.signed 16 (a.toNat * 256 + b.toNat)), 3) := dk_of ((dk_bind (dk_u1 (h 0 _ rfl))).trans ((dk_bind (dk_map (dk_u2 (h 1 _ rfl) (h 2 _ rfl)))).trans rfl))
theorem dk_156 {code : ByteArray} {pc : Nat} (a b : UInt8) (h : DkAt code pc [156, a, b]) : decode code pc = .ok (.ifCond .ge (Reader.signed 16 (a.toNat * 256 + b.toNat)), 3) := dk_of ((dk_bind (dk_u1 (h 0 _ rfl))).trans ((dk_bind (dk_map (dk_u2 (h 1 _ rfl) (h 2 _ rfl)))).trans rfl))
theorem dk_157 {code : ByteArray} {pc : Nat} (a b : UInt8) (h : DkAt code pc [157, a, b]) : decode code pc = .ok (.ifCond .gt (Reader.signed 16 (a.toNat * 256 + b.toNat)), 3) := dk_of ((dk_bind (dk_u1 (h 0 _ rfl))).trans ((dk_bind (dk_map (dk_u2 (h 1 _ rfl) (h 2 _ rfl)))).trans rfl))
theorem dk_158 {code : ByteArray} {pc : Nat} (a b : UInt8) (h : DkAt code pc [158, a, b]) : decode code pc = .ok (.ifCond .le (Reader.signed 16 (a.toNat * 256 + b.toNat)), 3) := dk_of ((dk_bind (dk_u1 (h 0 _ rfl))).trans ((dk_bind (dk_map (dk_u2 (h 1 _ rfl) (h 2 _ rfl)))).trans rfl))
theorem dk_159 {code : ByteArray} {pc : Nat} (a b : UInt8) (h : DkAt code pc [159, a, b]) : decode code pc = .ok (.if_icmp .eq (Reader.signed 16 (a.toNat * 256 + b.toNat)), 3) := dk_of ((dk_bind (dk_u1 (h 0 _ rfl))).trans ((dk_bind (dk_map (dk_u2 (h 1 _ rfl) (h 2 _ rfl)))).trans rfl))
theorem dk_160 {code : ByteArray} {pc : Nat} (a b : UInt8) (h : DkAt code pc [160, a, b]) : decode code pc = .ok (.if_icmp .ne (Reader.signed 16 (a.toNat * 256 + b.toNat)), 3) := dk_of ((dk_bind (dk_u1 (h 0 _ rfl))).trans ((dk_bind (dk_map (dk_u2 (h 1 _ rfl) (h 2 _ rfl)))).trans rfl))
theorem dk_161 {code : ByteArray} {pc : Nat} (a b : UInt8) (h : DkAt code pc [161, a, b]) : decode code pc = .ok (.if_icmp .lt (Reader.signed 16 (a.toNat * 256 + b.toNat)), 3) := dk_of ((dk_bind (dk_u1 (h 0 _ rfl))).trans ((dk_bind (dk_map (dk_u2 (h 1 _ rfl) (h 2 _ rfl)))).trans rfl))
theorem dk_162 {code : ByteArray} {pc : Nat} (a b : UInt8) (h : DkAt code pc [162, a, b]) : decode code pc = .ok (.if_icmp .ge (Reader.signed 16 (a.toNat * 256 + b.toNat)), 3) := dk_of ((dk_bind (dk_u1 (h 0 _ rfl))).trans ((dk_bind (dk_map (dk_u2 (h 1 _ rfl) (h 2 _ rfl)))).trans rfl))
theorem dk_163 {code : ByteArray} {pc : Nat} (a b : UInt8) (h : DkAt code pc [163, a, b]) : decode code pc = .ok (.if_icmp .gt (Reader.signed 16 (a.toNat * 256 + b.toNat)), 3) := dk_of ((dk_bind (dk_u1 (h 0 _ rfl))).trans ((dk_bind (dk_map (dk_u2 (h 1 _ rfl) (h 2 _ rfl)))).trans rfl))
theorem dk_164 {code : ByteArray} {pc : Nat} (a b : UInt8) (h : DkAt code pc [164, a, b]) : decode code pc = .ok (.if_icmp .le (Reader.signed 16 (a.toNat * 256 + b.toNat)), 3) := dk_of ((dk_bind (dk_u1 (h 0 _ rfl))).trans ((dk_bind (dk_map (dk_u2 (h 1 _ rfl) (h 2 _ rfl)))).trans rfl))
theorem dk_165 {code : ByteArray} {pc : Nat} (a b : UInt8) (h : DkAt code pc [165, a, b]) : decode code pc = .ok (.if_acmp .eq (Reader.signed 16 (a.toNat * 256 + b.toNat)), 3) := dk_of ((dk_bind (dk_u1 (h 0 _ rfl))).trans ((dk_bind (dk_map (dk_u2 (h 1 _ rfl) (h 2 _ rfl)))).trans rfl))
theorem dk_166 {code : ByteArray} {pc : Nat} (a b : UInt8) (h : DkAt code pc [166, a, b]) : decode code pc = .ok (.if_acmp .ne (Reader.signed 16 (a.toNat * 256 + b.toNat)), 3) := dk_of ((dk_bind (dk_u1 (h 0 _ rfl))).trans ((dk_bind (dk_map (dk_u2 (h 1 _ rfl) (h 2 _ rfl)))).trans rfl))
theorem dk_167 {code : ByteArray} {pc : Nat} (a b : UInt8) (h : DkAt code pc [167, a, b]) : decode code pc = .ok (.goto (Reader.signed 16 (a.toNat * 256 + b.toNat)), 3) := dk_of ((dk_bind (dk_u1 (h 0 _ rfl))).trans ((dk_bind (dk_map (dk_u2 (h 1 _ rfl) (h 2 _ rfl)))).trans rfl))
theorem dk_172 {code : ByteArray} {pc : Nat} (h : DkAt code pc [172]) : decode code pc = .ok (.ireturn, 1) := dk_of ((dk_bind (dk_u1 (h 0 _ rfl))).trans rfl)
theorem dk_173 {code : ByteArray} {pc : Nat} (h : DkAt code pc [173]) : decode code pc = .ok (.lreturn, 1) := dk_of ((dk_bind (dk_u1 (h 0 _ rfl))).trans rfl)
theorem dk_176 {code : ByteArray} {pc : Nat} (h : DkAt code pc [176]) : decode code pc = .ok (.areturn, 1) := dk_of ((dk_bind (dk_u1 (h 0 _ rfl))).trans rfl)
theorem dk_177 {code : ByteArray} {pc : Nat} (h : DkAt code pc [177]) : decode code pc = .ok (.return_, 1) := dk_of ((dk_bind (dk_u1 (h 0 _ rfl))).trans rfl)
theorem dk_178 {code : ByteArray} {pc : Nat} (a b : UInt8) (h : DkAt code pc [178, a, b]) : decode code pc = .ok (.getstatic (a.toNat * 256 + b.toNat), 3) := dk_of ((dk_bind (dk_u1 (h 0 _ rfl))).trans ((dk_bind (dk_u2 (h 1 _ rfl) (h 2 _ rfl))).trans rfl))
theorem dk_180 {code : ByteArray} {pc : Nat} (a b : UInt8) (h : DkAt code pc [180, a, b]) : decode code pc = .ok (.getfield (a.toNat * 256 + b.toNat), 3) := dk_of ((dk_bind (dk_u1 (h 0 _ rfl))).trans ((dk_bind (dk_u2 (h 1 _ rfl) (h 2 _ rfl))).trans rfl))
theorem dk_181 {code : ByteArray} {pc : Nat} (a b : UInt8) (h : DkAt code pc [181, a, b]) : decode code pc = .ok (.putfield (a.toNat * 256 + b.toNat), 3) := dk_of ((dk_bind (dk_u1 (h 0 _ rfl))).trans ((dk_bind (dk_u2 (h 1 _ rfl) (h 2 _ rfl))).trans rfl))
theorem dk_182 {code : ByteArray} {pc : Nat} (a b : UInt8) (h : DkAt code pc [182, a, b]) : decode code pc = .ok (.invokevirtual (a.toNat * 256 + b.toNat), 3) := dk_of ((dk_bind (dk_u1 (h 0 _ rfl))).trans ((dk_bind (dk_u2 (h 1 _ rfl) (h 2 _ rfl))).trans rfl))
theorem dk_183 {code : ByteArray} {pc : Nat} (a b : UInt8) (h : DkAt code pc [183, a, b]) : decode code pc = .ok (.invokespecial (a.toNat * 256 + b.toNat), 3) := dk_of ((dk_bind (dk_u1 (h 0 _ rfl))).trans ((dk_bind (dk_u2 (h 1 _ rfl) (h 2 _ rfl))).trans rfl))
theorem dk_184 {code : ByteArray} {pc : Nat} (a b : UInt8) (h : DkAt code pc [184, a, b]) : decode code pc = .ok (.invokestatic (a.toNat * 256 + b.toNat), 3) := dk_of ((dk_bind (dk_u1 (h 0 _ rfl))).trans ((dk_bind (dk_u2 (h 1 _ rfl) (h 2 _ rfl))).trans rfl))
theorem dk_187 {code : ByteArray} {pc : Nat} (a b : UInt8) (h : DkAt code pc [187, a, b]) : decode code pc = .ok (.new (a.toNat * 256 + b.toNat), 3) := dk_of ((dk_bind (dk_u1 (h 0 _ rfl))).trans ((dk_bind (dk_u2 (h 1 _ rfl) (h 2 _ rfl))).trans rfl))
theorem dk_188_4 {code : ByteArray} {pc : Nat} (h : DkAt code pc [188, 4]) : decode code pc = .ok (.newarray .boolean, 2) := dk_of ((dk_bind (dk_u1 (h 0 _ rfl))).trans ((dk_bind (dk_u1 (h 1 _ rfl))).trans rfl))
theorem dk_188_5 {code : ByteArray} {pc : Nat} (h : DkAt code pc [188, 5]) : decode code pc = .ok (.newarray .char, 2) := dk_of ((dk_bind (dk_u1 (h 0 _ rfl))).trans ((dk_bind (dk_u1 (h 1 _ rfl))).trans rfl))
theorem dk_188_8 {code : ByteArray} {pc : Nat} (h : DkAt code pc [188, 8]) : decode code pc = .ok (.newarray .byte, 2) := dk_of ((dk_bind (dk_u1 (h 0 _ rfl))).trans ((dk_bind (dk_u1 (h 1 _ rfl))).trans rfl))
theorem dk_188_9 {code : ByteArray} {pc : Nat} (h : DkAt code pc [188, 9]) : decode code pc = .ok (.newarray .short, 2) := dk_of ((dk_bind (dk_u1 (h 0 _ rfl))).trans ((dk_bind (dk_u1 (h 1 _ rfl))).trans rfl))
theorem dk_188_10 {code : ByteArray} {pc : Nat} (h : DkAt code pc [188, 10]) : decode code pc = .ok (.newarray .int, 2) := dk_of ((dk_bind (dk_u1 (h 0 _ rfl))).trans ((dk_bind (dk_u1 (h 1 _ rfl))).trans rfl))
theorem dk_188_11 {code : ByteArray} {pc : Nat} (h : DkAt code pc [188, 11]) : decode code pc = .ok (.newarray .long, 2) := dk_of ((dk_bind (dk_u1 (h 0 _ rfl))).trans ((dk_bind (dk_u1 (h 1 _ rfl))).trans rfl))
theorem dk_189 {code : ByteArray} {pc : Nat} (a b : UInt8) (h : DkAt code pc [189, a, b]) : decode code pc = .ok (.anewarray (a.toNat * 256 + b.toNat), 3) := dk_of ((dk_bind (dk_u1 (h 0 _ rfl))).trans ((dk_bind (dk_u2 (h 1 _ rfl) (h 2 _ rfl))).trans rfl))
theorem dk_190 {code : ByteArray} {pc : Nat} (h : DkAt code pc [190]) : decode code pc = .ok (.arraylength, 1) := dk_of ((dk_bind (dk_u1 (h 0 _ rfl))).trans rfl)
theorem dk_191 {code : ByteArray} {pc : Nat} (h : DkAt code pc [191]) : decode code pc = .ok (.athrow, 1) := dk_of ((dk_bind (dk_u1 (h 0 _ rfl))).trans rfl)
theorem dk_192 {code : ByteArray} {pc : Nat} (a b : UInt8) (h : DkAt code pc [192, a, b]) : decode code pc = .ok (.checkcast (a.toNat * 256 + b.toNat), 3) := dk_of ((dk_bind (dk_u1 (h 0 _ rfl))).trans ((dk_bind (dk_u2 (h 1 _ rfl) (h 2 _ rfl))).trans rfl))
theorem dk_198 {code : ByteArray} {pc : Nat} (a b : UInt8) (h : DkAt code pc [198, a, b]) : decode code pc = .ok (.ifnull (Reader.signed 16 (a.toNat * 256 + b.toNat)), 3) := dk_of ((dk_bind (dk_u1 (h 0 _ rfl))).trans ((dk_bind (dk_map (dk_u2 (h 1 _ rfl) (h 2 _ rfl)))).trans rfl))
theorem dk_199 {code : ByteArray} {pc : Nat} (a b : UInt8) (h : DkAt code pc [199, a, b]) : decode code pc = .ok (.ifnonnull (Reader.signed 16 (a.toNat * 256 + b.toNat)), 3) := dk_of ((dk_bind (dk_u1 (h 0 _ rfl))).trans ((dk_bind (dk_map (dk_u2 (h 1 _ rfl) (h 2 _ rfl)))).trans rfl))
/-! ===== bytes to instructions: sd, by the dk_ rows ===== -/
theorem sk_lt {code : ByteArray} {pc b : Nat} {l : List Nat} (h : (code.data.toList.drop pc).map UInt8.toNat = l) (hb : b ∈ l) : b < 256 := by
  subst h
  obtain ⟨u, -, rfl⟩ := List.mem_map.mp hb
  exact u.toNat_lt
theorem sk_at {code : ByteArray} {pc : Nat} {l r : List Nat} (h : (code.data.toList.drop pc).map UInt8.toNat = l ++ r) : DkAt code pc (l.map UInt8.ofNat) := by
  intro j b e
  rw [List.getElem?_map] at e
  have hj : j < l.length := by
    rcases Nat.lt_or_ge j l.length with q | q
    · exact q
    · rw [List.getElem?_eq_none q] at e; cases e
  have e2 : ((code.data.toList.drop pc).map UInt8.toNat)[j]? = l[j]? := by rw [h, List.getElem?_append_left hj]
  rw [List.getElem?_map, List.getElem?_drop] at e2
  cases hx : code.data.toList[pc + j]? with
  | none => rw [hx] at e2; rw [← e2] at e; cases e
  | some u =>
    rw [hx] at e2
    rw [← e2] at e
    simp only [Option.map_some, Option.some.injEq, UInt8.ofNat_toNat] at e
    rw [e]
theorem sk_n {b : Nat} (h : b < 256) : (UInt8.ofNat b).toNat = b := UInt8.toNat_ofNat_of_lt' h
theorem sk_1 {code : ByteArray} {pc : Nat} {r : List Nat} (h : (code.data.toList.drop pc).map UInt8.toNat = 1 :: r) : decode code pc = .ok (.aconst_null, 1) := by
  exact dk_1 (sk_at (l := [1]) (r := r) h)
theorem sk_2 {code : ByteArray} {pc : Nat} {r : List Nat} (h : (code.data.toList.drop pc).map UInt8.toNat = 2 :: r) : decode code pc = .ok (.iconst (-1), 1) := by
  exact dk_2 (sk_at (l := [2]) (r := r) h)
theorem sk_3 {code : ByteArray} {pc : Nat} {r : List Nat} (h : (code.data.toList.drop pc).map UInt8.toNat = 3 :: r) : decode code pc = .ok (.iconst 0, 1) := by
  exact dk_3 (sk_at (l := [3]) (r := r) h)
theorem sk_4 {code : ByteArray} {pc : Nat} {r : List Nat} (h : (code.data.toList.drop pc).map UInt8.toNat = 4 :: r) : decode code pc = .ok (.iconst 1, 1) := by
  exact dk_4 (sk_at (l := [4]) (r := r) h)
theorem sk_5 {code : ByteArray} {pc : Nat} {r : List Nat} (h : (code.data.toList.drop pc).map UInt8.toNat = 5 :: r) : decode code pc = .ok (.iconst 2, 1) := by
  exact dk_5 (sk_at (l := [5]) (r := r) h)
theorem sk_6 {code : ByteArray} {pc : Nat} {r : List Nat} (h : (code.data.toList.drop pc).map UInt8.toNat = 6 :: r) : decode code pc = .ok (.iconst 3, 1) := by
  exact dk_6 (sk_at (l := [6]) (r := r) h)
theorem sk_7 {code : ByteArray} {pc : Nat} {r : List Nat} (h : (code.data.toList.drop pc).map UInt8.toNat = 7 :: r) : decode code pc = .ok (.iconst 4, 1) := by
  exact dk_7 (sk_at (l := [7]) (r := r) h)
theorem sk_8 {code : ByteArray} {pc : Nat} {r : List Nat} (h : (code.data.toList.drop pc).map UInt8.toNat = 8 :: r) : decode code pc = .ok (.iconst 5, 1) := by
  exact dk_8 (sk_at (l := [8]) (r := r) h)
theorem sk_9 {code : ByteArray} {pc : Nat} {r : List Nat} (h : (code.data.toList.drop pc).map UInt8.toNat = 9 :: r) : decode code pc = .ok (.lconst 0, 1) := by
  exact dk_9 (sk_at (l := [9]) (r := r) h)
theorem sk_10 {code : ByteArray} {pc : Nat} {r : List Nat} (h : (code.data.toList.drop pc).map UInt8.toNat = 10 :: r) : decode code pc = .ok (.lconst 1, 1) := by
  exact dk_10 (sk_at (l := [10]) (r := r) h)
theorem sk_14 {code : ByteArray} {pc : Nat} {r : List Nat} (h : (code.data.toList.drop pc).map UInt8.toNat = 14 :: r) : decode code pc = .ok (.dconst 0, 1) := by
  exact dk_14 (sk_at (l := [14]) (r := r) h)
theorem sk_16 {code : ByteArray} {pc : Nat} {r : List Nat} {a : Nat} (h : (code.data.toList.drop pc).map UInt8.toNat = 16 :: a :: r) : decode code pc = .ok (.bipush (Reader.signed 8 a), 2) := by
  have ha := sk_n (sk_lt h (b := a) (by simp))
  have e := dk_16 (UInt8.ofNat a) (sk_at (l := [16, a]) (r := r) h)
  rw [ha] at e
  exact e
theorem sk_17 {code : ByteArray} {pc : Nat} {r : List Nat} {a b : Nat} (h : (code.data.toList.drop pc).map UInt8.toNat = 17 :: a :: b :: r) : decode code pc = .ok (.sipush (Reader.signed 16 (a * 256 + b)), 3) := by
  have ha := sk_n (sk_lt h (b := a) (by simp))
  have hb := sk_n (sk_lt h (b := b) (by simp))
  have e := dk_17 (UInt8.ofNat a) (UInt8.ofNat b) (sk_at (l := [17, a, b]) (r := r) h)
  rw [ha, hb] at e
  exact e
theorem sk_18 {code : ByteArray} {pc : Nat} {r : List Nat} {a : Nat} (h : (code.data.toList.drop pc).map UInt8.toNat = 18 :: a :: r) : decode code pc = .ok (.ldc a, 2) := by
  have ha := sk_n (sk_lt h (b := a) (by simp))
  have e := dk_18 (UInt8.ofNat a) (sk_at (l := [18, a]) (r := r) h)
  rw [ha] at e
  exact e
theorem sk_19 {code : ByteArray} {pc : Nat} {r : List Nat} {a b : Nat} (h : (code.data.toList.drop pc).map UInt8.toNat = 19 :: a :: b :: r) : decode code pc = .ok (.ldc_w (a * 256 + b), 3) := by
  have ha := sk_n (sk_lt h (b := a) (by simp))
  have hb := sk_n (sk_lt h (b := b) (by simp))
  have e := dk_19 (UInt8.ofNat a) (UInt8.ofNat b) (sk_at (l := [19, a, b]) (r := r) h)
  rw [ha, hb] at e
  exact e
theorem sk_20 {code : ByteArray} {pc : Nat} {r : List Nat} {a b : Nat} (h : (code.data.toList.drop pc).map UInt8.toNat = 20 :: a :: b :: r) : decode code pc = .ok (.ldc2_w (a * 256 + b), 3) := by
  have ha := sk_n (sk_lt h (b := a) (by simp))
  have hb := sk_n (sk_lt h (b := b) (by simp))
  have e := dk_20 (UInt8.ofNat a) (UInt8.ofNat b) (sk_at (l := [20, a, b]) (r := r) h)
  rw [ha, hb] at e
  exact e
theorem sk_21 {code : ByteArray} {pc : Nat} {r : List Nat} {a : Nat} (h : (code.data.toList.drop pc).map UInt8.toNat = 21 :: a :: r) : decode code pc = .ok (.iload a, 2) := by
  have ha := sk_n (sk_lt h (b := a) (by simp))
  have e := dk_21 (UInt8.ofNat a) (sk_at (l := [21, a]) (r := r) h)
  rw [ha] at e
  exact e
theorem sk_22 {code : ByteArray} {pc : Nat} {r : List Nat} {a : Nat} (h : (code.data.toList.drop pc).map UInt8.toNat = 22 :: a :: r) : decode code pc = .ok (.lload a, 2) := by
  have ha := sk_n (sk_lt h (b := a) (by simp))
  have e := dk_22 (UInt8.ofNat a) (sk_at (l := [22, a]) (r := r) h)
  rw [ha] at e
  exact e
theorem sk_25 {code : ByteArray} {pc : Nat} {r : List Nat} {a : Nat} (h : (code.data.toList.drop pc).map UInt8.toNat = 25 :: a :: r) : decode code pc = .ok (.aload a, 2) := by
  have ha := sk_n (sk_lt h (b := a) (by simp))
  have e := dk_25 (UInt8.ofNat a) (sk_at (l := [25, a]) (r := r) h)
  rw [ha] at e
  exact e
theorem sk_26 {code : ByteArray} {pc : Nat} {r : List Nat} (h : (code.data.toList.drop pc).map UInt8.toNat = 26 :: r) : decode code pc = .ok (.iload_n 0, 1) := by
  exact dk_26 (sk_at (l := [26]) (r := r) h)
theorem sk_27 {code : ByteArray} {pc : Nat} {r : List Nat} (h : (code.data.toList.drop pc).map UInt8.toNat = 27 :: r) : decode code pc = .ok (.iload_n 1, 1) := by
  exact dk_27 (sk_at (l := [27]) (r := r) h)
theorem sk_28 {code : ByteArray} {pc : Nat} {r : List Nat} (h : (code.data.toList.drop pc).map UInt8.toNat = 28 :: r) : decode code pc = .ok (.iload_n 2, 1) := by
  exact dk_28 (sk_at (l := [28]) (r := r) h)
theorem sk_29 {code : ByteArray} {pc : Nat} {r : List Nat} (h : (code.data.toList.drop pc).map UInt8.toNat = 29 :: r) : decode code pc = .ok (.iload_n 3, 1) := by
  exact dk_29 (sk_at (l := [29]) (r := r) h)
theorem sk_30 {code : ByteArray} {pc : Nat} {r : List Nat} (h : (code.data.toList.drop pc).map UInt8.toNat = 30 :: r) : decode code pc = .ok (.lload_n 0, 1) := by
  exact dk_30 (sk_at (l := [30]) (r := r) h)
theorem sk_31 {code : ByteArray} {pc : Nat} {r : List Nat} (h : (code.data.toList.drop pc).map UInt8.toNat = 31 :: r) : decode code pc = .ok (.lload_n 1, 1) := by
  exact dk_31 (sk_at (l := [31]) (r := r) h)
theorem sk_32 {code : ByteArray} {pc : Nat} {r : List Nat} (h : (code.data.toList.drop pc).map UInt8.toNat = 32 :: r) : decode code pc = .ok (.lload_n 2, 1) := by
  exact dk_32 (sk_at (l := [32]) (r := r) h)
theorem sk_33 {code : ByteArray} {pc : Nat} {r : List Nat} (h : (code.data.toList.drop pc).map UInt8.toNat = 33 :: r) : decode code pc = .ok (.lload_n 3, 1) := by
  exact dk_33 (sk_at (l := [33]) (r := r) h)
theorem sk_40 {code : ByteArray} {pc : Nat} {r : List Nat} (h : (code.data.toList.drop pc).map UInt8.toNat = 40 :: r) : decode code pc = .ok (.dload_n 2, 1) := by
  exact dk_40 (sk_at (l := [40]) (r := r) h)
theorem sk_42 {code : ByteArray} {pc : Nat} {r : List Nat} (h : (code.data.toList.drop pc).map UInt8.toNat = 42 :: r) : decode code pc = .ok (.aload_n 0, 1) := by
  exact dk_42 (sk_at (l := [42]) (r := r) h)
theorem sk_43 {code : ByteArray} {pc : Nat} {r : List Nat} (h : (code.data.toList.drop pc).map UInt8.toNat = 43 :: r) : decode code pc = .ok (.aload_n 1, 1) := by
  exact dk_43 (sk_at (l := [43]) (r := r) h)
theorem sk_44 {code : ByteArray} {pc : Nat} {r : List Nat} (h : (code.data.toList.drop pc).map UInt8.toNat = 44 :: r) : decode code pc = .ok (.aload_n 2, 1) := by
  exact dk_44 (sk_at (l := [44]) (r := r) h)
theorem sk_45 {code : ByteArray} {pc : Nat} {r : List Nat} (h : (code.data.toList.drop pc).map UInt8.toNat = 45 :: r) : decode code pc = .ok (.aload_n 3, 1) := by
  exact dk_45 (sk_at (l := [45]) (r := r) h)
theorem sk_46 {code : ByteArray} {pc : Nat} {r : List Nat} (h : (code.data.toList.drop pc).map UInt8.toNat = 46 :: r) : decode code pc = .ok (.iaload, 1) := by
  exact dk_46 (sk_at (l := [46]) (r := r) h)
theorem sk_47 {code : ByteArray} {pc : Nat} {r : List Nat} (h : (code.data.toList.drop pc).map UInt8.toNat = 47 :: r) : decode code pc = .ok (.laload, 1) := by
  exact dk_47 (sk_at (l := [47]) (r := r) h)
theorem sk_50 {code : ByteArray} {pc : Nat} {r : List Nat} (h : (code.data.toList.drop pc).map UInt8.toNat = 50 :: r) : decode code pc = .ok (.aaload, 1) := by
  exact dk_50 (sk_at (l := [50]) (r := r) h)
theorem sk_51 {code : ByteArray} {pc : Nat} {r : List Nat} (h : (code.data.toList.drop pc).map UInt8.toNat = 51 :: r) : decode code pc = .ok (.baload, 1) := by
  exact dk_51 (sk_at (l := [51]) (r := r) h)
theorem sk_52 {code : ByteArray} {pc : Nat} {r : List Nat} (h : (code.data.toList.drop pc).map UInt8.toNat = 52 :: r) : decode code pc = .ok (.caload, 1) := by
  exact dk_52 (sk_at (l := [52]) (r := r) h)
theorem sk_53 {code : ByteArray} {pc : Nat} {r : List Nat} (h : (code.data.toList.drop pc).map UInt8.toNat = 53 :: r) : decode code pc = .ok (.saload, 1) := by
  exact dk_53 (sk_at (l := [53]) (r := r) h)
theorem sk_54 {code : ByteArray} {pc : Nat} {r : List Nat} {a : Nat} (h : (code.data.toList.drop pc).map UInt8.toNat = 54 :: a :: r) : decode code pc = .ok (.istore a, 2) := by
  have ha := sk_n (sk_lt h (b := a) (by simp))
  have e := dk_54 (UInt8.ofNat a) (sk_at (l := [54, a]) (r := r) h)
  rw [ha] at e
  exact e
theorem sk_55 {code : ByteArray} {pc : Nat} {r : List Nat} {a : Nat} (h : (code.data.toList.drop pc).map UInt8.toNat = 55 :: a :: r) : decode code pc = .ok (.lstore a, 2) := by
  have ha := sk_n (sk_lt h (b := a) (by simp))
  have e := dk_55 (UInt8.ofNat a) (sk_at (l := [55, a]) (r := r) h)
  rw [ha] at e
  exact e
theorem sk_58 {code : ByteArray} {pc : Nat} {r : List Nat} {a : Nat} (h : (code.data.toList.drop pc).map UInt8.toNat = 58 :: a :: r) : decode code pc = .ok (.astore a, 2) := by
  have ha := sk_n (sk_lt h (b := a) (by simp))
  have e := dk_58 (UInt8.ofNat a) (sk_at (l := [58, a]) (r := r) h)
  rw [ha] at e
  exact e
theorem sk_60 {code : ByteArray} {pc : Nat} {r : List Nat} (h : (code.data.toList.drop pc).map UInt8.toNat = 60 :: r) : decode code pc = .ok (.istore_n 1, 1) := by
  exact dk_60 (sk_at (l := [60]) (r := r) h)
theorem sk_61 {code : ByteArray} {pc : Nat} {r : List Nat} (h : (code.data.toList.drop pc).map UInt8.toNat = 61 :: r) : decode code pc = .ok (.istore_n 2, 1) := by
  exact dk_61 (sk_at (l := [61]) (r := r) h)
theorem sk_62 {code : ByteArray} {pc : Nat} {r : List Nat} (h : (code.data.toList.drop pc).map UInt8.toNat = 62 :: r) : decode code pc = .ok (.istore_n 3, 1) := by
  exact dk_62 (sk_at (l := [62]) (r := r) h)
theorem sk_64 {code : ByteArray} {pc : Nat} {r : List Nat} (h : (code.data.toList.drop pc).map UInt8.toNat = 64 :: r) : decode code pc = .ok (.lstore_n 1, 1) := by
  exact dk_64 (sk_at (l := [64]) (r := r) h)
theorem sk_65 {code : ByteArray} {pc : Nat} {r : List Nat} (h : (code.data.toList.drop pc).map UInt8.toNat = 65 :: r) : decode code pc = .ok (.lstore_n 2, 1) := by
  exact dk_65 (sk_at (l := [65]) (r := r) h)
theorem sk_66 {code : ByteArray} {pc : Nat} {r : List Nat} (h : (code.data.toList.drop pc).map UInt8.toNat = 66 :: r) : decode code pc = .ok (.lstore_n 3, 1) := by
  exact dk_66 (sk_at (l := [66]) (r := r) h)
theorem sk_76 {code : ByteArray} {pc : Nat} {r : List Nat} (h : (code.data.toList.drop pc).map UInt8.toNat = 76 :: r) : decode code pc = .ok (.astore_n 1, 1) := by
  exact dk_76 (sk_at (l := [76]) (r := r) h)
theorem sk_77 {code : ByteArray} {pc : Nat} {r : List Nat} (h : (code.data.toList.drop pc).map UInt8.toNat = 77 :: r) : decode code pc = .ok (.astore_n 2, 1) := by
  exact dk_77 (sk_at (l := [77]) (r := r) h)
theorem sk_78 {code : ByteArray} {pc : Nat} {r : List Nat} (h : (code.data.toList.drop pc).map UInt8.toNat = 78 :: r) : decode code pc = .ok (.astore_n 3, 1) := by
  exact dk_78 (sk_at (l := [78]) (r := r) h)
theorem sk_79 {code : ByteArray} {pc : Nat} {r : List Nat} (h : (code.data.toList.drop pc).map UInt8.toNat = 79 :: r) : decode code pc = .ok (.iastore, 1) := by
  exact dk_79 (sk_at (l := [79]) (r := r) h)
theorem sk_80 {code : ByteArray} {pc : Nat} {r : List Nat} (h : (code.data.toList.drop pc).map UInt8.toNat = 80 :: r) : decode code pc = .ok (.lastore, 1) := by
  exact dk_80 (sk_at (l := [80]) (r := r) h)
theorem sk_83 {code : ByteArray} {pc : Nat} {r : List Nat} (h : (code.data.toList.drop pc).map UInt8.toNat = 83 :: r) : decode code pc = .ok (.aastore, 1) := by
  exact dk_83 (sk_at (l := [83]) (r := r) h)
theorem sk_84 {code : ByteArray} {pc : Nat} {r : List Nat} (h : (code.data.toList.drop pc).map UInt8.toNat = 84 :: r) : decode code pc = .ok (.bastore, 1) := by
  exact dk_84 (sk_at (l := [84]) (r := r) h)
theorem sk_85 {code : ByteArray} {pc : Nat} {r : List Nat} (h : (code.data.toList.drop pc).map UInt8.toNat = 85 :: r) : decode code pc = .ok (.castore, 1) := by
  exact dk_85 (sk_at (l := [85]) (r := r) h)
theorem sk_86 {code : ByteArray} {pc : Nat} {r : List Nat} (h : (code.data.toList.drop pc).map UInt8.toNat = 86 :: r) : decode code pc = .ok (.sastore, 1) := by
  exact dk_86 (sk_at (l := [86]) (r := r) h)
theorem sk_87 {code : ByteArray} {pc : Nat} {r : List Nat} (h : (code.data.toList.drop pc).map UInt8.toNat = 87 :: r) : decode code pc = .ok (.pop, 1) := by
  exact dk_87 (sk_at (l := [87]) (r := r) h)
theorem sk_89 {code : ByteArray} {pc : Nat} {r : List Nat} (h : (code.data.toList.drop pc).map UInt8.toNat = 89 :: r) : decode code pc = .ok (.dup, 1) := by
  exact dk_89 (sk_at (l := [89]) (r := r) h)
theorem sk_90 {code : ByteArray} {pc : Nat} {r : List Nat} (h : (code.data.toList.drop pc).map UInt8.toNat = 90 :: r) : decode code pc = .ok (.dup_x1, 1) := by
  exact dk_90 (sk_at (l := [90]) (r := r) h)
theorem sk_91 {code : ByteArray} {pc : Nat} {r : List Nat} (h : (code.data.toList.drop pc).map UInt8.toNat = 91 :: r) : decode code pc = .ok (.dup_x2, 1) := by
  exact dk_91 (sk_at (l := [91]) (r := r) h)
theorem sk_92 {code : ByteArray} {pc : Nat} {r : List Nat} (h : (code.data.toList.drop pc).map UInt8.toNat = 92 :: r) : decode code pc = .ok (.dup2, 1) := by
  exact dk_92 (sk_at (l := [92]) (r := r) h)
theorem sk_96 {code : ByteArray} {pc : Nat} {r : List Nat} (h : (code.data.toList.drop pc).map UInt8.toNat = 96 :: r) : decode code pc = .ok (.iadd, 1) := by
  exact dk_96 (sk_at (l := [96]) (r := r) h)
theorem sk_97 {code : ByteArray} {pc : Nat} {r : List Nat} (h : (code.data.toList.drop pc).map UInt8.toNat = 97 :: r) : decode code pc = .ok (.ladd, 1) := by
  exact dk_97 (sk_at (l := [97]) (r := r) h)
theorem sk_100 {code : ByteArray} {pc : Nat} {r : List Nat} (h : (code.data.toList.drop pc).map UInt8.toNat = 100 :: r) : decode code pc = .ok (.isub, 1) := by
  exact dk_100 (sk_at (l := [100]) (r := r) h)
theorem sk_101 {code : ByteArray} {pc : Nat} {r : List Nat} (h : (code.data.toList.drop pc).map UInt8.toNat = 101 :: r) : decode code pc = .ok (.lsub, 1) := by
  exact dk_101 (sk_at (l := [101]) (r := r) h)
theorem sk_104 {code : ByteArray} {pc : Nat} {r : List Nat} (h : (code.data.toList.drop pc).map UInt8.toNat = 104 :: r) : decode code pc = .ok (.imul, 1) := by
  exact dk_104 (sk_at (l := [104]) (r := r) h)
theorem sk_105 {code : ByteArray} {pc : Nat} {r : List Nat} (h : (code.data.toList.drop pc).map UInt8.toNat = 105 :: r) : decode code pc = .ok (.lmul, 1) := by
  exact dk_105 (sk_at (l := [105]) (r := r) h)
theorem sk_108 {code : ByteArray} {pc : Nat} {r : List Nat} (h : (code.data.toList.drop pc).map UInt8.toNat = 108 :: r) : decode code pc = .ok (.idiv, 1) := by
  exact dk_108 (sk_at (l := [108]) (r := r) h)
theorem sk_109 {code : ByteArray} {pc : Nat} {r : List Nat} (h : (code.data.toList.drop pc).map UInt8.toNat = 109 :: r) : decode code pc = .ok (.ldiv, 1) := by
  exact dk_109 (sk_at (l := [109]) (r := r) h)
theorem sk_111 {code : ByteArray} {pc : Nat} {r : List Nat} (h : (code.data.toList.drop pc).map UInt8.toNat = 111 :: r) : decode code pc = .ok (.ddiv, 1) := by
  exact dk_111 (sk_at (l := [111]) (r := r) h)
theorem sk_112 {code : ByteArray} {pc : Nat} {r : List Nat} (h : (code.data.toList.drop pc).map UInt8.toNat = 112 :: r) : decode code pc = .ok (.irem, 1) := by
  exact dk_112 (sk_at (l := [112]) (r := r) h)
theorem sk_113 {code : ByteArray} {pc : Nat} {r : List Nat} (h : (code.data.toList.drop pc).map UInt8.toNat = 113 :: r) : decode code pc = .ok (.lrem, 1) := by
  exact dk_113 (sk_at (l := [113]) (r := r) h)
theorem sk_116 {code : ByteArray} {pc : Nat} {r : List Nat} (h : (code.data.toList.drop pc).map UInt8.toNat = 116 :: r) : decode code pc = .ok (.ineg, 1) := by
  exact dk_116 (sk_at (l := [116]) (r := r) h)
theorem sk_117 {code : ByteArray} {pc : Nat} {r : List Nat} (h : (code.data.toList.drop pc).map UInt8.toNat = 117 :: r) : decode code pc = .ok (.lneg, 1) := by
  exact dk_117 (sk_at (l := [117]) (r := r) h)
theorem sk_120 {code : ByteArray} {pc : Nat} {r : List Nat} (h : (code.data.toList.drop pc).map UInt8.toNat = 120 :: r) : decode code pc = .ok (.ishl, 1) := by
  exact dk_120 (sk_at (l := [120]) (r := r) h)
theorem sk_121 {code : ByteArray} {pc : Nat} {r : List Nat} (h : (code.data.toList.drop pc).map UInt8.toNat = 121 :: r) : decode code pc = .ok (.lshl, 1) := by
  exact dk_121 (sk_at (l := [121]) (r := r) h)
theorem sk_122 {code : ByteArray} {pc : Nat} {r : List Nat} (h : (code.data.toList.drop pc).map UInt8.toNat = 122 :: r) : decode code pc = .ok (.ishr, 1) := by
  exact dk_122 (sk_at (l := [122]) (r := r) h)
theorem sk_125 {code : ByteArray} {pc : Nat} {r : List Nat} (h : (code.data.toList.drop pc).map UInt8.toNat = 125 :: r) : decode code pc = .ok (.lushr, 1) := by
  exact dk_125 (sk_at (l := [125]) (r := r) h)
theorem sk_126 {code : ByteArray} {pc : Nat} {r : List Nat} (h : (code.data.toList.drop pc).map UInt8.toNat = 126 :: r) : decode code pc = .ok (.iand, 1) := by
  exact dk_126 (sk_at (l := [126]) (r := r) h)
theorem sk_127 {code : ByteArray} {pc : Nat} {r : List Nat} (h : (code.data.toList.drop pc).map UInt8.toNat = 127 :: r) : decode code pc = .ok (.land, 1) := by
  exact dk_127 (sk_at (l := [127]) (r := r) h)
theorem sk_128 {code : ByteArray} {pc : Nat} {r : List Nat} (h : (code.data.toList.drop pc).map UInt8.toNat = 128 :: r) : decode code pc = .ok (.ior, 1) := by
  exact dk_128 (sk_at (l := [128]) (r := r) h)
theorem sk_129 {code : ByteArray} {pc : Nat} {r : List Nat} (h : (code.data.toList.drop pc).map UInt8.toNat = 129 :: r) : decode code pc = .ok (.lor, 1) := by
  exact dk_129 (sk_at (l := [129]) (r := r) h)
theorem sk_130 {code : ByteArray} {pc : Nat} {r : List Nat} (h : (code.data.toList.drop pc).map UInt8.toNat = 130 :: r) : decode code pc = .ok (.ixor, 1) := by
  exact dk_130 (sk_at (l := [130]) (r := r) h)
theorem sk_131 {code : ByteArray} {pc : Nat} {r : List Nat} (h : (code.data.toList.drop pc).map UInt8.toNat = 131 :: r) : decode code pc = .ok (.lxor, 1) := by
  exact dk_131 (sk_at (l := [131]) (r := r) h)
theorem sk_132 {code : ByteArray} {pc : Nat} {r : List Nat} {a b : Nat} (h : (code.data.toList.drop pc).map UInt8.toNat = 132 :: a :: b :: r) : decode code pc = .ok (.iinc a (Reader.signed 8 b), 3) := by
  have ha := sk_n (sk_lt h (b := a) (by simp))
  have hb := sk_n (sk_lt h (b := b) (by simp))
  have e := dk_132 (UInt8.ofNat a) (UInt8.ofNat b) (sk_at (l := [132, a, b]) (r := r) h)
  rw [ha, hb] at e
  exact e
theorem sk_133 {code : ByteArray} {pc : Nat} {r : List Nat} (h : (code.data.toList.drop pc).map UInt8.toNat = 133 :: r) : decode code pc = .ok (.i2l, 1) := by
  exact dk_133 (sk_at (l := [133]) (r := r) h)
theorem sk_135 {code : ByteArray} {pc : Nat} {r : List Nat} (h : (code.data.toList.drop pc).map UInt8.toNat = 135 :: r) : decode code pc = .ok (.i2d, 1) := by
  exact dk_135 (sk_at (l := [135]) (r := r) h)
theorem sk_136 {code : ByteArray} {pc : Nat} {r : List Nat} (h : (code.data.toList.drop pc).map UInt8.toNat = 136 :: r) : decode code pc = .ok (.l2i, 1) := by
  exact dk_136 (sk_at (l := [136]) (r := r) h)
theorem sk_145 {code : ByteArray} {pc : Nat} {r : List Nat} (h : (code.data.toList.drop pc).map UInt8.toNat = 145 :: r) : decode code pc = .ok (.i2b, 1) := by
  exact dk_145 (sk_at (l := [145]) (r := r) h)
theorem sk_146 {code : ByteArray} {pc : Nat} {r : List Nat} (h : (code.data.toList.drop pc).map UInt8.toNat = 146 :: r) : decode code pc = .ok (.i2c, 1) := by
  exact dk_146 (sk_at (l := [146]) (r := r) h)
theorem sk_147 {code : ByteArray} {pc : Nat} {r : List Nat} (h : (code.data.toList.drop pc).map UInt8.toNat = 147 :: r) : decode code pc = .ok (.i2s, 1) := by
  exact dk_147 (sk_at (l := [147]) (r := r) h)
theorem sk_148 {code : ByteArray} {pc : Nat} {r : List Nat} (h : (code.data.toList.drop pc).map UInt8.toNat = 148 :: r) : decode code pc = .ok (.lcmp, 1) := by
  exact dk_148 (sk_at (l := [148]) (r := r) h)
theorem sk_151 {code : ByteArray} {pc : Nat} {r : List Nat} (h : (code.data.toList.drop pc).map UInt8.toNat = 151 :: r) : decode code pc = .ok (.dcmp .l, 1) := by
  exact dk_151 (sk_at (l := [151]) (r := r) h)
theorem sk_152 {code : ByteArray} {pc : Nat} {r : List Nat} (h : (code.data.toList.drop pc).map UInt8.toNat = 152 :: r) : decode code pc = .ok (.dcmp .g, 1) := by
  exact dk_152 (sk_at (l := [152]) (r := r) h)
theorem sk_153 {code : ByteArray} {pc : Nat} {r : List Nat} {a b : Nat} (h : (code.data.toList.drop pc).map UInt8.toNat = 153 :: a :: b :: r) : decode code pc = .ok (.ifCond .eq (Reader.signed 16 (a * 256 + b)), 3) := by
  have ha := sk_n (sk_lt h (b := a) (by simp))
  have hb := sk_n (sk_lt h (b := b) (by simp))
  have e := dk_153 (UInt8.ofNat a) (UInt8.ofNat b) (sk_at (l := [153, a, b]) (r := r) h)
  rw [ha, hb] at e
  exact e
theorem sk_154 {code : ByteArray} {pc : Nat} {r : List Nat} {a b : Nat} (h : (code.data.toList.drop pc).map UInt8.toNat = 154 :: a :: b :: r) : decode code pc = .ok (.ifCond .ne (Reader.signed 16 (a * 256 + b)), 3) := by
  have ha := sk_n (sk_lt h (b := a) (by simp))
  have hb := sk_n (sk_lt h (b := b) (by simp))
  have e := dk_154 (UInt8.ofNat a) (UInt8.ofNat b) (sk_at (l := [154, a, b]) (r := r) h)
  rw [ha, hb] at e
  exact e
theorem sk_155 {code : ByteArray} {pc : Nat} {r : List Nat} {a b : Nat} (h : (code.data.toList.drop pc).map UInt8.toNat = 155 :: a :: b :: r) : decode code pc = .ok (.ifCond .lt (Reader.signed 16 (a * 256 + b)), 3) := by
  have ha := sk_n (sk_lt h (b := a) (by simp))
  have hb := sk_n (sk_lt h (b := b) (by simp))
  have e := dk_155 (UInt8.ofNat a) (UInt8.ofNat b) (sk_at (l := [155, a, b]) (r := r) h)
  rw [ha, hb] at e
  exact e
theorem sk_156 {code : ByteArray} {pc : Nat} {r : List Nat} {a b : Nat} (h : (code.data.toList.drop pc).map UInt8.toNat = 156 :: a :: b :: r) : decode code pc = .ok (.ifCond .ge (Reader.signed 16 (a * 256 + b)), 3) := by
  have ha := sk_n (sk_lt h (b := a) (by simp))
  have hb := sk_n (sk_lt h (b := b) (by simp))
  have e := dk_156 (UInt8.ofNat a) (UInt8.ofNat b) (sk_at (l := [156, a, b]) (r := r) h)
  rw [ha, hb] at e
  exact e
theorem sk_157 {code : ByteArray} {pc : Nat} {r : List Nat} {a b : Nat} (h : (code.data.toList.drop pc).map UInt8.toNat = 157 :: a :: b :: r) : decode code pc = .ok (.ifCond .gt (Reader.signed 16 (a * 256 + b)), 3) := by
  have ha := sk_n (sk_lt h (b := a) (by simp))
  have hb := sk_n (sk_lt h (b := b) (by simp))
  have e := dk_157 (UInt8.ofNat a) (UInt8.ofNat b) (sk_at (l := [157, a, b]) (r := r) h)
  rw [ha, hb] at e
  exact e
theorem sk_158 {code : ByteArray} {pc : Nat} {r : List Nat} {a b : Nat} (h : (code.data.toList.drop pc).map UInt8.toNat = 158 :: a :: b :: r) : decode code pc = .ok (.ifCond .le (Reader.signed 16 (a * 256 + b)), 3) := by
  have ha := sk_n (sk_lt h (b := a) (by simp))
  have hb := sk_n (sk_lt h (b := b) (by simp))
  have e := dk_158 (UInt8.ofNat a) (UInt8.ofNat b) (sk_at (l := [158, a, b]) (r := r) h)
  rw [ha, hb] at e
  exact e
theorem sk_159 {code : ByteArray} {pc : Nat} {r : List Nat} {a b : Nat} (h : (code.data.toList.drop pc).map UInt8.toNat = 159 :: a :: b :: r) : decode code pc = .ok (.if_icmp .eq (Reader.signed 16 (a * 256 + b)), 3) := by
  have ha := sk_n (sk_lt h (b := a) (by simp))
  have hb := sk_n (sk_lt h (b := b) (by simp))
  have e := dk_159 (UInt8.ofNat a) (UInt8.ofNat b) (sk_at (l := [159, a, b]) (r := r) h)
  rw [ha, hb] at e
  exact e
theorem sk_160 {code : ByteArray} {pc : Nat} {r : List Nat} {a b : Nat} (h : (code.data.toList.drop pc).map UInt8.toNat = 160 :: a :: b :: r) : decode code pc = .ok (.if_icmp .ne (Reader.signed 16 (a * 256 + b)), 3) := by
  have ha := sk_n (sk_lt h (b := a) (by simp))
  have hb := sk_n (sk_lt h (b := b) (by simp))
  have e := dk_160 (UInt8.ofNat a) (UInt8.ofNat b) (sk_at (l := [160, a, b]) (r := r) h)
  rw [ha, hb] at e
  exact e
theorem sk_161 {code : ByteArray} {pc : Nat} {r : List Nat} {a b : Nat} (h : (code.data.toList.drop pc).map UInt8.toNat = 161 :: a :: b :: r) : decode code pc = .ok (.if_icmp .lt (Reader.signed 16 (a * 256 + b)), 3) := by
  have ha := sk_n (sk_lt h (b := a) (by simp))
  have hb := sk_n (sk_lt h (b := b) (by simp))
  have e := dk_161 (UInt8.ofNat a) (UInt8.ofNat b) (sk_at (l := [161, a, b]) (r := r) h)
  rw [ha, hb] at e
  exact e
theorem sk_162 {code : ByteArray} {pc : Nat} {r : List Nat} {a b : Nat} (h : (code.data.toList.drop pc).map UInt8.toNat = 162 :: a :: b :: r) : decode code pc = .ok (.if_icmp .ge (Reader.signed 16 (a * 256 + b)), 3) := by
  have ha := sk_n (sk_lt h (b := a) (by simp))
  have hb := sk_n (sk_lt h (b := b) (by simp))
  have e := dk_162 (UInt8.ofNat a) (UInt8.ofNat b) (sk_at (l := [162, a, b]) (r := r) h)
  rw [ha, hb] at e
  exact e
theorem sk_163 {code : ByteArray} {pc : Nat} {r : List Nat} {a b : Nat} (h : (code.data.toList.drop pc).map UInt8.toNat = 163 :: a :: b :: r) : decode code pc = .ok (.if_icmp .gt (Reader.signed 16 (a * 256 + b)), 3) := by
  have ha := sk_n (sk_lt h (b := a) (by simp))
  have hb := sk_n (sk_lt h (b := b) (by simp))
  have e := dk_163 (UInt8.ofNat a) (UInt8.ofNat b) (sk_at (l := [163, a, b]) (r := r) h)
  rw [ha, hb] at e
  exact e
theorem sk_164 {code : ByteArray} {pc : Nat} {r : List Nat} {a b : Nat} (h : (code.data.toList.drop pc).map UInt8.toNat = 164 :: a :: b :: r) : decode code pc = .ok (.if_icmp .le (Reader.signed 16 (a * 256 + b)), 3) := by
  have ha := sk_n (sk_lt h (b := a) (by simp))
  have hb := sk_n (sk_lt h (b := b) (by simp))
  have e := dk_164 (UInt8.ofNat a) (UInt8.ofNat b) (sk_at (l := [164, a, b]) (r := r) h)
  rw [ha, hb] at e
  exact e
theorem sk_165 {code : ByteArray} {pc : Nat} {r : List Nat} {a b : Nat} (h : (code.data.toList.drop pc).map UInt8.toNat = 165 :: a :: b :: r) : decode code pc = .ok (.if_acmp .eq (Reader.signed 16 (a * 256 + b)), 3) := by
  have ha := sk_n (sk_lt h (b := a) (by simp))
  have hb := sk_n (sk_lt h (b := b) (by simp))
  have e := dk_165 (UInt8.ofNat a) (UInt8.ofNat b) (sk_at (l := [165, a, b]) (r := r) h)
  rw [ha, hb] at e
  exact e
theorem sk_166 {code : ByteArray} {pc : Nat} {r : List Nat} {a b : Nat} (h : (code.data.toList.drop pc).map UInt8.toNat = 166 :: a :: b :: r) : decode code pc = .ok (.if_acmp .ne (Reader.signed 16 (a * 256 + b)), 3) := by
  have ha := sk_n (sk_lt h (b := a) (by simp))
  have hb := sk_n (sk_lt h (b := b) (by simp))
  have e := dk_166 (UInt8.ofNat a) (UInt8.ofNat b) (sk_at (l := [166, a, b]) (r := r) h)
  rw [ha, hb] at e
  exact e
theorem sk_167 {code : ByteArray} {pc : Nat} {r : List Nat} {a b : Nat} (h : (code.data.toList.drop pc).map UInt8.toNat = 167 :: a :: b :: r) : decode code pc = .ok (.goto (Reader.signed 16 (a * 256 + b)), 3) := by
  have ha := sk_n (sk_lt h (b := a) (by simp))
  have hb := sk_n (sk_lt h (b := b) (by simp))
  have e := dk_167 (UInt8.ofNat a) (UInt8.ofNat b) (sk_at (l := [167, a, b]) (r := r) h)
  rw [ha, hb] at e
  exact e
theorem sk_172 {code : ByteArray} {pc : Nat} {r : List Nat} (h : (code.data.toList.drop pc).map UInt8.toNat = 172 :: r) : decode code pc = .ok (.ireturn, 1) := by
  exact dk_172 (sk_at (l := [172]) (r := r) h)
theorem sk_173 {code : ByteArray} {pc : Nat} {r : List Nat} (h : (code.data.toList.drop pc).map UInt8.toNat = 173 :: r) : decode code pc = .ok (.lreturn, 1) := by
  exact dk_173 (sk_at (l := [173]) (r := r) h)
theorem sk_176 {code : ByteArray} {pc : Nat} {r : List Nat} (h : (code.data.toList.drop pc).map UInt8.toNat = 176 :: r) : decode code pc = .ok (.areturn, 1) := by
  exact dk_176 (sk_at (l := [176]) (r := r) h)
theorem sk_177 {code : ByteArray} {pc : Nat} {r : List Nat} (h : (code.data.toList.drop pc).map UInt8.toNat = 177 :: r) : decode code pc = .ok (.return_, 1) := by
  exact dk_177 (sk_at (l := [177]) (r := r) h)
theorem sk_178 {code : ByteArray} {pc : Nat} {r : List Nat} {a b : Nat} (h : (code.data.toList.drop pc).map UInt8.toNat = 178 :: a :: b :: r) : decode code pc = .ok (.getstatic (a * 256 + b), 3) := by
  have ha := sk_n (sk_lt h (b := a) (by simp))
  have hb := sk_n (sk_lt h (b := b) (by simp))
  have e := dk_178 (UInt8.ofNat a) (UInt8.ofNat b) (sk_at (l := [178, a, b]) (r := r) h)
  rw [ha, hb] at e
  exact e
theorem sk_180 {code : ByteArray} {pc : Nat} {r : List Nat} {a b : Nat} (h : (code.data.toList.drop pc).map UInt8.toNat = 180 :: a :: b :: r) : decode code pc = .ok (.getfield (a * 256 + b), 3) := by
  have ha := sk_n (sk_lt h (b := a) (by simp))
  have hb := sk_n (sk_lt h (b := b) (by simp))
  have e := dk_180 (UInt8.ofNat a) (UInt8.ofNat b) (sk_at (l := [180, a, b]) (r := r) h)
  rw [ha, hb] at e
  exact e
theorem sk_181 {code : ByteArray} {pc : Nat} {r : List Nat} {a b : Nat} (h : (code.data.toList.drop pc).map UInt8.toNat = 181 :: a :: b :: r) : decode code pc = .ok (.putfield (a * 256 + b), 3) := by
  have ha := sk_n (sk_lt h (b := a) (by simp))
  have hb := sk_n (sk_lt h (b := b) (by simp))
  have e := dk_181 (UInt8.ofNat a) (UInt8.ofNat b) (sk_at (l := [181, a, b]) (r := r) h)
  rw [ha, hb] at e
  exact e
theorem sk_182 {code : ByteArray} {pc : Nat} {r : List Nat} {a b : Nat} (h : (code.data.toList.drop pc).map UInt8.toNat = 182 :: a :: b :: r) : decode code pc = .ok (.invokevirtual (a * 256 + b), 3) := by
  have ha := sk_n (sk_lt h (b := a) (by simp))
  have hb := sk_n (sk_lt h (b := b) (by simp))
  have e := dk_182 (UInt8.ofNat a) (UInt8.ofNat b) (sk_at (l := [182, a, b]) (r := r) h)
  rw [ha, hb] at e
  exact e
theorem sk_183 {code : ByteArray} {pc : Nat} {r : List Nat} {a b : Nat} (h : (code.data.toList.drop pc).map UInt8.toNat = 183 :: a :: b :: r) : decode code pc = .ok (.invokespecial (a * 256 + b), 3) := by
  have ha := sk_n (sk_lt h (b := a) (by simp))
  have hb := sk_n (sk_lt h (b := b) (by simp))
  have e := dk_183 (UInt8.ofNat a) (UInt8.ofNat b) (sk_at (l := [183, a, b]) (r := r) h)
  rw [ha, hb] at e
  exact e
theorem sk_184 {code : ByteArray} {pc : Nat} {r : List Nat} {a b : Nat} (h : (code.data.toList.drop pc).map UInt8.toNat = 184 :: a :: b :: r) : decode code pc = .ok (.invokestatic (a * 256 + b), 3) := by
  have ha := sk_n (sk_lt h (b := a) (by simp))
  have hb := sk_n (sk_lt h (b := b) (by simp))
  have e := dk_184 (UInt8.ofNat a) (UInt8.ofNat b) (sk_at (l := [184, a, b]) (r := r) h)
  rw [ha, hb] at e
  exact e
theorem sk_187 {code : ByteArray} {pc : Nat} {r : List Nat} {a b : Nat} (h : (code.data.toList.drop pc).map UInt8.toNat = 187 :: a :: b :: r) : decode code pc = .ok (.new (a * 256 + b), 3) := by
  have ha := sk_n (sk_lt h (b := a) (by simp))
  have hb := sk_n (sk_lt h (b := b) (by simp))
  have e := dk_187 (UInt8.ofNat a) (UInt8.ofNat b) (sk_at (l := [187, a, b]) (r := r) h)
  rw [ha, hb] at e
  exact e
theorem sk_188_4 {code : ByteArray} {pc : Nat} {r : List Nat} (h : (code.data.toList.drop pc).map UInt8.toNat = 188 :: 4 :: r) : decode code pc = .ok (.newarray .boolean, 2) := by
  exact dk_188_4 (sk_at (l := [188, 4]) (r := r) h)
theorem sk_188_5 {code : ByteArray} {pc : Nat} {r : List Nat} (h : (code.data.toList.drop pc).map UInt8.toNat = 188 :: 5 :: r) : decode code pc = .ok (.newarray .char, 2) := by
  exact dk_188_5 (sk_at (l := [188, 5]) (r := r) h)
theorem sk_188_8 {code : ByteArray} {pc : Nat} {r : List Nat} (h : (code.data.toList.drop pc).map UInt8.toNat = 188 :: 8 :: r) : decode code pc = .ok (.newarray .byte, 2) := by
  exact dk_188_8 (sk_at (l := [188, 8]) (r := r) h)
theorem sk_188_9 {code : ByteArray} {pc : Nat} {r : List Nat} (h : (code.data.toList.drop pc).map UInt8.toNat = 188 :: 9 :: r) : decode code pc = .ok (.newarray .short, 2) := by
  exact dk_188_9 (sk_at (l := [188, 9]) (r := r) h)
theorem sk_188_10 {code : ByteArray} {pc : Nat} {r : List Nat} (h : (code.data.toList.drop pc).map UInt8.toNat = 188 :: 10 :: r) : decode code pc = .ok (.newarray .int, 2) := by
  exact dk_188_10 (sk_at (l := [188, 10]) (r := r) h)
theorem sk_188_11 {code : ByteArray} {pc : Nat} {r : List Nat} (h : (code.data.toList.drop pc).map UInt8.toNat = 188 :: 11 :: r) : decode code pc = .ok (.newarray .long, 2) := by
  exact dk_188_11 (sk_at (l := [188, 11]) (r := r) h)
theorem sk_189 {code : ByteArray} {pc : Nat} {r : List Nat} {a b : Nat} (h : (code.data.toList.drop pc).map UInt8.toNat = 189 :: a :: b :: r) : decode code pc = .ok (.anewarray (a * 256 + b), 3) := by
  have ha := sk_n (sk_lt h (b := a) (by simp))
  have hb := sk_n (sk_lt h (b := b) (by simp))
  have e := dk_189 (UInt8.ofNat a) (UInt8.ofNat b) (sk_at (l := [189, a, b]) (r := r) h)
  rw [ha, hb] at e
  exact e
theorem sk_190 {code : ByteArray} {pc : Nat} {r : List Nat} (h : (code.data.toList.drop pc).map UInt8.toNat = 190 :: r) : decode code pc = .ok (.arraylength, 1) := by
  exact dk_190 (sk_at (l := [190]) (r := r) h)
theorem sk_191 {code : ByteArray} {pc : Nat} {r : List Nat} (h : (code.data.toList.drop pc).map UInt8.toNat = 191 :: r) : decode code pc = .ok (.athrow, 1) := by
  exact dk_191 (sk_at (l := [191]) (r := r) h)
theorem sk_192 {code : ByteArray} {pc : Nat} {r : List Nat} {a b : Nat} (h : (code.data.toList.drop pc).map UInt8.toNat = 192 :: a :: b :: r) : decode code pc = .ok (.checkcast (a * 256 + b), 3) := by
  have ha := sk_n (sk_lt h (b := a) (by simp))
  have hb := sk_n (sk_lt h (b := b) (by simp))
  have e := dk_192 (UInt8.ofNat a) (UInt8.ofNat b) (sk_at (l := [192, a, b]) (r := r) h)
  rw [ha, hb] at e
  exact e
theorem sk_198 {code : ByteArray} {pc : Nat} {r : List Nat} {a b : Nat} (h : (code.data.toList.drop pc).map UInt8.toNat = 198 :: a :: b :: r) : decode code pc = .ok (.ifnull (Reader.signed 16 (a * 256 + b)), 3) := by
  have ha := sk_n (sk_lt h (b := a) (by simp))
  have hb := sk_n (sk_lt h (b := b) (by simp))
  have e := dk_198 (UInt8.ofNat a) (UInt8.ofNat b) (sk_at (l := [198, a, b]) (r := r) h)
  rw [ha, hb] at e
  exact e
theorem sk_199 {code : ByteArray} {pc : Nat} {r : List Nat} {a b : Nat} (h : (code.data.toList.drop pc).map UInt8.toNat = 199 :: a :: b :: r) : decode code pc = .ok (.ifnonnull (Reader.signed 16 (a * 256 + b)), 3) := by
  have ha := sk_n (sk_lt h (b := a) (by simp))
  have hb := sk_n (sk_lt h (b := b) (by simp))
  have e := dk_199 (UInt8.ofNat a) (UInt8.ofNat b) (sk_at (l := [199, a, b]) (r := r) h)
  rw [ha, hb] at e
  exact e
def sd_leaf (o : Nat) (b : Nat) (x : Option (Instr × Nat)) : Option (Instr × Nat) := if b = o then x else none
def sdb (b : Nat) (q : List Nat) : Option (Instr × Nat) := if b < 100 then (if b < 45 then (if b < 20 then (if b < 8 then (if b < 4 then (if b < 2 then (sd_leaf 1 b (some (.aconst_null, 1))) else (if b < 3 then (sd_leaf 2 b (some (.iconst (-1), 1))) else (sd_leaf 3 b (some (.iconst 0, 1))))) else (if b < 6 then (if b < 5 then (sd_leaf 4 b (some (.iconst 1, 1))) else (sd_leaf 5 b (some (.iconst 2, 1)))) else (if b < 7 then (sd_leaf 6 b (some (.iconst 3, 1))) else (sd_leaf 7 b (some (.iconst 4, 1)))))) else (if b < 16 then (if b < 10 then (if b < 9 then (sd_leaf 8 b (some (.iconst 5, 1))) else (sd_leaf 9 b (some (.lconst 0, 1)))) else (if b < 14 then (sd_leaf 10 b (some (.lconst 1, 1))) else (sd_leaf 14 b (some (.dconst 0, 1))))) else (if b < 18 then (if b < 17 then (sd_leaf 16 b (match q with | a :: _ => some (.bipush (Reader.signed 8 a), 2) | _ => none)) else (sd_leaf 17 b (match q with | a :: b :: _ => some (.sipush (Reader.signed 16 (a * 256 + b)), 3) | _ => none))) else (if b < 19 then (sd_leaf 18 b (match q with | a :: _ => some (.ldc a, 2) | _ => none)) else (sd_leaf 19 b (match q with | a :: b :: _ => some (.ldc_w (a * 256 + b), 3) | _ => none)))))) else (if b < 30 then (if b < 26 then (if b < 22 then (if b < 21 then (sd_leaf 20 b (match q with | a :: b :: _ => some (.ldc2_w (a * 256 + b), 3) | _ => none)) else (sd_leaf 21 b (match q with | a :: _ => some (.iload a, 2) | _ => none))) else (if b < 25 then (sd_leaf 22 b (match q with | a :: _ => some (.lload a, 2) | _ => none)) else (sd_leaf 25 b (match q with | a :: _ => some (.aload a, 2) | _ => none)))) else (if b < 28 then (if b < 27 then (sd_leaf 26 b (some (.iload_n 0, 1))) else (sd_leaf 27 b (some (.iload_n 1, 1)))) else (if b < 29 then (sd_leaf 28 b (some (.iload_n 2, 1))) else (sd_leaf 29 b (some (.iload_n 3, 1)))))) else (if b < 40 then (if b < 32 then (if b < 31 then (sd_leaf 30 b (some (.lload_n 0, 1))) else (sd_leaf 31 b (some (.lload_n 1, 1)))) else (if b < 33 then (sd_leaf 32 b (some (.lload_n 2, 1))) else (sd_leaf 33 b (some (.lload_n 3, 1))))) else (if b < 43 then (if b < 42 then (sd_leaf 40 b (some (.dload_n 2, 1))) else (sd_leaf 42 b (some (.aload_n 0, 1)))) else (if b < 44 then (sd_leaf 43 b (some (.aload_n 1, 1))) else (sd_leaf 44 b (some (.aload_n 2, 1)))))))) else (if b < 76 then (if b < 55 then (if b < 51 then (if b < 47 then (if b < 46 then (sd_leaf 45 b (some (.aload_n 3, 1))) else (sd_leaf 46 b (some (.iaload, 1)))) else (if b < 50 then (sd_leaf 47 b (some (.laload, 1))) else (sd_leaf 50 b (some (.aaload, 1))))) else (if b < 53 then (if b < 52 then (sd_leaf 51 b (some (.baload, 1))) else (sd_leaf 52 b (some (.caload, 1)))) else (if b < 54 then (sd_leaf 53 b (some (.saload, 1))) else (sd_leaf 54 b (match q with | a :: _ => some (.istore a, 2) | _ => none))))) else (if b < 62 then (if b < 60 then (if b < 58 then (sd_leaf 55 b (match q with | a :: _ => some (.lstore a, 2) | _ => none)) else (sd_leaf 58 b (match q with | a :: _ => some (.astore a, 2) | _ => none))) else (if b < 61 then (sd_leaf 60 b (some (.istore_n 1, 1))) else (sd_leaf 61 b (some (.istore_n 2, 1))))) else (if b < 65 then (if b < 64 then (sd_leaf 62 b (some (.istore_n 3, 1))) else (sd_leaf 64 b (some (.lstore_n 1, 1)))) else (if b < 66 then (sd_leaf 65 b (some (.lstore_n 2, 1))) else (sd_leaf 66 b (some (.lstore_n 3, 1))))))) else (if b < 86 then (if b < 80 then (if b < 78 then (if b < 77 then (sd_leaf 76 b (some (.astore_n 1, 1))) else (sd_leaf 77 b (some (.astore_n 2, 1)))) else (if b < 79 then (sd_leaf 78 b (some (.astore_n 3, 1))) else (sd_leaf 79 b (some (.iastore, 1))))) else (if b < 84 then (if b < 83 then (sd_leaf 80 b (some (.lastore, 1))) else (sd_leaf 83 b (some (.aastore, 1)))) else (if b < 85 then (sd_leaf 84 b (some (.bastore, 1))) else (sd_leaf 85 b (some (.castore, 1)))))) else (if b < 91 then (if b < 89 then (if b < 87 then (sd_leaf 86 b (some (.sastore, 1))) else (sd_leaf 87 b (some (.pop, 1)))) else (if b < 90 then (sd_leaf 89 b (some (.dup, 1))) else (sd_leaf 90 b (some (.dup_x1, 1))))) else (if b < 96 then (if b < 92 then (sd_leaf 91 b (some (.dup_x2, 1))) else (sd_leaf 92 b (some (.dup2, 1)))) else (if b < 97 then (sd_leaf 96 b (some (.iadd, 1))) else (sd_leaf 97 b (some (.ladd, 1))))))))) else (if b < 154 then (if b < 127 then (if b < 113 then (if b < 108 then (if b < 104 then (if b < 101 then (sd_leaf 100 b (some (.isub, 1))) else (sd_leaf 101 b (some (.lsub, 1)))) else (if b < 105 then (sd_leaf 104 b (some (.imul, 1))) else (sd_leaf 105 b (some (.lmul, 1))))) else (if b < 111 then (if b < 109 then (sd_leaf 108 b (some (.idiv, 1))) else (sd_leaf 109 b (some (.ldiv, 1)))) else (if b < 112 then (sd_leaf 111 b (some (.ddiv, 1))) else (sd_leaf 112 b (some (.irem, 1)))))) else (if b < 121 then (if b < 117 then (if b < 116 then (sd_leaf 113 b (some (.lrem, 1))) else (sd_leaf 116 b (some (.ineg, 1)))) else (if b < 120 then (sd_leaf 117 b (some (.lneg, 1))) else (sd_leaf 120 b (some (.ishl, 1))))) else (if b < 125 then (if b < 122 then (sd_leaf 121 b (some (.lshl, 1))) else (sd_leaf 122 b (some (.ishr, 1)))) else (if b < 126 then (sd_leaf 125 b (some (.lushr, 1))) else (sd_leaf 126 b (some (.iand, 1))))))) else (if b < 136 then (if b < 131 then (if b < 129 then (if b < 128 then (sd_leaf 127 b (some (.land, 1))) else (sd_leaf 128 b (some (.ior, 1)))) else (if b < 130 then (sd_leaf 129 b (some (.lor, 1))) else (sd_leaf 130 b (some (.ixor, 1))))) else (if b < 133 then (if b < 132 then (sd_leaf 131 b (some (.lxor, 1))) else (sd_leaf 132 b (match q with | a :: b :: _ => some (.iinc a (Reader.signed 8 b), 3) | _ => none))) else (if b < 135 then (sd_leaf 133 b (some (.i2l, 1))) else (sd_leaf 135 b (some (.i2d, 1)))))) else (if b < 148 then (if b < 146 then (if b < 145 then (sd_leaf 136 b (some (.l2i, 1))) else (sd_leaf 145 b (some (.i2b, 1)))) else (if b < 147 then (sd_leaf 146 b (some (.i2c, 1))) else (sd_leaf 147 b (some (.i2s, 1))))) else (if b < 152 then (if b < 151 then (sd_leaf 148 b (some (.lcmp, 1))) else (sd_leaf 151 b (some (.dcmp .l, 1)))) else (if b < 153 then (sd_leaf 152 b (some (.dcmp .g, 1))) else (sd_leaf 153 b (match q with | a :: b :: _ => some (.ifCond .eq (Reader.signed 16 (a * 256 + b)), 3) | _ => none))))))) else (if b < 176 then (if b < 162 then (if b < 158 then (if b < 156 then (if b < 155 then (sd_leaf 154 b (match q with | a :: b :: _ => some (.ifCond .ne (Reader.signed 16 (a * 256 + b)), 3) | _ => none)) else (sd_leaf 155 b (match q with | a :: b :: _ => some (.ifCond .lt (Reader.signed 16 (a * 256 + b)), 3) | _ => none))) else (if b < 157 then (sd_leaf 156 b (match q with | a :: b :: _ => some (.ifCond .ge (Reader.signed 16 (a * 256 + b)), 3) | _ => none)) else (sd_leaf 157 b (match q with | a :: b :: _ => some (.ifCond .gt (Reader.signed 16 (a * 256 + b)), 3) | _ => none)))) else (if b < 160 then (if b < 159 then (sd_leaf 158 b (match q with | a :: b :: _ => some (.ifCond .le (Reader.signed 16 (a * 256 + b)), 3) | _ => none)) else (sd_leaf 159 b (match q with | a :: b :: _ => some (.if_icmp .eq (Reader.signed 16 (a * 256 + b)), 3) | _ => none))) else (if b < 161 then (sd_leaf 160 b (match q with | a :: b :: _ => some (.if_icmp .ne (Reader.signed 16 (a * 256 + b)), 3) | _ => none)) else (sd_leaf 161 b (match q with | a :: b :: _ => some (.if_icmp .lt (Reader.signed 16 (a * 256 + b)), 3) | _ => none))))) else (if b < 166 then (if b < 164 then (if b < 163 then (sd_leaf 162 b (match q with | a :: b :: _ => some (.if_icmp .ge (Reader.signed 16 (a * 256 + b)), 3) | _ => none)) else (sd_leaf 163 b (match q with | a :: b :: _ => some (.if_icmp .gt (Reader.signed 16 (a * 256 + b)), 3) | _ => none))) else (if b < 165 then (sd_leaf 164 b (match q with | a :: b :: _ => some (.if_icmp .le (Reader.signed 16 (a * 256 + b)), 3) | _ => none)) else (sd_leaf 165 b (match q with | a :: b :: _ => some (.if_acmp .eq (Reader.signed 16 (a * 256 + b)), 3) | _ => none)))) else (if b < 172 then (if b < 167 then (sd_leaf 166 b (match q with | a :: b :: _ => some (.if_acmp .ne (Reader.signed 16 (a * 256 + b)), 3) | _ => none)) else (sd_leaf 167 b (match q with | a :: b :: _ => some (.goto (Reader.signed 16 (a * 256 + b)), 3) | _ => none))) else (if b < 173 then (sd_leaf 172 b (some (.ireturn, 1))) else (sd_leaf 173 b (some (.lreturn, 1))))))) else (if b < 187 then (if b < 181 then (if b < 178 then (if b < 177 then (sd_leaf 176 b (some (.areturn, 1))) else (sd_leaf 177 b (some (.return_, 1)))) else (if b < 180 then (sd_leaf 178 b (match q with | a :: b :: _ => some (.getstatic (a * 256 + b), 3) | _ => none)) else (sd_leaf 180 b (match q with | a :: b :: _ => some (.getfield (a * 256 + b), 3) | _ => none)))) else (if b < 183 then (if b < 182 then (sd_leaf 181 b (match q with | a :: b :: _ => some (.putfield (a * 256 + b), 3) | _ => none)) else (sd_leaf 182 b (match q with | a :: b :: _ => some (.invokevirtual (a * 256 + b), 3) | _ => none))) else (if b < 184 then (sd_leaf 183 b (match q with | a :: b :: _ => some (.invokespecial (a * 256 + b), 3) | _ => none)) else (sd_leaf 184 b (match q with | a :: b :: _ => some (.invokestatic (a * 256 + b), 3) | _ => none))))) else (if b < 191 then (if b < 189 then (if b < 188 then (sd_leaf 187 b (match q with | a :: b :: _ => some (.new (a * 256 + b), 3) | _ => none)) else (sd_leaf 188 b (match q with | 4 :: _ => some (.newarray .boolean, 2) | 5 :: _ => some (.newarray .char, 2) | 8 :: _ => some (.newarray .byte, 2) | 9 :: _ => some (.newarray .short, 2) | 10 :: _ => some (.newarray .int, 2) | 11 :: _ => some (.newarray .long, 2) | _ => none))) else (if b < 190 then (sd_leaf 189 b (match q with | a :: b :: _ => some (.anewarray (a * 256 + b), 3) | _ => none)) else (sd_leaf 190 b (some (.arraylength, 1))))) else (if b < 198 then (if b < 192 then (sd_leaf 191 b (some (.athrow, 1))) else (sd_leaf 192 b (match q with | a :: b :: _ => some (.checkcast (a * 256 + b), 3) | _ => none))) else (if b < 199 then (sd_leaf 198 b (match q with | a :: b :: _ => some (.ifnull (Reader.signed 16 (a * 256 + b)), 3) | _ => none)) else (sd_leaf 199 b (match q with | a :: b :: _ => some (.ifnonnull (Reader.signed 16 (a * 256 + b)), 3) | _ => none))))))))
def sd : List Nat → Option (Instr × Nat)
  | [] => none
  | b :: q => sdb b q
theorem sd_lf {o b : Nat} {x : Option (Instr × Nat)} {y : Instr × Nat} (h : sd_leaf o b x = some y) : b = o ∧ x = some y := by
  unfold sd_leaf at h
  split at h
  · exact ⟨by assumption, h⟩
  · cases h
set_option maxHeartbeats 4000000 in
theorem sd_ok {code : ByteArray} {pc : Nat} {l : List Nat} {i : Instr} {n : Nat} (h : (code.data.toList.drop pc).map UInt8.toNat = l) (e : sd l = some (i, n)) : decode code pc = .ok (i, n) := by
  cases l with
  | nil => cases e
  | cons b q =>
    have e : sdb b q = some (i, n) := e
    unfold sdb at e
    by_cases hb : b < 100
    · rw [if_pos hb] at e
      by_cases hb : b < 45
      · rw [if_pos hb] at e
        by_cases hb : b < 20
        · rw [if_pos hb] at e
          by_cases hb : b < 8
          · rw [if_pos hb] at e
            by_cases hb : b < 4
            · rw [if_pos hb] at e
              by_cases hb : b < 2
              · rw [if_pos hb] at e
                obtain ⟨rfl, e⟩ := sd_lf e
                cases e; exact sk_1 h
              · rw [if_neg hb] at e
                by_cases hb : b < 3
                · rw [if_pos hb] at e
                  obtain ⟨rfl, e⟩ := sd_lf e
                  cases e; exact sk_2 h
                · rw [if_neg hb] at e
                  obtain ⟨rfl, e⟩ := sd_lf e
                  cases e; exact sk_3 h
            · rw [if_neg hb] at e
              by_cases hb : b < 6
              · rw [if_pos hb] at e
                by_cases hb : b < 5
                · rw [if_pos hb] at e
                  obtain ⟨rfl, e⟩ := sd_lf e
                  cases e; exact sk_4 h
                · rw [if_neg hb] at e
                  obtain ⟨rfl, e⟩ := sd_lf e
                  cases e; exact sk_5 h
              · rw [if_neg hb] at e
                by_cases hb : b < 7
                · rw [if_pos hb] at e
                  obtain ⟨rfl, e⟩ := sd_lf e
                  cases e; exact sk_6 h
                · rw [if_neg hb] at e
                  obtain ⟨rfl, e⟩ := sd_lf e
                  cases e; exact sk_7 h
          · rw [if_neg hb] at e
            by_cases hb : b < 16
            · rw [if_pos hb] at e
              by_cases hb : b < 10
              · rw [if_pos hb] at e
                by_cases hb : b < 9
                · rw [if_pos hb] at e
                  obtain ⟨rfl, e⟩ := sd_lf e
                  cases e; exact sk_8 h
                · rw [if_neg hb] at e
                  obtain ⟨rfl, e⟩ := sd_lf e
                  cases e; exact sk_9 h
              · rw [if_neg hb] at e
                by_cases hb : b < 14
                · rw [if_pos hb] at e
                  obtain ⟨rfl, e⟩ := sd_lf e
                  cases e; exact sk_10 h
                · rw [if_neg hb] at e
                  obtain ⟨rfl, e⟩ := sd_lf e
                  cases e; exact sk_14 h
            · rw [if_neg hb] at e
              by_cases hb : b < 18
              · rw [if_pos hb] at e
                by_cases hb : b < 17
                · rw [if_pos hb] at e
                  obtain ⟨rfl, e⟩ := sd_lf e
                  split at e
                  · cases e; exact sk_16 h
                  · cases e
                · rw [if_neg hb] at e
                  obtain ⟨rfl, e⟩ := sd_lf e
                  split at e
                  · cases e; exact sk_17 h
                  · cases e
              · rw [if_neg hb] at e
                by_cases hb : b < 19
                · rw [if_pos hb] at e
                  obtain ⟨rfl, e⟩ := sd_lf e
                  split at e
                  · cases e; exact sk_18 h
                  · cases e
                · rw [if_neg hb] at e
                  obtain ⟨rfl, e⟩ := sd_lf e
                  split at e
                  · cases e; exact sk_19 h
                  · cases e
        · rw [if_neg hb] at e
          by_cases hb : b < 30
          · rw [if_pos hb] at e
            by_cases hb : b < 26
            · rw [if_pos hb] at e
              by_cases hb : b < 22
              · rw [if_pos hb] at e
                by_cases hb : b < 21
                · rw [if_pos hb] at e
                  obtain ⟨rfl, e⟩ := sd_lf e
                  split at e
                  · cases e; exact sk_20 h
                  · cases e
                · rw [if_neg hb] at e
                  obtain ⟨rfl, e⟩ := sd_lf e
                  split at e
                  · cases e; exact sk_21 h
                  · cases e
              · rw [if_neg hb] at e
                by_cases hb : b < 25
                · rw [if_pos hb] at e
                  obtain ⟨rfl, e⟩ := sd_lf e
                  split at e
                  · cases e; exact sk_22 h
                  · cases e
                · rw [if_neg hb] at e
                  obtain ⟨rfl, e⟩ := sd_lf e
                  split at e
                  · cases e; exact sk_25 h
                  · cases e
            · rw [if_neg hb] at e
              by_cases hb : b < 28
              · rw [if_pos hb] at e
                by_cases hb : b < 27
                · rw [if_pos hb] at e
                  obtain ⟨rfl, e⟩ := sd_lf e
                  cases e; exact sk_26 h
                · rw [if_neg hb] at e
                  obtain ⟨rfl, e⟩ := sd_lf e
                  cases e; exact sk_27 h
              · rw [if_neg hb] at e
                by_cases hb : b < 29
                · rw [if_pos hb] at e
                  obtain ⟨rfl, e⟩ := sd_lf e
                  cases e; exact sk_28 h
                · rw [if_neg hb] at e
                  obtain ⟨rfl, e⟩ := sd_lf e
                  cases e; exact sk_29 h
          · rw [if_neg hb] at e
            by_cases hb : b < 40
            · rw [if_pos hb] at e
              by_cases hb : b < 32
              · rw [if_pos hb] at e
                by_cases hb : b < 31
                · rw [if_pos hb] at e
                  obtain ⟨rfl, e⟩ := sd_lf e
                  cases e; exact sk_30 h
                · rw [if_neg hb] at e
                  obtain ⟨rfl, e⟩ := sd_lf e
                  cases e; exact sk_31 h
              · rw [if_neg hb] at e
                by_cases hb : b < 33
                · rw [if_pos hb] at e
                  obtain ⟨rfl, e⟩ := sd_lf e
                  cases e; exact sk_32 h
                · rw [if_neg hb] at e
                  obtain ⟨rfl, e⟩ := sd_lf e
                  cases e; exact sk_33 h
            · rw [if_neg hb] at e
              by_cases hb : b < 43
              · rw [if_pos hb] at e
                by_cases hb : b < 42
                · rw [if_pos hb] at e
                  obtain ⟨rfl, e⟩ := sd_lf e
                  cases e; exact sk_40 h
                · rw [if_neg hb] at e
                  obtain ⟨rfl, e⟩ := sd_lf e
                  cases e; exact sk_42 h
              · rw [if_neg hb] at e
                by_cases hb : b < 44
                · rw [if_pos hb] at e
                  obtain ⟨rfl, e⟩ := sd_lf e
                  cases e; exact sk_43 h
                · rw [if_neg hb] at e
                  obtain ⟨rfl, e⟩ := sd_lf e
                  cases e; exact sk_44 h
      · rw [if_neg hb] at e
        by_cases hb : b < 76
        · rw [if_pos hb] at e
          by_cases hb : b < 55
          · rw [if_pos hb] at e
            by_cases hb : b < 51
            · rw [if_pos hb] at e
              by_cases hb : b < 47
              · rw [if_pos hb] at e
                by_cases hb : b < 46
                · rw [if_pos hb] at e
                  obtain ⟨rfl, e⟩ := sd_lf e
                  cases e; exact sk_45 h
                · rw [if_neg hb] at e
                  obtain ⟨rfl, e⟩ := sd_lf e
                  cases e; exact sk_46 h
              · rw [if_neg hb] at e
                by_cases hb : b < 50
                · rw [if_pos hb] at e
                  obtain ⟨rfl, e⟩ := sd_lf e
                  cases e; exact sk_47 h
                · rw [if_neg hb] at e
                  obtain ⟨rfl, e⟩ := sd_lf e
                  cases e; exact sk_50 h
            · rw [if_neg hb] at e
              by_cases hb : b < 53
              · rw [if_pos hb] at e
                by_cases hb : b < 52
                · rw [if_pos hb] at e
                  obtain ⟨rfl, e⟩ := sd_lf e
                  cases e; exact sk_51 h
                · rw [if_neg hb] at e
                  obtain ⟨rfl, e⟩ := sd_lf e
                  cases e; exact sk_52 h
              · rw [if_neg hb] at e
                by_cases hb : b < 54
                · rw [if_pos hb] at e
                  obtain ⟨rfl, e⟩ := sd_lf e
                  cases e; exact sk_53 h
                · rw [if_neg hb] at e
                  obtain ⟨rfl, e⟩ := sd_lf e
                  split at e
                  · cases e; exact sk_54 h
                  · cases e
          · rw [if_neg hb] at e
            by_cases hb : b < 62
            · rw [if_pos hb] at e
              by_cases hb : b < 60
              · rw [if_pos hb] at e
                by_cases hb : b < 58
                · rw [if_pos hb] at e
                  obtain ⟨rfl, e⟩ := sd_lf e
                  split at e
                  · cases e; exact sk_55 h
                  · cases e
                · rw [if_neg hb] at e
                  obtain ⟨rfl, e⟩ := sd_lf e
                  split at e
                  · cases e; exact sk_58 h
                  · cases e
              · rw [if_neg hb] at e
                by_cases hb : b < 61
                · rw [if_pos hb] at e
                  obtain ⟨rfl, e⟩ := sd_lf e
                  cases e; exact sk_60 h
                · rw [if_neg hb] at e
                  obtain ⟨rfl, e⟩ := sd_lf e
                  cases e; exact sk_61 h
            · rw [if_neg hb] at e
              by_cases hb : b < 65
              · rw [if_pos hb] at e
                by_cases hb : b < 64
                · rw [if_pos hb] at e
                  obtain ⟨rfl, e⟩ := sd_lf e
                  cases e; exact sk_62 h
                · rw [if_neg hb] at e
                  obtain ⟨rfl, e⟩ := sd_lf e
                  cases e; exact sk_64 h
              · rw [if_neg hb] at e
                by_cases hb : b < 66
                · rw [if_pos hb] at e
                  obtain ⟨rfl, e⟩ := sd_lf e
                  cases e; exact sk_65 h
                · rw [if_neg hb] at e
                  obtain ⟨rfl, e⟩ := sd_lf e
                  cases e; exact sk_66 h
        · rw [if_neg hb] at e
          by_cases hb : b < 86
          · rw [if_pos hb] at e
            by_cases hb : b < 80
            · rw [if_pos hb] at e
              by_cases hb : b < 78
              · rw [if_pos hb] at e
                by_cases hb : b < 77
                · rw [if_pos hb] at e
                  obtain ⟨rfl, e⟩ := sd_lf e
                  cases e; exact sk_76 h
                · rw [if_neg hb] at e
                  obtain ⟨rfl, e⟩ := sd_lf e
                  cases e; exact sk_77 h
              · rw [if_neg hb] at e
                by_cases hb : b < 79
                · rw [if_pos hb] at e
                  obtain ⟨rfl, e⟩ := sd_lf e
                  cases e; exact sk_78 h
                · rw [if_neg hb] at e
                  obtain ⟨rfl, e⟩ := sd_lf e
                  cases e; exact sk_79 h
            · rw [if_neg hb] at e
              by_cases hb : b < 84
              · rw [if_pos hb] at e
                by_cases hb : b < 83
                · rw [if_pos hb] at e
                  obtain ⟨rfl, e⟩ := sd_lf e
                  cases e; exact sk_80 h
                · rw [if_neg hb] at e
                  obtain ⟨rfl, e⟩ := sd_lf e
                  cases e; exact sk_83 h
              · rw [if_neg hb] at e
                by_cases hb : b < 85
                · rw [if_pos hb] at e
                  obtain ⟨rfl, e⟩ := sd_lf e
                  cases e; exact sk_84 h
                · rw [if_neg hb] at e
                  obtain ⟨rfl, e⟩ := sd_lf e
                  cases e; exact sk_85 h
          · rw [if_neg hb] at e
            by_cases hb : b < 91
            · rw [if_pos hb] at e
              by_cases hb : b < 89
              · rw [if_pos hb] at e
                by_cases hb : b < 87
                · rw [if_pos hb] at e
                  obtain ⟨rfl, e⟩ := sd_lf e
                  cases e; exact sk_86 h
                · rw [if_neg hb] at e
                  obtain ⟨rfl, e⟩ := sd_lf e
                  cases e; exact sk_87 h
              · rw [if_neg hb] at e
                by_cases hb : b < 90
                · rw [if_pos hb] at e
                  obtain ⟨rfl, e⟩ := sd_lf e
                  cases e; exact sk_89 h
                · rw [if_neg hb] at e
                  obtain ⟨rfl, e⟩ := sd_lf e
                  cases e; exact sk_90 h
            · rw [if_neg hb] at e
              by_cases hb : b < 96
              · rw [if_pos hb] at e
                by_cases hb : b < 92
                · rw [if_pos hb] at e
                  obtain ⟨rfl, e⟩ := sd_lf e
                  cases e; exact sk_91 h
                · rw [if_neg hb] at e
                  obtain ⟨rfl, e⟩ := sd_lf e
                  cases e; exact sk_92 h
              · rw [if_neg hb] at e
                by_cases hb : b < 97
                · rw [if_pos hb] at e
                  obtain ⟨rfl, e⟩ := sd_lf e
                  cases e; exact sk_96 h
                · rw [if_neg hb] at e
                  obtain ⟨rfl, e⟩ := sd_lf e
                  cases e; exact sk_97 h
    · rw [if_neg hb] at e
      by_cases hb : b < 154
      · rw [if_pos hb] at e
        by_cases hb : b < 127
        · rw [if_pos hb] at e
          by_cases hb : b < 113
          · rw [if_pos hb] at e
            by_cases hb : b < 108
            · rw [if_pos hb] at e
              by_cases hb : b < 104
              · rw [if_pos hb] at e
                by_cases hb : b < 101
                · rw [if_pos hb] at e
                  obtain ⟨rfl, e⟩ := sd_lf e
                  cases e; exact sk_100 h
                · rw [if_neg hb] at e
                  obtain ⟨rfl, e⟩ := sd_lf e
                  cases e; exact sk_101 h
              · rw [if_neg hb] at e
                by_cases hb : b < 105
                · rw [if_pos hb] at e
                  obtain ⟨rfl, e⟩ := sd_lf e
                  cases e; exact sk_104 h
                · rw [if_neg hb] at e
                  obtain ⟨rfl, e⟩ := sd_lf e
                  cases e; exact sk_105 h
            · rw [if_neg hb] at e
              by_cases hb : b < 111
              · rw [if_pos hb] at e
                by_cases hb : b < 109
                · rw [if_pos hb] at e
                  obtain ⟨rfl, e⟩ := sd_lf e
                  cases e; exact sk_108 h
                · rw [if_neg hb] at e
                  obtain ⟨rfl, e⟩ := sd_lf e
                  cases e; exact sk_109 h
              · rw [if_neg hb] at e
                by_cases hb : b < 112
                · rw [if_pos hb] at e
                  obtain ⟨rfl, e⟩ := sd_lf e
                  cases e; exact sk_111 h
                · rw [if_neg hb] at e
                  obtain ⟨rfl, e⟩ := sd_lf e
                  cases e; exact sk_112 h
          · rw [if_neg hb] at e
            by_cases hb : b < 121
            · rw [if_pos hb] at e
              by_cases hb : b < 117
              · rw [if_pos hb] at e
                by_cases hb : b < 116
                · rw [if_pos hb] at e
                  obtain ⟨rfl, e⟩ := sd_lf e
                  cases e; exact sk_113 h
                · rw [if_neg hb] at e
                  obtain ⟨rfl, e⟩ := sd_lf e
                  cases e; exact sk_116 h
              · rw [if_neg hb] at e
                by_cases hb : b < 120
                · rw [if_pos hb] at e
                  obtain ⟨rfl, e⟩ := sd_lf e
                  cases e; exact sk_117 h
                · rw [if_neg hb] at e
                  obtain ⟨rfl, e⟩ := sd_lf e
                  cases e; exact sk_120 h
            · rw [if_neg hb] at e
              by_cases hb : b < 125
              · rw [if_pos hb] at e
                by_cases hb : b < 122
                · rw [if_pos hb] at e
                  obtain ⟨rfl, e⟩ := sd_lf e
                  cases e; exact sk_121 h
                · rw [if_neg hb] at e
                  obtain ⟨rfl, e⟩ := sd_lf e
                  cases e; exact sk_122 h
              · rw [if_neg hb] at e
                by_cases hb : b < 126
                · rw [if_pos hb] at e
                  obtain ⟨rfl, e⟩ := sd_lf e
                  cases e; exact sk_125 h
                · rw [if_neg hb] at e
                  obtain ⟨rfl, e⟩ := sd_lf e
                  cases e; exact sk_126 h
        · rw [if_neg hb] at e
          by_cases hb : b < 136
          · rw [if_pos hb] at e
            by_cases hb : b < 131
            · rw [if_pos hb] at e
              by_cases hb : b < 129
              · rw [if_pos hb] at e
                by_cases hb : b < 128
                · rw [if_pos hb] at e
                  obtain ⟨rfl, e⟩ := sd_lf e
                  cases e; exact sk_127 h
                · rw [if_neg hb] at e
                  obtain ⟨rfl, e⟩ := sd_lf e
                  cases e; exact sk_128 h
              · rw [if_neg hb] at e
                by_cases hb : b < 130
                · rw [if_pos hb] at e
                  obtain ⟨rfl, e⟩ := sd_lf e
                  cases e; exact sk_129 h
                · rw [if_neg hb] at e
                  obtain ⟨rfl, e⟩ := sd_lf e
                  cases e; exact sk_130 h
            · rw [if_neg hb] at e
              by_cases hb : b < 133
              · rw [if_pos hb] at e
                by_cases hb : b < 132
                · rw [if_pos hb] at e
                  obtain ⟨rfl, e⟩ := sd_lf e
                  cases e; exact sk_131 h
                · rw [if_neg hb] at e
                  obtain ⟨rfl, e⟩ := sd_lf e
                  split at e
                  · cases e; exact sk_132 h
                  · cases e
              · rw [if_neg hb] at e
                by_cases hb : b < 135
                · rw [if_pos hb] at e
                  obtain ⟨rfl, e⟩ := sd_lf e
                  cases e; exact sk_133 h
                · rw [if_neg hb] at e
                  obtain ⟨rfl, e⟩ := sd_lf e
                  cases e; exact sk_135 h
          · rw [if_neg hb] at e
            by_cases hb : b < 148
            · rw [if_pos hb] at e
              by_cases hb : b < 146
              · rw [if_pos hb] at e
                by_cases hb : b < 145
                · rw [if_pos hb] at e
                  obtain ⟨rfl, e⟩ := sd_lf e
                  cases e; exact sk_136 h
                · rw [if_neg hb] at e
                  obtain ⟨rfl, e⟩ := sd_lf e
                  cases e; exact sk_145 h
              · rw [if_neg hb] at e
                by_cases hb : b < 147
                · rw [if_pos hb] at e
                  obtain ⟨rfl, e⟩ := sd_lf e
                  cases e; exact sk_146 h
                · rw [if_neg hb] at e
                  obtain ⟨rfl, e⟩ := sd_lf e
                  cases e; exact sk_147 h
            · rw [if_neg hb] at e
              by_cases hb : b < 152
              · rw [if_pos hb] at e
                by_cases hb : b < 151
                · rw [if_pos hb] at e
                  obtain ⟨rfl, e⟩ := sd_lf e
                  cases e; exact sk_148 h
                · rw [if_neg hb] at e
                  obtain ⟨rfl, e⟩ := sd_lf e
                  cases e; exact sk_151 h
              · rw [if_neg hb] at e
                by_cases hb : b < 153
                · rw [if_pos hb] at e
                  obtain ⟨rfl, e⟩ := sd_lf e
                  cases e; exact sk_152 h
                · rw [if_neg hb] at e
                  obtain ⟨rfl, e⟩ := sd_lf e
                  split at e
                  · cases e; exact sk_153 h
                  · cases e
      · rw [if_neg hb] at e
        by_cases hb : b < 176
        · rw [if_pos hb] at e
          by_cases hb : b < 162
          · rw [if_pos hb] at e
            by_cases hb : b < 158
            · rw [if_pos hb] at e
              by_cases hb : b < 156
              · rw [if_pos hb] at e
                by_cases hb : b < 155
                · rw [if_pos hb] at e
                  obtain ⟨rfl, e⟩ := sd_lf e
                  split at e
                  · cases e; exact sk_154 h
                  · cases e
                · rw [if_neg hb] at e
                  obtain ⟨rfl, e⟩ := sd_lf e
                  split at e
                  · cases e; exact sk_155 h
                  · cases e
              · rw [if_neg hb] at e
                by_cases hb : b < 157
                · rw [if_pos hb] at e
                  obtain ⟨rfl, e⟩ := sd_lf e
                  split at e
                  · cases e; exact sk_156 h
                  · cases e
                · rw [if_neg hb] at e
                  obtain ⟨rfl, e⟩ := sd_lf e
                  split at e
                  · cases e; exact sk_157 h
                  · cases e
            · rw [if_neg hb] at e
              by_cases hb : b < 160
              · rw [if_pos hb] at e
                by_cases hb : b < 159
                · rw [if_pos hb] at e
                  obtain ⟨rfl, e⟩ := sd_lf e
                  split at e
                  · cases e; exact sk_158 h
                  · cases e
                · rw [if_neg hb] at e
                  obtain ⟨rfl, e⟩ := sd_lf e
                  split at e
                  · cases e; exact sk_159 h
                  · cases e
              · rw [if_neg hb] at e
                by_cases hb : b < 161
                · rw [if_pos hb] at e
                  obtain ⟨rfl, e⟩ := sd_lf e
                  split at e
                  · cases e; exact sk_160 h
                  · cases e
                · rw [if_neg hb] at e
                  obtain ⟨rfl, e⟩ := sd_lf e
                  split at e
                  · cases e; exact sk_161 h
                  · cases e
          · rw [if_neg hb] at e
            by_cases hb : b < 166
            · rw [if_pos hb] at e
              by_cases hb : b < 164
              · rw [if_pos hb] at e
                by_cases hb : b < 163
                · rw [if_pos hb] at e
                  obtain ⟨rfl, e⟩ := sd_lf e
                  split at e
                  · cases e; exact sk_162 h
                  · cases e
                · rw [if_neg hb] at e
                  obtain ⟨rfl, e⟩ := sd_lf e
                  split at e
                  · cases e; exact sk_163 h
                  · cases e
              · rw [if_neg hb] at e
                by_cases hb : b < 165
                · rw [if_pos hb] at e
                  obtain ⟨rfl, e⟩ := sd_lf e
                  split at e
                  · cases e; exact sk_164 h
                  · cases e
                · rw [if_neg hb] at e
                  obtain ⟨rfl, e⟩ := sd_lf e
                  split at e
                  · cases e; exact sk_165 h
                  · cases e
            · rw [if_neg hb] at e
              by_cases hb : b < 172
              · rw [if_pos hb] at e
                by_cases hb : b < 167
                · rw [if_pos hb] at e
                  obtain ⟨rfl, e⟩ := sd_lf e
                  split at e
                  · cases e; exact sk_166 h
                  · cases e
                · rw [if_neg hb] at e
                  obtain ⟨rfl, e⟩ := sd_lf e
                  split at e
                  · cases e; exact sk_167 h
                  · cases e
              · rw [if_neg hb] at e
                by_cases hb : b < 173
                · rw [if_pos hb] at e
                  obtain ⟨rfl, e⟩ := sd_lf e
                  cases e; exact sk_172 h
                · rw [if_neg hb] at e
                  obtain ⟨rfl, e⟩ := sd_lf e
                  cases e; exact sk_173 h
        · rw [if_neg hb] at e
          by_cases hb : b < 187
          · rw [if_pos hb] at e
            by_cases hb : b < 181
            · rw [if_pos hb] at e
              by_cases hb : b < 178
              · rw [if_pos hb] at e
                by_cases hb : b < 177
                · rw [if_pos hb] at e
                  obtain ⟨rfl, e⟩ := sd_lf e
                  cases e; exact sk_176 h
                · rw [if_neg hb] at e
                  obtain ⟨rfl, e⟩ := sd_lf e
                  cases e; exact sk_177 h
              · rw [if_neg hb] at e
                by_cases hb : b < 180
                · rw [if_pos hb] at e
                  obtain ⟨rfl, e⟩ := sd_lf e
                  split at e
                  · cases e; exact sk_178 h
                  · cases e
                · rw [if_neg hb] at e
                  obtain ⟨rfl, e⟩ := sd_lf e
                  split at e
                  · cases e; exact sk_180 h
                  · cases e
            · rw [if_neg hb] at e
              by_cases hb : b < 183
              · rw [if_pos hb] at e
                by_cases hb : b < 182
                · rw [if_pos hb] at e
                  obtain ⟨rfl, e⟩ := sd_lf e
                  split at e
                  · cases e; exact sk_181 h
                  · cases e
                · rw [if_neg hb] at e
                  obtain ⟨rfl, e⟩ := sd_lf e
                  split at e
                  · cases e; exact sk_182 h
                  · cases e
              · rw [if_neg hb] at e
                by_cases hb : b < 184
                · rw [if_pos hb] at e
                  obtain ⟨rfl, e⟩ := sd_lf e
                  split at e
                  · cases e; exact sk_183 h
                  · cases e
                · rw [if_neg hb] at e
                  obtain ⟨rfl, e⟩ := sd_lf e
                  split at e
                  · cases e; exact sk_184 h
                  · cases e
          · rw [if_neg hb] at e
            by_cases hb : b < 191
            · rw [if_pos hb] at e
              by_cases hb : b < 189
              · rw [if_pos hb] at e
                by_cases hb : b < 188
                · rw [if_pos hb] at e
                  obtain ⟨rfl, e⟩ := sd_lf e
                  split at e
                  · cases e; exact sk_187 h
                  · cases e
                · rw [if_neg hb] at e
                  obtain ⟨rfl, e⟩ := sd_lf e
                  split at e
                  · cases e; exact sk_188_4 h
                  · cases e; exact sk_188_5 h
                  · cases e; exact sk_188_8 h
                  · cases e; exact sk_188_9 h
                  · cases e; exact sk_188_10 h
                  · cases e; exact sk_188_11 h
                  · cases e
              · rw [if_neg hb] at e
                by_cases hb : b < 190
                · rw [if_pos hb] at e
                  obtain ⟨rfl, e⟩ := sd_lf e
                  split at e
                  · cases e; exact sk_189 h
                  · cases e
                · rw [if_neg hb] at e
                  obtain ⟨rfl, e⟩ := sd_lf e
                  cases e; exact sk_190 h
            · rw [if_neg hb] at e
              by_cases hb : b < 198
              · rw [if_pos hb] at e
                by_cases hb : b < 192
                · rw [if_pos hb] at e
                  obtain ⟨rfl, e⟩ := sd_lf e
                  cases e; exact sk_191 h
                · rw [if_neg hb] at e
                  obtain ⟨rfl, e⟩ := sd_lf e
                  split at e
                  · cases e; exact sk_192 h
                  · cases e
              · rw [if_neg hb] at e
                by_cases hb : b < 199
                · rw [if_pos hb] at e
                  obtain ⟨rfl, e⟩ := sd_lf e
                  split at e
                  · cases e; exact sk_198 h
                  · cases e
                · rw [if_neg hb] at e
                  obtain ⟨rfl, e⟩ := sd_lf e
                  split at e
                  · cases e; exact sk_199 h
                  · cases e
