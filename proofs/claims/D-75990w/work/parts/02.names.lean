/-! DECODE ROWS BY BYTES: one lemma an opcode; a method's code is cut into short pieces once, and a row reads its own piece alone. -/
set_option maxRecDepth 100000
/-- the code has just these bytes from pc on -/
def DkAt (code : ByteArray) (pc : Nat) (bs : List UInt8) : Prop := ∀ (j : Nat) (b : UInt8), bs[j]? = some b → code.data.toList[pc + j]? = some b
/-- the piece W has the bytes bs from its place j on -/
def dkIn (W : List UInt8) (j : Nat) (bs : List UInt8) : Bool := decide ((W.drop j).take bs.length = bs)
theorem dk_seg {l W T : List UInt8} {o o2 : Nat} (h : l.drop o = W ++ T) (n : Nat) (hn : W.length = n) (ho : o + n = o2) : l.drop o2 = T := by
  subst ho
  rw [← List.drop_drop, h, List.drop_left' hn]
theorem dk_at {code : ByteArray} {W T bs : List UInt8} {o pc : Nat} (h : code.data.toList.drop o = W ++ T) (j : Nat) (hp : o + j = pc) (hw : dkIn W j bs = true) : DkAt code pc bs := by
  subst hp
  intro i b e
  have h1 := of_decide_eq_true hw
  have h2 : i < bs.length := (List.getElem?_eq_some_iff.mp e).1
  have h3 : W[j + i]? = some b := by
    rw [← h1, List.getElem?_take, if_pos h2, List.getElem?_drop] at e
    exact e
  have h4 : j + i < W.length := (List.getElem?_eq_some_iff.mp h3).1
  have h5 : (code.data.toList.drop o)[j + i]? = some b := by
    rw [h, List.getElem?_append_left h4]
    exact h3
  rw [List.getElem?_drop, ← Nat.add_assoc] at h5
  exact h5
theorem dk_u1 {A : ByteArray} {p : Nat} {b : UInt8} (h : A.data.toList[p]? = some b) : (Reader.u1 : Reader DecodeError Nat) A p = .ok (b.toNat, p + 1) := by
  obtain ⟨h1, h2⟩ := List.getElem?_eq_some_iff.mp h
  have h3 : p < A.size := by simpa using h1
  have h4 : A[p]'h3 = b := h2
  have e : (Reader.u1 : Reader DecodeError Nat) A p = (if h : p < A.size then .ok (A[p].toNat, p + 1) else .error (HasTruncated.truncated p)) := by
    show (do if h : p < A.size then do set (p + 1); Pure.pure A[p].toNat else MonadExcept.throw (HasTruncated.truncated p) : Reader DecodeError Nat) A p = _
    by_cases hi : p < A.size
    · rw [dif_pos hi, dif_pos hi]; rfl
    · rw [dif_neg hi, dif_neg hi]; rfl
  rw [e, dif_pos h3, h4]
theorem dk_bind {α β : Type} {r : Reader DecodeError α} {f : α → Reader DecodeError β} {A : ByteArray} {p s : Nat} {a : α} (h : r A p = .ok (a, s)) : (r >>= f) A p = f a A s := by
  show (do let (a, s) ← r A p; f a A s : Except DecodeError (β × Nat)) = _
  rw [h]
  rfl
theorem dk_map {α β : Type} {r : Reader DecodeError α} {g : α → β} {A : ByteArray} {p s : Nat} {a : α} (h : r A p = .ok (a, s)) : (g <$> r) A p = .ok (g a, s) := by
  show (do let (a, s) ← r A p; .ok (g a, s) : Except DecodeError (β × Nat)) = _
  rw [h]
  rfl
theorem dk_u2 {A : ByteArray} {p : Nat} {a b : UInt8} (h : A.data.toList[p]? = some a) (h2 : A.data.toList[p + 1]? = some b) : (Reader.u2 : Reader DecodeError Nat) A p = .ok (a.toNat * 256 + b.toNat, p + 2) := by
  show (Reader.u1 >>= fun hi => Reader.u1 >>= fun lo => Pure.pure (hi * 256 + lo) : Reader DecodeError Nat) A p = _
  rw [dk_bind (dk_u1 h), dk_bind (dk_u1 h2)]
  rfl
theorem dk_of {code : ByteArray} {pc n : Nat} {i : Instr} (h : Decoder.instr pc code pc = .ok (i, pc + n)) : decode code pc = .ok (i, n) := by
  have e : decode code pc = (match Decoder.instr pc code pc with | .error x => .error x | .ok (j, s) => .ok (j, s - pc)) := by
    show (do let (j, s) ← Decoder.instr pc code pc; Pure.pure (j, s - pc) : Except DecodeError (Instr × Nat)) = _
    cases Decoder.instr pc code pc <;> rfl
  rw [e, h]
  show Except.ok (i, pc + n - pc) = _
  rw [Nat.add_sub_cancel_left]
theorem dk_1 {code : ByteArray} {pc : Nat} (h : DkAt code pc [1]) : decode code pc = .ok (.aconst_null, 1) := dk_of ((dk_bind (dk_u1 (h 0 _ rfl))).trans rfl)
theorem dk_2 {code : ByteArray} {pc : Nat} (h : DkAt code pc [2]) : decode code pc = .ok (.iconst (-1), 1) := dk_of ((dk_bind (dk_u1 (h 0 _ rfl))).trans rfl)
theorem dk_3 {code : ByteArray} {pc : Nat} (h : DkAt code pc [3]) : decode code pc = .ok (.iconst 0, 1) := dk_of ((dk_bind (dk_u1 (h 0 _ rfl))).trans rfl)
theorem dk_4 {code : ByteArray} {pc : Nat} (h : DkAt code pc [4]) : decode code pc = .ok (.iconst 1, 1) := dk_of ((dk_bind (dk_u1 (h 0 _ rfl))).trans rfl)
theorem dk_5 {code : ByteArray} {pc : Nat} (h : DkAt code pc [5]) : decode code pc = .ok (.iconst 2, 1) := dk_of ((dk_bind (dk_u1 (h 0 _ rfl))).trans rfl)
theorem dk_6 {code : ByteArray} {pc : Nat} (h : DkAt code pc [6]) : decode code pc = .ok (.iconst 3, 1) := dk_of ((dk_bind (dk_u1 (h 0 _ rfl))).trans rfl)
theorem dk_7 {code : ByteArray} {pc : Nat} (h : DkAt code pc [7]) : decode code pc = .ok (.iconst 4, 1) := dk_of ((dk_bind (dk_u1 (h 0 _ rfl))).trans rfl)
theorem dk_8 {code : ByteArray} {pc : Nat} (h : DkAt code pc [8]) : decode code pc = .ok (.iconst 5, 1) := dk_of ((dk_bind (dk_u1 (h 0 _ rfl))).trans rfl)
theorem dk_9 {code : ByteArray} {pc : Nat} (h : DkAt code pc [9]) : decode code pc = .ok (.lconst 0, 1) := dk_of ((dk_bind (dk_u1 (h 0 _ rfl))).trans rfl)
theorem dk_10 {code : ByteArray} {pc : Nat} (h : DkAt code pc [10]) : decode code pc = .ok (.lconst 1, 1) := dk_of ((dk_bind (dk_u1 (h 0 _ rfl))).trans rfl)
theorem dk_16 {code : ByteArray} {pc : Nat} (a : UInt8) (h : DkAt code pc [16, a]) : decode code pc = .ok (.bipush (Reader.signed 8 a.toNat), 2) := dk_of ((dk_bind (dk_u1 (h 0 _ rfl))).trans ((dk_bind (dk_map (dk_u1 (h 1 _ rfl)))).trans rfl))
theorem dk_17 {code : ByteArray} {pc : Nat} (a b : UInt8) (h : DkAt code pc [17, a, b]) : decode code pc = .ok (.sipush (Reader.signed 16 (a.toNat * 256 + b.toNat)), 3) := dk_of ((dk_bind (dk_u1 (h 0 _ rfl))).trans ((dk_bind (dk_map (dk_u2 (h 1 _ rfl) (h 2 _ rfl)))).trans rfl))
theorem dk_18 {code : ByteArray} {pc : Nat} (a : UInt8) (h : DkAt code pc [18, a]) : decode code pc = .ok (.ldc a.toNat, 2) := dk_of ((dk_bind (dk_u1 (h 0 _ rfl))).trans ((dk_bind (dk_u1 (h 1 _ rfl))).trans rfl))
theorem dk_19 {code : ByteArray} {pc : Nat} (a b : UInt8) (h : DkAt code pc [19, a, b]) : decode code pc = .ok (.ldc_w (a.toNat * 256 + b.toNat), 3) := dk_of ((dk_bind (dk_u1 (h 0 _ rfl))).trans ((dk_bind (dk_u2 (h 1 _ rfl) (h 2 _ rfl))).trans rfl))
theorem dk_20 {code : ByteArray} {pc : Nat} (a b : UInt8) (h : DkAt code pc [20, a, b]) : decode code pc = .ok (.ldc2_w (a.toNat * 256 + b.toNat), 3) := dk_of ((dk_bind (dk_u1 (h 0 _ rfl))).trans ((dk_bind (dk_u2 (h 1 _ rfl) (h 2 _ rfl))).trans rfl))
theorem dk_21 {code : ByteArray} {pc : Nat} (a : UInt8) (h : DkAt code pc [21, a]) : decode code pc = .ok (.iload a.toNat, 2) := dk_of ((dk_bind (dk_u1 (h 0 _ rfl))).trans ((dk_bind (dk_u1 (h 1 _ rfl))).trans rfl))
theorem dk_22 {code : ByteArray} {pc : Nat} (a : UInt8) (h : DkAt code pc [22, a]) : decode code pc = .ok (.lload a.toNat, 2) := dk_of ((dk_bind (dk_u1 (h 0 _ rfl))).trans ((dk_bind (dk_u1 (h 1 _ rfl))).trans rfl))
theorem dk_23 {code : ByteArray} {pc : Nat} (a : UInt8) (h : DkAt code pc [23, a]) : decode code pc = .ok (.fload a.toNat, 2) := dk_of ((dk_bind (dk_u1 (h 0 _ rfl))).trans ((dk_bind (dk_u1 (h 1 _ rfl))).trans rfl))
theorem dk_25 {code : ByteArray} {pc : Nat} (a : UInt8) (h : DkAt code pc [25, a]) : decode code pc = .ok (.aload a.toNat, 2) := dk_of ((dk_bind (dk_u1 (h 0 _ rfl))).trans ((dk_bind (dk_u1 (h 1 _ rfl))).trans rfl))
theorem dk_26 {code : ByteArray} {pc : Nat} (h : DkAt code pc [26]) : decode code pc = .ok (.iload_n 0, 1) := dk_of ((dk_bind (dk_u1 (h 0 _ rfl))).trans rfl)
theorem dk_27 {code : ByteArray} {pc : Nat} (h : DkAt code pc [27]) : decode code pc = .ok (.iload_n 1, 1) := dk_of ((dk_bind (dk_u1 (h 0 _ rfl))).trans rfl)
theorem dk_28 {code : ByteArray} {pc : Nat} (h : DkAt code pc [28]) : decode code pc = .ok (.iload_n 2, 1) := dk_of ((dk_bind (dk_u1 (h 0 _ rfl))).trans rfl)
theorem dk_29 {code : ByteArray} {pc : Nat} (h : DkAt code pc [29]) : decode code pc = .ok (.iload_n 3, 1) := dk_of ((dk_bind (dk_u1 (h 0 _ rfl))).trans rfl)
theorem dk_30 {code : ByteArray} {pc : Nat} (h : DkAt code pc [30]) : decode code pc = .ok (.lload_n 0, 1) := dk_of ((dk_bind (dk_u1 (h 0 _ rfl))).trans rfl)
theorem dk_31 {code : ByteArray} {pc : Nat} (h : DkAt code pc [31]) : decode code pc = .ok (.lload_n 1, 1) := dk_of ((dk_bind (dk_u1 (h 0 _ rfl))).trans rfl)
theorem dk_32 {code : ByteArray} {pc : Nat} (h : DkAt code pc [32]) : decode code pc = .ok (.lload_n 2, 1) := dk_of ((dk_bind (dk_u1 (h 0 _ rfl))).trans rfl)
theorem dk_33 {code : ByteArray} {pc : Nat} (h : DkAt code pc [33]) : decode code pc = .ok (.lload_n 3, 1) := dk_of ((dk_bind (dk_u1 (h 0 _ rfl))).trans rfl)
theorem dk_42 {code : ByteArray} {pc : Nat} (h : DkAt code pc [42]) : decode code pc = .ok (.aload_n 0, 1) := dk_of ((dk_bind (dk_u1 (h 0 _ rfl))).trans rfl)
theorem dk_43 {code : ByteArray} {pc : Nat} (h : DkAt code pc [43]) : decode code pc = .ok (.aload_n 1, 1) := dk_of ((dk_bind (dk_u1 (h 0 _ rfl))).trans rfl)
theorem dk_44 {code : ByteArray} {pc : Nat} (h : DkAt code pc [44]) : decode code pc = .ok (.aload_n 2, 1) := dk_of ((dk_bind (dk_u1 (h 0 _ rfl))).trans rfl)
theorem dk_45 {code : ByteArray} {pc : Nat} (h : DkAt code pc [45]) : decode code pc = .ok (.aload_n 3, 1) := dk_of ((dk_bind (dk_u1 (h 0 _ rfl))).trans rfl)
theorem dk_46 {code : ByteArray} {pc : Nat} (h : DkAt code pc [46]) : decode code pc = .ok (.iaload, 1) := dk_of ((dk_bind (dk_u1 (h 0 _ rfl))).trans rfl)
theorem dk_47 {code : ByteArray} {pc : Nat} (h : DkAt code pc [47]) : decode code pc = .ok (.laload, 1) := dk_of ((dk_bind (dk_u1 (h 0 _ rfl))).trans rfl)
theorem dk_50 {code : ByteArray} {pc : Nat} (h : DkAt code pc [50]) : decode code pc = .ok (.aaload, 1) := dk_of ((dk_bind (dk_u1 (h 0 _ rfl))).trans rfl)
theorem dk_51 {code : ByteArray} {pc : Nat} (h : DkAt code pc [51]) : decode code pc = .ok (.baload, 1) := dk_of ((dk_bind (dk_u1 (h 0 _ rfl))).trans rfl)
theorem dk_52 {code : ByteArray} {pc : Nat} (h : DkAt code pc [52]) : decode code pc = .ok (.caload, 1) := dk_of ((dk_bind (dk_u1 (h 0 _ rfl))).trans rfl)
theorem dk_53 {code : ByteArray} {pc : Nat} (h : DkAt code pc [53]) : decode code pc = .ok (.saload, 1) := dk_of ((dk_bind (dk_u1 (h 0 _ rfl))).trans rfl)
theorem dk_54 {code : ByteArray} {pc : Nat} (a : UInt8) (h : DkAt code pc [54, a]) : decode code pc = .ok (.istore a.toNat, 2) := dk_of ((dk_bind (dk_u1 (h 0 _ rfl))).trans ((dk_bind (dk_u1 (h 1 _ rfl))).trans rfl))
theorem dk_55 {code : ByteArray} {pc : Nat} (a : UInt8) (h : DkAt code pc [55, a]) : decode code pc = .ok (.lstore a.toNat, 2) := dk_of ((dk_bind (dk_u1 (h 0 _ rfl))).trans ((dk_bind (dk_u1 (h 1 _ rfl))).trans rfl))
theorem dk_56 {code : ByteArray} {pc : Nat} (a : UInt8) (h : DkAt code pc [56, a]) : decode code pc = .ok (.fstore a.toNat, 2) := dk_of ((dk_bind (dk_u1 (h 0 _ rfl))).trans ((dk_bind (dk_u1 (h 1 _ rfl))).trans rfl))
theorem dk_58 {code : ByteArray} {pc : Nat} (a : UInt8) (h : DkAt code pc [58, a]) : decode code pc = .ok (.astore a.toNat, 2) := dk_of ((dk_bind (dk_u1 (h 0 _ rfl))).trans ((dk_bind (dk_u1 (h 1 _ rfl))).trans rfl))
theorem dk_59 {code : ByteArray} {pc : Nat} (h : DkAt code pc [59]) : decode code pc = .ok (.istore_n 0, 1) := dk_of ((dk_bind (dk_u1 (h 0 _ rfl))).trans rfl)
theorem dk_60 {code : ByteArray} {pc : Nat} (h : DkAt code pc [60]) : decode code pc = .ok (.istore_n 1, 1) := dk_of ((dk_bind (dk_u1 (h 0 _ rfl))).trans rfl)
theorem dk_61 {code : ByteArray} {pc : Nat} (h : DkAt code pc [61]) : decode code pc = .ok (.istore_n 2, 1) := dk_of ((dk_bind (dk_u1 (h 0 _ rfl))).trans rfl)
theorem dk_62 {code : ByteArray} {pc : Nat} (h : DkAt code pc [62]) : decode code pc = .ok (.istore_n 3, 1) := dk_of ((dk_bind (dk_u1 (h 0 _ rfl))).trans rfl)
theorem dk_64 {code : ByteArray} {pc : Nat} (h : DkAt code pc [64]) : decode code pc = .ok (.lstore_n 1, 1) := dk_of ((dk_bind (dk_u1 (h 0 _ rfl))).trans rfl)
theorem dk_75 {code : ByteArray} {pc : Nat} (h : DkAt code pc [75]) : decode code pc = .ok (.astore_n 0, 1) := dk_of ((dk_bind (dk_u1 (h 0 _ rfl))).trans rfl)
theorem dk_76 {code : ByteArray} {pc : Nat} (h : DkAt code pc [76]) : decode code pc = .ok (.astore_n 1, 1) := dk_of ((dk_bind (dk_u1 (h 0 _ rfl))).trans rfl)
theorem dk_77 {code : ByteArray} {pc : Nat} (h : DkAt code pc [77]) : decode code pc = .ok (.astore_n 2, 1) := dk_of ((dk_bind (dk_u1 (h 0 _ rfl))).trans rfl)
theorem dk_78 {code : ByteArray} {pc : Nat} (h : DkAt code pc [78]) : decode code pc = .ok (.astore_n 3, 1) := dk_of ((dk_bind (dk_u1 (h 0 _ rfl))).trans rfl)
theorem dk_79 {code : ByteArray} {pc : Nat} (h : DkAt code pc [79]) : decode code pc = .ok (.iastore, 1) := dk_of ((dk_bind (dk_u1 (h 0 _ rfl))).trans rfl)
theorem dk_80 {code : ByteArray} {pc : Nat} (h : DkAt code pc [80]) : decode code pc = .ok (.lastore, 1) := dk_of ((dk_bind (dk_u1 (h 0 _ rfl))).trans rfl)
theorem dk_83 {code : ByteArray} {pc : Nat} (h : DkAt code pc [83]) : decode code pc = .ok (.aastore, 1) := dk_of ((dk_bind (dk_u1 (h 0 _ rfl))).trans rfl)
theorem dk_84 {code : ByteArray} {pc : Nat} (h : DkAt code pc [84]) : decode code pc = .ok (.bastore, 1) := dk_of ((dk_bind (dk_u1 (h 0 _ rfl))).trans rfl)
theorem dk_87 {code : ByteArray} {pc : Nat} (h : DkAt code pc [87]) : decode code pc = .ok (.pop, 1) := dk_of ((dk_bind (dk_u1 (h 0 _ rfl))).trans rfl)
theorem dk_89 {code : ByteArray} {pc : Nat} (h : DkAt code pc [89]) : decode code pc = .ok (.dup, 1) := dk_of ((dk_bind (dk_u1 (h 0 _ rfl))).trans rfl)
theorem dk_90 {code : ByteArray} {pc : Nat} (h : DkAt code pc [90]) : decode code pc = .ok (.dup_x1, 1) := dk_of ((dk_bind (dk_u1 (h 0 _ rfl))).trans rfl)
theorem dk_91 {code : ByteArray} {pc : Nat} (h : DkAt code pc [91]) : decode code pc = .ok (.dup_x2, 1) := dk_of ((dk_bind (dk_u1 (h 0 _ rfl))).trans rfl)
theorem dk_92 {code : ByteArray} {pc : Nat} (h : DkAt code pc [92]) : decode code pc = .ok (.dup2, 1) := dk_of ((dk_bind (dk_u1 (h 0 _ rfl))).trans rfl)
theorem dk_96 {code : ByteArray} {pc : Nat} (h : DkAt code pc [96]) : decode code pc = .ok (.iadd, 1) := dk_of ((dk_bind (dk_u1 (h 0 _ rfl))).trans rfl)
theorem dk_97 {code : ByteArray} {pc : Nat} (h : DkAt code pc [97]) : decode code pc = .ok (.ladd, 1) := dk_of ((dk_bind (dk_u1 (h 0 _ rfl))).trans rfl)
theorem dk_100 {code : ByteArray} {pc : Nat} (h : DkAt code pc [100]) : decode code pc = .ok (.isub, 1) := dk_of ((dk_bind (dk_u1 (h 0 _ rfl))).trans rfl)
theorem dk_101 {code : ByteArray} {pc : Nat} (h : DkAt code pc [101]) : decode code pc = .ok (.lsub, 1) := dk_of ((dk_bind (dk_u1 (h 0 _ rfl))).trans rfl)
theorem dk_104 {code : ByteArray} {pc : Nat} (h : DkAt code pc [104]) : decode code pc = .ok (.imul, 1) := dk_of ((dk_bind (dk_u1 (h 0 _ rfl))).trans rfl)
theorem dk_105 {code : ByteArray} {pc : Nat} (h : DkAt code pc [105]) : decode code pc = .ok (.lmul, 1) := dk_of ((dk_bind (dk_u1 (h 0 _ rfl))).trans rfl)
theorem dk_106 {code : ByteArray} {pc : Nat} (h : DkAt code pc [106]) : decode code pc = .ok (.fmul, 1) := dk_of ((dk_bind (dk_u1 (h 0 _ rfl))).trans rfl)
theorem dk_108 {code : ByteArray} {pc : Nat} (h : DkAt code pc [108]) : decode code pc = .ok (.idiv, 1) := dk_of ((dk_bind (dk_u1 (h 0 _ rfl))).trans rfl)
theorem dk_109 {code : ByteArray} {pc : Nat} (h : DkAt code pc [109]) : decode code pc = .ok (.ldiv, 1) := dk_of ((dk_bind (dk_u1 (h 0 _ rfl))).trans rfl)
theorem dk_112 {code : ByteArray} {pc : Nat} (h : DkAt code pc [112]) : decode code pc = .ok (.irem, 1) := dk_of ((dk_bind (dk_u1 (h 0 _ rfl))).trans rfl)
theorem dk_116 {code : ByteArray} {pc : Nat} (h : DkAt code pc [116]) : decode code pc = .ok (.ineg, 1) := dk_of ((dk_bind (dk_u1 (h 0 _ rfl))).trans rfl)
theorem dk_120 {code : ByteArray} {pc : Nat} (h : DkAt code pc [120]) : decode code pc = .ok (.ishl, 1) := dk_of ((dk_bind (dk_u1 (h 0 _ rfl))).trans rfl)
theorem dk_121 {code : ByteArray} {pc : Nat} (h : DkAt code pc [121]) : decode code pc = .ok (.lshl, 1) := dk_of ((dk_bind (dk_u1 (h 0 _ rfl))).trans rfl)
theorem dk_122 {code : ByteArray} {pc : Nat} (h : DkAt code pc [122]) : decode code pc = .ok (.ishr, 1) := dk_of ((dk_bind (dk_u1 (h 0 _ rfl))).trans rfl)
theorem dk_124 {code : ByteArray} {pc : Nat} (h : DkAt code pc [124]) : decode code pc = .ok (.iushr, 1) := dk_of ((dk_bind (dk_u1 (h 0 _ rfl))).trans rfl)
theorem dk_125 {code : ByteArray} {pc : Nat} (h : DkAt code pc [125]) : decode code pc = .ok (.lushr, 1) := dk_of ((dk_bind (dk_u1 (h 0 _ rfl))).trans rfl)
theorem dk_126 {code : ByteArray} {pc : Nat} (h : DkAt code pc [126]) : decode code pc = .ok (.iand, 1) := dk_of ((dk_bind (dk_u1 (h 0 _ rfl))).trans rfl)
theorem dk_127 {code : ByteArray} {pc : Nat} (h : DkAt code pc [127]) : decode code pc = .ok (.land, 1) := dk_of ((dk_bind (dk_u1 (h 0 _ rfl))).trans rfl)
theorem dk_128 {code : ByteArray} {pc : Nat} (h : DkAt code pc [128]) : decode code pc = .ok (.ior, 1) := dk_of ((dk_bind (dk_u1 (h 0 _ rfl))).trans rfl)
theorem dk_129 {code : ByteArray} {pc : Nat} (h : DkAt code pc [129]) : decode code pc = .ok (.lor, 1) := dk_of ((dk_bind (dk_u1 (h 0 _ rfl))).trans rfl)
theorem dk_130 {code : ByteArray} {pc : Nat} (h : DkAt code pc [130]) : decode code pc = .ok (.ixor, 1) := dk_of ((dk_bind (dk_u1 (h 0 _ rfl))).trans rfl)
theorem dk_131 {code : ByteArray} {pc : Nat} (h : DkAt code pc [131]) : decode code pc = .ok (.lxor, 1) := dk_of ((dk_bind (dk_u1 (h 0 _ rfl))).trans rfl)
theorem dk_132 {code : ByteArray} {pc : Nat} (a b : UInt8) (h : DkAt code pc [132, a, b]) : decode code pc = .ok (.iinc a.toNat (Reader.signed 8 b.toNat), 3) := dk_of ((dk_bind (dk_u1 (h 0 _ rfl))).trans ((dk_bind (dk_u1 (h 1 _ rfl))).trans ((dk_bind (dk_map (dk_u1 (h 2 _ rfl)))).trans rfl)))
theorem dk_133 {code : ByteArray} {pc : Nat} (h : DkAt code pc [133]) : decode code pc = .ok (.i2l, 1) := dk_of ((dk_bind (dk_u1 (h 0 _ rfl))).trans rfl)
theorem dk_134 {code : ByteArray} {pc : Nat} (h : DkAt code pc [134]) : decode code pc = .ok (.i2f, 1) := dk_of ((dk_bind (dk_u1 (h 0 _ rfl))).trans rfl)
theorem dk_136 {code : ByteArray} {pc : Nat} (h : DkAt code pc [136]) : decode code pc = .ok (.l2i, 1) := dk_of ((dk_bind (dk_u1 (h 0 _ rfl))).trans rfl)
theorem dk_139 {code : ByteArray} {pc : Nat} (h : DkAt code pc [139]) : decode code pc = .ok (.f2i, 1) := dk_of ((dk_bind (dk_u1 (h 0 _ rfl))).trans rfl)
theorem dk_145 {code : ByteArray} {pc : Nat} (h : DkAt code pc [145]) : decode code pc = .ok (.i2b, 1) := dk_of ((dk_bind (dk_u1 (h 0 _ rfl))).trans rfl)
theorem dk_146 {code : ByteArray} {pc : Nat} (h : DkAt code pc [146]) : decode code pc = .ok (.i2c, 1) := dk_of ((dk_bind (dk_u1 (h 0 _ rfl))).trans rfl)
theorem dk_148 {code : ByteArray} {pc : Nat} (h : DkAt code pc [148]) : decode code pc = .ok (.lcmp, 1) := dk_of ((dk_bind (dk_u1 (h 0 _ rfl))).trans rfl)
theorem dk_150 {code : ByteArray} {pc : Nat} (h : DkAt code pc [150]) : decode code pc = .ok (.fcmp .g, 1) := dk_of ((dk_bind (dk_u1 (h 0 _ rfl))).trans rfl)
theorem dk_153 {code : ByteArray} {pc : Nat} (a b : UInt8) (h : DkAt code pc [153, a, b]) : decode code pc = .ok (.ifCond .eq (Reader.signed 16 (a.toNat * 256 + b.toNat)), 3) := dk_of ((dk_bind (dk_u1 (h 0 _ rfl))).trans ((dk_bind (dk_map (dk_u2 (h 1 _ rfl) (h 2 _ rfl)))).trans rfl))
theorem dk_154 {code : ByteArray} {pc : Nat} (a b : UInt8) (h : DkAt code pc [154, a, b]) : decode code pc = .ok (.ifCond .ne (Reader.signed 16 (a.toNat * 256 + b.toNat)), 3) := dk_of ((dk_bind (dk_u1 (h 0 _ rfl))).trans ((dk_bind (dk_map (dk_u2 (h 1 _ rfl) (h 2 _ rfl)))).trans rfl))
theorem dk_155 {code : ByteArray} {pc : Nat} (a b : UInt8) (h : DkAt code pc [155, a, b]) : decode code pc = .ok (.ifCond .lt (Reader.signed 16 (a.toNat * 256 + b.toNat)), 3) := dk_of ((dk_bind (dk_u1 (h 0 _ rfl))).trans ((dk_bind (dk_map (dk_u2 (h 1 _ rfl) (h 2 _ rfl)))).trans rfl))
theorem dk_156 {code : ByteArray} {pc : Nat} (a b : UInt8) (h : DkAt code pc [156, a, b]) : decode code pc = .ok (.ifCond .ge (Reader.signed 16 (a.toNat * 256 + b.toNat)), 3) := dk_of ((dk_bind (dk_u1 (h 0 _ rfl))).trans ((dk_bind (dk_map (dk_u2 (h 1 _ rfl) (h 2 _ rfl)))).trans rfl))
theorem dk_157 {code : ByteArray} {pc : Nat} (a b : UInt8) (h : DkAt code pc [157, a, b]) : decode code pc = .ok (.ifCond .gt (Reader.signed 16 (a.toNat * 256 + b.toNat)), 3) := dk_of ((dk_bind (dk_u1 (h 0 _ rfl))).trans ((dk_bind (dk_map (dk_u2 (h 1 _ rfl) (h 2 _ rfl)))).trans rfl))
theorem dk_158 {code : ByteArray} {pc : Nat} (a b : UInt8) (h : DkAt code pc [158, a, b]) : decode code pc = .ok (.ifCond .le (Reader.signed 16 (a.toNat * 256 + b.toNat)), 3) := dk_of ((dk_bind (dk_u1 (h 0 _ rfl))).trans ((dk_bind (dk_map (dk_u2 (h 1 _ rfl) (h 2 _ rfl)))).trans rfl))
theorem dk_159 {code : ByteArray} {pc : Nat} (a b : UInt8) (h : DkAt code pc [159, a, b]) : decode code pc = .ok (.if_icmp .eq (Reader.signed 16 (a.toNat * 256 + b.toNat)), 3) := dk_of ((dk_bind (dk_u1 (h 0 _ rfl))).trans ((dk_bind (dk_map (dk_u2 (h 1 _ rfl) (h 2 _ rfl)))).trans rfl))
theorem dk_160 {code : ByteArray} {pc : Nat} (a b : UInt8) (h : DkAt code pc [160, a, b]) : decode code pc = .ok (.if_icmp .ne (Reader.signed 16 (a.toNat * 256 + b.toNat)), 3) := dk_of ((dk_bind (dk_u1 (h 0 _ rfl))).trans ((dk_bind (dk_map (dk_u2 (h 1 _ rfl) (h 2 _ rfl)))).trans rfl))
theorem dk_161 {code : ByteArray} {pc : Nat} (a b : UInt8) (h : DkAt code pc [161, a, b]) : decode code pc = .ok (.if_icmp .lt (Reader.signed 16 (a.toNat * 256 + b.toNat)), 3) := dk_of ((dk_bind (dk_u1 (h 0 _ rfl))).trans ((dk_bind (dk_map (dk_u2 (h 1 _ rfl) (h 2 _ rfl)))).trans rfl))
theorem dk_162 {code : ByteArray} {pc : Nat} (a b : UInt8) (h : DkAt code pc [162, a, b]) : decode code pc = .ok (.if_icmp .ge (Reader.signed 16 (a.toNat * 256 + b.toNat)), 3) := dk_of ((dk_bind (dk_u1 (h 0 _ rfl))).trans ((dk_bind (dk_map (dk_u2 (h 1 _ rfl) (h 2 _ rfl)))).trans rfl))
theorem dk_163 {code : ByteArray} {pc : Nat} (a b : UInt8) (h : DkAt code pc [163, a, b]) : decode code pc = .ok (.if_icmp .gt (Reader.signed 16 (a.toNat * 256 + b.toNat)), 3) := dk_of ((dk_bind (dk_u1 (h 0 _ rfl))).trans ((dk_bind (dk_map (dk_u2 (h 1 _ rfl) (h 2 _ rfl)))).trans rfl))
theorem dk_164 {code : ByteArray} {pc : Nat} (a b : UInt8) (h : DkAt code pc [164, a, b]) : decode code pc = .ok (.if_icmp .le (Reader.signed 16 (a.toNat * 256 + b.toNat)), 3) := dk_of ((dk_bind (dk_u1 (h 0 _ rfl))).trans ((dk_bind (dk_map (dk_u2 (h 1 _ rfl) (h 2 _ rfl)))).trans rfl))
theorem dk_165 {code : ByteArray} {pc : Nat} (a b : UInt8) (h : DkAt code pc [165, a, b]) : decode code pc = .ok (.if_acmp .eq (Reader.signed 16 (a.toNat * 256 + b.toNat)), 3) := dk_of ((dk_bind (dk_u1 (h 0 _ rfl))).trans ((dk_bind (dk_map (dk_u2 (h 1 _ rfl) (h 2 _ rfl)))).trans rfl))
theorem dk_166 {code : ByteArray} {pc : Nat} (a b : UInt8) (h : DkAt code pc [166, a, b]) : decode code pc = .ok (.if_acmp .ne (Reader.signed 16 (a.toNat * 256 + b.toNat)), 3) := dk_of ((dk_bind (dk_u1 (h 0 _ rfl))).trans ((dk_bind (dk_map (dk_u2 (h 1 _ rfl) (h 2 _ rfl)))).trans rfl))
theorem dk_167 {code : ByteArray} {pc : Nat} (a b : UInt8) (h : DkAt code pc [167, a, b]) : decode code pc = .ok (.goto (Reader.signed 16 (a.toNat * 256 + b.toNat)), 3) := dk_of ((dk_bind (dk_u1 (h 0 _ rfl))).trans ((dk_bind (dk_map (dk_u2 (h 1 _ rfl) (h 2 _ rfl)))).trans rfl))
theorem dk_172 {code : ByteArray} {pc : Nat} (h : DkAt code pc [172]) : decode code pc = .ok (.ireturn, 1) := dk_of ((dk_bind (dk_u1 (h 0 _ rfl))).trans rfl)
theorem dk_173 {code : ByteArray} {pc : Nat} (h : DkAt code pc [173]) : decode code pc = .ok (.lreturn, 1) := dk_of ((dk_bind (dk_u1 (h 0 _ rfl))).trans rfl)
theorem dk_176 {code : ByteArray} {pc : Nat} (h : DkAt code pc [176]) : decode code pc = .ok (.areturn, 1) := dk_of ((dk_bind (dk_u1 (h 0 _ rfl))).trans rfl)
theorem dk_177 {code : ByteArray} {pc : Nat} (h : DkAt code pc [177]) : decode code pc = .ok (.return_, 1) := dk_of ((dk_bind (dk_u1 (h 0 _ rfl))).trans rfl)
theorem dk_178 {code : ByteArray} {pc : Nat} (a b : UInt8) (h : DkAt code pc [178, a, b]) : decode code pc = .ok (.getstatic (a.toNat * 256 + b.toNat), 3) := dk_of ((dk_bind (dk_u1 (h 0 _ rfl))).trans ((dk_bind (dk_u2 (h 1 _ rfl) (h 2 _ rfl))).trans rfl))
theorem dk_180 {code : ByteArray} {pc : Nat} (a b : UInt8) (h : DkAt code pc [180, a, b]) : decode code pc = .ok (.getfield (a.toNat * 256 + b.toNat), 3) := dk_of ((dk_bind (dk_u1 (h 0 _ rfl))).trans ((dk_bind (dk_u2 (h 1 _ rfl) (h 2 _ rfl))).trans rfl))
theorem dk_181 {code : ByteArray} {pc : Nat} (a b : UInt8) (h : DkAt code pc [181, a, b]) : decode code pc = .ok (.putfield (a.toNat * 256 + b.toNat), 3) := dk_of ((dk_bind (dk_u1 (h 0 _ rfl))).trans ((dk_bind (dk_u2 (h 1 _ rfl) (h 2 _ rfl))).trans rfl))
theorem dk_182 {code : ByteArray} {pc : Nat} (a b : UInt8) (h : DkAt code pc [182, a, b]) : decode code pc = .ok (.invokevirtual (a.toNat * 256 + b.toNat), 3) := dk_of ((dk_bind (dk_u1 (h 0 _ rfl))).trans ((dk_bind (dk_u2 (h 1 _ rfl) (h 2 _ rfl))).trans rfl))
theorem dk_183 {code : ByteArray} {pc : Nat} (a b : UInt8) (h : DkAt code pc [183, a, b]) : decode code pc = .ok (.invokespecial (a.toNat * 256 + b.toNat), 3) := dk_of ((dk_bind (dk_u1 (h 0 _ rfl))).trans ((dk_bind (dk_u2 (h 1 _ rfl) (h 2 _ rfl))).trans rfl))
theorem dk_184 {code : ByteArray} {pc : Nat} (a b : UInt8) (h : DkAt code pc [184, a, b]) : decode code pc = .ok (.invokestatic (a.toNat * 256 + b.toNat), 3) := dk_of ((dk_bind (dk_u1 (h 0 _ rfl))).trans ((dk_bind (dk_u2 (h 1 _ rfl) (h 2 _ rfl))).trans rfl))
theorem dk_187 {code : ByteArray} {pc : Nat} (a b : UInt8) (h : DkAt code pc [187, a, b]) : decode code pc = .ok (.new (a.toNat * 256 + b.toNat), 3) := dk_of ((dk_bind (dk_u1 (h 0 _ rfl))).trans ((dk_bind (dk_u2 (h 1 _ rfl) (h 2 _ rfl))).trans rfl))
theorem dk_188_8 {code : ByteArray} {pc : Nat} (h : DkAt code pc [188, 8]) : decode code pc = .ok (.newarray .byte, 2) := dk_of ((dk_bind (dk_u1 (h 0 _ rfl))).trans ((dk_bind (dk_u1 (h 1 _ rfl))).trans rfl))
theorem dk_188_10 {code : ByteArray} {pc : Nat} (h : DkAt code pc [188, 10]) : decode code pc = .ok (.newarray .int, 2) := dk_of ((dk_bind (dk_u1 (h 0 _ rfl))).trans ((dk_bind (dk_u1 (h 1 _ rfl))).trans rfl))
theorem dk_188_11 {code : ByteArray} {pc : Nat} (h : DkAt code pc [188, 11]) : decode code pc = .ok (.newarray .long, 2) := dk_of ((dk_bind (dk_u1 (h 0 _ rfl))).trans ((dk_bind (dk_u1 (h 1 _ rfl))).trans rfl))
theorem dk_189 {code : ByteArray} {pc : Nat} (a b : UInt8) (h : DkAt code pc [189, a, b]) : decode code pc = .ok (.anewarray (a.toNat * 256 + b.toNat), 3) := dk_of ((dk_bind (dk_u1 (h 0 _ rfl))).trans ((dk_bind (dk_u2 (h 1 _ rfl) (h 2 _ rfl))).trans rfl))
theorem dk_190 {code : ByteArray} {pc : Nat} (h : DkAt code pc [190]) : decode code pc = .ok (.arraylength, 1) := dk_of ((dk_bind (dk_u1 (h 0 _ rfl))).trans rfl)
theorem dk_191 {code : ByteArray} {pc : Nat} (h : DkAt code pc [191]) : decode code pc = .ok (.athrow, 1) := dk_of ((dk_bind (dk_u1 (h 0 _ rfl))).trans rfl)
theorem dk_192 {code : ByteArray} {pc : Nat} (a b : UInt8) (h : DkAt code pc [192, a, b]) : decode code pc = .ok (.checkcast (a.toNat * 256 + b.toNat), 3) := dk_of ((dk_bind (dk_u1 (h 0 _ rfl))).trans ((dk_bind (dk_u2 (h 1 _ rfl) (h 2 _ rfl))).trans rfl))
theorem dk_193 {code : ByteArray} {pc : Nat} (a b : UInt8) (h : DkAt code pc [193, a, b]) : decode code pc = .ok (.instanceof (a.toNat * 256 + b.toNat), 3) := dk_of ((dk_bind (dk_u1 (h 0 _ rfl))).trans ((dk_bind (dk_u2 (h 1 _ rfl) (h 2 _ rfl))).trans rfl))
theorem dk_198 {code : ByteArray} {pc : Nat} (a b : UInt8) (h : DkAt code pc [198, a, b]) : decode code pc = .ok (.ifnull (Reader.signed 16 (a.toNat * 256 + b.toNat)), 3) := dk_of ((dk_bind (dk_u1 (h 0 _ rfl))).trans ((dk_bind (dk_map (dk_u2 (h 1 _ rfl) (h 2 _ rfl)))).trans rfl))
theorem dk_199 {code : ByteArray} {pc : Nat} (a b : UInt8) (h : DkAt code pc [199, a, b]) : decode code pc = .ok (.ifnonnull (Reader.signed 16 (a.toNat * 256 + b.toNat)), 3) := dk_of ((dk_bind (dk_u1 (h 0 _ rfl))).trans ((dk_bind (dk_map (dk_u2 (h 1 _ rfl) (h 2 _ rfl)))).trans rfl))
/-! CornerClaims -/
set_option maxRecDepth 100000
def RX1 : String := "CornerClaims"
def TX1 : u_T := fun k => match k with
  | 0 => ("CornerClaims", "buffer", "[B", true)
  | 1 => ("CornerClaims", "history", "Ljava/util/ArrayDeque;", true)
  | 2 => ("CornerClaims", "current", "LCornerClaims$Field;", false)
  | 3 => ("CornerClaims", "bufferLength", "I", false)
  | _ => ("CornerClaims", "errorOffset", "I", false)
def tyX1 : Nat → FieldType := fun k => match k with
  | 0 => .array .byte
  | 1 => .object "java/util/ArrayDeque"
  | 2 => .object "CornerClaims$Field"
  | 3 => .int
  | _ => .int
abbrev wsX10 : List Cond := u_ws RX1 TX1 5
theorem nmX1 : ∀ a, a < 5 → ∀ b, b < 5 → a ≠ b → (TX1 a).2.1 ≠ (TX1 b).2.1 := by decide +kernel
theorem tyX1_ok : ∀ k, k < 5 → parseFieldDescriptor (TX1 k).2.2.1 = some (tyX1 k) := by decide +kernel
abbrev cX1_init : ByteArray := prog_1_method_9_code
def yX1_init : MethodName := ⟨RX1, "<init>", "()V"⟩
def dkwX1_init_2 : List UInt8 := [181, 0, 112, 177]
abbrev dktX1_init_2 : List UInt8 := dkwX1_init_2 ++ []
def dkwX1_init_1 : List UInt8 := [42, 187, 0, 98, 89, 187, 0, 100, 89, 5, 5, 183, 0, 102, 183, 0, 105, 181, 0, 108, 42, 2]
abbrev dktX1_init_1 : List UInt8 := dkwX1_init_1 ++ dktX1_init_2
def dkwX1_init_0 : List UInt8 := [42, 183, 0, 81, 42, 17, 3, 32, 188, 8, 181, 0, 87, 42, 187, 0, 91, 89, 183, 0, 93, 181, 0, 94]
abbrev dktX1_init_0 : List UInt8 := dkwX1_init_0 ++ dktX1_init_1
theorem dksX1_init_0 : cX1_init.data.toList.drop 0 = dktX1_init_0 := by decide +kernel
theorem dksX1_init_1 : cX1_init.data.toList.drop 24 = dktX1_init_1 := dk_seg dksX1_init_0 24 rfl rfl
theorem dksX1_init_2 : cX1_init.data.toList.drop 46 = dktX1_init_2 := dk_seg dksX1_init_1 22 rfl rfl
theorem dX1_init_0 : decode cX1_init 0 = .ok (.aload_n 0, 1) := dk_42 (dk_at dksX1_init_0 0 rfl rfl)
theorem dX1_init_1 : decode cX1_init 1 = .ok (.invokespecial 81, 3) := dk_183 0 81 (dk_at dksX1_init_0 1 rfl rfl)
theorem dX1_init_4 : decode cX1_init 4 = .ok (.aload_n 0, 1) := dk_42 (dk_at dksX1_init_0 4 rfl rfl)
theorem dX1_init_5 : decode cX1_init 5 = .ok (.sipush 800, 3) := dk_17 3 32 (dk_at dksX1_init_0 5 rfl rfl)
theorem dX1_init_8 : decode cX1_init 8 = .ok (.newarray .byte, 2) := dk_188_8 (dk_at dksX1_init_0 8 rfl rfl)
theorem dX1_init_10 : decode cX1_init 10 = .ok (.putfield 87, 3) := dk_181 0 87 (dk_at dksX1_init_0 10 rfl rfl)
theorem dX1_init_13 : decode cX1_init 13 = .ok (.aload_n 0, 1) := dk_42 (dk_at dksX1_init_0 13 rfl rfl)
theorem dX1_init_14 : decode cX1_init 14 = .ok (.new 91, 3) := dk_187 0 91 (dk_at dksX1_init_0 14 rfl rfl)
theorem dX1_init_17 : decode cX1_init 17 = .ok (.dup, 1) := dk_89 (dk_at dksX1_init_0 17 rfl rfl)
theorem dX1_init_18 : decode cX1_init 18 = .ok (.invokespecial 93, 3) := dk_183 0 93 (dk_at dksX1_init_0 18 rfl rfl)
theorem dX1_init_21 : decode cX1_init 21 = .ok (.putfield 94, 3) := dk_181 0 94 (dk_at dksX1_init_0 21 rfl rfl)
theorem dX1_init_24 : decode cX1_init 24 = .ok (.aload_n 0, 1) := dk_42 (dk_at dksX1_init_1 0 rfl rfl)
theorem dX1_init_25 : decode cX1_init 25 = .ok (.new 98, 3) := dk_187 0 98 (dk_at dksX1_init_1 1 rfl rfl)
theorem dX1_init_28 : decode cX1_init 28 = .ok (.dup, 1) := dk_89 (dk_at dksX1_init_1 4 rfl rfl)
theorem dX1_init_29 : decode cX1_init 29 = .ok (.new 100, 3) := dk_187 0 100 (dk_at dksX1_init_1 5 rfl rfl)
theorem dX1_init_32 : decode cX1_init 32 = .ok (.dup, 1) := dk_89 (dk_at dksX1_init_1 8 rfl rfl)
theorem dX1_init_33 : decode cX1_init 33 = .ok (.iconst 2, 1) := dk_5 (dk_at dksX1_init_1 9 rfl rfl)
theorem dX1_init_34 : decode cX1_init 34 = .ok (.iconst 2, 1) := dk_5 (dk_at dksX1_init_1 10 rfl rfl)
theorem dX1_init_35 : decode cX1_init 35 = .ok (.invokespecial 102, 3) := dk_183 0 102 (dk_at dksX1_init_1 11 rfl rfl)
theorem dX1_init_38 : decode cX1_init 38 = .ok (.invokespecial 105, 3) := dk_183 0 105 (dk_at dksX1_init_1 14 rfl rfl)
theorem dX1_init_41 : decode cX1_init 41 = .ok (.putfield 108, 3) := dk_181 0 108 (dk_at dksX1_init_1 17 rfl rfl)
theorem dX1_init_44 : decode cX1_init 44 = .ok (.aload_n 0, 1) := dk_42 (dk_at dksX1_init_1 20 rfl rfl)
theorem dX1_init_45 : decode cX1_init 45 = .ok (.iconst (-1), 1) := dk_2 (dk_at dksX1_init_1 21 rfl rfl)
theorem dX1_init_46 : decode cX1_init 46 = .ok (.putfield 112, 3) := dk_181 0 112 (dk_at dksX1_init_2 0 rfl rfl)
theorem dX1_init_49 : decode cX1_init 49 = .ok (.return_, 1) := dk_177 (dk_at dksX1_init_2 3 rfl rfl)
abbrev cX1_variable : ByteArray := prog_1_method_4_code
def yX1_variable : MethodName := ⟨RX1, "variable", "(Ljava/lang/String;)LCornerClaims$Score;"⟩
def dkwX1_variable_7 : List UInt8 := [186, 0, 43, 0, 0, 176, 1, 176]
abbrev dktX1_variable_7 : List UInt8 := dkwX1_variable_7 ++ []
def dkwX1_variable_6 : List UInt8 := [186, 0, 37, 0, 0, 176, 186, 0, 40, 0, 0, 176, 186, 0, 41, 0, 0, 176, 186, 0, 42, 0, 0, 176]
abbrev dktX1_variable_6 : List UInt8 := dkwX1_variable_6 ++ dktX1_variable_7
def dkwX1_variable_5 : List UInt8 := [170, 0, 0, 0, 0, 0, 0, 66, 0, 0, 0, 0, 0, 0, 0, 4, 0, 0, 0, 36, 0, 0, 0, 42, 0, 0, 0, 48, 0, 0, 0, 54, 0, 0, 0, 60]
abbrev dktX1_variable_5 : List UInt8 := dkwX1_variable_5 ++ dktX1_variable_6
def dkwX1_variable_4 : List UInt8 := [153, 0, 19, 6, 61, 167, 0, 14, 43, 18, 35, 182, 0, 25, 153, 0, 5, 7, 61, 28]
abbrev dktX1_variable_4 : List UInt8 := dkwX1_variable_4 ++ dktX1_variable_5
def dkwX1_variable_3 : List UInt8 := [61, 167, 0, 42, 43, 18, 31, 182, 0, 25, 153, 0, 33, 5, 61, 167, 0, 28, 43, 18, 33, 182, 0, 25]
abbrev dktX1_variable_3 : List UInt8 := dkwX1_variable_3 ++ dktX1_variable_4
def dkwX1_variable_2 : List UInt8 := [43, 18, 23, 182, 0, 25, 153, 0, 61, 3, 61, 167, 0, 56, 43, 18, 29, 182, 0, 25, 153, 0, 47, 4]
abbrev dktX1_variable_2 : List UInt8 := dkwX1_variable_2 ++ dktX1_variable_3
def dkwX1_variable_1 : List UInt8 := [171, 0, 0, 0, 0, 0, 0, 119, 0, 0, 0, 5, 202, 212, 20, 174, 0, 0, 0, 66, 0, 45, 208, 141, 0, 0, 0, 52, 5, 176, 195, 76, 0, 0, 0, 94, 5, 251, 78, 86, 0, 0, 0, 108, 56, 236, 216, 190, 0, 0, 0, 80]
abbrev dktX1_variable_1 : List UInt8 := dkwX1_variable_1 ++ dktX1_variable_2
def dkwX1_variable_0 : List UInt8 := [42, 76, 2, 61, 43, 182, 0, 17]
abbrev dktX1_variable_0 : List UInt8 := dkwX1_variable_0 ++ dktX1_variable_1
theorem dksX1_variable_0 : cX1_variable.data.toList.drop 0 = dktX1_variable_0 := by decide +kernel
theorem dksX1_variable_1 : cX1_variable.data.toList.drop 8 = dktX1_variable_1 := dk_seg dksX1_variable_0 8 rfl rfl
theorem dksX1_variable_2 : cX1_variable.data.toList.drop 60 = dktX1_variable_2 := dk_seg dksX1_variable_1 52 rfl rfl
theorem dksX1_variable_3 : cX1_variable.data.toList.drop 84 = dktX1_variable_3 := dk_seg dksX1_variable_2 24 rfl rfl
theorem dksX1_variable_4 : cX1_variable.data.toList.drop 108 = dktX1_variable_4 := dk_seg dksX1_variable_3 24 rfl rfl
theorem dksX1_variable_5 : cX1_variable.data.toList.drop 128 = dktX1_variable_5 := dk_seg dksX1_variable_4 20 rfl rfl
theorem dksX1_variable_6 : cX1_variable.data.toList.drop 164 = dktX1_variable_6 := dk_seg dksX1_variable_5 36 rfl rfl
theorem dksX1_variable_7 : cX1_variable.data.toList.drop 188 = dktX1_variable_7 := dk_seg dksX1_variable_6 24 rfl rfl
theorem dX1_variable_0 : decode cX1_variable 0 = .ok (.aload_n 0, 1) := dk_42 (dk_at dksX1_variable_0 0 rfl rfl)
theorem dX1_variable_1 : decode cX1_variable 1 = .ok (.astore_n 1, 1) := dk_76 (dk_at dksX1_variable_0 1 rfl rfl)
theorem dX1_variable_2 : decode cX1_variable 2 = .ok (.iconst (-1), 1) := dk_2 (dk_at dksX1_variable_0 2 rfl rfl)
theorem dX1_variable_3 : decode cX1_variable 3 = .ok (.istore_n 2, 1) := dk_61 (dk_at dksX1_variable_0 3 rfl rfl)
theorem dX1_variable_4 : decode cX1_variable 4 = .ok (.aload_n 1, 1) := dk_43 (dk_at dksX1_variable_0 4 rfl rfl)
theorem dX1_variable_5 : decode cX1_variable 5 = .ok (.invokevirtual 17, 3) := dk_182 0 17 (dk_at dksX1_variable_0 5 rfl rfl)
theorem dX1_variable_8 : decode cX1_variable 8 = .ok (.lookupswitch 119 #[(-892070738, 66), (3002509, 52), (95470412, 94), (100355670, 108), (955046078, 80)], 52) := by decide +kernel
theorem dX1_variable_60 : decode cX1_variable 60 = .ok (.aload_n 1, 1) := dk_43 (dk_at dksX1_variable_2 0 rfl rfl)
theorem dX1_variable_61 : decode cX1_variable 61 = .ok (.ldc 23, 2) := dk_18 23 (dk_at dksX1_variable_2 1 rfl rfl)
theorem dX1_variable_63 : decode cX1_variable 63 = .ok (.invokevirtual 25, 3) := dk_182 0 25 (dk_at dksX1_variable_2 3 rfl rfl)
theorem dX1_variable_66 : decode cX1_variable 66 = .ok (.ifCond .eq 61, 3) := dk_153 0 61 (dk_at dksX1_variable_2 6 rfl rfl)
theorem dX1_variable_69 : decode cX1_variable 69 = .ok (.iconst 0, 1) := dk_3 (dk_at dksX1_variable_2 9 rfl rfl)
theorem dX1_variable_70 : decode cX1_variable 70 = .ok (.istore_n 2, 1) := dk_61 (dk_at dksX1_variable_2 10 rfl rfl)
theorem dX1_variable_71 : decode cX1_variable 71 = .ok (.goto 56, 3) := dk_167 0 56 (dk_at dksX1_variable_2 11 rfl rfl)
theorem dX1_variable_74 : decode cX1_variable 74 = .ok (.aload_n 1, 1) := dk_43 (dk_at dksX1_variable_2 14 rfl rfl)
theorem dX1_variable_75 : decode cX1_variable 75 = .ok (.ldc 29, 2) := dk_18 29 (dk_at dksX1_variable_2 15 rfl rfl)
theorem dX1_variable_77 : decode cX1_variable 77 = .ok (.invokevirtual 25, 3) := dk_182 0 25 (dk_at dksX1_variable_2 17 rfl rfl)
theorem dX1_variable_80 : decode cX1_variable 80 = .ok (.ifCond .eq 47, 3) := dk_153 0 47 (dk_at dksX1_variable_2 20 rfl rfl)
theorem dX1_variable_83 : decode cX1_variable 83 = .ok (.iconst 1, 1) := dk_4 (dk_at dksX1_variable_2 23 rfl rfl)
theorem dX1_variable_84 : decode cX1_variable 84 = .ok (.istore_n 2, 1) := dk_61 (dk_at dksX1_variable_3 0 rfl rfl)
theorem dX1_variable_85 : decode cX1_variable 85 = .ok (.goto 42, 3) := dk_167 0 42 (dk_at dksX1_variable_3 1 rfl rfl)
theorem dX1_variable_88 : decode cX1_variable 88 = .ok (.aload_n 1, 1) := dk_43 (dk_at dksX1_variable_3 4 rfl rfl)
theorem dX1_variable_89 : decode cX1_variable 89 = .ok (.ldc 31, 2) := dk_18 31 (dk_at dksX1_variable_3 5 rfl rfl)
theorem dX1_variable_91 : decode cX1_variable 91 = .ok (.invokevirtual 25, 3) := dk_182 0 25 (dk_at dksX1_variable_3 7 rfl rfl)
theorem dX1_variable_94 : decode cX1_variable 94 = .ok (.ifCond .eq 33, 3) := dk_153 0 33 (dk_at dksX1_variable_3 10 rfl rfl)
theorem dX1_variable_97 : decode cX1_variable 97 = .ok (.iconst 2, 1) := dk_5 (dk_at dksX1_variable_3 13 rfl rfl)
theorem dX1_variable_98 : decode cX1_variable 98 = .ok (.istore_n 2, 1) := dk_61 (dk_at dksX1_variable_3 14 rfl rfl)
theorem dX1_variable_99 : decode cX1_variable 99 = .ok (.goto 28, 3) := dk_167 0 28 (dk_at dksX1_variable_3 15 rfl rfl)
theorem dX1_variable_102 : decode cX1_variable 102 = .ok (.aload_n 1, 1) := dk_43 (dk_at dksX1_variable_3 18 rfl rfl)
theorem dX1_variable_103 : decode cX1_variable 103 = .ok (.ldc 33, 2) := dk_18 33 (dk_at dksX1_variable_3 19 rfl rfl)
theorem dX1_variable_105 : decode cX1_variable 105 = .ok (.invokevirtual 25, 3) := dk_182 0 25 (dk_at dksX1_variable_3 21 rfl rfl)
theorem dX1_variable_108 : decode cX1_variable 108 = .ok (.ifCond .eq 19, 3) := dk_153 0 19 (dk_at dksX1_variable_4 0 rfl rfl)
theorem dX1_variable_111 : decode cX1_variable 111 = .ok (.iconst 3, 1) := dk_6 (dk_at dksX1_variable_4 3 rfl rfl)
theorem dX1_variable_112 : decode cX1_variable 112 = .ok (.istore_n 2, 1) := dk_61 (dk_at dksX1_variable_4 4 rfl rfl)
theorem dX1_variable_113 : decode cX1_variable 113 = .ok (.goto 14, 3) := dk_167 0 14 (dk_at dksX1_variable_4 5 rfl rfl)
theorem dX1_variable_116 : decode cX1_variable 116 = .ok (.aload_n 1, 1) := dk_43 (dk_at dksX1_variable_4 8 rfl rfl)
theorem dX1_variable_117 : decode cX1_variable 117 = .ok (.ldc 35, 2) := dk_18 35 (dk_at dksX1_variable_4 9 rfl rfl)
theorem dX1_variable_119 : decode cX1_variable 119 = .ok (.invokevirtual 25, 3) := dk_182 0 25 (dk_at dksX1_variable_4 11 rfl rfl)
theorem dX1_variable_122 : decode cX1_variable 122 = .ok (.ifCond .eq 5, 3) := dk_153 0 5 (dk_at dksX1_variable_4 14 rfl rfl)
theorem dX1_variable_125 : decode cX1_variable 125 = .ok (.iconst 4, 1) := dk_7 (dk_at dksX1_variable_4 17 rfl rfl)
theorem dX1_variable_126 : decode cX1_variable 126 = .ok (.istore_n 2, 1) := dk_61 (dk_at dksX1_variable_4 18 rfl rfl)
theorem dX1_variable_127 : decode cX1_variable 127 = .ok (.iload_n 2, 1) := dk_28 (dk_at dksX1_variable_4 19 rfl rfl)
theorem dX1_variable_128 : decode cX1_variable 128 = .ok (.tableswitch 66 0 4 #[36, 42, 48, 54, 60], 36) := by decide +kernel
theorem dX1_variable_164 : decode cX1_variable 164 = .ok (.invokedynamic 37, 5) := by decide +kernel
theorem dX1_variable_169 : decode cX1_variable 169 = .ok (.areturn, 1) := dk_176 (dk_at dksX1_variable_6 5 rfl rfl)
theorem dX1_variable_170 : decode cX1_variable 170 = .ok (.invokedynamic 40, 5) := by decide +kernel
theorem dX1_variable_175 : decode cX1_variable 175 = .ok (.areturn, 1) := dk_176 (dk_at dksX1_variable_6 11 rfl rfl)
theorem dX1_variable_176 : decode cX1_variable 176 = .ok (.invokedynamic 41, 5) := by decide +kernel
theorem dX1_variable_181 : decode cX1_variable 181 = .ok (.areturn, 1) := dk_176 (dk_at dksX1_variable_6 17 rfl rfl)
theorem dX1_variable_182 : decode cX1_variable 182 = .ok (.invokedynamic 42, 5) := by decide +kernel
theorem dX1_variable_187 : decode cX1_variable 187 = .ok (.areturn, 1) := dk_176 (dk_at dksX1_variable_6 23 rfl rfl)
theorem dX1_variable_188 : decode cX1_variable 188 = .ok (.invokedynamic 43, 5) := by decide +kernel
theorem dX1_variable_193 : decode cX1_variable 193 = .ok (.areturn, 1) := dk_176 (dk_at dksX1_variable_7 5 rfl rfl)
theorem dX1_variable_194 : decode cX1_variable 194 = .ok (.aconst_null, 1) := dk_1 (dk_at dksX1_variable_7 6 rfl rfl)
theorem dX1_variable_195 : decode cX1_variable 195 = .ok (.areturn, 1) := dk_176 (dk_at dksX1_variable_7 7 rfl rfl)
abbrev cX1_lambda_variable_1 : ByteArray := prog_1_method_50_code
def yX1_lambda_variable_1 : MethodName := ⟨RX1, "lambda$variable$1", "(IIIII)J"⟩
theorem dX1_lambda_variable_1_0 : decode cX1_lambda_variable_1 0 = .ok (.iload_n 0, 1) := by decide +kernel
theorem dX1_lambda_variable_1_1 : decode cX1_lambda_variable_1 1 = .ok (.i2l, 1) := by decide +kernel
theorem dX1_lambda_variable_1_2 : decode cX1_lambda_variable_1 2 = .ok (.lreturn, 1) := by decide +kernel
abbrev cX1_lambda_variable_2 : ByteArray := prog_1_method_49_code
def yX1_lambda_variable_2 : MethodName := ⟨RX1, "lambda$variable$2", "(IIIII)J"⟩
theorem dX1_lambda_variable_2_0 : decode cX1_lambda_variable_2 0 = .ok (.iload_n 1, 1) := by decide +kernel
theorem dX1_lambda_variable_2_1 : decode cX1_lambda_variable_2 1 = .ok (.i2l, 1) := by decide +kernel
theorem dX1_lambda_variable_2_2 : decode cX1_lambda_variable_2 2 = .ok (.lreturn, 1) := by decide +kernel
abbrev cX1_lambda_variable_3 : ByteArray := prog_1_method_48_code
def yX1_lambda_variable_3 : MethodName := ⟨RX1, "lambda$variable$3", "(IIIII)J"⟩
theorem dX1_lambda_variable_3_0 : decode cX1_lambda_variable_3 0 = .ok (.iload_n 2, 1) := by decide +kernel
theorem dX1_lambda_variable_3_1 : decode cX1_lambda_variable_3 1 = .ok (.i2l, 1) := by decide +kernel
theorem dX1_lambda_variable_3_2 : decode cX1_lambda_variable_3 2 = .ok (.lreturn, 1) := by decide +kernel
abbrev cX1_lambda_variable_4 : ByteArray := prog_1_method_47_code
def yX1_lambda_variable_4 : MethodName := ⟨RX1, "lambda$variable$4", "(IIIII)J"⟩
theorem dX1_lambda_variable_4_0 : decode cX1_lambda_variable_4 0 = .ok (.iload_n 3, 1) := by decide +kernel
theorem dX1_lambda_variable_4_1 : decode cX1_lambda_variable_4 1 = .ok (.i2l, 1) := by decide +kernel
theorem dX1_lambda_variable_4_2 : decode cX1_lambda_variable_4 2 = .ok (.lreturn, 1) := by decide +kernel
abbrev cX1_lambda_variable_5 : ByteArray := prog_1_method_46_code
def yX1_lambda_variable_5 : MethodName := ⟨RX1, "lambda$variable$5", "(IIIII)J"⟩
theorem dX1_lambda_variable_5_0 : decode cX1_lambda_variable_5 0 = .ok (.iload 4, 2) := by decide +kernel
theorem dX1_lambda_variable_5_2 : decode cX1_lambda_variable_5 2 = .ok (.i2l, 1) := by decide +kernel
theorem dX1_lambda_variable_5_3 : decode cX1_lambda_variable_5 3 = .ok (.lreturn, 1) := by decide +kernel
abbrev cX1_operation : ByteArray := prog_1_method_3_code
def yX1_operation : MethodName := ⟨RX1, "operation", "(ILCornerClaims$Score;LCornerClaims$Score;)LCornerClaims$Score;"⟩
def dkwX1_operation_0 : List UInt8 := [43, 44, 26, 186, 0, 13, 0, 0, 176]
abbrev dktX1_operation_0 : List UInt8 := dkwX1_operation_0 ++ []
theorem dksX1_operation_0 : cX1_operation.data.toList.drop 0 = dktX1_operation_0 := by decide +kernel
theorem dX1_operation_0 : decode cX1_operation 0 = .ok (.aload_n 1, 1) := dk_43 (dk_at dksX1_operation_0 0 rfl rfl)
theorem dX1_operation_1 : decode cX1_operation 1 = .ok (.aload_n 2, 1) := dk_44 (dk_at dksX1_operation_0 1 rfl rfl)
theorem dX1_operation_2 : decode cX1_operation 2 = .ok (.iload_n 0, 1) := dk_26 (dk_at dksX1_operation_0 2 rfl rfl)
theorem dX1_operation_3 : decode cX1_operation 3 = .ok (.invokedynamic 13, 5) := by decide +kernel
theorem dX1_operation_8 : decode cX1_operation 8 = .ok (.areturn, 1) := dk_176 (dk_at dksX1_operation_0 8 rfl rfl)
abbrev cX1_lambda_operation_0 : ByteArray := prog_1_method_51_code
def yX1_lambda_operation_0 : MethodName := ⟨RX1, "lambda$operation$0", "(LCornerClaims$Score;LCornerClaims$Score;IIIIII)J"⟩
def dkwX1_lambda_operation_0_4 : List UInt8 := [55, 12, 20, 1, 89, 20, 1, 91, 22, 12, 184, 1, 93, 184, 1, 95, 173]
abbrev dktX1_lambda_operation_0_4 : List UInt8 := dkwX1_lambda_operation_0_4 ++ []
def dkwX1_lambda_operation_0_3 : List UInt8 := [22, 8, 22, 10, 105, 167, 0, 19, 22, 10, 9, 148, 154, 0, 7, 9, 167, 0, 8, 22, 8, 22, 10, 109]
abbrev dktX1_lambda_operation_0_3 : List UInt8 := dkwX1_lambda_operation_0_3 ++ dktX1_lambda_operation_0_4
def dkwX1_lambda_operation_0_2 : List UInt8 := [167, 0, 47, 28, 16, 45, 160, 0, 11, 22, 8, 22, 10, 101, 167, 0, 33, 28, 16, 42, 160, 0, 11]
abbrev dktX1_lambda_operation_0_2 : List UInt8 := dkwX1_lambda_operation_0_2 ++ dktX1_lambda_operation_0_3
def dkwX1_lambda_operation_0_1 : List UInt8 := [21, 6, 21, 7, 185, 1, 84, 6, 0, 55, 10, 28, 16, 43, 160, 0, 11, 22, 8, 22, 10, 97]
abbrev dktX1_lambda_operation_0_1 : List UInt8 := dkwX1_lambda_operation_0_1 ++ dktX1_lambda_operation_0_2
def dkwX1_lambda_operation_0_0 : List UInt8 := [42, 29, 21, 4, 21, 5, 21, 6, 21, 7, 185, 1, 84, 6, 0, 55, 8, 43, 29, 21, 4, 21, 5]
abbrev dktX1_lambda_operation_0_0 : List UInt8 := dkwX1_lambda_operation_0_0 ++ dktX1_lambda_operation_0_1
theorem dksX1_lambda_operation_0_0 : cX1_lambda_operation_0.data.toList.drop 0 = dktX1_lambda_operation_0_0 := by decide +kernel
theorem dksX1_lambda_operation_0_1 : cX1_lambda_operation_0.data.toList.drop 23 = dktX1_lambda_operation_0_1 := dk_seg dksX1_lambda_operation_0_0 23 rfl rfl
theorem dksX1_lambda_operation_0_2 : cX1_lambda_operation_0.data.toList.drop 45 = dktX1_lambda_operation_0_2 := dk_seg dksX1_lambda_operation_0_1 22 rfl rfl
theorem dksX1_lambda_operation_0_3 : cX1_lambda_operation_0.data.toList.drop 68 = dktX1_lambda_operation_0_3 := dk_seg dksX1_lambda_operation_0_2 23 rfl rfl
theorem dksX1_lambda_operation_0_4 : cX1_lambda_operation_0.data.toList.drop 92 = dktX1_lambda_operation_0_4 := dk_seg dksX1_lambda_operation_0_3 24 rfl rfl
theorem dX1_lambda_operation_0_0 : decode cX1_lambda_operation_0 0 = .ok (.aload_n 0, 1) := dk_42 (dk_at dksX1_lambda_operation_0_0 0 rfl rfl)
theorem dX1_lambda_operation_0_1 : decode cX1_lambda_operation_0 1 = .ok (.iload_n 3, 1) := dk_29 (dk_at dksX1_lambda_operation_0_0 1 rfl rfl)
theorem dX1_lambda_operation_0_2 : decode cX1_lambda_operation_0 2 = .ok (.iload 4, 2) := dk_21 4 (dk_at dksX1_lambda_operation_0_0 2 rfl rfl)
theorem dX1_lambda_operation_0_4 : decode cX1_lambda_operation_0 4 = .ok (.iload 5, 2) := dk_21 5 (dk_at dksX1_lambda_operation_0_0 4 rfl rfl)
theorem dX1_lambda_operation_0_6 : decode cX1_lambda_operation_0 6 = .ok (.iload 6, 2) := dk_21 6 (dk_at dksX1_lambda_operation_0_0 6 rfl rfl)
theorem dX1_lambda_operation_0_8 : decode cX1_lambda_operation_0 8 = .ok (.iload 7, 2) := dk_21 7 (dk_at dksX1_lambda_operation_0_0 8 rfl rfl)
theorem dX1_lambda_operation_0_10 : decode cX1_lambda_operation_0 10 = .ok (.invokeinterface 340 6, 5) := by decide +kernel
theorem dX1_lambda_operation_0_15 : decode cX1_lambda_operation_0 15 = .ok (.lstore 8, 2) := dk_55 8 (dk_at dksX1_lambda_operation_0_0 15 rfl rfl)
theorem dX1_lambda_operation_0_17 : decode cX1_lambda_operation_0 17 = .ok (.aload_n 1, 1) := dk_43 (dk_at dksX1_lambda_operation_0_0 17 rfl rfl)
theorem dX1_lambda_operation_0_18 : decode cX1_lambda_operation_0 18 = .ok (.iload_n 3, 1) := dk_29 (dk_at dksX1_lambda_operation_0_0 18 rfl rfl)
theorem dX1_lambda_operation_0_19 : decode cX1_lambda_operation_0 19 = .ok (.iload 4, 2) := dk_21 4 (dk_at dksX1_lambda_operation_0_0 19 rfl rfl)
theorem dX1_lambda_operation_0_21 : decode cX1_lambda_operation_0 21 = .ok (.iload 5, 2) := dk_21 5 (dk_at dksX1_lambda_operation_0_0 21 rfl rfl)
theorem dX1_lambda_operation_0_23 : decode cX1_lambda_operation_0 23 = .ok (.iload 6, 2) := dk_21 6 (dk_at dksX1_lambda_operation_0_1 0 rfl rfl)
theorem dX1_lambda_operation_0_25 : decode cX1_lambda_operation_0 25 = .ok (.iload 7, 2) := dk_21 7 (dk_at dksX1_lambda_operation_0_1 2 rfl rfl)
theorem dX1_lambda_operation_0_27 : decode cX1_lambda_operation_0 27 = .ok (.invokeinterface 340 6, 5) := by decide +kernel
theorem dX1_lambda_operation_0_32 : decode cX1_lambda_operation_0 32 = .ok (.lstore 10, 2) := dk_55 10 (dk_at dksX1_lambda_operation_0_1 9 rfl rfl)
theorem dX1_lambda_operation_0_34 : decode cX1_lambda_operation_0 34 = .ok (.iload_n 2, 1) := dk_28 (dk_at dksX1_lambda_operation_0_1 11 rfl rfl)
theorem dX1_lambda_operation_0_35 : decode cX1_lambda_operation_0 35 = .ok (.bipush 43, 2) := dk_16 43 (dk_at dksX1_lambda_operation_0_1 12 rfl rfl)
theorem dX1_lambda_operation_0_37 : decode cX1_lambda_operation_0 37 = .ok (.if_icmp .ne 11, 3) := dk_160 0 11 (dk_at dksX1_lambda_operation_0_1 14 rfl rfl)
theorem dX1_lambda_operation_0_40 : decode cX1_lambda_operation_0 40 = .ok (.lload 8, 2) := dk_22 8 (dk_at dksX1_lambda_operation_0_1 17 rfl rfl)
theorem dX1_lambda_operation_0_42 : decode cX1_lambda_operation_0 42 = .ok (.lload 10, 2) := dk_22 10 (dk_at dksX1_lambda_operation_0_1 19 rfl rfl)
theorem dX1_lambda_operation_0_44 : decode cX1_lambda_operation_0 44 = .ok (.ladd, 1) := dk_97 (dk_at dksX1_lambda_operation_0_1 21 rfl rfl)
theorem dX1_lambda_operation_0_45 : decode cX1_lambda_operation_0 45 = .ok (.goto 47, 3) := dk_167 0 47 (dk_at dksX1_lambda_operation_0_2 0 rfl rfl)
theorem dX1_lambda_operation_0_48 : decode cX1_lambda_operation_0 48 = .ok (.iload_n 2, 1) := dk_28 (dk_at dksX1_lambda_operation_0_2 3 rfl rfl)
theorem dX1_lambda_operation_0_49 : decode cX1_lambda_operation_0 49 = .ok (.bipush 45, 2) := dk_16 45 (dk_at dksX1_lambda_operation_0_2 4 rfl rfl)
theorem dX1_lambda_operation_0_51 : decode cX1_lambda_operation_0 51 = .ok (.if_icmp .ne 11, 3) := dk_160 0 11 (dk_at dksX1_lambda_operation_0_2 6 rfl rfl)
theorem dX1_lambda_operation_0_54 : decode cX1_lambda_operation_0 54 = .ok (.lload 8, 2) := dk_22 8 (dk_at dksX1_lambda_operation_0_2 9 rfl rfl)
theorem dX1_lambda_operation_0_56 : decode cX1_lambda_operation_0 56 = .ok (.lload 10, 2) := dk_22 10 (dk_at dksX1_lambda_operation_0_2 11 rfl rfl)
theorem dX1_lambda_operation_0_58 : decode cX1_lambda_operation_0 58 = .ok (.lsub, 1) := dk_101 (dk_at dksX1_lambda_operation_0_2 13 rfl rfl)
theorem dX1_lambda_operation_0_59 : decode cX1_lambda_operation_0 59 = .ok (.goto 33, 3) := dk_167 0 33 (dk_at dksX1_lambda_operation_0_2 14 rfl rfl)
theorem dX1_lambda_operation_0_62 : decode cX1_lambda_operation_0 62 = .ok (.iload_n 2, 1) := dk_28 (dk_at dksX1_lambda_operation_0_2 17 rfl rfl)
theorem dX1_lambda_operation_0_63 : decode cX1_lambda_operation_0 63 = .ok (.bipush 42, 2) := dk_16 42 (dk_at dksX1_lambda_operation_0_2 18 rfl rfl)
theorem dX1_lambda_operation_0_65 : decode cX1_lambda_operation_0 65 = .ok (.if_icmp .ne 11, 3) := dk_160 0 11 (dk_at dksX1_lambda_operation_0_2 20 rfl rfl)
theorem dX1_lambda_operation_0_68 : decode cX1_lambda_operation_0 68 = .ok (.lload 8, 2) := dk_22 8 (dk_at dksX1_lambda_operation_0_3 0 rfl rfl)
theorem dX1_lambda_operation_0_70 : decode cX1_lambda_operation_0 70 = .ok (.lload 10, 2) := dk_22 10 (dk_at dksX1_lambda_operation_0_3 2 rfl rfl)
theorem dX1_lambda_operation_0_72 : decode cX1_lambda_operation_0 72 = .ok (.lmul, 1) := dk_105 (dk_at dksX1_lambda_operation_0_3 4 rfl rfl)
theorem dX1_lambda_operation_0_73 : decode cX1_lambda_operation_0 73 = .ok (.goto 19, 3) := dk_167 0 19 (dk_at dksX1_lambda_operation_0_3 5 rfl rfl)
theorem dX1_lambda_operation_0_76 : decode cX1_lambda_operation_0 76 = .ok (.lload 10, 2) := dk_22 10 (dk_at dksX1_lambda_operation_0_3 8 rfl rfl)
theorem dX1_lambda_operation_0_78 : decode cX1_lambda_operation_0 78 = .ok (.lconst 0, 1) := dk_9 (dk_at dksX1_lambda_operation_0_3 10 rfl rfl)
theorem dX1_lambda_operation_0_79 : decode cX1_lambda_operation_0 79 = .ok (.lcmp, 1) := dk_148 (dk_at dksX1_lambda_operation_0_3 11 rfl rfl)
theorem dX1_lambda_operation_0_80 : decode cX1_lambda_operation_0 80 = .ok (.ifCond .ne 7, 3) := dk_154 0 7 (dk_at dksX1_lambda_operation_0_3 12 rfl rfl)
theorem dX1_lambda_operation_0_83 : decode cX1_lambda_operation_0 83 = .ok (.lconst 0, 1) := dk_9 (dk_at dksX1_lambda_operation_0_3 15 rfl rfl)
theorem dX1_lambda_operation_0_84 : decode cX1_lambda_operation_0 84 = .ok (.goto 8, 3) := dk_167 0 8 (dk_at dksX1_lambda_operation_0_3 16 rfl rfl)
theorem dX1_lambda_operation_0_87 : decode cX1_lambda_operation_0 87 = .ok (.lload 8, 2) := dk_22 8 (dk_at dksX1_lambda_operation_0_3 19 rfl rfl)
theorem dX1_lambda_operation_0_89 : decode cX1_lambda_operation_0 89 = .ok (.lload 10, 2) := dk_22 10 (dk_at dksX1_lambda_operation_0_3 21 rfl rfl)
theorem dX1_lambda_operation_0_91 : decode cX1_lambda_operation_0 91 = .ok (.ldiv, 1) := dk_109 (dk_at dksX1_lambda_operation_0_3 23 rfl rfl)
theorem dX1_lambda_operation_0_92 : decode cX1_lambda_operation_0 92 = .ok (.lstore 12, 2) := dk_55 12 (dk_at dksX1_lambda_operation_0_4 0 rfl rfl)
theorem dX1_lambda_operation_0_94 : decode cX1_lambda_operation_0 94 = .ok (.ldc2_w 345, 3) := dk_20 1 89 (dk_at dksX1_lambda_operation_0_4 2 rfl rfl)
theorem dX1_lambda_operation_0_97 : decode cX1_lambda_operation_0 97 = .ok (.ldc2_w 347, 3) := dk_20 1 91 (dk_at dksX1_lambda_operation_0_4 5 rfl rfl)
theorem dX1_lambda_operation_0_100 : decode cX1_lambda_operation_0 100 = .ok (.lload 12, 2) := dk_22 12 (dk_at dksX1_lambda_operation_0_4 8 rfl rfl)
theorem dX1_lambda_operation_0_102 : decode cX1_lambda_operation_0 102 = .ok (.invokestatic 349, 3) := dk_184 1 93 (dk_at dksX1_lambda_operation_0_4 10 rfl rfl)
theorem dX1_lambda_operation_0_105 : decode cX1_lambda_operation_0 105 = .ok (.invokestatic 351, 3) := dk_184 1 95 (dk_at dksX1_lambda_operation_0_4 13 rfl rfl)
theorem dX1_lambda_operation_0_108 : decode cX1_lambda_operation_0 108 = .ok (.lreturn, 1) := dk_173 (dk_at dksX1_lambda_operation_0_4 16 rfl rfl)
abbrev cX1_append : ByteArray := prog_1_method_19_code
def yX1_append : MethodName := ⟨RX1, "append", "(IIIII)I"⟩
def dkwX1_append_2 : List UInt8 := [172]
abbrev dktX1_append_2 : List UInt8 := dkwX1_append_2 ++ []
def dkwX1_append_1 : List UInt8 := [182, 0, 186, 42, 29, 182, 0, 186, 42, 21, 4, 182, 0, 186, 42, 21, 5, 182, 0, 186, 42, 180, 0, 183]
abbrev dktX1_append_1 : List UInt8 := dkwX1_append_1 ++ dktX1_append_2
def dkwX1_append_0 : List UInt8 := [42, 180, 0, 183, 16, 20, 96, 17, 3, 32, 164, 0, 5, 2, 172, 42, 27, 182, 0, 186, 42, 28]
abbrev dktX1_append_0 : List UInt8 := dkwX1_append_0 ++ dktX1_append_1
theorem dksX1_append_0 : cX1_append.data.toList.drop 0 = dktX1_append_0 := by decide +kernel
theorem dksX1_append_1 : cX1_append.data.toList.drop 22 = dktX1_append_1 := dk_seg dksX1_append_0 22 rfl rfl
theorem dksX1_append_2 : cX1_append.data.toList.drop 46 = dktX1_append_2 := dk_seg dksX1_append_1 24 rfl rfl
theorem dX1_append_0 : decode cX1_append 0 = .ok (.aload_n 0, 1) := dk_42 (dk_at dksX1_append_0 0 rfl rfl)
theorem dX1_append_1 : decode cX1_append 1 = .ok (.getfield 183, 3) := dk_180 0 183 (dk_at dksX1_append_0 1 rfl rfl)
theorem dX1_append_4 : decode cX1_append 4 = .ok (.bipush 20, 2) := dk_16 20 (dk_at dksX1_append_0 4 rfl rfl)
theorem dX1_append_6 : decode cX1_append 6 = .ok (.iadd, 1) := dk_96 (dk_at dksX1_append_0 6 rfl rfl)
theorem dX1_append_7 : decode cX1_append 7 = .ok (.sipush 800, 3) := dk_17 3 32 (dk_at dksX1_append_0 7 rfl rfl)
theorem dX1_append_10 : decode cX1_append 10 = .ok (.if_icmp .le 5, 3) := dk_164 0 5 (dk_at dksX1_append_0 10 rfl rfl)
theorem dX1_append_13 : decode cX1_append 13 = .ok (.iconst (-1), 1) := dk_2 (dk_at dksX1_append_0 13 rfl rfl)
theorem dX1_append_14 : decode cX1_append 14 = .ok (.ireturn, 1) := dk_172 (dk_at dksX1_append_0 14 rfl rfl)
theorem dX1_append_15 : decode cX1_append 15 = .ok (.aload_n 0, 1) := dk_42 (dk_at dksX1_append_0 15 rfl rfl)
theorem dX1_append_16 : decode cX1_append 16 = .ok (.iload_n 1, 1) := dk_27 (dk_at dksX1_append_0 16 rfl rfl)
theorem dX1_append_17 : decode cX1_append 17 = .ok (.invokevirtual 186, 3) := dk_182 0 186 (dk_at dksX1_append_0 17 rfl rfl)
theorem dX1_append_20 : decode cX1_append 20 = .ok (.aload_n 0, 1) := dk_42 (dk_at dksX1_append_0 20 rfl rfl)
theorem dX1_append_21 : decode cX1_append 21 = .ok (.iload_n 2, 1) := dk_28 (dk_at dksX1_append_0 21 rfl rfl)
theorem dX1_append_22 : decode cX1_append 22 = .ok (.invokevirtual 186, 3) := dk_182 0 186 (dk_at dksX1_append_1 0 rfl rfl)
theorem dX1_append_25 : decode cX1_append 25 = .ok (.aload_n 0, 1) := dk_42 (dk_at dksX1_append_1 3 rfl rfl)
theorem dX1_append_26 : decode cX1_append 26 = .ok (.iload_n 3, 1) := dk_29 (dk_at dksX1_append_1 4 rfl rfl)
theorem dX1_append_27 : decode cX1_append 27 = .ok (.invokevirtual 186, 3) := dk_182 0 186 (dk_at dksX1_append_1 5 rfl rfl)
theorem dX1_append_30 : decode cX1_append 30 = .ok (.aload_n 0, 1) := dk_42 (dk_at dksX1_append_1 8 rfl rfl)
theorem dX1_append_31 : decode cX1_append 31 = .ok (.iload 4, 2) := dk_21 4 (dk_at dksX1_append_1 9 rfl rfl)
theorem dX1_append_33 : decode cX1_append 33 = .ok (.invokevirtual 186, 3) := dk_182 0 186 (dk_at dksX1_append_1 11 rfl rfl)
theorem dX1_append_36 : decode cX1_append 36 = .ok (.aload_n 0, 1) := dk_42 (dk_at dksX1_append_1 14 rfl rfl)
theorem dX1_append_37 : decode cX1_append 37 = .ok (.iload 5, 2) := dk_21 5 (dk_at dksX1_append_1 15 rfl rfl)
theorem dX1_append_39 : decode cX1_append 39 = .ok (.invokevirtual 186, 3) := dk_182 0 186 (dk_at dksX1_append_1 17 rfl rfl)
theorem dX1_append_42 : decode cX1_append 42 = .ok (.aload_n 0, 1) := dk_42 (dk_at dksX1_append_1 20 rfl rfl)
theorem dX1_append_43 : decode cX1_append 43 = .ok (.getfield 183, 3) := dk_180 0 183 (dk_at dksX1_append_1 21 rfl rfl)
theorem dX1_append_46 : decode cX1_append 46 = .ok (.ireturn, 1) := dk_172 (dk_at dksX1_append_2 0 rfl rfl)
abbrev cX1_put : ByteArray := prog_1_method_18_code
def yX1_put : MethodName := ⟨RX1, "put", "(I)V"⟩
def dkwX1_put_1 : List UInt8 := [180, 0, 183, 4, 96, 181, 0, 183, 132, 2, 248, 167, 255, 226, 177]
abbrev dktX1_put_1 : List UInt8 := dkwX1_put_1 ++ []
def dkwX1_put_0 : List UInt8 := [16, 24, 61, 28, 155, 0, 32, 42, 180, 0, 87, 42, 180, 0, 183, 27, 28, 122, 145, 84, 42, 89]
abbrev dktX1_put_0 : List UInt8 := dkwX1_put_0 ++ dktX1_put_1
theorem dksX1_put_0 : cX1_put.data.toList.drop 0 = dktX1_put_0 := by decide +kernel
theorem dksX1_put_1 : cX1_put.data.toList.drop 22 = dktX1_put_1 := dk_seg dksX1_put_0 22 rfl rfl
theorem dX1_put_0 : decode cX1_put 0 = .ok (.bipush 24, 2) := dk_16 24 (dk_at dksX1_put_0 0 rfl rfl)
theorem dX1_put_2 : decode cX1_put 2 = .ok (.istore_n 2, 1) := dk_61 (dk_at dksX1_put_0 2 rfl rfl)
theorem dX1_put_3 : decode cX1_put 3 = .ok (.iload_n 2, 1) := dk_28 (dk_at dksX1_put_0 3 rfl rfl)
theorem dX1_put_4 : decode cX1_put 4 = .ok (.ifCond .lt 32, 3) := dk_155 0 32 (dk_at dksX1_put_0 4 rfl rfl)
theorem dX1_put_7 : decode cX1_put 7 = .ok (.aload_n 0, 1) := dk_42 (dk_at dksX1_put_0 7 rfl rfl)
theorem dX1_put_8 : decode cX1_put 8 = .ok (.getfield 87, 3) := dk_180 0 87 (dk_at dksX1_put_0 8 rfl rfl)
theorem dX1_put_11 : decode cX1_put 11 = .ok (.aload_n 0, 1) := dk_42 (dk_at dksX1_put_0 11 rfl rfl)
theorem dX1_put_12 : decode cX1_put 12 = .ok (.getfield 183, 3) := dk_180 0 183 (dk_at dksX1_put_0 12 rfl rfl)
theorem dX1_put_15 : decode cX1_put 15 = .ok (.iload_n 1, 1) := dk_27 (dk_at dksX1_put_0 15 rfl rfl)
theorem dX1_put_16 : decode cX1_put 16 = .ok (.iload_n 2, 1) := dk_28 (dk_at dksX1_put_0 16 rfl rfl)
theorem dX1_put_17 : decode cX1_put 17 = .ok (.ishr, 1) := dk_122 (dk_at dksX1_put_0 17 rfl rfl)
theorem dX1_put_18 : decode cX1_put 18 = .ok (.i2b, 1) := dk_145 (dk_at dksX1_put_0 18 rfl rfl)
theorem dX1_put_19 : decode cX1_put 19 = .ok (.bastore, 1) := dk_84 (dk_at dksX1_put_0 19 rfl rfl)
theorem dX1_put_20 : decode cX1_put 20 = .ok (.aload_n 0, 1) := dk_42 (dk_at dksX1_put_0 20 rfl rfl)
theorem dX1_put_21 : decode cX1_put 21 = .ok (.dup, 1) := dk_89 (dk_at dksX1_put_0 21 rfl rfl)
theorem dX1_put_22 : decode cX1_put 22 = .ok (.getfield 183, 3) := dk_180 0 183 (dk_at dksX1_put_1 0 rfl rfl)
theorem dX1_put_25 : decode cX1_put 25 = .ok (.iconst 1, 1) := dk_4 (dk_at dksX1_put_1 3 rfl rfl)
theorem dX1_put_26 : decode cX1_put 26 = .ok (.iadd, 1) := dk_96 (dk_at dksX1_put_1 4 rfl rfl)
theorem dX1_put_27 : decode cX1_put 27 = .ok (.putfield 183, 3) := dk_181 0 183 (dk_at dksX1_put_1 5 rfl rfl)
theorem dX1_put_30 : decode cX1_put 30 = .ok (.iinc 2 (-8), 3) := dk_132 2 248 (dk_at dksX1_put_1 8 rfl rfl)
theorem dX1_put_33 : decode cX1_put 33 = .ok (.goto (-30), 3) := dk_167 255 226 (dk_at dksX1_put_1 11 rfl rfl)
theorem dX1_put_36 : decode cX1_put 36 = .ok (.return_, 1) := dk_177 (dk_at dksX1_put_1 14 rfl rfl)
abbrev cX1_errorOffset : ByteArray := prog_1_method_21_code
def yX1_errorOffset : MethodName := ⟨RX1, "errorOffset", "()I"⟩
theorem dX1_errorOffset_0 : decode cX1_errorOffset 0 = .ok (.aload_n 0, 1) := by decide +kernel
theorem dX1_errorOffset_1 : decode cX1_errorOffset 1 = .ok (.getfield 112, 3) := by decide +kernel
theorem dX1_errorOffset_4 : decode cX1_errorOffset 4 = .ok (.ireturn, 1) := by decide +kernel
abbrev cX1_leader : ByteArray := prog_1_method_36_code
def yX1_leader : MethodName := ⟨RX1, "leader", "()I"⟩
def dkwX1_leader_1 : List UInt8 := [182, 1, 26, 164, 0, 7, 28, 167, 0, 4, 27, 60, 132, 2, 1, 167, 255, 223, 27, 172]
abbrev dktX1_leader_1 : List UInt8 := dkwX1_leader_1 ++ []
def dkwX1_leader_0 : List UInt8 := [3, 60, 4, 61, 28, 7, 162, 0, 34, 42, 180, 0, 108, 28, 182, 1, 26, 42, 180, 0, 108, 27]
abbrev dktX1_leader_0 : List UInt8 := dkwX1_leader_0 ++ dktX1_leader_1
theorem dksX1_leader_0 : cX1_leader.data.toList.drop 0 = dktX1_leader_0 := by decide +kernel
theorem dksX1_leader_1 : cX1_leader.data.toList.drop 22 = dktX1_leader_1 := dk_seg dksX1_leader_0 22 rfl rfl
theorem dX1_leader_0 : decode cX1_leader 0 = .ok (.iconst 0, 1) := dk_3 (dk_at dksX1_leader_0 0 rfl rfl)
theorem dX1_leader_1 : decode cX1_leader 1 = .ok (.istore_n 1, 1) := dk_60 (dk_at dksX1_leader_0 1 rfl rfl)
theorem dX1_leader_2 : decode cX1_leader 2 = .ok (.iconst 1, 1) := dk_4 (dk_at dksX1_leader_0 2 rfl rfl)
theorem dX1_leader_3 : decode cX1_leader 3 = .ok (.istore_n 2, 1) := dk_61 (dk_at dksX1_leader_0 3 rfl rfl)
theorem dX1_leader_4 : decode cX1_leader 4 = .ok (.iload_n 2, 1) := dk_28 (dk_at dksX1_leader_0 4 rfl rfl)
theorem dX1_leader_5 : decode cX1_leader 5 = .ok (.iconst 4, 1) := dk_7 (dk_at dksX1_leader_0 5 rfl rfl)
theorem dX1_leader_6 : decode cX1_leader 6 = .ok (.if_icmp .ge 34, 3) := dk_162 0 34 (dk_at dksX1_leader_0 6 rfl rfl)
theorem dX1_leader_9 : decode cX1_leader 9 = .ok (.aload_n 0, 1) := dk_42 (dk_at dksX1_leader_0 9 rfl rfl)
theorem dX1_leader_10 : decode cX1_leader 10 = .ok (.getfield 108, 3) := dk_180 0 108 (dk_at dksX1_leader_0 10 rfl rfl)
theorem dX1_leader_13 : decode cX1_leader 13 = .ok (.iload_n 2, 1) := dk_28 (dk_at dksX1_leader_0 13 rfl rfl)
theorem dX1_leader_14 : decode cX1_leader 14 = .ok (.invokevirtual 282, 3) := dk_182 1 26 (dk_at dksX1_leader_0 14 rfl rfl)
theorem dX1_leader_17 : decode cX1_leader 17 = .ok (.aload_n 0, 1) := dk_42 (dk_at dksX1_leader_0 17 rfl rfl)
theorem dX1_leader_18 : decode cX1_leader 18 = .ok (.getfield 108, 3) := dk_180 0 108 (dk_at dksX1_leader_0 18 rfl rfl)
theorem dX1_leader_21 : decode cX1_leader 21 = .ok (.iload_n 1, 1) := dk_27 (dk_at dksX1_leader_0 21 rfl rfl)
theorem dX1_leader_22 : decode cX1_leader 22 = .ok (.invokevirtual 282, 3) := dk_182 1 26 (dk_at dksX1_leader_1 0 rfl rfl)
theorem dX1_leader_25 : decode cX1_leader 25 = .ok (.if_icmp .le 7, 3) := dk_164 0 7 (dk_at dksX1_leader_1 3 rfl rfl)
theorem dX1_leader_28 : decode cX1_leader 28 = .ok (.iload_n 2, 1) := dk_28 (dk_at dksX1_leader_1 6 rfl rfl)
theorem dX1_leader_29 : decode cX1_leader 29 = .ok (.goto 4, 3) := dk_167 0 4 (dk_at dksX1_leader_1 7 rfl rfl)
theorem dX1_leader_32 : decode cX1_leader 32 = .ok (.iload_n 1, 1) := dk_27 (dk_at dksX1_leader_1 10 rfl rfl)
theorem dX1_leader_33 : decode cX1_leader 33 = .ok (.istore_n 1, 1) := dk_60 (dk_at dksX1_leader_1 11 rfl rfl)
theorem dX1_leader_34 : decode cX1_leader 34 = .ok (.iinc 2 1, 3) := dk_132 2 1 (dk_at dksX1_leader_1 12 rfl rfl)
theorem dX1_leader_37 : decode cX1_leader 37 = .ok (.goto (-33), 3) := dk_167 255 223 (dk_at dksX1_leader_1 15 rfl rfl)
theorem dX1_leader_40 : decode cX1_leader 40 = .ok (.iload_n 1, 1) := dk_27 (dk_at dksX1_leader_1 18 rfl rfl)
theorem dX1_leader_41 : decode cX1_leader 41 = .ok (.ireturn, 1) := dk_172 (dk_at dksX1_leader_1 19 rfl rfl)
abbrev cX1_isOn : ByteArray := prog_1_method_6_code
def yX1_isOn : MethodName := ⟨RX1, "isOn", "(LCornerClaims$Point;LCornerClaims$Point;LCornerClaims$Point;)Z"⟩
def dkwX1_isOn_3 : List UInt8 := [184, 0, 60, 133, 184, 0, 63, 153, 0, 7, 4, 167, 0, 4, 3, 172]
abbrev dktX1_isOn_3 : List UInt8 := dkwX1_isOn_3 ++ []
def dkwX1_isOn_2 : List UInt8 := [180, 0, 50, 133, 43, 180, 0, 50, 44, 180, 0, 50, 184, 0, 57, 133, 43, 180, 0, 50, 44, 180, 0, 50]
abbrev dktX1_isOn_2 : List UInt8 := dkwX1_isOn_2 ++ dktX1_isOn_3
def dkwX1_isOn_1 : List UInt8 := [184, 0, 57, 133, 43, 180, 0, 44, 44, 180, 0, 44, 184, 0, 60, 133, 184, 0, 63, 153, 0, 42, 42]
abbrev dktX1_isOn_1 : List UInt8 := dkwX1_isOn_1 ++ dktX1_isOn_2
def dkwX1_isOn_0 : List UInt8 := [43, 44, 42, 184, 0, 53, 154, 0, 77, 42, 180, 0, 44, 133, 43, 180, 0, 44, 44, 180, 0, 44]
abbrev dktX1_isOn_0 : List UInt8 := dkwX1_isOn_0 ++ dktX1_isOn_1
theorem dksX1_isOn_0 : cX1_isOn.data.toList.drop 0 = dktX1_isOn_0 := by decide +kernel
theorem dksX1_isOn_1 : cX1_isOn.data.toList.drop 22 = dktX1_isOn_1 := dk_seg dksX1_isOn_0 22 rfl rfl
theorem dksX1_isOn_2 : cX1_isOn.data.toList.drop 45 = dktX1_isOn_2 := dk_seg dksX1_isOn_1 23 rfl rfl
theorem dksX1_isOn_3 : cX1_isOn.data.toList.drop 69 = dktX1_isOn_3 := dk_seg dksX1_isOn_2 24 rfl rfl
theorem dX1_isOn_0 : decode cX1_isOn 0 = .ok (.aload_n 1, 1) := dk_43 (dk_at dksX1_isOn_0 0 rfl rfl)
theorem dX1_isOn_1 : decode cX1_isOn 1 = .ok (.aload_n 2, 1) := dk_44 (dk_at dksX1_isOn_0 1 rfl rfl)
theorem dX1_isOn_2 : decode cX1_isOn 2 = .ok (.aload_n 0, 1) := dk_42 (dk_at dksX1_isOn_0 2 rfl rfl)
theorem dX1_isOn_3 : decode cX1_isOn 3 = .ok (.invokestatic 53, 3) := dk_184 0 53 (dk_at dksX1_isOn_0 3 rfl rfl)
theorem dX1_isOn_6 : decode cX1_isOn 6 = .ok (.ifCond .ne 77, 3) := dk_154 0 77 (dk_at dksX1_isOn_0 6 rfl rfl)
theorem dX1_isOn_9 : decode cX1_isOn 9 = .ok (.aload_n 0, 1) := dk_42 (dk_at dksX1_isOn_0 9 rfl rfl)
theorem dX1_isOn_10 : decode cX1_isOn 10 = .ok (.getfield 44, 3) := dk_180 0 44 (dk_at dksX1_isOn_0 10 rfl rfl)
theorem dX1_isOn_13 : decode cX1_isOn 13 = .ok (.i2l, 1) := dk_133 (dk_at dksX1_isOn_0 13 rfl rfl)
theorem dX1_isOn_14 : decode cX1_isOn 14 = .ok (.aload_n 1, 1) := dk_43 (dk_at dksX1_isOn_0 14 rfl rfl)
theorem dX1_isOn_15 : decode cX1_isOn 15 = .ok (.getfield 44, 3) := dk_180 0 44 (dk_at dksX1_isOn_0 15 rfl rfl)
theorem dX1_isOn_18 : decode cX1_isOn 18 = .ok (.aload_n 2, 1) := dk_44 (dk_at dksX1_isOn_0 18 rfl rfl)
theorem dX1_isOn_19 : decode cX1_isOn 19 = .ok (.getfield 44, 3) := dk_180 0 44 (dk_at dksX1_isOn_0 19 rfl rfl)
theorem dX1_isOn_22 : decode cX1_isOn 22 = .ok (.invokestatic 57, 3) := dk_184 0 57 (dk_at dksX1_isOn_1 0 rfl rfl)
theorem dX1_isOn_25 : decode cX1_isOn 25 = .ok (.i2l, 1) := dk_133 (dk_at dksX1_isOn_1 3 rfl rfl)
theorem dX1_isOn_26 : decode cX1_isOn 26 = .ok (.aload_n 1, 1) := dk_43 (dk_at dksX1_isOn_1 4 rfl rfl)
theorem dX1_isOn_27 : decode cX1_isOn 27 = .ok (.getfield 44, 3) := dk_180 0 44 (dk_at dksX1_isOn_1 5 rfl rfl)
theorem dX1_isOn_30 : decode cX1_isOn 30 = .ok (.aload_n 2, 1) := dk_44 (dk_at dksX1_isOn_1 8 rfl rfl)
theorem dX1_isOn_31 : decode cX1_isOn 31 = .ok (.getfield 44, 3) := dk_180 0 44 (dk_at dksX1_isOn_1 9 rfl rfl)
theorem dX1_isOn_34 : decode cX1_isOn 34 = .ok (.invokestatic 60, 3) := dk_184 0 60 (dk_at dksX1_isOn_1 12 rfl rfl)
theorem dX1_isOn_37 : decode cX1_isOn 37 = .ok (.i2l, 1) := dk_133 (dk_at dksX1_isOn_1 15 rfl rfl)
theorem dX1_isOn_38 : decode cX1_isOn 38 = .ok (.invokestatic 63, 3) := dk_184 0 63 (dk_at dksX1_isOn_1 16 rfl rfl)
theorem dX1_isOn_41 : decode cX1_isOn 41 = .ok (.ifCond .eq 42, 3) := dk_153 0 42 (dk_at dksX1_isOn_1 19 rfl rfl)
theorem dX1_isOn_44 : decode cX1_isOn 44 = .ok (.aload_n 0, 1) := dk_42 (dk_at dksX1_isOn_1 22 rfl rfl)
theorem dX1_isOn_45 : decode cX1_isOn 45 = .ok (.getfield 50, 3) := dk_180 0 50 (dk_at dksX1_isOn_2 0 rfl rfl)
theorem dX1_isOn_48 : decode cX1_isOn 48 = .ok (.i2l, 1) := dk_133 (dk_at dksX1_isOn_2 3 rfl rfl)
theorem dX1_isOn_49 : decode cX1_isOn 49 = .ok (.aload_n 1, 1) := dk_43 (dk_at dksX1_isOn_2 4 rfl rfl)
theorem dX1_isOn_50 : decode cX1_isOn 50 = .ok (.getfield 50, 3) := dk_180 0 50 (dk_at dksX1_isOn_2 5 rfl rfl)
theorem dX1_isOn_53 : decode cX1_isOn 53 = .ok (.aload_n 2, 1) := dk_44 (dk_at dksX1_isOn_2 8 rfl rfl)
theorem dX1_isOn_54 : decode cX1_isOn 54 = .ok (.getfield 50, 3) := dk_180 0 50 (dk_at dksX1_isOn_2 9 rfl rfl)
theorem dX1_isOn_57 : decode cX1_isOn 57 = .ok (.invokestatic 57, 3) := dk_184 0 57 (dk_at dksX1_isOn_2 12 rfl rfl)
theorem dX1_isOn_60 : decode cX1_isOn 60 = .ok (.i2l, 1) := dk_133 (dk_at dksX1_isOn_2 15 rfl rfl)
theorem dX1_isOn_61 : decode cX1_isOn 61 = .ok (.aload_n 1, 1) := dk_43 (dk_at dksX1_isOn_2 16 rfl rfl)
theorem dX1_isOn_62 : decode cX1_isOn 62 = .ok (.getfield 50, 3) := dk_180 0 50 (dk_at dksX1_isOn_2 17 rfl rfl)
theorem dX1_isOn_65 : decode cX1_isOn 65 = .ok (.aload_n 2, 1) := dk_44 (dk_at dksX1_isOn_2 20 rfl rfl)
theorem dX1_isOn_66 : decode cX1_isOn 66 = .ok (.getfield 50, 3) := dk_180 0 50 (dk_at dksX1_isOn_2 21 rfl rfl)
theorem dX1_isOn_69 : decode cX1_isOn 69 = .ok (.invokestatic 60, 3) := dk_184 0 60 (dk_at dksX1_isOn_3 0 rfl rfl)
theorem dX1_isOn_72 : decode cX1_isOn 72 = .ok (.i2l, 1) := dk_133 (dk_at dksX1_isOn_3 3 rfl rfl)
theorem dX1_isOn_73 : decode cX1_isOn 73 = .ok (.invokestatic 63, 3) := dk_184 0 63 (dk_at dksX1_isOn_3 4 rfl rfl)
theorem dX1_isOn_76 : decode cX1_isOn 76 = .ok (.ifCond .eq 7, 3) := dk_153 0 7 (dk_at dksX1_isOn_3 7 rfl rfl)
theorem dX1_isOn_79 : decode cX1_isOn 79 = .ok (.iconst 1, 1) := dk_4 (dk_at dksX1_isOn_3 10 rfl rfl)
theorem dX1_isOn_80 : decode cX1_isOn 80 = .ok (.goto 4, 3) := dk_167 0 4 (dk_at dksX1_isOn_3 11 rfl rfl)
theorem dX1_isOn_83 : decode cX1_isOn 83 = .ok (.iconst 0, 1) := dk_3 (dk_at dksX1_isOn_3 14 rfl rfl)
theorem dX1_isOn_84 : decode cX1_isOn 84 = .ok (.ireturn, 1) := dk_172 (dk_at dksX1_isOn_3 15 rfl rfl)
abbrev cX1_turn : ByteArray := prog_1_method_5_code
def yX1_turn : MethodName := ⟨RX1, "turn", "(LCornerClaims$Point;LCornerClaims$Point;LCornerClaims$Point;)I"⟩
def dkwX1_turn_1 : List UInt8 := [180, 0, 50, 100, 44, 180, 0, 44, 42, 180, 0, 44, 100, 104, 100, 172]
abbrev dktX1_turn_1 : List UInt8 := dkwX1_turn_1 ++ []
def dkwX1_turn_0 : List UInt8 := [43, 180, 0, 44, 42, 180, 0, 44, 100, 44, 180, 0, 50, 42, 180, 0, 50, 100, 104, 43, 180, 0, 50, 42]
abbrev dktX1_turn_0 : List UInt8 := dkwX1_turn_0 ++ dktX1_turn_1
theorem dksX1_turn_0 : cX1_turn.data.toList.drop 0 = dktX1_turn_0 := by decide +kernel
theorem dksX1_turn_1 : cX1_turn.data.toList.drop 24 = dktX1_turn_1 := dk_seg dksX1_turn_0 24 rfl rfl
theorem dX1_turn_0 : decode cX1_turn 0 = .ok (.aload_n 1, 1) := dk_43 (dk_at dksX1_turn_0 0 rfl rfl)
theorem dX1_turn_1 : decode cX1_turn 1 = .ok (.getfield 44, 3) := dk_180 0 44 (dk_at dksX1_turn_0 1 rfl rfl)
theorem dX1_turn_4 : decode cX1_turn 4 = .ok (.aload_n 0, 1) := dk_42 (dk_at dksX1_turn_0 4 rfl rfl)
theorem dX1_turn_5 : decode cX1_turn 5 = .ok (.getfield 44, 3) := dk_180 0 44 (dk_at dksX1_turn_0 5 rfl rfl)
theorem dX1_turn_8 : decode cX1_turn 8 = .ok (.isub, 1) := dk_100 (dk_at dksX1_turn_0 8 rfl rfl)
theorem dX1_turn_9 : decode cX1_turn 9 = .ok (.aload_n 2, 1) := dk_44 (dk_at dksX1_turn_0 9 rfl rfl)
theorem dX1_turn_10 : decode cX1_turn 10 = .ok (.getfield 50, 3) := dk_180 0 50 (dk_at dksX1_turn_0 10 rfl rfl)
theorem dX1_turn_13 : decode cX1_turn 13 = .ok (.aload_n 0, 1) := dk_42 (dk_at dksX1_turn_0 13 rfl rfl)
theorem dX1_turn_14 : decode cX1_turn 14 = .ok (.getfield 50, 3) := dk_180 0 50 (dk_at dksX1_turn_0 14 rfl rfl)
theorem dX1_turn_17 : decode cX1_turn 17 = .ok (.isub, 1) := dk_100 (dk_at dksX1_turn_0 17 rfl rfl)
theorem dX1_turn_18 : decode cX1_turn 18 = .ok (.imul, 1) := dk_104 (dk_at dksX1_turn_0 18 rfl rfl)
theorem dX1_turn_19 : decode cX1_turn 19 = .ok (.aload_n 1, 1) := dk_43 (dk_at dksX1_turn_0 19 rfl rfl)
theorem dX1_turn_20 : decode cX1_turn 20 = .ok (.getfield 50, 3) := dk_180 0 50 (dk_at dksX1_turn_0 20 rfl rfl)
theorem dX1_turn_23 : decode cX1_turn 23 = .ok (.aload_n 0, 1) := dk_42 (dk_at dksX1_turn_0 23 rfl rfl)
theorem dX1_turn_24 : decode cX1_turn 24 = .ok (.getfield 50, 3) := dk_180 0 50 (dk_at dksX1_turn_1 0 rfl rfl)
theorem dX1_turn_27 : decode cX1_turn 27 = .ok (.isub, 1) := dk_100 (dk_at dksX1_turn_1 3 rfl rfl)
theorem dX1_turn_28 : decode cX1_turn 28 = .ok (.aload_n 2, 1) := dk_44 (dk_at dksX1_turn_1 4 rfl rfl)
theorem dX1_turn_29 : decode cX1_turn 29 = .ok (.getfield 44, 3) := dk_180 0 44 (dk_at dksX1_turn_1 5 rfl rfl)
theorem dX1_turn_32 : decode cX1_turn 32 = .ok (.aload_n 0, 1) := dk_42 (dk_at dksX1_turn_1 8 rfl rfl)
theorem dX1_turn_33 : decode cX1_turn 33 = .ok (.getfield 44, 3) := dk_180 0 44 (dk_at dksX1_turn_1 9 rfl rfl)
theorem dX1_turn_36 : decode cX1_turn 36 = .ok (.isub, 1) := dk_100 (dk_at dksX1_turn_1 12 rfl rfl)
theorem dX1_turn_37 : decode cX1_turn 37 = .ok (.imul, 1) := dk_104 (dk_at dksX1_turn_1 13 rfl rfl)
theorem dX1_turn_38 : decode cX1_turn 38 = .ok (.isub, 1) := dk_100 (dk_at dksX1_turn_1 14 rfl rfl)
theorem dX1_turn_39 : decode cX1_turn 39 = .ok (.ireturn, 1) := dk_172 (dk_at dksX1_turn_1 15 rfl rfl)
abbrev cX1_isBetween : ByteArray := prog_1_method_1_code
def yX1_isBetween : MethodName := ⟨RX1, "isBetween", "(JJJ)Z"⟩
def dkwX1_isBetween_0 : List UInt8 := [30, 32, 148, 155, 0, 14, 30, 22, 4, 148, 157, 0, 7, 4, 167, 0, 4, 3, 172]
abbrev dktX1_isBetween_0 : List UInt8 := dkwX1_isBetween_0 ++ []
theorem dksX1_isBetween_0 : cX1_isBetween.data.toList.drop 0 = dktX1_isBetween_0 := by decide +kernel
theorem dX1_isBetween_0 : decode cX1_isBetween 0 = .ok (.lload_n 0, 1) := dk_30 (dk_at dksX1_isBetween_0 0 rfl rfl)
theorem dX1_isBetween_1 : decode cX1_isBetween 1 = .ok (.lload_n 2, 1) := dk_32 (dk_at dksX1_isBetween_0 1 rfl rfl)
theorem dX1_isBetween_2 : decode cX1_isBetween 2 = .ok (.lcmp, 1) := dk_148 (dk_at dksX1_isBetween_0 2 rfl rfl)
theorem dX1_isBetween_3 : decode cX1_isBetween 3 = .ok (.ifCond .lt 14, 3) := dk_155 0 14 (dk_at dksX1_isBetween_0 3 rfl rfl)
theorem dX1_isBetween_6 : decode cX1_isBetween 6 = .ok (.lload_n 0, 1) := dk_30 (dk_at dksX1_isBetween_0 6 rfl rfl)
theorem dX1_isBetween_7 : decode cX1_isBetween 7 = .ok (.lload 4, 2) := dk_22 4 (dk_at dksX1_isBetween_0 7 rfl rfl)
theorem dX1_isBetween_9 : decode cX1_isBetween 9 = .ok (.lcmp, 1) := dk_148 (dk_at dksX1_isBetween_0 9 rfl rfl)
theorem dX1_isBetween_10 : decode cX1_isBetween 10 = .ok (.ifCond .gt 7, 3) := dk_157 0 7 (dk_at dksX1_isBetween_0 10 rfl rfl)
theorem dX1_isBetween_13 : decode cX1_isBetween 13 = .ok (.iconst 1, 1) := dk_4 (dk_at dksX1_isBetween_0 13 rfl rfl)
theorem dX1_isBetween_14 : decode cX1_isBetween 14 = .ok (.goto 4, 3) := dk_167 0 4 (dk_at dksX1_isBetween_0 14 rfl rfl)
theorem dX1_isBetween_17 : decode cX1_isBetween 17 = .ok (.iconst 0, 1) := dk_3 (dk_at dksX1_isBetween_0 17 rfl rfl)
theorem dX1_isBetween_18 : decode cX1_isBetween 18 = .ok (.ireturn, 1) := dk_172 (dk_at dksX1_isBetween_0 18 rfl rfl)
abbrev cX1_divisor : ByteArray := prog_1_method_2_code
def yX1_divisor : MethodName := ⟨RX1, "divisor", "(II)I"⟩
def dkwX1_divisor_0 : List UInt8 := [27, 154, 0, 10, 26, 184, 0, 1, 167, 0, 10, 27, 26, 27, 112, 184, 0, 7, 172]
abbrev dktX1_divisor_0 : List UInt8 := dkwX1_divisor_0 ++ []
theorem dksX1_divisor_0 : cX1_divisor.data.toList.drop 0 = dktX1_divisor_0 := by decide +kernel
theorem dX1_divisor_0 : decode cX1_divisor 0 = .ok (.iload_n 1, 1) := dk_27 (dk_at dksX1_divisor_0 0 rfl rfl)
theorem dX1_divisor_1 : decode cX1_divisor 1 = .ok (.ifCond .ne 10, 3) := dk_154 0 10 (dk_at dksX1_divisor_0 1 rfl rfl)
theorem dX1_divisor_4 : decode cX1_divisor 4 = .ok (.iload_n 0, 1) := dk_26 (dk_at dksX1_divisor_0 4 rfl rfl)
theorem dX1_divisor_5 : decode cX1_divisor 5 = .ok (.invokestatic 1, 3) := dk_184 0 1 (dk_at dksX1_divisor_0 5 rfl rfl)
theorem dX1_divisor_8 : decode cX1_divisor 8 = .ok (.goto 10, 3) := dk_167 0 10 (dk_at dksX1_divisor_0 8 rfl rfl)
theorem dX1_divisor_11 : decode cX1_divisor 11 = .ok (.iload_n 1, 1) := dk_27 (dk_at dksX1_divisor_0 11 rfl rfl)
theorem dX1_divisor_12 : decode cX1_divisor 12 = .ok (.iload_n 0, 1) := dk_26 (dk_at dksX1_divisor_0 12 rfl rfl)
theorem dX1_divisor_13 : decode cX1_divisor 13 = .ok (.iload_n 1, 1) := dk_27 (dk_at dksX1_divisor_0 13 rfl rfl)
theorem dX1_divisor_14 : decode cX1_divisor 14 = .ok (.irem, 1) := dk_112 (dk_at dksX1_divisor_0 14 rfl rfl)
theorem dX1_divisor_15 : decode cX1_divisor 15 = .ok (.invokestatic 7, 3) := dk_184 0 7 (dk_at dksX1_divisor_0 15 rfl rfl)
theorem dX1_divisor_18 : decode cX1_divisor 18 = .ok (.ireturn, 1) := dk_172 (dk_at dksX1_divisor_0 18 rfl rfl)
abbrev cX1_undo : ByteArray := prog_1_method_43_code
def yX1_undo : MethodName := ⟨RX1, "undo", "()I"⟩
def dkwX1_undo_1 : List UInt8 := [181, 0, 108, 42, 180, 0, 94, 182, 0, 166, 172]
abbrev dktX1_undo_1 : List UInt8 := dkwX1_undo_1 ++ []
def dkwX1_undo_0 : List UInt8 := [42, 180, 0, 94, 182, 1, 71, 153, 0, 5, 2, 172, 42, 42, 180, 0, 94, 182, 1, 75, 192, 0, 98]
abbrev dktX1_undo_0 : List UInt8 := dkwX1_undo_0 ++ dktX1_undo_1
theorem dksX1_undo_0 : cX1_undo.data.toList.drop 0 = dktX1_undo_0 := by decide +kernel
theorem dksX1_undo_1 : cX1_undo.data.toList.drop 23 = dktX1_undo_1 := dk_seg dksX1_undo_0 23 rfl rfl
theorem dX1_undo_0 : decode cX1_undo 0 = .ok (.aload_n 0, 1) := dk_42 (dk_at dksX1_undo_0 0 rfl rfl)
theorem dX1_undo_1 : decode cX1_undo 1 = .ok (.getfield 94, 3) := dk_180 0 94 (dk_at dksX1_undo_0 1 rfl rfl)
theorem dX1_undo_4 : decode cX1_undo 4 = .ok (.invokevirtual 327, 3) := dk_182 1 71 (dk_at dksX1_undo_0 4 rfl rfl)
theorem dX1_undo_7 : decode cX1_undo 7 = .ok (.ifCond .eq 5, 3) := dk_153 0 5 (dk_at dksX1_undo_0 7 rfl rfl)
theorem dX1_undo_10 : decode cX1_undo 10 = .ok (.iconst (-1), 1) := dk_2 (dk_at dksX1_undo_0 10 rfl rfl)
theorem dX1_undo_11 : decode cX1_undo 11 = .ok (.ireturn, 1) := dk_172 (dk_at dksX1_undo_0 11 rfl rfl)
theorem dX1_undo_12 : decode cX1_undo 12 = .ok (.aload_n 0, 1) := dk_42 (dk_at dksX1_undo_0 12 rfl rfl)
theorem dX1_undo_13 : decode cX1_undo 13 = .ok (.aload_n 0, 1) := dk_42 (dk_at dksX1_undo_0 13 rfl rfl)
theorem dX1_undo_14 : decode cX1_undo 14 = .ok (.getfield 94, 3) := dk_180 0 94 (dk_at dksX1_undo_0 14 rfl rfl)
theorem dX1_undo_17 : decode cX1_undo 17 = .ok (.invokevirtual 331, 3) := dk_182 1 75 (dk_at dksX1_undo_0 17 rfl rfl)
theorem dX1_undo_20 : decode cX1_undo 20 = .ok (.checkcast 98, 3) := dk_192 0 98 (dk_at dksX1_undo_0 20 rfl rfl)
theorem dX1_undo_23 : decode cX1_undo 23 = .ok (.putfield 108, 3) := dk_181 0 108 (dk_at dksX1_undo_1 0 rfl rfl)
theorem dX1_undo_26 : decode cX1_undo 26 = .ok (.aload_n 0, 1) := dk_42 (dk_at dksX1_undo_1 3 rfl rfl)
theorem dX1_undo_27 : decode cX1_undo 27 = .ok (.getfield 94, 3) := dk_180 0 94 (dk_at dksX1_undo_1 4 rfl rfl)
theorem dX1_undo_30 : decode cX1_undo 30 = .ok (.invokevirtual 166, 3) := dk_182 0 166 (dk_at dksX1_undo_1 7 rfl rfl)
theorem dX1_undo_33 : decode cX1_undo 33 = .ok (.ireturn, 1) := dk_172 (dk_at dksX1_undo_1 10 rfl rfl)
abbrev cX1_checksum : ByteArray := prog_1_method_45_code
def yX1_checksum : MethodName := ⟨RX1, "checksum", "()J"⟩
def dkwX1_checksum_7 : List UInt8 := [184, 1, 80, 64, 132, 3, 1, 167, 255, 234, 31, 173]
abbrev dktX1_checksum_7 : List UInt8 := dkwX1_checksum_7 ++ []
def dkwX1_checksum_6 : List UInt8 := [64, 132, 3, 1, 167, 255, 220, 3, 62, 29, 7, 162, 0, 23, 31, 42, 180, 0, 108, 29, 182, 1, 26, 133]
abbrev dktX1_checksum_6 : List UInt8 := dkwX1_checksum_6 ++ dktX1_checksum_7
def dkwX1_checksum_5 : List UInt8 := [180, 0, 214, 185, 0, 128, 1, 0, 162, 0, 23, 31, 42, 180, 0, 108, 29, 182, 0, 234, 133, 184, 1, 80]
abbrev dktX1_checksum_5 : List UInt8 := dkwX1_checksum_5 ++ dktX1_checksum_6
def dkwX1_checksum_4 : List UInt8 := [132, 5, 1, 167, 255, 227, 132, 3, 1, 167, 255, 157, 3, 62, 29, 42, 180, 0, 108, 180, 0, 154]
abbrev dktX1_checksum_4 : List UInt8 := dkwX1_checksum_4 ++ dktX1_checksum_5
def dkwX1_checksum_3 : List UInt8 := [182, 0, 242, 162, 0, 25, 31, 25, 4, 21, 5, 182, 0, 243, 182, 0, 247, 133, 184, 1, 80, 64]
abbrev dktX1_checksum_3 : List UInt8 := dkwX1_checksum_3 ++ dktX1_checksum_4
def dkwX1_checksum_2 : List UInt8 := [25, 4, 180, 0, 146, 153, 0, 7, 10, 167, 0, 4, 9, 184, 1, 80, 64, 3, 54, 5, 21, 5, 25, 4]
abbrev dktX1_checksum_2 : List UInt8 := dkwX1_checksum_2 ++ dktX1_checksum_3
def dkwX1_checksum_1 : List UInt8 := [180, 0, 124, 29, 185, 0, 136, 2, 0, 192, 0, 140, 58, 4, 31, 25, 4, 180, 0, 239, 133, 184, 1, 80]
abbrev dktX1_checksum_1 : List UInt8 := dkwX1_checksum_1 ++ dktX1_checksum_2
def dkwX1_checksum_0 : List UInt8 := [9, 64, 3, 62, 29, 42, 180, 0, 108, 180, 0, 124, 185, 0, 128, 1, 0, 162, 0, 89, 42, 180, 0, 108]
abbrev dktX1_checksum_0 : List UInt8 := dkwX1_checksum_0 ++ dktX1_checksum_1
theorem dksX1_checksum_0 : cX1_checksum.data.toList.drop 0 = dktX1_checksum_0 := by decide +kernel
theorem dksX1_checksum_1 : cX1_checksum.data.toList.drop 24 = dktX1_checksum_1 := dk_seg dksX1_checksum_0 24 rfl rfl
theorem dksX1_checksum_2 : cX1_checksum.data.toList.drop 48 = dktX1_checksum_2 := dk_seg dksX1_checksum_1 24 rfl rfl
theorem dksX1_checksum_3 : cX1_checksum.data.toList.drop 72 = dktX1_checksum_3 := dk_seg dksX1_checksum_2 24 rfl rfl
theorem dksX1_checksum_4 : cX1_checksum.data.toList.drop 94 = dktX1_checksum_4 := dk_seg dksX1_checksum_3 22 rfl rfl
theorem dksX1_checksum_5 : cX1_checksum.data.toList.drop 116 = dktX1_checksum_5 := dk_seg dksX1_checksum_4 22 rfl rfl
theorem dksX1_checksum_6 : cX1_checksum.data.toList.drop 140 = dktX1_checksum_6 := dk_seg dksX1_checksum_5 24 rfl rfl
theorem dksX1_checksum_7 : cX1_checksum.data.toList.drop 164 = dktX1_checksum_7 := dk_seg dksX1_checksum_6 24 rfl rfl
theorem dX1_checksum_0 : decode cX1_checksum 0 = .ok (.lconst 0, 1) := dk_9 (dk_at dksX1_checksum_0 0 rfl rfl)
theorem dX1_checksum_1 : decode cX1_checksum 1 = .ok (.lstore_n 1, 1) := dk_64 (dk_at dksX1_checksum_0 1 rfl rfl)
theorem dX1_checksum_2 : decode cX1_checksum 2 = .ok (.iconst 0, 1) := dk_3 (dk_at dksX1_checksum_0 2 rfl rfl)
theorem dX1_checksum_3 : decode cX1_checksum 3 = .ok (.istore_n 3, 1) := dk_62 (dk_at dksX1_checksum_0 3 rfl rfl)
theorem dX1_checksum_4 : decode cX1_checksum 4 = .ok (.iload_n 3, 1) := dk_29 (dk_at dksX1_checksum_0 4 rfl rfl)
theorem dX1_checksum_5 : decode cX1_checksum 5 = .ok (.aload_n 0, 1) := dk_42 (dk_at dksX1_checksum_0 5 rfl rfl)
theorem dX1_checksum_6 : decode cX1_checksum 6 = .ok (.getfield 108, 3) := dk_180 0 108 (dk_at dksX1_checksum_0 6 rfl rfl)
theorem dX1_checksum_9 : decode cX1_checksum 9 = .ok (.getfield 124, 3) := dk_180 0 124 (dk_at dksX1_checksum_0 9 rfl rfl)
theorem dX1_checksum_12 : decode cX1_checksum 12 = .ok (.invokeinterface 128 1, 5) := by decide +kernel
theorem dX1_checksum_17 : decode cX1_checksum 17 = .ok (.if_icmp .ge 89, 3) := dk_162 0 89 (dk_at dksX1_checksum_0 17 rfl rfl)
theorem dX1_checksum_20 : decode cX1_checksum 20 = .ok (.aload_n 0, 1) := dk_42 (dk_at dksX1_checksum_0 20 rfl rfl)
theorem dX1_checksum_21 : decode cX1_checksum 21 = .ok (.getfield 108, 3) := dk_180 0 108 (dk_at dksX1_checksum_0 21 rfl rfl)
theorem dX1_checksum_24 : decode cX1_checksum 24 = .ok (.getfield 124, 3) := dk_180 0 124 (dk_at dksX1_checksum_1 0 rfl rfl)
theorem dX1_checksum_27 : decode cX1_checksum 27 = .ok (.iload_n 3, 1) := dk_29 (dk_at dksX1_checksum_1 3 rfl rfl)
theorem dX1_checksum_28 : decode cX1_checksum 28 = .ok (.invokeinterface 136 2, 5) := by decide +kernel
theorem dX1_checksum_33 : decode cX1_checksum 33 = .ok (.checkcast 140, 3) := dk_192 0 140 (dk_at dksX1_checksum_1 9 rfl rfl)
theorem dX1_checksum_36 : decode cX1_checksum 36 = .ok (.astore 4, 2) := dk_58 4 (dk_at dksX1_checksum_1 12 rfl rfl)
theorem dX1_checksum_38 : decode cX1_checksum 38 = .ok (.lload_n 1, 1) := dk_31 (dk_at dksX1_checksum_1 14 rfl rfl)
theorem dX1_checksum_39 : decode cX1_checksum 39 = .ok (.aload 4, 2) := dk_25 4 (dk_at dksX1_checksum_1 15 rfl rfl)
theorem dX1_checksum_41 : decode cX1_checksum 41 = .ok (.getfield 239, 3) := dk_180 0 239 (dk_at dksX1_checksum_1 17 rfl rfl)
theorem dX1_checksum_44 : decode cX1_checksum 44 = .ok (.i2l, 1) := dk_133 (dk_at dksX1_checksum_1 20 rfl rfl)
theorem dX1_checksum_45 : decode cX1_checksum 45 = .ok (.invokestatic 336, 3) := dk_184 1 80 (dk_at dksX1_checksum_1 21 rfl rfl)
theorem dX1_checksum_48 : decode cX1_checksum 48 = .ok (.aload 4, 2) := dk_25 4 (dk_at dksX1_checksum_2 0 rfl rfl)
theorem dX1_checksum_50 : decode cX1_checksum 50 = .ok (.getfield 146, 3) := dk_180 0 146 (dk_at dksX1_checksum_2 2 rfl rfl)
theorem dX1_checksum_53 : decode cX1_checksum 53 = .ok (.ifCond .eq 7, 3) := dk_153 0 7 (dk_at dksX1_checksum_2 5 rfl rfl)
theorem dX1_checksum_56 : decode cX1_checksum 56 = .ok (.lconst 1, 1) := dk_10 (dk_at dksX1_checksum_2 8 rfl rfl)
theorem dX1_checksum_57 : decode cX1_checksum 57 = .ok (.goto 4, 3) := dk_167 0 4 (dk_at dksX1_checksum_2 9 rfl rfl)
theorem dX1_checksum_60 : decode cX1_checksum 60 = .ok (.lconst 0, 1) := dk_9 (dk_at dksX1_checksum_2 12 rfl rfl)
theorem dX1_checksum_61 : decode cX1_checksum 61 = .ok (.invokestatic 336, 3) := dk_184 1 80 (dk_at dksX1_checksum_2 13 rfl rfl)
theorem dX1_checksum_64 : decode cX1_checksum 64 = .ok (.lstore_n 1, 1) := dk_64 (dk_at dksX1_checksum_2 16 rfl rfl)
theorem dX1_checksum_65 : decode cX1_checksum 65 = .ok (.iconst 0, 1) := dk_3 (dk_at dksX1_checksum_2 17 rfl rfl)
theorem dX1_checksum_66 : decode cX1_checksum 66 = .ok (.istore 5, 2) := dk_54 5 (dk_at dksX1_checksum_2 18 rfl rfl)
theorem dX1_checksum_68 : decode cX1_checksum 68 = .ok (.iload 5, 2) := dk_21 5 (dk_at dksX1_checksum_2 20 rfl rfl)
theorem dX1_checksum_70 : decode cX1_checksum 70 = .ok (.aload 4, 2) := dk_25 4 (dk_at dksX1_checksum_2 22 rfl rfl)
theorem dX1_checksum_72 : decode cX1_checksum 72 = .ok (.invokevirtual 242, 3) := dk_182 0 242 (dk_at dksX1_checksum_3 0 rfl rfl)
theorem dX1_checksum_75 : decode cX1_checksum 75 = .ok (.if_icmp .ge 25, 3) := dk_162 0 25 (dk_at dksX1_checksum_3 3 rfl rfl)
theorem dX1_checksum_78 : decode cX1_checksum 78 = .ok (.lload_n 1, 1) := dk_31 (dk_at dksX1_checksum_3 6 rfl rfl)
theorem dX1_checksum_79 : decode cX1_checksum 79 = .ok (.aload 4, 2) := dk_25 4 (dk_at dksX1_checksum_3 7 rfl rfl)
theorem dX1_checksum_81 : decode cX1_checksum 81 = .ok (.iload 5, 2) := dk_21 5 (dk_at dksX1_checksum_3 9 rfl rfl)
theorem dX1_checksum_83 : decode cX1_checksum 83 = .ok (.invokevirtual 243, 3) := dk_182 0 243 (dk_at dksX1_checksum_3 11 rfl rfl)
theorem dX1_checksum_86 : decode cX1_checksum 86 = .ok (.invokevirtual 247, 3) := dk_182 0 247 (dk_at dksX1_checksum_3 14 rfl rfl)
theorem dX1_checksum_89 : decode cX1_checksum 89 = .ok (.i2l, 1) := dk_133 (dk_at dksX1_checksum_3 17 rfl rfl)
theorem dX1_checksum_90 : decode cX1_checksum 90 = .ok (.invokestatic 336, 3) := dk_184 1 80 (dk_at dksX1_checksum_3 18 rfl rfl)
theorem dX1_checksum_93 : decode cX1_checksum 93 = .ok (.lstore_n 1, 1) := dk_64 (dk_at dksX1_checksum_3 21 rfl rfl)
theorem dX1_checksum_94 : decode cX1_checksum 94 = .ok (.iinc 5 1, 3) := dk_132 5 1 (dk_at dksX1_checksum_4 0 rfl rfl)
theorem dX1_checksum_97 : decode cX1_checksum 97 = .ok (.goto (-29), 3) := dk_167 255 227 (dk_at dksX1_checksum_4 3 rfl rfl)
theorem dX1_checksum_100 : decode cX1_checksum 100 = .ok (.iinc 3 1, 3) := dk_132 3 1 (dk_at dksX1_checksum_4 6 rfl rfl)
theorem dX1_checksum_103 : decode cX1_checksum 103 = .ok (.goto (-99), 3) := dk_167 255 157 (dk_at dksX1_checksum_4 9 rfl rfl)
theorem dX1_checksum_106 : decode cX1_checksum 106 = .ok (.iconst 0, 1) := dk_3 (dk_at dksX1_checksum_4 12 rfl rfl)
theorem dX1_checksum_107 : decode cX1_checksum 107 = .ok (.istore_n 3, 1) := dk_62 (dk_at dksX1_checksum_4 13 rfl rfl)
theorem dX1_checksum_108 : decode cX1_checksum 108 = .ok (.iload_n 3, 1) := dk_29 (dk_at dksX1_checksum_4 14 rfl rfl)
theorem dX1_checksum_109 : decode cX1_checksum 109 = .ok (.aload_n 0, 1) := dk_42 (dk_at dksX1_checksum_4 15 rfl rfl)
theorem dX1_checksum_110 : decode cX1_checksum 110 = .ok (.getfield 108, 3) := dk_180 0 108 (dk_at dksX1_checksum_4 16 rfl rfl)
theorem dX1_checksum_113 : decode cX1_checksum 113 = .ok (.getfield 154, 3) := dk_180 0 154 (dk_at dksX1_checksum_4 19 rfl rfl)
theorem dX1_checksum_116 : decode cX1_checksum 116 = .ok (.getfield 214, 3) := dk_180 0 214 (dk_at dksX1_checksum_5 0 rfl rfl)
theorem dX1_checksum_119 : decode cX1_checksum 119 = .ok (.invokeinterface 128 1, 5) := by decide +kernel
theorem dX1_checksum_124 : decode cX1_checksum 124 = .ok (.if_icmp .ge 23, 3) := dk_162 0 23 (dk_at dksX1_checksum_5 8 rfl rfl)
theorem dX1_checksum_127 : decode cX1_checksum 127 = .ok (.lload_n 1, 1) := dk_31 (dk_at dksX1_checksum_5 11 rfl rfl)
theorem dX1_checksum_128 : decode cX1_checksum 128 = .ok (.aload_n 0, 1) := dk_42 (dk_at dksX1_checksum_5 12 rfl rfl)
theorem dX1_checksum_129 : decode cX1_checksum 129 = .ok (.getfield 108, 3) := dk_180 0 108 (dk_at dksX1_checksum_5 13 rfl rfl)
theorem dX1_checksum_132 : decode cX1_checksum 132 = .ok (.iload_n 3, 1) := dk_29 (dk_at dksX1_checksum_5 16 rfl rfl)
theorem dX1_checksum_133 : decode cX1_checksum 133 = .ok (.invokevirtual 234, 3) := dk_182 0 234 (dk_at dksX1_checksum_5 17 rfl rfl)
theorem dX1_checksum_136 : decode cX1_checksum 136 = .ok (.i2l, 1) := dk_133 (dk_at dksX1_checksum_5 20 rfl rfl)
theorem dX1_checksum_137 : decode cX1_checksum 137 = .ok (.invokestatic 336, 3) := dk_184 1 80 (dk_at dksX1_checksum_5 21 rfl rfl)
theorem dX1_checksum_140 : decode cX1_checksum 140 = .ok (.lstore_n 1, 1) := dk_64 (dk_at dksX1_checksum_6 0 rfl rfl)
theorem dX1_checksum_141 : decode cX1_checksum 141 = .ok (.iinc 3 1, 3) := dk_132 3 1 (dk_at dksX1_checksum_6 1 rfl rfl)
theorem dX1_checksum_144 : decode cX1_checksum 144 = .ok (.goto (-36), 3) := dk_167 255 220 (dk_at dksX1_checksum_6 4 rfl rfl)
theorem dX1_checksum_147 : decode cX1_checksum 147 = .ok (.iconst 0, 1) := dk_3 (dk_at dksX1_checksum_6 7 rfl rfl)
theorem dX1_checksum_148 : decode cX1_checksum 148 = .ok (.istore_n 3, 1) := dk_62 (dk_at dksX1_checksum_6 8 rfl rfl)
theorem dX1_checksum_149 : decode cX1_checksum 149 = .ok (.iload_n 3, 1) := dk_29 (dk_at dksX1_checksum_6 9 rfl rfl)
theorem dX1_checksum_150 : decode cX1_checksum 150 = .ok (.iconst 4, 1) := dk_7 (dk_at dksX1_checksum_6 10 rfl rfl)
theorem dX1_checksum_151 : decode cX1_checksum 151 = .ok (.if_icmp .ge 23, 3) := dk_162 0 23 (dk_at dksX1_checksum_6 11 rfl rfl)
theorem dX1_checksum_154 : decode cX1_checksum 154 = .ok (.lload_n 1, 1) := dk_31 (dk_at dksX1_checksum_6 14 rfl rfl)
theorem dX1_checksum_155 : decode cX1_checksum 155 = .ok (.aload_n 0, 1) := dk_42 (dk_at dksX1_checksum_6 15 rfl rfl)
theorem dX1_checksum_156 : decode cX1_checksum 156 = .ok (.getfield 108, 3) := dk_180 0 108 (dk_at dksX1_checksum_6 16 rfl rfl)
theorem dX1_checksum_159 : decode cX1_checksum 159 = .ok (.iload_n 3, 1) := dk_29 (dk_at dksX1_checksum_6 19 rfl rfl)
theorem dX1_checksum_160 : decode cX1_checksum 160 = .ok (.invokevirtual 282, 3) := dk_182 1 26 (dk_at dksX1_checksum_6 20 rfl rfl)
theorem dX1_checksum_163 : decode cX1_checksum 163 = .ok (.i2l, 1) := dk_133 (dk_at dksX1_checksum_6 23 rfl rfl)
theorem dX1_checksum_164 : decode cX1_checksum 164 = .ok (.invokestatic 336, 3) := dk_184 1 80 (dk_at dksX1_checksum_7 0 rfl rfl)
theorem dX1_checksum_167 : decode cX1_checksum 167 = .ok (.lstore_n 1, 1) := dk_64 (dk_at dksX1_checksum_7 3 rfl rfl)
theorem dX1_checksum_168 : decode cX1_checksum 168 = .ok (.iinc 3 1, 3) := dk_132 3 1 (dk_at dksX1_checksum_7 4 rfl rfl)
theorem dX1_checksum_171 : decode cX1_checksum 171 = .ok (.goto (-22), 3) := dk_167 255 234 (dk_at dksX1_checksum_7 7 rfl rfl)
theorem dX1_checksum_174 : decode cX1_checksum 174 = .ok (.lload_n 1, 1) := dk_31 (dk_at dksX1_checksum_7 10 rfl rfl)
theorem dX1_checksum_175 : decode cX1_checksum 175 = .ok (.lreturn, 1) := dk_173 (dk_at dksX1_checksum_7 11 rfl rfl)
abbrev cX1_hash : ByteArray := prog_1_method_44_code
def yX1_hash : MethodName := ⟨RX1, "hash", "(JJ)J"⟩
def dkwX1_hash_0 : List UInt8 := [20, 1, 78, 30, 105, 32, 97, 173]
abbrev dktX1_hash_0 : List UInt8 := dkwX1_hash_0 ++ []
theorem dksX1_hash_0 : cX1_hash.data.toList.drop 0 = dktX1_hash_0 := by decide +kernel
theorem dX1_hash_0 : decode cX1_hash 0 = .ok (.ldc2_w 334, 3) := dk_20 1 78 (dk_at dksX1_hash_0 0 rfl rfl)
theorem dX1_hash_3 : decode cX1_hash 3 = .ok (.lload_n 0, 1) := dk_30 (dk_at dksX1_hash_0 3 rfl rfl)
theorem dX1_hash_4 : decode cX1_hash 4 = .ok (.lmul, 1) := dk_105 (dk_at dksX1_hash_0 4 rfl rfl)
theorem dX1_hash_5 : decode cX1_hash 5 = .ok (.lload_n 2, 1) := dk_32 (dk_at dksX1_hash_0 5 rfl rfl)
theorem dX1_hash_6 : decode cX1_hash 6 = .ok (.ladd, 1) := dk_97 (dk_at dksX1_hash_0 6 rfl rfl)
theorem dX1_hash_7 : decode cX1_hash 7 = .ok (.lreturn, 1) := dk_173 (dk_at dksX1_hash_0 7 rfl rfl)
abbrev cX1_load : ByteArray := prog_1_method_20_code
def yX1_load : MethodName := ⟨RX1, "load", "(I)I"⟩
def dkwX1_load_2 : List UInt8 := [185, 0, 128, 1, 0, 172, 77, 42, 44, 180, 0, 200, 181, 0, 112, 44, 180, 0, 203, 172]
abbrev dktX1_load_2 : List UInt8 := dkwX1_load_2 ++ []
def dkwX1_load_1 : List UInt8 := [42, 187, 0, 190, 89, 42, 27, 183, 0, 192, 182, 0, 195, 182, 0, 179, 42, 180, 0, 108, 180, 0, 124]
abbrev dktX1_load_1 : List UInt8 := dkwX1_load_1 ++ dktX1_load_2
def dkwX1_load_0 : List UInt8 := [27, 133, 9, 42, 180, 0, 183, 133, 184, 0, 63, 184, 0, 162, 42, 3, 181, 0, 183, 42, 2, 181, 0, 112]
abbrev dktX1_load_0 : List UInt8 := dkwX1_load_0 ++ dktX1_load_1
theorem dksX1_load_0 : cX1_load.data.toList.drop 0 = dktX1_load_0 := by decide +kernel
theorem dksX1_load_1 : cX1_load.data.toList.drop 24 = dktX1_load_1 := dk_seg dksX1_load_0 24 rfl rfl
theorem dksX1_load_2 : cX1_load.data.toList.drop 47 = dktX1_load_2 := dk_seg dksX1_load_1 23 rfl rfl
theorem dX1_load_0 : decode cX1_load 0 = .ok (.iload_n 1, 1) := dk_27 (dk_at dksX1_load_0 0 rfl rfl)
theorem dX1_load_1 : decode cX1_load 1 = .ok (.i2l, 1) := dk_133 (dk_at dksX1_load_0 1 rfl rfl)
theorem dX1_load_2 : decode cX1_load 2 = .ok (.lconst 0, 1) := dk_9 (dk_at dksX1_load_0 2 rfl rfl)
theorem dX1_load_3 : decode cX1_load 3 = .ok (.aload_n 0, 1) := dk_42 (dk_at dksX1_load_0 3 rfl rfl)
theorem dX1_load_4 : decode cX1_load 4 = .ok (.getfield 183, 3) := dk_180 0 183 (dk_at dksX1_load_0 4 rfl rfl)
theorem dX1_load_7 : decode cX1_load 7 = .ok (.i2l, 1) := dk_133 (dk_at dksX1_load_0 7 rfl rfl)
theorem dX1_load_8 : decode cX1_load 8 = .ok (.invokestatic 63, 3) := dk_184 0 63 (dk_at dksX1_load_0 8 rfl rfl)
theorem dX1_load_11 : decode cX1_load 11 = .ok (.invokestatic 162, 3) := dk_184 0 162 (dk_at dksX1_load_0 11 rfl rfl)
theorem dX1_load_14 : decode cX1_load 14 = .ok (.aload_n 0, 1) := dk_42 (dk_at dksX1_load_0 14 rfl rfl)
theorem dX1_load_15 : decode cX1_load 15 = .ok (.iconst 0, 1) := dk_3 (dk_at dksX1_load_0 15 rfl rfl)
theorem dX1_load_16 : decode cX1_load 16 = .ok (.putfield 183, 3) := dk_181 0 183 (dk_at dksX1_load_0 16 rfl rfl)
theorem dX1_load_19 : decode cX1_load 19 = .ok (.aload_n 0, 1) := dk_42 (dk_at dksX1_load_0 19 rfl rfl)
theorem dX1_load_20 : decode cX1_load 20 = .ok (.iconst (-1), 1) := dk_2 (dk_at dksX1_load_0 20 rfl rfl)
theorem dX1_load_21 : decode cX1_load 21 = .ok (.putfield 112, 3) := dk_181 0 112 (dk_at dksX1_load_0 21 rfl rfl)
theorem dX1_load_24 : decode cX1_load 24 = .ok (.aload_n 0, 1) := dk_42 (dk_at dksX1_load_1 0 rfl rfl)
theorem dX1_load_25 : decode cX1_load 25 = .ok (.new 190, 3) := dk_187 0 190 (dk_at dksX1_load_1 1 rfl rfl)
theorem dX1_load_28 : decode cX1_load 28 = .ok (.dup, 1) := dk_89 (dk_at dksX1_load_1 4 rfl rfl)
theorem dX1_load_29 : decode cX1_load 29 = .ok (.aload_n 0, 1) := dk_42 (dk_at dksX1_load_1 5 rfl rfl)
theorem dX1_load_30 : decode cX1_load 30 = .ok (.iload_n 1, 1) := dk_27 (dk_at dksX1_load_1 6 rfl rfl)
theorem dX1_load_31 : decode cX1_load 31 = .ok (.invokespecial 192, 3) := dk_183 0 192 (dk_at dksX1_load_1 7 rfl rfl)
theorem dX1_load_34 : decode cX1_load 34 = .ok (.invokevirtual 195, 3) := dk_182 0 195 (dk_at dksX1_load_1 10 rfl rfl)
theorem dX1_load_37 : decode cX1_load 37 = .ok (.invokevirtual 179, 3) := dk_182 0 179 (dk_at dksX1_load_1 13 rfl rfl)
theorem dX1_load_40 : decode cX1_load 40 = .ok (.aload_n 0, 1) := dk_42 (dk_at dksX1_load_1 16 rfl rfl)
theorem dX1_load_41 : decode cX1_load 41 = .ok (.getfield 108, 3) := dk_180 0 108 (dk_at dksX1_load_1 17 rfl rfl)
theorem dX1_load_44 : decode cX1_load 44 = .ok (.getfield 124, 3) := dk_180 0 124 (dk_at dksX1_load_1 20 rfl rfl)
theorem dX1_load_47 : decode cX1_load 47 = .ok (.invokeinterface 128 1, 5) := by decide +kernel
theorem dX1_load_52 : decode cX1_load 52 = .ok (.ireturn, 1) := dk_172 (dk_at dksX1_load_2 5 rfl rfl)
theorem dX1_load_53 : decode cX1_load 53 = .ok (.astore_n 2, 1) := dk_77 (dk_at dksX1_load_2 6 rfl rfl)
theorem dX1_load_54 : decode cX1_load 54 = .ok (.aload_n 0, 1) := dk_42 (dk_at dksX1_load_2 7 rfl rfl)
theorem dX1_load_55 : decode cX1_load 55 = .ok (.aload_n 2, 1) := dk_44 (dk_at dksX1_load_2 8 rfl rfl)
theorem dX1_load_56 : decode cX1_load 56 = .ok (.getfield 200, 3) := dk_180 0 200 (dk_at dksX1_load_2 9 rfl rfl)
theorem dX1_load_59 : decode cX1_load 59 = .ok (.putfield 112, 3) := dk_181 0 112 (dk_at dksX1_load_2 12 rfl rfl)
theorem dX1_load_62 : decode cX1_load 62 = .ok (.aload_n 2, 1) := dk_44 (dk_at dksX1_load_2 15 rfl rfl)
theorem dX1_load_63 : decode cX1_load 63 = .ok (.getfield 203, 3) := dk_180 0 203 (dk_at dksX1_load_2 16 rfl rfl)
theorem dX1_load_66 : decode cX1_load 66 = .ok (.ireturn, 1) := dk_172 (dk_at dksX1_load_2 19 rfl rfl)
abbrev cX1_requireArgument : ByteArray := prog_1_method_10_code
def yX1_requireArgument : MethodName := ⟨RX1, "requireArgument", "(Z)V"⟩
def dkwX1_requireArgument_0 : List UInt8 := [26, 154, 0, 11, 187, 0, 115, 89, 183, 0, 117, 191, 177]
abbrev dktX1_requireArgument_0 : List UInt8 := dkwX1_requireArgument_0 ++ []
theorem dksX1_requireArgument_0 : cX1_requireArgument.data.toList.drop 0 = dktX1_requireArgument_0 := by decide +kernel
theorem dX1_requireArgument_0 : decode cX1_requireArgument 0 = .ok (.iload_n 0, 1) := dk_26 (dk_at dksX1_requireArgument_0 0 rfl rfl)
theorem dX1_requireArgument_1 : decode cX1_requireArgument 1 = .ok (.ifCond .ne 11, 3) := dk_154 0 11 (dk_at dksX1_requireArgument_0 1 rfl rfl)
theorem dX1_requireArgument_4 : decode cX1_requireArgument 4 = .ok (.new 115, 3) := dk_187 0 115 (dk_at dksX1_requireArgument_0 4 rfl rfl)
theorem dX1_requireArgument_7 : decode cX1_requireArgument 7 = .ok (.dup, 1) := dk_89 (dk_at dksX1_requireArgument_0 7 rfl rfl)
theorem dX1_requireArgument_8 : decode cX1_requireArgument 8 = .ok (.invokespecial 117, 3) := dk_183 0 117 (dk_at dksX1_requireArgument_0 8 rfl rfl)
theorem dX1_requireArgument_11 : decode cX1_requireArgument 11 = .ok (.athrow, 1) := dk_191 (dk_at dksX1_requireArgument_0 11 rfl rfl)
theorem dX1_requireArgument_12 : decode cX1_requireArgument 12 = .ok (.return_, 1) := dk_177 (dk_at dksX1_requireArgument_0 12 rfl rfl)
abbrev cX1_meets : ByteArray := prog_1_method_8_code
def yX1_meets : MethodName := ⟨RX1, "meets", "(LCornerClaims$Point;LCornerClaims$Point;LCornerClaims$Point;LCornerClaims$Point;)Z"⟩
def dkwX1_meets_6 : List UInt8 := [167, 0, 4, 3, 172]
abbrev dktX1_meets_6 : List UInt8 := dkwX1_meets_6 ++ []
def dkwX1_meets_5 : List UInt8 := [182, 0, 76, 154, 0, 24, 45, 43, 182, 0, 76, 154, 0, 16, 45, 42, 43, 184, 0, 77, 153, 0, 7, 4]
abbrev dktX1_meets_5 : List UInt8 := dkwX1_meets_5 ++ dktX1_meets_6
def dkwX1_meets_4 : List UInt8 := [154, 0, 20, 44, 43, 182, 0, 76, 154, 0, 12, 44, 42, 43, 184, 0, 77, 154, 0, 28, 45, 42]
abbrev dktX1_meets_4 : List UInt8 := dkwX1_meets_4 ++ dktX1_meets_5
def dkwX1_meets_3 : List UInt8 := [154, 0, 17, 21, 5, 154, 0, 14, 43, 44, 45, 184, 0, 77, 153, 0, 5, 4, 172, 44, 42, 182, 0, 76]
abbrev dktX1_meets_3 : List UInt8 := dkwX1_meets_3 ++ dktX1_meets_4
def dkwX1_meets_2 : List UInt8 := [182, 0, 76, 153, 0, 7, 4, 167, 0, 4, 3, 54, 5, 21, 4, 154, 0, 12, 42, 44, 45, 184, 0, 77]
abbrev dktX1_meets_2 : List UInt8 := dkwX1_meets_2 ++ dktX1_meets_3
def dkwX1_meets_1 : List UInt8 := [182, 0, 76, 153, 0, 7, 4, 167, 0, 4, 3, 54, 4, 43, 44, 182, 0, 76, 154, 0, 11, 43, 45]
abbrev dktX1_meets_1 : List UInt8 := dkwX1_meets_1 ++ dktX1_meets_2
def dkwX1_meets_0 : List UInt8 := [42, 43, 44, 45, 184, 0, 72, 153, 0, 5, 4, 172, 42, 44, 182, 0, 76, 154, 0, 11, 42, 45]
abbrev dktX1_meets_0 : List UInt8 := dkwX1_meets_0 ++ dktX1_meets_1
theorem dksX1_meets_0 : cX1_meets.data.toList.drop 0 = dktX1_meets_0 := by decide +kernel
theorem dksX1_meets_1 : cX1_meets.data.toList.drop 22 = dktX1_meets_1 := dk_seg dksX1_meets_0 22 rfl rfl
theorem dksX1_meets_2 : cX1_meets.data.toList.drop 45 = dktX1_meets_2 := dk_seg dksX1_meets_1 23 rfl rfl
theorem dksX1_meets_3 : cX1_meets.data.toList.drop 69 = dktX1_meets_3 := dk_seg dksX1_meets_2 24 rfl rfl
theorem dksX1_meets_4 : cX1_meets.data.toList.drop 93 = dktX1_meets_4 := dk_seg dksX1_meets_3 24 rfl rfl
theorem dksX1_meets_5 : cX1_meets.data.toList.drop 115 = dktX1_meets_5 := dk_seg dksX1_meets_4 22 rfl rfl
theorem dksX1_meets_6 : cX1_meets.data.toList.drop 139 = dktX1_meets_6 := dk_seg dksX1_meets_5 24 rfl rfl
theorem dX1_meets_0 : decode cX1_meets 0 = .ok (.aload_n 0, 1) := dk_42 (dk_at dksX1_meets_0 0 rfl rfl)
theorem dX1_meets_1 : decode cX1_meets 1 = .ok (.aload_n 1, 1) := dk_43 (dk_at dksX1_meets_0 1 rfl rfl)
theorem dX1_meets_2 : decode cX1_meets 2 = .ok (.aload_n 2, 1) := dk_44 (dk_at dksX1_meets_0 2 rfl rfl)
theorem dX1_meets_3 : decode cX1_meets 3 = .ok (.aload_n 3, 1) := dk_45 (dk_at dksX1_meets_0 3 rfl rfl)
theorem dX1_meets_4 : decode cX1_meets 4 = .ok (.invokestatic 72, 3) := dk_184 0 72 (dk_at dksX1_meets_0 4 rfl rfl)
theorem dX1_meets_7 : decode cX1_meets 7 = .ok (.ifCond .eq 5, 3) := dk_153 0 5 (dk_at dksX1_meets_0 7 rfl rfl)
theorem dX1_meets_10 : decode cX1_meets 10 = .ok (.iconst 1, 1) := dk_4 (dk_at dksX1_meets_0 10 rfl rfl)
theorem dX1_meets_11 : decode cX1_meets 11 = .ok (.ireturn, 1) := dk_172 (dk_at dksX1_meets_0 11 rfl rfl)
theorem dX1_meets_12 : decode cX1_meets 12 = .ok (.aload_n 0, 1) := dk_42 (dk_at dksX1_meets_0 12 rfl rfl)
theorem dX1_meets_13 : decode cX1_meets 13 = .ok (.aload_n 2, 1) := dk_44 (dk_at dksX1_meets_0 13 rfl rfl)
theorem dX1_meets_14 : decode cX1_meets 14 = .ok (.invokevirtual 76, 3) := dk_182 0 76 (dk_at dksX1_meets_0 14 rfl rfl)
theorem dX1_meets_17 : decode cX1_meets 17 = .ok (.ifCond .ne 11, 3) := dk_154 0 11 (dk_at dksX1_meets_0 17 rfl rfl)
theorem dX1_meets_20 : decode cX1_meets 20 = .ok (.aload_n 0, 1) := dk_42 (dk_at dksX1_meets_0 20 rfl rfl)
theorem dX1_meets_21 : decode cX1_meets 21 = .ok (.aload_n 3, 1) := dk_45 (dk_at dksX1_meets_0 21 rfl rfl)
theorem dX1_meets_22 : decode cX1_meets 22 = .ok (.invokevirtual 76, 3) := dk_182 0 76 (dk_at dksX1_meets_1 0 rfl rfl)
theorem dX1_meets_25 : decode cX1_meets 25 = .ok (.ifCond .eq 7, 3) := dk_153 0 7 (dk_at dksX1_meets_1 3 rfl rfl)
theorem dX1_meets_28 : decode cX1_meets 28 = .ok (.iconst 1, 1) := dk_4 (dk_at dksX1_meets_1 6 rfl rfl)
theorem dX1_meets_29 : decode cX1_meets 29 = .ok (.goto 4, 3) := dk_167 0 4 (dk_at dksX1_meets_1 7 rfl rfl)
theorem dX1_meets_32 : decode cX1_meets 32 = .ok (.iconst 0, 1) := dk_3 (dk_at dksX1_meets_1 10 rfl rfl)
theorem dX1_meets_33 : decode cX1_meets 33 = .ok (.istore 4, 2) := dk_54 4 (dk_at dksX1_meets_1 11 rfl rfl)
theorem dX1_meets_35 : decode cX1_meets 35 = .ok (.aload_n 1, 1) := dk_43 (dk_at dksX1_meets_1 13 rfl rfl)
theorem dX1_meets_36 : decode cX1_meets 36 = .ok (.aload_n 2, 1) := dk_44 (dk_at dksX1_meets_1 14 rfl rfl)
theorem dX1_meets_37 : decode cX1_meets 37 = .ok (.invokevirtual 76, 3) := dk_182 0 76 (dk_at dksX1_meets_1 15 rfl rfl)
theorem dX1_meets_40 : decode cX1_meets 40 = .ok (.ifCond .ne 11, 3) := dk_154 0 11 (dk_at dksX1_meets_1 18 rfl rfl)
theorem dX1_meets_43 : decode cX1_meets 43 = .ok (.aload_n 1, 1) := dk_43 (dk_at dksX1_meets_1 21 rfl rfl)
theorem dX1_meets_44 : decode cX1_meets 44 = .ok (.aload_n 3, 1) := dk_45 (dk_at dksX1_meets_1 22 rfl rfl)
theorem dX1_meets_45 : decode cX1_meets 45 = .ok (.invokevirtual 76, 3) := dk_182 0 76 (dk_at dksX1_meets_2 0 rfl rfl)
theorem dX1_meets_48 : decode cX1_meets 48 = .ok (.ifCond .eq 7, 3) := dk_153 0 7 (dk_at dksX1_meets_2 3 rfl rfl)
theorem dX1_meets_51 : decode cX1_meets 51 = .ok (.iconst 1, 1) := dk_4 (dk_at dksX1_meets_2 6 rfl rfl)
theorem dX1_meets_52 : decode cX1_meets 52 = .ok (.goto 4, 3) := dk_167 0 4 (dk_at dksX1_meets_2 7 rfl rfl)
theorem dX1_meets_55 : decode cX1_meets 55 = .ok (.iconst 0, 1) := dk_3 (dk_at dksX1_meets_2 10 rfl rfl)
theorem dX1_meets_56 : decode cX1_meets 56 = .ok (.istore 5, 2) := dk_54 5 (dk_at dksX1_meets_2 11 rfl rfl)
theorem dX1_meets_58 : decode cX1_meets 58 = .ok (.iload 4, 2) := dk_21 4 (dk_at dksX1_meets_2 13 rfl rfl)
theorem dX1_meets_60 : decode cX1_meets 60 = .ok (.ifCond .ne 12, 3) := dk_154 0 12 (dk_at dksX1_meets_2 15 rfl rfl)
theorem dX1_meets_63 : decode cX1_meets 63 = .ok (.aload_n 0, 1) := dk_42 (dk_at dksX1_meets_2 18 rfl rfl)
theorem dX1_meets_64 : decode cX1_meets 64 = .ok (.aload_n 2, 1) := dk_44 (dk_at dksX1_meets_2 19 rfl rfl)
theorem dX1_meets_65 : decode cX1_meets 65 = .ok (.aload_n 3, 1) := dk_45 (dk_at dksX1_meets_2 20 rfl rfl)
theorem dX1_meets_66 : decode cX1_meets 66 = .ok (.invokestatic 77, 3) := dk_184 0 77 (dk_at dksX1_meets_2 21 rfl rfl)
theorem dX1_meets_69 : decode cX1_meets 69 = .ok (.ifCond .ne 17, 3) := dk_154 0 17 (dk_at dksX1_meets_3 0 rfl rfl)
theorem dX1_meets_72 : decode cX1_meets 72 = .ok (.iload 5, 2) := dk_21 5 (dk_at dksX1_meets_3 3 rfl rfl)
theorem dX1_meets_74 : decode cX1_meets 74 = .ok (.ifCond .ne 14, 3) := dk_154 0 14 (dk_at dksX1_meets_3 5 rfl rfl)
theorem dX1_meets_77 : decode cX1_meets 77 = .ok (.aload_n 1, 1) := dk_43 (dk_at dksX1_meets_3 8 rfl rfl)
theorem dX1_meets_78 : decode cX1_meets 78 = .ok (.aload_n 2, 1) := dk_44 (dk_at dksX1_meets_3 9 rfl rfl)
theorem dX1_meets_79 : decode cX1_meets 79 = .ok (.aload_n 3, 1) := dk_45 (dk_at dksX1_meets_3 10 rfl rfl)
theorem dX1_meets_80 : decode cX1_meets 80 = .ok (.invokestatic 77, 3) := dk_184 0 77 (dk_at dksX1_meets_3 11 rfl rfl)
theorem dX1_meets_83 : decode cX1_meets 83 = .ok (.ifCond .eq 5, 3) := dk_153 0 5 (dk_at dksX1_meets_3 14 rfl rfl)
theorem dX1_meets_86 : decode cX1_meets 86 = .ok (.iconst 1, 1) := dk_4 (dk_at dksX1_meets_3 17 rfl rfl)
theorem dX1_meets_87 : decode cX1_meets 87 = .ok (.ireturn, 1) := dk_172 (dk_at dksX1_meets_3 18 rfl rfl)
theorem dX1_meets_88 : decode cX1_meets 88 = .ok (.aload_n 2, 1) := dk_44 (dk_at dksX1_meets_3 19 rfl rfl)
theorem dX1_meets_89 : decode cX1_meets 89 = .ok (.aload_n 0, 1) := dk_42 (dk_at dksX1_meets_3 20 rfl rfl)
theorem dX1_meets_90 : decode cX1_meets 90 = .ok (.invokevirtual 76, 3) := dk_182 0 76 (dk_at dksX1_meets_3 21 rfl rfl)
theorem dX1_meets_93 : decode cX1_meets 93 = .ok (.ifCond .ne 20, 3) := dk_154 0 20 (dk_at dksX1_meets_4 0 rfl rfl)
theorem dX1_meets_96 : decode cX1_meets 96 = .ok (.aload_n 2, 1) := dk_44 (dk_at dksX1_meets_4 3 rfl rfl)
theorem dX1_meets_97 : decode cX1_meets 97 = .ok (.aload_n 1, 1) := dk_43 (dk_at dksX1_meets_4 4 rfl rfl)
theorem dX1_meets_98 : decode cX1_meets 98 = .ok (.invokevirtual 76, 3) := dk_182 0 76 (dk_at dksX1_meets_4 5 rfl rfl)
theorem dX1_meets_101 : decode cX1_meets 101 = .ok (.ifCond .ne 12, 3) := dk_154 0 12 (dk_at dksX1_meets_4 8 rfl rfl)
theorem dX1_meets_104 : decode cX1_meets 104 = .ok (.aload_n 2, 1) := dk_44 (dk_at dksX1_meets_4 11 rfl rfl)
theorem dX1_meets_105 : decode cX1_meets 105 = .ok (.aload_n 0, 1) := dk_42 (dk_at dksX1_meets_4 12 rfl rfl)
theorem dX1_meets_106 : decode cX1_meets 106 = .ok (.aload_n 1, 1) := dk_43 (dk_at dksX1_meets_4 13 rfl rfl)
theorem dX1_meets_107 : decode cX1_meets 107 = .ok (.invokestatic 77, 3) := dk_184 0 77 (dk_at dksX1_meets_4 14 rfl rfl)
theorem dX1_meets_110 : decode cX1_meets 110 = .ok (.ifCond .ne 28, 3) := dk_154 0 28 (dk_at dksX1_meets_4 17 rfl rfl)
theorem dX1_meets_113 : decode cX1_meets 113 = .ok (.aload_n 3, 1) := dk_45 (dk_at dksX1_meets_4 20 rfl rfl)
theorem dX1_meets_114 : decode cX1_meets 114 = .ok (.aload_n 0, 1) := dk_42 (dk_at dksX1_meets_4 21 rfl rfl)
theorem dX1_meets_115 : decode cX1_meets 115 = .ok (.invokevirtual 76, 3) := dk_182 0 76 (dk_at dksX1_meets_5 0 rfl rfl)
theorem dX1_meets_118 : decode cX1_meets 118 = .ok (.ifCond .ne 24, 3) := dk_154 0 24 (dk_at dksX1_meets_5 3 rfl rfl)
theorem dX1_meets_121 : decode cX1_meets 121 = .ok (.aload_n 3, 1) := dk_45 (dk_at dksX1_meets_5 6 rfl rfl)
theorem dX1_meets_122 : decode cX1_meets 122 = .ok (.aload_n 1, 1) := dk_43 (dk_at dksX1_meets_5 7 rfl rfl)
theorem dX1_meets_123 : decode cX1_meets 123 = .ok (.invokevirtual 76, 3) := dk_182 0 76 (dk_at dksX1_meets_5 8 rfl rfl)
theorem dX1_meets_126 : decode cX1_meets 126 = .ok (.ifCond .ne 16, 3) := dk_154 0 16 (dk_at dksX1_meets_5 11 rfl rfl)
theorem dX1_meets_129 : decode cX1_meets 129 = .ok (.aload_n 3, 1) := dk_45 (dk_at dksX1_meets_5 14 rfl rfl)
theorem dX1_meets_130 : decode cX1_meets 130 = .ok (.aload_n 0, 1) := dk_42 (dk_at dksX1_meets_5 15 rfl rfl)
theorem dX1_meets_131 : decode cX1_meets 131 = .ok (.aload_n 1, 1) := dk_43 (dk_at dksX1_meets_5 16 rfl rfl)
theorem dX1_meets_132 : decode cX1_meets 132 = .ok (.invokestatic 77, 3) := dk_184 0 77 (dk_at dksX1_meets_5 17 rfl rfl)
theorem dX1_meets_135 : decode cX1_meets 135 = .ok (.ifCond .eq 7, 3) := dk_153 0 7 (dk_at dksX1_meets_5 20 rfl rfl)
theorem dX1_meets_138 : decode cX1_meets 138 = .ok (.iconst 1, 1) := dk_4 (dk_at dksX1_meets_5 23 rfl rfl)
theorem dX1_meets_139 : decode cX1_meets 139 = .ok (.goto 4, 3) := dk_167 0 4 (dk_at dksX1_meets_6 0 rfl rfl)
theorem dX1_meets_142 : decode cX1_meets 142 = .ok (.iconst 0, 1) := dk_3 (dk_at dksX1_meets_6 3 rfl rfl)
theorem dX1_meets_143 : decode cX1_meets 143 = .ok (.ireturn, 1) := dk_172 (dk_at dksX1_meets_6 4 rfl rfl)
abbrev cX1_cross : ByteArray := prog_1_method_7_code
def yX1_cross : MethodName := ⟨RX1, "cross", "(LCornerClaims$Point;LCornerClaims$Point;LCornerClaims$Point;LCornerClaims$Point;)Z"⟩
def dkwX1_cross_2 : List UInt8 := [3, 172]
abbrev dktX1_cross_2 : List UInt8 := dkwX1_cross_2 ++ []
def dkwX1_cross_1 : List UInt8 := [42, 184, 0, 53, 184, 0, 67, 44, 45, 43, 184, 0, 53, 184, 0, 67, 104, 156, 0, 7, 4, 167, 0, 4]
abbrev dktX1_cross_1 : List UInt8 := dkwX1_cross_1 ++ dktX1_cross_2
def dkwX1_cross_0 : List UInt8 := [42, 43, 44, 184, 0, 53, 184, 0, 67, 42, 43, 45, 184, 0, 53, 184, 0, 67, 104, 156, 0, 29, 44, 45]
abbrev dktX1_cross_0 : List UInt8 := dkwX1_cross_0 ++ dktX1_cross_1
theorem dksX1_cross_0 : cX1_cross.data.toList.drop 0 = dktX1_cross_0 := by decide +kernel
theorem dksX1_cross_1 : cX1_cross.data.toList.drop 24 = dktX1_cross_1 := dk_seg dksX1_cross_0 24 rfl rfl
theorem dksX1_cross_2 : cX1_cross.data.toList.drop 48 = dktX1_cross_2 := dk_seg dksX1_cross_1 24 rfl rfl
theorem dX1_cross_0 : decode cX1_cross 0 = .ok (.aload_n 0, 1) := dk_42 (dk_at dksX1_cross_0 0 rfl rfl)
theorem dX1_cross_1 : decode cX1_cross 1 = .ok (.aload_n 1, 1) := dk_43 (dk_at dksX1_cross_0 1 rfl rfl)
theorem dX1_cross_2 : decode cX1_cross 2 = .ok (.aload_n 2, 1) := dk_44 (dk_at dksX1_cross_0 2 rfl rfl)
theorem dX1_cross_3 : decode cX1_cross 3 = .ok (.invokestatic 53, 3) := dk_184 0 53 (dk_at dksX1_cross_0 3 rfl rfl)
theorem dX1_cross_6 : decode cX1_cross 6 = .ok (.invokestatic 67, 3) := dk_184 0 67 (dk_at dksX1_cross_0 6 rfl rfl)
theorem dX1_cross_9 : decode cX1_cross 9 = .ok (.aload_n 0, 1) := dk_42 (dk_at dksX1_cross_0 9 rfl rfl)
theorem dX1_cross_10 : decode cX1_cross 10 = .ok (.aload_n 1, 1) := dk_43 (dk_at dksX1_cross_0 10 rfl rfl)
theorem dX1_cross_11 : decode cX1_cross 11 = .ok (.aload_n 3, 1) := dk_45 (dk_at dksX1_cross_0 11 rfl rfl)
theorem dX1_cross_12 : decode cX1_cross 12 = .ok (.invokestatic 53, 3) := dk_184 0 53 (dk_at dksX1_cross_0 12 rfl rfl)
theorem dX1_cross_15 : decode cX1_cross 15 = .ok (.invokestatic 67, 3) := dk_184 0 67 (dk_at dksX1_cross_0 15 rfl rfl)
theorem dX1_cross_18 : decode cX1_cross 18 = .ok (.imul, 1) := dk_104 (dk_at dksX1_cross_0 18 rfl rfl)
theorem dX1_cross_19 : decode cX1_cross 19 = .ok (.ifCond .ge 29, 3) := dk_156 0 29 (dk_at dksX1_cross_0 19 rfl rfl)
theorem dX1_cross_22 : decode cX1_cross 22 = .ok (.aload_n 2, 1) := dk_44 (dk_at dksX1_cross_0 22 rfl rfl)
theorem dX1_cross_23 : decode cX1_cross 23 = .ok (.aload_n 3, 1) := dk_45 (dk_at dksX1_cross_0 23 rfl rfl)
theorem dX1_cross_24 : decode cX1_cross 24 = .ok (.aload_n 0, 1) := dk_42 (dk_at dksX1_cross_1 0 rfl rfl)
theorem dX1_cross_25 : decode cX1_cross 25 = .ok (.invokestatic 53, 3) := dk_184 0 53 (dk_at dksX1_cross_1 1 rfl rfl)
theorem dX1_cross_28 : decode cX1_cross 28 = .ok (.invokestatic 67, 3) := dk_184 0 67 (dk_at dksX1_cross_1 4 rfl rfl)
theorem dX1_cross_31 : decode cX1_cross 31 = .ok (.aload_n 2, 1) := dk_44 (dk_at dksX1_cross_1 7 rfl rfl)
theorem dX1_cross_32 : decode cX1_cross 32 = .ok (.aload_n 3, 1) := dk_45 (dk_at dksX1_cross_1 8 rfl rfl)
theorem dX1_cross_33 : decode cX1_cross 33 = .ok (.aload_n 1, 1) := dk_43 (dk_at dksX1_cross_1 9 rfl rfl)
theorem dX1_cross_34 : decode cX1_cross 34 = .ok (.invokestatic 53, 3) := dk_184 0 53 (dk_at dksX1_cross_1 10 rfl rfl)
theorem dX1_cross_37 : decode cX1_cross 37 = .ok (.invokestatic 67, 3) := dk_184 0 67 (dk_at dksX1_cross_1 13 rfl rfl)
theorem dX1_cross_40 : decode cX1_cross 40 = .ok (.imul, 1) := dk_104 (dk_at dksX1_cross_1 16 rfl rfl)
theorem dX1_cross_41 : decode cX1_cross 41 = .ok (.ifCond .ge 7, 3) := dk_156 0 7 (dk_at dksX1_cross_1 17 rfl rfl)
theorem dX1_cross_44 : decode cX1_cross 44 = .ok (.iconst 1, 1) := dk_4 (dk_at dksX1_cross_1 20 rfl rfl)
theorem dX1_cross_45 : decode cX1_cross 45 = .ok (.goto 4, 3) := dk_167 0 4 (dk_at dksX1_cross_1 21 rfl rfl)
theorem dX1_cross_48 : decode cX1_cross 48 = .ok (.iconst 0, 1) := dk_3 (dk_at dksX1_cross_2 0 rfl rfl)
theorem dX1_cross_49 : decode cX1_cross 49 = .ok (.ireturn, 1) := dk_172 (dk_at dksX1_cross_2 1 rfl rfl)
abbrev cX1_replace : ByteArray := prog_1_method_16_code
def yX1_replace : MethodName := ⟨RX1, "replace", "(LCornerClaims$Field;)V"⟩
def dkwX1_replace_1 : List UInt8 := [42, 180, 0, 108, 182, 0, 171, 42, 43, 181, 0, 108, 177]
abbrev dktX1_replace_1 : List UInt8 := dkwX1_replace_1 ++ []
def dkwX1_replace_0 : List UInt8 := [42, 180, 0, 94, 182, 0, 166, 16, 8, 160, 0, 11, 42, 180, 0, 94, 182, 0, 167, 87, 42, 180, 0, 94]
abbrev dktX1_replace_0 : List UInt8 := dkwX1_replace_0 ++ dktX1_replace_1
theorem dksX1_replace_0 : cX1_replace.data.toList.drop 0 = dktX1_replace_0 := by decide +kernel
theorem dksX1_replace_1 : cX1_replace.data.toList.drop 24 = dktX1_replace_1 := dk_seg dksX1_replace_0 24 rfl rfl
theorem dX1_replace_0 : decode cX1_replace 0 = .ok (.aload_n 0, 1) := dk_42 (dk_at dksX1_replace_0 0 rfl rfl)
theorem dX1_replace_1 : decode cX1_replace 1 = .ok (.getfield 94, 3) := dk_180 0 94 (dk_at dksX1_replace_0 1 rfl rfl)
theorem dX1_replace_4 : decode cX1_replace 4 = .ok (.invokevirtual 166, 3) := dk_182 0 166 (dk_at dksX1_replace_0 4 rfl rfl)
theorem dX1_replace_7 : decode cX1_replace 7 = .ok (.bipush 8, 2) := dk_16 8 (dk_at dksX1_replace_0 7 rfl rfl)
theorem dX1_replace_9 : decode cX1_replace 9 = .ok (.if_icmp .ne 11, 3) := dk_160 0 11 (dk_at dksX1_replace_0 9 rfl rfl)
theorem dX1_replace_12 : decode cX1_replace 12 = .ok (.aload_n 0, 1) := dk_42 (dk_at dksX1_replace_0 12 rfl rfl)
theorem dX1_replace_13 : decode cX1_replace 13 = .ok (.getfield 94, 3) := dk_180 0 94 (dk_at dksX1_replace_0 13 rfl rfl)
theorem dX1_replace_16 : decode cX1_replace 16 = .ok (.invokevirtual 167, 3) := dk_182 0 167 (dk_at dksX1_replace_0 16 rfl rfl)
theorem dX1_replace_19 : decode cX1_replace 19 = .ok (.pop, 1) := dk_87 (dk_at dksX1_replace_0 19 rfl rfl)
theorem dX1_replace_20 : decode cX1_replace 20 = .ok (.aload_n 0, 1) := dk_42 (dk_at dksX1_replace_0 20 rfl rfl)
theorem dX1_replace_21 : decode cX1_replace 21 = .ok (.getfield 94, 3) := dk_180 0 94 (dk_at dksX1_replace_0 21 rfl rfl)
theorem dX1_replace_24 : decode cX1_replace 24 = .ok (.aload_n 0, 1) := dk_42 (dk_at dksX1_replace_1 0 rfl rfl)
theorem dX1_replace_25 : decode cX1_replace 25 = .ok (.getfield 108, 3) := dk_180 0 108 (dk_at dksX1_replace_1 1 rfl rfl)
theorem dX1_replace_28 : decode cX1_replace 28 = .ok (.invokevirtual 171, 3) := dk_182 0 171 (dk_at dksX1_replace_1 4 rfl rfl)
theorem dX1_replace_31 : decode cX1_replace 31 = .ok (.aload_n 0, 1) := dk_42 (dk_at dksX1_replace_1 7 rfl rfl)
theorem dX1_replace_32 : decode cX1_replace 32 = .ok (.aload_n 1, 1) := dk_43 (dk_at dksX1_replace_1 8 rfl rfl)
theorem dX1_replace_33 : decode cX1_replace 33 = .ok (.putfield 108, 3) := dk_181 0 108 (dk_at dksX1_replace_1 9 rfl rfl)
theorem dX1_replace_36 : decode cX1_replace 36 = .ok (.return_, 1) := dk_177 (dk_at dksX1_replace_1 12 rfl rfl)
abbrev cX1_count : ByteArray := prog_1_method_22_code
def yX1_count : MethodName := ⟨RX1, "count", "(I)I"⟩
def dkwX1_count_4 : List UInt8 := [185, 0, 128, 1, 0, 172, 42, 180, 0, 108, 182, 0, 217, 172, 42, 180, 0, 108, 182, 0, 220, 172]
abbrev dktX1_count_4 : List UInt8 := dkwX1_count_4 ++ []
def dkwX1_count_3 : List UInt8 := [180, 0, 108, 180, 0, 154, 180, 0, 214, 185, 0, 128, 1, 0, 172, 42, 180, 0, 108, 180, 0, 124]
abbrev dktX1_count_3 : List UInt8 := dkwX1_count_3 ++ dktX1_count_4
def dkwX1_count_2 : List UInt8 := [42, 180, 0, 108, 180, 0, 154, 180, 0, 208, 172, 42, 180, 0, 108, 180, 0, 154, 180, 0, 211, 172, 42]
abbrev dktX1_count_2 : List UInt8 := dkwX1_count_2 ++ dktX1_count_3
def dkwX1_count_1 : List UInt8 := [170, 0, 0, 0, 0, 0, 94, 0, 0, 0, 0, 0, 0, 0, 4, 0, 0, 0, 35, 0, 0, 0, 46, 0, 0, 0, 57, 0, 0, 0, 73, 0, 0, 0, 86]
abbrev dktX1_count_1 : List UInt8 := dkwX1_count_1 ++ dktX1_count_2
def dkwX1_count_0 : List UInt8 := [27, 133, 9, 20, 0, 206, 184, 0, 63, 184, 0, 162, 27]
abbrev dktX1_count_0 : List UInt8 := dkwX1_count_0 ++ dktX1_count_1
theorem dksX1_count_0 : cX1_count.data.toList.drop 0 = dktX1_count_0 := by decide +kernel
theorem dksX1_count_1 : cX1_count.data.toList.drop 13 = dktX1_count_1 := dk_seg dksX1_count_0 13 rfl rfl
theorem dksX1_count_2 : cX1_count.data.toList.drop 48 = dktX1_count_2 := dk_seg dksX1_count_1 35 rfl rfl
theorem dksX1_count_3 : cX1_count.data.toList.drop 71 = dktX1_count_3 := dk_seg dksX1_count_2 23 rfl rfl
theorem dksX1_count_4 : cX1_count.data.toList.drop 93 = dktX1_count_4 := dk_seg dksX1_count_3 22 rfl rfl
theorem dX1_count_0 : decode cX1_count 0 = .ok (.iload_n 1, 1) := dk_27 (dk_at dksX1_count_0 0 rfl rfl)
theorem dX1_count_1 : decode cX1_count 1 = .ok (.i2l, 1) := dk_133 (dk_at dksX1_count_0 1 rfl rfl)
theorem dX1_count_2 : decode cX1_count 2 = .ok (.lconst 0, 1) := dk_9 (dk_at dksX1_count_0 2 rfl rfl)
theorem dX1_count_3 : decode cX1_count 3 = .ok (.ldc2_w 206, 3) := dk_20 0 206 (dk_at dksX1_count_0 3 rfl rfl)
theorem dX1_count_6 : decode cX1_count 6 = .ok (.invokestatic 63, 3) := dk_184 0 63 (dk_at dksX1_count_0 6 rfl rfl)
theorem dX1_count_9 : decode cX1_count 9 = .ok (.invokestatic 162, 3) := dk_184 0 162 (dk_at dksX1_count_0 9 rfl rfl)
theorem dX1_count_12 : decode cX1_count 12 = .ok (.iload_n 1, 1) := dk_27 (dk_at dksX1_count_0 12 rfl rfl)
theorem dX1_count_13 : decode cX1_count 13 = .ok (.tableswitch 94 0 4 #[35, 46, 57, 73, 86], 35) := by decide +kernel
theorem dX1_count_48 : decode cX1_count 48 = .ok (.aload_n 0, 1) := dk_42 (dk_at dksX1_count_2 0 rfl rfl)
theorem dX1_count_49 : decode cX1_count 49 = .ok (.getfield 108, 3) := dk_180 0 108 (dk_at dksX1_count_2 1 rfl rfl)
theorem dX1_count_52 : decode cX1_count 52 = .ok (.getfield 154, 3) := dk_180 0 154 (dk_at dksX1_count_2 4 rfl rfl)
theorem dX1_count_55 : decode cX1_count 55 = .ok (.getfield 208, 3) := dk_180 0 208 (dk_at dksX1_count_2 7 rfl rfl)
theorem dX1_count_58 : decode cX1_count 58 = .ok (.ireturn, 1) := dk_172 (dk_at dksX1_count_2 10 rfl rfl)
theorem dX1_count_59 : decode cX1_count 59 = .ok (.aload_n 0, 1) := dk_42 (dk_at dksX1_count_2 11 rfl rfl)
theorem dX1_count_60 : decode cX1_count 60 = .ok (.getfield 108, 3) := dk_180 0 108 (dk_at dksX1_count_2 12 rfl rfl)
theorem dX1_count_63 : decode cX1_count 63 = .ok (.getfield 154, 3) := dk_180 0 154 (dk_at dksX1_count_2 15 rfl rfl)
theorem dX1_count_66 : decode cX1_count 66 = .ok (.getfield 211, 3) := dk_180 0 211 (dk_at dksX1_count_2 18 rfl rfl)
theorem dX1_count_69 : decode cX1_count 69 = .ok (.ireturn, 1) := dk_172 (dk_at dksX1_count_2 21 rfl rfl)
theorem dX1_count_70 : decode cX1_count 70 = .ok (.aload_n 0, 1) := dk_42 (dk_at dksX1_count_2 22 rfl rfl)
theorem dX1_count_71 : decode cX1_count 71 = .ok (.getfield 108, 3) := dk_180 0 108 (dk_at dksX1_count_3 0 rfl rfl)
theorem dX1_count_74 : decode cX1_count 74 = .ok (.getfield 154, 3) := dk_180 0 154 (dk_at dksX1_count_3 3 rfl rfl)
theorem dX1_count_77 : decode cX1_count 77 = .ok (.getfield 214, 3) := dk_180 0 214 (dk_at dksX1_count_3 6 rfl rfl)
theorem dX1_count_80 : decode cX1_count 80 = .ok (.invokeinterface 128 1, 5) := by decide +kernel
theorem dX1_count_85 : decode cX1_count 85 = .ok (.ireturn, 1) := dk_172 (dk_at dksX1_count_3 14 rfl rfl)
theorem dX1_count_86 : decode cX1_count 86 = .ok (.aload_n 0, 1) := dk_42 (dk_at dksX1_count_3 15 rfl rfl)
theorem dX1_count_87 : decode cX1_count 87 = .ok (.getfield 108, 3) := dk_180 0 108 (dk_at dksX1_count_3 16 rfl rfl)
theorem dX1_count_90 : decode cX1_count 90 = .ok (.getfield 124, 3) := dk_180 0 124 (dk_at dksX1_count_3 19 rfl rfl)
theorem dX1_count_93 : decode cX1_count 93 = .ok (.invokeinterface 128 1, 5) := by decide +kernel
theorem dX1_count_98 : decode cX1_count 98 = .ok (.ireturn, 1) := dk_172 (dk_at dksX1_count_4 5 rfl rfl)
theorem dX1_count_99 : decode cX1_count 99 = .ok (.aload_n 0, 1) := dk_42 (dk_at dksX1_count_4 6 rfl rfl)
theorem dX1_count_100 : decode cX1_count 100 = .ok (.getfield 108, 3) := dk_180 0 108 (dk_at dksX1_count_4 7 rfl rfl)
theorem dX1_count_103 : decode cX1_count 103 = .ok (.invokevirtual 217, 3) := dk_182 0 217 (dk_at dksX1_count_4 10 rfl rfl)
theorem dX1_count_106 : decode cX1_count 106 = .ok (.ireturn, 1) := dk_172 (dk_at dksX1_count_4 13 rfl rfl)
theorem dX1_count_107 : decode cX1_count 107 = .ok (.aload_n 0, 1) := dk_42 (dk_at dksX1_count_4 14 rfl rfl)
theorem dX1_count_108 : decode cX1_count 108 = .ok (.getfield 108, 3) := dk_180 0 108 (dk_at dksX1_count_4 15 rfl rfl)
theorem dX1_count_111 : decode cX1_count 111 = .ok (.invokevirtual 220, 3) := dk_182 0 220 (dk_at dksX1_count_4 18 rfl rfl)
theorem dX1_count_114 : decode cX1_count 114 = .ok (.ireturn, 1) := dk_172 (dk_at dksX1_count_4 21 rfl rfl)
abbrev cX1_stone : ByteArray := prog_1_method_23_code
def yX1_stone : MethodName := ⟨RX1, "stone", "(II)I"⟩
def dkwX1_stone_6 : List UInt8 := [180, 0, 108, 27, 182, 0, 234, 172]
abbrev dktX1_stone_6 : List UInt8 := dkwX1_stone_6 ++ []
def dkwX1_stone_5 : List UInt8 := [180, 0, 108, 180, 0, 154, 180, 0, 228, 27, 185, 0, 136, 2, 0, 192, 0, 68, 182, 0, 231, 172, 42]
abbrev dktX1_stone_5 : List UInt8 := dkwX1_stone_5 ++ dktX1_stone_6
def dkwX1_stone_4 : List UInt8 := [180, 0, 108, 180, 0, 154, 180, 0, 214, 27, 185, 0, 136, 2, 0, 192, 0, 45, 180, 0, 50, 172, 42]
abbrev dktX1_stone_4 : List UInt8 := dkwX1_stone_4 ++ dktX1_stone_5
def dkwX1_stone_3 : List UInt8 := [42, 180, 0, 108, 180, 0, 154, 180, 0, 214, 27, 185, 0, 136, 2, 0, 192, 0, 45, 180, 0, 44, 172, 42]
abbrev dktX1_stone_3 : List UInt8 := dkwX1_stone_3 ++ dktX1_stone_4
def dkwX1_stone_2 : List UInt8 := [170, 0, 0, 0, 0, 0, 0, 97, 0, 0, 0, 0, 0, 0, 0, 2, 0, 0, 0, 28, 0, 0, 0, 51, 0, 0, 0, 74]
abbrev dktX1_stone_2 : List UInt8 := dkwX1_stone_2 ++ dktX1_stone_3
def dkwX1_stone_1 : List UInt8 := [20, 0, 226, 184, 0, 63, 184, 0, 162, 28]
abbrev dktX1_stone_1 : List UInt8 := dkwX1_stone_1 ++ dktX1_stone_2
def dkwX1_stone_0 : List UInt8 := [27, 42, 180, 0, 108, 180, 0, 154, 180, 0, 214, 185, 0, 128, 1, 0, 184, 0, 223, 28, 133, 9]
abbrev dktX1_stone_0 : List UInt8 := dkwX1_stone_0 ++ dktX1_stone_1
theorem dksX1_stone_0 : cX1_stone.data.toList.drop 0 = dktX1_stone_0 := by decide +kernel
theorem dksX1_stone_1 : cX1_stone.data.toList.drop 22 = dktX1_stone_1 := dk_seg dksX1_stone_0 22 rfl rfl
theorem dksX1_stone_2 : cX1_stone.data.toList.drop 32 = dktX1_stone_2 := dk_seg dksX1_stone_1 10 rfl rfl
theorem dksX1_stone_3 : cX1_stone.data.toList.drop 60 = dktX1_stone_3 := dk_seg dksX1_stone_2 28 rfl rfl
theorem dksX1_stone_4 : cX1_stone.data.toList.drop 84 = dktX1_stone_4 := dk_seg dksX1_stone_3 24 rfl rfl
theorem dksX1_stone_5 : cX1_stone.data.toList.drop 107 = dktX1_stone_5 := dk_seg dksX1_stone_4 23 rfl rfl
theorem dksX1_stone_6 : cX1_stone.data.toList.drop 130 = dktX1_stone_6 := dk_seg dksX1_stone_5 23 rfl rfl
theorem dX1_stone_0 : decode cX1_stone 0 = .ok (.iload_n 1, 1) := dk_27 (dk_at dksX1_stone_0 0 rfl rfl)
theorem dX1_stone_1 : decode cX1_stone 1 = .ok (.aload_n 0, 1) := dk_42 (dk_at dksX1_stone_0 1 rfl rfl)
theorem dX1_stone_2 : decode cX1_stone 2 = .ok (.getfield 108, 3) := dk_180 0 108 (dk_at dksX1_stone_0 2 rfl rfl)
theorem dX1_stone_5 : decode cX1_stone 5 = .ok (.getfield 154, 3) := dk_180 0 154 (dk_at dksX1_stone_0 5 rfl rfl)
theorem dX1_stone_8 : decode cX1_stone 8 = .ok (.getfield 214, 3) := dk_180 0 214 (dk_at dksX1_stone_0 8 rfl rfl)
theorem dX1_stone_11 : decode cX1_stone 11 = .ok (.invokeinterface 128 1, 5) := by decide +kernel
theorem dX1_stone_16 : decode cX1_stone 16 = .ok (.invokestatic 223, 3) := dk_184 0 223 (dk_at dksX1_stone_0 16 rfl rfl)
theorem dX1_stone_19 : decode cX1_stone 19 = .ok (.iload_n 2, 1) := dk_28 (dk_at dksX1_stone_0 19 rfl rfl)
theorem dX1_stone_20 : decode cX1_stone 20 = .ok (.i2l, 1) := dk_133 (dk_at dksX1_stone_0 20 rfl rfl)
theorem dX1_stone_21 : decode cX1_stone 21 = .ok (.lconst 0, 1) := dk_9 (dk_at dksX1_stone_0 21 rfl rfl)
theorem dX1_stone_22 : decode cX1_stone 22 = .ok (.ldc2_w 226, 3) := dk_20 0 226 (dk_at dksX1_stone_1 0 rfl rfl)
theorem dX1_stone_25 : decode cX1_stone 25 = .ok (.invokestatic 63, 3) := dk_184 0 63 (dk_at dksX1_stone_1 3 rfl rfl)
theorem dX1_stone_28 : decode cX1_stone 28 = .ok (.invokestatic 162, 3) := dk_184 0 162 (dk_at dksX1_stone_1 6 rfl rfl)
theorem dX1_stone_31 : decode cX1_stone 31 = .ok (.iload_n 2, 1) := dk_28 (dk_at dksX1_stone_1 9 rfl rfl)
theorem dX1_stone_32 : decode cX1_stone 32 = .ok (.tableswitch 97 0 2 #[28, 51, 74], 28) := by decide +kernel
theorem dX1_stone_60 : decode cX1_stone 60 = .ok (.aload_n 0, 1) := dk_42 (dk_at dksX1_stone_3 0 rfl rfl)
theorem dX1_stone_61 : decode cX1_stone 61 = .ok (.getfield 108, 3) := dk_180 0 108 (dk_at dksX1_stone_3 1 rfl rfl)
theorem dX1_stone_64 : decode cX1_stone 64 = .ok (.getfield 154, 3) := dk_180 0 154 (dk_at dksX1_stone_3 4 rfl rfl)
theorem dX1_stone_67 : decode cX1_stone 67 = .ok (.getfield 214, 3) := dk_180 0 214 (dk_at dksX1_stone_3 7 rfl rfl)
theorem dX1_stone_70 : decode cX1_stone 70 = .ok (.iload_n 1, 1) := dk_27 (dk_at dksX1_stone_3 10 rfl rfl)
theorem dX1_stone_71 : decode cX1_stone 71 = .ok (.invokeinterface 136 2, 5) := by decide +kernel
theorem dX1_stone_76 : decode cX1_stone 76 = .ok (.checkcast 45, 3) := dk_192 0 45 (dk_at dksX1_stone_3 16 rfl rfl)
theorem dX1_stone_79 : decode cX1_stone 79 = .ok (.getfield 44, 3) := dk_180 0 44 (dk_at dksX1_stone_3 19 rfl rfl)
theorem dX1_stone_82 : decode cX1_stone 82 = .ok (.ireturn, 1) := dk_172 (dk_at dksX1_stone_3 22 rfl rfl)
theorem dX1_stone_83 : decode cX1_stone 83 = .ok (.aload_n 0, 1) := dk_42 (dk_at dksX1_stone_3 23 rfl rfl)
theorem dX1_stone_84 : decode cX1_stone 84 = .ok (.getfield 108, 3) := dk_180 0 108 (dk_at dksX1_stone_4 0 rfl rfl)
theorem dX1_stone_87 : decode cX1_stone 87 = .ok (.getfield 154, 3) := dk_180 0 154 (dk_at dksX1_stone_4 3 rfl rfl)
theorem dX1_stone_90 : decode cX1_stone 90 = .ok (.getfield 214, 3) := dk_180 0 214 (dk_at dksX1_stone_4 6 rfl rfl)
theorem dX1_stone_93 : decode cX1_stone 93 = .ok (.iload_n 1, 1) := dk_27 (dk_at dksX1_stone_4 9 rfl rfl)
theorem dX1_stone_94 : decode cX1_stone 94 = .ok (.invokeinterface 136 2, 5) := by decide +kernel
theorem dX1_stone_99 : decode cX1_stone 99 = .ok (.checkcast 45, 3) := dk_192 0 45 (dk_at dksX1_stone_4 15 rfl rfl)
theorem dX1_stone_102 : decode cX1_stone 102 = .ok (.getfield 50, 3) := dk_180 0 50 (dk_at dksX1_stone_4 18 rfl rfl)
theorem dX1_stone_105 : decode cX1_stone 105 = .ok (.ireturn, 1) := dk_172 (dk_at dksX1_stone_4 21 rfl rfl)
theorem dX1_stone_106 : decode cX1_stone 106 = .ok (.aload_n 0, 1) := dk_42 (dk_at dksX1_stone_4 22 rfl rfl)
theorem dX1_stone_107 : decode cX1_stone 107 = .ok (.getfield 108, 3) := dk_180 0 108 (dk_at dksX1_stone_5 0 rfl rfl)
theorem dX1_stone_110 : decode cX1_stone 110 = .ok (.getfield 154, 3) := dk_180 0 154 (dk_at dksX1_stone_5 3 rfl rfl)
theorem dX1_stone_113 : decode cX1_stone 113 = .ok (.getfield 228, 3) := dk_180 0 228 (dk_at dksX1_stone_5 6 rfl rfl)
theorem dX1_stone_116 : decode cX1_stone 116 = .ok (.iload_n 1, 1) := dk_27 (dk_at dksX1_stone_5 9 rfl rfl)
theorem dX1_stone_117 : decode cX1_stone 117 = .ok (.invokeinterface 136 2, 5) := by decide +kernel
theorem dX1_stone_122 : decode cX1_stone 122 = .ok (.checkcast 68, 3) := dk_192 0 68 (dk_at dksX1_stone_5 15 rfl rfl)
theorem dX1_stone_125 : decode cX1_stone 125 = .ok (.invokevirtual 231, 3) := dk_182 0 231 (dk_at dksX1_stone_5 18 rfl rfl)
theorem dX1_stone_128 : decode cX1_stone 128 = .ok (.ireturn, 1) := dk_172 (dk_at dksX1_stone_5 21 rfl rfl)
theorem dX1_stone_129 : decode cX1_stone 129 = .ok (.aload_n 0, 1) := dk_42 (dk_at dksX1_stone_5 22 rfl rfl)
theorem dX1_stone_130 : decode cX1_stone 130 = .ok (.getfield 108, 3) := dk_180 0 108 (dk_at dksX1_stone_6 0 rfl rfl)
theorem dX1_stone_133 : decode cX1_stone 133 = .ok (.iload_n 1, 1) := dk_27 (dk_at dksX1_stone_6 3 rfl rfl)
theorem dX1_stone_134 : decode cX1_stone 134 = .ok (.invokevirtual 234, 3) := dk_182 0 234 (dk_at dksX1_stone_6 4 rfl rfl)
theorem dX1_stone_137 : decode cX1_stone 137 = .ok (.ireturn, 1) := dk_172 (dk_at dksX1_stone_6 7 rfl rfl)
abbrev cX1_requireElement : ByteArray := prog_1_method_12_code
def yX1_requireElement : MethodName := ⟨RX1, "requireElement", "(II)V"⟩
def dkwX1_requireElement_0 : List UInt8 := [26, 133, 9, 27, 4, 100, 133, 184, 0, 63, 154, 0, 11, 187, 0, 121, 89, 183, 0, 123, 191, 177]
abbrev dktX1_requireElement_0 : List UInt8 := dkwX1_requireElement_0 ++ []
theorem dksX1_requireElement_0 : cX1_requireElement.data.toList.drop 0 = dktX1_requireElement_0 := by decide +kernel
theorem dX1_requireElement_0 : decode cX1_requireElement 0 = .ok (.iload_n 0, 1) := dk_26 (dk_at dksX1_requireElement_0 0 rfl rfl)
theorem dX1_requireElement_1 : decode cX1_requireElement 1 = .ok (.i2l, 1) := dk_133 (dk_at dksX1_requireElement_0 1 rfl rfl)
theorem dX1_requireElement_2 : decode cX1_requireElement 2 = .ok (.lconst 0, 1) := dk_9 (dk_at dksX1_requireElement_0 2 rfl rfl)
theorem dX1_requireElement_3 : decode cX1_requireElement 3 = .ok (.iload_n 1, 1) := dk_27 (dk_at dksX1_requireElement_0 3 rfl rfl)
theorem dX1_requireElement_4 : decode cX1_requireElement 4 = .ok (.iconst 1, 1) := dk_4 (dk_at dksX1_requireElement_0 4 rfl rfl)
theorem dX1_requireElement_5 : decode cX1_requireElement 5 = .ok (.isub, 1) := dk_100 (dk_at dksX1_requireElement_0 5 rfl rfl)
theorem dX1_requireElement_6 : decode cX1_requireElement 6 = .ok (.i2l, 1) := dk_133 (dk_at dksX1_requireElement_0 6 rfl rfl)
theorem dX1_requireElement_7 : decode cX1_requireElement 7 = .ok (.invokestatic 63, 3) := dk_184 0 63 (dk_at dksX1_requireElement_0 7 rfl rfl)
theorem dX1_requireElement_10 : decode cX1_requireElement 10 = .ok (.ifCond .ne 11, 3) := dk_154 0 11 (dk_at dksX1_requireElement_0 10 rfl rfl)
theorem dX1_requireElement_13 : decode cX1_requireElement 13 = .ok (.new 121, 3) := dk_187 0 121 (dk_at dksX1_requireElement_0 13 rfl rfl)
theorem dX1_requireElement_16 : decode cX1_requireElement 16 = .ok (.dup, 1) := dk_89 (dk_at dksX1_requireElement_0 16 rfl rfl)
theorem dX1_requireElement_17 : decode cX1_requireElement 17 = .ok (.invokespecial 123, 3) := dk_183 0 123 (dk_at dksX1_requireElement_0 17 rfl rfl)
theorem dX1_requireElement_20 : decode cX1_requireElement 20 = .ok (.athrow, 1) := dk_191 (dk_at dksX1_requireElement_0 20 rfl rfl)
theorem dX1_requireElement_21 : decode cX1_requireElement 21 = .ok (.return_, 1) := dk_177 (dk_at dksX1_requireElement_0 21 rfl rfl)
abbrev cX1_polygon : ByteArray := prog_1_method_24_code
def yX1_polygon : MethodName := ⟨RX1, "polygon", "(II)I"⟩
def dkwX1_polygon_2 : List UInt8 := [153, 0, 7, 4, 167, 0, 4, 3, 172]
abbrev dktX1_polygon_2 : List UInt8 := dkwX1_polygon_2 ++ []
def dkwX1_polygon_1 : List UInt8 := [180, 0, 239, 167, 0, 27, 28, 4, 160, 0, 10, 45, 182, 0, 242, 167, 0, 15, 45, 180, 0, 146]
abbrev dktX1_polygon_1 : List UInt8 := dkwX1_polygon_1 ++ dktX1_polygon_2
def dkwX1_polygon_0 : List UInt8 := [42, 27, 182, 0, 142, 78, 28, 133, 9, 20, 0, 237, 184, 0, 63, 184, 0, 162, 28, 154, 0, 10, 45]
abbrev dktX1_polygon_0 : List UInt8 := dkwX1_polygon_0 ++ dktX1_polygon_1
theorem dksX1_polygon_0 : cX1_polygon.data.toList.drop 0 = dktX1_polygon_0 := by decide +kernel
theorem dksX1_polygon_1 : cX1_polygon.data.toList.drop 23 = dktX1_polygon_1 := dk_seg dksX1_polygon_0 23 rfl rfl
theorem dksX1_polygon_2 : cX1_polygon.data.toList.drop 45 = dktX1_polygon_2 := dk_seg dksX1_polygon_1 22 rfl rfl
theorem dX1_polygon_0 : decode cX1_polygon 0 = .ok (.aload_n 0, 1) := dk_42 (dk_at dksX1_polygon_0 0 rfl rfl)
theorem dX1_polygon_1 : decode cX1_polygon 1 = .ok (.iload_n 1, 1) := dk_27 (dk_at dksX1_polygon_0 1 rfl rfl)
theorem dX1_polygon_2 : decode cX1_polygon 2 = .ok (.invokevirtual 142, 3) := dk_182 0 142 (dk_at dksX1_polygon_0 2 rfl rfl)
theorem dX1_polygon_5 : decode cX1_polygon 5 = .ok (.astore_n 3, 1) := dk_78 (dk_at dksX1_polygon_0 5 rfl rfl)
theorem dX1_polygon_6 : decode cX1_polygon 6 = .ok (.iload_n 2, 1) := dk_28 (dk_at dksX1_polygon_0 6 rfl rfl)
theorem dX1_polygon_7 : decode cX1_polygon 7 = .ok (.i2l, 1) := dk_133 (dk_at dksX1_polygon_0 7 rfl rfl)
theorem dX1_polygon_8 : decode cX1_polygon 8 = .ok (.lconst 0, 1) := dk_9 (dk_at dksX1_polygon_0 8 rfl rfl)
theorem dX1_polygon_9 : decode cX1_polygon 9 = .ok (.ldc2_w 237, 3) := dk_20 0 237 (dk_at dksX1_polygon_0 9 rfl rfl)
theorem dX1_polygon_12 : decode cX1_polygon 12 = .ok (.invokestatic 63, 3) := dk_184 0 63 (dk_at dksX1_polygon_0 12 rfl rfl)
theorem dX1_polygon_15 : decode cX1_polygon 15 = .ok (.invokestatic 162, 3) := dk_184 0 162 (dk_at dksX1_polygon_0 15 rfl rfl)
theorem dX1_polygon_18 : decode cX1_polygon 18 = .ok (.iload_n 2, 1) := dk_28 (dk_at dksX1_polygon_0 18 rfl rfl)
theorem dX1_polygon_19 : decode cX1_polygon 19 = .ok (.ifCond .ne 10, 3) := dk_154 0 10 (dk_at dksX1_polygon_0 19 rfl rfl)
theorem dX1_polygon_22 : decode cX1_polygon 22 = .ok (.aload_n 3, 1) := dk_45 (dk_at dksX1_polygon_0 22 rfl rfl)
theorem dX1_polygon_23 : decode cX1_polygon 23 = .ok (.getfield 239, 3) := dk_180 0 239 (dk_at dksX1_polygon_1 0 rfl rfl)
theorem dX1_polygon_26 : decode cX1_polygon 26 = .ok (.goto 27, 3) := dk_167 0 27 (dk_at dksX1_polygon_1 3 rfl rfl)
theorem dX1_polygon_29 : decode cX1_polygon 29 = .ok (.iload_n 2, 1) := dk_28 (dk_at dksX1_polygon_1 6 rfl rfl)
theorem dX1_polygon_30 : decode cX1_polygon 30 = .ok (.iconst 1, 1) := dk_4 (dk_at dksX1_polygon_1 7 rfl rfl)
theorem dX1_polygon_31 : decode cX1_polygon 31 = .ok (.if_icmp .ne 10, 3) := dk_160 0 10 (dk_at dksX1_polygon_1 8 rfl rfl)
theorem dX1_polygon_34 : decode cX1_polygon 34 = .ok (.aload_n 3, 1) := dk_45 (dk_at dksX1_polygon_1 11 rfl rfl)
theorem dX1_polygon_35 : decode cX1_polygon 35 = .ok (.invokevirtual 242, 3) := dk_182 0 242 (dk_at dksX1_polygon_1 12 rfl rfl)
theorem dX1_polygon_38 : decode cX1_polygon 38 = .ok (.goto 15, 3) := dk_167 0 15 (dk_at dksX1_polygon_1 15 rfl rfl)
theorem dX1_polygon_41 : decode cX1_polygon 41 = .ok (.aload_n 3, 1) := dk_45 (dk_at dksX1_polygon_1 18 rfl rfl)
theorem dX1_polygon_42 : decode cX1_polygon 42 = .ok (.getfield 146, 3) := dk_180 0 146 (dk_at dksX1_polygon_1 19 rfl rfl)
theorem dX1_polygon_45 : decode cX1_polygon 45 = .ok (.ifCond .eq 7, 3) := dk_153 0 7 (dk_at dksX1_polygon_2 0 rfl rfl)
theorem dX1_polygon_48 : decode cX1_polygon 48 = .ok (.iconst 1, 1) := dk_4 (dk_at dksX1_polygon_2 3 rfl rfl)
theorem dX1_polygon_49 : decode cX1_polygon 49 = .ok (.goto 4, 3) := dk_167 0 4 (dk_at dksX1_polygon_2 4 rfl rfl)
theorem dX1_polygon_52 : decode cX1_polygon 52 = .ok (.iconst 0, 1) := dk_3 (dk_at dksX1_polygon_2 7 rfl rfl)
theorem dX1_polygon_53 : decode cX1_polygon 53 = .ok (.ireturn, 1) := dk_172 (dk_at dksX1_polygon_2 8 rfl rfl)
abbrev cX1_polygonAt : ByteArray := prog_1_method_13_code
def yX1_polygonAt : MethodName := ⟨RX1, "polygonAt", "(I)LCornerClaims$Polygon;"⟩
def dkwX1_polygonAt_2 : List UInt8 := [176]
abbrev dktX1_polygonAt_2 : List UInt8 := dkwX1_polygonAt_2 ++ []
def dkwX1_polygonAt_1 : List UInt8 := [187, 0, 133, 89, 183, 0, 135, 191, 42, 180, 0, 108, 180, 0, 124, 27, 185, 0, 136, 2, 0, 192, 0, 140]
abbrev dktX1_polygonAt_1 : List UInt8 := dkwX1_polygonAt_1 ++ dktX1_polygonAt_2
def dkwX1_polygonAt_0 : List UInt8 := [27, 133, 9, 42, 180, 0, 108, 180, 0, 124, 185, 0, 128, 1, 0, 4, 100, 133, 184, 0, 63, 154, 0, 11]
abbrev dktX1_polygonAt_0 : List UInt8 := dkwX1_polygonAt_0 ++ dktX1_polygonAt_1
theorem dksX1_polygonAt_0 : cX1_polygonAt.data.toList.drop 0 = dktX1_polygonAt_0 := by decide +kernel
theorem dksX1_polygonAt_1 : cX1_polygonAt.data.toList.drop 24 = dktX1_polygonAt_1 := dk_seg dksX1_polygonAt_0 24 rfl rfl
theorem dksX1_polygonAt_2 : cX1_polygonAt.data.toList.drop 48 = dktX1_polygonAt_2 := dk_seg dksX1_polygonAt_1 24 rfl rfl
theorem dX1_polygonAt_0 : decode cX1_polygonAt 0 = .ok (.iload_n 1, 1) := dk_27 (dk_at dksX1_polygonAt_0 0 rfl rfl)
theorem dX1_polygonAt_1 : decode cX1_polygonAt 1 = .ok (.i2l, 1) := dk_133 (dk_at dksX1_polygonAt_0 1 rfl rfl)
theorem dX1_polygonAt_2 : decode cX1_polygonAt 2 = .ok (.lconst 0, 1) := dk_9 (dk_at dksX1_polygonAt_0 2 rfl rfl)
theorem dX1_polygonAt_3 : decode cX1_polygonAt 3 = .ok (.aload_n 0, 1) := dk_42 (dk_at dksX1_polygonAt_0 3 rfl rfl)
theorem dX1_polygonAt_4 : decode cX1_polygonAt 4 = .ok (.getfield 108, 3) := dk_180 0 108 (dk_at dksX1_polygonAt_0 4 rfl rfl)
theorem dX1_polygonAt_7 : decode cX1_polygonAt 7 = .ok (.getfield 124, 3) := dk_180 0 124 (dk_at dksX1_polygonAt_0 7 rfl rfl)
theorem dX1_polygonAt_10 : decode cX1_polygonAt 10 = .ok (.invokeinterface 128 1, 5) := by decide +kernel
theorem dX1_polygonAt_15 : decode cX1_polygonAt 15 = .ok (.iconst 1, 1) := dk_4 (dk_at dksX1_polygonAt_0 15 rfl rfl)
theorem dX1_polygonAt_16 : decode cX1_polygonAt 16 = .ok (.isub, 1) := dk_100 (dk_at dksX1_polygonAt_0 16 rfl rfl)
theorem dX1_polygonAt_17 : decode cX1_polygonAt 17 = .ok (.i2l, 1) := dk_133 (dk_at dksX1_polygonAt_0 17 rfl rfl)
theorem dX1_polygonAt_18 : decode cX1_polygonAt 18 = .ok (.invokestatic 63, 3) := dk_184 0 63 (dk_at dksX1_polygonAt_0 18 rfl rfl)
theorem dX1_polygonAt_21 : decode cX1_polygonAt 21 = .ok (.ifCond .ne 11, 3) := dk_154 0 11 (dk_at dksX1_polygonAt_0 21 rfl rfl)
theorem dX1_polygonAt_24 : decode cX1_polygonAt 24 = .ok (.new 133, 3) := dk_187 0 133 (dk_at dksX1_polygonAt_1 0 rfl rfl)
theorem dX1_polygonAt_27 : decode cX1_polygonAt 27 = .ok (.dup, 1) := dk_89 (dk_at dksX1_polygonAt_1 3 rfl rfl)
theorem dX1_polygonAt_28 : decode cX1_polygonAt 28 = .ok (.invokespecial 135, 3) := dk_183 0 135 (dk_at dksX1_polygonAt_1 4 rfl rfl)
theorem dX1_polygonAt_31 : decode cX1_polygonAt 31 = .ok (.athrow, 1) := dk_191 (dk_at dksX1_polygonAt_1 7 rfl rfl)
theorem dX1_polygonAt_32 : decode cX1_polygonAt 32 = .ok (.aload_n 0, 1) := dk_42 (dk_at dksX1_polygonAt_1 8 rfl rfl)
theorem dX1_polygonAt_33 : decode cX1_polygonAt 33 = .ok (.getfield 108, 3) := dk_180 0 108 (dk_at dksX1_polygonAt_1 9 rfl rfl)
theorem dX1_polygonAt_36 : decode cX1_polygonAt 36 = .ok (.getfield 124, 3) := dk_180 0 124 (dk_at dksX1_polygonAt_1 12 rfl rfl)
theorem dX1_polygonAt_39 : decode cX1_polygonAt 39 = .ok (.iload_n 1, 1) := dk_27 (dk_at dksX1_polygonAt_1 15 rfl rfl)
theorem dX1_polygonAt_40 : decode cX1_polygonAt 40 = .ok (.invokeinterface 136 2, 5) := by decide +kernel
theorem dX1_polygonAt_45 : decode cX1_polygonAt 45 = .ok (.checkcast 140, 3) := dk_192 0 140 (dk_at dksX1_polygonAt_1 21 rfl rfl)
theorem dX1_polygonAt_48 : decode cX1_polygonAt 48 = .ok (.areturn, 1) := dk_176 (dk_at dksX1_polygonAt_2 0 rfl rfl)
abbrev cX1_cornerAt : ByteArray := prog_1_method_25_code
def yX1_cornerAt : MethodName := ⟨RX1, "cornerAt", "(II)I"⟩
def dkwX1_cornerAt_0 : List UInt8 := [42, 27, 182, 0, 142, 78, 28, 45, 182, 0, 242, 184, 0, 223, 45, 28, 182, 0, 243, 182, 0, 247, 172]
abbrev dktX1_cornerAt_0 : List UInt8 := dkwX1_cornerAt_0 ++ []
theorem dksX1_cornerAt_0 : cX1_cornerAt.data.toList.drop 0 = dktX1_cornerAt_0 := by decide +kernel
theorem dX1_cornerAt_0 : decode cX1_cornerAt 0 = .ok (.aload_n 0, 1) := dk_42 (dk_at dksX1_cornerAt_0 0 rfl rfl)
theorem dX1_cornerAt_1 : decode cX1_cornerAt 1 = .ok (.iload_n 1, 1) := dk_27 (dk_at dksX1_cornerAt_0 1 rfl rfl)
theorem dX1_cornerAt_2 : decode cX1_cornerAt 2 = .ok (.invokevirtual 142, 3) := dk_182 0 142 (dk_at dksX1_cornerAt_0 2 rfl rfl)
theorem dX1_cornerAt_5 : decode cX1_cornerAt 5 = .ok (.astore_n 3, 1) := dk_78 (dk_at dksX1_cornerAt_0 5 rfl rfl)
theorem dX1_cornerAt_6 : decode cX1_cornerAt 6 = .ok (.iload_n 2, 1) := dk_28 (dk_at dksX1_cornerAt_0 6 rfl rfl)
theorem dX1_cornerAt_7 : decode cX1_cornerAt 7 = .ok (.aload_n 3, 1) := dk_45 (dk_at dksX1_cornerAt_0 7 rfl rfl)
theorem dX1_cornerAt_8 : decode cX1_cornerAt 8 = .ok (.invokevirtual 242, 3) := dk_182 0 242 (dk_at dksX1_cornerAt_0 8 rfl rfl)
theorem dX1_cornerAt_11 : decode cX1_cornerAt 11 = .ok (.invokestatic 223, 3) := dk_184 0 223 (dk_at dksX1_cornerAt_0 11 rfl rfl)
theorem dX1_cornerAt_14 : decode cX1_cornerAt 14 = .ok (.aload_n 3, 1) := dk_45 (dk_at dksX1_cornerAt_0 14 rfl rfl)
theorem dX1_cornerAt_15 : decode cX1_cornerAt 15 = .ok (.iload_n 2, 1) := dk_28 (dk_at dksX1_cornerAt_0 15 rfl rfl)
theorem dX1_cornerAt_16 : decode cX1_cornerAt 16 = .ok (.invokevirtual 243, 3) := dk_182 0 243 (dk_at dksX1_cornerAt_0 16 rfl rfl)
theorem dX1_cornerAt_19 : decode cX1_cornerAt 19 = .ok (.invokevirtual 247, 3) := dk_182 0 247 (dk_at dksX1_cornerAt_0 19 rfl rfl)
theorem dX1_cornerAt_22 : decode cX1_cornerAt 22 = .ok (.ireturn, 1) := dk_172 (dk_at dksX1_cornerAt_0 22 rfl rfl)
abbrev cX1_reason : ByteArray := prog_1_method_26_code
def yX1_reason : MethodName := ⟨RX1, "reason", "(III)I"⟩
def dkwX1_reason_0 : List UInt8 := [42, 27, 182, 0, 142, 58, 4, 42, 180, 0, 108, 25, 4, 42, 28, 29, 182, 0, 249, 182, 0, 253, 172]
abbrev dktX1_reason_0 : List UInt8 := dkwX1_reason_0 ++ []
theorem dksX1_reason_0 : cX1_reason.data.toList.drop 0 = dktX1_reason_0 := by decide +kernel
theorem dX1_reason_0 : decode cX1_reason 0 = .ok (.aload_n 0, 1) := dk_42 (dk_at dksX1_reason_0 0 rfl rfl)
theorem dX1_reason_1 : decode cX1_reason 1 = .ok (.iload_n 1, 1) := dk_27 (dk_at dksX1_reason_0 1 rfl rfl)
theorem dX1_reason_2 : decode cX1_reason 2 = .ok (.invokevirtual 142, 3) := dk_182 0 142 (dk_at dksX1_reason_0 2 rfl rfl)
theorem dX1_reason_5 : decode cX1_reason 5 = .ok (.astore 4, 2) := dk_58 4 (dk_at dksX1_reason_0 5 rfl rfl)
theorem dX1_reason_7 : decode cX1_reason 7 = .ok (.aload_n 0, 1) := dk_42 (dk_at dksX1_reason_0 7 rfl rfl)
theorem dX1_reason_8 : decode cX1_reason 8 = .ok (.getfield 108, 3) := dk_180 0 108 (dk_at dksX1_reason_0 8 rfl rfl)
theorem dX1_reason_11 : decode cX1_reason 11 = .ok (.aload 4, 2) := dk_25 4 (dk_at dksX1_reason_0 11 rfl rfl)
theorem dX1_reason_13 : decode cX1_reason 13 = .ok (.aload_n 0, 1) := dk_42 (dk_at dksX1_reason_0 13 rfl rfl)
theorem dX1_reason_14 : decode cX1_reason 14 = .ok (.iload_n 2, 1) := dk_28 (dk_at dksX1_reason_0 14 rfl rfl)
theorem dX1_reason_15 : decode cX1_reason 15 = .ok (.iload_n 3, 1) := dk_29 (dk_at dksX1_reason_0 15 rfl rfl)
theorem dX1_reason_16 : decode cX1_reason 16 = .ok (.invokevirtual 249, 3) := dk_182 0 249 (dk_at dksX1_reason_0 16 rfl rfl)
theorem dX1_reason_19 : decode cX1_reason 19 = .ok (.invokevirtual 253, 3) := dk_182 0 253 (dk_at dksX1_reason_0 19 rfl rfl)
theorem dX1_reason_22 : decode cX1_reason 22 = .ok (.ireturn, 1) := dk_172 (dk_at dksX1_reason_0 22 rfl rfl)
abbrev cX1_pointAt : ByteArray := prog_1_method_15_code
def yX1_pointAt : MethodName := ⟨RX1, "pointAt", "(II)LCornerClaims$Point;"⟩
def dkwX1_pointAt_1 : List UInt8 := [176]
abbrev dktX1_pointAt_1 : List UInt8 := dkwX1_pointAt_1 ++ []
def dkwX1_pointAt_0 : List UInt8 := [42, 180, 0, 108, 180, 0, 154, 27, 28, 182, 0, 158, 184, 0, 162, 187, 0, 45, 89, 27, 28, 183, 0, 165]
abbrev dktX1_pointAt_0 : List UInt8 := dkwX1_pointAt_0 ++ dktX1_pointAt_1
theorem dksX1_pointAt_0 : cX1_pointAt.data.toList.drop 0 = dktX1_pointAt_0 := by decide +kernel
theorem dksX1_pointAt_1 : cX1_pointAt.data.toList.drop 24 = dktX1_pointAt_1 := dk_seg dksX1_pointAt_0 24 rfl rfl
theorem dX1_pointAt_0 : decode cX1_pointAt 0 = .ok (.aload_n 0, 1) := dk_42 (dk_at dksX1_pointAt_0 0 rfl rfl)
theorem dX1_pointAt_1 : decode cX1_pointAt 1 = .ok (.getfield 108, 3) := dk_180 0 108 (dk_at dksX1_pointAt_0 1 rfl rfl)
theorem dX1_pointAt_4 : decode cX1_pointAt 4 = .ok (.getfield 154, 3) := dk_180 0 154 (dk_at dksX1_pointAt_0 4 rfl rfl)
theorem dX1_pointAt_7 : decode cX1_pointAt 7 = .ok (.iload_n 1, 1) := dk_27 (dk_at dksX1_pointAt_0 7 rfl rfl)
theorem dX1_pointAt_8 : decode cX1_pointAt 8 = .ok (.iload_n 2, 1) := dk_28 (dk_at dksX1_pointAt_0 8 rfl rfl)
theorem dX1_pointAt_9 : decode cX1_pointAt 9 = .ok (.invokevirtual 158, 3) := dk_182 0 158 (dk_at dksX1_pointAt_0 9 rfl rfl)
theorem dX1_pointAt_12 : decode cX1_pointAt 12 = .ok (.invokestatic 162, 3) := dk_184 0 162 (dk_at dksX1_pointAt_0 12 rfl rfl)
theorem dX1_pointAt_15 : decode cX1_pointAt 15 = .ok (.new 45, 3) := dk_187 0 45 (dk_at dksX1_pointAt_0 15 rfl rfl)
theorem dX1_pointAt_18 : decode cX1_pointAt 18 = .ok (.dup, 1) := dk_89 (dk_at dksX1_pointAt_0 18 rfl rfl)
theorem dX1_pointAt_19 : decode cX1_pointAt 19 = .ok (.iload_n 1, 1) := dk_27 (dk_at dksX1_pointAt_0 19 rfl rfl)
theorem dX1_pointAt_20 : decode cX1_pointAt 20 = .ok (.iload_n 2, 1) := dk_28 (dk_at dksX1_pointAt_0 20 rfl rfl)
theorem dX1_pointAt_21 : decode cX1_pointAt 21 = .ok (.invokespecial 165, 3) := dk_183 0 165 (dk_at dksX1_pointAt_0 21 rfl rfl)
theorem dX1_pointAt_24 : decode cX1_pointAt 24 = .ok (.areturn, 1) := dk_176 (dk_at dksX1_pointAt_1 0 rfl rfl)
abbrev cX1_where : ByteArray := prog_1_method_27_code
def yX1_where : MethodName := ⟨RX1, "where", "(III)I"⟩
def dkwX1_where_1 : List UInt8 := [25, 4, 25, 5, 182, 1, 1, 172]
abbrev dktX1_where_1 : List UInt8 := dkwX1_where_1 ++ []
def dkwX1_where_0 : List UInt8 := [42, 27, 182, 0, 142, 58, 4, 42, 28, 29, 182, 0, 249, 58, 5, 25, 4, 180, 0, 146, 184, 0, 150]
abbrev dktX1_where_0 : List UInt8 := dkwX1_where_0 ++ dktX1_where_1
theorem dksX1_where_0 : cX1_where.data.toList.drop 0 = dktX1_where_0 := by decide +kernel
theorem dksX1_where_1 : cX1_where.data.toList.drop 23 = dktX1_where_1 := dk_seg dksX1_where_0 23 rfl rfl
theorem dX1_where_0 : decode cX1_where 0 = .ok (.aload_n 0, 1) := dk_42 (dk_at dksX1_where_0 0 rfl rfl)
theorem dX1_where_1 : decode cX1_where 1 = .ok (.iload_n 1, 1) := dk_27 (dk_at dksX1_where_0 1 rfl rfl)
theorem dX1_where_2 : decode cX1_where 2 = .ok (.invokevirtual 142, 3) := dk_182 0 142 (dk_at dksX1_where_0 2 rfl rfl)
theorem dX1_where_5 : decode cX1_where 5 = .ok (.astore 4, 2) := dk_58 4 (dk_at dksX1_where_0 5 rfl rfl)
theorem dX1_where_7 : decode cX1_where 7 = .ok (.aload_n 0, 1) := dk_42 (dk_at dksX1_where_0 7 rfl rfl)
theorem dX1_where_8 : decode cX1_where 8 = .ok (.iload_n 2, 1) := dk_28 (dk_at dksX1_where_0 8 rfl rfl)
theorem dX1_where_9 : decode cX1_where 9 = .ok (.iload_n 3, 1) := dk_29 (dk_at dksX1_where_0 9 rfl rfl)
theorem dX1_where_10 : decode cX1_where 10 = .ok (.invokevirtual 249, 3) := dk_182 0 249 (dk_at dksX1_where_0 10 rfl rfl)
theorem dX1_where_13 : decode cX1_where 13 = .ok (.astore 5, 2) := dk_58 5 (dk_at dksX1_where_0 13 rfl rfl)
theorem dX1_where_15 : decode cX1_where 15 = .ok (.aload 4, 2) := dk_25 4 (dk_at dksX1_where_0 15 rfl rfl)
theorem dX1_where_17 : decode cX1_where 17 = .ok (.getfield 146, 3) := dk_180 0 146 (dk_at dksX1_where_0 17 rfl rfl)
theorem dX1_where_20 : decode cX1_where 20 = .ok (.invokestatic 150, 3) := dk_184 0 150 (dk_at dksX1_where_0 20 rfl rfl)
theorem dX1_where_23 : decode cX1_where 23 = .ok (.aload 4, 2) := dk_25 4 (dk_at dksX1_where_1 0 rfl rfl)
theorem dX1_where_25 : decode cX1_where 25 = .ok (.aload 5, 2) := dk_25 5 (dk_at dksX1_where_1 2 rfl rfl)
theorem dX1_where_27 : decode cX1_where 27 = .ok (.invokevirtual 257, 3) := dk_182 1 1 (dk_at dksX1_where_1 4 rfl rfl)
theorem dX1_where_30 : decode cX1_where 30 = .ok (.ireturn, 1) := dk_172 (dk_at dksX1_where_1 7 rfl rfl)
abbrev cX1_requireState : ByteArray := prog_1_method_11_code
def yX1_requireState : MethodName := ⟨RX1, "requireState", "(Z)V"⟩
def dkwX1_requireState_0 : List UInt8 := [26, 154, 0, 11, 187, 0, 118, 89, 183, 0, 120, 191, 177]
abbrev dktX1_requireState_0 : List UInt8 := dkwX1_requireState_0 ++ []
theorem dksX1_requireState_0 : cX1_requireState.data.toList.drop 0 = dktX1_requireState_0 := by decide +kernel
theorem dX1_requireState_0 : decode cX1_requireState 0 = .ok (.iload_n 0, 1) := dk_26 (dk_at dksX1_requireState_0 0 rfl rfl)
theorem dX1_requireState_1 : decode cX1_requireState 1 = .ok (.ifCond .ne 11, 3) := dk_154 0 11 (dk_at dksX1_requireState_0 1 rfl rfl)
theorem dX1_requireState_4 : decode cX1_requireState 4 = .ok (.new 118, 3) := dk_187 0 118 (dk_at dksX1_requireState_0 4 rfl rfl)
theorem dX1_requireState_7 : decode cX1_requireState 7 = .ok (.dup, 1) := dk_89 (dk_at dksX1_requireState_0 7 rfl rfl)
theorem dX1_requireState_8 : decode cX1_requireState 8 = .ok (.invokespecial 120, 3) := dk_183 0 120 (dk_at dksX1_requireState_0 8 rfl rfl)
theorem dX1_requireState_11 : decode cX1_requireState 11 = .ok (.athrow, 1) := dk_191 (dk_at dksX1_requireState_0 11 rfl rfl)
theorem dX1_requireState_12 : decode cX1_requireState 12 = .ok (.return_, 1) := dk_177 (dk_at dksX1_requireState_0 12 rfl rfl)
abbrev cX1_area : ByteArray := prog_1_method_28_code
def yX1_area : MethodName := ⟨RX1, "area", "(I)I"⟩
def dkwX1_area_0 : List UInt8 := [42, 27, 182, 1, 5, 182, 1, 8, 172]
abbrev dktX1_area_0 : List UInt8 := dkwX1_area_0 ++ []
theorem dksX1_area_0 : cX1_area.data.toList.drop 0 = dktX1_area_0 := by decide +kernel
theorem dX1_area_0 : decode cX1_area 0 = .ok (.aload_n 0, 1) := dk_42 (dk_at dksX1_area_0 0 rfl rfl)
theorem dX1_area_1 : decode cX1_area 1 = .ok (.iload_n 1, 1) := dk_27 (dk_at dksX1_area_0 1 rfl rfl)
theorem dX1_area_2 : decode cX1_area 2 = .ok (.invokevirtual 261, 3) := dk_182 1 5 (dk_at dksX1_area_0 2 rfl rfl)
theorem dX1_area_5 : decode cX1_area 5 = .ok (.invokevirtual 264, 3) := dk_182 1 8 (dk_at dksX1_area_0 5 rfl rfl)
theorem dX1_area_8 : decode cX1_area 8 = .ok (.ireturn, 1) := dk_172 (dk_at dksX1_area_0 8 rfl rfl)
abbrev cX1_closedAt : ByteArray := prog_1_method_14_code
def yX1_closedAt : MethodName := ⟨RX1, "closedAt", "(I)LCornerClaims$Polygon;"⟩
def dkwX1_closedAt_0 : List UInt8 := [42, 27, 182, 0, 142, 77, 44, 180, 0, 146, 184, 0, 150, 44, 176]
abbrev dktX1_closedAt_0 : List UInt8 := dkwX1_closedAt_0 ++ []
theorem dksX1_closedAt_0 : cX1_closedAt.data.toList.drop 0 = dktX1_closedAt_0 := by decide +kernel
theorem dX1_closedAt_0 : decode cX1_closedAt 0 = .ok (.aload_n 0, 1) := dk_42 (dk_at dksX1_closedAt_0 0 rfl rfl)
theorem dX1_closedAt_1 : decode cX1_closedAt 1 = .ok (.iload_n 1, 1) := dk_27 (dk_at dksX1_closedAt_0 1 rfl rfl)
theorem dX1_closedAt_2 : decode cX1_closedAt 2 = .ok (.invokevirtual 142, 3) := dk_182 0 142 (dk_at dksX1_closedAt_0 2 rfl rfl)
theorem dX1_closedAt_5 : decode cX1_closedAt 5 = .ok (.astore_n 2, 1) := dk_77 (dk_at dksX1_closedAt_0 5 rfl rfl)
theorem dX1_closedAt_6 : decode cX1_closedAt 6 = .ok (.aload_n 2, 1) := dk_44 (dk_at dksX1_closedAt_0 6 rfl rfl)
theorem dX1_closedAt_7 : decode cX1_closedAt 7 = .ok (.getfield 146, 3) := dk_180 0 146 (dk_at dksX1_closedAt_0 7 rfl rfl)
theorem dX1_closedAt_10 : decode cX1_closedAt 10 = .ok (.invokestatic 150, 3) := dk_184 0 150 (dk_at dksX1_closedAt_0 10 rfl rfl)
theorem dX1_closedAt_13 : decode cX1_closedAt 13 = .ok (.aload_n 2, 1) := dk_44 (dk_at dksX1_closedAt_0 13 rfl rfl)
theorem dX1_closedAt_14 : decode cX1_closedAt 14 = .ok (.areturn, 1) := dk_176 (dk_at dksX1_closedAt_0 14 rfl rfl)
abbrev cX1_border : ByteArray := prog_1_method_29_code
def yX1_border : MethodName := ⟨RX1, "border", "(I)I"⟩
def dkwX1_border_0 : List UInt8 := [42, 27, 182, 1, 5, 182, 1, 10, 172]
abbrev dktX1_border_0 : List UInt8 := dkwX1_border_0 ++ []
theorem dksX1_border_0 : cX1_border.data.toList.drop 0 = dktX1_border_0 := by decide +kernel
theorem dX1_border_0 : decode cX1_border 0 = .ok (.aload_n 0, 1) := dk_42 (dk_at dksX1_border_0 0 rfl rfl)
theorem dX1_border_1 : decode cX1_border 1 = .ok (.iload_n 1, 1) := dk_27 (dk_at dksX1_border_0 1 rfl rfl)
theorem dX1_border_2 : decode cX1_border 2 = .ok (.invokevirtual 261, 3) := dk_182 1 5 (dk_at dksX1_border_0 2 rfl rfl)
theorem dX1_border_5 : decode cX1_border 5 = .ok (.invokevirtual 266, 3) := dk_182 1 10 (dk_at dksX1_border_0 5 rfl rfl)
theorem dX1_border_8 : decode cX1_border 8 = .ok (.ireturn, 1) := dk_172 (dk_at dksX1_border_0 8 rfl rfl)
abbrev cX1_inner : ByteArray := prog_1_method_30_code
def yX1_inner : MethodName := ⟨RX1, "inner", "(I)I"⟩
def dkwX1_inner_0 : List UInt8 := [42, 27, 182, 1, 5, 182, 1, 13, 172]
abbrev dktX1_inner_0 : List UInt8 := dkwX1_inner_0 ++ []
theorem dksX1_inner_0 : cX1_inner.data.toList.drop 0 = dktX1_inner_0 := by decide +kernel
theorem dX1_inner_0 : decode cX1_inner 0 = .ok (.aload_n 0, 1) := dk_42 (dk_at dksX1_inner_0 0 rfl rfl)
theorem dX1_inner_1 : decode cX1_inner 1 = .ok (.iload_n 1, 1) := dk_27 (dk_at dksX1_inner_0 1 rfl rfl)
theorem dX1_inner_2 : decode cX1_inner 2 = .ok (.invokevirtual 261, 3) := dk_182 1 5 (dk_at dksX1_inner_0 2 rfl rfl)
theorem dX1_inner_5 : decode cX1_inner 5 = .ok (.invokevirtual 269, 3) := dk_182 1 13 (dk_at dksX1_inner_0 5 rfl rfl)
theorem dX1_inner_8 : decode cX1_inner 8 = .ok (.ireturn, 1) := dk_172 (dk_at dksX1_inner_0 8 rfl rfl)
abbrev cX1_dents : ByteArray := prog_1_method_31_code
def yX1_dents : MethodName := ⟨RX1, "dents", "(I)I"⟩
def dkwX1_dents_0 : List UInt8 := [42, 27, 182, 1, 5, 182, 1, 15, 172]
abbrev dktX1_dents_0 : List UInt8 := dkwX1_dents_0 ++ []
theorem dksX1_dents_0 : cX1_dents.data.toList.drop 0 = dktX1_dents_0 := by decide +kernel
theorem dX1_dents_0 : decode cX1_dents 0 = .ok (.aload_n 0, 1) := dk_42 (dk_at dksX1_dents_0 0 rfl rfl)
theorem dX1_dents_1 : decode cX1_dents 1 = .ok (.iload_n 1, 1) := dk_27 (dk_at dksX1_dents_0 1 rfl rfl)
theorem dX1_dents_2 : decode cX1_dents 2 = .ok (.invokevirtual 261, 3) := dk_182 1 5 (dk_at dksX1_dents_0 2 rfl rfl)
theorem dX1_dents_5 : decode cX1_dents 5 = .ok (.invokevirtual 271, 3) := dk_182 1 15 (dk_at dksX1_dents_0 5 rfl rfl)
theorem dX1_dents_8 : decode cX1_dents 8 = .ok (.ireturn, 1) := dk_172 (dk_at dksX1_dents_0 8 rfl rfl)
abbrev cX1_parent : ByteArray := prog_1_method_32_code
def yX1_parent : MethodName := ⟨RX1, "parent", "(I)I"⟩
def dkwX1_parent_0 : List UInt8 := [42, 180, 0, 108, 42, 27, 182, 1, 5, 3, 182, 0, 243, 182, 1, 17, 172]
abbrev dktX1_parent_0 : List UInt8 := dkwX1_parent_0 ++ []
theorem dksX1_parent_0 : cX1_parent.data.toList.drop 0 = dktX1_parent_0 := by decide +kernel
theorem dX1_parent_0 : decode cX1_parent 0 = .ok (.aload_n 0, 1) := dk_42 (dk_at dksX1_parent_0 0 rfl rfl)
theorem dX1_parent_1 : decode cX1_parent 1 = .ok (.getfield 108, 3) := dk_180 0 108 (dk_at dksX1_parent_0 1 rfl rfl)
theorem dX1_parent_4 : decode cX1_parent 4 = .ok (.aload_n 0, 1) := dk_42 (dk_at dksX1_parent_0 4 rfl rfl)
theorem dX1_parent_5 : decode cX1_parent 5 = .ok (.iload_n 1, 1) := dk_27 (dk_at dksX1_parent_0 5 rfl rfl)
theorem dX1_parent_6 : decode cX1_parent 6 = .ok (.invokevirtual 261, 3) := dk_182 1 5 (dk_at dksX1_parent_0 6 rfl rfl)
theorem dX1_parent_9 : decode cX1_parent 9 = .ok (.iconst 0, 1) := dk_3 (dk_at dksX1_parent_0 9 rfl rfl)
theorem dX1_parent_10 : decode cX1_parent 10 = .ok (.invokevirtual 243, 3) := dk_182 0 243 (dk_at dksX1_parent_0 10 rfl rfl)
theorem dX1_parent_13 : decode cX1_parent 13 = .ok (.invokevirtual 273, 3) := dk_182 1 17 (dk_at dksX1_parent_0 13 rfl rfl)
theorem dX1_parent_16 : decode cX1_parent 16 = .ok (.ireturn, 1) := dk_172 (dk_at dksX1_parent_0 16 rfl rfl)
abbrev cX1_score : ByteArray := prog_1_method_33_code
def yX1_score : MethodName := ⟨RX1, "score", "(I)I"⟩
def dkwX1_score_0 : List UInt8 := [42, 27, 182, 1, 5, 77, 42, 180, 0, 108, 27, 182, 1, 20, 172]
abbrev dktX1_score_0 : List UInt8 := dkwX1_score_0 ++ []
theorem dksX1_score_0 : cX1_score.data.toList.drop 0 = dktX1_score_0 := by decide +kernel
theorem dX1_score_0 : decode cX1_score 0 = .ok (.aload_n 0, 1) := dk_42 (dk_at dksX1_score_0 0 rfl rfl)
theorem dX1_score_1 : decode cX1_score 1 = .ok (.iload_n 1, 1) := dk_27 (dk_at dksX1_score_0 1 rfl rfl)
theorem dX1_score_2 : decode cX1_score 2 = .ok (.invokevirtual 261, 3) := dk_182 1 5 (dk_at dksX1_score_0 2 rfl rfl)
theorem dX1_score_5 : decode cX1_score 5 = .ok (.astore_n 2, 1) := dk_77 (dk_at dksX1_score_0 5 rfl rfl)
theorem dX1_score_6 : decode cX1_score 6 = .ok (.aload_n 0, 1) := dk_42 (dk_at dksX1_score_0 6 rfl rfl)
theorem dX1_score_7 : decode cX1_score 7 = .ok (.getfield 108, 3) := dk_180 0 108 (dk_at dksX1_score_0 7 rfl rfl)
theorem dX1_score_10 : decode cX1_score 10 = .ok (.iload_n 1, 1) := dk_27 (dk_at dksX1_score_0 10 rfl rfl)
theorem dX1_score_11 : decode cX1_score 11 = .ok (.invokevirtual 276, 3) := dk_182 1 20 (dk_at dksX1_score_0 11 rfl rfl)
theorem dX1_score_14 : decode cX1_score 14 = .ok (.ireturn, 1) := dk_172 (dk_at dksX1_score_0 14 rfl rfl)
abbrev cX1_points : ByteArray := prog_1_method_35_code
def yX1_points : MethodName := ⟨RX1, "points", "(I)I"⟩
def dkwX1_points_0 : List UInt8 := [27, 184, 1, 23, 42, 180, 0, 108, 27, 182, 1, 26, 172]
abbrev dktX1_points_0 : List UInt8 := dkwX1_points_0 ++ []
theorem dksX1_points_0 : cX1_points.data.toList.drop 0 = dktX1_points_0 := by decide +kernel
theorem dX1_points_0 : decode cX1_points 0 = .ok (.iload_n 1, 1) := dk_27 (dk_at dksX1_points_0 0 rfl rfl)
theorem dX1_points_1 : decode cX1_points 1 = .ok (.invokestatic 279, 3) := dk_184 1 23 (dk_at dksX1_points_0 1 rfl rfl)
theorem dX1_points_4 : decode cX1_points 4 = .ok (.aload_n 0, 1) := dk_42 (dk_at dksX1_points_0 4 rfl rfl)
theorem dX1_points_5 : decode cX1_points 5 = .ok (.getfield 108, 3) := dk_180 0 108 (dk_at dksX1_points_0 5 rfl rfl)
theorem dX1_points_8 : decode cX1_points 8 = .ok (.iload_n 1, 1) := dk_27 (dk_at dksX1_points_0 8 rfl rfl)
theorem dX1_points_9 : decode cX1_points 9 = .ok (.invokevirtual 282, 3) := dk_182 1 26 (dk_at dksX1_points_0 9 rfl rfl)
theorem dX1_points_12 : decode cX1_points 12 = .ok (.ireturn, 1) := dk_172 (dk_at dksX1_points_0 12 rfl rfl)
abbrev cX1_requirePlayer : ByteArray := prog_1_method_34_code
def yX1_requirePlayer : MethodName := ⟨RX1, "requirePlayer", "(I)V"⟩
def dkwX1_requirePlayer_0 : List UInt8 := [26, 133, 9, 20, 0, 226, 184, 0, 63, 184, 0, 162, 177]
abbrev dktX1_requirePlayer_0 : List UInt8 := dkwX1_requirePlayer_0 ++ []
theorem dksX1_requirePlayer_0 : cX1_requirePlayer.data.toList.drop 0 = dktX1_requirePlayer_0 := by decide +kernel
theorem dX1_requirePlayer_0 : decode cX1_requirePlayer 0 = .ok (.iload_n 0, 1) := dk_26 (dk_at dksX1_requirePlayer_0 0 rfl rfl)
theorem dX1_requirePlayer_1 : decode cX1_requirePlayer 1 = .ok (.i2l, 1) := dk_133 (dk_at dksX1_requirePlayer_0 1 rfl rfl)
theorem dX1_requirePlayer_2 : decode cX1_requirePlayer 2 = .ok (.lconst 0, 1) := dk_9 (dk_at dksX1_requirePlayer_0 2 rfl rfl)
theorem dX1_requirePlayer_3 : decode cX1_requirePlayer 3 = .ok (.ldc2_w 226, 3) := dk_20 0 226 (dk_at dksX1_requirePlayer_0 3 rfl rfl)
theorem dX1_requirePlayer_6 : decode cX1_requirePlayer 6 = .ok (.invokestatic 63, 3) := dk_184 0 63 (dk_at dksX1_requirePlayer_0 6 rfl rfl)
theorem dX1_requirePlayer_9 : decode cX1_requirePlayer 9 = .ok (.invokestatic 162, 3) := dk_184 0 162 (dk_at dksX1_requirePlayer_0 9 rfl rfl)
theorem dX1_requirePlayer_12 : decode cX1_requirePlayer 12 = .ok (.return_, 1) := dk_177 (dk_at dksX1_requirePlayer_0 12 rfl rfl)
abbrev cX1_begin : ByteArray := prog_1_method_37_code
def yX1_begin : MethodName := ⟨RX1, "begin", "(III)I"⟩
def dkwX1_begin_4 : List UInt8 := [25, 6, 185, 1, 43, 2, 0, 87, 25, 5, 180, 0, 124, 185, 0, 128, 1, 0, 4, 100, 172]
abbrev dktX1_begin_4 : List UInt8 := dkwX1_begin_4 ++ []
def dkwX1_begin_3 : List UInt8 := [183, 1, 39, 58, 6, 25, 6, 180, 1, 41, 25, 4, 185, 1, 43, 2, 0, 87, 25, 5, 180, 0, 124]
abbrev dktX1_begin_3 : List UInt8 := dkwX1_begin_3 ++ dktX1_begin_4
def dkwX1_begin_2 : List UInt8 := [182, 1, 32, 154, 0, 13, 25, 5, 25, 4, 182, 1, 36, 153, 0, 6, 16, 253, 172, 187, 0, 140, 89, 27]
abbrev dktX1_begin_2 : List UInt8 := dkwX1_begin_2 ++ dktX1_begin_3
def dkwX1_begin_1 : List UInt8 := [16, 6, 162, 0, 7, 4, 167, 0, 4, 3, 184, 0, 150, 42, 182, 1, 29, 58, 5, 25, 5, 25, 4]
abbrev dktX1_begin_1 : List UInt8 := dkwX1_begin_1 ++ dktX1_begin_2
def dkwX1_begin_0 : List UInt8 := [27, 184, 1, 23, 42, 28, 29, 182, 0, 249, 58, 4, 42, 180, 0, 108, 180, 0, 124, 185, 0, 128, 1, 0]
abbrev dktX1_begin_0 : List UInt8 := dkwX1_begin_0 ++ dktX1_begin_1
theorem dksX1_begin_0 : cX1_begin.data.toList.drop 0 = dktX1_begin_0 := by decide +kernel
theorem dksX1_begin_1 : cX1_begin.data.toList.drop 24 = dktX1_begin_1 := dk_seg dksX1_begin_0 24 rfl rfl
theorem dksX1_begin_2 : cX1_begin.data.toList.drop 47 = dktX1_begin_2 := dk_seg dksX1_begin_1 23 rfl rfl
theorem dksX1_begin_3 : cX1_begin.data.toList.drop 71 = dktX1_begin_3 := dk_seg dksX1_begin_2 24 rfl rfl
theorem dksX1_begin_4 : cX1_begin.data.toList.drop 94 = dktX1_begin_4 := dk_seg dksX1_begin_3 23 rfl rfl
theorem dX1_begin_0 : decode cX1_begin 0 = .ok (.iload_n 1, 1) := dk_27 (dk_at dksX1_begin_0 0 rfl rfl)
theorem dX1_begin_1 : decode cX1_begin 1 = .ok (.invokestatic 279, 3) := dk_184 1 23 (dk_at dksX1_begin_0 1 rfl rfl)
theorem dX1_begin_4 : decode cX1_begin 4 = .ok (.aload_n 0, 1) := dk_42 (dk_at dksX1_begin_0 4 rfl rfl)
theorem dX1_begin_5 : decode cX1_begin 5 = .ok (.iload_n 2, 1) := dk_28 (dk_at dksX1_begin_0 5 rfl rfl)
theorem dX1_begin_6 : decode cX1_begin 6 = .ok (.iload_n 3, 1) := dk_29 (dk_at dksX1_begin_0 6 rfl rfl)
theorem dX1_begin_7 : decode cX1_begin 7 = .ok (.invokevirtual 249, 3) := dk_182 0 249 (dk_at dksX1_begin_0 7 rfl rfl)
theorem dX1_begin_10 : decode cX1_begin 10 = .ok (.astore 4, 2) := dk_58 4 (dk_at dksX1_begin_0 10 rfl rfl)
theorem dX1_begin_12 : decode cX1_begin 12 = .ok (.aload_n 0, 1) := dk_42 (dk_at dksX1_begin_0 12 rfl rfl)
theorem dX1_begin_13 : decode cX1_begin 13 = .ok (.getfield 108, 3) := dk_180 0 108 (dk_at dksX1_begin_0 13 rfl rfl)
theorem dX1_begin_16 : decode cX1_begin 16 = .ok (.getfield 124, 3) := dk_180 0 124 (dk_at dksX1_begin_0 16 rfl rfl)
theorem dX1_begin_19 : decode cX1_begin 19 = .ok (.invokeinterface 128 1, 5) := by decide +kernel
theorem dX1_begin_24 : decode cX1_begin 24 = .ok (.bipush 6, 2) := dk_16 6 (dk_at dksX1_begin_1 0 rfl rfl)
theorem dX1_begin_26 : decode cX1_begin 26 = .ok (.if_icmp .ge 7, 3) := dk_162 0 7 (dk_at dksX1_begin_1 2 rfl rfl)
theorem dX1_begin_29 : decode cX1_begin 29 = .ok (.iconst 1, 1) := dk_4 (dk_at dksX1_begin_1 5 rfl rfl)
theorem dX1_begin_30 : decode cX1_begin 30 = .ok (.goto 4, 3) := dk_167 0 4 (dk_at dksX1_begin_1 6 rfl rfl)
theorem dX1_begin_33 : decode cX1_begin 33 = .ok (.iconst 0, 1) := dk_3 (dk_at dksX1_begin_1 9 rfl rfl)
theorem dX1_begin_34 : decode cX1_begin 34 = .ok (.invokestatic 150, 3) := dk_184 0 150 (dk_at dksX1_begin_1 10 rfl rfl)
theorem dX1_begin_37 : decode cX1_begin 37 = .ok (.aload_n 0, 1) := dk_42 (dk_at dksX1_begin_1 13 rfl rfl)
theorem dX1_begin_38 : decode cX1_begin 38 = .ok (.invokevirtual 285, 3) := dk_182 1 29 (dk_at dksX1_begin_1 14 rfl rfl)
theorem dX1_begin_41 : decode cX1_begin 41 = .ok (.astore 5, 2) := dk_58 5 (dk_at dksX1_begin_1 17 rfl rfl)
theorem dX1_begin_43 : decode cX1_begin 43 = .ok (.aload 5, 2) := dk_25 5 (dk_at dksX1_begin_1 19 rfl rfl)
theorem dX1_begin_45 : decode cX1_begin 45 = .ok (.aload 4, 2) := dk_25 4 (dk_at dksX1_begin_1 21 rfl rfl)
theorem dX1_begin_47 : decode cX1_begin 47 = .ok (.invokevirtual 288, 3) := dk_182 1 32 (dk_at dksX1_begin_2 0 rfl rfl)
theorem dX1_begin_50 : decode cX1_begin 50 = .ok (.ifCond .ne 13, 3) := dk_154 0 13 (dk_at dksX1_begin_2 3 rfl rfl)
theorem dX1_begin_53 : decode cX1_begin 53 = .ok (.aload 5, 2) := dk_25 5 (dk_at dksX1_begin_2 6 rfl rfl)
theorem dX1_begin_55 : decode cX1_begin 55 = .ok (.aload 4, 2) := dk_25 4 (dk_at dksX1_begin_2 8 rfl rfl)
theorem dX1_begin_57 : decode cX1_begin 57 = .ok (.invokevirtual 292, 3) := dk_182 1 36 (dk_at dksX1_begin_2 10 rfl rfl)
theorem dX1_begin_60 : decode cX1_begin 60 = .ok (.ifCond .eq 6, 3) := dk_153 0 6 (dk_at dksX1_begin_2 13 rfl rfl)
theorem dX1_begin_63 : decode cX1_begin 63 = .ok (.bipush (-3), 2) := dk_16 253 (dk_at dksX1_begin_2 16 rfl rfl)
theorem dX1_begin_65 : decode cX1_begin 65 = .ok (.ireturn, 1) := dk_172 (dk_at dksX1_begin_2 18 rfl rfl)
theorem dX1_begin_66 : decode cX1_begin 66 = .ok (.new 140, 3) := dk_187 0 140 (dk_at dksX1_begin_2 19 rfl rfl)
theorem dX1_begin_69 : decode cX1_begin 69 = .ok (.dup, 1) := dk_89 (dk_at dksX1_begin_2 22 rfl rfl)
theorem dX1_begin_70 : decode cX1_begin 70 = .ok (.iload_n 1, 1) := dk_27 (dk_at dksX1_begin_2 23 rfl rfl)
theorem dX1_begin_71 : decode cX1_begin 71 = .ok (.invokespecial 295, 3) := dk_183 1 39 (dk_at dksX1_begin_3 0 rfl rfl)
theorem dX1_begin_74 : decode cX1_begin 74 = .ok (.astore 6, 2) := dk_58 6 (dk_at dksX1_begin_3 3 rfl rfl)
theorem dX1_begin_76 : decode cX1_begin 76 = .ok (.aload 6, 2) := dk_25 6 (dk_at dksX1_begin_3 5 rfl rfl)
theorem dX1_begin_78 : decode cX1_begin 78 = .ok (.getfield 297, 3) := dk_180 1 41 (dk_at dksX1_begin_3 7 rfl rfl)
theorem dX1_begin_81 : decode cX1_begin 81 = .ok (.aload 4, 2) := dk_25 4 (dk_at dksX1_begin_3 10 rfl rfl)
theorem dX1_begin_83 : decode cX1_begin 83 = .ok (.invokeinterface 299 2, 5) := by decide +kernel
theorem dX1_begin_88 : decode cX1_begin 88 = .ok (.pop, 1) := dk_87 (dk_at dksX1_begin_3 17 rfl rfl)
theorem dX1_begin_89 : decode cX1_begin 89 = .ok (.aload 5, 2) := dk_25 5 (dk_at dksX1_begin_3 18 rfl rfl)
theorem dX1_begin_91 : decode cX1_begin 91 = .ok (.getfield 124, 3) := dk_180 0 124 (dk_at dksX1_begin_3 20 rfl rfl)
theorem dX1_begin_94 : decode cX1_begin 94 = .ok (.aload 6, 2) := dk_25 6 (dk_at dksX1_begin_4 0 rfl rfl)
theorem dX1_begin_96 : decode cX1_begin 96 = .ok (.invokeinterface 299 2, 5) := by decide +kernel
theorem dX1_begin_101 : decode cX1_begin 101 = .ok (.pop, 1) := dk_87 (dk_at dksX1_begin_4 7 rfl rfl)
theorem dX1_begin_102 : decode cX1_begin 102 = .ok (.aload 5, 2) := dk_25 5 (dk_at dksX1_begin_4 8 rfl rfl)
theorem dX1_begin_104 : decode cX1_begin 104 = .ok (.getfield 124, 3) := dk_180 0 124 (dk_at dksX1_begin_4 10 rfl rfl)
theorem dX1_begin_107 : decode cX1_begin 107 = .ok (.invokeinterface 128 1, 5) := by decide +kernel
theorem dX1_begin_112 : decode cX1_begin 112 = .ok (.iconst 1, 1) := dk_4 (dk_at dksX1_begin_4 18 rfl rfl)
theorem dX1_begin_113 : decode cX1_begin 113 = .ok (.isub, 1) := dk_100 (dk_at dksX1_begin_4 19 rfl rfl)
theorem dX1_begin_114 : decode cX1_begin 114 = .ok (.ireturn, 1) := dk_172 (dk_at dksX1_begin_4 20 rfl rfl)
abbrev cX1_change : ByteArray := prog_1_method_17_code
def yX1_change : MethodName := ⟨RX1, "change", "()LCornerClaims$Field;"⟩
def dkwX1_change_0 : List UInt8 := [42, 42, 180, 0, 108, 182, 0, 175, 182, 0, 179, 42, 180, 0, 108, 176]
abbrev dktX1_change_0 : List UInt8 := dkwX1_change_0 ++ []
theorem dksX1_change_0 : cX1_change.data.toList.drop 0 = dktX1_change_0 := by decide +kernel
theorem dX1_change_0 : decode cX1_change 0 = .ok (.aload_n 0, 1) := dk_42 (dk_at dksX1_change_0 0 rfl rfl)
theorem dX1_change_1 : decode cX1_change 1 = .ok (.aload_n 0, 1) := dk_42 (dk_at dksX1_change_0 1 rfl rfl)
theorem dX1_change_2 : decode cX1_change 2 = .ok (.getfield 108, 3) := dk_180 0 108 (dk_at dksX1_change_0 2 rfl rfl)
theorem dX1_change_5 : decode cX1_change 5 = .ok (.invokevirtual 175, 3) := dk_182 0 175 (dk_at dksX1_change_0 5 rfl rfl)
theorem dX1_change_8 : decode cX1_change 8 = .ok (.invokevirtual 179, 3) := dk_182 0 179 (dk_at dksX1_change_0 8 rfl rfl)
theorem dX1_change_11 : decode cX1_change 11 = .ok (.aload_n 0, 1) := dk_42 (dk_at dksX1_change_0 11 rfl rfl)
theorem dX1_change_12 : decode cX1_change 12 = .ok (.getfield 108, 3) := dk_180 0 108 (dk_at dksX1_change_0 12 rfl rfl)
theorem dX1_change_15 : decode cX1_change 15 = .ok (.areturn, 1) := dk_176 (dk_at dksX1_change_0 15 rfl rfl)
abbrev cX1_corner : ByteArray := prog_1_method_38_code
def yX1_corner : MethodName := ⟨RX1, "corner", "(III)I"⟩
def dkwX1_corner_2 : List UInt8 := [29, 183, 0, 165, 185, 1, 43, 2, 0, 87, 25, 5, 182, 0, 242, 172]
abbrev dktX1_corner_2 : List UInt8 := dkwX1_corner_2 ++ []
def dkwX1_corner_1 : List UInt8 := [192, 0, 140, 58, 5, 21, 4, 153, 0, 7, 21, 4, 116, 172, 25, 5, 180, 1, 41, 187, 0, 45, 89, 28]
abbrev dktX1_corner_1 : List UInt8 := dkwX1_corner_1 ++ dktX1_corner_2
def dkwX1_corner_0 : List UInt8 := [42, 27, 28, 29, 182, 1, 46, 54, 4, 42, 182, 1, 29, 180, 0, 124, 27, 185, 0, 136, 2, 0]
abbrev dktX1_corner_0 : List UInt8 := dkwX1_corner_0 ++ dktX1_corner_1
theorem dksX1_corner_0 : cX1_corner.data.toList.drop 0 = dktX1_corner_0 := by decide +kernel
theorem dksX1_corner_1 : cX1_corner.data.toList.drop 22 = dktX1_corner_1 := dk_seg dksX1_corner_0 22 rfl rfl
theorem dksX1_corner_2 : cX1_corner.data.toList.drop 46 = dktX1_corner_2 := dk_seg dksX1_corner_1 24 rfl rfl
theorem dX1_corner_0 : decode cX1_corner 0 = .ok (.aload_n 0, 1) := dk_42 (dk_at dksX1_corner_0 0 rfl rfl)
theorem dX1_corner_1 : decode cX1_corner 1 = .ok (.iload_n 1, 1) := dk_27 (dk_at dksX1_corner_0 1 rfl rfl)
theorem dX1_corner_2 : decode cX1_corner 2 = .ok (.iload_n 2, 1) := dk_28 (dk_at dksX1_corner_0 2 rfl rfl)
theorem dX1_corner_3 : decode cX1_corner 3 = .ok (.iload_n 3, 1) := dk_29 (dk_at dksX1_corner_0 3 rfl rfl)
theorem dX1_corner_4 : decode cX1_corner 4 = .ok (.invokevirtual 302, 3) := dk_182 1 46 (dk_at dksX1_corner_0 4 rfl rfl)
theorem dX1_corner_7 : decode cX1_corner 7 = .ok (.istore 4, 2) := dk_54 4 (dk_at dksX1_corner_0 7 rfl rfl)
theorem dX1_corner_9 : decode cX1_corner 9 = .ok (.aload_n 0, 1) := dk_42 (dk_at dksX1_corner_0 9 rfl rfl)
theorem dX1_corner_10 : decode cX1_corner 10 = .ok (.invokevirtual 285, 3) := dk_182 1 29 (dk_at dksX1_corner_0 10 rfl rfl)
theorem dX1_corner_13 : decode cX1_corner 13 = .ok (.getfield 124, 3) := dk_180 0 124 (dk_at dksX1_corner_0 13 rfl rfl)
theorem dX1_corner_16 : decode cX1_corner 16 = .ok (.iload_n 1, 1) := dk_27 (dk_at dksX1_corner_0 16 rfl rfl)
theorem dX1_corner_17 : decode cX1_corner 17 = .ok (.invokeinterface 136 2, 5) := by decide +kernel
theorem dX1_corner_22 : decode cX1_corner 22 = .ok (.checkcast 140, 3) := dk_192 0 140 (dk_at dksX1_corner_1 0 rfl rfl)
theorem dX1_corner_25 : decode cX1_corner 25 = .ok (.astore 5, 2) := dk_58 5 (dk_at dksX1_corner_1 3 rfl rfl)
theorem dX1_corner_27 : decode cX1_corner 27 = .ok (.iload 4, 2) := dk_21 4 (dk_at dksX1_corner_1 5 rfl rfl)
theorem dX1_corner_29 : decode cX1_corner 29 = .ok (.ifCond .eq 7, 3) := dk_153 0 7 (dk_at dksX1_corner_1 7 rfl rfl)
theorem dX1_corner_32 : decode cX1_corner 32 = .ok (.iload 4, 2) := dk_21 4 (dk_at dksX1_corner_1 10 rfl rfl)
theorem dX1_corner_34 : decode cX1_corner 34 = .ok (.ineg, 1) := dk_116 (dk_at dksX1_corner_1 12 rfl rfl)
theorem dX1_corner_35 : decode cX1_corner 35 = .ok (.ireturn, 1) := dk_172 (dk_at dksX1_corner_1 13 rfl rfl)
theorem dX1_corner_36 : decode cX1_corner 36 = .ok (.aload 5, 2) := dk_25 5 (dk_at dksX1_corner_1 14 rfl rfl)
theorem dX1_corner_38 : decode cX1_corner 38 = .ok (.getfield 297, 3) := dk_180 1 41 (dk_at dksX1_corner_1 16 rfl rfl)
theorem dX1_corner_41 : decode cX1_corner 41 = .ok (.new 45, 3) := dk_187 0 45 (dk_at dksX1_corner_1 19 rfl rfl)
theorem dX1_corner_44 : decode cX1_corner 44 = .ok (.dup, 1) := dk_89 (dk_at dksX1_corner_1 22 rfl rfl)
theorem dX1_corner_45 : decode cX1_corner 45 = .ok (.iload_n 2, 1) := dk_28 (dk_at dksX1_corner_1 23 rfl rfl)
theorem dX1_corner_46 : decode cX1_corner 46 = .ok (.iload_n 3, 1) := dk_29 (dk_at dksX1_corner_2 0 rfl rfl)
theorem dX1_corner_47 : decode cX1_corner 47 = .ok (.invokespecial 165, 3) := dk_183 0 165 (dk_at dksX1_corner_2 1 rfl rfl)
theorem dX1_corner_50 : decode cX1_corner 50 = .ok (.invokeinterface 299 2, 5) := by decide +kernel
theorem dX1_corner_55 : decode cX1_corner 55 = .ok (.pop, 1) := dk_87 (dk_at dksX1_corner_2 9 rfl rfl)
theorem dX1_corner_56 : decode cX1_corner 56 = .ok (.aload 5, 2) := dk_25 5 (dk_at dksX1_corner_2 10 rfl rfl)
theorem dX1_corner_58 : decode cX1_corner 58 = .ok (.invokevirtual 242, 3) := dk_182 0 242 (dk_at dksX1_corner_2 12 rfl rfl)
theorem dX1_corner_61 : decode cX1_corner 61 = .ok (.ireturn, 1) := dk_172 (dk_at dksX1_corner_2 15 rfl rfl)
abbrev cX1_close : ByteArray := prog_1_method_39_code
def yX1_close : MethodName := ⟨RX1, "close", "(I)I"⟩
def dkwX1_close_1 : List UInt8 := [172, 45, 180, 0, 124, 27, 185, 0, 136, 2, 0, 192, 0, 140, 4, 181, 0, 146, 45, 27, 182, 1, 54, 172]
abbrev dktX1_close_1 : List UInt8 := dkwX1_close_1 ++ []
def dkwX1_close_0 : List UInt8 := [42, 180, 0, 108, 42, 27, 182, 0, 142, 182, 1, 50, 61, 42, 182, 1, 29, 78, 28, 153, 0, 6, 28, 116]
abbrev dktX1_close_0 : List UInt8 := dkwX1_close_0 ++ dktX1_close_1
theorem dksX1_close_0 : cX1_close.data.toList.drop 0 = dktX1_close_0 := by decide +kernel
theorem dksX1_close_1 : cX1_close.data.toList.drop 24 = dktX1_close_1 := dk_seg dksX1_close_0 24 rfl rfl
theorem dX1_close_0 : decode cX1_close 0 = .ok (.aload_n 0, 1) := dk_42 (dk_at dksX1_close_0 0 rfl rfl)
theorem dX1_close_1 : decode cX1_close 1 = .ok (.getfield 108, 3) := dk_180 0 108 (dk_at dksX1_close_0 1 rfl rfl)
theorem dX1_close_4 : decode cX1_close 4 = .ok (.aload_n 0, 1) := dk_42 (dk_at dksX1_close_0 4 rfl rfl)
theorem dX1_close_5 : decode cX1_close 5 = .ok (.iload_n 1, 1) := dk_27 (dk_at dksX1_close_0 5 rfl rfl)
theorem dX1_close_6 : decode cX1_close 6 = .ok (.invokevirtual 142, 3) := dk_182 0 142 (dk_at dksX1_close_0 6 rfl rfl)
theorem dX1_close_9 : decode cX1_close 9 = .ok (.invokevirtual 306, 3) := dk_182 1 50 (dk_at dksX1_close_0 9 rfl rfl)
theorem dX1_close_12 : decode cX1_close 12 = .ok (.istore_n 2, 1) := dk_61 (dk_at dksX1_close_0 12 rfl rfl)
theorem dX1_close_13 : decode cX1_close 13 = .ok (.aload_n 0, 1) := dk_42 (dk_at dksX1_close_0 13 rfl rfl)
theorem dX1_close_14 : decode cX1_close 14 = .ok (.invokevirtual 285, 3) := dk_182 1 29 (dk_at dksX1_close_0 14 rfl rfl)
theorem dX1_close_17 : decode cX1_close 17 = .ok (.astore_n 3, 1) := dk_78 (dk_at dksX1_close_0 17 rfl rfl)
theorem dX1_close_18 : decode cX1_close 18 = .ok (.iload_n 2, 1) := dk_28 (dk_at dksX1_close_0 18 rfl rfl)
theorem dX1_close_19 : decode cX1_close 19 = .ok (.ifCond .eq 6, 3) := dk_153 0 6 (dk_at dksX1_close_0 19 rfl rfl)
theorem dX1_close_22 : decode cX1_close 22 = .ok (.iload_n 2, 1) := dk_28 (dk_at dksX1_close_0 22 rfl rfl)
theorem dX1_close_23 : decode cX1_close 23 = .ok (.ineg, 1) := dk_116 (dk_at dksX1_close_0 23 rfl rfl)
theorem dX1_close_24 : decode cX1_close 24 = .ok (.ireturn, 1) := dk_172 (dk_at dksX1_close_1 0 rfl rfl)
theorem dX1_close_25 : decode cX1_close 25 = .ok (.aload_n 3, 1) := dk_45 (dk_at dksX1_close_1 1 rfl rfl)
theorem dX1_close_26 : decode cX1_close 26 = .ok (.getfield 124, 3) := dk_180 0 124 (dk_at dksX1_close_1 2 rfl rfl)
theorem dX1_close_29 : decode cX1_close 29 = .ok (.iload_n 1, 1) := dk_27 (dk_at dksX1_close_1 5 rfl rfl)
theorem dX1_close_30 : decode cX1_close 30 = .ok (.invokeinterface 136 2, 5) := by decide +kernel
theorem dX1_close_35 : decode cX1_close 35 = .ok (.checkcast 140, 3) := dk_192 0 140 (dk_at dksX1_close_1 11 rfl rfl)
theorem dX1_close_38 : decode cX1_close 38 = .ok (.iconst 1, 1) := dk_4 (dk_at dksX1_close_1 14 rfl rfl)
theorem dX1_close_39 : decode cX1_close 39 = .ok (.putfield 146, 3) := dk_181 0 146 (dk_at dksX1_close_1 15 rfl rfl)
theorem dX1_close_42 : decode cX1_close 42 = .ok (.aload_n 3, 1) := dk_45 (dk_at dksX1_close_1 18 rfl rfl)
theorem dX1_close_43 : decode cX1_close 43 = .ok (.iload_n 1, 1) := dk_27 (dk_at dksX1_close_1 19 rfl rfl)
theorem dX1_close_44 : decode cX1_close 44 = .ok (.invokevirtual 310, 3) := dk_182 1 54 (dk_at dksX1_close_1 20 rfl rfl)
theorem dX1_close_47 : decode cX1_close 47 = .ok (.ireturn, 1) := dk_172 (dk_at dksX1_close_1 23 rfl rfl)
abbrev cX1_bend : ByteArray := prog_1_method_40_code
def yX1_bend : MethodName := ⟨RX1, "bend", "(IIII)I"⟩
def dkwX1_bend_3 : List UInt8 := [28, 4, 96, 25, 6, 185, 1, 61, 3, 0, 25, 8, 182, 1, 8, 172]
abbrev dktX1_bend_3 : List UInt8 := dkwX1_bend_3 ++ []
def dkwX1_bend_2 : List UInt8 := [185, 0, 136, 2, 0, 192, 0, 140, 58, 8, 21, 7, 153, 0, 7, 21, 7, 116, 172, 25, 8, 180, 1, 41]
abbrev dktX1_bend_2 : List UInt8 := dkwX1_bend_2 ++ dktX1_bend_3
def dkwX1_bend_1 : List UInt8 := [58, 6, 42, 180, 0, 108, 25, 5, 28, 25, 6, 182, 1, 57, 54, 7, 42, 182, 1, 29, 180, 0, 124, 27]
abbrev dktX1_bend_1 : List UInt8 := dkwX1_bend_1 ++ dktX1_bend_2
def dkwX1_bend_0 : List UInt8 := [42, 27, 182, 0, 142, 58, 5, 28, 25, 5, 182, 0, 242, 184, 0, 223, 42, 29, 21, 4, 182, 0, 249]
abbrev dktX1_bend_0 : List UInt8 := dkwX1_bend_0 ++ dktX1_bend_1
theorem dksX1_bend_0 : cX1_bend.data.toList.drop 0 = dktX1_bend_0 := by decide +kernel
theorem dksX1_bend_1 : cX1_bend.data.toList.drop 23 = dktX1_bend_1 := dk_seg dksX1_bend_0 23 rfl rfl
theorem dksX1_bend_2 : cX1_bend.data.toList.drop 47 = dktX1_bend_2 := dk_seg dksX1_bend_1 24 rfl rfl
theorem dksX1_bend_3 : cX1_bend.data.toList.drop 71 = dktX1_bend_3 := dk_seg dksX1_bend_2 24 rfl rfl
theorem dX1_bend_0 : decode cX1_bend 0 = .ok (.aload_n 0, 1) := dk_42 (dk_at dksX1_bend_0 0 rfl rfl)
theorem dX1_bend_1 : decode cX1_bend 1 = .ok (.iload_n 1, 1) := dk_27 (dk_at dksX1_bend_0 1 rfl rfl)
theorem dX1_bend_2 : decode cX1_bend 2 = .ok (.invokevirtual 142, 3) := dk_182 0 142 (dk_at dksX1_bend_0 2 rfl rfl)
theorem dX1_bend_5 : decode cX1_bend 5 = .ok (.astore 5, 2) := dk_58 5 (dk_at dksX1_bend_0 5 rfl rfl)
theorem dX1_bend_7 : decode cX1_bend 7 = .ok (.iload_n 2, 1) := dk_28 (dk_at dksX1_bend_0 7 rfl rfl)
theorem dX1_bend_8 : decode cX1_bend 8 = .ok (.aload 5, 2) := dk_25 5 (dk_at dksX1_bend_0 8 rfl rfl)
theorem dX1_bend_10 : decode cX1_bend 10 = .ok (.invokevirtual 242, 3) := dk_182 0 242 (dk_at dksX1_bend_0 10 rfl rfl)
theorem dX1_bend_13 : decode cX1_bend 13 = .ok (.invokestatic 223, 3) := dk_184 0 223 (dk_at dksX1_bend_0 13 rfl rfl)
theorem dX1_bend_16 : decode cX1_bend 16 = .ok (.aload_n 0, 1) := dk_42 (dk_at dksX1_bend_0 16 rfl rfl)
theorem dX1_bend_17 : decode cX1_bend 17 = .ok (.iload_n 3, 1) := dk_29 (dk_at dksX1_bend_0 17 rfl rfl)
theorem dX1_bend_18 : decode cX1_bend 18 = .ok (.iload 4, 2) := dk_21 4 (dk_at dksX1_bend_0 18 rfl rfl)
theorem dX1_bend_20 : decode cX1_bend 20 = .ok (.invokevirtual 249, 3) := dk_182 0 249 (dk_at dksX1_bend_0 20 rfl rfl)
theorem dX1_bend_23 : decode cX1_bend 23 = .ok (.astore 6, 2) := dk_58 6 (dk_at dksX1_bend_1 0 rfl rfl)
theorem dX1_bend_25 : decode cX1_bend 25 = .ok (.aload_n 0, 1) := dk_42 (dk_at dksX1_bend_1 2 rfl rfl)
theorem dX1_bend_26 : decode cX1_bend 26 = .ok (.getfield 108, 3) := dk_180 0 108 (dk_at dksX1_bend_1 3 rfl rfl)
theorem dX1_bend_29 : decode cX1_bend 29 = .ok (.aload 5, 2) := dk_25 5 (dk_at dksX1_bend_1 6 rfl rfl)
theorem dX1_bend_31 : decode cX1_bend 31 = .ok (.iload_n 2, 1) := dk_28 (dk_at dksX1_bend_1 8 rfl rfl)
theorem dX1_bend_32 : decode cX1_bend 32 = .ok (.aload 6, 2) := dk_25 6 (dk_at dksX1_bend_1 9 rfl rfl)
theorem dX1_bend_34 : decode cX1_bend 34 = .ok (.invokevirtual 313, 3) := dk_182 1 57 (dk_at dksX1_bend_1 11 rfl rfl)
theorem dX1_bend_37 : decode cX1_bend 37 = .ok (.istore 7, 2) := dk_54 7 (dk_at dksX1_bend_1 14 rfl rfl)
theorem dX1_bend_39 : decode cX1_bend 39 = .ok (.aload_n 0, 1) := dk_42 (dk_at dksX1_bend_1 16 rfl rfl)
theorem dX1_bend_40 : decode cX1_bend 40 = .ok (.invokevirtual 285, 3) := dk_182 1 29 (dk_at dksX1_bend_1 17 rfl rfl)
theorem dX1_bend_43 : decode cX1_bend 43 = .ok (.getfield 124, 3) := dk_180 0 124 (dk_at dksX1_bend_1 20 rfl rfl)
theorem dX1_bend_46 : decode cX1_bend 46 = .ok (.iload_n 1, 1) := dk_27 (dk_at dksX1_bend_1 23 rfl rfl)
theorem dX1_bend_47 : decode cX1_bend 47 = .ok (.invokeinterface 136 2, 5) := by decide +kernel
theorem dX1_bend_52 : decode cX1_bend 52 = .ok (.checkcast 140, 3) := dk_192 0 140 (dk_at dksX1_bend_2 5 rfl rfl)
theorem dX1_bend_55 : decode cX1_bend 55 = .ok (.astore 8, 2) := dk_58 8 (dk_at dksX1_bend_2 8 rfl rfl)
theorem dX1_bend_57 : decode cX1_bend 57 = .ok (.iload 7, 2) := dk_21 7 (dk_at dksX1_bend_2 10 rfl rfl)
theorem dX1_bend_59 : decode cX1_bend 59 = .ok (.ifCond .eq 7, 3) := dk_153 0 7 (dk_at dksX1_bend_2 12 rfl rfl)
theorem dX1_bend_62 : decode cX1_bend 62 = .ok (.iload 7, 2) := dk_21 7 (dk_at dksX1_bend_2 15 rfl rfl)
theorem dX1_bend_64 : decode cX1_bend 64 = .ok (.ineg, 1) := dk_116 (dk_at dksX1_bend_2 17 rfl rfl)
theorem dX1_bend_65 : decode cX1_bend 65 = .ok (.ireturn, 1) := dk_172 (dk_at dksX1_bend_2 18 rfl rfl)
theorem dX1_bend_66 : decode cX1_bend 66 = .ok (.aload 8, 2) := dk_25 8 (dk_at dksX1_bend_2 19 rfl rfl)
theorem dX1_bend_68 : decode cX1_bend 68 = .ok (.getfield 297, 3) := dk_180 1 41 (dk_at dksX1_bend_2 21 rfl rfl)
theorem dX1_bend_71 : decode cX1_bend 71 = .ok (.iload_n 2, 1) := dk_28 (dk_at dksX1_bend_3 0 rfl rfl)
theorem dX1_bend_72 : decode cX1_bend 72 = .ok (.iconst 1, 1) := dk_4 (dk_at dksX1_bend_3 1 rfl rfl)
theorem dX1_bend_73 : decode cX1_bend 73 = .ok (.iadd, 1) := dk_96 (dk_at dksX1_bend_3 2 rfl rfl)
theorem dX1_bend_74 : decode cX1_bend 74 = .ok (.aload 6, 2) := dk_25 6 (dk_at dksX1_bend_3 3 rfl rfl)
theorem dX1_bend_76 : decode cX1_bend 76 = .ok (.invokeinterface 317 3, 5) := by decide +kernel
theorem dX1_bend_81 : decode cX1_bend 81 = .ok (.aload 8, 2) := dk_25 8 (dk_at dksX1_bend_3 10 rfl rfl)
theorem dX1_bend_83 : decode cX1_bend 83 = .ok (.invokevirtual 264, 3) := dk_182 1 8 (dk_at dksX1_bend_3 12 rfl rfl)
theorem dX1_bend_86 : decode cX1_bend 86 = .ok (.ireturn, 1) := dk_172 (dk_at dksX1_bend_3 15 rfl rfl)
abbrev cX1_takeOut : ByteArray := prog_1_method_41_code
def yX1_takeOut : MethodName := ⟨RX1, "takeOut", "(II)I"⟩
def dkwX1_takeOut_3 : List UInt8 := [25, 5, 182, 1, 8, 172]
abbrev dktX1_takeOut_3 : List UInt8 := dkwX1_takeOut_3 ++ []
def dkwX1_takeOut_2 : List UInt8 := [153, 0, 7, 21, 4, 116, 172, 25, 5, 180, 1, 41, 28, 185, 1, 68, 2, 0, 192, 0, 45, 58, 6]
abbrev dktX1_takeOut_2 : List UInt8 := dkwX1_takeOut_2 ++ dktX1_takeOut_3
def dkwX1_takeOut_1 : List UInt8 := [54, 4, 42, 182, 1, 29, 180, 0, 124, 27, 185, 0, 136, 2, 0, 192, 0, 140, 58, 5, 21, 4]
abbrev dktX1_takeOut_1 : List UInt8 := dkwX1_takeOut_1 ++ dktX1_takeOut_2
def dkwX1_takeOut_0 : List UInt8 := [42, 27, 182, 0, 142, 78, 28, 45, 182, 0, 242, 184, 0, 223, 42, 180, 0, 108, 45, 28, 182, 1, 64]
abbrev dktX1_takeOut_0 : List UInt8 := dkwX1_takeOut_0 ++ dktX1_takeOut_1
theorem dksX1_takeOut_0 : cX1_takeOut.data.toList.drop 0 = dktX1_takeOut_0 := by decide +kernel
theorem dksX1_takeOut_1 : cX1_takeOut.data.toList.drop 23 = dktX1_takeOut_1 := dk_seg dksX1_takeOut_0 23 rfl rfl
theorem dksX1_takeOut_2 : cX1_takeOut.data.toList.drop 45 = dktX1_takeOut_2 := dk_seg dksX1_takeOut_1 22 rfl rfl
theorem dksX1_takeOut_3 : cX1_takeOut.data.toList.drop 68 = dktX1_takeOut_3 := dk_seg dksX1_takeOut_2 23 rfl rfl
theorem dX1_takeOut_0 : decode cX1_takeOut 0 = .ok (.aload_n 0, 1) := dk_42 (dk_at dksX1_takeOut_0 0 rfl rfl)
theorem dX1_takeOut_1 : decode cX1_takeOut 1 = .ok (.iload_n 1, 1) := dk_27 (dk_at dksX1_takeOut_0 1 rfl rfl)
theorem dX1_takeOut_2 : decode cX1_takeOut 2 = .ok (.invokevirtual 142, 3) := dk_182 0 142 (dk_at dksX1_takeOut_0 2 rfl rfl)
theorem dX1_takeOut_5 : decode cX1_takeOut 5 = .ok (.astore_n 3, 1) := dk_78 (dk_at dksX1_takeOut_0 5 rfl rfl)
theorem dX1_takeOut_6 : decode cX1_takeOut 6 = .ok (.iload_n 2, 1) := dk_28 (dk_at dksX1_takeOut_0 6 rfl rfl)
theorem dX1_takeOut_7 : decode cX1_takeOut 7 = .ok (.aload_n 3, 1) := dk_45 (dk_at dksX1_takeOut_0 7 rfl rfl)
theorem dX1_takeOut_8 : decode cX1_takeOut 8 = .ok (.invokevirtual 242, 3) := dk_182 0 242 (dk_at dksX1_takeOut_0 8 rfl rfl)
theorem dX1_takeOut_11 : decode cX1_takeOut 11 = .ok (.invokestatic 223, 3) := dk_184 0 223 (dk_at dksX1_takeOut_0 11 rfl rfl)
theorem dX1_takeOut_14 : decode cX1_takeOut 14 = .ok (.aload_n 0, 1) := dk_42 (dk_at dksX1_takeOut_0 14 rfl rfl)
theorem dX1_takeOut_15 : decode cX1_takeOut 15 = .ok (.getfield 108, 3) := dk_180 0 108 (dk_at dksX1_takeOut_0 15 rfl rfl)
theorem dX1_takeOut_18 : decode cX1_takeOut 18 = .ok (.aload_n 3, 1) := dk_45 (dk_at dksX1_takeOut_0 18 rfl rfl)
theorem dX1_takeOut_19 : decode cX1_takeOut 19 = .ok (.iload_n 2, 1) := dk_28 (dk_at dksX1_takeOut_0 19 rfl rfl)
theorem dX1_takeOut_20 : decode cX1_takeOut 20 = .ok (.invokevirtual 320, 3) := dk_182 1 64 (dk_at dksX1_takeOut_0 20 rfl rfl)
theorem dX1_takeOut_23 : decode cX1_takeOut 23 = .ok (.istore 4, 2) := dk_54 4 (dk_at dksX1_takeOut_1 0 rfl rfl)
theorem dX1_takeOut_25 : decode cX1_takeOut 25 = .ok (.aload_n 0, 1) := dk_42 (dk_at dksX1_takeOut_1 2 rfl rfl)
theorem dX1_takeOut_26 : decode cX1_takeOut 26 = .ok (.invokevirtual 285, 3) := dk_182 1 29 (dk_at dksX1_takeOut_1 3 rfl rfl)
theorem dX1_takeOut_29 : decode cX1_takeOut 29 = .ok (.getfield 124, 3) := dk_180 0 124 (dk_at dksX1_takeOut_1 6 rfl rfl)
theorem dX1_takeOut_32 : decode cX1_takeOut 32 = .ok (.iload_n 1, 1) := dk_27 (dk_at dksX1_takeOut_1 9 rfl rfl)
theorem dX1_takeOut_33 : decode cX1_takeOut 33 = .ok (.invokeinterface 136 2, 5) := by decide +kernel
theorem dX1_takeOut_38 : decode cX1_takeOut 38 = .ok (.checkcast 140, 3) := dk_192 0 140 (dk_at dksX1_takeOut_1 15 rfl rfl)
theorem dX1_takeOut_41 : decode cX1_takeOut 41 = .ok (.astore 5, 2) := dk_58 5 (dk_at dksX1_takeOut_1 18 rfl rfl)
theorem dX1_takeOut_43 : decode cX1_takeOut 43 = .ok (.iload 4, 2) := dk_21 4 (dk_at dksX1_takeOut_1 20 rfl rfl)
theorem dX1_takeOut_45 : decode cX1_takeOut 45 = .ok (.ifCond .eq 7, 3) := dk_153 0 7 (dk_at dksX1_takeOut_2 0 rfl rfl)
theorem dX1_takeOut_48 : decode cX1_takeOut 48 = .ok (.iload 4, 2) := dk_21 4 (dk_at dksX1_takeOut_2 3 rfl rfl)
theorem dX1_takeOut_50 : decode cX1_takeOut 50 = .ok (.ineg, 1) := dk_116 (dk_at dksX1_takeOut_2 5 rfl rfl)
theorem dX1_takeOut_51 : decode cX1_takeOut 51 = .ok (.ireturn, 1) := dk_172 (dk_at dksX1_takeOut_2 6 rfl rfl)
theorem dX1_takeOut_52 : decode cX1_takeOut 52 = .ok (.aload 5, 2) := dk_25 5 (dk_at dksX1_takeOut_2 7 rfl rfl)
theorem dX1_takeOut_54 : decode cX1_takeOut 54 = .ok (.getfield 297, 3) := dk_180 1 41 (dk_at dksX1_takeOut_2 9 rfl rfl)
theorem dX1_takeOut_57 : decode cX1_takeOut 57 = .ok (.iload_n 2, 1) := dk_28 (dk_at dksX1_takeOut_2 12 rfl rfl)
theorem dX1_takeOut_58 : decode cX1_takeOut 58 = .ok (.invokeinterface 324 2, 5) := by decide +kernel
theorem dX1_takeOut_63 : decode cX1_takeOut 63 = .ok (.checkcast 45, 3) := dk_192 0 45 (dk_at dksX1_takeOut_2 18 rfl rfl)
theorem dX1_takeOut_66 : decode cX1_takeOut 66 = .ok (.astore 6, 2) := dk_58 6 (dk_at dksX1_takeOut_2 21 rfl rfl)
theorem dX1_takeOut_68 : decode cX1_takeOut 68 = .ok (.aload 5, 2) := dk_25 5 (dk_at dksX1_takeOut_3 0 rfl rfl)
theorem dX1_takeOut_70 : decode cX1_takeOut 70 = .ok (.invokevirtual 264, 3) := dk_182 1 8 (dk_at dksX1_takeOut_3 2 rfl rfl)
theorem dX1_takeOut_73 : decode cX1_takeOut 73 = .ok (.ireturn, 1) := dk_172 (dk_at dksX1_takeOut_3 5 rfl rfl)
abbrev cX1_remove : ByteArray := prog_1_method_42_code
def yX1_remove : MethodName := ⟨RX1, "remove", "(I)I"⟩
def dkwX1_remove_1 : List UInt8 := [58, 4, 45, 182, 0, 220, 172]
abbrev dktX1_remove_1 : List UInt8 := dkwX1_remove_1 ++ []
def dkwX1_remove_0 : List UInt8 := [42, 27, 182, 0, 142, 77, 42, 182, 1, 29, 78, 45, 180, 0, 124, 27, 185, 1, 68, 2, 0, 192, 0, 140]
abbrev dktX1_remove_0 : List UInt8 := dkwX1_remove_0 ++ dktX1_remove_1
theorem dksX1_remove_0 : cX1_remove.data.toList.drop 0 = dktX1_remove_0 := by decide +kernel
theorem dksX1_remove_1 : cX1_remove.data.toList.drop 24 = dktX1_remove_1 := dk_seg dksX1_remove_0 24 rfl rfl
theorem dX1_remove_0 : decode cX1_remove 0 = .ok (.aload_n 0, 1) := dk_42 (dk_at dksX1_remove_0 0 rfl rfl)
theorem dX1_remove_1 : decode cX1_remove 1 = .ok (.iload_n 1, 1) := dk_27 (dk_at dksX1_remove_0 1 rfl rfl)
theorem dX1_remove_2 : decode cX1_remove 2 = .ok (.invokevirtual 142, 3) := dk_182 0 142 (dk_at dksX1_remove_0 2 rfl rfl)
theorem dX1_remove_5 : decode cX1_remove 5 = .ok (.astore_n 2, 1) := dk_77 (dk_at dksX1_remove_0 5 rfl rfl)
theorem dX1_remove_6 : decode cX1_remove 6 = .ok (.aload_n 0, 1) := dk_42 (dk_at dksX1_remove_0 6 rfl rfl)
theorem dX1_remove_7 : decode cX1_remove 7 = .ok (.invokevirtual 285, 3) := dk_182 1 29 (dk_at dksX1_remove_0 7 rfl rfl)
theorem dX1_remove_10 : decode cX1_remove 10 = .ok (.astore_n 3, 1) := dk_78 (dk_at dksX1_remove_0 10 rfl rfl)
theorem dX1_remove_11 : decode cX1_remove 11 = .ok (.aload_n 3, 1) := dk_45 (dk_at dksX1_remove_0 11 rfl rfl)
theorem dX1_remove_12 : decode cX1_remove 12 = .ok (.getfield 124, 3) := dk_180 0 124 (dk_at dksX1_remove_0 12 rfl rfl)
theorem dX1_remove_15 : decode cX1_remove 15 = .ok (.iload_n 1, 1) := dk_27 (dk_at dksX1_remove_0 15 rfl rfl)
theorem dX1_remove_16 : decode cX1_remove 16 = .ok (.invokeinterface 324 2, 5) := by decide +kernel
theorem dX1_remove_21 : decode cX1_remove 21 = .ok (.checkcast 140, 3) := dk_192 0 140 (dk_at dksX1_remove_0 21 rfl rfl)
theorem dX1_remove_24 : decode cX1_remove 24 = .ok (.astore 4, 2) := dk_58 4 (dk_at dksX1_remove_1 0 rfl rfl)
theorem dX1_remove_26 : decode cX1_remove 26 = .ok (.aload_n 3, 1) := dk_45 (dk_at dksX1_remove_1 2 rfl rfl)
theorem dX1_remove_27 : decode cX1_remove 27 = .ok (.invokevirtual 220, 3) := dk_182 0 220 (dk_at dksX1_remove_1 3 rfl rfl)
theorem dX1_remove_30 : decode cX1_remove 30 = .ok (.ireturn, 1) := dk_172 (dk_at dksX1_remove_1 6 rfl rfl)
theorem q84 : (Jvm.Cond.initialized "CornerClaims") ∈ lw_all := lw_g (lw_at lw_m1 1 rfl) rfl
theorem q127 : (Jvm.Cond.instantiable "CornerClaims" (5 : Nat)) ∈ lw_all := lw_g (lw_at lw_m1 44 rfl) rfl
theorem q129 : (Jvm.Cond.instanceMethod ({ cls := "CornerClaims", name := "<init>", desc := "()V" } : Jvm.MethodName)) ∈ lw_all := lw_g (lw_at lw_m1 46 rfl) rfl
theorem q130 : (Jvm.Cond.code ({ cls := "CornerClaims", name := "<init>", desc := "()V" } : Jvm.MethodName) prog_1_method_9_code (1 : Nat) (Option.none : Option Jvm.ClassFile.FieldType)) ∈ lw_all := lw_g (lw_at lw_m1 47 rfl) rfl
theorem q131 : (Jvm.Cond.methodLink "CornerClaims" (81 : Nat) ({ cls := "java/lang/Object", name := "<init>", desc := "()V" } : Jvm.MethodName)) ∈ lw_all := lw_g (lw_at lw_m1 48 rfl) rfl
theorem q134 : (Jvm.Cond.classLink "CornerClaims" (91 : Nat) "java/util/ArrayDeque") ∈ lw_all := lw_g (lw_at lw_m1 51 rfl) rfl
theorem q136 : (Jvm.Cond.methodLink "CornerClaims" (93 : Nat) ({ cls := "java/util/ArrayDeque", name := "<init>", desc := "()V" } : Jvm.MethodName)) ∈ lw_all := lw_g (lw_at lw_m1 53 rfl) rfl
theorem q156 : (Jvm.Cond.classLink "CornerClaims" (98 : Nat) "CornerClaims$Field") ∈ lw_all := lw_g (lw_at lw_m1 73 rfl) rfl
theorem q158 : (Jvm.Cond.classLink "CornerClaims" (100 : Nat) "CornerClaims$Layout") ∈ lw_all := lw_g (lw_at lw_m1 75 rfl) rfl
theorem q160 : (Jvm.Cond.methodLink "CornerClaims" (102 : Nat) ({ cls := "CornerClaims$Layout", name := "<init>", desc := "(II)V" } : Jvm.MethodName)) ∈ lw_all := lw_g (lw_at lw_m1 77 rfl) rfl
theorem q221 : (Jvm.Cond.static ({ cls := "CornerClaims", name := "variable", desc := "(Ljava/lang/String;)LCornerClaims$Score;" } : Jvm.MethodName)) ∈ lw_all := lw_g (lw_at lw_m1 138 rfl) rfl
theorem q222 : (Jvm.Cond.code ({ cls := "CornerClaims", name := "variable", desc := "(Ljava/lang/String;)LCornerClaims$Score;" } : Jvm.MethodName) prog_1_method_4_code (3 : Nat) (Option.some (Jvm.ClassFile.FieldType.object "CornerClaims$Score"))) ∈ lw_all := lw_g (lw_at lw_m1 139 rfl) rfl
theorem q223 : (Jvm.Cond.methodLink "CornerClaims" (17 : Nat) ({ cls := "java/lang/String", name := "hashCode", desc := "()I" } : Jvm.MethodName)) ∈ lw_all := lw_g (lw_at lw_m1 140 rfl) rfl
theorem q592 : (Jvm.Cond.stringRef "CornerClaims" (23 : Nat) "area") ∈ lw_tbl := lw_at lw_m3 29 rfl
theorem q593 : (Jvm.Cond.methodLink "CornerClaims" (25 : Nat) ({ cls := "java/lang/String", name := "equals", desc := "(Ljava/lang/Object;)Z" } : Jvm.MethodName)) ∈ lw_all := lw_g (lw_at lw_m3 30 rfl) rfl
theorem q601 : (Jvm.Cond.stringRef "CornerClaims" (29 : Nat) "stones") ∈ lw_tbl := lw_at lw_m3 38 rfl
theorem q602 : (Jvm.Cond.stringRef "CornerClaims" (31 : Nat) "corners") ∈ lw_tbl := lw_at lw_m3 39 rfl
theorem q603 : (Jvm.Cond.stringRef "CornerClaims" (33 : Nat) "dents") ∈ lw_tbl := lw_at lw_m3 40 rfl
theorem q604 : (Jvm.Cond.stringRef "CornerClaims" (35 : Nat) "inner") ∈ lw_tbl := lw_at lw_m3 41 rfl
theorem q605 : (Jvm.Cond.static ({ cls := "CornerClaims", name := "lambda$variable$1", desc := "(IIIII)J" } : Jvm.MethodName)) ∈ lw_all := lw_g (lw_at lw_m3 42 rfl) rfl
theorem q606 : (Jvm.Cond.code ({ cls := "CornerClaims", name := "lambda$variable$1", desc := "(IIIII)J" } : Jvm.MethodName) prog_1_method_50_code (5 : Nat) (Option.some Jvm.ClassFile.FieldType.long)) ∈ lw_all := lw_g (lw_at lw_m3 43 rfl) rfl
theorem q607 : (Jvm.Cond.static ({ cls := "CornerClaims", name := "lambda$variable$2", desc := "(IIIII)J" } : Jvm.MethodName)) ∈ lw_all := lw_g (lw_at lw_m3 44 rfl) rfl
theorem q608 : (Jvm.Cond.code ({ cls := "CornerClaims", name := "lambda$variable$2", desc := "(IIIII)J" } : Jvm.MethodName) prog_1_method_49_code (5 : Nat) (Option.some Jvm.ClassFile.FieldType.long)) ∈ lw_all := lw_g (lw_at lw_m3 45 rfl) rfl
theorem q609 : (Jvm.Cond.static ({ cls := "CornerClaims", name := "lambda$variable$3", desc := "(IIIII)J" } : Jvm.MethodName)) ∈ lw_all := lw_g (lw_at lw_m3 46 rfl) rfl
theorem q610 : (Jvm.Cond.code ({ cls := "CornerClaims", name := "lambda$variable$3", desc := "(IIIII)J" } : Jvm.MethodName) prog_1_method_48_code (5 : Nat) (Option.some Jvm.ClassFile.FieldType.long)) ∈ lw_all := lw_g (lw_at lw_m3 47 rfl) rfl
theorem q611 : (Jvm.Cond.static ({ cls := "CornerClaims", name := "lambda$variable$4", desc := "(IIIII)J" } : Jvm.MethodName)) ∈ lw_all := lw_g (lw_at lw_m3 48 rfl) rfl
theorem q612 : (Jvm.Cond.code ({ cls := "CornerClaims", name := "lambda$variable$4", desc := "(IIIII)J" } : Jvm.MethodName) prog_1_method_47_code (5 : Nat) (Option.some Jvm.ClassFile.FieldType.long)) ∈ lw_all := lw_g (lw_at lw_m3 49 rfl) rfl
theorem q613 : (Jvm.Cond.static ({ cls := "CornerClaims", name := "lambda$variable$5", desc := "(IIIII)J" } : Jvm.MethodName)) ∈ lw_all := lw_g (lw_at lw_m3 50 rfl) rfl
theorem q614 : (Jvm.Cond.code ({ cls := "CornerClaims", name := "lambda$variable$5", desc := "(IIIII)J" } : Jvm.MethodName) prog_1_method_46_code (5 : Nat) (Option.some Jvm.ClassFile.FieldType.long)) ∈ lw_all := lw_g (lw_at lw_m3 51 rfl) rfl
theorem q617 : (Jvm.Cond.static ({ cls := "CornerClaims", name := "operation", desc := "(ILCornerClaims$Score;LCornerClaims$Score;)LCornerClaims$Score;" } : Jvm.MethodName)) ∈ lw_all := lw_g (lw_at lw_m3 54 rfl) rfl
theorem q618 : (Jvm.Cond.code ({ cls := "CornerClaims", name := "operation", desc := "(ILCornerClaims$Score;LCornerClaims$Score;)LCornerClaims$Score;" } : Jvm.MethodName) prog_1_method_3_code (3 : Nat) (Option.some (Jvm.ClassFile.FieldType.object "CornerClaims$Score"))) ∈ lw_all := lw_g (lw_at lw_m3 55 rfl) rfl
theorem q619 : (Jvm.Cond.static ({ cls := "CornerClaims", name := "lambda$operation$0", desc := "(LCornerClaims$Score;LCornerClaims$Score;IIIIII)J" } : Jvm.MethodName)) ∈ lw_all := lw_g (lw_at lw_m3 56 rfl) rfl
theorem q620 : (Jvm.Cond.code ({ cls := "CornerClaims", name := "lambda$operation$0", desc := "(LCornerClaims$Score;LCornerClaims$Score;IIIIII)J" } : Jvm.MethodName) prog_1_method_51_code (14 : Nat) (Option.some Jvm.ClassFile.FieldType.long)) ∈ lw_all := lw_g (lw_at lw_m3 57 rfl) rfl
theorem q621 : (Jvm.Cond.interfaceEntry "CornerClaims" (340 : Nat)) ∈ lw_tbl := lw_at lw_m3 58 rfl
theorem q622 : (Jvm.Cond.methodLink "CornerClaims" (340 : Nat) ({ cls := "CornerClaims$Score", name := "of", desc := "(IIIII)J" } : Jvm.MethodName)) ∈ lw_all := lw_g (lw_at lw_m3 59 rfl) rfl
theorem q625 : (Jvm.Cond.constantLong "CornerClaims" (345 : Nat) (-1000000 : Int64)) ∈ lw_all := lw_g (lw_at lw_m3 62 rfl) rfl
theorem q626 : (Jvm.Cond.constantLong "CornerClaims" (347 : Nat) (1000000 : Int64)) ∈ lw_all := lw_g (lw_at lw_m3 63 rfl) rfl
theorem q627 : (Jvm.Cond.methodLink "CornerClaims" (349 : Nat) ({ cls := "java/lang/Math", name := "min", desc := "(JJ)J" } : Jvm.MethodName)) ∈ lw_all := lw_g (lw_at lw_m3 64 rfl) rfl
theorem q630 : (Jvm.Cond.methodLink "CornerClaims" (351 : Nat) ({ cls := "java/lang/Math", name := "max", desc := "(JJ)J" } : Jvm.MethodName)) ∈ lw_all := lw_g (lw_at lw_m3 67 rfl) rfl
theorem q635 : (Jvm.Cond.fieldLinkNest "CornerClaims" (208 : Nat) "CornerClaims$Layout" "width" "I" "CornerClaims") ∈ lw_tbl := lw_at lw_m3 72 rfl
theorem q638 : (Jvm.Cond.fieldLinkNest "CornerClaims" (211 : Nat) "CornerClaims$Layout" "height" "I" "CornerClaims") ∈ lw_tbl := lw_at lw_m3 75 rfl
theorem q644 : (Jvm.Cond.fieldLinkNest "CornerClaims" (214 : Nat) "CornerClaims$Layout" "places" "Ljava/util/List;" "CornerClaims") ∈ lw_tbl := lw_at lw_m3 81 rfl
theorem q647 : (Jvm.Cond.fieldLinkNest "CornerClaims" (228 : Nat) "CornerClaims$Layout" "values" "Ljava/util/List;" "CornerClaims") ∈ lw_tbl := lw_at lw_m3 84 rfl
theorem q664 : (Jvm.Cond.methodLink "CornerClaims" (105 : Nat) ({ cls := "CornerClaims$Field", name := "<init>", desc := "(LCornerClaims$Layout;)V" } : Jvm.MethodName)) ∈ lw_all := lw_g (lw_at lw_m3 101 rfl) rfl
theorem q672 : (Jvm.Cond.fieldLinkNest "CornerClaims" (154 : Nat) "CornerClaims$Field" "layout" "LCornerClaims$Layout;" "CornerClaims") ∈ lw_tbl := lw_at lw_m3 109 rfl
theorem q674 : (Jvm.Cond.fieldLinkNest "CornerClaims" (124 : Nat) "CornerClaims$Field" "polygons" "Ljava/util/List;" "CornerClaims") ∈ lw_tbl := lw_at lw_m3 111 rfl
theorem q682 : (Jvm.Cond.fieldLink "CornerClaims" (87 : Nat) "CornerClaims" "buffer" "[B") ∈ lw_all := lw_g (lw_at lw_m3 119 rfl) rfl
theorem q683 : (Jvm.Cond.fieldLink "CornerClaims" (94 : Nat) "CornerClaims" "history" "Ljava/util/ArrayDeque;") ∈ lw_all := lw_g (lw_at lw_m3 120 rfl) rfl
theorem q684 : (Jvm.Cond.fieldLink "CornerClaims" (108 : Nat) "CornerClaims" "current" "LCornerClaims$Field;") ∈ lw_all := lw_g (lw_at lw_m3 121 rfl) rfl
theorem q685 : (Jvm.Cond.fieldLink "CornerClaims" (183 : Nat) "CornerClaims" "bufferLength" "I") ∈ lw_all := lw_g (lw_at lw_m3 122 rfl) rfl
theorem q686 : (Jvm.Cond.fieldLink "CornerClaims" (112 : Nat) "CornerClaims" "errorOffset" "I") ∈ lw_all := lw_g (lw_at lw_m3 123 rfl) rfl
theorem q687 : (Jvm.Cond.laysFinal "CornerClaims" "CornerClaims" "buffer" "[B") ∈ lw_all := lw_g (lw_at lw_m3 124 rfl) rfl
theorem q688 : (Jvm.Cond.soleField "CornerClaims" "buffer") ∈ lw_all := lw_g (lw_at lw_m3 125 rfl) rfl
theorem q689 : (Jvm.Cond.laysFinal "CornerClaims" "CornerClaims" "history" "Ljava/util/ArrayDeque;") ∈ lw_all := lw_g (lw_at lw_m3 126 rfl) rfl
theorem q690 : (Jvm.Cond.soleField "CornerClaims" "history") ∈ lw_all := lw_g (lw_at lw_m3 127 rfl) rfl
theorem q691 : (Jvm.Cond.lays "CornerClaims" "CornerClaims" "current" "LCornerClaims$Field;") ∈ lw_all := lw_g (lw_at lw_m3 128 rfl) rfl
theorem q692 : (Jvm.Cond.soleField "CornerClaims" "current") ∈ lw_all := lw_g (lw_at lw_m3 129 rfl) rfl
theorem q693 : (Jvm.Cond.lays "CornerClaims" "CornerClaims" "bufferLength" "I") ∈ lw_all := lw_g (lw_at lw_m3 130 rfl) rfl
theorem q694 : (Jvm.Cond.soleField "CornerClaims" "bufferLength") ∈ lw_all := lw_g (lw_at lw_m3 131 rfl) rfl
theorem q695 : (Jvm.Cond.lays "CornerClaims" "CornerClaims" "errorOffset" "I") ∈ lw_all := lw_g (lw_at lw_m3 132 rfl) rfl
theorem q696 : (Jvm.Cond.soleField "CornerClaims" "errorOffset") ∈ lw_all := lw_g (lw_at lw_m3 133 rfl) rfl
theorem q697 : (Jvm.Cond.superclass "CornerClaims" "java/lang/Object") ∈ lw_all := lw_g (lw_at lw_m3 134 rfl) rfl
theorem q699 : (Jvm.Cond.instanceMethod ({ cls := "CornerClaims", name := "append", desc := "(IIIII)I" } : Jvm.MethodName)) ∈ lw_all := lw_g (lw_at lw_m3 136 rfl) rfl
theorem q700 : (Jvm.Cond.selects "CornerClaims" ({ cls := "CornerClaims", name := "append", desc := "(IIIII)I" } : Jvm.MethodName) ({ cls := "CornerClaims", name := "append", desc := "(IIIII)I" } : Jvm.MethodName)) ∈ lw_all := lw_g (lw_at lw_m3 137 rfl) rfl
theorem q701 : (Jvm.Cond.code ({ cls := "CornerClaims", name := "append", desc := "(IIIII)I" } : Jvm.MethodName) prog_1_method_19_code (6 : Nat) (Option.some Jvm.ClassFile.FieldType.int)) ∈ lw_all := lw_g (lw_at lw_m3 138 rfl) rfl
theorem q702 : (Jvm.Cond.methodLink "CornerClaims" (186 : Nat) ({ cls := "CornerClaims", name := "put", desc := "(I)V" } : Jvm.MethodName)) ∈ lw_all := lw_g (lw_at lw_m3 139 rfl) rfl
theorem q703 : (Jvm.Cond.privateMethod ({ cls := "CornerClaims", name := "put", desc := "(I)V" } : Jvm.MethodName)) ∈ lw_tbl := lw_at lw_m3 140 rfl
theorem q704 : (Jvm.Cond.instanceMethod ({ cls := "CornerClaims", name := "put", desc := "(I)V" } : Jvm.MethodName)) ∈ lw_all := lw_g (lw_at lw_m3 141 rfl) rfl
theorem q705 : (Jvm.Cond.code ({ cls := "CornerClaims", name := "put", desc := "(I)V" } : Jvm.MethodName) prog_1_method_18_code (3 : Nat) (Option.none : Option Jvm.ClassFile.FieldType)) ∈ lw_all := lw_g (lw_at lw_m3 142 rfl) rfl
theorem q707 : (Jvm.Cond.instanceMethod ({ cls := "CornerClaims", name := "errorOffset", desc := "()I" } : Jvm.MethodName)) ∈ lw_all := lw_g (lw_at lw_m3 144 rfl) rfl
theorem q708 : (Jvm.Cond.selects "CornerClaims" ({ cls := "CornerClaims", name := "errorOffset", desc := "()I" } : Jvm.MethodName) ({ cls := "CornerClaims", name := "errorOffset", desc := "()I" } : Jvm.MethodName)) ∈ lw_all := lw_g (lw_at lw_m3 145 rfl) rfl
theorem q709 : (Jvm.Cond.code ({ cls := "CornerClaims", name := "errorOffset", desc := "()I" } : Jvm.MethodName) prog_1_method_21_code (1 : Nat) (Option.some Jvm.ClassFile.FieldType.int)) ∈ lw_all := lw_g (lw_at lw_m3 146 rfl) rfl
theorem q711 : (Jvm.Cond.instanceMethod ({ cls := "CornerClaims", name := "leader", desc := "()I" } : Jvm.MethodName)) ∈ lw_all := lw_g (lw_at lw_m3 148 rfl) rfl
theorem q712 : (Jvm.Cond.selects "CornerClaims" ({ cls := "CornerClaims", name := "leader", desc := "()I" } : Jvm.MethodName) ({ cls := "CornerClaims", name := "leader", desc := "()I" } : Jvm.MethodName)) ∈ lw_all := lw_g (lw_at lw_m3 149 rfl) rfl
theorem q713 : (Jvm.Cond.code ({ cls := "CornerClaims", name := "leader", desc := "()I" } : Jvm.MethodName) prog_1_method_36_code (3 : Nat) (Option.some Jvm.ClassFile.FieldType.int)) ∈ lw_all := lw_g (lw_at lw_m3 150 rfl) rfl
theorem q714 : (Jvm.Cond.methodLink "CornerClaims" (282 : Nat) ({ cls := "CornerClaims$Field", name := "points", desc := "(I)I" } : Jvm.MethodName)) ∈ lw_all := lw_g (lw_at lw_m3 151 rfl) rfl
theorem q783 : (Jvm.Cond.static ({ cls := "CornerClaims", name := "isOn", desc := "(LCornerClaims$Point;LCornerClaims$Point;LCornerClaims$Point;)Z" } : Jvm.MethodName)) ∈ lw_all := lw_g (lw_at lw_m3 220 rfl) rfl
theorem q784 : (Jvm.Cond.code ({ cls := "CornerClaims", name := "isOn", desc := "(LCornerClaims$Point;LCornerClaims$Point;LCornerClaims$Point;)Z" } : Jvm.MethodName) prog_1_method_6_code (3 : Nat) (Option.some Jvm.ClassFile.FieldType.boolean)) ∈ lw_all := lw_g (lw_at lw_m3 221 rfl) rfl
theorem q785 : (Jvm.Cond.methodLink "CornerClaims" (53 : Nat) ({ cls := "CornerClaims", name := "turn", desc := "(LCornerClaims$Point;LCornerClaims$Point;LCornerClaims$Point;)I" } : Jvm.MethodName)) ∈ lw_all := lw_g (lw_at lw_m3 222 rfl) rfl
theorem q786 : (Jvm.Cond.static ({ cls := "CornerClaims", name := "turn", desc := "(LCornerClaims$Point;LCornerClaims$Point;LCornerClaims$Point;)I" } : Jvm.MethodName)) ∈ lw_all := lw_g (lw_at lw_m3 223 rfl) rfl
theorem q787 : (Jvm.Cond.code ({ cls := "CornerClaims", name := "turn", desc := "(LCornerClaims$Point;LCornerClaims$Point;LCornerClaims$Point;)I" } : Jvm.MethodName) prog_1_method_5_code (3 : Nat) (Option.some Jvm.ClassFile.FieldType.int)) ∈ lw_all := lw_g (lw_at lw_m3 224 rfl) rfl
theorem q788 : (Jvm.Cond.methodLink "CornerClaims" (57 : Nat) ({ cls := "java/lang/Math", name := "min", desc := "(II)I" } : Jvm.MethodName)) ∈ lw_all := lw_g (lw_at lw_m3 225 rfl) rfl
theorem q789 : (Jvm.Cond.methodLink "CornerClaims" (60 : Nat) ({ cls := "java/lang/Math", name := "max", desc := "(II)I" } : Jvm.MethodName)) ∈ lw_all := lw_g (lw_at lw_m3 226 rfl) rfl
theorem q790 : (Jvm.Cond.methodLink "CornerClaims" (63 : Nat) ({ cls := "CornerClaims", name := "isBetween", desc := "(JJJ)Z" } : Jvm.MethodName)) ∈ lw_all := lw_g (lw_at lw_m3 227 rfl) rfl
theorem q791 : (Jvm.Cond.static ({ cls := "CornerClaims", name := "isBetween", desc := "(JJJ)Z" } : Jvm.MethodName)) ∈ lw_all := lw_g (lw_at lw_m3 228 rfl) rfl
theorem q792 : (Jvm.Cond.code ({ cls := "CornerClaims", name := "isBetween", desc := "(JJJ)Z" } : Jvm.MethodName) prog_1_method_1_code (6 : Nat) (Option.some Jvm.ClassFile.FieldType.boolean)) ∈ lw_all := lw_g (lw_at lw_m3 229 rfl) rfl
theorem q833 : (Jvm.Cond.static ({ cls := "CornerClaims", name := "divisor", desc := "(II)I" } : Jvm.MethodName)) ∈ lw_all := lw_g (lw_at lw_m4 30 rfl) rfl
theorem q834 : (Jvm.Cond.code ({ cls := "CornerClaims", name := "divisor", desc := "(II)I" } : Jvm.MethodName) prog_1_method_2_code (2 : Nat) (Option.some Jvm.ClassFile.FieldType.int)) ∈ lw_all := lw_g (lw_at lw_m4 31 rfl) rfl
theorem q835 : (Jvm.Cond.methodLink "CornerClaims" (1 : Nat) ({ cls := "java/lang/Math", name := "abs", desc := "(I)I" } : Jvm.MethodName)) ∈ lw_all := lw_g (lw_at lw_m4 32 rfl) rfl
theorem q836 : (Jvm.Cond.methodLink "CornerClaims" (7 : Nat) ({ cls := "CornerClaims", name := "divisor", desc := "(II)I" } : Jvm.MethodName)) ∈ lw_all := lw_g (lw_at lw_m4 33 rfl) rfl
theorem q844 : (Jvm.Cond.instanceMethod ({ cls := "CornerClaims", name := "undo", desc := "()I" } : Jvm.MethodName)) ∈ lw_all := lw_g (lw_at lw_m4 41 rfl) rfl
theorem q845 : (Jvm.Cond.selects "CornerClaims" ({ cls := "CornerClaims", name := "undo", desc := "()I" } : Jvm.MethodName) ({ cls := "CornerClaims", name := "undo", desc := "()I" } : Jvm.MethodName)) ∈ lw_all := lw_g (lw_at lw_m4 42 rfl) rfl
theorem q846 : (Jvm.Cond.code ({ cls := "CornerClaims", name := "undo", desc := "()I" } : Jvm.MethodName) prog_1_method_43_code (1 : Nat) (Option.some Jvm.ClassFile.FieldType.int)) ∈ lw_all := lw_g (lw_at lw_m4 43 rfl) rfl
theorem q847 : (Jvm.Cond.methodLink "CornerClaims" (327 : Nat) ({ cls := "java/util/ArrayDeque", name := "isEmpty", desc := "()Z" } : Jvm.MethodName)) ∈ lw_all := lw_g (lw_at lw_m4 44 rfl) rfl
theorem q851 : (Jvm.Cond.methodLink "CornerClaims" (331 : Nat) ({ cls := "java/util/ArrayDeque", name := "removeLast", desc := "()Ljava/lang/Object;" } : Jvm.MethodName)) ∈ lw_all := lw_g (lw_at lw_m4 48 rfl) rfl
theorem q886 : (Jvm.Cond.methodLink "CornerClaims" (166 : Nat) ({ cls := "java/util/ArrayDeque", name := "size", desc := "()I" } : Jvm.MethodName)) ∈ lw_all := lw_g (lw_at lw_m4 83 rfl) rfl
theorem q894 : (Jvm.Cond.instanceMethod ({ cls := "CornerClaims", name := "checksum", desc := "()J" } : Jvm.MethodName)) ∈ lw_all := lw_g (lw_at lw_m4 91 rfl) rfl
theorem q895 : (Jvm.Cond.selects "CornerClaims" ({ cls := "CornerClaims", name := "checksum", desc := "()J" } : Jvm.MethodName) ({ cls := "CornerClaims", name := "checksum", desc := "()J" } : Jvm.MethodName)) ∈ lw_all := lw_g (lw_at lw_m4 92 rfl) rfl
theorem q896 : (Jvm.Cond.code ({ cls := "CornerClaims", name := "checksum", desc := "()J" } : Jvm.MethodName) prog_1_method_45_code (6 : Nat) (Option.some Jvm.ClassFile.FieldType.long)) ∈ lw_all := lw_g (lw_at lw_m4 93 rfl) rfl
theorem q897 : (Jvm.Cond.interfaceEntry "CornerClaims" (128 : Nat)) ∈ lw_tbl := lw_at lw_m4 94 rfl
theorem q898 : (Jvm.Cond.methodLink "CornerClaims" (128 : Nat) ({ cls := "java/util/List", name := "size", desc := "()I" } : Jvm.MethodName)) ∈ lw_all := lw_g (lw_at lw_m4 95 rfl) rfl
theorem q899 : (Jvm.Cond.interfaceEntry "CornerClaims" (136 : Nat)) ∈ lw_tbl := lw_at lw_m4 96 rfl
theorem q900 : (Jvm.Cond.methodLink "CornerClaims" (136 : Nat) ({ cls := "java/util/List", name := "get", desc := "(I)Ljava/lang/Object;" } : Jvm.MethodName)) ∈ lw_all := lw_g (lw_at lw_m4 97 rfl) rfl
theorem q901 : (Jvm.Cond.classLink "CornerClaims" (140 : Nat) "CornerClaims$Polygon") ∈ lw_all := lw_g (lw_at lw_m4 98 rfl) rfl
theorem q902 : (Jvm.Cond.methodLink "CornerClaims" (336 : Nat) ({ cls := "CornerClaims", name := "hash", desc := "(JJ)J" } : Jvm.MethodName)) ∈ lw_all := lw_g (lw_at lw_m4 99 rfl) rfl
theorem q903 : (Jvm.Cond.static ({ cls := "CornerClaims", name := "hash", desc := "(JJ)J" } : Jvm.MethodName)) ∈ lw_all := lw_g (lw_at lw_m4 100 rfl) rfl
theorem q904 : (Jvm.Cond.code ({ cls := "CornerClaims", name := "hash", desc := "(JJ)J" } : Jvm.MethodName) prog_1_method_44_code (4 : Nat) (Option.some Jvm.ClassFile.FieldType.long)) ∈ lw_all := lw_g (lw_at lw_m4 101 rfl) rfl
theorem q905 : (Jvm.Cond.constantLong "CornerClaims" (334 : Nat) (31 : Int64)) ∈ lw_all := lw_g (lw_at lw_m4 102 rfl) rfl
theorem q906 : (Jvm.Cond.methodLink "CornerClaims" (242 : Nat) ({ cls := "CornerClaims$Polygon", name := "size", desc := "()I" } : Jvm.MethodName)) ∈ lw_all := lw_g (lw_at lw_m4 103 rfl) rfl
theorem q907 : (Jvm.Cond.methodLink "CornerClaims" (243 : Nat) ({ cls := "CornerClaims$Polygon", name := "at", desc := "(I)LCornerClaims$Point;" } : Jvm.MethodName)) ∈ lw_all := lw_g (lw_at lw_m4 104 rfl) rfl
theorem q908 : (Jvm.Cond.methodLink "CornerClaims" (247 : Nat) ({ cls := "CornerClaims$Point", name := "code", desc := "()I" } : Jvm.MethodName)) ∈ lw_all := lw_g (lw_at lw_m4 105 rfl) rfl
theorem q912 : (Jvm.Cond.methodLink "CornerClaims" (234 : Nat) ({ cls := "CornerClaims$Field", name := "claimedBy", desc := "(I)I" } : Jvm.MethodName)) ∈ lw_all := lw_g (lw_at lw_m4 109 rfl) rfl
theorem q918 : (Jvm.Cond.instanceMethod ({ cls := "CornerClaims", name := "load", desc := "(I)I" } : Jvm.MethodName)) ∈ lw_all := lw_g (lw_at lw_m4 115 rfl) rfl
theorem q919 : (Jvm.Cond.selects "CornerClaims" ({ cls := "CornerClaims", name := "load", desc := "(I)I" } : Jvm.MethodName) ({ cls := "CornerClaims", name := "load", desc := "(I)I" } : Jvm.MethodName)) ∈ lw_all := lw_g (lw_at lw_m4 116 rfl) rfl
theorem q920 : (Jvm.Cond.codeWith ({ cls := "CornerClaims", name := "load", desc := "(I)I" } : Jvm.MethodName) prog_1_method_20_code (3 : Nat) (Option.some Jvm.ClassFile.FieldType.int) [((24 : Nat), (52 : Nat), (53 : Nat), (198 : Nat))]) ∈ lw_all := lw_g (lw_at lw_m4 117 rfl) rfl
theorem q921 : (Jvm.Cond.classLink "CornerClaims" (198 : Nat) "CornerClaims$SetupException") ∈ lw_all := lw_g (lw_at lw_m4 118 rfl) rfl
theorem q922 : (Jvm.Cond.methodLink "CornerClaims" (162 : Nat) ({ cls := "CornerClaims", name := "requireArgument", desc := "(Z)V" } : Jvm.MethodName)) ∈ lw_all := lw_g (lw_at lw_m4 119 rfl) rfl
theorem q923 : (Jvm.Cond.static ({ cls := "CornerClaims", name := "requireArgument", desc := "(Z)V" } : Jvm.MethodName)) ∈ lw_all := lw_g (lw_at lw_m4 120 rfl) rfl
theorem q924 : (Jvm.Cond.code ({ cls := "CornerClaims", name := "requireArgument", desc := "(Z)V" } : Jvm.MethodName) prog_1_method_10_code (1 : Nat) (Option.none : Option Jvm.ClassFile.FieldType)) ∈ lw_all := lw_g (lw_at lw_m4 121 rfl) rfl
theorem q925 : (Jvm.Cond.classLink "CornerClaims" (115 : Nat) "java/lang/IllegalArgumentException") ∈ lw_all := lw_g (lw_at lw_m4 122 rfl) rfl
theorem q926 : (Jvm.Cond.methodLink "CornerClaims" (117 : Nat) ({ cls := "java/lang/IllegalArgumentException", name := "<init>", desc := "()V" } : Jvm.MethodName)) ∈ lw_all := lw_g (lw_at lw_m4 123 rfl) rfl
theorem q930 : (Jvm.Cond.classLink "CornerClaims" (190 : Nat) "CornerClaims$Parser") ∈ lw_all := lw_g (lw_at lw_m4 127 rfl) rfl
theorem q932 : (Jvm.Cond.methodLink "CornerClaims" (192 : Nat) ({ cls := "CornerClaims$Parser", name := "<init>", desc := "(LCornerClaims;I)V" } : Jvm.MethodName)) ∈ lw_all := lw_g (lw_at lw_m4 129 rfl) rfl
theorem q958 : (Jvm.Cond.methodLink "CornerClaims" (195 : Nat) ({ cls := "CornerClaims$Parser", name := "parse", desc := "()LCornerClaims$Field;" } : Jvm.MethodName)) ∈ lw_all := lw_g (lw_at lw_m4 155 rfl) rfl
theorem q1025 : (Jvm.Cond.fieldLinkNest "CornerClaims" (203 : Nat) "CornerClaims$SetupException" "code" "I" "CornerClaims") ∈ lw_tbl := lw_at lw_m4 222 rfl
theorem q1027 : (Jvm.Cond.fieldLinkNest "CornerClaims" (200 : Nat) "CornerClaims$SetupException" "offset" "I" "CornerClaims") ∈ lw_tbl := lw_at lw_m4 224 rfl
theorem q1080 : (Jvm.Cond.fieldLinkNest "CornerClaims" (44 : Nat) "CornerClaims$Point" "x" "I" "CornerClaims") ∈ lw_tbl := lw_at lw_m5 37 rfl
theorem q1083 : (Jvm.Cond.fieldLinkNest "CornerClaims" (50 : Nat) "CornerClaims$Point" "y" "I" "CornerClaims") ∈ lw_tbl := lw_at lw_m5 40 rfl
theorem q1109 : (Jvm.Cond.selects "CornerClaims" ({ cls := "java/lang/Object", name := "hashCode", desc := "()I" } : Jvm.MethodName) ({ cls := "java/lang/Object", name := "hashCode", desc := "()I" } : Jvm.MethodName)) ∈ lw_all := lw_g (lw_at lw_m5 66 rfl) rfl
theorem q1139 : (Jvm.Cond.selects "CornerClaims" ({ cls := "java/lang/Object", name := "equals", desc := "(Ljava/lang/Object;)Z" } : Jvm.MethodName) ({ cls := "java/lang/Object", name := "equals", desc := "(Ljava/lang/Object;)Z" } : Jvm.MethodName)) ∈ lw_all := lw_g (lw_at lw_m5 96 rfl) rfl
theorem q1185 : (Jvm.Cond.selects "CornerClaims" ({ cls := "java/lang/Object", name := "getClass", desc := "()Ljava/lang/Class;" } : Jvm.MethodName) ({ cls := "java/lang/Object", name := "getClass", desc := "()Ljava/lang/Class;" } : Jvm.MethodName)) ∈ lw_all := lw_g (lw_at lw_m5 142 rfl) rfl
theorem q1653 : (Jvm.Cond.fieldLinkNest "CornerClaims" (239 : Nat) "CornerClaims$Polygon" "owner" "I" "CornerClaims") ∈ lw_tbl := lw_at lw_m7 130 rfl
theorem q1657 : (Jvm.Cond.fieldLinkNest "CornerClaims" (297 : Nat) "CornerClaims$Polygon" "corners" "Ljava/util/List;" "CornerClaims") ∈ lw_tbl := lw_at lw_m7 134 rfl
theorem q1660 : (Jvm.Cond.fieldLinkNest "CornerClaims" (146 : Nat) "CornerClaims$Polygon" "isClosed" "Z" "CornerClaims") ∈ lw_tbl := lw_at lw_m7 137 rfl
theorem q1690 : (Jvm.Cond.static ({ cls := "CornerClaims", name := "meets", desc := "(LCornerClaims$Point;LCornerClaims$Point;LCornerClaims$Point;LCornerClaims$Point;)Z" } : Jvm.MethodName)) ∈ lw_all := lw_g (lw_at lw_m7 167 rfl) rfl
theorem q1691 : (Jvm.Cond.code ({ cls := "CornerClaims", name := "meets", desc := "(LCornerClaims$Point;LCornerClaims$Point;LCornerClaims$Point;LCornerClaims$Point;)Z" } : Jvm.MethodName) prog_1_method_8_code (6 : Nat) (Option.some Jvm.ClassFile.FieldType.boolean)) ∈ lw_all := lw_g (lw_at lw_m7 168 rfl) rfl
theorem q1692 : (Jvm.Cond.methodLink "CornerClaims" (72 : Nat) ({ cls := "CornerClaims", name := "cross", desc := "(LCornerClaims$Point;LCornerClaims$Point;LCornerClaims$Point;LCornerClaims$Point;)Z" } : Jvm.MethodName)) ∈ lw_all := lw_g (lw_at lw_m7 169 rfl) rfl
theorem q1693 : (Jvm.Cond.static ({ cls := "CornerClaims", name := "cross", desc := "(LCornerClaims$Point;LCornerClaims$Point;LCornerClaims$Point;LCornerClaims$Point;)Z" } : Jvm.MethodName)) ∈ lw_all := lw_g (lw_at lw_m7 170 rfl) rfl
theorem q1694 : (Jvm.Cond.code ({ cls := "CornerClaims", name := "cross", desc := "(LCornerClaims$Point;LCornerClaims$Point;LCornerClaims$Point;LCornerClaims$Point;)Z" } : Jvm.MethodName) prog_1_method_7_code (4 : Nat) (Option.some Jvm.ClassFile.FieldType.boolean)) ∈ lw_all := lw_g (lw_at lw_m7 171 rfl) rfl
theorem q1695 : (Jvm.Cond.methodLink "CornerClaims" (67 : Nat) ({ cls := "java/lang/Integer", name := "signum", desc := "(I)I" } : Jvm.MethodName)) ∈ lw_all := lw_g (lw_at lw_m7 172 rfl) rfl
theorem q1696 : (Jvm.Cond.methodLink "CornerClaims" (76 : Nat) ({ cls := "CornerClaims$Point", name := "equals", desc := "(Ljava/lang/Object;)Z" } : Jvm.MethodName)) ∈ lw_all := lw_g (lw_at lw_m7 173 rfl) rfl
theorem q1697 : (Jvm.Cond.methodLink "CornerClaims" (77 : Nat) ({ cls := "CornerClaims", name := "isOn", desc := "(LCornerClaims$Point;LCornerClaims$Point;LCornerClaims$Point;)Z" } : Jvm.MethodName)) ∈ lw_all := lw_g (lw_at lw_m7 174 rfl) rfl
theorem q1718 : (Jvm.Cond.methodLink "CornerClaims" (179 : Nat) ({ cls := "CornerClaims", name := "replace", desc := "(LCornerClaims$Field;)V" } : Jvm.MethodName)) ∈ lw_all := lw_g (lw_at lw_m7 195 rfl) rfl
theorem q1719 : (Jvm.Cond.privateMethod ({ cls := "CornerClaims", name := "replace", desc := "(LCornerClaims$Field;)V" } : Jvm.MethodName)) ∈ lw_tbl := lw_at lw_m7 196 rfl
theorem q1720 : (Jvm.Cond.instanceMethod ({ cls := "CornerClaims", name := "replace", desc := "(LCornerClaims$Field;)V" } : Jvm.MethodName)) ∈ lw_all := lw_g (lw_at lw_m7 197 rfl) rfl
theorem q1721 : (Jvm.Cond.code ({ cls := "CornerClaims", name := "replace", desc := "(LCornerClaims$Field;)V" } : Jvm.MethodName) prog_1_method_16_code (2 : Nat) (Option.none : Option Jvm.ClassFile.FieldType)) ∈ lw_all := lw_g (lw_at lw_m7 198 rfl) rfl
theorem q1722 : (Jvm.Cond.methodLink "CornerClaims" (167 : Nat) ({ cls := "java/util/ArrayDeque", name := "removeFirst", desc := "()Ljava/lang/Object;" } : Jvm.MethodName)) ∈ lw_all := lw_g (lw_at lw_m7 199 rfl) rfl
theorem q1733 : (Jvm.Cond.methodLink "CornerClaims" (171 : Nat) ({ cls := "java/util/ArrayDeque", name := "addLast", desc := "(Ljava/lang/Object;)V" } : Jvm.MethodName)) ∈ lw_all := lw_g (lw_at lw_m7 210 rfl) rfl
theorem q1769 : (Jvm.Cond.instanceMethod ({ cls := "CornerClaims", name := "count", desc := "(I)I" } : Jvm.MethodName)) ∈ lw_all := lw_g (lw_at lw_m8 6 rfl) rfl
theorem q1770 : (Jvm.Cond.selects "CornerClaims" ({ cls := "CornerClaims", name := "count", desc := "(I)I" } : Jvm.MethodName) ({ cls := "CornerClaims", name := "count", desc := "(I)I" } : Jvm.MethodName)) ∈ lw_all := lw_g (lw_at lw_m8 7 rfl) rfl
theorem q1771 : (Jvm.Cond.code ({ cls := "CornerClaims", name := "count", desc := "(I)I" } : Jvm.MethodName) prog_1_method_22_code (2 : Nat) (Option.some Jvm.ClassFile.FieldType.int)) ∈ lw_all := lw_g (lw_at lw_m8 8 rfl) rfl
theorem q1772 : (Jvm.Cond.constantLong "CornerClaims" (206 : Nat) (5 : Int64)) ∈ lw_all := lw_g (lw_at lw_m8 9 rfl) rfl
theorem q1773 : (Jvm.Cond.methodLink "CornerClaims" (217 : Nat) ({ cls := "CornerClaims$Field", name := "closed", desc := "()I" } : Jvm.MethodName)) ∈ lw_all := lw_g (lw_at lw_m8 10 rfl) rfl
theorem q1777 : (Jvm.Cond.methodLink "CornerClaims" (220 : Nat) ({ cls := "CornerClaims$Field", name := "claimed", desc := "()I" } : Jvm.MethodName)) ∈ lw_all := lw_g (lw_at lw_m8 14 rfl) rfl
theorem q1790 : (Jvm.Cond.instanceMethod ({ cls := "CornerClaims", name := "stone", desc := "(II)I" } : Jvm.MethodName)) ∈ lw_all := lw_g (lw_at lw_m8 27 rfl) rfl
theorem q1791 : (Jvm.Cond.selects "CornerClaims" ({ cls := "CornerClaims", name := "stone", desc := "(II)I" } : Jvm.MethodName) ({ cls := "CornerClaims", name := "stone", desc := "(II)I" } : Jvm.MethodName)) ∈ lw_all := lw_g (lw_at lw_m8 28 rfl) rfl
theorem q1792 : (Jvm.Cond.code ({ cls := "CornerClaims", name := "stone", desc := "(II)I" } : Jvm.MethodName) prog_1_method_23_code (3 : Nat) (Option.some Jvm.ClassFile.FieldType.int)) ∈ lw_all := lw_g (lw_at lw_m8 29 rfl) rfl
theorem q1793 : (Jvm.Cond.methodLink "CornerClaims" (223 : Nat) ({ cls := "CornerClaims", name := "requireElement", desc := "(II)V" } : Jvm.MethodName)) ∈ lw_all := lw_g (lw_at lw_m8 30 rfl) rfl
theorem q1794 : (Jvm.Cond.static ({ cls := "CornerClaims", name := "requireElement", desc := "(II)V" } : Jvm.MethodName)) ∈ lw_all := lw_g (lw_at lw_m8 31 rfl) rfl
theorem q1795 : (Jvm.Cond.code ({ cls := "CornerClaims", name := "requireElement", desc := "(II)V" } : Jvm.MethodName) prog_1_method_12_code (2 : Nat) (Option.none : Option Jvm.ClassFile.FieldType)) ∈ lw_all := lw_g (lw_at lw_m8 32 rfl) rfl
theorem q1796 : (Jvm.Cond.classLink "CornerClaims" (121 : Nat) "java/util/NoSuchElementException") ∈ lw_all := lw_g (lw_at lw_m8 33 rfl) rfl
theorem q1797 : (Jvm.Cond.methodLink "CornerClaims" (123 : Nat) ({ cls := "java/util/NoSuchElementException", name := "<init>", desc := "()V" } : Jvm.MethodName)) ∈ lw_all := lw_g (lw_at lw_m8 34 rfl) rfl
theorem q1798 : (Jvm.Cond.constantLong "CornerClaims" (226 : Nat) (3 : Int64)) ∈ lw_all := lw_g (lw_at lw_m8 35 rfl) rfl
theorem q1799 : (Jvm.Cond.classLink "CornerClaims" (45 : Nat) "CornerClaims$Point") ∈ lw_all := lw_g (lw_at lw_m8 36 rfl) rfl
theorem q1800 : (Jvm.Cond.classLink "CornerClaims" (68 : Nat) "java/lang/Integer") ∈ lw_all := lw_g (lw_at lw_m8 37 rfl) rfl
theorem q1801 : (Jvm.Cond.methodLink "CornerClaims" (231 : Nat) ({ cls := "java/lang/Integer", name := "intValue", desc := "()I" } : Jvm.MethodName)) ∈ lw_all := lw_g (lw_at lw_m8 38 rfl) rfl
theorem q1825 : (Jvm.Cond.instanceMethod ({ cls := "CornerClaims", name := "polygon", desc := "(II)I" } : Jvm.MethodName)) ∈ lw_all := lw_g (lw_at lw_m8 62 rfl) rfl
theorem q1826 : (Jvm.Cond.selects "CornerClaims" ({ cls := "CornerClaims", name := "polygon", desc := "(II)I" } : Jvm.MethodName) ({ cls := "CornerClaims", name := "polygon", desc := "(II)I" } : Jvm.MethodName)) ∈ lw_all := lw_g (lw_at lw_m8 63 rfl) rfl
theorem q1827 : (Jvm.Cond.code ({ cls := "CornerClaims", name := "polygon", desc := "(II)I" } : Jvm.MethodName) prog_1_method_24_code (4 : Nat) (Option.some Jvm.ClassFile.FieldType.int)) ∈ lw_all := lw_g (lw_at lw_m8 64 rfl) rfl
theorem q1828 : (Jvm.Cond.methodLink "CornerClaims" (142 : Nat) ({ cls := "CornerClaims", name := "polygonAt", desc := "(I)LCornerClaims$Polygon;" } : Jvm.MethodName)) ∈ lw_all := lw_g (lw_at lw_m8 65 rfl) rfl
theorem q1829 : (Jvm.Cond.privateMethod ({ cls := "CornerClaims", name := "polygonAt", desc := "(I)LCornerClaims$Polygon;" } : Jvm.MethodName)) ∈ lw_tbl := lw_at lw_m8 66 rfl
theorem q1830 : (Jvm.Cond.instanceMethod ({ cls := "CornerClaims", name := "polygonAt", desc := "(I)LCornerClaims$Polygon;" } : Jvm.MethodName)) ∈ lw_all := lw_g (lw_at lw_m8 67 rfl) rfl
theorem q1831 : (Jvm.Cond.code ({ cls := "CornerClaims", name := "polygonAt", desc := "(I)LCornerClaims$Polygon;" } : Jvm.MethodName) prog_1_method_13_code (2 : Nat) (Option.some (Jvm.ClassFile.FieldType.object "CornerClaims$Polygon"))) ∈ lw_all := lw_g (lw_at lw_m8 68 rfl) rfl
theorem q1832 : (Jvm.Cond.classLink "CornerClaims" (133 : Nat) "java/lang/IndexOutOfBoundsException") ∈ lw_all := lw_g (lw_at lw_m8 69 rfl) rfl
theorem q1841 : (Jvm.Cond.methodLink "CornerClaims" (135 : Nat) ({ cls := "java/lang/IndexOutOfBoundsException", name := "<init>", desc := "()V" } : Jvm.MethodName)) ∈ lw_all := lw_g (lw_at lw_m8 78 rfl) rfl
theorem q1847 : (Jvm.Cond.constantLong "CornerClaims" (237 : Nat) (2 : Int64)) ∈ lw_all := lw_g (lw_at lw_m8 84 rfl) rfl
theorem q1852 : (Jvm.Cond.instanceMethod ({ cls := "CornerClaims", name := "cornerAt", desc := "(II)I" } : Jvm.MethodName)) ∈ lw_all := lw_g (lw_at lw_m8 89 rfl) rfl
theorem q1853 : (Jvm.Cond.selects "CornerClaims" ({ cls := "CornerClaims", name := "cornerAt", desc := "(II)I" } : Jvm.MethodName) ({ cls := "CornerClaims", name := "cornerAt", desc := "(II)I" } : Jvm.MethodName)) ∈ lw_all := lw_g (lw_at lw_m8 90 rfl) rfl
theorem q1854 : (Jvm.Cond.code ({ cls := "CornerClaims", name := "cornerAt", desc := "(II)I" } : Jvm.MethodName) prog_1_method_25_code (4 : Nat) (Option.some Jvm.ClassFile.FieldType.int)) ∈ lw_all := lw_g (lw_at lw_m8 91 rfl) rfl
theorem q1859 : (Jvm.Cond.instanceMethod ({ cls := "CornerClaims", name := "reason", desc := "(III)I" } : Jvm.MethodName)) ∈ lw_all := lw_g (lw_at lw_m8 96 rfl) rfl
theorem q1860 : (Jvm.Cond.selects "CornerClaims" ({ cls := "CornerClaims", name := "reason", desc := "(III)I" } : Jvm.MethodName) ({ cls := "CornerClaims", name := "reason", desc := "(III)I" } : Jvm.MethodName)) ∈ lw_all := lw_g (lw_at lw_m8 97 rfl) rfl
theorem q1861 : (Jvm.Cond.code ({ cls := "CornerClaims", name := "reason", desc := "(III)I" } : Jvm.MethodName) prog_1_method_26_code (5 : Nat) (Option.some Jvm.ClassFile.FieldType.int)) ∈ lw_all := lw_g (lw_at lw_m8 98 rfl) rfl
theorem q1862 : (Jvm.Cond.methodLink "CornerClaims" (249 : Nat) ({ cls := "CornerClaims", name := "pointAt", desc := "(II)LCornerClaims$Point;" } : Jvm.MethodName)) ∈ lw_all := lw_g (lw_at lw_m8 99 rfl) rfl
theorem q1863 : (Jvm.Cond.privateMethod ({ cls := "CornerClaims", name := "pointAt", desc := "(II)LCornerClaims$Point;" } : Jvm.MethodName)) ∈ lw_tbl := lw_at lw_m8 100 rfl
theorem q1864 : (Jvm.Cond.instanceMethod ({ cls := "CornerClaims", name := "pointAt", desc := "(II)LCornerClaims$Point;" } : Jvm.MethodName)) ∈ lw_all := lw_g (lw_at lw_m8 101 rfl) rfl
theorem q1865 : (Jvm.Cond.code ({ cls := "CornerClaims", name := "pointAt", desc := "(II)LCornerClaims$Point;" } : Jvm.MethodName) prog_1_method_15_code (3 : Nat) (Option.some (Jvm.ClassFile.FieldType.object "CornerClaims$Point"))) ∈ lw_all := lw_g (lw_at lw_m8 102 rfl) rfl
theorem q1866 : (Jvm.Cond.methodLink "CornerClaims" (158 : Nat) ({ cls := "CornerClaims$Layout", name := "isPoint", desc := "(II)Z" } : Jvm.MethodName)) ∈ lw_all := lw_g (lw_at lw_m8 103 rfl) rfl
theorem q1871 : (Jvm.Cond.methodLink "CornerClaims" (165 : Nat) ({ cls := "CornerClaims$Point", name := "<init>", desc := "(II)V" } : Jvm.MethodName)) ∈ lw_all := lw_g (lw_at lw_m8 108 rfl) rfl
theorem q1872 : (Jvm.Cond.methodLink "CornerClaims" (253 : Nat) ({ cls := "CornerClaims$Field", name := "cornerReason", desc := "(LCornerClaims$Polygon;LCornerClaims$Point;)I" } : Jvm.MethodName)) ∈ lw_all := lw_g (lw_at lw_m8 109 rfl) rfl
theorem q1878 : (Jvm.Cond.instanceMethod ({ cls := "CornerClaims", name := "where", desc := "(III)I" } : Jvm.MethodName)) ∈ lw_all := lw_g (lw_at lw_m8 115 rfl) rfl
theorem q1879 : (Jvm.Cond.selects "CornerClaims" ({ cls := "CornerClaims", name := "where", desc := "(III)I" } : Jvm.MethodName) ({ cls := "CornerClaims", name := "where", desc := "(III)I" } : Jvm.MethodName)) ∈ lw_all := lw_g (lw_at lw_m8 116 rfl) rfl
theorem q1880 : (Jvm.Cond.code ({ cls := "CornerClaims", name := "where", desc := "(III)I" } : Jvm.MethodName) prog_1_method_27_code (6 : Nat) (Option.some Jvm.ClassFile.FieldType.int)) ∈ lw_all := lw_g (lw_at lw_m8 117 rfl) rfl
theorem q1881 : (Jvm.Cond.methodLink "CornerClaims" (150 : Nat) ({ cls := "CornerClaims", name := "requireState", desc := "(Z)V" } : Jvm.MethodName)) ∈ lw_all := lw_g (lw_at lw_m8 118 rfl) rfl
theorem q1882 : (Jvm.Cond.static ({ cls := "CornerClaims", name := "requireState", desc := "(Z)V" } : Jvm.MethodName)) ∈ lw_all := lw_g (lw_at lw_m8 119 rfl) rfl
theorem q1883 : (Jvm.Cond.code ({ cls := "CornerClaims", name := "requireState", desc := "(Z)V" } : Jvm.MethodName) prog_1_method_11_code (1 : Nat) (Option.none : Option Jvm.ClassFile.FieldType)) ∈ lw_all := lw_g (lw_at lw_m8 120 rfl) rfl
theorem q1884 : (Jvm.Cond.classLink "CornerClaims" (118 : Nat) "java/lang/IllegalStateException") ∈ lw_all := lw_g (lw_at lw_m8 121 rfl) rfl
theorem q1885 : (Jvm.Cond.methodLink "CornerClaims" (120 : Nat) ({ cls := "java/lang/IllegalStateException", name := "<init>", desc := "()V" } : Jvm.MethodName)) ∈ lw_all := lw_g (lw_at lw_m8 122 rfl) rfl
theorem q1889 : (Jvm.Cond.methodLink "CornerClaims" (257 : Nat) ({ cls := "CornerClaims$Polygon", name := "where", desc := "(LCornerClaims$Point;)I" } : Jvm.MethodName)) ∈ lw_all := lw_g (lw_at lw_m8 126 rfl) rfl
theorem q1894 : (Jvm.Cond.instanceMethod ({ cls := "CornerClaims", name := "area", desc := "(I)I" } : Jvm.MethodName)) ∈ lw_all := lw_g (lw_at lw_m8 131 rfl) rfl
theorem q1895 : (Jvm.Cond.selects "CornerClaims" ({ cls := "CornerClaims", name := "area", desc := "(I)I" } : Jvm.MethodName) ({ cls := "CornerClaims", name := "area", desc := "(I)I" } : Jvm.MethodName)) ∈ lw_all := lw_g (lw_at lw_m8 132 rfl) rfl
theorem q1896 : (Jvm.Cond.code ({ cls := "CornerClaims", name := "area", desc := "(I)I" } : Jvm.MethodName) prog_1_method_28_code (2 : Nat) (Option.some Jvm.ClassFile.FieldType.int)) ∈ lw_all := lw_g (lw_at lw_m8 133 rfl) rfl
theorem q1897 : (Jvm.Cond.methodLink "CornerClaims" (261 : Nat) ({ cls := "CornerClaims", name := "closedAt", desc := "(I)LCornerClaims$Polygon;" } : Jvm.MethodName)) ∈ lw_all := lw_g (lw_at lw_m8 134 rfl) rfl
theorem q1898 : (Jvm.Cond.privateMethod ({ cls := "CornerClaims", name := "closedAt", desc := "(I)LCornerClaims$Polygon;" } : Jvm.MethodName)) ∈ lw_tbl := lw_at lw_m8 135 rfl
theorem q1899 : (Jvm.Cond.instanceMethod ({ cls := "CornerClaims", name := "closedAt", desc := "(I)LCornerClaims$Polygon;" } : Jvm.MethodName)) ∈ lw_all := lw_g (lw_at lw_m8 136 rfl) rfl
theorem q1900 : (Jvm.Cond.code ({ cls := "CornerClaims", name := "closedAt", desc := "(I)LCornerClaims$Polygon;" } : Jvm.MethodName) prog_1_method_14_code (3 : Nat) (Option.some (Jvm.ClassFile.FieldType.object "CornerClaims$Polygon"))) ∈ lw_all := lw_g (lw_at lw_m8 137 rfl) rfl
theorem q1901 : (Jvm.Cond.methodLink "CornerClaims" (264 : Nat) ({ cls := "CornerClaims$Polygon", name := "area", desc := "()I" } : Jvm.MethodName)) ∈ lw_all := lw_g (lw_at lw_m8 138 rfl) rfl
theorem q1906 : (Jvm.Cond.instanceMethod ({ cls := "CornerClaims", name := "border", desc := "(I)I" } : Jvm.MethodName)) ∈ lw_all := lw_g (lw_at lw_m8 143 rfl) rfl
theorem q1907 : (Jvm.Cond.selects "CornerClaims" ({ cls := "CornerClaims", name := "border", desc := "(I)I" } : Jvm.MethodName) ({ cls := "CornerClaims", name := "border", desc := "(I)I" } : Jvm.MethodName)) ∈ lw_all := lw_g (lw_at lw_m8 144 rfl) rfl
theorem q1908 : (Jvm.Cond.code ({ cls := "CornerClaims", name := "border", desc := "(I)I" } : Jvm.MethodName) prog_1_method_29_code (2 : Nat) (Option.some Jvm.ClassFile.FieldType.int)) ∈ lw_all := lw_g (lw_at lw_m8 145 rfl) rfl
theorem q1909 : (Jvm.Cond.methodLink "CornerClaims" (266 : Nat) ({ cls := "CornerClaims$Polygon", name := "border", desc := "()I" } : Jvm.MethodName)) ∈ lw_all := lw_g (lw_at lw_m8 146 rfl) rfl
theorem q1914 : (Jvm.Cond.instanceMethod ({ cls := "CornerClaims", name := "inner", desc := "(I)I" } : Jvm.MethodName)) ∈ lw_all := lw_g (lw_at lw_m8 151 rfl) rfl
theorem q1915 : (Jvm.Cond.selects "CornerClaims" ({ cls := "CornerClaims", name := "inner", desc := "(I)I" } : Jvm.MethodName) ({ cls := "CornerClaims", name := "inner", desc := "(I)I" } : Jvm.MethodName)) ∈ lw_all := lw_g (lw_at lw_m8 152 rfl) rfl
theorem q1916 : (Jvm.Cond.code ({ cls := "CornerClaims", name := "inner", desc := "(I)I" } : Jvm.MethodName) prog_1_method_30_code (2 : Nat) (Option.some Jvm.ClassFile.FieldType.int)) ∈ lw_all := lw_g (lw_at lw_m8 153 rfl) rfl
theorem q1917 : (Jvm.Cond.methodLink "CornerClaims" (269 : Nat) ({ cls := "CornerClaims$Polygon", name := "inner", desc := "()I" } : Jvm.MethodName)) ∈ lw_all := lw_g (lw_at lw_m8 154 rfl) rfl
theorem q1922 : (Jvm.Cond.instanceMethod ({ cls := "CornerClaims", name := "dents", desc := "(I)I" } : Jvm.MethodName)) ∈ lw_all := lw_g (lw_at lw_m8 159 rfl) rfl
theorem q1923 : (Jvm.Cond.selects "CornerClaims" ({ cls := "CornerClaims", name := "dents", desc := "(I)I" } : Jvm.MethodName) ({ cls := "CornerClaims", name := "dents", desc := "(I)I" } : Jvm.MethodName)) ∈ lw_all := lw_g (lw_at lw_m8 160 rfl) rfl
theorem q1924 : (Jvm.Cond.code ({ cls := "CornerClaims", name := "dents", desc := "(I)I" } : Jvm.MethodName) prog_1_method_31_code (2 : Nat) (Option.some Jvm.ClassFile.FieldType.int)) ∈ lw_all := lw_g (lw_at lw_m8 161 rfl) rfl
theorem q1925 : (Jvm.Cond.methodLink "CornerClaims" (271 : Nat) ({ cls := "CornerClaims$Polygon", name := "dents", desc := "()I" } : Jvm.MethodName)) ∈ lw_all := lw_g (lw_at lw_m8 162 rfl) rfl
theorem q1930 : (Jvm.Cond.instanceMethod ({ cls := "CornerClaims", name := "parent", desc := "(I)I" } : Jvm.MethodName)) ∈ lw_all := lw_g (lw_at lw_m8 167 rfl) rfl
theorem q1931 : (Jvm.Cond.selects "CornerClaims" ({ cls := "CornerClaims", name := "parent", desc := "(I)I" } : Jvm.MethodName) ({ cls := "CornerClaims", name := "parent", desc := "(I)I" } : Jvm.MethodName)) ∈ lw_all := lw_g (lw_at lw_m8 168 rfl) rfl
theorem q1932 : (Jvm.Cond.code ({ cls := "CornerClaims", name := "parent", desc := "(I)I" } : Jvm.MethodName) prog_1_method_32_code (2 : Nat) (Option.some Jvm.ClassFile.FieldType.int)) ∈ lw_all := lw_g (lw_at lw_m8 169 rfl) rfl
theorem q1933 : (Jvm.Cond.methodLink "CornerClaims" (273 : Nat) ({ cls := "CornerClaims$Field", name := "innermost", desc := "(LCornerClaims$Point;)I" } : Jvm.MethodName)) ∈ lw_all := lw_g (lw_at lw_m8 170 rfl) rfl
theorem q1938 : (Jvm.Cond.instanceMethod ({ cls := "CornerClaims", name := "score", desc := "(I)I" } : Jvm.MethodName)) ∈ lw_all := lw_g (lw_at lw_m8 175 rfl) rfl
theorem q1939 : (Jvm.Cond.selects "CornerClaims" ({ cls := "CornerClaims", name := "score", desc := "(I)I" } : Jvm.MethodName) ({ cls := "CornerClaims", name := "score", desc := "(I)I" } : Jvm.MethodName)) ∈ lw_all := lw_g (lw_at lw_m8 176 rfl) rfl
theorem q1940 : (Jvm.Cond.code ({ cls := "CornerClaims", name := "score", desc := "(I)I" } : Jvm.MethodName) prog_1_method_33_code (3 : Nat) (Option.some Jvm.ClassFile.FieldType.int)) ∈ lw_all := lw_g (lw_at lw_m8 177 rfl) rfl
theorem q1941 : (Jvm.Cond.methodLink "CornerClaims" (276 : Nat) ({ cls := "CornerClaims$Field", name := "score", desc := "(I)I" } : Jvm.MethodName)) ∈ lw_all := lw_g (lw_at lw_m8 178 rfl) rfl
theorem q1946 : (Jvm.Cond.instanceMethod ({ cls := "CornerClaims", name := "points", desc := "(I)I" } : Jvm.MethodName)) ∈ lw_all := lw_g (lw_at lw_m8 183 rfl) rfl
theorem q1947 : (Jvm.Cond.selects "CornerClaims" ({ cls := "CornerClaims", name := "points", desc := "(I)I" } : Jvm.MethodName) ({ cls := "CornerClaims", name := "points", desc := "(I)I" } : Jvm.MethodName)) ∈ lw_all := lw_g (lw_at lw_m8 184 rfl) rfl
theorem q1948 : (Jvm.Cond.code ({ cls := "CornerClaims", name := "points", desc := "(I)I" } : Jvm.MethodName) prog_1_method_35_code (2 : Nat) (Option.some Jvm.ClassFile.FieldType.int)) ∈ lw_all := lw_g (lw_at lw_m8 185 rfl) rfl
theorem q1949 : (Jvm.Cond.methodLink "CornerClaims" (279 : Nat) ({ cls := "CornerClaims", name := "requirePlayer", desc := "(I)V" } : Jvm.MethodName)) ∈ lw_all := lw_g (lw_at lw_m8 186 rfl) rfl
theorem q1950 : (Jvm.Cond.static ({ cls := "CornerClaims", name := "requirePlayer", desc := "(I)V" } : Jvm.MethodName)) ∈ lw_all := lw_g (lw_at lw_m8 187 rfl) rfl
theorem q1951 : (Jvm.Cond.code ({ cls := "CornerClaims", name := "requirePlayer", desc := "(I)V" } : Jvm.MethodName) prog_1_method_34_code (1 : Nat) (Option.none : Option Jvm.ClassFile.FieldType)) ∈ lw_all := lw_g (lw_at lw_m8 188 rfl) rfl
theorem q1956 : (Jvm.Cond.instanceMethod ({ cls := "CornerClaims", name := "begin", desc := "(III)I" } : Jvm.MethodName)) ∈ lw_all := lw_g (lw_at lw_m8 193 rfl) rfl
theorem q1957 : (Jvm.Cond.selects "CornerClaims" ({ cls := "CornerClaims", name := "begin", desc := "(III)I" } : Jvm.MethodName) ({ cls := "CornerClaims", name := "begin", desc := "(III)I" } : Jvm.MethodName)) ∈ lw_all := lw_g (lw_at lw_m8 194 rfl) rfl
theorem q1958 : (Jvm.Cond.code ({ cls := "CornerClaims", name := "begin", desc := "(III)I" } : Jvm.MethodName) prog_1_method_37_code (7 : Nat) (Option.some Jvm.ClassFile.FieldType.int)) ∈ lw_all := lw_g (lw_at lw_m8 195 rfl) rfl
theorem q1959 : (Jvm.Cond.methodLink "CornerClaims" (285 : Nat) ({ cls := "CornerClaims", name := "change", desc := "()LCornerClaims$Field;" } : Jvm.MethodName)) ∈ lw_all := lw_g (lw_at lw_m8 196 rfl) rfl
theorem q1960 : (Jvm.Cond.privateMethod ({ cls := "CornerClaims", name := "change", desc := "()LCornerClaims$Field;" } : Jvm.MethodName)) ∈ lw_tbl := lw_at lw_m8 197 rfl
theorem q1961 : (Jvm.Cond.instanceMethod ({ cls := "CornerClaims", name := "change", desc := "()LCornerClaims$Field;" } : Jvm.MethodName)) ∈ lw_all := lw_g (lw_at lw_m8 198 rfl) rfl
theorem q1962 : (Jvm.Cond.code ({ cls := "CornerClaims", name := "change", desc := "()LCornerClaims$Field;" } : Jvm.MethodName) prog_1_method_17_code (1 : Nat) (Option.some (Jvm.ClassFile.FieldType.object "CornerClaims$Field"))) ∈ lw_all := lw_g (lw_at lw_m8 199 rfl) rfl
theorem q1963 : (Jvm.Cond.methodLink "CornerClaims" (175 : Nat) ({ cls := "CornerClaims$Field", name := "copy", desc := "()LCornerClaims$Field;" } : Jvm.MethodName)) ∈ lw_all := lw_g (lw_at lw_m8 200 rfl) rfl
theorem q1979 : (Jvm.Cond.methodLink "CornerClaims" (288 : Nat) ({ cls := "CornerClaims$Field", name := "isTaken", desc := "(LCornerClaims$Point;)Z" } : Jvm.MethodName)) ∈ lw_all := lw_g (lw_at lw_m8 216 rfl) rfl
theorem q1980 : (Jvm.Cond.methodLink "CornerClaims" (292 : Nat) ({ cls := "CornerClaims$Field", name := "isOnSide", desc := "(LCornerClaims$Point;)Z" } : Jvm.MethodName)) ∈ lw_all := lw_g (lw_at lw_m8 217 rfl) rfl
theorem q1981 : (Jvm.Cond.methodLink "CornerClaims" (295 : Nat) ({ cls := "CornerClaims$Polygon", name := "<init>", desc := "(I)V" } : Jvm.MethodName)) ∈ lw_all := lw_g (lw_at lw_m8 218 rfl) rfl
theorem q1982 : (Jvm.Cond.interfaceEntry "CornerClaims" (299 : Nat)) ∈ lw_tbl := lw_at lw_m8 219 rfl
theorem q1983 : (Jvm.Cond.methodLink "CornerClaims" (299 : Nat) ({ cls := "java/util/List", name := "add", desc := "(Ljava/lang/Object;)Z" } : Jvm.MethodName)) ∈ lw_all := lw_g (lw_at lw_m8 220 rfl) rfl
theorem q1988 : (Jvm.Cond.instanceMethod ({ cls := "CornerClaims", name := "corner", desc := "(III)I" } : Jvm.MethodName)) ∈ lw_all := lw_g (lw_at lw_m8 225 rfl) rfl
theorem q1989 : (Jvm.Cond.selects "CornerClaims" ({ cls := "CornerClaims", name := "corner", desc := "(III)I" } : Jvm.MethodName) ({ cls := "CornerClaims", name := "corner", desc := "(III)I" } : Jvm.MethodName)) ∈ lw_all := lw_g (lw_at lw_m8 226 rfl) rfl
theorem q1990 : (Jvm.Cond.code ({ cls := "CornerClaims", name := "corner", desc := "(III)I" } : Jvm.MethodName) prog_1_method_38_code (6 : Nat) (Option.some Jvm.ClassFile.FieldType.int)) ∈ lw_all := lw_g (lw_at lw_m8 227 rfl) rfl
theorem q1991 : (Jvm.Cond.methodLink "CornerClaims" (302 : Nat) ({ cls := "CornerClaims", name := "reason", desc := "(III)I" } : Jvm.MethodName)) ∈ lw_all := lw_g (lw_at lw_m8 228 rfl) rfl
theorem q1996 : (Jvm.Cond.instanceMethod ({ cls := "CornerClaims", name := "close", desc := "(I)I" } : Jvm.MethodName)) ∈ lw_all := lw_g (lw_at lw_m8 233 rfl) rfl
theorem q1997 : (Jvm.Cond.selects "CornerClaims" ({ cls := "CornerClaims", name := "close", desc := "(I)I" } : Jvm.MethodName) ({ cls := "CornerClaims", name := "close", desc := "(I)I" } : Jvm.MethodName)) ∈ lw_all := lw_g (lw_at lw_m8 234 rfl) rfl
theorem q1998 : (Jvm.Cond.code ({ cls := "CornerClaims", name := "close", desc := "(I)I" } : Jvm.MethodName) prog_1_method_39_code (4 : Nat) (Option.some Jvm.ClassFile.FieldType.int)) ∈ lw_all := lw_g (lw_at lw_m8 235 rfl) rfl
theorem q1999 : (Jvm.Cond.methodLink "CornerClaims" (306 : Nat) ({ cls := "CornerClaims$Field", name := "closeReason", desc := "(LCornerClaims$Polygon;)I" } : Jvm.MethodName)) ∈ lw_all := lw_g (lw_at lw_m8 236 rfl) rfl
theorem q2000 : (Jvm.Cond.methodLink "CornerClaims" (310 : Nat) ({ cls := "CornerClaims$Field", name := "claims", desc := "(I)I" } : Jvm.MethodName)) ∈ lw_all := lw_g (lw_at lw_m8 237 rfl) rfl
theorem q2005 : (Jvm.Cond.instanceMethod ({ cls := "CornerClaims", name := "bend", desc := "(IIII)I" } : Jvm.MethodName)) ∈ lw_all := lw_g (lw_at lw_m9 2 rfl) rfl
theorem q2006 : (Jvm.Cond.selects "CornerClaims" ({ cls := "CornerClaims", name := "bend", desc := "(IIII)I" } : Jvm.MethodName) ({ cls := "CornerClaims", name := "bend", desc := "(IIII)I" } : Jvm.MethodName)) ∈ lw_all := lw_g (lw_at lw_m9 3 rfl) rfl
theorem q2007 : (Jvm.Cond.code ({ cls := "CornerClaims", name := "bend", desc := "(IIII)I" } : Jvm.MethodName) prog_1_method_40_code (9 : Nat) (Option.some Jvm.ClassFile.FieldType.int)) ∈ lw_all := lw_g (lw_at lw_m9 4 rfl) rfl
theorem q2008 : (Jvm.Cond.methodLink "CornerClaims" (313 : Nat) ({ cls := "CornerClaims$Field", name := "bendReason", desc := "(LCornerClaims$Polygon;ILCornerClaims$Point;)I" } : Jvm.MethodName)) ∈ lw_all := lw_g (lw_at lw_m9 5 rfl) rfl
theorem q2012 : (Jvm.Cond.interfaceEntry "CornerClaims" (317 : Nat)) ∈ lw_tbl := lw_at lw_m9 9 rfl
theorem q2013 : (Jvm.Cond.methodLink "CornerClaims" (317 : Nat) ({ cls := "java/util/List", name := "add", desc := "(ILjava/lang/Object;)V" } : Jvm.MethodName)) ∈ lw_all := lw_g (lw_at lw_m9 10 rfl) rfl
theorem q2043 : (Jvm.Cond.instanceMethod ({ cls := "CornerClaims", name := "takeOut", desc := "(II)I" } : Jvm.MethodName)) ∈ lw_all := lw_g (lw_at lw_m9 40 rfl) rfl
theorem q2044 : (Jvm.Cond.selects "CornerClaims" ({ cls := "CornerClaims", name := "takeOut", desc := "(II)I" } : Jvm.MethodName) ({ cls := "CornerClaims", name := "takeOut", desc := "(II)I" } : Jvm.MethodName)) ∈ lw_all := lw_g (lw_at lw_m9 41 rfl) rfl
theorem q2045 : (Jvm.Cond.code ({ cls := "CornerClaims", name := "takeOut", desc := "(II)I" } : Jvm.MethodName) prog_1_method_41_code (7 : Nat) (Option.some Jvm.ClassFile.FieldType.int)) ∈ lw_all := lw_g (lw_at lw_m9 42 rfl) rfl
theorem q2046 : (Jvm.Cond.methodLink "CornerClaims" (320 : Nat) ({ cls := "CornerClaims$Field", name := "takeOutReason", desc := "(LCornerClaims$Polygon;I)I" } : Jvm.MethodName)) ∈ lw_all := lw_g (lw_at lw_m9 43 rfl) rfl
theorem q2051 : (Jvm.Cond.interfaceEntry "CornerClaims" (324 : Nat)) ∈ lw_tbl := lw_at lw_m9 48 rfl
theorem q2052 : (Jvm.Cond.methodLink "CornerClaims" (324 : Nat) ({ cls := "java/util/List", name := "remove", desc := "(I)Ljava/lang/Object;" } : Jvm.MethodName)) ∈ lw_all := lw_g (lw_at lw_m9 49 rfl) rfl
theorem q2068 : (Jvm.Cond.instanceMethod ({ cls := "CornerClaims", name := "remove", desc := "(I)I" } : Jvm.MethodName)) ∈ lw_all := lw_g (lw_at lw_m9 65 rfl) rfl
theorem q2069 : (Jvm.Cond.selects "CornerClaims" ({ cls := "CornerClaims", name := "remove", desc := "(I)I" } : Jvm.MethodName) ({ cls := "CornerClaims", name := "remove", desc := "(I)I" } : Jvm.MethodName)) ∈ lw_all := lw_g (lw_at lw_m9 66 rfl) rfl
theorem q2070 : (Jvm.Cond.code ({ cls := "CornerClaims", name := "remove", desc := "(I)I" } : Jvm.MethodName) prog_1_method_42_code (5 : Nat) (Option.some Jvm.ClassFile.FieldType.int)) ∈ lw_all := lw_g (lw_at lw_m9 67 rfl) rfl
theorem q2529 : (Jvm.Cond.castable "CornerClaims" "java/lang/Object") ∈ lw_tbl := lw_at lw_m11 46 rfl
theorem in_X1 : ∀ w ∈ wsX10, w ∈ lw_all := lw_in wsX10 [687, 689, 691, 693, 695] (by decide +kernel) (by decide +kernel)
/-! CornerClaims$Field -/
set_option maxRecDepth 100000
def RX2 : String := "CornerClaims$Field"
def TX2 : u_T := fun k => match k with
  | 0 => ("CornerClaims$Field", "layout", "LCornerClaims$Layout;", true)
  | _ => ("CornerClaims$Field", "polygons", "Ljava/util/List;", true)
def tyX2 : Nat → FieldType := fun k => match k with
  | 0 => .object "CornerClaims$Layout"
  | _ => .object "java/util/List"
abbrev wsX20 : List Cond := u_ws RX2 TX2 2
theorem nmX2 : ∀ a, a < 2 → ∀ b, b < 2 → a ≠ b → (TX2 a).2.1 ≠ (TX2 b).2.1 := by decide +kernel
theorem tyX2_ok : ∀ k, k < 2 → parseFieldDescriptor (TX2 k).2.2.1 = some (tyX2 k) := by decide +kernel
abbrev cX2_init : ByteArray := prog_2_method_1_code
def yX2_init : MethodName := ⟨RX2, "<init>", "(LCornerClaims$Layout;)V"⟩
def dkwX2_init_0 : List UInt8 := [42, 183, 0, 3, 42, 187, 0, 9, 89, 183, 0, 11, 181, 0, 12, 42, 43, 181, 0, 18, 177]
abbrev dktX2_init_0 : List UInt8 := dkwX2_init_0 ++ []
theorem dksX2_init_0 : cX2_init.data.toList.drop 0 = dktX2_init_0 := by decide +kernel
theorem dX2_init_0 : decode cX2_init 0 = .ok (.aload_n 0, 1) := dk_42 (dk_at dksX2_init_0 0 rfl rfl)
theorem dX2_init_1 : decode cX2_init 1 = .ok (.invokespecial 3, 3) := dk_183 0 3 (dk_at dksX2_init_0 1 rfl rfl)
theorem dX2_init_4 : decode cX2_init 4 = .ok (.aload_n 0, 1) := dk_42 (dk_at dksX2_init_0 4 rfl rfl)
theorem dX2_init_5 : decode cX2_init 5 = .ok (.new 9, 3) := dk_187 0 9 (dk_at dksX2_init_0 5 rfl rfl)
theorem dX2_init_8 : decode cX2_init 8 = .ok (.dup, 1) := dk_89 (dk_at dksX2_init_0 8 rfl rfl)
theorem dX2_init_9 : decode cX2_init 9 = .ok (.invokespecial 11, 3) := dk_183 0 11 (dk_at dksX2_init_0 9 rfl rfl)
theorem dX2_init_12 : decode cX2_init 12 = .ok (.putfield 12, 3) := dk_181 0 12 (dk_at dksX2_init_0 12 rfl rfl)
theorem dX2_init_15 : decode cX2_init 15 = .ok (.aload_n 0, 1) := dk_42 (dk_at dksX2_init_0 15 rfl rfl)
theorem dX2_init_16 : decode cX2_init 16 = .ok (.aload_n 1, 1) := dk_43 (dk_at dksX2_init_0 16 rfl rfl)
theorem dX2_init_17 : decode cX2_init 17 = .ok (.putfield 18, 3) := dk_181 0 18 (dk_at dksX2_init_0 17 rfl rfl)
theorem dX2_init_20 : decode cX2_init 20 = .ok (.return_, 1) := dk_177 (dk_at dksX2_init_0 20 rfl rfl)
abbrev cX2_points : ByteArray := prog_2_method_18_code
def yX2_points : MethodName := ⟨RX2, "points", "(I)I"⟩
def dkwX2_points_3 : List UInt8 := [167, 255, 189, 28, 172]
abbrev dktX2_points_3 : List UInt8 := dkwX2_points_3 ++ []
def dkwX2_points_2 : List UInt8 := [192, 0, 35, 180, 0, 168, 27, 160, 0, 11, 42, 29, 182, 0, 172, 167, 0, 4, 3, 96, 61, 132, 3, 1]
abbrev dktX2_points_2 : List UInt8 := dkwX2_points_2 ++ dktX2_points_3
def dkwX2_points_1 : List UInt8 := [185, 0, 31, 2, 0, 192, 0, 35, 180, 0, 96, 153, 0, 31, 42, 180, 0, 12, 29, 185, 0, 31, 2, 0]
abbrev dktX2_points_1 : List UInt8 := dkwX2_points_1 ++ dktX2_points_2
def dkwX2_points_0 : List UInt8 := [3, 61, 3, 62, 29, 42, 180, 0, 12, 185, 0, 25, 1, 0, 162, 0, 60, 28, 42, 180, 0, 12, 29]
abbrev dktX2_points_0 : List UInt8 := dkwX2_points_0 ++ dktX2_points_1
theorem dksX2_points_0 : cX2_points.data.toList.drop 0 = dktX2_points_0 := by decide +kernel
theorem dksX2_points_1 : cX2_points.data.toList.drop 23 = dktX2_points_1 := dk_seg dksX2_points_0 23 rfl rfl
theorem dksX2_points_2 : cX2_points.data.toList.drop 47 = dktX2_points_2 := dk_seg dksX2_points_1 24 rfl rfl
theorem dksX2_points_3 : cX2_points.data.toList.drop 71 = dktX2_points_3 := dk_seg dksX2_points_2 24 rfl rfl
theorem dX2_points_0 : decode cX2_points 0 = .ok (.iconst 0, 1) := dk_3 (dk_at dksX2_points_0 0 rfl rfl)
theorem dX2_points_1 : decode cX2_points 1 = .ok (.istore_n 2, 1) := dk_61 (dk_at dksX2_points_0 1 rfl rfl)
theorem dX2_points_2 : decode cX2_points 2 = .ok (.iconst 0, 1) := dk_3 (dk_at dksX2_points_0 2 rfl rfl)
theorem dX2_points_3 : decode cX2_points 3 = .ok (.istore_n 3, 1) := dk_62 (dk_at dksX2_points_0 3 rfl rfl)
theorem dX2_points_4 : decode cX2_points 4 = .ok (.iload_n 3, 1) := dk_29 (dk_at dksX2_points_0 4 rfl rfl)
theorem dX2_points_5 : decode cX2_points 5 = .ok (.aload_n 0, 1) := dk_42 (dk_at dksX2_points_0 5 rfl rfl)
theorem dX2_points_6 : decode cX2_points 6 = .ok (.getfield 12, 3) := dk_180 0 12 (dk_at dksX2_points_0 6 rfl rfl)
theorem dX2_points_9 : decode cX2_points 9 = .ok (.invokeinterface 25 1, 5) := by decide +kernel
theorem dX2_points_14 : decode cX2_points 14 = .ok (.if_icmp .ge 60, 3) := dk_162 0 60 (dk_at dksX2_points_0 14 rfl rfl)
theorem dX2_points_17 : decode cX2_points 17 = .ok (.iload_n 2, 1) := dk_28 (dk_at dksX2_points_0 17 rfl rfl)
theorem dX2_points_18 : decode cX2_points 18 = .ok (.aload_n 0, 1) := dk_42 (dk_at dksX2_points_0 18 rfl rfl)
theorem dX2_points_19 : decode cX2_points 19 = .ok (.getfield 12, 3) := dk_180 0 12 (dk_at dksX2_points_0 19 rfl rfl)
theorem dX2_points_22 : decode cX2_points 22 = .ok (.iload_n 3, 1) := dk_29 (dk_at dksX2_points_0 22 rfl rfl)
theorem dX2_points_23 : decode cX2_points 23 = .ok (.invokeinterface 31 2, 5) := by decide +kernel
theorem dX2_points_28 : decode cX2_points 28 = .ok (.checkcast 35, 3) := dk_192 0 35 (dk_at dksX2_points_1 5 rfl rfl)
theorem dX2_points_31 : decode cX2_points 31 = .ok (.getfield 96, 3) := dk_180 0 96 (dk_at dksX2_points_1 8 rfl rfl)
theorem dX2_points_34 : decode cX2_points 34 = .ok (.ifCond .eq 31, 3) := dk_153 0 31 (dk_at dksX2_points_1 11 rfl rfl)
theorem dX2_points_37 : decode cX2_points 37 = .ok (.aload_n 0, 1) := dk_42 (dk_at dksX2_points_1 14 rfl rfl)
theorem dX2_points_38 : decode cX2_points 38 = .ok (.getfield 12, 3) := dk_180 0 12 (dk_at dksX2_points_1 15 rfl rfl)
theorem dX2_points_41 : decode cX2_points 41 = .ok (.iload_n 3, 1) := dk_29 (dk_at dksX2_points_1 18 rfl rfl)
theorem dX2_points_42 : decode cX2_points 42 = .ok (.invokeinterface 31 2, 5) := by decide +kernel
theorem dX2_points_47 : decode cX2_points 47 = .ok (.checkcast 35, 3) := dk_192 0 35 (dk_at dksX2_points_2 0 rfl rfl)
theorem dX2_points_50 : decode cX2_points 50 = .ok (.getfield 168, 3) := dk_180 0 168 (dk_at dksX2_points_2 3 rfl rfl)
theorem dX2_points_53 : decode cX2_points 53 = .ok (.iload_n 1, 1) := dk_27 (dk_at dksX2_points_2 6 rfl rfl)
theorem dX2_points_54 : decode cX2_points 54 = .ok (.if_icmp .ne 11, 3) := dk_160 0 11 (dk_at dksX2_points_2 7 rfl rfl)
theorem dX2_points_57 : decode cX2_points 57 = .ok (.aload_n 0, 1) := dk_42 (dk_at dksX2_points_2 10 rfl rfl)
theorem dX2_points_58 : decode cX2_points 58 = .ok (.iload_n 3, 1) := dk_29 (dk_at dksX2_points_2 11 rfl rfl)
theorem dX2_points_59 : decode cX2_points 59 = .ok (.invokevirtual 172, 3) := dk_182 0 172 (dk_at dksX2_points_2 12 rfl rfl)
theorem dX2_points_62 : decode cX2_points 62 = .ok (.goto 4, 3) := dk_167 0 4 (dk_at dksX2_points_2 15 rfl rfl)
theorem dX2_points_65 : decode cX2_points 65 = .ok (.iconst 0, 1) := dk_3 (dk_at dksX2_points_2 18 rfl rfl)
theorem dX2_points_66 : decode cX2_points 66 = .ok (.iadd, 1) := dk_96 (dk_at dksX2_points_2 19 rfl rfl)
theorem dX2_points_67 : decode cX2_points 67 = .ok (.istore_n 2, 1) := dk_61 (dk_at dksX2_points_2 20 rfl rfl)
theorem dX2_points_68 : decode cX2_points 68 = .ok (.iinc 3 1, 3) := dk_132 3 1 (dk_at dksX2_points_2 21 rfl rfl)
theorem dX2_points_71 : decode cX2_points 71 = .ok (.goto (-67), 3) := dk_167 255 189 (dk_at dksX2_points_3 0 rfl rfl)
theorem dX2_points_74 : decode cX2_points 74 = .ok (.iload_n 2, 1) := dk_28 (dk_at dksX2_points_3 3 rfl rfl)
theorem dX2_points_75 : decode cX2_points 75 = .ok (.ireturn, 1) := dk_172 (dk_at dksX2_points_3 4 rfl rfl)
abbrev cX2_score : ByteArray := prog_2_method_17_code
def yX2_score : MethodName := ⟨RX2, "score", "(I)I"⟩
def dkwX2_score_5 : List UInt8 := [20, 0, 157, 22, 4, 184, 0, 159, 184, 0, 165, 136, 172]
abbrev dktX2_score_5 : List UInt8 := dkwX2_score_5 ++ []
def dkwX2_score_4 : List UInt8 := [44, 182, 0, 85, 44, 182, 0, 143, 44, 182, 0, 146, 185, 0, 149, 6, 0, 55, 4, 20, 0, 155]
abbrev dktX2_score_4 : List UInt8 := dkwX2_score_4 ++ dktX2_score_5
def dkwX2_score_3 : List UInt8 := [167, 0, 4, 3, 96, 62, 132, 4, 1, 167, 255, 199, 42, 180, 0, 18, 180, 0, 139, 44, 182, 0, 118, 29]
abbrev dktX2_score_3 : List UInt8 := dkwX2_score_3 ++ dktX2_score_4
def dkwX2_score_2 : List UInt8 := [160, 0, 26, 42, 180, 0, 18, 180, 0, 131, 21, 4, 185, 0, 31, 2, 0, 192, 0, 134, 182, 0, 136]
abbrev dktX2_score_2 : List UInt8 := dkwX2_score_2 ++ dktX2_score_3
def dkwX2_score_1 : List UInt8 := [180, 0, 18, 180, 0, 80, 185, 0, 25, 1, 0, 162, 0, 46, 29, 42, 21, 4, 182, 0, 124, 27]
abbrev dktX2_score_1 : List UInt8 := dkwX2_score_1 ++ dktX2_score_2
def dkwX2_score_0 : List UInt8 := [42, 180, 0, 12, 27, 185, 0, 31, 2, 0, 192, 0, 35, 77, 3, 62, 3, 54, 4, 21, 4, 42]
abbrev dktX2_score_0 : List UInt8 := dkwX2_score_0 ++ dktX2_score_1
theorem dksX2_score_0 : cX2_score.data.toList.drop 0 = dktX2_score_0 := by decide +kernel
theorem dksX2_score_1 : cX2_score.data.toList.drop 22 = dktX2_score_1 := dk_seg dksX2_score_0 22 rfl rfl
theorem dksX2_score_2 : cX2_score.data.toList.drop 44 = dktX2_score_2 := dk_seg dksX2_score_1 22 rfl rfl
theorem dksX2_score_3 : cX2_score.data.toList.drop 67 = dktX2_score_3 := dk_seg dksX2_score_2 23 rfl rfl
theorem dksX2_score_4 : cX2_score.data.toList.drop 91 = dktX2_score_4 := dk_seg dksX2_score_3 24 rfl rfl
theorem dksX2_score_5 : cX2_score.data.toList.drop 113 = dktX2_score_5 := dk_seg dksX2_score_4 22 rfl rfl
theorem dX2_score_0 : decode cX2_score 0 = .ok (.aload_n 0, 1) := dk_42 (dk_at dksX2_score_0 0 rfl rfl)
theorem dX2_score_1 : decode cX2_score 1 = .ok (.getfield 12, 3) := dk_180 0 12 (dk_at dksX2_score_0 1 rfl rfl)
theorem dX2_score_4 : decode cX2_score 4 = .ok (.iload_n 1, 1) := dk_27 (dk_at dksX2_score_0 4 rfl rfl)
theorem dX2_score_5 : decode cX2_score 5 = .ok (.invokeinterface 31 2, 5) := by decide +kernel
theorem dX2_score_10 : decode cX2_score 10 = .ok (.checkcast 35, 3) := dk_192 0 35 (dk_at dksX2_score_0 10 rfl rfl)
theorem dX2_score_13 : decode cX2_score 13 = .ok (.astore_n 2, 1) := dk_77 (dk_at dksX2_score_0 13 rfl rfl)
theorem dX2_score_14 : decode cX2_score 14 = .ok (.iconst 0, 1) := dk_3 (dk_at dksX2_score_0 14 rfl rfl)
theorem dX2_score_15 : decode cX2_score 15 = .ok (.istore_n 3, 1) := dk_62 (dk_at dksX2_score_0 15 rfl rfl)
theorem dX2_score_16 : decode cX2_score 16 = .ok (.iconst 0, 1) := dk_3 (dk_at dksX2_score_0 16 rfl rfl)
theorem dX2_score_17 : decode cX2_score 17 = .ok (.istore 4, 2) := dk_54 4 (dk_at dksX2_score_0 17 rfl rfl)
theorem dX2_score_19 : decode cX2_score 19 = .ok (.iload 4, 2) := dk_21 4 (dk_at dksX2_score_0 19 rfl rfl)
theorem dX2_score_21 : decode cX2_score 21 = .ok (.aload_n 0, 1) := dk_42 (dk_at dksX2_score_0 21 rfl rfl)
theorem dX2_score_22 : decode cX2_score 22 = .ok (.getfield 18, 3) := dk_180 0 18 (dk_at dksX2_score_1 0 rfl rfl)
theorem dX2_score_25 : decode cX2_score 25 = .ok (.getfield 80, 3) := dk_180 0 80 (dk_at dksX2_score_1 3 rfl rfl)
theorem dX2_score_28 : decode cX2_score 28 = .ok (.invokeinterface 25 1, 5) := by decide +kernel
theorem dX2_score_33 : decode cX2_score 33 = .ok (.if_icmp .ge 46, 3) := dk_162 0 46 (dk_at dksX2_score_1 11 rfl rfl)
theorem dX2_score_36 : decode cX2_score 36 = .ok (.iload_n 3, 1) := dk_29 (dk_at dksX2_score_1 14 rfl rfl)
theorem dX2_score_37 : decode cX2_score 37 = .ok (.aload_n 0, 1) := dk_42 (dk_at dksX2_score_1 15 rfl rfl)
theorem dX2_score_38 : decode cX2_score 38 = .ok (.iload 4, 2) := dk_21 4 (dk_at dksX2_score_1 16 rfl rfl)
theorem dX2_score_40 : decode cX2_score 40 = .ok (.invokevirtual 124, 3) := dk_182 0 124 (dk_at dksX2_score_1 18 rfl rfl)
theorem dX2_score_43 : decode cX2_score 43 = .ok (.iload_n 1, 1) := dk_27 (dk_at dksX2_score_1 21 rfl rfl)
theorem dX2_score_44 : decode cX2_score 44 = .ok (.if_icmp .ne 26, 3) := dk_160 0 26 (dk_at dksX2_score_2 0 rfl rfl)
theorem dX2_score_47 : decode cX2_score 47 = .ok (.aload_n 0, 1) := dk_42 (dk_at dksX2_score_2 3 rfl rfl)
theorem dX2_score_48 : decode cX2_score 48 = .ok (.getfield 18, 3) := dk_180 0 18 (dk_at dksX2_score_2 4 rfl rfl)
theorem dX2_score_51 : decode cX2_score 51 = .ok (.getfield 131, 3) := dk_180 0 131 (dk_at dksX2_score_2 7 rfl rfl)
theorem dX2_score_54 : decode cX2_score 54 = .ok (.iload 4, 2) := dk_21 4 (dk_at dksX2_score_2 10 rfl rfl)
theorem dX2_score_56 : decode cX2_score 56 = .ok (.invokeinterface 31 2, 5) := by decide +kernel
theorem dX2_score_61 : decode cX2_score 61 = .ok (.checkcast 134, 3) := dk_192 0 134 (dk_at dksX2_score_2 17 rfl rfl)
theorem dX2_score_64 : decode cX2_score 64 = .ok (.invokevirtual 136, 3) := dk_182 0 136 (dk_at dksX2_score_2 20 rfl rfl)
theorem dX2_score_67 : decode cX2_score 67 = .ok (.goto 4, 3) := dk_167 0 4 (dk_at dksX2_score_3 0 rfl rfl)
theorem dX2_score_70 : decode cX2_score 70 = .ok (.iconst 0, 1) := dk_3 (dk_at dksX2_score_3 3 rfl rfl)
theorem dX2_score_71 : decode cX2_score 71 = .ok (.iadd, 1) := dk_96 (dk_at dksX2_score_3 4 rfl rfl)
theorem dX2_score_72 : decode cX2_score 72 = .ok (.istore_n 3, 1) := dk_62 (dk_at dksX2_score_3 5 rfl rfl)
theorem dX2_score_73 : decode cX2_score 73 = .ok (.iinc 4 1, 3) := dk_132 4 1 (dk_at dksX2_score_3 6 rfl rfl)
theorem dX2_score_76 : decode cX2_score 76 = .ok (.goto (-57), 3) := dk_167 255 199 (dk_at dksX2_score_3 9 rfl rfl)
theorem dX2_score_79 : decode cX2_score 79 = .ok (.aload_n 0, 1) := dk_42 (dk_at dksX2_score_3 12 rfl rfl)
theorem dX2_score_80 : decode cX2_score 80 = .ok (.getfield 18, 3) := dk_180 0 18 (dk_at dksX2_score_3 13 rfl rfl)
theorem dX2_score_83 : decode cX2_score 83 = .ok (.getfield 139, 3) := dk_180 0 139 (dk_at dksX2_score_3 16 rfl rfl)
theorem dX2_score_86 : decode cX2_score 86 = .ok (.aload_n 2, 1) := dk_44 (dk_at dksX2_score_3 19 rfl rfl)
theorem dX2_score_87 : decode cX2_score 87 = .ok (.invokevirtual 118, 3) := dk_182 0 118 (dk_at dksX2_score_3 20 rfl rfl)
theorem dX2_score_90 : decode cX2_score 90 = .ok (.iload_n 3, 1) := dk_29 (dk_at dksX2_score_3 23 rfl rfl)
theorem dX2_score_91 : decode cX2_score 91 = .ok (.aload_n 2, 1) := dk_44 (dk_at dksX2_score_4 0 rfl rfl)
theorem dX2_score_92 : decode cX2_score 92 = .ok (.invokevirtual 85, 3) := dk_182 0 85 (dk_at dksX2_score_4 1 rfl rfl)
theorem dX2_score_95 : decode cX2_score 95 = .ok (.aload_n 2, 1) := dk_44 (dk_at dksX2_score_4 4 rfl rfl)
theorem dX2_score_96 : decode cX2_score 96 = .ok (.invokevirtual 143, 3) := dk_182 0 143 (dk_at dksX2_score_4 5 rfl rfl)
theorem dX2_score_99 : decode cX2_score 99 = .ok (.aload_n 2, 1) := dk_44 (dk_at dksX2_score_4 8 rfl rfl)
theorem dX2_score_100 : decode cX2_score 100 = .ok (.invokevirtual 146, 3) := dk_182 0 146 (dk_at dksX2_score_4 9 rfl rfl)
theorem dX2_score_103 : decode cX2_score 103 = .ok (.invokeinterface 149 6, 5) := by decide +kernel
theorem dX2_score_108 : decode cX2_score 108 = .ok (.lstore 4, 2) := dk_55 4 (dk_at dksX2_score_4 17 rfl rfl)
theorem dX2_score_110 : decode cX2_score 110 = .ok (.ldc2_w 155, 3) := dk_20 0 155 (dk_at dksX2_score_4 19 rfl rfl)
theorem dX2_score_113 : decode cX2_score 113 = .ok (.ldc2_w 157, 3) := dk_20 0 157 (dk_at dksX2_score_5 0 rfl rfl)
theorem dX2_score_116 : decode cX2_score 116 = .ok (.lload 4, 2) := dk_22 4 (dk_at dksX2_score_5 3 rfl rfl)
theorem dX2_score_118 : decode cX2_score 118 = .ok (.invokestatic 159, 3) := dk_184 0 159 (dk_at dksX2_score_5 5 rfl rfl)
theorem dX2_score_121 : decode cX2_score 121 = .ok (.invokestatic 165, 3) := dk_184 0 165 (dk_at dksX2_score_5 8 rfl rfl)
theorem dX2_score_124 : decode cX2_score 124 = .ok (.l2i, 1) := dk_136 (dk_at dksX2_score_5 11 rfl rfl)
theorem dX2_score_125 : decode cX2_score 125 = .ok (.ireturn, 1) := dk_172 (dk_at dksX2_score_5 12 rfl rfl)
abbrev cX2_claimedBy : ByteArray := prog_2_method_13_code
def yX2_claimedBy : MethodName := ⟨RX2, "claimedBy", "(I)I"⟩
def dkwX2_claimedBy_0 : List UInt8 := [42, 42, 180, 0, 18, 180, 0, 80, 27, 185, 0, 31, 2, 0, 192, 0, 83, 182, 0, 121, 172]
abbrev dktX2_claimedBy_0 : List UInt8 := dkwX2_claimedBy_0 ++ []
theorem dksX2_claimedBy_0 : cX2_claimedBy.data.toList.drop 0 = dktX2_claimedBy_0 := by decide +kernel
theorem dX2_claimedBy_0 : decode cX2_claimedBy 0 = .ok (.aload_n 0, 1) := dk_42 (dk_at dksX2_claimedBy_0 0 rfl rfl)
theorem dX2_claimedBy_1 : decode cX2_claimedBy 1 = .ok (.aload_n 0, 1) := dk_42 (dk_at dksX2_claimedBy_0 1 rfl rfl)
theorem dX2_claimedBy_2 : decode cX2_claimedBy 2 = .ok (.getfield 18, 3) := dk_180 0 18 (dk_at dksX2_claimedBy_0 2 rfl rfl)
theorem dX2_claimedBy_5 : decode cX2_claimedBy 5 = .ok (.getfield 80, 3) := dk_180 0 80 (dk_at dksX2_claimedBy_0 5 rfl rfl)
theorem dX2_claimedBy_8 : decode cX2_claimedBy 8 = .ok (.iload_n 1, 1) := dk_27 (dk_at dksX2_claimedBy_0 8 rfl rfl)
theorem dX2_claimedBy_9 : decode cX2_claimedBy 9 = .ok (.invokeinterface 31 2, 5) := by decide +kernel
theorem dX2_claimedBy_14 : decode cX2_claimedBy 14 = .ok (.checkcast 83, 3) := dk_192 0 83 (dk_at dksX2_claimedBy_0 14 rfl rfl)
theorem dX2_claimedBy_17 : decode cX2_claimedBy 17 = .ok (.invokevirtual 121, 3) := dk_182 0 121 (dk_at dksX2_claimedBy_0 17 rfl rfl)
theorem dX2_claimedBy_20 : decode cX2_claimedBy 20 = .ok (.ireturn, 1) := dk_172 (dk_at dksX2_claimedBy_0 20 rfl rfl)
abbrev cX2_innermost : ByteArray := prog_2_method_12_code
def yX2_innermost : MethodName := ⟨RX2, "innermost", "(LCornerClaims$Point;)I"⟩
def dkwX2_innermost_4 : List UInt8 := [167, 255, 169, 28, 172]
abbrev dktX2_innermost_4 : List UInt8 := dkwX2_innermost_4 ++ []
def dkwX2_innermost_3 : List UInt8 := [185, 0, 31, 2, 0, 192, 0, 35, 182, 0, 118, 162, 0, 7, 29, 167, 0, 4, 28, 61, 132, 3, 1]
abbrev dktX2_innermost_3 : List UInt8 := dkwX2_innermost_3 ++ dktX2_innermost_4
def dkwX2_innermost_2 : List UInt8 := [5, 159, 0, 6, 167, 0, 38, 28, 2, 159, 0, 27, 25, 4, 182, 0, 118, 42, 180, 0, 12, 28]
abbrev dktX2_innermost_2 : List UInt8 := dkwX2_innermost_2 ++ dktX2_innermost_3
def dkwX2_innermost_1 : List UInt8 := [185, 0, 31, 2, 0, 192, 0, 35, 58, 4, 25, 4, 180, 0, 96, 153, 0, 51, 25, 4, 43, 182, 0, 114]
abbrev dktX2_innermost_1 : List UInt8 := dkwX2_innermost_1 ++ dktX2_innermost_2
def dkwX2_innermost_0 : List UInt8 := [2, 61, 3, 62, 29, 42, 180, 0, 12, 185, 0, 25, 1, 0, 162, 0, 80, 42, 180, 0, 12, 29]
abbrev dktX2_innermost_0 : List UInt8 := dkwX2_innermost_0 ++ dktX2_innermost_1
theorem dksX2_innermost_0 : cX2_innermost.data.toList.drop 0 = dktX2_innermost_0 := by decide +kernel
theorem dksX2_innermost_1 : cX2_innermost.data.toList.drop 22 = dktX2_innermost_1 := dk_seg dksX2_innermost_0 22 rfl rfl
theorem dksX2_innermost_2 : cX2_innermost.data.toList.drop 46 = dktX2_innermost_2 := dk_seg dksX2_innermost_1 24 rfl rfl
theorem dksX2_innermost_3 : cX2_innermost.data.toList.drop 68 = dktX2_innermost_3 := dk_seg dksX2_innermost_2 22 rfl rfl
theorem dksX2_innermost_4 : cX2_innermost.data.toList.drop 91 = dktX2_innermost_4 := dk_seg dksX2_innermost_3 23 rfl rfl
theorem dX2_innermost_0 : decode cX2_innermost 0 = .ok (.iconst (-1), 1) := dk_2 (dk_at dksX2_innermost_0 0 rfl rfl)
theorem dX2_innermost_1 : decode cX2_innermost 1 = .ok (.istore_n 2, 1) := dk_61 (dk_at dksX2_innermost_0 1 rfl rfl)
theorem dX2_innermost_2 : decode cX2_innermost 2 = .ok (.iconst 0, 1) := dk_3 (dk_at dksX2_innermost_0 2 rfl rfl)
theorem dX2_innermost_3 : decode cX2_innermost 3 = .ok (.istore_n 3, 1) := dk_62 (dk_at dksX2_innermost_0 3 rfl rfl)
theorem dX2_innermost_4 : decode cX2_innermost 4 = .ok (.iload_n 3, 1) := dk_29 (dk_at dksX2_innermost_0 4 rfl rfl)
theorem dX2_innermost_5 : decode cX2_innermost 5 = .ok (.aload_n 0, 1) := dk_42 (dk_at dksX2_innermost_0 5 rfl rfl)
theorem dX2_innermost_6 : decode cX2_innermost 6 = .ok (.getfield 12, 3) := dk_180 0 12 (dk_at dksX2_innermost_0 6 rfl rfl)
theorem dX2_innermost_9 : decode cX2_innermost 9 = .ok (.invokeinterface 25 1, 5) := by decide +kernel
theorem dX2_innermost_14 : decode cX2_innermost 14 = .ok (.if_icmp .ge 80, 3) := dk_162 0 80 (dk_at dksX2_innermost_0 14 rfl rfl)
theorem dX2_innermost_17 : decode cX2_innermost 17 = .ok (.aload_n 0, 1) := dk_42 (dk_at dksX2_innermost_0 17 rfl rfl)
theorem dX2_innermost_18 : decode cX2_innermost 18 = .ok (.getfield 12, 3) := dk_180 0 12 (dk_at dksX2_innermost_0 18 rfl rfl)
theorem dX2_innermost_21 : decode cX2_innermost 21 = .ok (.iload_n 3, 1) := dk_29 (dk_at dksX2_innermost_0 21 rfl rfl)
theorem dX2_innermost_22 : decode cX2_innermost 22 = .ok (.invokeinterface 31 2, 5) := by decide +kernel
theorem dX2_innermost_27 : decode cX2_innermost 27 = .ok (.checkcast 35, 3) := dk_192 0 35 (dk_at dksX2_innermost_1 5 rfl rfl)
theorem dX2_innermost_30 : decode cX2_innermost 30 = .ok (.astore 4, 2) := dk_58 4 (dk_at dksX2_innermost_1 8 rfl rfl)
theorem dX2_innermost_32 : decode cX2_innermost 32 = .ok (.aload 4, 2) := dk_25 4 (dk_at dksX2_innermost_1 10 rfl rfl)
theorem dX2_innermost_34 : decode cX2_innermost 34 = .ok (.getfield 96, 3) := dk_180 0 96 (dk_at dksX2_innermost_1 12 rfl rfl)
theorem dX2_innermost_37 : decode cX2_innermost 37 = .ok (.ifCond .eq 51, 3) := dk_153 0 51 (dk_at dksX2_innermost_1 15 rfl rfl)
theorem dX2_innermost_40 : decode cX2_innermost 40 = .ok (.aload 4, 2) := dk_25 4 (dk_at dksX2_innermost_1 18 rfl rfl)
theorem dX2_innermost_42 : decode cX2_innermost 42 = .ok (.aload_n 1, 1) := dk_43 (dk_at dksX2_innermost_1 20 rfl rfl)
theorem dX2_innermost_43 : decode cX2_innermost 43 = .ok (.invokevirtual 114, 3) := dk_182 0 114 (dk_at dksX2_innermost_1 21 rfl rfl)
theorem dX2_innermost_46 : decode cX2_innermost 46 = .ok (.iconst 2, 1) := dk_5 (dk_at dksX2_innermost_2 0 rfl rfl)
theorem dX2_innermost_47 : decode cX2_innermost 47 = .ok (.if_icmp .eq 6, 3) := dk_159 0 6 (dk_at dksX2_innermost_2 1 rfl rfl)
theorem dX2_innermost_50 : decode cX2_innermost 50 = .ok (.goto 38, 3) := dk_167 0 38 (dk_at dksX2_innermost_2 4 rfl rfl)
theorem dX2_innermost_53 : decode cX2_innermost 53 = .ok (.iload_n 2, 1) := dk_28 (dk_at dksX2_innermost_2 7 rfl rfl)
theorem dX2_innermost_54 : decode cX2_innermost 54 = .ok (.iconst (-1), 1) := dk_2 (dk_at dksX2_innermost_2 8 rfl rfl)
theorem dX2_innermost_55 : decode cX2_innermost 55 = .ok (.if_icmp .eq 27, 3) := dk_159 0 27 (dk_at dksX2_innermost_2 9 rfl rfl)
theorem dX2_innermost_58 : decode cX2_innermost 58 = .ok (.aload 4, 2) := dk_25 4 (dk_at dksX2_innermost_2 12 rfl rfl)
theorem dX2_innermost_60 : decode cX2_innermost 60 = .ok (.invokevirtual 118, 3) := dk_182 0 118 (dk_at dksX2_innermost_2 14 rfl rfl)
theorem dX2_innermost_63 : decode cX2_innermost 63 = .ok (.aload_n 0, 1) := dk_42 (dk_at dksX2_innermost_2 17 rfl rfl)
theorem dX2_innermost_64 : decode cX2_innermost 64 = .ok (.getfield 12, 3) := dk_180 0 12 (dk_at dksX2_innermost_2 18 rfl rfl)
theorem dX2_innermost_67 : decode cX2_innermost 67 = .ok (.iload_n 2, 1) := dk_28 (dk_at dksX2_innermost_2 21 rfl rfl)
theorem dX2_innermost_68 : decode cX2_innermost 68 = .ok (.invokeinterface 31 2, 5) := by decide +kernel
theorem dX2_innermost_73 : decode cX2_innermost 73 = .ok (.checkcast 35, 3) := dk_192 0 35 (dk_at dksX2_innermost_3 5 rfl rfl)
theorem dX2_innermost_76 : decode cX2_innermost 76 = .ok (.invokevirtual 118, 3) := dk_182 0 118 (dk_at dksX2_innermost_3 8 rfl rfl)
theorem dX2_innermost_79 : decode cX2_innermost 79 = .ok (.if_icmp .ge 7, 3) := dk_162 0 7 (dk_at dksX2_innermost_3 11 rfl rfl)
theorem dX2_innermost_82 : decode cX2_innermost 82 = .ok (.iload_n 3, 1) := dk_29 (dk_at dksX2_innermost_3 14 rfl rfl)
theorem dX2_innermost_83 : decode cX2_innermost 83 = .ok (.goto 4, 3) := dk_167 0 4 (dk_at dksX2_innermost_3 15 rfl rfl)
theorem dX2_innermost_86 : decode cX2_innermost 86 = .ok (.iload_n 2, 1) := dk_28 (dk_at dksX2_innermost_3 18 rfl rfl)
theorem dX2_innermost_87 : decode cX2_innermost 87 = .ok (.istore_n 2, 1) := dk_61 (dk_at dksX2_innermost_3 19 rfl rfl)
theorem dX2_innermost_88 : decode cX2_innermost 88 = .ok (.iinc 3 1, 3) := dk_132 3 1 (dk_at dksX2_innermost_3 20 rfl rfl)
theorem dX2_innermost_91 : decode cX2_innermost 91 = .ok (.goto (-87), 3) := dk_167 255 169 (dk_at dksX2_innermost_4 0 rfl rfl)
theorem dX2_innermost_94 : decode cX2_innermost 94 = .ok (.iload_n 2, 1) := dk_28 (dk_at dksX2_innermost_4 3 rfl rfl)
theorem dX2_innermost_95 : decode cX2_innermost 95 = .ok (.ireturn, 1) := dk_172 (dk_at dksX2_innermost_4 4 rfl rfl)
abbrev cX2_isTaken : ByteArray := prog_2_method_4_code
def yX2_isTaken : MethodName := ⟨RX2, "isTaken", "(LCornerClaims$Point;)Z"⟩
def dkwX2_isTaken_1 : List UInt8 := [167, 0, 4, 3, 172]
abbrev dktX2_isTaken_1 : List UInt8 := dkwX2_isTaken_1 ++ []
def dkwX2_isTaken_0 : List UInt8 := [42, 180, 0, 18, 180, 0, 51, 43, 182, 0, 57, 154, 0, 11, 42, 43, 182, 0, 62, 153, 0, 7, 4]
abbrev dktX2_isTaken_0 : List UInt8 := dkwX2_isTaken_0 ++ dktX2_isTaken_1
theorem dksX2_isTaken_0 : cX2_isTaken.data.toList.drop 0 = dktX2_isTaken_0 := by decide +kernel
theorem dksX2_isTaken_1 : cX2_isTaken.data.toList.drop 23 = dktX2_isTaken_1 := dk_seg dksX2_isTaken_0 23 rfl rfl
theorem dX2_isTaken_0 : decode cX2_isTaken 0 = .ok (.aload_n 0, 1) := dk_42 (dk_at dksX2_isTaken_0 0 rfl rfl)
theorem dX2_isTaken_1 : decode cX2_isTaken 1 = .ok (.getfield 18, 3) := dk_180 0 18 (dk_at dksX2_isTaken_0 1 rfl rfl)
theorem dX2_isTaken_4 : decode cX2_isTaken 4 = .ok (.getfield 51, 3) := dk_180 0 51 (dk_at dksX2_isTaken_0 4 rfl rfl)
theorem dX2_isTaken_7 : decode cX2_isTaken 7 = .ok (.aload_n 1, 1) := dk_43 (dk_at dksX2_isTaken_0 7 rfl rfl)
theorem dX2_isTaken_8 : decode cX2_isTaken 8 = .ok (.invokevirtual 57, 3) := dk_182 0 57 (dk_at dksX2_isTaken_0 8 rfl rfl)
theorem dX2_isTaken_11 : decode cX2_isTaken 11 = .ok (.ifCond .ne 11, 3) := dk_154 0 11 (dk_at dksX2_isTaken_0 11 rfl rfl)
theorem dX2_isTaken_14 : decode cX2_isTaken 14 = .ok (.aload_n 0, 1) := dk_42 (dk_at dksX2_isTaken_0 14 rfl rfl)
theorem dX2_isTaken_15 : decode cX2_isTaken 15 = .ok (.aload_n 1, 1) := dk_43 (dk_at dksX2_isTaken_0 15 rfl rfl)
theorem dX2_isTaken_16 : decode cX2_isTaken 16 = .ok (.invokevirtual 62, 3) := dk_182 0 62 (dk_at dksX2_isTaken_0 16 rfl rfl)
theorem dX2_isTaken_19 : decode cX2_isTaken 19 = .ok (.ifCond .eq 7, 3) := dk_153 0 7 (dk_at dksX2_isTaken_0 19 rfl rfl)
theorem dX2_isTaken_22 : decode cX2_isTaken 22 = .ok (.iconst 1, 1) := dk_4 (dk_at dksX2_isTaken_0 22 rfl rfl)
theorem dX2_isTaken_23 : decode cX2_isTaken 23 = .ok (.goto 4, 3) := dk_167 0 4 (dk_at dksX2_isTaken_1 0 rfl rfl)
theorem dX2_isTaken_26 : decode cX2_isTaken 26 = .ok (.iconst 0, 1) := dk_3 (dk_at dksX2_isTaken_1 3 rfl rfl)
theorem dX2_isTaken_27 : decode cX2_isTaken 27 = .ok (.ireturn, 1) := dk_172 (dk_at dksX2_isTaken_1 4 rfl rfl)
abbrev cX2_isCorner : ByteArray := prog_2_method_3_code
def yX2_isCorner : MethodName := ⟨RX2, "isCorner", "(LCornerClaims$Point;)Z"⟩
def dkwX2_isCorner_2 : List UInt8 := [132, 2, 1, 167, 255, 213, 3, 172]
abbrev dktX2_isCorner_2 : List UInt8 := dkwX2_isCorner_2 ++ []
def dkwX2_isCorner_1 : List UInt8 := [185, 0, 31, 2, 0, 192, 0, 35, 180, 0, 45, 43, 185, 0, 48, 2, 0, 153, 0, 5, 4, 172]
abbrev dktX2_isCorner_1 : List UInt8 := dkwX2_isCorner_1 ++ dktX2_isCorner_2
def dkwX2_isCorner_0 : List UInt8 := [3, 61, 28, 42, 180, 0, 12, 185, 0, 25, 1, 0, 162, 0, 36, 42, 180, 0, 12, 28]
abbrev dktX2_isCorner_0 : List UInt8 := dkwX2_isCorner_0 ++ dktX2_isCorner_1
theorem dksX2_isCorner_0 : cX2_isCorner.data.toList.drop 0 = dktX2_isCorner_0 := by decide +kernel
theorem dksX2_isCorner_1 : cX2_isCorner.data.toList.drop 20 = dktX2_isCorner_1 := dk_seg dksX2_isCorner_0 20 rfl rfl
theorem dksX2_isCorner_2 : cX2_isCorner.data.toList.drop 42 = dktX2_isCorner_2 := dk_seg dksX2_isCorner_1 22 rfl rfl
theorem dX2_isCorner_0 : decode cX2_isCorner 0 = .ok (.iconst 0, 1) := dk_3 (dk_at dksX2_isCorner_0 0 rfl rfl)
theorem dX2_isCorner_1 : decode cX2_isCorner 1 = .ok (.istore_n 2, 1) := dk_61 (dk_at dksX2_isCorner_0 1 rfl rfl)
theorem dX2_isCorner_2 : decode cX2_isCorner 2 = .ok (.iload_n 2, 1) := dk_28 (dk_at dksX2_isCorner_0 2 rfl rfl)
theorem dX2_isCorner_3 : decode cX2_isCorner 3 = .ok (.aload_n 0, 1) := dk_42 (dk_at dksX2_isCorner_0 3 rfl rfl)
theorem dX2_isCorner_4 : decode cX2_isCorner 4 = .ok (.getfield 12, 3) := dk_180 0 12 (dk_at dksX2_isCorner_0 4 rfl rfl)
theorem dX2_isCorner_7 : decode cX2_isCorner 7 = .ok (.invokeinterface 25 1, 5) := by decide +kernel
theorem dX2_isCorner_12 : decode cX2_isCorner 12 = .ok (.if_icmp .ge 36, 3) := dk_162 0 36 (dk_at dksX2_isCorner_0 12 rfl rfl)
theorem dX2_isCorner_15 : decode cX2_isCorner 15 = .ok (.aload_n 0, 1) := dk_42 (dk_at dksX2_isCorner_0 15 rfl rfl)
theorem dX2_isCorner_16 : decode cX2_isCorner 16 = .ok (.getfield 12, 3) := dk_180 0 12 (dk_at dksX2_isCorner_0 16 rfl rfl)
theorem dX2_isCorner_19 : decode cX2_isCorner 19 = .ok (.iload_n 2, 1) := dk_28 (dk_at dksX2_isCorner_0 19 rfl rfl)
theorem dX2_isCorner_20 : decode cX2_isCorner 20 = .ok (.invokeinterface 31 2, 5) := by decide +kernel
theorem dX2_isCorner_25 : decode cX2_isCorner 25 = .ok (.checkcast 35, 3) := dk_192 0 35 (dk_at dksX2_isCorner_1 5 rfl rfl)
theorem dX2_isCorner_28 : decode cX2_isCorner 28 = .ok (.getfield 45, 3) := dk_180 0 45 (dk_at dksX2_isCorner_1 8 rfl rfl)
theorem dX2_isCorner_31 : decode cX2_isCorner 31 = .ok (.aload_n 1, 1) := dk_43 (dk_at dksX2_isCorner_1 11 rfl rfl)
theorem dX2_isCorner_32 : decode cX2_isCorner 32 = .ok (.invokeinterface 48 2, 5) := by decide +kernel
theorem dX2_isCorner_37 : decode cX2_isCorner 37 = .ok (.ifCond .eq 5, 3) := dk_153 0 5 (dk_at dksX2_isCorner_1 17 rfl rfl)
theorem dX2_isCorner_40 : decode cX2_isCorner 40 = .ok (.iconst 1, 1) := dk_4 (dk_at dksX2_isCorner_1 20 rfl rfl)
theorem dX2_isCorner_41 : decode cX2_isCorner 41 = .ok (.ireturn, 1) := dk_172 (dk_at dksX2_isCorner_1 21 rfl rfl)
theorem dX2_isCorner_42 : decode cX2_isCorner 42 = .ok (.iinc 2 1, 3) := dk_132 2 1 (dk_at dksX2_isCorner_2 0 rfl rfl)
theorem dX2_isCorner_45 : decode cX2_isCorner 45 = .ok (.goto (-43), 3) := dk_167 255 213 (dk_at dksX2_isCorner_2 3 rfl rfl)
theorem dX2_isCorner_48 : decode cX2_isCorner 48 = .ok (.iconst 0, 1) := dk_3 (dk_at dksX2_isCorner_2 6 rfl rfl)
theorem dX2_isCorner_49 : decode cX2_isCorner 49 = .ok (.ireturn, 1) := dk_172 (dk_at dksX2_isCorner_2 7 rfl rfl)
abbrev cX2_isOnSide : ByteArray := prog_2_method_5_code
def yX2_isOnSide : MethodName := ⟨RX2, "isOnSide", "(LCornerClaims$Point;)Z"⟩
def dkwX2_isOnSide_3 : List UInt8 := [167, 255, 223, 132, 2, 1, 167, 255, 187, 3, 172]
abbrev dktX2_isOnSide_3 : List UInt8 := dkwX2_isOnSide_3 ++ []
def dkwX2_isOnSide_2 : List UInt8 := [21, 4, 182, 0, 69, 45, 21, 4, 182, 0, 73, 184, 0, 76, 153, 0, 5, 4, 172, 132, 4, 1]
abbrev dktX2_isOnSide_2 : List UInt8 := dkwX2_isOnSide_2 ++ dktX2_isOnSide_3
def dkwX2_isOnSide_1 : List UInt8 := [185, 0, 31, 2, 0, 192, 0, 35, 78, 3, 54, 4, 21, 4, 45, 182, 0, 66, 162, 0, 30, 43, 45]
abbrev dktX2_isOnSide_1 : List UInt8 := dkwX2_isOnSide_1 ++ dktX2_isOnSide_2
def dkwX2_isOnSide_0 : List UInt8 := [3, 61, 28, 42, 180, 0, 12, 185, 0, 25, 1, 0, 162, 0, 62, 42, 180, 0, 12, 28]
abbrev dktX2_isOnSide_0 : List UInt8 := dkwX2_isOnSide_0 ++ dktX2_isOnSide_1
theorem dksX2_isOnSide_0 : cX2_isOnSide.data.toList.drop 0 = dktX2_isOnSide_0 := by decide +kernel
theorem dksX2_isOnSide_1 : cX2_isOnSide.data.toList.drop 20 = dktX2_isOnSide_1 := dk_seg dksX2_isOnSide_0 20 rfl rfl
theorem dksX2_isOnSide_2 : cX2_isOnSide.data.toList.drop 43 = dktX2_isOnSide_2 := dk_seg dksX2_isOnSide_1 23 rfl rfl
theorem dksX2_isOnSide_3 : cX2_isOnSide.data.toList.drop 65 = dktX2_isOnSide_3 := dk_seg dksX2_isOnSide_2 22 rfl rfl
theorem dX2_isOnSide_0 : decode cX2_isOnSide 0 = .ok (.iconst 0, 1) := dk_3 (dk_at dksX2_isOnSide_0 0 rfl rfl)
theorem dX2_isOnSide_1 : decode cX2_isOnSide 1 = .ok (.istore_n 2, 1) := dk_61 (dk_at dksX2_isOnSide_0 1 rfl rfl)
theorem dX2_isOnSide_2 : decode cX2_isOnSide 2 = .ok (.iload_n 2, 1) := dk_28 (dk_at dksX2_isOnSide_0 2 rfl rfl)
theorem dX2_isOnSide_3 : decode cX2_isOnSide 3 = .ok (.aload_n 0, 1) := dk_42 (dk_at dksX2_isOnSide_0 3 rfl rfl)
theorem dX2_isOnSide_4 : decode cX2_isOnSide 4 = .ok (.getfield 12, 3) := dk_180 0 12 (dk_at dksX2_isOnSide_0 4 rfl rfl)
theorem dX2_isOnSide_7 : decode cX2_isOnSide 7 = .ok (.invokeinterface 25 1, 5) := by decide +kernel
theorem dX2_isOnSide_12 : decode cX2_isOnSide 12 = .ok (.if_icmp .ge 62, 3) := dk_162 0 62 (dk_at dksX2_isOnSide_0 12 rfl rfl)
theorem dX2_isOnSide_15 : decode cX2_isOnSide 15 = .ok (.aload_n 0, 1) := dk_42 (dk_at dksX2_isOnSide_0 15 rfl rfl)
theorem dX2_isOnSide_16 : decode cX2_isOnSide 16 = .ok (.getfield 12, 3) := dk_180 0 12 (dk_at dksX2_isOnSide_0 16 rfl rfl)
theorem dX2_isOnSide_19 : decode cX2_isOnSide 19 = .ok (.iload_n 2, 1) := dk_28 (dk_at dksX2_isOnSide_0 19 rfl rfl)
theorem dX2_isOnSide_20 : decode cX2_isOnSide 20 = .ok (.invokeinterface 31 2, 5) := by decide +kernel
theorem dX2_isOnSide_25 : decode cX2_isOnSide 25 = .ok (.checkcast 35, 3) := dk_192 0 35 (dk_at dksX2_isOnSide_1 5 rfl rfl)
theorem dX2_isOnSide_28 : decode cX2_isOnSide 28 = .ok (.astore_n 3, 1) := dk_78 (dk_at dksX2_isOnSide_1 8 rfl rfl)
theorem dX2_isOnSide_29 : decode cX2_isOnSide 29 = .ok (.iconst 0, 1) := dk_3 (dk_at dksX2_isOnSide_1 9 rfl rfl)
theorem dX2_isOnSide_30 : decode cX2_isOnSide 30 = .ok (.istore 4, 2) := dk_54 4 (dk_at dksX2_isOnSide_1 10 rfl rfl)
theorem dX2_isOnSide_32 : decode cX2_isOnSide 32 = .ok (.iload 4, 2) := dk_21 4 (dk_at dksX2_isOnSide_1 12 rfl rfl)
theorem dX2_isOnSide_34 : decode cX2_isOnSide 34 = .ok (.aload_n 3, 1) := dk_45 (dk_at dksX2_isOnSide_1 14 rfl rfl)
theorem dX2_isOnSide_35 : decode cX2_isOnSide 35 = .ok (.invokevirtual 66, 3) := dk_182 0 66 (dk_at dksX2_isOnSide_1 15 rfl rfl)
theorem dX2_isOnSide_38 : decode cX2_isOnSide 38 = .ok (.if_icmp .ge 30, 3) := dk_162 0 30 (dk_at dksX2_isOnSide_1 18 rfl rfl)
theorem dX2_isOnSide_41 : decode cX2_isOnSide 41 = .ok (.aload_n 1, 1) := dk_43 (dk_at dksX2_isOnSide_1 21 rfl rfl)
theorem dX2_isOnSide_42 : decode cX2_isOnSide 42 = .ok (.aload_n 3, 1) := dk_45 (dk_at dksX2_isOnSide_1 22 rfl rfl)
theorem dX2_isOnSide_43 : decode cX2_isOnSide 43 = .ok (.iload 4, 2) := dk_21 4 (dk_at dksX2_isOnSide_2 0 rfl rfl)
theorem dX2_isOnSide_45 : decode cX2_isOnSide 45 = .ok (.invokevirtual 69, 3) := dk_182 0 69 (dk_at dksX2_isOnSide_2 2 rfl rfl)
theorem dX2_isOnSide_48 : decode cX2_isOnSide 48 = .ok (.aload_n 3, 1) := dk_45 (dk_at dksX2_isOnSide_2 5 rfl rfl)
theorem dX2_isOnSide_49 : decode cX2_isOnSide 49 = .ok (.iload 4, 2) := dk_21 4 (dk_at dksX2_isOnSide_2 6 rfl rfl)
theorem dX2_isOnSide_51 : decode cX2_isOnSide 51 = .ok (.invokevirtual 73, 3) := dk_182 0 73 (dk_at dksX2_isOnSide_2 8 rfl rfl)
theorem dX2_isOnSide_54 : decode cX2_isOnSide 54 = .ok (.invokestatic 76, 3) := dk_184 0 76 (dk_at dksX2_isOnSide_2 11 rfl rfl)
theorem dX2_isOnSide_57 : decode cX2_isOnSide 57 = .ok (.ifCond .eq 5, 3) := dk_153 0 5 (dk_at dksX2_isOnSide_2 14 rfl rfl)
theorem dX2_isOnSide_60 : decode cX2_isOnSide 60 = .ok (.iconst 1, 1) := dk_4 (dk_at dksX2_isOnSide_2 17 rfl rfl)
theorem dX2_isOnSide_61 : decode cX2_isOnSide 61 = .ok (.ireturn, 1) := dk_172 (dk_at dksX2_isOnSide_2 18 rfl rfl)
theorem dX2_isOnSide_62 : decode cX2_isOnSide 62 = .ok (.iinc 4 1, 3) := dk_132 4 1 (dk_at dksX2_isOnSide_2 19 rfl rfl)
theorem dX2_isOnSide_65 : decode cX2_isOnSide 65 = .ok (.goto (-33), 3) := dk_167 255 223 (dk_at dksX2_isOnSide_3 0 rfl rfl)
theorem dX2_isOnSide_68 : decode cX2_isOnSide 68 = .ok (.iinc 2 1, 3) := dk_132 2 1 (dk_at dksX2_isOnSide_3 3 rfl rfl)
theorem dX2_isOnSide_71 : decode cX2_isOnSide 71 = .ok (.goto (-69), 3) := dk_167 255 187 (dk_at dksX2_isOnSide_3 6 rfl rfl)
theorem dX2_isOnSide_74 : decode cX2_isOnSide 74 = .ok (.iconst 0, 1) := dk_3 (dk_at dksX2_isOnSide_3 9 rfl rfl)
theorem dX2_isOnSide_75 : decode cX2_isOnSide 75 = .ok (.ireturn, 1) := dk_172 (dk_at dksX2_isOnSide_3 10 rfl rfl)
abbrev cX2_cornerReason : ByteArray := prog_2_method_8_code
def yX2_cornerReason : MethodName := ⟨RX2, "cornerReason", "(LCornerClaims$Polygon;LCornerClaims$Point;)I"⟩
def dkwX2_cornerReason_1 : List UInt8 := [182, 0, 100, 153, 0, 7, 6, 167, 0, 16, 42, 43, 182, 0, 103, 44, 43, 2, 2, 1, 182, 0, 107, 172]
abbrev dktX2_cornerReason_1 : List UInt8 := dkwX2_cornerReason_1 ++ []
def dkwX2_cornerReason_0 : List UInt8 := [43, 180, 0, 96, 153, 0, 5, 4, 172, 43, 182, 0, 85, 16, 12, 160, 0, 5, 5, 172, 42, 44]
abbrev dktX2_cornerReason_0 : List UInt8 := dkwX2_cornerReason_0 ++ dktX2_cornerReason_1
theorem dksX2_cornerReason_0 : cX2_cornerReason.data.toList.drop 0 = dktX2_cornerReason_0 := by decide +kernel
theorem dksX2_cornerReason_1 : cX2_cornerReason.data.toList.drop 22 = dktX2_cornerReason_1 := dk_seg dksX2_cornerReason_0 22 rfl rfl
theorem dX2_cornerReason_0 : decode cX2_cornerReason 0 = .ok (.aload_n 1, 1) := dk_43 (dk_at dksX2_cornerReason_0 0 rfl rfl)
theorem dX2_cornerReason_1 : decode cX2_cornerReason 1 = .ok (.getfield 96, 3) := dk_180 0 96 (dk_at dksX2_cornerReason_0 1 rfl rfl)
theorem dX2_cornerReason_4 : decode cX2_cornerReason 4 = .ok (.ifCond .eq 5, 3) := dk_153 0 5 (dk_at dksX2_cornerReason_0 4 rfl rfl)
theorem dX2_cornerReason_7 : decode cX2_cornerReason 7 = .ok (.iconst 1, 1) := dk_4 (dk_at dksX2_cornerReason_0 7 rfl rfl)
theorem dX2_cornerReason_8 : decode cX2_cornerReason 8 = .ok (.ireturn, 1) := dk_172 (dk_at dksX2_cornerReason_0 8 rfl rfl)
theorem dX2_cornerReason_9 : decode cX2_cornerReason 9 = .ok (.aload_n 1, 1) := dk_43 (dk_at dksX2_cornerReason_0 9 rfl rfl)
theorem dX2_cornerReason_10 : decode cX2_cornerReason 10 = .ok (.invokevirtual 85, 3) := dk_182 0 85 (dk_at dksX2_cornerReason_0 10 rfl rfl)
theorem dX2_cornerReason_13 : decode cX2_cornerReason 13 = .ok (.bipush 12, 2) := dk_16 12 (dk_at dksX2_cornerReason_0 13 rfl rfl)
theorem dX2_cornerReason_15 : decode cX2_cornerReason 15 = .ok (.if_icmp .ne 5, 3) := dk_160 0 5 (dk_at dksX2_cornerReason_0 15 rfl rfl)
theorem dX2_cornerReason_18 : decode cX2_cornerReason 18 = .ok (.iconst 2, 1) := dk_5 (dk_at dksX2_cornerReason_0 18 rfl rfl)
theorem dX2_cornerReason_19 : decode cX2_cornerReason 19 = .ok (.ireturn, 1) := dk_172 (dk_at dksX2_cornerReason_0 19 rfl rfl)
theorem dX2_cornerReason_20 : decode cX2_cornerReason 20 = .ok (.aload_n 0, 1) := dk_42 (dk_at dksX2_cornerReason_0 20 rfl rfl)
theorem dX2_cornerReason_21 : decode cX2_cornerReason 21 = .ok (.aload_n 2, 1) := dk_44 (dk_at dksX2_cornerReason_0 21 rfl rfl)
theorem dX2_cornerReason_22 : decode cX2_cornerReason 22 = .ok (.invokevirtual 100, 3) := dk_182 0 100 (dk_at dksX2_cornerReason_1 0 rfl rfl)
theorem dX2_cornerReason_25 : decode cX2_cornerReason 25 = .ok (.ifCond .eq 7, 3) := dk_153 0 7 (dk_at dksX2_cornerReason_1 3 rfl rfl)
theorem dX2_cornerReason_28 : decode cX2_cornerReason 28 = .ok (.iconst 3, 1) := dk_6 (dk_at dksX2_cornerReason_1 6 rfl rfl)
theorem dX2_cornerReason_29 : decode cX2_cornerReason 29 = .ok (.goto 16, 3) := dk_167 0 16 (dk_at dksX2_cornerReason_1 7 rfl rfl)
theorem dX2_cornerReason_32 : decode cX2_cornerReason 32 = .ok (.aload_n 0, 1) := dk_42 (dk_at dksX2_cornerReason_1 10 rfl rfl)
theorem dX2_cornerReason_33 : decode cX2_cornerReason 33 = .ok (.aload_n 1, 1) := dk_43 (dk_at dksX2_cornerReason_1 11 rfl rfl)
theorem dX2_cornerReason_34 : decode cX2_cornerReason 34 = .ok (.invokevirtual 103, 3) := dk_182 0 103 (dk_at dksX2_cornerReason_1 12 rfl rfl)
theorem dX2_cornerReason_37 : decode cX2_cornerReason 37 = .ok (.aload_n 2, 1) := dk_44 (dk_at dksX2_cornerReason_1 15 rfl rfl)
theorem dX2_cornerReason_38 : decode cX2_cornerReason 38 = .ok (.aload_n 1, 1) := dk_43 (dk_at dksX2_cornerReason_1 16 rfl rfl)
theorem dX2_cornerReason_39 : decode cX2_cornerReason 39 = .ok (.iconst (-1), 1) := dk_2 (dk_at dksX2_cornerReason_1 17 rfl rfl)
theorem dX2_cornerReason_40 : decode cX2_cornerReason 40 = .ok (.iconst (-1), 1) := dk_2 (dk_at dksX2_cornerReason_1 18 rfl rfl)
theorem dX2_cornerReason_41 : decode cX2_cornerReason 41 = .ok (.aconst_null, 1) := dk_1 (dk_at dksX2_cornerReason_1 19 rfl rfl)
theorem dX2_cornerReason_42 : decode cX2_cornerReason 42 = .ok (.invokevirtual 107, 3) := dk_182 0 107 (dk_at dksX2_cornerReason_1 20 rfl rfl)
theorem dX2_cornerReason_45 : decode cX2_cornerReason 45 = .ok (.ireturn, 1) := dk_172 (dk_at dksX2_cornerReason_1 23 rfl rfl)
abbrev cX2_lineReason : ByteArray := prog_2_method_7_code
def yX2_lineReason : MethodName := ⟨RX2, "lineReason", "(LCornerClaims$Point;LCornerClaims$Point;LCornerClaims$Polygon;IILCornerClaims$Point;)I"⟩
def dkwX2_lineReason_5 : List UInt8 := [132, 9, 1, 167, 255, 187, 132, 7, 1, 167, 255, 148, 3, 172]
abbrev dktX2_lineReason_5 : List UInt8 := dkwX2_lineReason_5 ++ []
def dkwX2_lineReason_4 : List UInt8 := [25, 8, 21, 9, 182, 0, 69, 25, 8, 21, 9, 182, 0, 73, 184, 0, 92, 153, 0, 5, 8, 172]
abbrev dktX2_lineReason_4 : List UInt8 := dkwX2_lineReason_4 ++ dktX2_lineReason_5
def dkwX2_lineReason_3 : List UInt8 := [159, 0, 10, 21, 9, 21, 5, 160, 0, 7, 4, 167, 0, 4, 3, 54, 10, 21, 10, 154, 0, 27, 43, 44]
abbrev dktX2_lineReason_3 : List UInt8 := dkwX2_lineReason_3 ++ dktX2_lineReason_4
def dkwX2_lineReason_2 : List UInt8 := [3, 54, 9, 21, 9, 25, 8, 182, 0, 66, 162, 0, 65, 25, 8, 45, 166, 0, 21, 21, 9, 21, 4]
abbrev dktX2_lineReason_2 : List UInt8 := dkwX2_lineReason_2 ++ dktX2_lineReason_3
def dkwX2_lineReason_1 : List UInt8 := [185, 0, 25, 1, 0, 162, 0, 100, 42, 180, 0, 12, 21, 7, 185, 0, 31, 2, 0, 192, 0, 35, 58, 8]
abbrev dktX2_lineReason_1 : List UInt8 := dkwX2_lineReason_1 ++ dktX2_lineReason_2
def dkwX2_lineReason_0 : List UInt8 := [42, 43, 44, 25, 6, 182, 0, 89, 153, 0, 5, 7, 172, 3, 54, 7, 21, 7, 42, 180, 0, 12]
abbrev dktX2_lineReason_0 : List UInt8 := dkwX2_lineReason_0 ++ dktX2_lineReason_1
theorem dksX2_lineReason_0 : cX2_lineReason.data.toList.drop 0 = dktX2_lineReason_0 := by decide +kernel
theorem dksX2_lineReason_1 : cX2_lineReason.data.toList.drop 22 = dktX2_lineReason_1 := dk_seg dksX2_lineReason_0 22 rfl rfl
theorem dksX2_lineReason_2 : cX2_lineReason.data.toList.drop 46 = dktX2_lineReason_2 := dk_seg dksX2_lineReason_1 24 rfl rfl
theorem dksX2_lineReason_3 : cX2_lineReason.data.toList.drop 69 = dktX2_lineReason_3 := dk_seg dksX2_lineReason_2 23 rfl rfl
theorem dksX2_lineReason_4 : cX2_lineReason.data.toList.drop 93 = dktX2_lineReason_4 := dk_seg dksX2_lineReason_3 24 rfl rfl
theorem dksX2_lineReason_5 : cX2_lineReason.data.toList.drop 115 = dktX2_lineReason_5 := dk_seg dksX2_lineReason_4 22 rfl rfl
theorem dX2_lineReason_0 : decode cX2_lineReason 0 = .ok (.aload_n 0, 1) := dk_42 (dk_at dksX2_lineReason_0 0 rfl rfl)
theorem dX2_lineReason_1 : decode cX2_lineReason 1 = .ok (.aload_n 1, 1) := dk_43 (dk_at dksX2_lineReason_0 1 rfl rfl)
theorem dX2_lineReason_2 : decode cX2_lineReason 2 = .ok (.aload_n 2, 1) := dk_44 (dk_at dksX2_lineReason_0 2 rfl rfl)
theorem dX2_lineReason_3 : decode cX2_lineReason 3 = .ok (.aload 6, 2) := dk_25 6 (dk_at dksX2_lineReason_0 3 rfl rfl)
theorem dX2_lineReason_5 : decode cX2_lineReason 5 = .ok (.invokevirtual 89, 3) := dk_182 0 89 (dk_at dksX2_lineReason_0 5 rfl rfl)
theorem dX2_lineReason_8 : decode cX2_lineReason 8 = .ok (.ifCond .eq 5, 3) := dk_153 0 5 (dk_at dksX2_lineReason_0 8 rfl rfl)
theorem dX2_lineReason_11 : decode cX2_lineReason 11 = .ok (.iconst 4, 1) := dk_7 (dk_at dksX2_lineReason_0 11 rfl rfl)
theorem dX2_lineReason_12 : decode cX2_lineReason 12 = .ok (.ireturn, 1) := dk_172 (dk_at dksX2_lineReason_0 12 rfl rfl)
theorem dX2_lineReason_13 : decode cX2_lineReason 13 = .ok (.iconst 0, 1) := dk_3 (dk_at dksX2_lineReason_0 13 rfl rfl)
theorem dX2_lineReason_14 : decode cX2_lineReason 14 = .ok (.istore 7, 2) := dk_54 7 (dk_at dksX2_lineReason_0 14 rfl rfl)
theorem dX2_lineReason_16 : decode cX2_lineReason 16 = .ok (.iload 7, 2) := dk_21 7 (dk_at dksX2_lineReason_0 16 rfl rfl)
theorem dX2_lineReason_18 : decode cX2_lineReason 18 = .ok (.aload_n 0, 1) := dk_42 (dk_at dksX2_lineReason_0 18 rfl rfl)
theorem dX2_lineReason_19 : decode cX2_lineReason 19 = .ok (.getfield 12, 3) := dk_180 0 12 (dk_at dksX2_lineReason_0 19 rfl rfl)
theorem dX2_lineReason_22 : decode cX2_lineReason 22 = .ok (.invokeinterface 25 1, 5) := by decide +kernel
theorem dX2_lineReason_27 : decode cX2_lineReason 27 = .ok (.if_icmp .ge 100, 3) := dk_162 0 100 (dk_at dksX2_lineReason_1 5 rfl rfl)
theorem dX2_lineReason_30 : decode cX2_lineReason 30 = .ok (.aload_n 0, 1) := dk_42 (dk_at dksX2_lineReason_1 8 rfl rfl)
theorem dX2_lineReason_31 : decode cX2_lineReason 31 = .ok (.getfield 12, 3) := dk_180 0 12 (dk_at dksX2_lineReason_1 9 rfl rfl)
theorem dX2_lineReason_34 : decode cX2_lineReason 34 = .ok (.iload 7, 2) := dk_21 7 (dk_at dksX2_lineReason_1 12 rfl rfl)
theorem dX2_lineReason_36 : decode cX2_lineReason 36 = .ok (.invokeinterface 31 2, 5) := by decide +kernel
theorem dX2_lineReason_41 : decode cX2_lineReason 41 = .ok (.checkcast 35, 3) := dk_192 0 35 (dk_at dksX2_lineReason_1 19 rfl rfl)
theorem dX2_lineReason_44 : decode cX2_lineReason 44 = .ok (.astore 8, 2) := dk_58 8 (dk_at dksX2_lineReason_1 22 rfl rfl)
theorem dX2_lineReason_46 : decode cX2_lineReason 46 = .ok (.iconst 0, 1) := dk_3 (dk_at dksX2_lineReason_2 0 rfl rfl)
theorem dX2_lineReason_47 : decode cX2_lineReason 47 = .ok (.istore 9, 2) := dk_54 9 (dk_at dksX2_lineReason_2 1 rfl rfl)
theorem dX2_lineReason_49 : decode cX2_lineReason 49 = .ok (.iload 9, 2) := dk_21 9 (dk_at dksX2_lineReason_2 3 rfl rfl)
theorem dX2_lineReason_51 : decode cX2_lineReason 51 = .ok (.aload 8, 2) := dk_25 8 (dk_at dksX2_lineReason_2 5 rfl rfl)
theorem dX2_lineReason_53 : decode cX2_lineReason 53 = .ok (.invokevirtual 66, 3) := dk_182 0 66 (dk_at dksX2_lineReason_2 7 rfl rfl)
theorem dX2_lineReason_56 : decode cX2_lineReason 56 = .ok (.if_icmp .ge 65, 3) := dk_162 0 65 (dk_at dksX2_lineReason_2 10 rfl rfl)
theorem dX2_lineReason_59 : decode cX2_lineReason 59 = .ok (.aload 8, 2) := dk_25 8 (dk_at dksX2_lineReason_2 13 rfl rfl)
theorem dX2_lineReason_61 : decode cX2_lineReason 61 = .ok (.aload_n 3, 1) := dk_45 (dk_at dksX2_lineReason_2 15 rfl rfl)
theorem dX2_lineReason_62 : decode cX2_lineReason 62 = .ok (.if_acmp .ne 21, 3) := dk_166 0 21 (dk_at dksX2_lineReason_2 16 rfl rfl)
theorem dX2_lineReason_65 : decode cX2_lineReason 65 = .ok (.iload 9, 2) := dk_21 9 (dk_at dksX2_lineReason_2 19 rfl rfl)
theorem dX2_lineReason_67 : decode cX2_lineReason 67 = .ok (.iload 4, 2) := dk_21 4 (dk_at dksX2_lineReason_2 21 rfl rfl)
theorem dX2_lineReason_69 : decode cX2_lineReason 69 = .ok (.if_icmp .eq 10, 3) := dk_159 0 10 (dk_at dksX2_lineReason_3 0 rfl rfl)
theorem dX2_lineReason_72 : decode cX2_lineReason 72 = .ok (.iload 9, 2) := dk_21 9 (dk_at dksX2_lineReason_3 3 rfl rfl)
theorem dX2_lineReason_74 : decode cX2_lineReason 74 = .ok (.iload 5, 2) := dk_21 5 (dk_at dksX2_lineReason_3 5 rfl rfl)
theorem dX2_lineReason_76 : decode cX2_lineReason 76 = .ok (.if_icmp .ne 7, 3) := dk_160 0 7 (dk_at dksX2_lineReason_3 7 rfl rfl)
theorem dX2_lineReason_79 : decode cX2_lineReason 79 = .ok (.iconst 1, 1) := dk_4 (dk_at dksX2_lineReason_3 10 rfl rfl)
theorem dX2_lineReason_80 : decode cX2_lineReason 80 = .ok (.goto 4, 3) := dk_167 0 4 (dk_at dksX2_lineReason_3 11 rfl rfl)
theorem dX2_lineReason_83 : decode cX2_lineReason 83 = .ok (.iconst 0, 1) := dk_3 (dk_at dksX2_lineReason_3 14 rfl rfl)
theorem dX2_lineReason_84 : decode cX2_lineReason 84 = .ok (.istore 10, 2) := dk_54 10 (dk_at dksX2_lineReason_3 15 rfl rfl)
theorem dX2_lineReason_86 : decode cX2_lineReason 86 = .ok (.iload 10, 2) := dk_21 10 (dk_at dksX2_lineReason_3 17 rfl rfl)
theorem dX2_lineReason_88 : decode cX2_lineReason 88 = .ok (.ifCond .ne 27, 3) := dk_154 0 27 (dk_at dksX2_lineReason_3 19 rfl rfl)
theorem dX2_lineReason_91 : decode cX2_lineReason 91 = .ok (.aload_n 1, 1) := dk_43 (dk_at dksX2_lineReason_3 22 rfl rfl)
theorem dX2_lineReason_92 : decode cX2_lineReason 92 = .ok (.aload_n 2, 1) := dk_44 (dk_at dksX2_lineReason_3 23 rfl rfl)
theorem dX2_lineReason_93 : decode cX2_lineReason 93 = .ok (.aload 8, 2) := dk_25 8 (dk_at dksX2_lineReason_4 0 rfl rfl)
theorem dX2_lineReason_95 : decode cX2_lineReason 95 = .ok (.iload 9, 2) := dk_21 9 (dk_at dksX2_lineReason_4 2 rfl rfl)
theorem dX2_lineReason_97 : decode cX2_lineReason 97 = .ok (.invokevirtual 69, 3) := dk_182 0 69 (dk_at dksX2_lineReason_4 4 rfl rfl)
theorem dX2_lineReason_100 : decode cX2_lineReason 100 = .ok (.aload 8, 2) := dk_25 8 (dk_at dksX2_lineReason_4 7 rfl rfl)
theorem dX2_lineReason_102 : decode cX2_lineReason 102 = .ok (.iload 9, 2) := dk_21 9 (dk_at dksX2_lineReason_4 9 rfl rfl)
theorem dX2_lineReason_104 : decode cX2_lineReason 104 = .ok (.invokevirtual 73, 3) := dk_182 0 73 (dk_at dksX2_lineReason_4 11 rfl rfl)
theorem dX2_lineReason_107 : decode cX2_lineReason 107 = .ok (.invokestatic 92, 3) := dk_184 0 92 (dk_at dksX2_lineReason_4 14 rfl rfl)
theorem dX2_lineReason_110 : decode cX2_lineReason 110 = .ok (.ifCond .eq 5, 3) := dk_153 0 5 (dk_at dksX2_lineReason_4 17 rfl rfl)
theorem dX2_lineReason_113 : decode cX2_lineReason 113 = .ok (.iconst 5, 1) := dk_8 (dk_at dksX2_lineReason_4 20 rfl rfl)
theorem dX2_lineReason_114 : decode cX2_lineReason 114 = .ok (.ireturn, 1) := dk_172 (dk_at dksX2_lineReason_4 21 rfl rfl)
theorem dX2_lineReason_115 : decode cX2_lineReason 115 = .ok (.iinc 9 1, 3) := dk_132 9 1 (dk_at dksX2_lineReason_5 0 rfl rfl)
theorem dX2_lineReason_118 : decode cX2_lineReason 118 = .ok (.goto (-69), 3) := dk_167 255 187 (dk_at dksX2_lineReason_5 3 rfl rfl)
theorem dX2_lineReason_121 : decode cX2_lineReason 121 = .ok (.iinc 7 1, 3) := dk_132 7 1 (dk_at dksX2_lineReason_5 6 rfl rfl)
theorem dX2_lineReason_124 : decode cX2_lineReason 124 = .ok (.goto (-108), 3) := dk_167 255 148 (dk_at dksX2_lineReason_5 9 rfl rfl)
theorem dX2_lineReason_127 : decode cX2_lineReason 127 = .ok (.iconst 0, 1) := dk_3 (dk_at dksX2_lineReason_5 12 rfl rfl)
theorem dX2_lineReason_128 : decode cX2_lineReason 128 = .ok (.ireturn, 1) := dk_172 (dk_at dksX2_lineReason_5 13 rfl rfl)
abbrev cX2_passes : ByteArray := prog_2_method_6_code
def yX2_passes : MethodName := ⟨RX2, "passes", "(LCornerClaims$Point;LCornerClaims$Point;LCornerClaims$Point;)Z"⟩
def dkwX2_passes_6 : List UInt8 := [184, 0, 76, 153, 0, 5, 4, 172, 132, 6, 1, 167, 255, 195, 132, 4, 1, 167, 255, 156, 3, 172]
abbrev dktX2_passes_6 : List UInt8 := dkwX2_passes_6 ++ []
def dkwX2_passes_5 : List UInt8 := [25, 7, 44, 182, 0, 86, 154, 0, 24, 25, 7, 45, 182, 0, 86, 154, 0, 15, 25, 7, 43, 44]
abbrev dktX2_passes_5 : List UInt8 := dkwX2_passes_5 ++ dktX2_passes_6
def dkwX2_passes_4 : List UInt8 := [182, 0, 85, 162, 0, 57, 25, 5, 21, 6, 182, 0, 69, 58, 7, 25, 7, 43, 182, 0, 86, 154, 0, 33]
abbrev dktX2_passes_4 : List UInt8 := dkwX2_passes_4 ++ dktX2_passes_5
def dkwX2_passes_3 : List UInt8 := [180, 0, 12, 21, 4, 185, 0, 31, 2, 0, 192, 0, 35, 58, 5, 3, 54, 6, 21, 6, 25, 5]
abbrev dktX2_passes_3 : List UInt8 := dkwX2_passes_3 ++ dktX2_passes_4
def dkwX2_passes_2 : List UInt8 := [132, 4, 1, 167, 255, 209, 3, 54, 4, 21, 4, 42, 180, 0, 12, 185, 0, 25, 1, 0, 162, 0, 92, 42]
abbrev dktX2_passes_2 : List UInt8 := dkwX2_passes_2 ++ dktX2_passes_3
def dkwX2_passes_1 : List UInt8 := [180, 0, 80, 21, 4, 185, 0, 31, 2, 0, 192, 0, 83, 43, 44, 184, 0, 76, 153, 0, 5, 4, 172]
abbrev dktX2_passes_1 : List UInt8 := dkwX2_passes_1 ++ dktX2_passes_2
def dkwX2_passes_0 : List UInt8 := [3, 54, 4, 21, 4, 42, 180, 0, 18, 180, 0, 80, 185, 0, 25, 1, 0, 162, 0, 36, 42, 180, 0, 18]
abbrev dktX2_passes_0 : List UInt8 := dkwX2_passes_0 ++ dktX2_passes_1
theorem dksX2_passes_0 : cX2_passes.data.toList.drop 0 = dktX2_passes_0 := by decide +kernel
theorem dksX2_passes_1 : cX2_passes.data.toList.drop 24 = dktX2_passes_1 := dk_seg dksX2_passes_0 24 rfl rfl
theorem dksX2_passes_2 : cX2_passes.data.toList.drop 47 = dktX2_passes_2 := dk_seg dksX2_passes_1 23 rfl rfl
theorem dksX2_passes_3 : cX2_passes.data.toList.drop 71 = dktX2_passes_3 := dk_seg dksX2_passes_2 24 rfl rfl
theorem dksX2_passes_4 : cX2_passes.data.toList.drop 93 = dktX2_passes_4 := dk_seg dksX2_passes_3 22 rfl rfl
theorem dksX2_passes_5 : cX2_passes.data.toList.drop 117 = dktX2_passes_5 := dk_seg dksX2_passes_4 24 rfl rfl
theorem dksX2_passes_6 : cX2_passes.data.toList.drop 139 = dktX2_passes_6 := dk_seg dksX2_passes_5 22 rfl rfl
theorem dX2_passes_0 : decode cX2_passes 0 = .ok (.iconst 0, 1) := dk_3 (dk_at dksX2_passes_0 0 rfl rfl)
theorem dX2_passes_1 : decode cX2_passes 1 = .ok (.istore 4, 2) := dk_54 4 (dk_at dksX2_passes_0 1 rfl rfl)
theorem dX2_passes_3 : decode cX2_passes 3 = .ok (.iload 4, 2) := dk_21 4 (dk_at dksX2_passes_0 3 rfl rfl)
theorem dX2_passes_5 : decode cX2_passes 5 = .ok (.aload_n 0, 1) := dk_42 (dk_at dksX2_passes_0 5 rfl rfl)
theorem dX2_passes_6 : decode cX2_passes 6 = .ok (.getfield 18, 3) := dk_180 0 18 (dk_at dksX2_passes_0 6 rfl rfl)
theorem dX2_passes_9 : decode cX2_passes 9 = .ok (.getfield 80, 3) := dk_180 0 80 (dk_at dksX2_passes_0 9 rfl rfl)
theorem dX2_passes_12 : decode cX2_passes 12 = .ok (.invokeinterface 25 1, 5) := by decide +kernel
theorem dX2_passes_17 : decode cX2_passes 17 = .ok (.if_icmp .ge 36, 3) := dk_162 0 36 (dk_at dksX2_passes_0 17 rfl rfl)
theorem dX2_passes_20 : decode cX2_passes 20 = .ok (.aload_n 0, 1) := dk_42 (dk_at dksX2_passes_0 20 rfl rfl)
theorem dX2_passes_21 : decode cX2_passes 21 = .ok (.getfield 18, 3) := dk_180 0 18 (dk_at dksX2_passes_0 21 rfl rfl)
theorem dX2_passes_24 : decode cX2_passes 24 = .ok (.getfield 80, 3) := dk_180 0 80 (dk_at dksX2_passes_1 0 rfl rfl)
theorem dX2_passes_27 : decode cX2_passes 27 = .ok (.iload 4, 2) := dk_21 4 (dk_at dksX2_passes_1 3 rfl rfl)
theorem dX2_passes_29 : decode cX2_passes 29 = .ok (.invokeinterface 31 2, 5) := by decide +kernel
theorem dX2_passes_34 : decode cX2_passes 34 = .ok (.checkcast 83, 3) := dk_192 0 83 (dk_at dksX2_passes_1 10 rfl rfl)
theorem dX2_passes_37 : decode cX2_passes 37 = .ok (.aload_n 1, 1) := dk_43 (dk_at dksX2_passes_1 13 rfl rfl)
theorem dX2_passes_38 : decode cX2_passes 38 = .ok (.aload_n 2, 1) := dk_44 (dk_at dksX2_passes_1 14 rfl rfl)
theorem dX2_passes_39 : decode cX2_passes 39 = .ok (.invokestatic 76, 3) := dk_184 0 76 (dk_at dksX2_passes_1 15 rfl rfl)
theorem dX2_passes_42 : decode cX2_passes 42 = .ok (.ifCond .eq 5, 3) := dk_153 0 5 (dk_at dksX2_passes_1 18 rfl rfl)
theorem dX2_passes_45 : decode cX2_passes 45 = .ok (.iconst 1, 1) := dk_4 (dk_at dksX2_passes_1 21 rfl rfl)
theorem dX2_passes_46 : decode cX2_passes 46 = .ok (.ireturn, 1) := dk_172 (dk_at dksX2_passes_1 22 rfl rfl)
theorem dX2_passes_47 : decode cX2_passes 47 = .ok (.iinc 4 1, 3) := dk_132 4 1 (dk_at dksX2_passes_2 0 rfl rfl)
theorem dX2_passes_50 : decode cX2_passes 50 = .ok (.goto (-47), 3) := dk_167 255 209 (dk_at dksX2_passes_2 3 rfl rfl)
theorem dX2_passes_53 : decode cX2_passes 53 = .ok (.iconst 0, 1) := dk_3 (dk_at dksX2_passes_2 6 rfl rfl)
theorem dX2_passes_54 : decode cX2_passes 54 = .ok (.istore 4, 2) := dk_54 4 (dk_at dksX2_passes_2 7 rfl rfl)
theorem dX2_passes_56 : decode cX2_passes 56 = .ok (.iload 4, 2) := dk_21 4 (dk_at dksX2_passes_2 9 rfl rfl)
theorem dX2_passes_58 : decode cX2_passes 58 = .ok (.aload_n 0, 1) := dk_42 (dk_at dksX2_passes_2 11 rfl rfl)
theorem dX2_passes_59 : decode cX2_passes 59 = .ok (.getfield 12, 3) := dk_180 0 12 (dk_at dksX2_passes_2 12 rfl rfl)
theorem dX2_passes_62 : decode cX2_passes 62 = .ok (.invokeinterface 25 1, 5) := by decide +kernel
theorem dX2_passes_67 : decode cX2_passes 67 = .ok (.if_icmp .ge 92, 3) := dk_162 0 92 (dk_at dksX2_passes_2 20 rfl rfl)
theorem dX2_passes_70 : decode cX2_passes 70 = .ok (.aload_n 0, 1) := dk_42 (dk_at dksX2_passes_2 23 rfl rfl)
theorem dX2_passes_71 : decode cX2_passes 71 = .ok (.getfield 12, 3) := dk_180 0 12 (dk_at dksX2_passes_3 0 rfl rfl)
theorem dX2_passes_74 : decode cX2_passes 74 = .ok (.iload 4, 2) := dk_21 4 (dk_at dksX2_passes_3 3 rfl rfl)
theorem dX2_passes_76 : decode cX2_passes 76 = .ok (.invokeinterface 31 2, 5) := by decide +kernel
theorem dX2_passes_81 : decode cX2_passes 81 = .ok (.checkcast 35, 3) := dk_192 0 35 (dk_at dksX2_passes_3 10 rfl rfl)
theorem dX2_passes_84 : decode cX2_passes 84 = .ok (.astore 5, 2) := dk_58 5 (dk_at dksX2_passes_3 13 rfl rfl)
theorem dX2_passes_86 : decode cX2_passes 86 = .ok (.iconst 0, 1) := dk_3 (dk_at dksX2_passes_3 15 rfl rfl)
theorem dX2_passes_87 : decode cX2_passes 87 = .ok (.istore 6, 2) := dk_54 6 (dk_at dksX2_passes_3 16 rfl rfl)
theorem dX2_passes_89 : decode cX2_passes 89 = .ok (.iload 6, 2) := dk_21 6 (dk_at dksX2_passes_3 18 rfl rfl)
theorem dX2_passes_91 : decode cX2_passes 91 = .ok (.aload 5, 2) := dk_25 5 (dk_at dksX2_passes_3 20 rfl rfl)
theorem dX2_passes_93 : decode cX2_passes 93 = .ok (.invokevirtual 85, 3) := dk_182 0 85 (dk_at dksX2_passes_4 0 rfl rfl)
theorem dX2_passes_96 : decode cX2_passes 96 = .ok (.if_icmp .ge 57, 3) := dk_162 0 57 (dk_at dksX2_passes_4 3 rfl rfl)
theorem dX2_passes_99 : decode cX2_passes 99 = .ok (.aload 5, 2) := dk_25 5 (dk_at dksX2_passes_4 6 rfl rfl)
theorem dX2_passes_101 : decode cX2_passes 101 = .ok (.iload 6, 2) := dk_21 6 (dk_at dksX2_passes_4 8 rfl rfl)
theorem dX2_passes_103 : decode cX2_passes 103 = .ok (.invokevirtual 69, 3) := dk_182 0 69 (dk_at dksX2_passes_4 10 rfl rfl)
theorem dX2_passes_106 : decode cX2_passes 106 = .ok (.astore 7, 2) := dk_58 7 (dk_at dksX2_passes_4 13 rfl rfl)
theorem dX2_passes_108 : decode cX2_passes 108 = .ok (.aload 7, 2) := dk_25 7 (dk_at dksX2_passes_4 15 rfl rfl)
theorem dX2_passes_110 : decode cX2_passes 110 = .ok (.aload_n 1, 1) := dk_43 (dk_at dksX2_passes_4 17 rfl rfl)
theorem dX2_passes_111 : decode cX2_passes 111 = .ok (.invokevirtual 86, 3) := dk_182 0 86 (dk_at dksX2_passes_4 18 rfl rfl)
theorem dX2_passes_114 : decode cX2_passes 114 = .ok (.ifCond .ne 33, 3) := dk_154 0 33 (dk_at dksX2_passes_4 21 rfl rfl)
theorem dX2_passes_117 : decode cX2_passes 117 = .ok (.aload 7, 2) := dk_25 7 (dk_at dksX2_passes_5 0 rfl rfl)
theorem dX2_passes_119 : decode cX2_passes 119 = .ok (.aload_n 2, 1) := dk_44 (dk_at dksX2_passes_5 2 rfl rfl)
theorem dX2_passes_120 : decode cX2_passes 120 = .ok (.invokevirtual 86, 3) := dk_182 0 86 (dk_at dksX2_passes_5 3 rfl rfl)
theorem dX2_passes_123 : decode cX2_passes 123 = .ok (.ifCond .ne 24, 3) := dk_154 0 24 (dk_at dksX2_passes_5 6 rfl rfl)
theorem dX2_passes_126 : decode cX2_passes 126 = .ok (.aload 7, 2) := dk_25 7 (dk_at dksX2_passes_5 9 rfl rfl)
theorem dX2_passes_128 : decode cX2_passes 128 = .ok (.aload_n 3, 1) := dk_45 (dk_at dksX2_passes_5 11 rfl rfl)
theorem dX2_passes_129 : decode cX2_passes 129 = .ok (.invokevirtual 86, 3) := dk_182 0 86 (dk_at dksX2_passes_5 12 rfl rfl)
theorem dX2_passes_132 : decode cX2_passes 132 = .ok (.ifCond .ne 15, 3) := dk_154 0 15 (dk_at dksX2_passes_5 15 rfl rfl)
theorem dX2_passes_135 : decode cX2_passes 135 = .ok (.aload 7, 2) := dk_25 7 (dk_at dksX2_passes_5 18 rfl rfl)
theorem dX2_passes_137 : decode cX2_passes 137 = .ok (.aload_n 1, 1) := dk_43 (dk_at dksX2_passes_5 20 rfl rfl)
theorem dX2_passes_138 : decode cX2_passes 138 = .ok (.aload_n 2, 1) := dk_44 (dk_at dksX2_passes_5 21 rfl rfl)
theorem dX2_passes_139 : decode cX2_passes 139 = .ok (.invokestatic 76, 3) := dk_184 0 76 (dk_at dksX2_passes_6 0 rfl rfl)
theorem dX2_passes_142 : decode cX2_passes 142 = .ok (.ifCond .eq 5, 3) := dk_153 0 5 (dk_at dksX2_passes_6 3 rfl rfl)
theorem dX2_passes_145 : decode cX2_passes 145 = .ok (.iconst 1, 1) := dk_4 (dk_at dksX2_passes_6 6 rfl rfl)
theorem dX2_passes_146 : decode cX2_passes 146 = .ok (.ireturn, 1) := dk_172 (dk_at dksX2_passes_6 7 rfl rfl)
theorem dX2_passes_147 : decode cX2_passes 147 = .ok (.iinc 6 1, 3) := dk_132 6 1 (dk_at dksX2_passes_6 8 rfl rfl)
theorem dX2_passes_150 : decode cX2_passes 150 = .ok (.goto (-61), 3) := dk_167 255 195 (dk_at dksX2_passes_6 11 rfl rfl)
theorem dX2_passes_153 : decode cX2_passes 153 = .ok (.iinc 4 1, 3) := dk_132 4 1 (dk_at dksX2_passes_6 14 rfl rfl)
theorem dX2_passes_156 : decode cX2_passes 156 = .ok (.goto (-100), 3) := dk_167 255 156 (dk_at dksX2_passes_6 17 rfl rfl)
theorem dX2_passes_159 : decode cX2_passes 159 = .ok (.iconst 0, 1) := dk_3 (dk_at dksX2_passes_6 20 rfl rfl)
theorem dX2_passes_160 : decode cX2_passes 160 = .ok (.ireturn, 1) := dk_172 (dk_at dksX2_passes_6 21 rfl rfl)
abbrev cX2_closeReason : ByteArray := prog_2_method_9_code
def yX2_closeReason : MethodName := ⟨RX2, "closeReason", "(LCornerClaims$Polygon;)I"⟩
def dkwX2_closeReason_1 : List UInt8 := [182, 0, 103, 43, 3, 182, 0, 69, 43, 2, 2, 1, 182, 0, 107, 172]
abbrev dktX2_closeReason_1 : List UInt8 := dkwX2_closeReason_1 ++ []
def dkwX2_closeReason_0 : List UInt8 := [43, 180, 0, 96, 153, 0, 5, 4, 172, 43, 182, 0, 85, 6, 162, 0, 8, 16, 6, 167, 0, 20, 42, 43]
abbrev dktX2_closeReason_0 : List UInt8 := dkwX2_closeReason_0 ++ dktX2_closeReason_1
theorem dksX2_closeReason_0 : cX2_closeReason.data.toList.drop 0 = dktX2_closeReason_0 := by decide +kernel
theorem dksX2_closeReason_1 : cX2_closeReason.data.toList.drop 24 = dktX2_closeReason_1 := dk_seg dksX2_closeReason_0 24 rfl rfl
theorem dX2_closeReason_0 : decode cX2_closeReason 0 = .ok (.aload_n 1, 1) := dk_43 (dk_at dksX2_closeReason_0 0 rfl rfl)
theorem dX2_closeReason_1 : decode cX2_closeReason 1 = .ok (.getfield 96, 3) := dk_180 0 96 (dk_at dksX2_closeReason_0 1 rfl rfl)
theorem dX2_closeReason_4 : decode cX2_closeReason 4 = .ok (.ifCond .eq 5, 3) := dk_153 0 5 (dk_at dksX2_closeReason_0 4 rfl rfl)
theorem dX2_closeReason_7 : decode cX2_closeReason 7 = .ok (.iconst 1, 1) := dk_4 (dk_at dksX2_closeReason_0 7 rfl rfl)
theorem dX2_closeReason_8 : decode cX2_closeReason 8 = .ok (.ireturn, 1) := dk_172 (dk_at dksX2_closeReason_0 8 rfl rfl)
theorem dX2_closeReason_9 : decode cX2_closeReason 9 = .ok (.aload_n 1, 1) := dk_43 (dk_at dksX2_closeReason_0 9 rfl rfl)
theorem dX2_closeReason_10 : decode cX2_closeReason 10 = .ok (.invokevirtual 85, 3) := dk_182 0 85 (dk_at dksX2_closeReason_0 10 rfl rfl)
theorem dX2_closeReason_13 : decode cX2_closeReason 13 = .ok (.iconst 3, 1) := dk_6 (dk_at dksX2_closeReason_0 13 rfl rfl)
theorem dX2_closeReason_14 : decode cX2_closeReason 14 = .ok (.if_icmp .ge 8, 3) := dk_162 0 8 (dk_at dksX2_closeReason_0 14 rfl rfl)
theorem dX2_closeReason_17 : decode cX2_closeReason 17 = .ok (.bipush 6, 2) := dk_16 6 (dk_at dksX2_closeReason_0 17 rfl rfl)
theorem dX2_closeReason_19 : decode cX2_closeReason 19 = .ok (.goto 20, 3) := dk_167 0 20 (dk_at dksX2_closeReason_0 19 rfl rfl)
theorem dX2_closeReason_22 : decode cX2_closeReason 22 = .ok (.aload_n 0, 1) := dk_42 (dk_at dksX2_closeReason_0 22 rfl rfl)
theorem dX2_closeReason_23 : decode cX2_closeReason 23 = .ok (.aload_n 1, 1) := dk_43 (dk_at dksX2_closeReason_0 23 rfl rfl)
theorem dX2_closeReason_24 : decode cX2_closeReason 24 = .ok (.invokevirtual 103, 3) := dk_182 0 103 (dk_at dksX2_closeReason_1 0 rfl rfl)
theorem dX2_closeReason_27 : decode cX2_closeReason 27 = .ok (.aload_n 1, 1) := dk_43 (dk_at dksX2_closeReason_1 3 rfl rfl)
theorem dX2_closeReason_28 : decode cX2_closeReason 28 = .ok (.iconst 0, 1) := dk_3 (dk_at dksX2_closeReason_1 4 rfl rfl)
theorem dX2_closeReason_29 : decode cX2_closeReason 29 = .ok (.invokevirtual 69, 3) := dk_182 0 69 (dk_at dksX2_closeReason_1 5 rfl rfl)
theorem dX2_closeReason_32 : decode cX2_closeReason 32 = .ok (.aload_n 1, 1) := dk_43 (dk_at dksX2_closeReason_1 8 rfl rfl)
theorem dX2_closeReason_33 : decode cX2_closeReason 33 = .ok (.iconst (-1), 1) := dk_2 (dk_at dksX2_closeReason_1 9 rfl rfl)
theorem dX2_closeReason_34 : decode cX2_closeReason 34 = .ok (.iconst (-1), 1) := dk_2 (dk_at dksX2_closeReason_1 10 rfl rfl)
theorem dX2_closeReason_35 : decode cX2_closeReason 35 = .ok (.aconst_null, 1) := dk_1 (dk_at dksX2_closeReason_1 11 rfl rfl)
theorem dX2_closeReason_36 : decode cX2_closeReason 36 = .ok (.invokevirtual 107, 3) := dk_182 0 107 (dk_at dksX2_closeReason_1 12 rfl rfl)
theorem dX2_closeReason_39 : decode cX2_closeReason 39 = .ok (.ireturn, 1) := dk_172 (dk_at dksX2_closeReason_1 15 rfl rfl)
abbrev cX2_closed : ByteArray := prog_2_method_16_code
def yX2_closed : MethodName := ⟨RX2, "closed", "()I"⟩
def dkwX2_closed_2 : List UInt8 := [167, 255, 213, 27, 172]
abbrev dktX2_closed_2 : List UInt8 := dkwX2_closed_2 ++ []
def dkwX2_closed_1 : List UInt8 := [185, 0, 31, 2, 0, 192, 0, 35, 180, 0, 96, 153, 0, 7, 4, 167, 0, 4, 3, 96, 60, 132, 2, 1]
abbrev dktX2_closed_1 : List UInt8 := dkwX2_closed_1 ++ dktX2_closed_2
def dkwX2_closed_0 : List UInt8 := [3, 60, 3, 61, 28, 42, 180, 0, 12, 185, 0, 25, 1, 0, 162, 0, 36, 27, 42, 180, 0, 12, 28]
abbrev dktX2_closed_0 : List UInt8 := dkwX2_closed_0 ++ dktX2_closed_1
theorem dksX2_closed_0 : cX2_closed.data.toList.drop 0 = dktX2_closed_0 := by decide +kernel
theorem dksX2_closed_1 : cX2_closed.data.toList.drop 23 = dktX2_closed_1 := dk_seg dksX2_closed_0 23 rfl rfl
theorem dksX2_closed_2 : cX2_closed.data.toList.drop 47 = dktX2_closed_2 := dk_seg dksX2_closed_1 24 rfl rfl
theorem dX2_closed_0 : decode cX2_closed 0 = .ok (.iconst 0, 1) := dk_3 (dk_at dksX2_closed_0 0 rfl rfl)
theorem dX2_closed_1 : decode cX2_closed 1 = .ok (.istore_n 1, 1) := dk_60 (dk_at dksX2_closed_0 1 rfl rfl)
theorem dX2_closed_2 : decode cX2_closed 2 = .ok (.iconst 0, 1) := dk_3 (dk_at dksX2_closed_0 2 rfl rfl)
theorem dX2_closed_3 : decode cX2_closed 3 = .ok (.istore_n 2, 1) := dk_61 (dk_at dksX2_closed_0 3 rfl rfl)
theorem dX2_closed_4 : decode cX2_closed 4 = .ok (.iload_n 2, 1) := dk_28 (dk_at dksX2_closed_0 4 rfl rfl)
theorem dX2_closed_5 : decode cX2_closed 5 = .ok (.aload_n 0, 1) := dk_42 (dk_at dksX2_closed_0 5 rfl rfl)
theorem dX2_closed_6 : decode cX2_closed 6 = .ok (.getfield 12, 3) := dk_180 0 12 (dk_at dksX2_closed_0 6 rfl rfl)
theorem dX2_closed_9 : decode cX2_closed 9 = .ok (.invokeinterface 25 1, 5) := by decide +kernel
theorem dX2_closed_14 : decode cX2_closed 14 = .ok (.if_icmp .ge 36, 3) := dk_162 0 36 (dk_at dksX2_closed_0 14 rfl rfl)
theorem dX2_closed_17 : decode cX2_closed 17 = .ok (.iload_n 1, 1) := dk_27 (dk_at dksX2_closed_0 17 rfl rfl)
theorem dX2_closed_18 : decode cX2_closed 18 = .ok (.aload_n 0, 1) := dk_42 (dk_at dksX2_closed_0 18 rfl rfl)
theorem dX2_closed_19 : decode cX2_closed 19 = .ok (.getfield 12, 3) := dk_180 0 12 (dk_at dksX2_closed_0 19 rfl rfl)
theorem dX2_closed_22 : decode cX2_closed 22 = .ok (.iload_n 2, 1) := dk_28 (dk_at dksX2_closed_0 22 rfl rfl)
theorem dX2_closed_23 : decode cX2_closed 23 = .ok (.invokeinterface 31 2, 5) := by decide +kernel
theorem dX2_closed_28 : decode cX2_closed 28 = .ok (.checkcast 35, 3) := dk_192 0 35 (dk_at dksX2_closed_1 5 rfl rfl)
theorem dX2_closed_31 : decode cX2_closed 31 = .ok (.getfield 96, 3) := dk_180 0 96 (dk_at dksX2_closed_1 8 rfl rfl)
theorem dX2_closed_34 : decode cX2_closed 34 = .ok (.ifCond .eq 7, 3) := dk_153 0 7 (dk_at dksX2_closed_1 11 rfl rfl)
theorem dX2_closed_37 : decode cX2_closed 37 = .ok (.iconst 1, 1) := dk_4 (dk_at dksX2_closed_1 14 rfl rfl)
theorem dX2_closed_38 : decode cX2_closed 38 = .ok (.goto 4, 3) := dk_167 0 4 (dk_at dksX2_closed_1 15 rfl rfl)
theorem dX2_closed_41 : decode cX2_closed 41 = .ok (.iconst 0, 1) := dk_3 (dk_at dksX2_closed_1 18 rfl rfl)
theorem dX2_closed_42 : decode cX2_closed 42 = .ok (.iadd, 1) := dk_96 (dk_at dksX2_closed_1 19 rfl rfl)
theorem dX2_closed_43 : decode cX2_closed 43 = .ok (.istore_n 1, 1) := dk_60 (dk_at dksX2_closed_1 20 rfl rfl)
theorem dX2_closed_44 : decode cX2_closed 44 = .ok (.iinc 2 1, 3) := dk_132 2 1 (dk_at dksX2_closed_1 21 rfl rfl)
theorem dX2_closed_47 : decode cX2_closed 47 = .ok (.goto (-43), 3) := dk_167 255 213 (dk_at dksX2_closed_2 0 rfl rfl)
theorem dX2_closed_50 : decode cX2_closed 50 = .ok (.iload_n 1, 1) := dk_27 (dk_at dksX2_closed_2 3 rfl rfl)
theorem dX2_closed_51 : decode cX2_closed 51 = .ok (.ireturn, 1) := dk_172 (dk_at dksX2_closed_2 4 rfl rfl)
abbrev cX2_claimed : ByteArray := prog_2_method_15_code
def yX2_claimed : MethodName := ⟨RX2, "claimed", "()I"⟩
def dkwX2_claimed_0 : List UInt8 := [42, 180, 0, 18, 180, 0, 80, 185, 0, 25, 1, 0, 42, 2, 182, 0, 128, 100, 172]
abbrev dktX2_claimed_0 : List UInt8 := dkwX2_claimed_0 ++ []
theorem dksX2_claimed_0 : cX2_claimed.data.toList.drop 0 = dktX2_claimed_0 := by decide +kernel
theorem dX2_claimed_0 : decode cX2_claimed 0 = .ok (.aload_n 0, 1) := dk_42 (dk_at dksX2_claimed_0 0 rfl rfl)
theorem dX2_claimed_1 : decode cX2_claimed 1 = .ok (.getfield 18, 3) := dk_180 0 18 (dk_at dksX2_claimed_0 1 rfl rfl)
theorem dX2_claimed_4 : decode cX2_claimed 4 = .ok (.getfield 80, 3) := dk_180 0 80 (dk_at dksX2_claimed_0 4 rfl rfl)
theorem dX2_claimed_7 : decode cX2_claimed 7 = .ok (.invokeinterface 25 1, 5) := by decide +kernel
theorem dX2_claimed_12 : decode cX2_claimed 12 = .ok (.aload_n 0, 1) := dk_42 (dk_at dksX2_claimed_0 12 rfl rfl)
theorem dX2_claimed_13 : decode cX2_claimed 13 = .ok (.iconst (-1), 1) := dk_2 (dk_at dksX2_claimed_0 13 rfl rfl)
theorem dX2_claimed_14 : decode cX2_claimed 14 = .ok (.invokevirtual 128, 3) := dk_182 0 128 (dk_at dksX2_claimed_0 14 rfl rfl)
theorem dX2_claimed_17 : decode cX2_claimed 17 = .ok (.isub, 1) := dk_100 (dk_at dksX2_claimed_0 17 rfl rfl)
theorem dX2_claimed_18 : decode cX2_claimed 18 = .ok (.ireturn, 1) := dk_172 (dk_at dksX2_claimed_0 18 rfl rfl)
abbrev cX2_claims : ByteArray := prog_2_method_14_code
def yX2_claims : MethodName := ⟨RX2, "claims", "(I)I"⟩
def dkwX2_claims_1 : List UInt8 := [182, 0, 124, 27, 160, 0, 7, 4, 167, 0, 4, 3, 96, 61, 132, 3, 1, 167, 255, 220, 28, 172]
abbrev dktX2_claims_1 : List UInt8 := dkwX2_claims_1 ++ []
def dkwX2_claims_0 : List UInt8 := [3, 61, 3, 62, 29, 42, 180, 0, 18, 180, 0, 80, 185, 0, 25, 1, 0, 162, 0, 26, 28, 42, 29]
abbrev dktX2_claims_0 : List UInt8 := dkwX2_claims_0 ++ dktX2_claims_1
theorem dksX2_claims_0 : cX2_claims.data.toList.drop 0 = dktX2_claims_0 := by decide +kernel
theorem dksX2_claims_1 : cX2_claims.data.toList.drop 23 = dktX2_claims_1 := dk_seg dksX2_claims_0 23 rfl rfl
theorem dX2_claims_0 : decode cX2_claims 0 = .ok (.iconst 0, 1) := dk_3 (dk_at dksX2_claims_0 0 rfl rfl)
theorem dX2_claims_1 : decode cX2_claims 1 = .ok (.istore_n 2, 1) := dk_61 (dk_at dksX2_claims_0 1 rfl rfl)
theorem dX2_claims_2 : decode cX2_claims 2 = .ok (.iconst 0, 1) := dk_3 (dk_at dksX2_claims_0 2 rfl rfl)
theorem dX2_claims_3 : decode cX2_claims 3 = .ok (.istore_n 3, 1) := dk_62 (dk_at dksX2_claims_0 3 rfl rfl)
theorem dX2_claims_4 : decode cX2_claims 4 = .ok (.iload_n 3, 1) := dk_29 (dk_at dksX2_claims_0 4 rfl rfl)
theorem dX2_claims_5 : decode cX2_claims 5 = .ok (.aload_n 0, 1) := dk_42 (dk_at dksX2_claims_0 5 rfl rfl)
theorem dX2_claims_6 : decode cX2_claims 6 = .ok (.getfield 18, 3) := dk_180 0 18 (dk_at dksX2_claims_0 6 rfl rfl)
theorem dX2_claims_9 : decode cX2_claims 9 = .ok (.getfield 80, 3) := dk_180 0 80 (dk_at dksX2_claims_0 9 rfl rfl)
theorem dX2_claims_12 : decode cX2_claims 12 = .ok (.invokeinterface 25 1, 5) := by decide +kernel
theorem dX2_claims_17 : decode cX2_claims 17 = .ok (.if_icmp .ge 26, 3) := dk_162 0 26 (dk_at dksX2_claims_0 17 rfl rfl)
theorem dX2_claims_20 : decode cX2_claims 20 = .ok (.iload_n 2, 1) := dk_28 (dk_at dksX2_claims_0 20 rfl rfl)
theorem dX2_claims_21 : decode cX2_claims 21 = .ok (.aload_n 0, 1) := dk_42 (dk_at dksX2_claims_0 21 rfl rfl)
theorem dX2_claims_22 : decode cX2_claims 22 = .ok (.iload_n 3, 1) := dk_29 (dk_at dksX2_claims_0 22 rfl rfl)
theorem dX2_claims_23 : decode cX2_claims 23 = .ok (.invokevirtual 124, 3) := dk_182 0 124 (dk_at dksX2_claims_1 0 rfl rfl)
theorem dX2_claims_26 : decode cX2_claims 26 = .ok (.iload_n 1, 1) := dk_27 (dk_at dksX2_claims_1 3 rfl rfl)
theorem dX2_claims_27 : decode cX2_claims 27 = .ok (.if_icmp .ne 7, 3) := dk_160 0 7 (dk_at dksX2_claims_1 4 rfl rfl)
theorem dX2_claims_30 : decode cX2_claims 30 = .ok (.iconst 1, 1) := dk_4 (dk_at dksX2_claims_1 7 rfl rfl)
theorem dX2_claims_31 : decode cX2_claims 31 = .ok (.goto 4, 3) := dk_167 0 4 (dk_at dksX2_claims_1 8 rfl rfl)
theorem dX2_claims_34 : decode cX2_claims 34 = .ok (.iconst 0, 1) := dk_3 (dk_at dksX2_claims_1 11 rfl rfl)
theorem dX2_claims_35 : decode cX2_claims 35 = .ok (.iadd, 1) := dk_96 (dk_at dksX2_claims_1 12 rfl rfl)
theorem dX2_claims_36 : decode cX2_claims 36 = .ok (.istore_n 2, 1) := dk_61 (dk_at dksX2_claims_1 13 rfl rfl)
theorem dX2_claims_37 : decode cX2_claims 37 = .ok (.iinc 3 1, 3) := dk_132 3 1 (dk_at dksX2_claims_1 14 rfl rfl)
theorem dX2_claims_40 : decode cX2_claims 40 = .ok (.goto (-36), 3) := dk_167 255 220 (dk_at dksX2_claims_1 17 rfl rfl)
theorem dX2_claims_43 : decode cX2_claims 43 = .ok (.iload_n 2, 1) := dk_28 (dk_at dksX2_claims_1 20 rfl rfl)
theorem dX2_claims_44 : decode cX2_claims 44 = .ok (.ireturn, 1) := dk_172 (dk_at dksX2_claims_1 21 rfl rfl)
abbrev cX2_copy : ByteArray := prog_2_method_2_code
def yX2_copy : MethodName := ⟨RX2, "copy", "()LCornerClaims$Field;"⟩
def dkwX2_copy_2 : List UInt8 := [185, 0, 41, 2, 0, 87, 132, 2, 1, 167, 255, 214, 43, 176]
abbrev dktX2_copy_2 : List UInt8 := dkwX2_copy_2 ++ []
def dkwX2_copy_1 : List UInt8 := [162, 0, 35, 43, 180, 0, 12, 42, 180, 0, 12, 28, 185, 0, 31, 2, 0, 192, 0, 35, 182, 0, 37]
abbrev dktX2_copy_1 : List UInt8 := dkwX2_copy_1 ++ dktX2_copy_2
def dkwX2_copy_0 : List UInt8 := [187, 0, 13, 89, 42, 180, 0, 18, 183, 0, 22, 76, 3, 61, 28, 42, 180, 0, 12, 185, 0, 25, 1, 0]
abbrev dktX2_copy_0 : List UInt8 := dkwX2_copy_0 ++ dktX2_copy_1
theorem dksX2_copy_0 : cX2_copy.data.toList.drop 0 = dktX2_copy_0 := by decide +kernel
theorem dksX2_copy_1 : cX2_copy.data.toList.drop 24 = dktX2_copy_1 := dk_seg dksX2_copy_0 24 rfl rfl
theorem dksX2_copy_2 : cX2_copy.data.toList.drop 47 = dktX2_copy_2 := dk_seg dksX2_copy_1 23 rfl rfl
theorem dX2_copy_0 : decode cX2_copy 0 = .ok (.new 13, 3) := dk_187 0 13 (dk_at dksX2_copy_0 0 rfl rfl)
theorem dX2_copy_3 : decode cX2_copy 3 = .ok (.dup, 1) := dk_89 (dk_at dksX2_copy_0 3 rfl rfl)
theorem dX2_copy_4 : decode cX2_copy 4 = .ok (.aload_n 0, 1) := dk_42 (dk_at dksX2_copy_0 4 rfl rfl)
theorem dX2_copy_5 : decode cX2_copy 5 = .ok (.getfield 18, 3) := dk_180 0 18 (dk_at dksX2_copy_0 5 rfl rfl)
theorem dX2_copy_8 : decode cX2_copy 8 = .ok (.invokespecial 22, 3) := dk_183 0 22 (dk_at dksX2_copy_0 8 rfl rfl)
theorem dX2_copy_11 : decode cX2_copy 11 = .ok (.astore_n 1, 1) := dk_76 (dk_at dksX2_copy_0 11 rfl rfl)
theorem dX2_copy_12 : decode cX2_copy 12 = .ok (.iconst 0, 1) := dk_3 (dk_at dksX2_copy_0 12 rfl rfl)
theorem dX2_copy_13 : decode cX2_copy 13 = .ok (.istore_n 2, 1) := dk_61 (dk_at dksX2_copy_0 13 rfl rfl)
theorem dX2_copy_14 : decode cX2_copy 14 = .ok (.iload_n 2, 1) := dk_28 (dk_at dksX2_copy_0 14 rfl rfl)
theorem dX2_copy_15 : decode cX2_copy 15 = .ok (.aload_n 0, 1) := dk_42 (dk_at dksX2_copy_0 15 rfl rfl)
theorem dX2_copy_16 : decode cX2_copy 16 = .ok (.getfield 12, 3) := dk_180 0 12 (dk_at dksX2_copy_0 16 rfl rfl)
theorem dX2_copy_19 : decode cX2_copy 19 = .ok (.invokeinterface 25 1, 5) := by decide +kernel
theorem dX2_copy_24 : decode cX2_copy 24 = .ok (.if_icmp .ge 35, 3) := dk_162 0 35 (dk_at dksX2_copy_1 0 rfl rfl)
theorem dX2_copy_27 : decode cX2_copy 27 = .ok (.aload_n 1, 1) := dk_43 (dk_at dksX2_copy_1 3 rfl rfl)
theorem dX2_copy_28 : decode cX2_copy 28 = .ok (.getfield 12, 3) := dk_180 0 12 (dk_at dksX2_copy_1 4 rfl rfl)
theorem dX2_copy_31 : decode cX2_copy 31 = .ok (.aload_n 0, 1) := dk_42 (dk_at dksX2_copy_1 7 rfl rfl)
theorem dX2_copy_32 : decode cX2_copy 32 = .ok (.getfield 12, 3) := dk_180 0 12 (dk_at dksX2_copy_1 8 rfl rfl)
theorem dX2_copy_35 : decode cX2_copy 35 = .ok (.iload_n 2, 1) := dk_28 (dk_at dksX2_copy_1 11 rfl rfl)
theorem dX2_copy_36 : decode cX2_copy 36 = .ok (.invokeinterface 31 2, 5) := by decide +kernel
theorem dX2_copy_41 : decode cX2_copy 41 = .ok (.checkcast 35, 3) := dk_192 0 35 (dk_at dksX2_copy_1 17 rfl rfl)
theorem dX2_copy_44 : decode cX2_copy 44 = .ok (.invokevirtual 37, 3) := dk_182 0 37 (dk_at dksX2_copy_1 20 rfl rfl)
theorem dX2_copy_47 : decode cX2_copy 47 = .ok (.invokeinterface 41 2, 5) := by decide +kernel
theorem dX2_copy_52 : decode cX2_copy 52 = .ok (.pop, 1) := dk_87 (dk_at dksX2_copy_2 5 rfl rfl)
theorem dX2_copy_53 : decode cX2_copy 53 = .ok (.iinc 2 1, 3) := dk_132 2 1 (dk_at dksX2_copy_2 6 rfl rfl)
theorem dX2_copy_56 : decode cX2_copy 56 = .ok (.goto (-42), 3) := dk_167 255 214 (dk_at dksX2_copy_2 9 rfl rfl)
theorem dX2_copy_59 : decode cX2_copy 59 = .ok (.aload_n 1, 1) := dk_43 (dk_at dksX2_copy_2 12 rfl rfl)
theorem dX2_copy_60 : decode cX2_copy 60 = .ok (.areturn, 1) := dk_176 (dk_at dksX2_copy_2 13 rfl rfl)
abbrev cX2_bendReason : ByteArray := prog_2_method_10_code
def yX2_bendReason : MethodName := ⟨RX2, "bendReason", "(LCornerClaims$Polygon;ILCornerClaims$Point;)I"⟩
def dkwX2_bendReason_3 : List UInt8 := [172]
abbrev dktX2_bendReason_3 : List UInt8 := dkwX2_bendReason_3 ++ []
def dkwX2_bendReason_2 : List UInt8 := [21, 4, 153, 0, 8, 21, 4, 167, 0, 17, 42, 43, 28, 182, 0, 73, 45, 43, 28, 2, 1, 182, 0, 107]
abbrev dktX2_bendReason_2 : List UInt8 := dkwX2_bendReason_2 ++ dktX2_bendReason_3
def dkwX2_bendReason_1 : List UInt8 := [182, 0, 100, 153, 0, 5, 6, 172, 42, 43, 28, 182, 0, 69, 45, 43, 28, 2, 1, 182, 0, 107, 54, 4]
abbrev dktX2_bendReason_1 : List UInt8 := dkwX2_bendReason_1 ++ dktX2_bendReason_2
def dkwX2_bendReason_0 : List UInt8 := [43, 180, 0, 96, 154, 0, 5, 4, 172, 43, 182, 0, 85, 16, 12, 160, 0, 5, 5, 172, 42, 45]
abbrev dktX2_bendReason_0 : List UInt8 := dkwX2_bendReason_0 ++ dktX2_bendReason_1
theorem dksX2_bendReason_0 : cX2_bendReason.data.toList.drop 0 = dktX2_bendReason_0 := by decide +kernel
theorem dksX2_bendReason_1 : cX2_bendReason.data.toList.drop 22 = dktX2_bendReason_1 := dk_seg dksX2_bendReason_0 22 rfl rfl
theorem dksX2_bendReason_2 : cX2_bendReason.data.toList.drop 46 = dktX2_bendReason_2 := dk_seg dksX2_bendReason_1 24 rfl rfl
theorem dksX2_bendReason_3 : cX2_bendReason.data.toList.drop 70 = dktX2_bendReason_3 := dk_seg dksX2_bendReason_2 24 rfl rfl
theorem dX2_bendReason_0 : decode cX2_bendReason 0 = .ok (.aload_n 1, 1) := dk_43 (dk_at dksX2_bendReason_0 0 rfl rfl)
theorem dX2_bendReason_1 : decode cX2_bendReason 1 = .ok (.getfield 96, 3) := dk_180 0 96 (dk_at dksX2_bendReason_0 1 rfl rfl)
theorem dX2_bendReason_4 : decode cX2_bendReason 4 = .ok (.ifCond .ne 5, 3) := dk_154 0 5 (dk_at dksX2_bendReason_0 4 rfl rfl)
theorem dX2_bendReason_7 : decode cX2_bendReason 7 = .ok (.iconst 1, 1) := dk_4 (dk_at dksX2_bendReason_0 7 rfl rfl)
theorem dX2_bendReason_8 : decode cX2_bendReason 8 = .ok (.ireturn, 1) := dk_172 (dk_at dksX2_bendReason_0 8 rfl rfl)
theorem dX2_bendReason_9 : decode cX2_bendReason 9 = .ok (.aload_n 1, 1) := dk_43 (dk_at dksX2_bendReason_0 9 rfl rfl)
theorem dX2_bendReason_10 : decode cX2_bendReason 10 = .ok (.invokevirtual 85, 3) := dk_182 0 85 (dk_at dksX2_bendReason_0 10 rfl rfl)
theorem dX2_bendReason_13 : decode cX2_bendReason 13 = .ok (.bipush 12, 2) := dk_16 12 (dk_at dksX2_bendReason_0 13 rfl rfl)
theorem dX2_bendReason_15 : decode cX2_bendReason 15 = .ok (.if_icmp .ne 5, 3) := dk_160 0 5 (dk_at dksX2_bendReason_0 15 rfl rfl)
theorem dX2_bendReason_18 : decode cX2_bendReason 18 = .ok (.iconst 2, 1) := dk_5 (dk_at dksX2_bendReason_0 18 rfl rfl)
theorem dX2_bendReason_19 : decode cX2_bendReason 19 = .ok (.ireturn, 1) := dk_172 (dk_at dksX2_bendReason_0 19 rfl rfl)
theorem dX2_bendReason_20 : decode cX2_bendReason 20 = .ok (.aload_n 0, 1) := dk_42 (dk_at dksX2_bendReason_0 20 rfl rfl)
theorem dX2_bendReason_21 : decode cX2_bendReason 21 = .ok (.aload_n 3, 1) := dk_45 (dk_at dksX2_bendReason_0 21 rfl rfl)
theorem dX2_bendReason_22 : decode cX2_bendReason 22 = .ok (.invokevirtual 100, 3) := dk_182 0 100 (dk_at dksX2_bendReason_1 0 rfl rfl)
theorem dX2_bendReason_25 : decode cX2_bendReason 25 = .ok (.ifCond .eq 5, 3) := dk_153 0 5 (dk_at dksX2_bendReason_1 3 rfl rfl)
theorem dX2_bendReason_28 : decode cX2_bendReason 28 = .ok (.iconst 3, 1) := dk_6 (dk_at dksX2_bendReason_1 6 rfl rfl)
theorem dX2_bendReason_29 : decode cX2_bendReason 29 = .ok (.ireturn, 1) := dk_172 (dk_at dksX2_bendReason_1 7 rfl rfl)
theorem dX2_bendReason_30 : decode cX2_bendReason 30 = .ok (.aload_n 0, 1) := dk_42 (dk_at dksX2_bendReason_1 8 rfl rfl)
theorem dX2_bendReason_31 : decode cX2_bendReason 31 = .ok (.aload_n 1, 1) := dk_43 (dk_at dksX2_bendReason_1 9 rfl rfl)
theorem dX2_bendReason_32 : decode cX2_bendReason 32 = .ok (.iload_n 2, 1) := dk_28 (dk_at dksX2_bendReason_1 10 rfl rfl)
theorem dX2_bendReason_33 : decode cX2_bendReason 33 = .ok (.invokevirtual 69, 3) := dk_182 0 69 (dk_at dksX2_bendReason_1 11 rfl rfl)
theorem dX2_bendReason_36 : decode cX2_bendReason 36 = .ok (.aload_n 3, 1) := dk_45 (dk_at dksX2_bendReason_1 14 rfl rfl)
theorem dX2_bendReason_37 : decode cX2_bendReason 37 = .ok (.aload_n 1, 1) := dk_43 (dk_at dksX2_bendReason_1 15 rfl rfl)
theorem dX2_bendReason_38 : decode cX2_bendReason 38 = .ok (.iload_n 2, 1) := dk_28 (dk_at dksX2_bendReason_1 16 rfl rfl)
theorem dX2_bendReason_39 : decode cX2_bendReason 39 = .ok (.iconst (-1), 1) := dk_2 (dk_at dksX2_bendReason_1 17 rfl rfl)
theorem dX2_bendReason_40 : decode cX2_bendReason 40 = .ok (.aconst_null, 1) := dk_1 (dk_at dksX2_bendReason_1 18 rfl rfl)
theorem dX2_bendReason_41 : decode cX2_bendReason 41 = .ok (.invokevirtual 107, 3) := dk_182 0 107 (dk_at dksX2_bendReason_1 19 rfl rfl)
theorem dX2_bendReason_44 : decode cX2_bendReason 44 = .ok (.istore 4, 2) := dk_54 4 (dk_at dksX2_bendReason_1 22 rfl rfl)
theorem dX2_bendReason_46 : decode cX2_bendReason 46 = .ok (.iload 4, 2) := dk_21 4 (dk_at dksX2_bendReason_2 0 rfl rfl)
theorem dX2_bendReason_48 : decode cX2_bendReason 48 = .ok (.ifCond .eq 8, 3) := dk_153 0 8 (dk_at dksX2_bendReason_2 2 rfl rfl)
theorem dX2_bendReason_51 : decode cX2_bendReason 51 = .ok (.iload 4, 2) := dk_21 4 (dk_at dksX2_bendReason_2 5 rfl rfl)
theorem dX2_bendReason_53 : decode cX2_bendReason 53 = .ok (.goto 17, 3) := dk_167 0 17 (dk_at dksX2_bendReason_2 7 rfl rfl)
theorem dX2_bendReason_56 : decode cX2_bendReason 56 = .ok (.aload_n 0, 1) := dk_42 (dk_at dksX2_bendReason_2 10 rfl rfl)
theorem dX2_bendReason_57 : decode cX2_bendReason 57 = .ok (.aload_n 1, 1) := dk_43 (dk_at dksX2_bendReason_2 11 rfl rfl)
theorem dX2_bendReason_58 : decode cX2_bendReason 58 = .ok (.iload_n 2, 1) := dk_28 (dk_at dksX2_bendReason_2 12 rfl rfl)
theorem dX2_bendReason_59 : decode cX2_bendReason 59 = .ok (.invokevirtual 73, 3) := dk_182 0 73 (dk_at dksX2_bendReason_2 13 rfl rfl)
theorem dX2_bendReason_62 : decode cX2_bendReason 62 = .ok (.aload_n 3, 1) := dk_45 (dk_at dksX2_bendReason_2 16 rfl rfl)
theorem dX2_bendReason_63 : decode cX2_bendReason 63 = .ok (.aload_n 1, 1) := dk_43 (dk_at dksX2_bendReason_2 17 rfl rfl)
theorem dX2_bendReason_64 : decode cX2_bendReason 64 = .ok (.iload_n 2, 1) := dk_28 (dk_at dksX2_bendReason_2 18 rfl rfl)
theorem dX2_bendReason_65 : decode cX2_bendReason 65 = .ok (.iconst (-1), 1) := dk_2 (dk_at dksX2_bendReason_2 19 rfl rfl)
theorem dX2_bendReason_66 : decode cX2_bendReason 66 = .ok (.aconst_null, 1) := dk_1 (dk_at dksX2_bendReason_2 20 rfl rfl)
theorem dX2_bendReason_67 : decode cX2_bendReason 67 = .ok (.invokevirtual 107, 3) := dk_182 0 107 (dk_at dksX2_bendReason_2 21 rfl rfl)
theorem dX2_bendReason_70 : decode cX2_bendReason 70 = .ok (.ireturn, 1) := dk_172 (dk_at dksX2_bendReason_3 0 rfl rfl)
abbrev cX2_takeOutReason : ByteArray := prog_2_method_11_code
def yX2_takeOutReason : MethodName := ⟨RX2, "takeOutReason", "(LCornerClaims$Polygon;I)I"⟩
def dkwX2_takeOutReason_2 : List UInt8 := [28, 182, 0, 69, 182, 0, 107, 172]
abbrev dktX2_takeOutReason_2 : List UInt8 := dkwX2_takeOutReason_2 ++ []
def dkwX2_takeOutReason_1 : List UInt8 := [182, 0, 111, 43, 28, 182, 0, 73, 43, 28, 28, 43, 182, 0, 85, 96, 4, 100, 43, 182, 0, 85, 112, 43]
abbrev dktX2_takeOutReason_1 : List UInt8 := dkwX2_takeOutReason_1 ++ dktX2_takeOutReason_2
def dkwX2_takeOutReason_0 : List UInt8 := [43, 180, 0, 96, 154, 0, 5, 4, 172, 43, 182, 0, 85, 6, 160, 0, 6, 16, 6, 172, 42, 43, 28]
abbrev dktX2_takeOutReason_0 : List UInt8 := dkwX2_takeOutReason_0 ++ dktX2_takeOutReason_1
theorem dksX2_takeOutReason_0 : cX2_takeOutReason.data.toList.drop 0 = dktX2_takeOutReason_0 := by decide +kernel
theorem dksX2_takeOutReason_1 : cX2_takeOutReason.data.toList.drop 23 = dktX2_takeOutReason_1 := dk_seg dksX2_takeOutReason_0 23 rfl rfl
theorem dksX2_takeOutReason_2 : cX2_takeOutReason.data.toList.drop 47 = dktX2_takeOutReason_2 := dk_seg dksX2_takeOutReason_1 24 rfl rfl
theorem dX2_takeOutReason_0 : decode cX2_takeOutReason 0 = .ok (.aload_n 1, 1) := dk_43 (dk_at dksX2_takeOutReason_0 0 rfl rfl)
theorem dX2_takeOutReason_1 : decode cX2_takeOutReason 1 = .ok (.getfield 96, 3) := dk_180 0 96 (dk_at dksX2_takeOutReason_0 1 rfl rfl)
theorem dX2_takeOutReason_4 : decode cX2_takeOutReason 4 = .ok (.ifCond .ne 5, 3) := dk_154 0 5 (dk_at dksX2_takeOutReason_0 4 rfl rfl)
theorem dX2_takeOutReason_7 : decode cX2_takeOutReason 7 = .ok (.iconst 1, 1) := dk_4 (dk_at dksX2_takeOutReason_0 7 rfl rfl)
theorem dX2_takeOutReason_8 : decode cX2_takeOutReason 8 = .ok (.ireturn, 1) := dk_172 (dk_at dksX2_takeOutReason_0 8 rfl rfl)
theorem dX2_takeOutReason_9 : decode cX2_takeOutReason 9 = .ok (.aload_n 1, 1) := dk_43 (dk_at dksX2_takeOutReason_0 9 rfl rfl)
theorem dX2_takeOutReason_10 : decode cX2_takeOutReason 10 = .ok (.invokevirtual 85, 3) := dk_182 0 85 (dk_at dksX2_takeOutReason_0 10 rfl rfl)
theorem dX2_takeOutReason_13 : decode cX2_takeOutReason 13 = .ok (.iconst 3, 1) := dk_6 (dk_at dksX2_takeOutReason_0 13 rfl rfl)
theorem dX2_takeOutReason_14 : decode cX2_takeOutReason 14 = .ok (.if_icmp .ne 6, 3) := dk_160 0 6 (dk_at dksX2_takeOutReason_0 14 rfl rfl)
theorem dX2_takeOutReason_17 : decode cX2_takeOutReason 17 = .ok (.bipush 6, 2) := dk_16 6 (dk_at dksX2_takeOutReason_0 17 rfl rfl)
theorem dX2_takeOutReason_19 : decode cX2_takeOutReason 19 = .ok (.ireturn, 1) := dk_172 (dk_at dksX2_takeOutReason_0 19 rfl rfl)
theorem dX2_takeOutReason_20 : decode cX2_takeOutReason 20 = .ok (.aload_n 0, 1) := dk_42 (dk_at dksX2_takeOutReason_0 20 rfl rfl)
theorem dX2_takeOutReason_21 : decode cX2_takeOutReason 21 = .ok (.aload_n 1, 1) := dk_43 (dk_at dksX2_takeOutReason_0 21 rfl rfl)
theorem dX2_takeOutReason_22 : decode cX2_takeOutReason 22 = .ok (.iload_n 2, 1) := dk_28 (dk_at dksX2_takeOutReason_0 22 rfl rfl)
theorem dX2_takeOutReason_23 : decode cX2_takeOutReason 23 = .ok (.invokevirtual 111, 3) := dk_182 0 111 (dk_at dksX2_takeOutReason_1 0 rfl rfl)
theorem dX2_takeOutReason_26 : decode cX2_takeOutReason 26 = .ok (.aload_n 1, 1) := dk_43 (dk_at dksX2_takeOutReason_1 3 rfl rfl)
theorem dX2_takeOutReason_27 : decode cX2_takeOutReason 27 = .ok (.iload_n 2, 1) := dk_28 (dk_at dksX2_takeOutReason_1 4 rfl rfl)
theorem dX2_takeOutReason_28 : decode cX2_takeOutReason 28 = .ok (.invokevirtual 73, 3) := dk_182 0 73 (dk_at dksX2_takeOutReason_1 5 rfl rfl)
theorem dX2_takeOutReason_31 : decode cX2_takeOutReason 31 = .ok (.aload_n 1, 1) := dk_43 (dk_at dksX2_takeOutReason_1 8 rfl rfl)
theorem dX2_takeOutReason_32 : decode cX2_takeOutReason 32 = .ok (.iload_n 2, 1) := dk_28 (dk_at dksX2_takeOutReason_1 9 rfl rfl)
theorem dX2_takeOutReason_33 : decode cX2_takeOutReason 33 = .ok (.iload_n 2, 1) := dk_28 (dk_at dksX2_takeOutReason_1 10 rfl rfl)
theorem dX2_takeOutReason_34 : decode cX2_takeOutReason 34 = .ok (.aload_n 1, 1) := dk_43 (dk_at dksX2_takeOutReason_1 11 rfl rfl)
theorem dX2_takeOutReason_35 : decode cX2_takeOutReason 35 = .ok (.invokevirtual 85, 3) := dk_182 0 85 (dk_at dksX2_takeOutReason_1 12 rfl rfl)
theorem dX2_takeOutReason_38 : decode cX2_takeOutReason 38 = .ok (.iadd, 1) := dk_96 (dk_at dksX2_takeOutReason_1 15 rfl rfl)
theorem dX2_takeOutReason_39 : decode cX2_takeOutReason 39 = .ok (.iconst 1, 1) := dk_4 (dk_at dksX2_takeOutReason_1 16 rfl rfl)
theorem dX2_takeOutReason_40 : decode cX2_takeOutReason 40 = .ok (.isub, 1) := dk_100 (dk_at dksX2_takeOutReason_1 17 rfl rfl)
theorem dX2_takeOutReason_41 : decode cX2_takeOutReason 41 = .ok (.aload_n 1, 1) := dk_43 (dk_at dksX2_takeOutReason_1 18 rfl rfl)
theorem dX2_takeOutReason_42 : decode cX2_takeOutReason 42 = .ok (.invokevirtual 85, 3) := dk_182 0 85 (dk_at dksX2_takeOutReason_1 19 rfl rfl)
theorem dX2_takeOutReason_45 : decode cX2_takeOutReason 45 = .ok (.irem, 1) := dk_112 (dk_at dksX2_takeOutReason_1 22 rfl rfl)
theorem dX2_takeOutReason_46 : decode cX2_takeOutReason 46 = .ok (.aload_n 1, 1) := dk_43 (dk_at dksX2_takeOutReason_1 23 rfl rfl)
theorem dX2_takeOutReason_47 : decode cX2_takeOutReason 47 = .ok (.iload_n 2, 1) := dk_28 (dk_at dksX2_takeOutReason_2 0 rfl rfl)
theorem dX2_takeOutReason_48 : decode cX2_takeOutReason 48 = .ok (.invokevirtual 69, 3) := dk_182 0 69 (dk_at dksX2_takeOutReason_2 1 rfl rfl)
theorem dX2_takeOutReason_51 : decode cX2_takeOutReason 51 = .ok (.invokevirtual 107, 3) := dk_182 0 107 (dk_at dksX2_takeOutReason_2 4 rfl rfl)
theorem dX2_takeOutReason_54 : decode cX2_takeOutReason 54 = .ok (.ireturn, 1) := dk_172 (dk_at dksX2_takeOutReason_2 7 rfl rfl)
theorem q87 : (Jvm.Cond.initialized "CornerClaims$Field") ∈ lw_all := lw_g (lw_at lw_m1 4 rfl) rfl
theorem q157 : (Jvm.Cond.instantiable "CornerClaims$Field" (2 : Nat)) ∈ lw_all := lw_g (lw_at lw_m1 74 rfl) rfl
theorem q640 : (Jvm.Cond.fieldLinkNest "CornerClaims$Field" (51 : Nat) "CornerClaims$Layout" "stones" "Ljava/util/HashMap;" "CornerClaims") ∈ lw_tbl := lw_at lw_m3 77 rfl
theorem q642 : (Jvm.Cond.fieldLinkNest "CornerClaims$Field" (80 : Nat) "CornerClaims$Layout" "places" "Ljava/util/List;" "CornerClaims") ∈ lw_tbl := lw_at lw_m3 79 rfl
theorem q646 : (Jvm.Cond.fieldLinkNest "CornerClaims$Field" (131 : Nat) "CornerClaims$Layout" "values" "Ljava/util/List;" "CornerClaims") ∈ lw_tbl := lw_at lw_m3 83 rfl
theorem q650 : (Jvm.Cond.fieldLinkNest "CornerClaims$Field" (139 : Nat) "CornerClaims$Layout" "score" "LCornerClaims$Score;" "CornerClaims") ∈ lw_tbl := lw_at lw_m3 87 rfl
theorem q665 : (Jvm.Cond.instanceMethod ({ cls := "CornerClaims$Field", name := "<init>", desc := "(LCornerClaims$Layout;)V" } : Jvm.MethodName)) ∈ lw_all := lw_g (lw_at lw_m3 102 rfl) rfl
theorem q666 : (Jvm.Cond.code ({ cls := "CornerClaims$Field", name := "<init>", desc := "(LCornerClaims$Layout;)V" } : Jvm.MethodName) prog_2_method_1_code (2 : Nat) (Option.none : Option Jvm.ClassFile.FieldType)) ∈ lw_all := lw_g (lw_at lw_m3 103 rfl) rfl
theorem q667 : (Jvm.Cond.methodLink "CornerClaims$Field" (3 : Nat) ({ cls := "java/lang/Object", name := "<init>", desc := "()V" } : Jvm.MethodName)) ∈ lw_all := lw_g (lw_at lw_m3 104 rfl) rfl
theorem q668 : (Jvm.Cond.classLink "CornerClaims$Field" (9 : Nat) "java/util/ArrayList") ∈ lw_all := lw_g (lw_at lw_m3 105 rfl) rfl
theorem q669 : (Jvm.Cond.methodLink "CornerClaims$Field" (11 : Nat) ({ cls := "java/util/ArrayList", name := "<init>", desc := "()V" } : Jvm.MethodName)) ∈ lw_all := lw_g (lw_at lw_m3 106 rfl) rfl
theorem q670 : (Jvm.Cond.fieldLink "CornerClaims$Field" (18 : Nat) "CornerClaims$Field" "layout" "LCornerClaims$Layout;") ∈ lw_all := lw_g (lw_at lw_m3 107 rfl) rfl
theorem q673 : (Jvm.Cond.fieldLink "CornerClaims$Field" (12 : Nat) "CornerClaims$Field" "polygons" "Ljava/util/List;") ∈ lw_all := lw_g (lw_at lw_m3 110 rfl) rfl
theorem q676 : (Jvm.Cond.laysFinal "CornerClaims$Field" "CornerClaims$Field" "layout" "LCornerClaims$Layout;") ∈ lw_all := lw_g (lw_at lw_m3 113 rfl) rfl
theorem q677 : (Jvm.Cond.soleField "CornerClaims$Field" "layout") ∈ lw_all := lw_g (lw_at lw_m3 114 rfl) rfl
theorem q678 : (Jvm.Cond.laysFinal "CornerClaims$Field" "CornerClaims$Field" "polygons" "Ljava/util/List;") ∈ lw_all := lw_g (lw_at lw_m3 115 rfl) rfl
theorem q679 : (Jvm.Cond.soleField "CornerClaims$Field" "polygons") ∈ lw_all := lw_g (lw_at lw_m3 116 rfl) rfl
theorem q680 : (Jvm.Cond.superclass "CornerClaims$Field" "java/lang/Object") ∈ lw_all := lw_g (lw_at lw_m3 117 rfl) rfl
theorem q715 : (Jvm.Cond.instanceMethod ({ cls := "CornerClaims$Field", name := "points", desc := "(I)I" } : Jvm.MethodName)) ∈ lw_all := lw_g (lw_at lw_m3 152 rfl) rfl
theorem q716 : (Jvm.Cond.selects "CornerClaims$Field" ({ cls := "CornerClaims$Field", name := "points", desc := "(I)I" } : Jvm.MethodName) ({ cls := "CornerClaims$Field", name := "points", desc := "(I)I" } : Jvm.MethodName)) ∈ lw_all := lw_g (lw_at lw_m3 153 rfl) rfl
theorem q717 : (Jvm.Cond.code ({ cls := "CornerClaims$Field", name := "points", desc := "(I)I" } : Jvm.MethodName) prog_2_method_18_code (4 : Nat) (Option.some Jvm.ClassFile.FieldType.int)) ∈ lw_all := lw_g (lw_at lw_m3 154 rfl) rfl
theorem q718 : (Jvm.Cond.interfaceEntry "CornerClaims$Field" (25 : Nat)) ∈ lw_tbl := lw_at lw_m3 155 rfl
theorem q719 : (Jvm.Cond.methodLink "CornerClaims$Field" (25 : Nat) ({ cls := "java/util/List", name := "size", desc := "()I" } : Jvm.MethodName)) ∈ lw_all := lw_g (lw_at lw_m3 156 rfl) rfl
theorem q728 : (Jvm.Cond.interfaceEntry "CornerClaims$Field" (31 : Nat)) ∈ lw_tbl := lw_at lw_m3 165 rfl
theorem q729 : (Jvm.Cond.methodLink "CornerClaims$Field" (31 : Nat) ({ cls := "java/util/List", name := "get", desc := "(I)Ljava/lang/Object;" } : Jvm.MethodName)) ∈ lw_all := lw_g (lw_at lw_m3 166 rfl) rfl
theorem q747 : (Jvm.Cond.classLink "CornerClaims$Field" (35 : Nat) "CornerClaims$Polygon") ∈ lw_all := lw_g (lw_at lw_m3 184 rfl) rfl
theorem q748 : (Jvm.Cond.methodLink "CornerClaims$Field" (172 : Nat) ({ cls := "CornerClaims$Field", name := "score", desc := "(I)I" } : Jvm.MethodName)) ∈ lw_all := lw_g (lw_at lw_m3 185 rfl) rfl
theorem q749 : (Jvm.Cond.instanceMethod ({ cls := "CornerClaims$Field", name := "score", desc := "(I)I" } : Jvm.MethodName)) ∈ lw_all := lw_g (lw_at lw_m3 186 rfl) rfl
theorem q750 : (Jvm.Cond.selects "CornerClaims$Field" ({ cls := "CornerClaims$Field", name := "score", desc := "(I)I" } : Jvm.MethodName) ({ cls := "CornerClaims$Field", name := "score", desc := "(I)I" } : Jvm.MethodName)) ∈ lw_all := lw_g (lw_at lw_m3 187 rfl) rfl
theorem q751 : (Jvm.Cond.code ({ cls := "CornerClaims$Field", name := "score", desc := "(I)I" } : Jvm.MethodName) prog_2_method_17_code (6 : Nat) (Option.some Jvm.ClassFile.FieldType.int)) ∈ lw_all := lw_g (lw_at lw_m3 188 rfl) rfl
theorem q752 : (Jvm.Cond.methodLink "CornerClaims$Field" (124 : Nat) ({ cls := "CornerClaims$Field", name := "claimedBy", desc := "(I)I" } : Jvm.MethodName)) ∈ lw_all := lw_g (lw_at lw_m3 189 rfl) rfl
theorem q753 : (Jvm.Cond.instanceMethod ({ cls := "CornerClaims$Field", name := "claimedBy", desc := "(I)I" } : Jvm.MethodName)) ∈ lw_all := lw_g (lw_at lw_m3 190 rfl) rfl
theorem q754 : (Jvm.Cond.selects "CornerClaims$Field" ({ cls := "CornerClaims$Field", name := "claimedBy", desc := "(I)I" } : Jvm.MethodName) ({ cls := "CornerClaims$Field", name := "claimedBy", desc := "(I)I" } : Jvm.MethodName)) ∈ lw_all := lw_g (lw_at lw_m3 191 rfl) rfl
theorem q755 : (Jvm.Cond.code ({ cls := "CornerClaims$Field", name := "claimedBy", desc := "(I)I" } : Jvm.MethodName) prog_2_method_13_code (2 : Nat) (Option.some Jvm.ClassFile.FieldType.int)) ∈ lw_all := lw_g (lw_at lw_m3 192 rfl) rfl
theorem q756 : (Jvm.Cond.classLink "CornerClaims$Field" (83 : Nat) "CornerClaims$Point") ∈ lw_all := lw_g (lw_at lw_m3 193 rfl) rfl
theorem q757 : (Jvm.Cond.methodLink "CornerClaims$Field" (121 : Nat) ({ cls := "CornerClaims$Field", name := "innermost", desc := "(LCornerClaims$Point;)I" } : Jvm.MethodName)) ∈ lw_all := lw_g (lw_at lw_m3 194 rfl) rfl
theorem q758 : (Jvm.Cond.instanceMethod ({ cls := "CornerClaims$Field", name := "innermost", desc := "(LCornerClaims$Point;)I" } : Jvm.MethodName)) ∈ lw_all := lw_g (lw_at lw_m3 195 rfl) rfl
theorem q759 : (Jvm.Cond.selects "CornerClaims$Field" ({ cls := "CornerClaims$Field", name := "innermost", desc := "(LCornerClaims$Point;)I" } : Jvm.MethodName) ({ cls := "CornerClaims$Field", name := "innermost", desc := "(LCornerClaims$Point;)I" } : Jvm.MethodName)) ∈ lw_all := lw_g (lw_at lw_m3 196 rfl) rfl
theorem q760 : (Jvm.Cond.code ({ cls := "CornerClaims$Field", name := "innermost", desc := "(LCornerClaims$Point;)I" } : Jvm.MethodName) prog_2_method_12_code (5 : Nat) (Option.some Jvm.ClassFile.FieldType.int)) ∈ lw_all := lw_g (lw_at lw_m3 197 rfl) rfl
theorem q761 : (Jvm.Cond.methodLink "CornerClaims$Field" (114 : Nat) ({ cls := "CornerClaims$Polygon", name := "where", desc := "(LCornerClaims$Point;)I" } : Jvm.MethodName)) ∈ lw_all := lw_g (lw_at lw_m3 198 rfl) rfl
theorem q794 : (Jvm.Cond.methodLink "CornerClaims$Field" (118 : Nat) ({ cls := "CornerClaims$Polygon", name := "area", desc := "()I" } : Jvm.MethodName)) ∈ lw_all := lw_g (lw_at lw_m3 231 rfl) rfl
theorem q806 : (Jvm.Cond.classLink "CornerClaims$Field" (134 : Nat) "java/lang/Integer") ∈ lw_all := lw_g (lw_at lw_m4 3 rfl) rfl
theorem q807 : (Jvm.Cond.methodLink "CornerClaims$Field" (136 : Nat) ({ cls := "java/lang/Integer", name := "intValue", desc := "()I" } : Jvm.MethodName)) ∈ lw_all := lw_g (lw_at lw_m4 4 rfl) rfl
theorem q811 : (Jvm.Cond.methodLink "CornerClaims$Field" (85 : Nat) ({ cls := "CornerClaims$Polygon", name := "size", desc := "()I" } : Jvm.MethodName)) ∈ lw_all := lw_g (lw_at lw_m4 8 rfl) rfl
theorem q812 : (Jvm.Cond.methodLink "CornerClaims$Field" (143 : Nat) ({ cls := "CornerClaims$Polygon", name := "dents", desc := "()I" } : Jvm.MethodName)) ∈ lw_all := lw_g (lw_at lw_m4 9 rfl) rfl
theorem q823 : (Jvm.Cond.methodLink "CornerClaims$Field" (146 : Nat) ({ cls := "CornerClaims$Polygon", name := "inner", desc := "()I" } : Jvm.MethodName)) ∈ lw_all := lw_g (lw_at lw_m4 20 rfl) rfl
theorem q837 : (Jvm.Cond.interfaceEntry "CornerClaims$Field" (149 : Nat)) ∈ lw_tbl := lw_at lw_m4 34 rfl
theorem q838 : (Jvm.Cond.methodLink "CornerClaims$Field" (149 : Nat) ({ cls := "CornerClaims$Score", name := "of", desc := "(IIIII)J" } : Jvm.MethodName)) ∈ lw_all := lw_g (lw_at lw_m4 35 rfl) rfl
theorem q839 : (Jvm.Cond.constantLong "CornerClaims$Field" (155 : Nat) (-99999 : Int64)) ∈ lw_all := lw_g (lw_at lw_m4 36 rfl) rfl
theorem q840 : (Jvm.Cond.constantLong "CornerClaims$Field" (157 : Nat) (99999 : Int64)) ∈ lw_all := lw_g (lw_at lw_m4 37 rfl) rfl
theorem q841 : (Jvm.Cond.methodLink "CornerClaims$Field" (159 : Nat) ({ cls := "java/lang/Math", name := "min", desc := "(JJ)J" } : Jvm.MethodName)) ∈ lw_all := lw_g (lw_at lw_m4 38 rfl) rfl
theorem q842 : (Jvm.Cond.methodLink "CornerClaims$Field" (165 : Nat) ({ cls := "java/lang/Math", name := "max", desc := "(JJ)J" } : Jvm.MethodName)) ∈ lw_all := lw_g (lw_at lw_m4 39 rfl) rfl
theorem q1091 : (Jvm.Cond.instanceMethod ({ cls := "CornerClaims$Field", name := "isTaken", desc := "(LCornerClaims$Point;)Z" } : Jvm.MethodName)) ∈ lw_all := lw_g (lw_at lw_m5 48 rfl) rfl
theorem q1092 : (Jvm.Cond.selects "CornerClaims$Field" ({ cls := "CornerClaims$Field", name := "isTaken", desc := "(LCornerClaims$Point;)Z" } : Jvm.MethodName) ({ cls := "CornerClaims$Field", name := "isTaken", desc := "(LCornerClaims$Point;)Z" } : Jvm.MethodName)) ∈ lw_all := lw_g (lw_at lw_m5 49 rfl) rfl
theorem q1093 : (Jvm.Cond.code ({ cls := "CornerClaims$Field", name := "isTaken", desc := "(LCornerClaims$Point;)Z" } : Jvm.MethodName) prog_2_method_4_code (2 : Nat) (Option.some Jvm.ClassFile.FieldType.boolean)) ∈ lw_all := lw_g (lw_at lw_m5 50 rfl) rfl
theorem q1094 : (Jvm.Cond.methodLink "CornerClaims$Field" (57 : Nat) ({ cls := "java/util/HashMap", name := "containsKey", desc := "(Ljava/lang/Object;)Z" } : Jvm.MethodName)) ∈ lw_all := lw_g (lw_at lw_m5 51 rfl) rfl
theorem q1110 : (Jvm.Cond.selects "CornerClaims$Field" ({ cls := "java/lang/Object", name := "hashCode", desc := "()I" } : Jvm.MethodName) ({ cls := "java/lang/Object", name := "hashCode", desc := "()I" } : Jvm.MethodName)) ∈ lw_all := lw_g (lw_at lw_m5 67 rfl) rfl
theorem q1140 : (Jvm.Cond.selects "CornerClaims$Field" ({ cls := "java/lang/Object", name := "equals", desc := "(Ljava/lang/Object;)Z" } : Jvm.MethodName) ({ cls := "java/lang/Object", name := "equals", desc := "(Ljava/lang/Object;)Z" } : Jvm.MethodName)) ∈ lw_all := lw_g (lw_at lw_m5 97 rfl) rfl
theorem q1186 : (Jvm.Cond.selects "CornerClaims$Field" ({ cls := "java/lang/Object", name := "getClass", desc := "()Ljava/lang/Class;" } : Jvm.MethodName) ({ cls := "java/lang/Object", name := "getClass", desc := "()Ljava/lang/Class;" } : Jvm.MethodName)) ∈ lw_all := lw_g (lw_at lw_m5 143 rfl) rfl
theorem q1408 : (Jvm.Cond.methodLink "CornerClaims$Field" (62 : Nat) ({ cls := "CornerClaims$Field", name := "isCorner", desc := "(LCornerClaims$Point;)Z" } : Jvm.MethodName)) ∈ lw_all := lw_g (lw_at lw_m6 125 rfl) rfl
theorem q1409 : (Jvm.Cond.privateMethod ({ cls := "CornerClaims$Field", name := "isCorner", desc := "(LCornerClaims$Point;)Z" } : Jvm.MethodName)) ∈ lw_tbl := lw_at lw_m6 126 rfl
theorem q1410 : (Jvm.Cond.instanceMethod ({ cls := "CornerClaims$Field", name := "isCorner", desc := "(LCornerClaims$Point;)Z" } : Jvm.MethodName)) ∈ lw_all := lw_g (lw_at lw_m6 127 rfl) rfl
theorem q1411 : (Jvm.Cond.code ({ cls := "CornerClaims$Field", name := "isCorner", desc := "(LCornerClaims$Point;)Z" } : Jvm.MethodName) prog_2_method_3_code (3 : Nat) (Option.some Jvm.ClassFile.FieldType.boolean)) ∈ lw_all := lw_g (lw_at lw_m6 128 rfl) rfl
theorem q1412 : (Jvm.Cond.interfaceEntry "CornerClaims$Field" (48 : Nat)) ∈ lw_tbl := lw_at lw_m6 129 rfl
theorem q1413 : (Jvm.Cond.methodLink "CornerClaims$Field" (48 : Nat) ({ cls := "java/util/List", name := "contains", desc := "(Ljava/lang/Object;)Z" } : Jvm.MethodName)) ∈ lw_all := lw_g (lw_at lw_m6 130 rfl) rfl
theorem q1431 : (Jvm.Cond.instanceMethod ({ cls := "CornerClaims$Field", name := "isOnSide", desc := "(LCornerClaims$Point;)Z" } : Jvm.MethodName)) ∈ lw_all := lw_g (lw_at lw_m6 148 rfl) rfl
theorem q1432 : (Jvm.Cond.selects "CornerClaims$Field" ({ cls := "CornerClaims$Field", name := "isOnSide", desc := "(LCornerClaims$Point;)Z" } : Jvm.MethodName) ({ cls := "CornerClaims$Field", name := "isOnSide", desc := "(LCornerClaims$Point;)Z" } : Jvm.MethodName)) ∈ lw_all := lw_g (lw_at lw_m6 149 rfl) rfl
theorem q1433 : (Jvm.Cond.code ({ cls := "CornerClaims$Field", name := "isOnSide", desc := "(LCornerClaims$Point;)Z" } : Jvm.MethodName) prog_2_method_5_code (5 : Nat) (Option.some Jvm.ClassFile.FieldType.boolean)) ∈ lw_all := lw_g (lw_at lw_m6 150 rfl) rfl
theorem q1434 : (Jvm.Cond.methodLink "CornerClaims$Field" (66 : Nat) ({ cls := "CornerClaims$Polygon", name := "sides", desc := "()I" } : Jvm.MethodName)) ∈ lw_all := lw_g (lw_at lw_m6 151 rfl) rfl
theorem q1438 : (Jvm.Cond.methodLink "CornerClaims$Field" (69 : Nat) ({ cls := "CornerClaims$Polygon", name := "at", desc := "(I)LCornerClaims$Point;" } : Jvm.MethodName)) ∈ lw_all := lw_g (lw_at lw_m6 155 rfl) rfl
theorem q1439 : (Jvm.Cond.methodLink "CornerClaims$Field" (73 : Nat) ({ cls := "CornerClaims$Polygon", name := "next", desc := "(I)LCornerClaims$Point;" } : Jvm.MethodName)) ∈ lw_all := lw_g (lw_at lw_m6 156 rfl) rfl
theorem q1440 : (Jvm.Cond.methodLinkNest "CornerClaims$Field" (76 : Nat) ({ cls := "CornerClaims", name := "isOn", desc := "(LCornerClaims$Point;LCornerClaims$Point;LCornerClaims$Point;)Z" } : Jvm.MethodName) "CornerClaims") ∈ lw_tbl := lw_at lw_m6 157 rfl
theorem q1652 : (Jvm.Cond.fieldLinkNest "CornerClaims$Field" (168 : Nat) "CornerClaims$Polygon" "owner" "I" "CornerClaims") ∈ lw_tbl := lw_at lw_m7 129 rfl
theorem q1655 : (Jvm.Cond.fieldLinkNest "CornerClaims$Field" (45 : Nat) "CornerClaims$Polygon" "corners" "Ljava/util/List;" "CornerClaims") ∈ lw_tbl := lw_at lw_m7 132 rfl
theorem q1659 : (Jvm.Cond.fieldLinkNest "CornerClaims$Field" (96 : Nat) "CornerClaims$Polygon" "isClosed" "Z" "CornerClaims") ∈ lw_tbl := lw_at lw_m7 136 rfl
theorem q1672 : (Jvm.Cond.instanceMethod ({ cls := "CornerClaims$Field", name := "cornerReason", desc := "(LCornerClaims$Polygon;LCornerClaims$Point;)I" } : Jvm.MethodName)) ∈ lw_all := lw_g (lw_at lw_m7 149 rfl) rfl
theorem q1673 : (Jvm.Cond.selects "CornerClaims$Field" ({ cls := "CornerClaims$Field", name := "cornerReason", desc := "(LCornerClaims$Polygon;LCornerClaims$Point;)I" } : Jvm.MethodName) ({ cls := "CornerClaims$Field", name := "cornerReason", desc := "(LCornerClaims$Polygon;LCornerClaims$Point;)I" } : Jvm.MethodName)) ∈ lw_all := lw_g (lw_at lw_m7 150 rfl) rfl
theorem q1674 : (Jvm.Cond.code ({ cls := "CornerClaims$Field", name := "cornerReason", desc := "(LCornerClaims$Polygon;LCornerClaims$Point;)I" } : Jvm.MethodName) prog_2_method_8_code (3 : Nat) (Option.some Jvm.ClassFile.FieldType.int)) ∈ lw_all := lw_g (lw_at lw_m7 151 rfl) rfl
theorem q1675 : (Jvm.Cond.methodLink "CornerClaims$Field" (100 : Nat) ({ cls := "CornerClaims$Field", name := "isTaken", desc := "(LCornerClaims$Point;)Z" } : Jvm.MethodName)) ∈ lw_all := lw_g (lw_at lw_m7 152 rfl) rfl
theorem q1676 : (Jvm.Cond.methodLink "CornerClaims$Field" (103 : Nat) ({ cls := "CornerClaims$Polygon", name := "last", desc := "()LCornerClaims$Point;" } : Jvm.MethodName)) ∈ lw_all := lw_g (lw_at lw_m7 153 rfl) rfl
theorem q1680 : (Jvm.Cond.methodLink "CornerClaims$Field" (107 : Nat) ({ cls := "CornerClaims$Field", name := "lineReason", desc := "(LCornerClaims$Point;LCornerClaims$Point;LCornerClaims$Polygon;IILCornerClaims$Point;)I" } : Jvm.MethodName)) ∈ lw_all := lw_g (lw_at lw_m7 157 rfl) rfl
theorem q1681 : (Jvm.Cond.privateMethod ({ cls := "CornerClaims$Field", name := "lineReason", desc := "(LCornerClaims$Point;LCornerClaims$Point;LCornerClaims$Polygon;IILCornerClaims$Point;)I" } : Jvm.MethodName)) ∈ lw_tbl := lw_at lw_m7 158 rfl
theorem q1682 : (Jvm.Cond.instanceMethod ({ cls := "CornerClaims$Field", name := "lineReason", desc := "(LCornerClaims$Point;LCornerClaims$Point;LCornerClaims$Polygon;IILCornerClaims$Point;)I" } : Jvm.MethodName)) ∈ lw_all := lw_g (lw_at lw_m7 159 rfl) rfl
theorem q1683 : (Jvm.Cond.code ({ cls := "CornerClaims$Field", name := "lineReason", desc := "(LCornerClaims$Point;LCornerClaims$Point;LCornerClaims$Polygon;IILCornerClaims$Point;)I" } : Jvm.MethodName) prog_2_method_7_code (11 : Nat) (Option.some Jvm.ClassFile.FieldType.int)) ∈ lw_all := lw_g (lw_at lw_m7 160 rfl) rfl
theorem q1684 : (Jvm.Cond.methodLink "CornerClaims$Field" (89 : Nat) ({ cls := "CornerClaims$Field", name := "passes", desc := "(LCornerClaims$Point;LCornerClaims$Point;LCornerClaims$Point;)Z" } : Jvm.MethodName)) ∈ lw_all := lw_g (lw_at lw_m7 161 rfl) rfl
theorem q1685 : (Jvm.Cond.privateMethod ({ cls := "CornerClaims$Field", name := "passes", desc := "(LCornerClaims$Point;LCornerClaims$Point;LCornerClaims$Point;)Z" } : Jvm.MethodName)) ∈ lw_tbl := lw_at lw_m7 162 rfl
theorem q1686 : (Jvm.Cond.instanceMethod ({ cls := "CornerClaims$Field", name := "passes", desc := "(LCornerClaims$Point;LCornerClaims$Point;LCornerClaims$Point;)Z" } : Jvm.MethodName)) ∈ lw_all := lw_g (lw_at lw_m7 163 rfl) rfl
theorem q1687 : (Jvm.Cond.code ({ cls := "CornerClaims$Field", name := "passes", desc := "(LCornerClaims$Point;LCornerClaims$Point;LCornerClaims$Point;)Z" } : Jvm.MethodName) prog_2_method_6_code (8 : Nat) (Option.some Jvm.ClassFile.FieldType.boolean)) ∈ lw_all := lw_g (lw_at lw_m7 164 rfl) rfl
theorem q1688 : (Jvm.Cond.methodLink "CornerClaims$Field" (86 : Nat) ({ cls := "CornerClaims$Point", name := "equals", desc := "(Ljava/lang/Object;)Z" } : Jvm.MethodName)) ∈ lw_all := lw_g (lw_at lw_m7 165 rfl) rfl
theorem q1689 : (Jvm.Cond.methodLinkNest "CornerClaims$Field" (92 : Nat) ({ cls := "CornerClaims", name := "meets", desc := "(LCornerClaims$Point;LCornerClaims$Point;LCornerClaims$Point;LCornerClaims$Point;)Z" } : Jvm.MethodName) "CornerClaims") ∈ lw_tbl := lw_at lw_m7 166 rfl
theorem q1699 : (Jvm.Cond.instanceMethod ({ cls := "CornerClaims$Field", name := "closeReason", desc := "(LCornerClaims$Polygon;)I" } : Jvm.MethodName)) ∈ lw_all := lw_g (lw_at lw_m7 176 rfl) rfl
theorem q1700 : (Jvm.Cond.selects "CornerClaims$Field" ({ cls := "CornerClaims$Field", name := "closeReason", desc := "(LCornerClaims$Polygon;)I" } : Jvm.MethodName) ({ cls := "CornerClaims$Field", name := "closeReason", desc := "(LCornerClaims$Polygon;)I" } : Jvm.MethodName)) ∈ lw_all := lw_g (lw_at lw_m7 177 rfl) rfl
theorem q1701 : (Jvm.Cond.code ({ cls := "CornerClaims$Field", name := "closeReason", desc := "(LCornerClaims$Polygon;)I" } : Jvm.MethodName) prog_2_method_9_code (2 : Nat) (Option.some Jvm.ClassFile.FieldType.int)) ∈ lw_all := lw_g (lw_at lw_m7 178 rfl) rfl
theorem q1774 : (Jvm.Cond.instanceMethod ({ cls := "CornerClaims$Field", name := "closed", desc := "()I" } : Jvm.MethodName)) ∈ lw_all := lw_g (lw_at lw_m8 11 rfl) rfl
theorem q1775 : (Jvm.Cond.selects "CornerClaims$Field" ({ cls := "CornerClaims$Field", name := "closed", desc := "()I" } : Jvm.MethodName) ({ cls := "CornerClaims$Field", name := "closed", desc := "()I" } : Jvm.MethodName)) ∈ lw_all := lw_g (lw_at lw_m8 12 rfl) rfl
theorem q1776 : (Jvm.Cond.code ({ cls := "CornerClaims$Field", name := "closed", desc := "()I" } : Jvm.MethodName) prog_2_method_16_code (3 : Nat) (Option.some Jvm.ClassFile.FieldType.int)) ∈ lw_all := lw_g (lw_at lw_m8 13 rfl) rfl
theorem q1778 : (Jvm.Cond.instanceMethod ({ cls := "CornerClaims$Field", name := "claimed", desc := "()I" } : Jvm.MethodName)) ∈ lw_all := lw_g (lw_at lw_m8 15 rfl) rfl
theorem q1779 : (Jvm.Cond.selects "CornerClaims$Field" ({ cls := "CornerClaims$Field", name := "claimed", desc := "()I" } : Jvm.MethodName) ({ cls := "CornerClaims$Field", name := "claimed", desc := "()I" } : Jvm.MethodName)) ∈ lw_all := lw_g (lw_at lw_m8 16 rfl) rfl
theorem q1780 : (Jvm.Cond.code ({ cls := "CornerClaims$Field", name := "claimed", desc := "()I" } : Jvm.MethodName) prog_2_method_15_code (1 : Nat) (Option.some Jvm.ClassFile.FieldType.int)) ∈ lw_all := lw_g (lw_at lw_m8 17 rfl) rfl
theorem q1781 : (Jvm.Cond.methodLink "CornerClaims$Field" (128 : Nat) ({ cls := "CornerClaims$Field", name := "claims", desc := "(I)I" } : Jvm.MethodName)) ∈ lw_all := lw_g (lw_at lw_m8 18 rfl) rfl
theorem q1782 : (Jvm.Cond.instanceMethod ({ cls := "CornerClaims$Field", name := "claims", desc := "(I)I" } : Jvm.MethodName)) ∈ lw_all := lw_g (lw_at lw_m8 19 rfl) rfl
theorem q1783 : (Jvm.Cond.selects "CornerClaims$Field" ({ cls := "CornerClaims$Field", name := "claims", desc := "(I)I" } : Jvm.MethodName) ({ cls := "CornerClaims$Field", name := "claims", desc := "(I)I" } : Jvm.MethodName)) ∈ lw_all := lw_g (lw_at lw_m8 20 rfl) rfl
theorem q1784 : (Jvm.Cond.code ({ cls := "CornerClaims$Field", name := "claims", desc := "(I)I" } : Jvm.MethodName) prog_2_method_14_code (4 : Nat) (Option.some Jvm.ClassFile.FieldType.int)) ∈ lw_all := lw_g (lw_at lw_m8 21 rfl) rfl
theorem q1964 : (Jvm.Cond.instanceMethod ({ cls := "CornerClaims$Field", name := "copy", desc := "()LCornerClaims$Field;" } : Jvm.MethodName)) ∈ lw_all := lw_g (lw_at lw_m8 201 rfl) rfl
theorem q1965 : (Jvm.Cond.selects "CornerClaims$Field" ({ cls := "CornerClaims$Field", name := "copy", desc := "()LCornerClaims$Field;" } : Jvm.MethodName) ({ cls := "CornerClaims$Field", name := "copy", desc := "()LCornerClaims$Field;" } : Jvm.MethodName)) ∈ lw_all := lw_g (lw_at lw_m8 202 rfl) rfl
theorem q1966 : (Jvm.Cond.code ({ cls := "CornerClaims$Field", name := "copy", desc := "()LCornerClaims$Field;" } : Jvm.MethodName) prog_2_method_2_code (3 : Nat) (Option.some (Jvm.ClassFile.FieldType.object "CornerClaims$Field"))) ∈ lw_all := lw_g (lw_at lw_m8 203 rfl) rfl
theorem q1967 : (Jvm.Cond.classLink "CornerClaims$Field" (13 : Nat) "CornerClaims$Field") ∈ lw_all := lw_g (lw_at lw_m8 204 rfl) rfl
theorem q1968 : (Jvm.Cond.methodLink "CornerClaims$Field" (22 : Nat) ({ cls := "CornerClaims$Field", name := "<init>", desc := "(LCornerClaims$Layout;)V" } : Jvm.MethodName)) ∈ lw_all := lw_g (lw_at lw_m8 205 rfl) rfl
theorem q1969 : (Jvm.Cond.methodLink "CornerClaims$Field" (37 : Nat) ({ cls := "CornerClaims$Polygon", name := "copy", desc := "()LCornerClaims$Polygon;" } : Jvm.MethodName)) ∈ lw_all := lw_g (lw_at lw_m8 206 rfl) rfl
theorem q1977 : (Jvm.Cond.interfaceEntry "CornerClaims$Field" (41 : Nat)) ∈ lw_tbl := lw_at lw_m8 214 rfl
theorem q1978 : (Jvm.Cond.methodLink "CornerClaims$Field" (41 : Nat) ({ cls := "java/util/List", name := "add", desc := "(Ljava/lang/Object;)Z" } : Jvm.MethodName)) ∈ lw_all := lw_g (lw_at lw_m8 215 rfl) rfl
theorem q2009 : (Jvm.Cond.instanceMethod ({ cls := "CornerClaims$Field", name := "bendReason", desc := "(LCornerClaims$Polygon;ILCornerClaims$Point;)I" } : Jvm.MethodName)) ∈ lw_all := lw_g (lw_at lw_m9 6 rfl) rfl
theorem q2010 : (Jvm.Cond.selects "CornerClaims$Field" ({ cls := "CornerClaims$Field", name := "bendReason", desc := "(LCornerClaims$Polygon;ILCornerClaims$Point;)I" } : Jvm.MethodName) ({ cls := "CornerClaims$Field", name := "bendReason", desc := "(LCornerClaims$Polygon;ILCornerClaims$Point;)I" } : Jvm.MethodName)) ∈ lw_all := lw_g (lw_at lw_m9 7 rfl) rfl
theorem q2011 : (Jvm.Cond.code ({ cls := "CornerClaims$Field", name := "bendReason", desc := "(LCornerClaims$Polygon;ILCornerClaims$Point;)I" } : Jvm.MethodName) prog_2_method_10_code (5 : Nat) (Option.some Jvm.ClassFile.FieldType.int)) ∈ lw_all := lw_g (lw_at lw_m9 8 rfl) rfl
theorem q2047 : (Jvm.Cond.instanceMethod ({ cls := "CornerClaims$Field", name := "takeOutReason", desc := "(LCornerClaims$Polygon;I)I" } : Jvm.MethodName)) ∈ lw_all := lw_g (lw_at lw_m9 44 rfl) rfl
theorem q2048 : (Jvm.Cond.selects "CornerClaims$Field" ({ cls := "CornerClaims$Field", name := "takeOutReason", desc := "(LCornerClaims$Polygon;I)I" } : Jvm.MethodName) ({ cls := "CornerClaims$Field", name := "takeOutReason", desc := "(LCornerClaims$Polygon;I)I" } : Jvm.MethodName)) ∈ lw_all := lw_g (lw_at lw_m9 45 rfl) rfl
theorem q2049 : (Jvm.Cond.code ({ cls := "CornerClaims$Field", name := "takeOutReason", desc := "(LCornerClaims$Polygon;I)I" } : Jvm.MethodName) prog_2_method_11_code (3 : Nat) (Option.some Jvm.ClassFile.FieldType.int)) ∈ lw_all := lw_g (lw_at lw_m9 46 rfl) rfl
theorem q2050 : (Jvm.Cond.methodLink "CornerClaims$Field" (111 : Nat) ({ cls := "CornerClaims$Polygon", name := "previous", desc := "(I)LCornerClaims$Point;" } : Jvm.MethodName)) ∈ lw_all := lw_g (lw_at lw_m9 47 rfl) rfl
theorem q2531 : (Jvm.Cond.castable "CornerClaims$Field" "java/lang/Object") ∈ lw_tbl := lw_at lw_m11 48 rfl
theorem in_X2 : ∀ w ∈ wsX20, w ∈ lw_all := lw_in wsX20 [676, 678] (by decide +kernel) (by decide +kernel)
/-! CornerClaims$Layout -/
set_option maxRecDepth 100000
def RX3 : String := "CornerClaims$Layout"
def TX3 : u_T := fun k => match k with
  | 0 => ("CornerClaims$Layout", "width", "I", true)
  | 1 => ("CornerClaims$Layout", "height", "I", true)
  | 2 => ("CornerClaims$Layout", "stones", "Ljava/util/HashMap;", true)
  | 3 => ("CornerClaims$Layout", "places", "Ljava/util/List;", true)
  | 4 => ("CornerClaims$Layout", "values", "Ljava/util/List;", true)
  | _ => ("CornerClaims$Layout", "score", "LCornerClaims$Score;", false)
def tyX3 : Nat → FieldType := fun k => match k with
  | 0 => .int
  | 1 => .int
  | 2 => .object "java/util/HashMap"
  | 3 => .object "java/util/List"
  | 4 => .object "java/util/List"
  | _ => .object "CornerClaims$Score"
abbrev wsX30 : List Cond := u_ws RX3 TX3 6
theorem nmX3 : ∀ a, a < 6 → ∀ b, b < 6 → a ≠ b → (TX3 a).2.1 ≠ (TX3 b).2.1 := by decide +kernel
theorem tyX3_ok : ∀ k, k < 6 → parseFieldDescriptor (TX3 k).2.2.1 = some (tyX3 k) := by decide +kernel
abbrev cX3_init : ByteArray := prog_3_method_1_code
def yX3_init : MethodName := ⟨RX3, "<init>", "(II)V"⟩
def dkwX3_init_2 : List UInt8 := [184, 0, 28, 184, 0, 35, 181, 0, 39, 42, 27, 181, 0, 43, 42, 28, 181, 0, 47, 177]
abbrev dktX3_init_2 : List UInt8 := dkwX3_init_2 ++ []
def dkwX3_init_1 : List UInt8 := [181, 0, 19, 42, 187, 0, 16, 89, 183, 0, 18, 181, 0, 23, 42, 16, 43, 18, 26, 184, 0, 28, 18, 34]
abbrev dktX3_init_1 : List UInt8 := dkwX3_init_1 ++ dktX3_init_2
def dkwX3_init_0 : List UInt8 := [42, 183, 0, 1, 42, 187, 0, 7, 89, 183, 0, 9, 181, 0, 10, 42, 187, 0, 16, 89, 183, 0, 18]
abbrev dktX3_init_0 : List UInt8 := dkwX3_init_0 ++ dktX3_init_1
theorem dksX3_init_0 : cX3_init.data.toList.drop 0 = dktX3_init_0 := by decide +kernel
theorem dksX3_init_1 : cX3_init.data.toList.drop 23 = dktX3_init_1 := dk_seg dksX3_init_0 23 rfl rfl
theorem dksX3_init_2 : cX3_init.data.toList.drop 47 = dktX3_init_2 := dk_seg dksX3_init_1 24 rfl rfl
theorem dX3_init_0 : decode cX3_init 0 = .ok (.aload_n 0, 1) := dk_42 (dk_at dksX3_init_0 0 rfl rfl)
theorem dX3_init_1 : decode cX3_init 1 = .ok (.invokespecial 1, 3) := dk_183 0 1 (dk_at dksX3_init_0 1 rfl rfl)
theorem dX3_init_4 : decode cX3_init 4 = .ok (.aload_n 0, 1) := dk_42 (dk_at dksX3_init_0 4 rfl rfl)
theorem dX3_init_5 : decode cX3_init 5 = .ok (.new 7, 3) := dk_187 0 7 (dk_at dksX3_init_0 5 rfl rfl)
theorem dX3_init_8 : decode cX3_init 8 = .ok (.dup, 1) := dk_89 (dk_at dksX3_init_0 8 rfl rfl)
theorem dX3_init_9 : decode cX3_init 9 = .ok (.invokespecial 9, 3) := dk_183 0 9 (dk_at dksX3_init_0 9 rfl rfl)
theorem dX3_init_12 : decode cX3_init 12 = .ok (.putfield 10, 3) := dk_181 0 10 (dk_at dksX3_init_0 12 rfl rfl)
theorem dX3_init_15 : decode cX3_init 15 = .ok (.aload_n 0, 1) := dk_42 (dk_at dksX3_init_0 15 rfl rfl)
theorem dX3_init_16 : decode cX3_init 16 = .ok (.new 16, 3) := dk_187 0 16 (dk_at dksX3_init_0 16 rfl rfl)
theorem dX3_init_19 : decode cX3_init 19 = .ok (.dup, 1) := dk_89 (dk_at dksX3_init_0 19 rfl rfl)
theorem dX3_init_20 : decode cX3_init 20 = .ok (.invokespecial 18, 3) := dk_183 0 18 (dk_at dksX3_init_0 20 rfl rfl)
theorem dX3_init_23 : decode cX3_init 23 = .ok (.putfield 19, 3) := dk_181 0 19 (dk_at dksX3_init_1 0 rfl rfl)
theorem dX3_init_26 : decode cX3_init 26 = .ok (.aload_n 0, 1) := dk_42 (dk_at dksX3_init_1 3 rfl rfl)
theorem dX3_init_27 : decode cX3_init 27 = .ok (.new 16, 3) := dk_187 0 16 (dk_at dksX3_init_1 4 rfl rfl)
theorem dX3_init_30 : decode cX3_init 30 = .ok (.dup, 1) := dk_89 (dk_at dksX3_init_1 7 rfl rfl)
theorem dX3_init_31 : decode cX3_init 31 = .ok (.invokespecial 18, 3) := dk_183 0 18 (dk_at dksX3_init_1 8 rfl rfl)
theorem dX3_init_34 : decode cX3_init 34 = .ok (.putfield 23, 3) := dk_181 0 23 (dk_at dksX3_init_1 11 rfl rfl)
theorem dX3_init_37 : decode cX3_init 37 = .ok (.aload_n 0, 1) := dk_42 (dk_at dksX3_init_1 14 rfl rfl)
theorem dX3_init_38 : decode cX3_init 38 = .ok (.bipush 43, 2) := dk_16 43 (dk_at dksX3_init_1 15 rfl rfl)
theorem dX3_init_40 : decode cX3_init 40 = .ok (.ldc 26, 2) := dk_18 26 (dk_at dksX3_init_1 17 rfl rfl)
theorem dX3_init_42 : decode cX3_init 42 = .ok (.invokestatic 28, 3) := dk_184 0 28 (dk_at dksX3_init_1 19 rfl rfl)
theorem dX3_init_45 : decode cX3_init 45 = .ok (.ldc 34, 2) := dk_18 34 (dk_at dksX3_init_1 22 rfl rfl)
theorem dX3_init_47 : decode cX3_init 47 = .ok (.invokestatic 28, 3) := dk_184 0 28 (dk_at dksX3_init_2 0 rfl rfl)
theorem dX3_init_50 : decode cX3_init 50 = .ok (.invokestatic 35, 3) := dk_184 0 35 (dk_at dksX3_init_2 3 rfl rfl)
theorem dX3_init_53 : decode cX3_init 53 = .ok (.putfield 39, 3) := dk_181 0 39 (dk_at dksX3_init_2 6 rfl rfl)
theorem dX3_init_56 : decode cX3_init 56 = .ok (.aload_n 0, 1) := dk_42 (dk_at dksX3_init_2 9 rfl rfl)
theorem dX3_init_57 : decode cX3_init 57 = .ok (.iload_n 1, 1) := dk_27 (dk_at dksX3_init_2 10 rfl rfl)
theorem dX3_init_58 : decode cX3_init 58 = .ok (.putfield 43, 3) := dk_181 0 43 (dk_at dksX3_init_2 11 rfl rfl)
theorem dX3_init_61 : decode cX3_init 61 = .ok (.aload_n 0, 1) := dk_42 (dk_at dksX3_init_2 14 rfl rfl)
theorem dX3_init_62 : decode cX3_init 62 = .ok (.iload_n 2, 1) := dk_28 (dk_at dksX3_init_2 15 rfl rfl)
theorem dX3_init_63 : decode cX3_init 63 = .ok (.putfield 47, 3) := dk_181 0 47 (dk_at dksX3_init_2 16 rfl rfl)
theorem dX3_init_66 : decode cX3_init 66 = .ok (.return_, 1) := dk_177 (dk_at dksX3_init_2 19 rfl rfl)
abbrev cX3_addStone : ByteArray := prog_3_method_2_code
def yX3_addStone : MethodName := ⟨RX3, "addStone", "(LCornerClaims$Point;I)V"⟩
def dkwX3_addStone_2 : List UInt8 := [87, 177]
abbrev dktX3_addStone_2 : List UInt8 := dkwX3_addStone_2 ++ []
def dkwX3_addStone_1 : List UInt8 := [42, 180, 0, 19, 43, 185, 0, 66, 2, 0, 87, 42, 180, 0, 23, 28, 184, 0, 56, 185, 0, 66, 2, 0]
abbrev dktX3_addStone_1 : List UInt8 := dkwX3_addStone_1 ++ dktX3_addStone_2
def dkwX3_addStone_0 : List UInt8 := [42, 180, 0, 10, 43, 42, 180, 0, 19, 185, 0, 50, 1, 0, 184, 0, 56, 182, 0, 62, 192, 0, 57, 78]
abbrev dktX3_addStone_0 : List UInt8 := dkwX3_addStone_0 ++ dktX3_addStone_1
theorem dksX3_addStone_0 : cX3_addStone.data.toList.drop 0 = dktX3_addStone_0 := by decide +kernel
theorem dksX3_addStone_1 : cX3_addStone.data.toList.drop 24 = dktX3_addStone_1 := dk_seg dksX3_addStone_0 24 rfl rfl
theorem dksX3_addStone_2 : cX3_addStone.data.toList.drop 48 = dktX3_addStone_2 := dk_seg dksX3_addStone_1 24 rfl rfl
theorem dX3_addStone_0 : decode cX3_addStone 0 = .ok (.aload_n 0, 1) := dk_42 (dk_at dksX3_addStone_0 0 rfl rfl)
theorem dX3_addStone_1 : decode cX3_addStone 1 = .ok (.getfield 10, 3) := dk_180 0 10 (dk_at dksX3_addStone_0 1 rfl rfl)
theorem dX3_addStone_4 : decode cX3_addStone 4 = .ok (.aload_n 1, 1) := dk_43 (dk_at dksX3_addStone_0 4 rfl rfl)
theorem dX3_addStone_5 : decode cX3_addStone 5 = .ok (.aload_n 0, 1) := dk_42 (dk_at dksX3_addStone_0 5 rfl rfl)
theorem dX3_addStone_6 : decode cX3_addStone 6 = .ok (.getfield 19, 3) := dk_180 0 19 (dk_at dksX3_addStone_0 6 rfl rfl)
theorem dX3_addStone_9 : decode cX3_addStone 9 = .ok (.invokeinterface 50 1, 5) := by decide +kernel
theorem dX3_addStone_14 : decode cX3_addStone 14 = .ok (.invokestatic 56, 3) := dk_184 0 56 (dk_at dksX3_addStone_0 14 rfl rfl)
theorem dX3_addStone_17 : decode cX3_addStone 17 = .ok (.invokevirtual 62, 3) := dk_182 0 62 (dk_at dksX3_addStone_0 17 rfl rfl)
theorem dX3_addStone_20 : decode cX3_addStone 20 = .ok (.checkcast 57, 3) := dk_192 0 57 (dk_at dksX3_addStone_0 20 rfl rfl)
theorem dX3_addStone_23 : decode cX3_addStone 23 = .ok (.astore_n 3, 1) := dk_78 (dk_at dksX3_addStone_0 23 rfl rfl)
theorem dX3_addStone_24 : decode cX3_addStone 24 = .ok (.aload_n 0, 1) := dk_42 (dk_at dksX3_addStone_1 0 rfl rfl)
theorem dX3_addStone_25 : decode cX3_addStone 25 = .ok (.getfield 19, 3) := dk_180 0 19 (dk_at dksX3_addStone_1 1 rfl rfl)
theorem dX3_addStone_28 : decode cX3_addStone 28 = .ok (.aload_n 1, 1) := dk_43 (dk_at dksX3_addStone_1 4 rfl rfl)
theorem dX3_addStone_29 : decode cX3_addStone 29 = .ok (.invokeinterface 66 2, 5) := by decide +kernel
theorem dX3_addStone_34 : decode cX3_addStone 34 = .ok (.pop, 1) := dk_87 (dk_at dksX3_addStone_1 10 rfl rfl)
theorem dX3_addStone_35 : decode cX3_addStone 35 = .ok (.aload_n 0, 1) := dk_42 (dk_at dksX3_addStone_1 11 rfl rfl)
theorem dX3_addStone_36 : decode cX3_addStone 36 = .ok (.getfield 23, 3) := dk_180 0 23 (dk_at dksX3_addStone_1 12 rfl rfl)
theorem dX3_addStone_39 : decode cX3_addStone 39 = .ok (.iload_n 2, 1) := dk_28 (dk_at dksX3_addStone_1 15 rfl rfl)
theorem dX3_addStone_40 : decode cX3_addStone 40 = .ok (.invokestatic 56, 3) := dk_184 0 56 (dk_at dksX3_addStone_1 16 rfl rfl)
theorem dX3_addStone_43 : decode cX3_addStone 43 = .ok (.invokeinterface 66 2, 5) := by decide +kernel
theorem dX3_addStone_48 : decode cX3_addStone 48 = .ok (.pop, 1) := dk_87 (dk_at dksX3_addStone_2 0 rfl rfl)
theorem dX3_addStone_49 : decode cX3_addStone 49 = .ok (.return_, 1) := dk_177 (dk_at dksX3_addStone_2 1 rfl rfl)
abbrev cX3_isPoint : ByteArray := prog_3_method_3_code
def yX3_isPoint : MethodName := ⟨RX3, "isPoint", "(II)Z"⟩
def dkwX3_isPoint_1 : List UInt8 := [184, 0, 70, 153, 0, 7, 4, 167, 0, 4, 3, 172]
abbrev dktX3_isPoint_1 : List UInt8 := dkwX3_isPoint_1 ++ []
def dkwX3_isPoint_0 : List UInt8 := [27, 133, 9, 42, 180, 0, 43, 133, 184, 0, 70, 153, 0, 21, 28, 133, 9, 42, 180, 0, 47, 133]
abbrev dktX3_isPoint_0 : List UInt8 := dkwX3_isPoint_0 ++ dktX3_isPoint_1
theorem dksX3_isPoint_0 : cX3_isPoint.data.toList.drop 0 = dktX3_isPoint_0 := by decide +kernel
theorem dksX3_isPoint_1 : cX3_isPoint.data.toList.drop 22 = dktX3_isPoint_1 := dk_seg dksX3_isPoint_0 22 rfl rfl
theorem dX3_isPoint_0 : decode cX3_isPoint 0 = .ok (.iload_n 1, 1) := dk_27 (dk_at dksX3_isPoint_0 0 rfl rfl)
theorem dX3_isPoint_1 : decode cX3_isPoint 1 = .ok (.i2l, 1) := dk_133 (dk_at dksX3_isPoint_0 1 rfl rfl)
theorem dX3_isPoint_2 : decode cX3_isPoint 2 = .ok (.lconst 0, 1) := dk_9 (dk_at dksX3_isPoint_0 2 rfl rfl)
theorem dX3_isPoint_3 : decode cX3_isPoint 3 = .ok (.aload_n 0, 1) := dk_42 (dk_at dksX3_isPoint_0 3 rfl rfl)
theorem dX3_isPoint_4 : decode cX3_isPoint 4 = .ok (.getfield 43, 3) := dk_180 0 43 (dk_at dksX3_isPoint_0 4 rfl rfl)
theorem dX3_isPoint_7 : decode cX3_isPoint 7 = .ok (.i2l, 1) := dk_133 (dk_at dksX3_isPoint_0 7 rfl rfl)
theorem dX3_isPoint_8 : decode cX3_isPoint 8 = .ok (.invokestatic 70, 3) := dk_184 0 70 (dk_at dksX3_isPoint_0 8 rfl rfl)
theorem dX3_isPoint_11 : decode cX3_isPoint 11 = .ok (.ifCond .eq 21, 3) := dk_153 0 21 (dk_at dksX3_isPoint_0 11 rfl rfl)
theorem dX3_isPoint_14 : decode cX3_isPoint 14 = .ok (.iload_n 2, 1) := dk_28 (dk_at dksX3_isPoint_0 14 rfl rfl)
theorem dX3_isPoint_15 : decode cX3_isPoint 15 = .ok (.i2l, 1) := dk_133 (dk_at dksX3_isPoint_0 15 rfl rfl)
theorem dX3_isPoint_16 : decode cX3_isPoint 16 = .ok (.lconst 0, 1) := dk_9 (dk_at dksX3_isPoint_0 16 rfl rfl)
theorem dX3_isPoint_17 : decode cX3_isPoint 17 = .ok (.aload_n 0, 1) := dk_42 (dk_at dksX3_isPoint_0 17 rfl rfl)
theorem dX3_isPoint_18 : decode cX3_isPoint 18 = .ok (.getfield 47, 3) := dk_180 0 47 (dk_at dksX3_isPoint_0 18 rfl rfl)
theorem dX3_isPoint_21 : decode cX3_isPoint 21 = .ok (.i2l, 1) := dk_133 (dk_at dksX3_isPoint_0 21 rfl rfl)
theorem dX3_isPoint_22 : decode cX3_isPoint 22 = .ok (.invokestatic 70, 3) := dk_184 0 70 (dk_at dksX3_isPoint_1 0 rfl rfl)
theorem dX3_isPoint_25 : decode cX3_isPoint 25 = .ok (.ifCond .eq 7, 3) := dk_153 0 7 (dk_at dksX3_isPoint_1 3 rfl rfl)
theorem dX3_isPoint_28 : decode cX3_isPoint 28 = .ok (.iconst 1, 1) := dk_4 (dk_at dksX3_isPoint_1 6 rfl rfl)
theorem dX3_isPoint_29 : decode cX3_isPoint 29 = .ok (.goto 4, 3) := dk_167 0 4 (dk_at dksX3_isPoint_1 7 rfl rfl)
theorem dX3_isPoint_32 : decode cX3_isPoint 32 = .ok (.iconst 0, 1) := dk_3 (dk_at dksX3_isPoint_1 10 rfl rfl)
theorem dX3_isPoint_33 : decode cX3_isPoint 33 = .ok (.ireturn, 1) := dk_172 (dk_at dksX3_isPoint_1 11 rfl rfl)
theorem q88 : (Jvm.Cond.initialized "CornerClaims$Layout") ∈ lw_all := lw_g (lw_at lw_m1 5 rfl) rfl
theorem q159 : (Jvm.Cond.instantiable "CornerClaims$Layout" (6 : Nat)) ∈ lw_all := lw_g (lw_at lw_m1 76 rfl) rfl
theorem q161 : (Jvm.Cond.instanceMethod ({ cls := "CornerClaims$Layout", name := "<init>", desc := "(II)V" } : Jvm.MethodName)) ∈ lw_all := lw_g (lw_at lw_m1 78 rfl) rfl
theorem q162 : (Jvm.Cond.code ({ cls := "CornerClaims$Layout", name := "<init>", desc := "(II)V" } : Jvm.MethodName) prog_3_method_1_code (3 : Nat) (Option.none : Option Jvm.ClassFile.FieldType)) ∈ lw_all := lw_g (lw_at lw_m1 79 rfl) rfl
theorem q163 : (Jvm.Cond.methodLink "CornerClaims$Layout" (1 : Nat) ({ cls := "java/lang/Object", name := "<init>", desc := "()V" } : Jvm.MethodName)) ∈ lw_all := lw_g (lw_at lw_m1 80 rfl) rfl
theorem q164 : (Jvm.Cond.classLink "CornerClaims$Layout" (7 : Nat) "java/util/HashMap") ∈ lw_all := lw_g (lw_at lw_m1 81 rfl) rfl
theorem q166 : (Jvm.Cond.methodLink "CornerClaims$Layout" (9 : Nat) ({ cls := "java/util/HashMap", name := "<init>", desc := "()V" } : Jvm.MethodName)) ∈ lw_all := lw_g (lw_at lw_m1 83 rfl) rfl
theorem q196 : (Jvm.Cond.classLink "CornerClaims$Layout" (16 : Nat) "java/util/ArrayList") ∈ lw_all := lw_g (lw_at lw_m1 113 rfl) rfl
theorem q198 : (Jvm.Cond.methodLink "CornerClaims$Layout" (18 : Nat) ({ cls := "java/util/ArrayList", name := "<init>", desc := "()V" } : Jvm.MethodName)) ∈ lw_all := lw_g (lw_at lw_m1 115 rfl) rfl
theorem q219 : (Jvm.Cond.stringRef "CornerClaims$Layout" (26 : Nat) "area") ∈ lw_tbl := lw_at lw_m1 136 rfl
theorem q220 : (Jvm.Cond.methodLinkNest "CornerClaims$Layout" (28 : Nat) ({ cls := "CornerClaims", name := "variable", desc := "(Ljava/lang/String;)LCornerClaims$Score;" } : Jvm.MethodName) "CornerClaims") ∈ lw_tbl := lw_at lw_m1 137 rfl
theorem q615 : (Jvm.Cond.stringRef "CornerClaims$Layout" (34 : Nat) "stones") ∈ lw_tbl := lw_at lw_m3 52 rfl
theorem q616 : (Jvm.Cond.methodLinkNest "CornerClaims$Layout" (35 : Nat) ({ cls := "CornerClaims", name := "operation", desc := "(ILCornerClaims$Score;LCornerClaims$Score;)LCornerClaims$Score;" } : Jvm.MethodName) "CornerClaims") ∈ lw_tbl := lw_at lw_m3 53 rfl
theorem q633 : (Jvm.Cond.fieldLink "CornerClaims$Layout" (43 : Nat) "CornerClaims$Layout" "width" "I") ∈ lw_all := lw_g (lw_at lw_m3 70 rfl) rfl
theorem q636 : (Jvm.Cond.fieldLink "CornerClaims$Layout" (47 : Nat) "CornerClaims$Layout" "height" "I") ∈ lw_all := lw_g (lw_at lw_m3 73 rfl) rfl
theorem q639 : (Jvm.Cond.fieldLink "CornerClaims$Layout" (10 : Nat) "CornerClaims$Layout" "stones" "Ljava/util/HashMap;") ∈ lw_all := lw_g (lw_at lw_m3 76 rfl) rfl
theorem q641 : (Jvm.Cond.fieldLink "CornerClaims$Layout" (19 : Nat) "CornerClaims$Layout" "places" "Ljava/util/List;") ∈ lw_all := lw_g (lw_at lw_m3 78 rfl) rfl
theorem q645 : (Jvm.Cond.fieldLink "CornerClaims$Layout" (23 : Nat) "CornerClaims$Layout" "values" "Ljava/util/List;") ∈ lw_all := lw_g (lw_at lw_m3 82 rfl) rfl
theorem q648 : (Jvm.Cond.fieldLink "CornerClaims$Layout" (39 : Nat) "CornerClaims$Layout" "score" "LCornerClaims$Score;") ∈ lw_all := lw_g (lw_at lw_m3 85 rfl) rfl
theorem q651 : (Jvm.Cond.laysFinal "CornerClaims$Layout" "CornerClaims$Layout" "width" "I") ∈ lw_all := lw_g (lw_at lw_m3 88 rfl) rfl
theorem q652 : (Jvm.Cond.soleField "CornerClaims$Layout" "width") ∈ lw_all := lw_g (lw_at lw_m3 89 rfl) rfl
theorem q653 : (Jvm.Cond.laysFinal "CornerClaims$Layout" "CornerClaims$Layout" "height" "I") ∈ lw_all := lw_g (lw_at lw_m3 90 rfl) rfl
theorem q654 : (Jvm.Cond.soleField "CornerClaims$Layout" "height") ∈ lw_all := lw_g (lw_at lw_m3 91 rfl) rfl
theorem q655 : (Jvm.Cond.laysFinal "CornerClaims$Layout" "CornerClaims$Layout" "stones" "Ljava/util/HashMap;") ∈ lw_all := lw_g (lw_at lw_m3 92 rfl) rfl
theorem q656 : (Jvm.Cond.soleField "CornerClaims$Layout" "stones") ∈ lw_all := lw_g (lw_at lw_m3 93 rfl) rfl
theorem q657 : (Jvm.Cond.laysFinal "CornerClaims$Layout" "CornerClaims$Layout" "places" "Ljava/util/List;") ∈ lw_all := lw_g (lw_at lw_m3 94 rfl) rfl
theorem q658 : (Jvm.Cond.soleField "CornerClaims$Layout" "places") ∈ lw_all := lw_g (lw_at lw_m3 95 rfl) rfl
theorem q659 : (Jvm.Cond.laysFinal "CornerClaims$Layout" "CornerClaims$Layout" "values" "Ljava/util/List;") ∈ lw_all := lw_g (lw_at lw_m3 96 rfl) rfl
theorem q660 : (Jvm.Cond.soleField "CornerClaims$Layout" "values") ∈ lw_all := lw_g (lw_at lw_m3 97 rfl) rfl
theorem q661 : (Jvm.Cond.lays "CornerClaims$Layout" "CornerClaims$Layout" "score" "LCornerClaims$Score;") ∈ lw_all := lw_g (lw_at lw_m3 98 rfl) rfl
theorem q662 : (Jvm.Cond.soleField "CornerClaims$Layout" "score") ∈ lw_all := lw_g (lw_at lw_m3 99 rfl) rfl
theorem q663 : (Jvm.Cond.superclass "CornerClaims$Layout" "java/lang/Object") ∈ lw_all := lw_g (lw_at lw_m3 100 rfl) rfl
theorem q1111 : (Jvm.Cond.selects "CornerClaims$Layout" ({ cls := "java/lang/Object", name := "hashCode", desc := "()I" } : Jvm.MethodName) ({ cls := "java/lang/Object", name := "hashCode", desc := "()I" } : Jvm.MethodName)) ∈ lw_all := lw_g (lw_at lw_m5 68 rfl) rfl
theorem q1141 : (Jvm.Cond.selects "CornerClaims$Layout" ({ cls := "java/lang/Object", name := "equals", desc := "(Ljava/lang/Object;)Z" } : Jvm.MethodName) ({ cls := "java/lang/Object", name := "equals", desc := "(Ljava/lang/Object;)Z" } : Jvm.MethodName)) ∈ lw_all := lw_g (lw_at lw_m5 98 rfl) rfl
theorem q1187 : (Jvm.Cond.selects "CornerClaims$Layout" ({ cls := "java/lang/Object", name := "getClass", desc := "()Ljava/lang/Class;" } : Jvm.MethodName) ({ cls := "java/lang/Object", name := "getClass", desc := "()Ljava/lang/Class;" } : Jvm.MethodName)) ∈ lw_all := lw_g (lw_at lw_m5 144 rfl) rfl
theorem q1442 : (Jvm.Cond.instanceMethod ({ cls := "CornerClaims$Layout", name := "addStone", desc := "(LCornerClaims$Point;I)V" } : Jvm.MethodName)) ∈ lw_all := lw_g (lw_at lw_m6 159 rfl) rfl
theorem q1443 : (Jvm.Cond.selects "CornerClaims$Layout" ({ cls := "CornerClaims$Layout", name := "addStone", desc := "(LCornerClaims$Point;I)V" } : Jvm.MethodName) ({ cls := "CornerClaims$Layout", name := "addStone", desc := "(LCornerClaims$Point;I)V" } : Jvm.MethodName)) ∈ lw_all := lw_g (lw_at lw_m6 160 rfl) rfl
theorem q1444 : (Jvm.Cond.code ({ cls := "CornerClaims$Layout", name := "addStone", desc := "(LCornerClaims$Point;I)V" } : Jvm.MethodName) prog_3_method_2_code (4 : Nat) (Option.none : Option Jvm.ClassFile.FieldType)) ∈ lw_all := lw_g (lw_at lw_m6 161 rfl) rfl
theorem q1445 : (Jvm.Cond.interfaceEntry "CornerClaims$Layout" (50 : Nat)) ∈ lw_tbl := lw_at lw_m6 162 rfl
theorem q1446 : (Jvm.Cond.methodLink "CornerClaims$Layout" (50 : Nat) ({ cls := "java/util/List", name := "size", desc := "()I" } : Jvm.MethodName)) ∈ lw_all := lw_g (lw_at lw_m6 163 rfl) rfl
theorem q1447 : (Jvm.Cond.methodLink "CornerClaims$Layout" (56 : Nat) ({ cls := "java/lang/Integer", name := "valueOf", desc := "(I)Ljava/lang/Integer;" } : Jvm.MethodName)) ∈ lw_all := lw_g (lw_at lw_m6 164 rfl) rfl
theorem q1466 : (Jvm.Cond.methodLink "CornerClaims$Layout" (62 : Nat) ({ cls := "java/util/HashMap", name := "put", desc := "(Ljava/lang/Object;Ljava/lang/Object;)Ljava/lang/Object;" } : Jvm.MethodName)) ∈ lw_all := lw_g (lw_at lw_m6 183 rfl) rfl
theorem q1606 : (Jvm.Cond.classLink "CornerClaims$Layout" (57 : Nat) "java/lang/Integer") ∈ lw_all := lw_g (lw_at lw_m7 83 rfl) rfl
theorem q1607 : (Jvm.Cond.interfaceEntry "CornerClaims$Layout" (66 : Nat)) ∈ lw_tbl := lw_at lw_m7 84 rfl
theorem q1608 : (Jvm.Cond.methodLink "CornerClaims$Layout" (66 : Nat) ({ cls := "java/util/List", name := "add", desc := "(Ljava/lang/Object;)Z" } : Jvm.MethodName)) ∈ lw_all := lw_g (lw_at lw_m7 85 rfl) rfl
theorem q1867 : (Jvm.Cond.instanceMethod ({ cls := "CornerClaims$Layout", name := "isPoint", desc := "(II)Z" } : Jvm.MethodName)) ∈ lw_all := lw_g (lw_at lw_m8 104 rfl) rfl
theorem q1868 : (Jvm.Cond.selects "CornerClaims$Layout" ({ cls := "CornerClaims$Layout", name := "isPoint", desc := "(II)Z" } : Jvm.MethodName) ({ cls := "CornerClaims$Layout", name := "isPoint", desc := "(II)Z" } : Jvm.MethodName)) ∈ lw_all := lw_g (lw_at lw_m8 105 rfl) rfl
theorem q1869 : (Jvm.Cond.code ({ cls := "CornerClaims$Layout", name := "isPoint", desc := "(II)Z" } : Jvm.MethodName) prog_3_method_3_code (3 : Nat) (Option.some Jvm.ClassFile.FieldType.boolean)) ∈ lw_all := lw_g (lw_at lw_m8 106 rfl) rfl
theorem q1870 : (Jvm.Cond.methodLinkNest "CornerClaims$Layout" (70 : Nat) ({ cls := "CornerClaims", name := "isBetween", desc := "(JJJ)Z" } : Jvm.MethodName) "CornerClaims") ∈ lw_tbl := lw_at lw_m8 107 rfl
theorem q2532 : (Jvm.Cond.castable "CornerClaims$Layout" "java/lang/Object") ∈ lw_tbl := lw_at lw_m11 49 rfl
theorem in_X3 : ∀ w ∈ wsX30, w ∈ lw_all := lw_in wsX30 [651, 653, 655, 657, 659, 661] (by decide +kernel) (by decide +kernel)
/-! CornerClaims$Parser -/
set_option maxRecDepth 100000
def RX5 : String := "CornerClaims$Parser"
def TX5 : u_T := fun k => match k with
  | 0 => ("CornerClaims$Parser", "length", "I", true)
  | 1 => ("CornerClaims$Parser", "field", "LCornerClaims$Field;", false)
  | 2 => ("CornerClaims$Parser", "next", "I", false)
  | 3 => ("CornerClaims$Parser", "start", "I", false)
  | 4 => ("CornerClaims$Parser", "depth", "I", false)
  | 5 => ("CornerClaims$Parser", "hasScore", "Z", false)
  | _ => ("CornerClaims$Parser", "this$0", "LCornerClaims;", true)
def tyX5 : Nat → FieldType := fun k => match k with
  | 0 => .int
  | 1 => .object "CornerClaims$Field"
  | 2 => .int
  | 3 => .int
  | 4 => .int
  | 5 => .boolean
  | _ => .object "CornerClaims"
abbrev wsX50 : List Cond := u_ws RX5 TX5 7
theorem nmX5 : ∀ a, a < 7 → ∀ b, b < 7 → a ≠ b → (TX5 a).2.1 ≠ (TX5 b).2.1 := by decide +kernel
theorem tyX5_ok : ∀ k, k < 7 → parseFieldDescriptor (TX5 k).2.2.1 = some (tyX5 k) := by decide +kernel
abbrev cX5_init : ByteArray := prog_4_method_1_code
def yX5_init : MethodName := ⟨RX5, "<init>", "(LCornerClaims;I)V"⟩
def dkwX5_init_0 : List UInt8 := [42, 43, 181, 0, 3, 42, 183, 0, 9, 42, 28, 181, 0, 15, 177]
abbrev dktX5_init_0 : List UInt8 := dkwX5_init_0 ++ []
theorem dksX5_init_0 : cX5_init.data.toList.drop 0 = dktX5_init_0 := by decide +kernel
theorem dX5_init_0 : decode cX5_init 0 = .ok (.aload_n 0, 1) := dk_42 (dk_at dksX5_init_0 0 rfl rfl)
theorem dX5_init_1 : decode cX5_init 1 = .ok (.aload_n 1, 1) := dk_43 (dk_at dksX5_init_0 1 rfl rfl)
theorem dX5_init_2 : decode cX5_init 2 = .ok (.putfield 3, 3) := dk_181 0 3 (dk_at dksX5_init_0 2 rfl rfl)
theorem dX5_init_5 : decode cX5_init 5 = .ok (.aload_n 0, 1) := dk_42 (dk_at dksX5_init_0 5 rfl rfl)
theorem dX5_init_6 : decode cX5_init 6 = .ok (.invokespecial 9, 3) := dk_183 0 9 (dk_at dksX5_init_0 6 rfl rfl)
theorem dX5_init_9 : decode cX5_init 9 = .ok (.aload_n 0, 1) := dk_42 (dk_at dksX5_init_0 9 rfl rfl)
theorem dX5_init_10 : decode cX5_init 10 = .ok (.iload_n 2, 1) := dk_28 (dk_at dksX5_init_0 10 rfl rfl)
theorem dX5_init_11 : decode cX5_init 11 = .ok (.putfield 15, 3) := dk_181 0 15 (dk_at dksX5_init_0 11 rfl rfl)
theorem dX5_init_14 : decode cX5_init 14 = .ok (.return_, 1) := dk_177 (dk_at dksX5_init_0 14 rfl rfl)
abbrev cX5_parse : ByteArray := prog_4_method_16_code
def yX5_parse : MethodName := ⟨RX5, "parse", "()LCornerClaims$Field;"⟩
def dkwX5_parse_3 : List UInt8 := [42, 182, 0, 39, 2, 159, 0, 10, 42, 182, 0, 217, 167, 255, 244, 42, 180, 0, 119, 176]
abbrev dktX5_parse_3 : List UInt8 := dkwX5_parse_3 ++ []
def dkwX5_parse_2 : List UInt8 := [89, 28, 42, 5, 16, 30, 182, 0, 101, 183, 0, 213, 183, 0, 214, 181, 0, 119, 42, 16, 59, 182, 0, 97]
abbrev dktX5_parse_2 : List UInt8 := dkwX5_parse_2 ++ dktX5_parse_3
def dkwX5_parse_1 : List UInt8 := [180, 0, 19, 8, 96, 181, 0, 19, 42, 5, 16, 30, 182, 0, 101, 61, 42, 187, 0, 124, 89, 187, 0, 130]
abbrev dktX5_parse_1 : List UInt8 := dkwX5_parse_1 ++ dktX5_parse_2
def dkwX5_parse_0 : List UInt8 := [42, 182, 0, 108, 18, 212, 182, 0, 195, 60, 42, 27, 16, 254, 42, 180, 0, 19, 182, 0, 43, 42, 89]
abbrev dktX5_parse_0 : List UInt8 := dkwX5_parse_0 ++ dktX5_parse_1
theorem dksX5_parse_0 : cX5_parse.data.toList.drop 0 = dktX5_parse_0 := by decide +kernel
theorem dksX5_parse_1 : cX5_parse.data.toList.drop 23 = dktX5_parse_1 := dk_seg dksX5_parse_0 23 rfl rfl
theorem dksX5_parse_2 : cX5_parse.data.toList.drop 47 = dktX5_parse_2 := dk_seg dksX5_parse_1 24 rfl rfl
theorem dksX5_parse_3 : cX5_parse.data.toList.drop 71 = dktX5_parse_3 := dk_seg dksX5_parse_2 24 rfl rfl
theorem dX5_parse_0 : decode cX5_parse 0 = .ok (.aload_n 0, 1) := dk_42 (dk_at dksX5_parse_0 0 rfl rfl)
theorem dX5_parse_1 : decode cX5_parse 1 = .ok (.invokevirtual 108, 3) := dk_182 0 108 (dk_at dksX5_parse_0 1 rfl rfl)
theorem dX5_parse_4 : decode cX5_parse 4 = .ok (.ldc 212, 2) := dk_18 212 (dk_at dksX5_parse_0 4 rfl rfl)
theorem dX5_parse_6 : decode cX5_parse 6 = .ok (.invokevirtual 195, 3) := dk_182 0 195 (dk_at dksX5_parse_0 6 rfl rfl)
theorem dX5_parse_9 : decode cX5_parse 9 = .ok (.istore_n 1, 1) := dk_60 (dk_at dksX5_parse_0 9 rfl rfl)
theorem dX5_parse_10 : decode cX5_parse 10 = .ok (.aload_n 0, 1) := dk_42 (dk_at dksX5_parse_0 10 rfl rfl)
theorem dX5_parse_11 : decode cX5_parse 11 = .ok (.iload_n 1, 1) := dk_27 (dk_at dksX5_parse_0 11 rfl rfl)
theorem dX5_parse_12 : decode cX5_parse 12 = .ok (.bipush (-2), 2) := dk_16 254 (dk_at dksX5_parse_0 12 rfl rfl)
theorem dX5_parse_14 : decode cX5_parse 14 = .ok (.aload_n 0, 1) := dk_42 (dk_at dksX5_parse_0 14 rfl rfl)
theorem dX5_parse_15 : decode cX5_parse 15 = .ok (.getfield 19, 3) := dk_180 0 19 (dk_at dksX5_parse_0 15 rfl rfl)
theorem dX5_parse_18 : decode cX5_parse 18 = .ok (.invokevirtual 43, 3) := dk_182 0 43 (dk_at dksX5_parse_0 18 rfl rfl)
theorem dX5_parse_21 : decode cX5_parse 21 = .ok (.aload_n 0, 1) := dk_42 (dk_at dksX5_parse_0 21 rfl rfl)
theorem dX5_parse_22 : decode cX5_parse 22 = .ok (.dup, 1) := dk_89 (dk_at dksX5_parse_0 22 rfl rfl)
theorem dX5_parse_23 : decode cX5_parse 23 = .ok (.getfield 19, 3) := dk_180 0 19 (dk_at dksX5_parse_1 0 rfl rfl)
theorem dX5_parse_26 : decode cX5_parse 26 = .ok (.iconst 5, 1) := dk_8 (dk_at dksX5_parse_1 3 rfl rfl)
theorem dX5_parse_27 : decode cX5_parse 27 = .ok (.iadd, 1) := dk_96 (dk_at dksX5_parse_1 4 rfl rfl)
theorem dX5_parse_28 : decode cX5_parse 28 = .ok (.putfield 19, 3) := dk_181 0 19 (dk_at dksX5_parse_1 5 rfl rfl)
theorem dX5_parse_31 : decode cX5_parse 31 = .ok (.aload_n 0, 1) := dk_42 (dk_at dksX5_parse_1 8 rfl rfl)
theorem dX5_parse_32 : decode cX5_parse 32 = .ok (.iconst 2, 1) := dk_5 (dk_at dksX5_parse_1 9 rfl rfl)
theorem dX5_parse_33 : decode cX5_parse 33 = .ok (.bipush 30, 2) := dk_16 30 (dk_at dksX5_parse_1 10 rfl rfl)
theorem dX5_parse_35 : decode cX5_parse 35 = .ok (.invokevirtual 101, 3) := dk_182 0 101 (dk_at dksX5_parse_1 12 rfl rfl)
theorem dX5_parse_38 : decode cX5_parse 38 = .ok (.istore_n 2, 1) := dk_61 (dk_at dksX5_parse_1 15 rfl rfl)
theorem dX5_parse_39 : decode cX5_parse 39 = .ok (.aload_n 0, 1) := dk_42 (dk_at dksX5_parse_1 16 rfl rfl)
theorem dX5_parse_40 : decode cX5_parse 40 = .ok (.new 124, 3) := dk_187 0 124 (dk_at dksX5_parse_1 17 rfl rfl)
theorem dX5_parse_43 : decode cX5_parse 43 = .ok (.dup, 1) := dk_89 (dk_at dksX5_parse_1 20 rfl rfl)
theorem dX5_parse_44 : decode cX5_parse 44 = .ok (.new 130, 3) := dk_187 0 130 (dk_at dksX5_parse_1 21 rfl rfl)
theorem dX5_parse_47 : decode cX5_parse 47 = .ok (.dup, 1) := dk_89 (dk_at dksX5_parse_2 0 rfl rfl)
theorem dX5_parse_48 : decode cX5_parse 48 = .ok (.iload_n 2, 1) := dk_28 (dk_at dksX5_parse_2 1 rfl rfl)
theorem dX5_parse_49 : decode cX5_parse 49 = .ok (.aload_n 0, 1) := dk_42 (dk_at dksX5_parse_2 2 rfl rfl)
theorem dX5_parse_50 : decode cX5_parse 50 = .ok (.iconst 2, 1) := dk_5 (dk_at dksX5_parse_2 3 rfl rfl)
theorem dX5_parse_51 : decode cX5_parse 51 = .ok (.bipush 30, 2) := dk_16 30 (dk_at dksX5_parse_2 4 rfl rfl)
theorem dX5_parse_53 : decode cX5_parse 53 = .ok (.invokevirtual 101, 3) := dk_182 0 101 (dk_at dksX5_parse_2 6 rfl rfl)
theorem dX5_parse_56 : decode cX5_parse 56 = .ok (.invokespecial 213, 3) := dk_183 0 213 (dk_at dksX5_parse_2 9 rfl rfl)
theorem dX5_parse_59 : decode cX5_parse 59 = .ok (.invokespecial 214, 3) := dk_183 0 214 (dk_at dksX5_parse_2 12 rfl rfl)
theorem dX5_parse_62 : decode cX5_parse 62 = .ok (.putfield 119, 3) := dk_181 0 119 (dk_at dksX5_parse_2 15 rfl rfl)
theorem dX5_parse_65 : decode cX5_parse 65 = .ok (.aload_n 0, 1) := dk_42 (dk_at dksX5_parse_2 18 rfl rfl)
theorem dX5_parse_66 : decode cX5_parse 66 = .ok (.bipush 59, 2) := dk_16 59 (dk_at dksX5_parse_2 19 rfl rfl)
theorem dX5_parse_68 : decode cX5_parse 68 = .ok (.invokevirtual 97, 3) := dk_182 0 97 (dk_at dksX5_parse_2 21 rfl rfl)
theorem dX5_parse_71 : decode cX5_parse 71 = .ok (.aload_n 0, 1) := dk_42 (dk_at dksX5_parse_3 0 rfl rfl)
theorem dX5_parse_72 : decode cX5_parse 72 = .ok (.invokevirtual 39, 3) := dk_182 0 39 (dk_at dksX5_parse_3 1 rfl rfl)
theorem dX5_parse_75 : decode cX5_parse 75 = .ok (.iconst (-1), 1) := dk_2 (dk_at dksX5_parse_3 4 rfl rfl)
theorem dX5_parse_76 : decode cX5_parse 76 = .ok (.if_icmp .eq 10, 3) := dk_159 0 10 (dk_at dksX5_parse_3 5 rfl rfl)
theorem dX5_parse_79 : decode cX5_parse 79 = .ok (.aload_n 0, 1) := dk_42 (dk_at dksX5_parse_3 8 rfl rfl)
theorem dX5_parse_80 : decode cX5_parse 80 = .ok (.invokevirtual 217, 3) := dk_182 0 217 (dk_at dksX5_parse_3 9 rfl rfl)
theorem dX5_parse_83 : decode cX5_parse 83 = .ok (.goto (-12), 3) := dk_167 255 244 (dk_at dksX5_parse_3 12 rfl rfl)
theorem dX5_parse_86 : decode cX5_parse 86 = .ok (.aload_n 0, 1) := dk_42 (dk_at dksX5_parse_3 15 rfl rfl)
theorem dX5_parse_87 : decode cX5_parse 87 = .ok (.getfield 119, 3) := dk_180 0 119 (dk_at dksX5_parse_3 16 rfl rfl)
theorem dX5_parse_90 : decode cX5_parse 90 = .ok (.areturn, 1) := dk_176 (dk_at dksX5_parse_3 19 rfl rfl)
abbrev cX5_word : ByteArray := prog_4_method_6_code
def yX5_word : MethodName := ⟨RX5, "word", "()Ljava/lang/String;"⟩
def dkwX5_word_2 : List UInt8 := [43, 182, 0, 58, 176]
abbrev dktX5_word_2 : List UInt8 := dkwX5_word_2 ++ []
def dkwX5_word_1 : List UInt8 := [153, 0, 24, 43, 42, 180, 0, 3, 180, 0, 22, 28, 51, 146, 182, 0, 54, 87, 132, 2, 1, 167, 255, 230]
abbrev dktX5_word_1 : List UInt8 := dkwX5_word_1 ++ dktX5_word_2
def dkwX5_word_0 : List UInt8 := [42, 182, 0, 39, 87, 187, 0, 47, 89, 183, 0, 49, 76, 42, 180, 0, 19, 61, 42, 28, 182, 0, 50]
abbrev dktX5_word_0 : List UInt8 := dkwX5_word_0 ++ dktX5_word_1
theorem dksX5_word_0 : cX5_word.data.toList.drop 0 = dktX5_word_0 := by decide +kernel
theorem dksX5_word_1 : cX5_word.data.toList.drop 23 = dktX5_word_1 := dk_seg dksX5_word_0 23 rfl rfl
theorem dksX5_word_2 : cX5_word.data.toList.drop 47 = dktX5_word_2 := dk_seg dksX5_word_1 24 rfl rfl
theorem dX5_word_0 : decode cX5_word 0 = .ok (.aload_n 0, 1) := dk_42 (dk_at dksX5_word_0 0 rfl rfl)
theorem dX5_word_1 : decode cX5_word 1 = .ok (.invokevirtual 39, 3) := dk_182 0 39 (dk_at dksX5_word_0 1 rfl rfl)
theorem dX5_word_4 : decode cX5_word 4 = .ok (.pop, 1) := dk_87 (dk_at dksX5_word_0 4 rfl rfl)
theorem dX5_word_5 : decode cX5_word 5 = .ok (.new 47, 3) := dk_187 0 47 (dk_at dksX5_word_0 5 rfl rfl)
theorem dX5_word_8 : decode cX5_word 8 = .ok (.dup, 1) := dk_89 (dk_at dksX5_word_0 8 rfl rfl)
theorem dX5_word_9 : decode cX5_word 9 = .ok (.invokespecial 49, 3) := dk_183 0 49 (dk_at dksX5_word_0 9 rfl rfl)
theorem dX5_word_12 : decode cX5_word 12 = .ok (.astore_n 1, 1) := dk_76 (dk_at dksX5_word_0 12 rfl rfl)
theorem dX5_word_13 : decode cX5_word 13 = .ok (.aload_n 0, 1) := dk_42 (dk_at dksX5_word_0 13 rfl rfl)
theorem dX5_word_14 : decode cX5_word 14 = .ok (.getfield 19, 3) := dk_180 0 19 (dk_at dksX5_word_0 14 rfl rfl)
theorem dX5_word_17 : decode cX5_word 17 = .ok (.istore_n 2, 1) := dk_61 (dk_at dksX5_word_0 17 rfl rfl)
theorem dX5_word_18 : decode cX5_word 18 = .ok (.aload_n 0, 1) := dk_42 (dk_at dksX5_word_0 18 rfl rfl)
theorem dX5_word_19 : decode cX5_word 19 = .ok (.iload_n 2, 1) := dk_28 (dk_at dksX5_word_0 19 rfl rfl)
theorem dX5_word_20 : decode cX5_word 20 = .ok (.invokevirtual 50, 3) := dk_182 0 50 (dk_at dksX5_word_0 20 rfl rfl)
theorem dX5_word_23 : decode cX5_word 23 = .ok (.ifCond .eq 24, 3) := dk_153 0 24 (dk_at dksX5_word_1 0 rfl rfl)
theorem dX5_word_26 : decode cX5_word 26 = .ok (.aload_n 1, 1) := dk_43 (dk_at dksX5_word_1 3 rfl rfl)
theorem dX5_word_27 : decode cX5_word 27 = .ok (.aload_n 0, 1) := dk_42 (dk_at dksX5_word_1 4 rfl rfl)
theorem dX5_word_28 : decode cX5_word 28 = .ok (.getfield 3, 3) := dk_180 0 3 (dk_at dksX5_word_1 5 rfl rfl)
theorem dX5_word_31 : decode cX5_word 31 = .ok (.getfield 22, 3) := dk_180 0 22 (dk_at dksX5_word_1 8 rfl rfl)
theorem dX5_word_34 : decode cX5_word 34 = .ok (.iload_n 2, 1) := dk_28 (dk_at dksX5_word_1 11 rfl rfl)
theorem dX5_word_35 : decode cX5_word 35 = .ok (.baload, 1) := dk_51 (dk_at dksX5_word_1 12 rfl rfl)
theorem dX5_word_36 : decode cX5_word 36 = .ok (.i2c, 1) := dk_146 (dk_at dksX5_word_1 13 rfl rfl)
theorem dX5_word_37 : decode cX5_word 37 = .ok (.invokevirtual 54, 3) := dk_182 0 54 (dk_at dksX5_word_1 14 rfl rfl)
theorem dX5_word_40 : decode cX5_word 40 = .ok (.pop, 1) := dk_87 (dk_at dksX5_word_1 17 rfl rfl)
theorem dX5_word_41 : decode cX5_word 41 = .ok (.iinc 2 1, 3) := dk_132 2 1 (dk_at dksX5_word_1 18 rfl rfl)
theorem dX5_word_44 : decode cX5_word 44 = .ok (.goto (-26), 3) := dk_167 255 230 (dk_at dksX5_word_1 21 rfl rfl)
theorem dX5_word_47 : decode cX5_word 47 = .ok (.aload_n 1, 1) := dk_43 (dk_at dksX5_word_2 0 rfl rfl)
theorem dX5_word_48 : decode cX5_word 48 = .ok (.invokevirtual 58, 3) := dk_182 0 58 (dk_at dksX5_word_2 1 rfl rfl)
theorem dX5_word_51 : decode cX5_word 51 = .ok (.areturn, 1) := dk_176 (dk_at dksX5_word_2 4 rfl rfl)
abbrev cX5_peek : ByteArray := prog_4_method_2_code
def yX5_peek : MethodName := ⟨RX5, "peek", "()I"⟩
def dkwX5_peek_3 : List UInt8 := [167, 0, 4, 2, 172]
abbrev dktX5_peek_3 : List UInt8 := dkwX5_peek_3 ++ []
def dkwX5_peek_2 : List UInt8 := [180, 0, 15, 162, 0, 22, 42, 180, 0, 3, 180, 0, 22, 42, 180, 0, 19, 51, 17, 0, 255, 126]
abbrev dktX5_peek_2 : List UInt8 := dkwX5_peek_2 ++ dktX5_peek_3
def dkwX5_peek_1 : List UInt8 := [16, 32, 160, 0, 16, 42, 89, 180, 0, 19, 4, 96, 181, 0, 19, 167, 255, 218, 42, 180, 0, 19, 42]
abbrev dktX5_peek_1 : List UInt8 := dkwX5_peek_1 ++ dktX5_peek_2
def dkwX5_peek_0 : List UInt8 := [42, 180, 0, 19, 42, 180, 0, 15, 162, 0, 33, 42, 180, 0, 3, 180, 0, 22, 42, 180, 0, 19, 51]
abbrev dktX5_peek_0 : List UInt8 := dkwX5_peek_0 ++ dktX5_peek_1
theorem dksX5_peek_0 : cX5_peek.data.toList.drop 0 = dktX5_peek_0 := by decide +kernel
theorem dksX5_peek_1 : cX5_peek.data.toList.drop 23 = dktX5_peek_1 := dk_seg dksX5_peek_0 23 rfl rfl
theorem dksX5_peek_2 : cX5_peek.data.toList.drop 46 = dktX5_peek_2 := dk_seg dksX5_peek_1 23 rfl rfl
theorem dksX5_peek_3 : cX5_peek.data.toList.drop 68 = dktX5_peek_3 := dk_seg dksX5_peek_2 22 rfl rfl
theorem dX5_peek_0 : decode cX5_peek 0 = .ok (.aload_n 0, 1) := dk_42 (dk_at dksX5_peek_0 0 rfl rfl)
theorem dX5_peek_1 : decode cX5_peek 1 = .ok (.getfield 19, 3) := dk_180 0 19 (dk_at dksX5_peek_0 1 rfl rfl)
theorem dX5_peek_4 : decode cX5_peek 4 = .ok (.aload_n 0, 1) := dk_42 (dk_at dksX5_peek_0 4 rfl rfl)
theorem dX5_peek_5 : decode cX5_peek 5 = .ok (.getfield 15, 3) := dk_180 0 15 (dk_at dksX5_peek_0 5 rfl rfl)
theorem dX5_peek_8 : decode cX5_peek 8 = .ok (.if_icmp .ge 33, 3) := dk_162 0 33 (dk_at dksX5_peek_0 8 rfl rfl)
theorem dX5_peek_11 : decode cX5_peek 11 = .ok (.aload_n 0, 1) := dk_42 (dk_at dksX5_peek_0 11 rfl rfl)
theorem dX5_peek_12 : decode cX5_peek 12 = .ok (.getfield 3, 3) := dk_180 0 3 (dk_at dksX5_peek_0 12 rfl rfl)
theorem dX5_peek_15 : decode cX5_peek 15 = .ok (.getfield 22, 3) := dk_180 0 22 (dk_at dksX5_peek_0 15 rfl rfl)
theorem dX5_peek_18 : decode cX5_peek 18 = .ok (.aload_n 0, 1) := dk_42 (dk_at dksX5_peek_0 18 rfl rfl)
theorem dX5_peek_19 : decode cX5_peek 19 = .ok (.getfield 19, 3) := dk_180 0 19 (dk_at dksX5_peek_0 19 rfl rfl)
theorem dX5_peek_22 : decode cX5_peek 22 = .ok (.baload, 1) := dk_51 (dk_at dksX5_peek_0 22 rfl rfl)
theorem dX5_peek_23 : decode cX5_peek 23 = .ok (.bipush 32, 2) := dk_16 32 (dk_at dksX5_peek_1 0 rfl rfl)
theorem dX5_peek_25 : decode cX5_peek 25 = .ok (.if_icmp .ne 16, 3) := dk_160 0 16 (dk_at dksX5_peek_1 2 rfl rfl)
theorem dX5_peek_28 : decode cX5_peek 28 = .ok (.aload_n 0, 1) := dk_42 (dk_at dksX5_peek_1 5 rfl rfl)
theorem dX5_peek_29 : decode cX5_peek 29 = .ok (.dup, 1) := dk_89 (dk_at dksX5_peek_1 6 rfl rfl)
theorem dX5_peek_30 : decode cX5_peek 30 = .ok (.getfield 19, 3) := dk_180 0 19 (dk_at dksX5_peek_1 7 rfl rfl)
theorem dX5_peek_33 : decode cX5_peek 33 = .ok (.iconst 1, 1) := dk_4 (dk_at dksX5_peek_1 10 rfl rfl)
theorem dX5_peek_34 : decode cX5_peek 34 = .ok (.iadd, 1) := dk_96 (dk_at dksX5_peek_1 11 rfl rfl)
theorem dX5_peek_35 : decode cX5_peek 35 = .ok (.putfield 19, 3) := dk_181 0 19 (dk_at dksX5_peek_1 12 rfl rfl)
theorem dX5_peek_38 : decode cX5_peek 38 = .ok (.goto (-38), 3) := dk_167 255 218 (dk_at dksX5_peek_1 15 rfl rfl)
theorem dX5_peek_41 : decode cX5_peek 41 = .ok (.aload_n 0, 1) := dk_42 (dk_at dksX5_peek_1 18 rfl rfl)
theorem dX5_peek_42 : decode cX5_peek 42 = .ok (.getfield 19, 3) := dk_180 0 19 (dk_at dksX5_peek_1 19 rfl rfl)
theorem dX5_peek_45 : decode cX5_peek 45 = .ok (.aload_n 0, 1) := dk_42 (dk_at dksX5_peek_1 22 rfl rfl)
theorem dX5_peek_46 : decode cX5_peek 46 = .ok (.getfield 15, 3) := dk_180 0 15 (dk_at dksX5_peek_2 0 rfl rfl)
theorem dX5_peek_49 : decode cX5_peek 49 = .ok (.if_icmp .ge 22, 3) := dk_162 0 22 (dk_at dksX5_peek_2 3 rfl rfl)
theorem dX5_peek_52 : decode cX5_peek 52 = .ok (.aload_n 0, 1) := dk_42 (dk_at dksX5_peek_2 6 rfl rfl)
theorem dX5_peek_53 : decode cX5_peek 53 = .ok (.getfield 3, 3) := dk_180 0 3 (dk_at dksX5_peek_2 7 rfl rfl)
theorem dX5_peek_56 : decode cX5_peek 56 = .ok (.getfield 22, 3) := dk_180 0 22 (dk_at dksX5_peek_2 10 rfl rfl)
theorem dX5_peek_59 : decode cX5_peek 59 = .ok (.aload_n 0, 1) := dk_42 (dk_at dksX5_peek_2 13 rfl rfl)
theorem dX5_peek_60 : decode cX5_peek 60 = .ok (.getfield 19, 3) := dk_180 0 19 (dk_at dksX5_peek_2 14 rfl rfl)
theorem dX5_peek_63 : decode cX5_peek 63 = .ok (.baload, 1) := dk_51 (dk_at dksX5_peek_2 17 rfl rfl)
theorem dX5_peek_64 : decode cX5_peek 64 = .ok (.sipush 255, 3) := dk_17 0 255 (dk_at dksX5_peek_2 18 rfl rfl)
theorem dX5_peek_67 : decode cX5_peek 67 = .ok (.iand, 1) := dk_126 (dk_at dksX5_peek_2 21 rfl rfl)
theorem dX5_peek_68 : decode cX5_peek 68 = .ok (.goto 4, 3) := dk_167 0 4 (dk_at dksX5_peek_3 0 rfl rfl)
theorem dX5_peek_71 : decode cX5_peek 71 = .ok (.iconst (-1), 1) := dk_2 (dk_at dksX5_peek_3 3 rfl rfl)
theorem dX5_peek_72 : decode cX5_peek 72 = .ok (.ireturn, 1) := dk_172 (dk_at dksX5_peek_3 4 rfl rfl)
abbrev cX5_isLetterAt : ByteArray := prog_4_method_3_code
def yX5_isLetterAt : MethodName := ⟨RX5, "isLetterAt", "(I)Z"⟩
def dkwX5_isLetterAt_1 : List UInt8 := [184, 0, 30, 153, 0, 7, 4, 167, 0, 4, 3, 172]
abbrev dktX5_isLetterAt_1 : List UInt8 := dkwX5_isLetterAt_1 ++ []
def dkwX5_isLetterAt_0 : List UInt8 := [27, 42, 180, 0, 15, 162, 0, 29, 42, 180, 0, 3, 180, 0, 22, 27, 51, 133, 20, 0, 26, 20, 0, 28]
abbrev dktX5_isLetterAt_0 : List UInt8 := dkwX5_isLetterAt_0 ++ dktX5_isLetterAt_1
theorem dksX5_isLetterAt_0 : cX5_isLetterAt.data.toList.drop 0 = dktX5_isLetterAt_0 := by decide +kernel
theorem dksX5_isLetterAt_1 : cX5_isLetterAt.data.toList.drop 24 = dktX5_isLetterAt_1 := dk_seg dksX5_isLetterAt_0 24 rfl rfl
theorem dX5_isLetterAt_0 : decode cX5_isLetterAt 0 = .ok (.iload_n 1, 1) := dk_27 (dk_at dksX5_isLetterAt_0 0 rfl rfl)
theorem dX5_isLetterAt_1 : decode cX5_isLetterAt 1 = .ok (.aload_n 0, 1) := dk_42 (dk_at dksX5_isLetterAt_0 1 rfl rfl)
theorem dX5_isLetterAt_2 : decode cX5_isLetterAt 2 = .ok (.getfield 15, 3) := dk_180 0 15 (dk_at dksX5_isLetterAt_0 2 rfl rfl)
theorem dX5_isLetterAt_5 : decode cX5_isLetterAt 5 = .ok (.if_icmp .ge 29, 3) := dk_162 0 29 (dk_at dksX5_isLetterAt_0 5 rfl rfl)
theorem dX5_isLetterAt_8 : decode cX5_isLetterAt 8 = .ok (.aload_n 0, 1) := dk_42 (dk_at dksX5_isLetterAt_0 8 rfl rfl)
theorem dX5_isLetterAt_9 : decode cX5_isLetterAt 9 = .ok (.getfield 3, 3) := dk_180 0 3 (dk_at dksX5_isLetterAt_0 9 rfl rfl)
theorem dX5_isLetterAt_12 : decode cX5_isLetterAt 12 = .ok (.getfield 22, 3) := dk_180 0 22 (dk_at dksX5_isLetterAt_0 12 rfl rfl)
theorem dX5_isLetterAt_15 : decode cX5_isLetterAt 15 = .ok (.iload_n 1, 1) := dk_27 (dk_at dksX5_isLetterAt_0 15 rfl rfl)
theorem dX5_isLetterAt_16 : decode cX5_isLetterAt 16 = .ok (.baload, 1) := dk_51 (dk_at dksX5_isLetterAt_0 16 rfl rfl)
theorem dX5_isLetterAt_17 : decode cX5_isLetterAt 17 = .ok (.i2l, 1) := dk_133 (dk_at dksX5_isLetterAt_0 17 rfl rfl)
theorem dX5_isLetterAt_18 : decode cX5_isLetterAt 18 = .ok (.ldc2_w 26, 3) := dk_20 0 26 (dk_at dksX5_isLetterAt_0 18 rfl rfl)
theorem dX5_isLetterAt_21 : decode cX5_isLetterAt 21 = .ok (.ldc2_w 28, 3) := dk_20 0 28 (dk_at dksX5_isLetterAt_0 21 rfl rfl)
theorem dX5_isLetterAt_24 : decode cX5_isLetterAt 24 = .ok (.invokestatic 30, 3) := dk_184 0 30 (dk_at dksX5_isLetterAt_1 0 rfl rfl)
theorem dX5_isLetterAt_27 : decode cX5_isLetterAt 27 = .ok (.ifCond .eq 7, 3) := dk_153 0 7 (dk_at dksX5_isLetterAt_1 3 rfl rfl)
theorem dX5_isLetterAt_30 : decode cX5_isLetterAt 30 = .ok (.iconst 1, 1) := dk_4 (dk_at dksX5_isLetterAt_1 6 rfl rfl)
theorem dX5_isLetterAt_31 : decode cX5_isLetterAt 31 = .ok (.goto 4, 3) := dk_167 0 4 (dk_at dksX5_isLetterAt_1 7 rfl rfl)
theorem dX5_isLetterAt_34 : decode cX5_isLetterAt 34 = .ok (.iconst 0, 1) := dk_3 (dk_at dksX5_isLetterAt_1 10 rfl rfl)
theorem dX5_isLetterAt_35 : decode cX5_isLetterAt 35 = .ok (.ireturn, 1) := dk_172 (dk_at dksX5_isLetterAt_1 11 rfl rfl)
abbrev cX5_require : ByteArray := prog_4_method_4_code
def yX5_require : MethodName := ⟨RX5, "require", "(ZII)V"⟩
def dkwX5_require_0 : List UInt8 := [27, 154, 0, 13, 187, 0, 34, 89, 28, 29, 183, 0, 36, 191, 177]
abbrev dktX5_require_0 : List UInt8 := dkwX5_require_0 ++ []
theorem dksX5_require_0 : cX5_require.data.toList.drop 0 = dktX5_require_0 := by decide +kernel
theorem dX5_require_0 : decode cX5_require 0 = .ok (.iload_n 1, 1) := dk_27 (dk_at dksX5_require_0 0 rfl rfl)
theorem dX5_require_1 : decode cX5_require 1 = .ok (.ifCond .ne 13, 3) := dk_154 0 13 (dk_at dksX5_require_0 1 rfl rfl)
theorem dX5_require_4 : decode cX5_require 4 = .ok (.new 34, 3) := dk_187 0 34 (dk_at dksX5_require_0 4 rfl rfl)
theorem dX5_require_7 : decode cX5_require 7 = .ok (.dup, 1) := dk_89 (dk_at dksX5_require_0 7 rfl rfl)
theorem dX5_require_8 : decode cX5_require 8 = .ok (.iload_n 2, 1) := dk_28 (dk_at dksX5_require_0 8 rfl rfl)
theorem dX5_require_9 : decode cX5_require 9 = .ok (.iload_n 3, 1) := dk_29 (dk_at dksX5_require_0 9 rfl rfl)
theorem dX5_require_10 : decode cX5_require 10 = .ok (.invokespecial 36, 3) := dk_183 0 36 (dk_at dksX5_require_0 10 rfl rfl)
theorem dX5_require_13 : decode cX5_require 13 = .ok (.athrow, 1) := dk_191 (dk_at dksX5_require_0 13 rfl rfl)
theorem dX5_require_14 : decode cX5_require 14 = .ok (.return_, 1) := dk_177 (dk_at dksX5_require_0 14 rfl rfl)
abbrev cX5_number : ByteArray := prog_4_method_8_code
def yX5_number : MethodName := ⟨RX5, "number", "(II)I"⟩
def dkwX5_number_5 : List UInt8 := [42, 180, 0, 70, 182, 0, 43, 21, 4, 172]
abbrev dktX5_number_5 : List UInt8 := dkwX5_number_5 ++ []
def dkwX5_number_4 : List UInt8 := [180, 0, 19, 4, 96, 181, 0, 19, 167, 255, 182, 42, 21, 4, 133, 27, 133, 28, 133, 184, 0, 30, 16, 253]
abbrev dktX5_number_4 : List UInt8 := dkwX5_number_4 ++ dktX5_number_5
def dkwX5_number_3 : List UInt8 := [42, 180, 0, 3, 180, 0, 22, 42, 180, 0, 19, 51, 96, 16, 48, 100, 184, 0, 74, 54, 4, 42, 89]
abbrev dktX5_number_3 : List UInt8 := dkwX5_number_3 ++ dktX5_number_4
def dkwX5_number_2 : List UInt8 := [180, 0, 19, 51, 133, 20, 0, 62, 20, 0, 64, 184, 0, 30, 153, 0, 44, 18, 73, 16, 10, 21, 4, 104]
abbrev dktX5_number_2 : List UInt8 := dkwX5_number_2 ++ dktX5_number_3
def dkwX5_number_1 : List UInt8 := [3, 54, 4, 42, 180, 0, 19, 42, 180, 0, 15, 162, 0, 69, 42, 180, 0, 3, 180, 0, 22, 42]
abbrev dktX5_number_1 : List UInt8 := dkwX5_number_1 ++ dktX5_number_2
def dkwX5_number_0 : List UInt8 := [42, 182, 0, 66, 62, 42, 29, 16, 254, 42, 180, 0, 19, 182, 0, 43, 42, 42, 180, 0, 19, 181, 0, 70]
abbrev dktX5_number_0 : List UInt8 := dkwX5_number_0 ++ dktX5_number_1
theorem dksX5_number_0 : cX5_number.data.toList.drop 0 = dktX5_number_0 := by decide +kernel
theorem dksX5_number_1 : cX5_number.data.toList.drop 24 = dktX5_number_1 := dk_seg dksX5_number_0 24 rfl rfl
theorem dksX5_number_2 : cX5_number.data.toList.drop 46 = dktX5_number_2 := dk_seg dksX5_number_1 22 rfl rfl
theorem dksX5_number_3 : cX5_number.data.toList.drop 70 = dktX5_number_3 := dk_seg dksX5_number_2 24 rfl rfl
theorem dksX5_number_4 : cX5_number.data.toList.drop 93 = dktX5_number_4 := dk_seg dksX5_number_3 23 rfl rfl
theorem dksX5_number_5 : cX5_number.data.toList.drop 117 = dktX5_number_5 := dk_seg dksX5_number_4 24 rfl rfl
theorem dX5_number_0 : decode cX5_number 0 = .ok (.aload_n 0, 1) := dk_42 (dk_at dksX5_number_0 0 rfl rfl)
theorem dX5_number_1 : decode cX5_number 1 = .ok (.invokevirtual 66, 3) := dk_182 0 66 (dk_at dksX5_number_0 1 rfl rfl)
theorem dX5_number_4 : decode cX5_number 4 = .ok (.istore_n 3, 1) := dk_62 (dk_at dksX5_number_0 4 rfl rfl)
theorem dX5_number_5 : decode cX5_number 5 = .ok (.aload_n 0, 1) := dk_42 (dk_at dksX5_number_0 5 rfl rfl)
theorem dX5_number_6 : decode cX5_number 6 = .ok (.iload_n 3, 1) := dk_29 (dk_at dksX5_number_0 6 rfl rfl)
theorem dX5_number_7 : decode cX5_number 7 = .ok (.bipush (-2), 2) := dk_16 254 (dk_at dksX5_number_0 7 rfl rfl)
theorem dX5_number_9 : decode cX5_number 9 = .ok (.aload_n 0, 1) := dk_42 (dk_at dksX5_number_0 9 rfl rfl)
theorem dX5_number_10 : decode cX5_number 10 = .ok (.getfield 19, 3) := dk_180 0 19 (dk_at dksX5_number_0 10 rfl rfl)
theorem dX5_number_13 : decode cX5_number 13 = .ok (.invokevirtual 43, 3) := dk_182 0 43 (dk_at dksX5_number_0 13 rfl rfl)
theorem dX5_number_16 : decode cX5_number 16 = .ok (.aload_n 0, 1) := dk_42 (dk_at dksX5_number_0 16 rfl rfl)
theorem dX5_number_17 : decode cX5_number 17 = .ok (.aload_n 0, 1) := dk_42 (dk_at dksX5_number_0 17 rfl rfl)
theorem dX5_number_18 : decode cX5_number 18 = .ok (.getfield 19, 3) := dk_180 0 19 (dk_at dksX5_number_0 18 rfl rfl)
theorem dX5_number_21 : decode cX5_number 21 = .ok (.putfield 70, 3) := dk_181 0 70 (dk_at dksX5_number_0 21 rfl rfl)
theorem dX5_number_24 : decode cX5_number 24 = .ok (.iconst 0, 1) := dk_3 (dk_at dksX5_number_1 0 rfl rfl)
theorem dX5_number_25 : decode cX5_number 25 = .ok (.istore 4, 2) := dk_54 4 (dk_at dksX5_number_1 1 rfl rfl)
theorem dX5_number_27 : decode cX5_number 27 = .ok (.aload_n 0, 1) := dk_42 (dk_at dksX5_number_1 3 rfl rfl)
theorem dX5_number_28 : decode cX5_number 28 = .ok (.getfield 19, 3) := dk_180 0 19 (dk_at dksX5_number_1 4 rfl rfl)
theorem dX5_number_31 : decode cX5_number 31 = .ok (.aload_n 0, 1) := dk_42 (dk_at dksX5_number_1 7 rfl rfl)
theorem dX5_number_32 : decode cX5_number 32 = .ok (.getfield 15, 3) := dk_180 0 15 (dk_at dksX5_number_1 8 rfl rfl)
theorem dX5_number_35 : decode cX5_number 35 = .ok (.if_icmp .ge 69, 3) := dk_162 0 69 (dk_at dksX5_number_1 11 rfl rfl)
theorem dX5_number_38 : decode cX5_number 38 = .ok (.aload_n 0, 1) := dk_42 (dk_at dksX5_number_1 14 rfl rfl)
theorem dX5_number_39 : decode cX5_number 39 = .ok (.getfield 3, 3) := dk_180 0 3 (dk_at dksX5_number_1 15 rfl rfl)
theorem dX5_number_42 : decode cX5_number 42 = .ok (.getfield 22, 3) := dk_180 0 22 (dk_at dksX5_number_1 18 rfl rfl)
theorem dX5_number_45 : decode cX5_number 45 = .ok (.aload_n 0, 1) := dk_42 (dk_at dksX5_number_1 21 rfl rfl)
theorem dX5_number_46 : decode cX5_number 46 = .ok (.getfield 19, 3) := dk_180 0 19 (dk_at dksX5_number_2 0 rfl rfl)
theorem dX5_number_49 : decode cX5_number 49 = .ok (.baload, 1) := dk_51 (dk_at dksX5_number_2 3 rfl rfl)
theorem dX5_number_50 : decode cX5_number 50 = .ok (.i2l, 1) := dk_133 (dk_at dksX5_number_2 4 rfl rfl)
theorem dX5_number_51 : decode cX5_number 51 = .ok (.ldc2_w 62, 3) := dk_20 0 62 (dk_at dksX5_number_2 5 rfl rfl)
theorem dX5_number_54 : decode cX5_number 54 = .ok (.ldc2_w 64, 3) := dk_20 0 64 (dk_at dksX5_number_2 8 rfl rfl)
theorem dX5_number_57 : decode cX5_number 57 = .ok (.invokestatic 30, 3) := dk_184 0 30 (dk_at dksX5_number_2 11 rfl rfl)
theorem dX5_number_60 : decode cX5_number 60 = .ok (.ifCond .eq 44, 3) := dk_153 0 44 (dk_at dksX5_number_2 14 rfl rfl)
theorem dX5_number_63 : decode cX5_number 63 = .ok (.ldc 73, 2) := dk_18 73 (dk_at dksX5_number_2 17 rfl rfl)
theorem dX5_number_65 : decode cX5_number 65 = .ok (.bipush 10, 2) := dk_16 10 (dk_at dksX5_number_2 19 rfl rfl)
theorem dX5_number_67 : decode cX5_number 67 = .ok (.iload 4, 2) := dk_21 4 (dk_at dksX5_number_2 21 rfl rfl)
theorem dX5_number_69 : decode cX5_number 69 = .ok (.imul, 1) := dk_104 (dk_at dksX5_number_2 23 rfl rfl)
theorem dX5_number_70 : decode cX5_number 70 = .ok (.aload_n 0, 1) := dk_42 (dk_at dksX5_number_3 0 rfl rfl)
theorem dX5_number_71 : decode cX5_number 71 = .ok (.getfield 3, 3) := dk_180 0 3 (dk_at dksX5_number_3 1 rfl rfl)
theorem dX5_number_74 : decode cX5_number 74 = .ok (.getfield 22, 3) := dk_180 0 22 (dk_at dksX5_number_3 4 rfl rfl)
theorem dX5_number_77 : decode cX5_number 77 = .ok (.aload_n 0, 1) := dk_42 (dk_at dksX5_number_3 7 rfl rfl)
theorem dX5_number_78 : decode cX5_number 78 = .ok (.getfield 19, 3) := dk_180 0 19 (dk_at dksX5_number_3 8 rfl rfl)
theorem dX5_number_81 : decode cX5_number 81 = .ok (.baload, 1) := dk_51 (dk_at dksX5_number_3 11 rfl rfl)
theorem dX5_number_82 : decode cX5_number 82 = .ok (.iadd, 1) := dk_96 (dk_at dksX5_number_3 12 rfl rfl)
theorem dX5_number_83 : decode cX5_number 83 = .ok (.bipush 48, 2) := dk_16 48 (dk_at dksX5_number_3 13 rfl rfl)
theorem dX5_number_85 : decode cX5_number 85 = .ok (.isub, 1) := dk_100 (dk_at dksX5_number_3 15 rfl rfl)
theorem dX5_number_86 : decode cX5_number 86 = .ok (.invokestatic 74, 3) := dk_184 0 74 (dk_at dksX5_number_3 16 rfl rfl)
theorem dX5_number_89 : decode cX5_number 89 = .ok (.istore 4, 2) := dk_54 4 (dk_at dksX5_number_3 19 rfl rfl)
theorem dX5_number_91 : decode cX5_number 91 = .ok (.aload_n 0, 1) := dk_42 (dk_at dksX5_number_3 21 rfl rfl)
theorem dX5_number_92 : decode cX5_number 92 = .ok (.dup, 1) := dk_89 (dk_at dksX5_number_3 22 rfl rfl)
theorem dX5_number_93 : decode cX5_number 93 = .ok (.getfield 19, 3) := dk_180 0 19 (dk_at dksX5_number_4 0 rfl rfl)
theorem dX5_number_96 : decode cX5_number 96 = .ok (.iconst 1, 1) := dk_4 (dk_at dksX5_number_4 3 rfl rfl)
theorem dX5_number_97 : decode cX5_number 97 = .ok (.iadd, 1) := dk_96 (dk_at dksX5_number_4 4 rfl rfl)
theorem dX5_number_98 : decode cX5_number 98 = .ok (.putfield 19, 3) := dk_181 0 19 (dk_at dksX5_number_4 5 rfl rfl)
theorem dX5_number_101 : decode cX5_number 101 = .ok (.goto (-74), 3) := dk_167 255 182 (dk_at dksX5_number_4 8 rfl rfl)
theorem dX5_number_104 : decode cX5_number 104 = .ok (.aload_n 0, 1) := dk_42 (dk_at dksX5_number_4 11 rfl rfl)
theorem dX5_number_105 : decode cX5_number 105 = .ok (.iload 4, 2) := dk_21 4 (dk_at dksX5_number_4 12 rfl rfl)
theorem dX5_number_107 : decode cX5_number 107 = .ok (.i2l, 1) := dk_133 (dk_at dksX5_number_4 14 rfl rfl)
theorem dX5_number_108 : decode cX5_number 108 = .ok (.iload_n 1, 1) := dk_27 (dk_at dksX5_number_4 15 rfl rfl)
theorem dX5_number_109 : decode cX5_number 109 = .ok (.i2l, 1) := dk_133 (dk_at dksX5_number_4 16 rfl rfl)
theorem dX5_number_110 : decode cX5_number 110 = .ok (.iload_n 2, 1) := dk_28 (dk_at dksX5_number_4 17 rfl rfl)
theorem dX5_number_111 : decode cX5_number 111 = .ok (.i2l, 1) := dk_133 (dk_at dksX5_number_4 18 rfl rfl)
theorem dX5_number_112 : decode cX5_number 112 = .ok (.invokestatic 30, 3) := dk_184 0 30 (dk_at dksX5_number_4 19 rfl rfl)
theorem dX5_number_115 : decode cX5_number 115 = .ok (.bipush (-3), 2) := dk_16 253 (dk_at dksX5_number_4 22 rfl rfl)
theorem dX5_number_117 : decode cX5_number 117 = .ok (.aload_n 0, 1) := dk_42 (dk_at dksX5_number_5 0 rfl rfl)
theorem dX5_number_118 : decode cX5_number 118 = .ok (.getfield 70, 3) := dk_180 0 70 (dk_at dksX5_number_5 1 rfl rfl)
theorem dX5_number_121 : decode cX5_number 121 = .ok (.invokevirtual 43, 3) := dk_182 0 43 (dk_at dksX5_number_5 4 rfl rfl)
theorem dX5_number_124 : decode cX5_number 124 = .ok (.iload 4, 2) := dk_21 4 (dk_at dksX5_number_5 7 rfl rfl)
theorem dX5_number_126 : decode cX5_number 126 = .ok (.ireturn, 1) := dk_172 (dk_at dksX5_number_5 9 rfl rfl)
abbrev cX5_isDigit : ByteArray := prog_4_method_7_code
def yX5_isDigit : MethodName := ⟨RX5, "isDigit", "()Z"⟩
def dkwX5_isDigit_0 : List UInt8 := [42, 182, 0, 39, 133, 20, 0, 62, 20, 0, 64, 184, 0, 30, 172]
abbrev dktX5_isDigit_0 : List UInt8 := dkwX5_isDigit_0 ++ []
theorem dksX5_isDigit_0 : cX5_isDigit.data.toList.drop 0 = dktX5_isDigit_0 := by decide +kernel
theorem dX5_isDigit_0 : decode cX5_isDigit 0 = .ok (.aload_n 0, 1) := dk_42 (dk_at dksX5_isDigit_0 0 rfl rfl)
theorem dX5_isDigit_1 : decode cX5_isDigit 1 = .ok (.invokevirtual 39, 3) := dk_182 0 39 (dk_at dksX5_isDigit_0 1 rfl rfl)
theorem dX5_isDigit_4 : decode cX5_isDigit 4 = .ok (.i2l, 1) := dk_133 (dk_at dksX5_isDigit_0 4 rfl rfl)
theorem dX5_isDigit_5 : decode cX5_isDigit 5 = .ok (.ldc2_w 62, 3) := dk_20 0 62 (dk_at dksX5_isDigit_0 5 rfl rfl)
theorem dX5_isDigit_8 : decode cX5_isDigit 8 = .ok (.ldc2_w 64, 3) := dk_20 0 64 (dk_at dksX5_isDigit_0 8 rfl rfl)
theorem dX5_isDigit_11 : decode cX5_isDigit 11 = .ok (.invokestatic 30, 3) := dk_184 0 30 (dk_at dksX5_isDigit_0 11 rfl rfl)
theorem dX5_isDigit_14 : decode cX5_isDigit 14 = .ok (.ireturn, 1) := dk_172 (dk_at dksX5_isDigit_0 14 rfl rfl)
abbrev cX5_expect : ByteArray := prog_4_method_5_code
def yX5_expect : MethodName := ⟨RX5, "expect", "(I)V"⟩
def dkwX5_expect_1 : List UInt8 := [182, 0, 43, 42, 89, 180, 0, 19, 4, 96, 181, 0, 19, 177]
abbrev dktX5_expect_1 : List UInt8 := dkwX5_expect_1 ++ []
def dkwX5_expect_0 : List UInt8 := [42, 182, 0, 39, 27, 160, 0, 7, 4, 167, 0, 4, 3, 61, 42, 28, 16, 254, 42, 180, 0, 19]
abbrev dktX5_expect_0 : List UInt8 := dkwX5_expect_0 ++ dktX5_expect_1
theorem dksX5_expect_0 : cX5_expect.data.toList.drop 0 = dktX5_expect_0 := by decide +kernel
theorem dksX5_expect_1 : cX5_expect.data.toList.drop 22 = dktX5_expect_1 := dk_seg dksX5_expect_0 22 rfl rfl
theorem dX5_expect_0 : decode cX5_expect 0 = .ok (.aload_n 0, 1) := dk_42 (dk_at dksX5_expect_0 0 rfl rfl)
theorem dX5_expect_1 : decode cX5_expect 1 = .ok (.invokevirtual 39, 3) := dk_182 0 39 (dk_at dksX5_expect_0 1 rfl rfl)
theorem dX5_expect_4 : decode cX5_expect 4 = .ok (.iload_n 1, 1) := dk_27 (dk_at dksX5_expect_0 4 rfl rfl)
theorem dX5_expect_5 : decode cX5_expect 5 = .ok (.if_icmp .ne 7, 3) := dk_160 0 7 (dk_at dksX5_expect_0 5 rfl rfl)
theorem dX5_expect_8 : decode cX5_expect 8 = .ok (.iconst 1, 1) := dk_4 (dk_at dksX5_expect_0 8 rfl rfl)
theorem dX5_expect_9 : decode cX5_expect 9 = .ok (.goto 4, 3) := dk_167 0 4 (dk_at dksX5_expect_0 9 rfl rfl)
theorem dX5_expect_12 : decode cX5_expect 12 = .ok (.iconst 0, 1) := dk_3 (dk_at dksX5_expect_0 12 rfl rfl)
theorem dX5_expect_13 : decode cX5_expect 13 = .ok (.istore_n 2, 1) := dk_61 (dk_at dksX5_expect_0 13 rfl rfl)
theorem dX5_expect_14 : decode cX5_expect 14 = .ok (.aload_n 0, 1) := dk_42 (dk_at dksX5_expect_0 14 rfl rfl)
theorem dX5_expect_15 : decode cX5_expect 15 = .ok (.iload_n 2, 1) := dk_28 (dk_at dksX5_expect_0 15 rfl rfl)
theorem dX5_expect_16 : decode cX5_expect 16 = .ok (.bipush (-2), 2) := dk_16 254 (dk_at dksX5_expect_0 16 rfl rfl)
theorem dX5_expect_18 : decode cX5_expect 18 = .ok (.aload_n 0, 1) := dk_42 (dk_at dksX5_expect_0 18 rfl rfl)
theorem dX5_expect_19 : decode cX5_expect 19 = .ok (.getfield 19, 3) := dk_180 0 19 (dk_at dksX5_expect_0 19 rfl rfl)
theorem dX5_expect_22 : decode cX5_expect 22 = .ok (.invokevirtual 43, 3) := dk_182 0 43 (dk_at dksX5_expect_1 0 rfl rfl)
theorem dX5_expect_25 : decode cX5_expect 25 = .ok (.aload_n 0, 1) := dk_42 (dk_at dksX5_expect_1 3 rfl rfl)
theorem dX5_expect_26 : decode cX5_expect 26 = .ok (.dup, 1) := dk_89 (dk_at dksX5_expect_1 4 rfl rfl)
theorem dX5_expect_27 : decode cX5_expect 27 = .ok (.getfield 19, 3) := dk_180 0 19 (dk_at dksX5_expect_1 5 rfl rfl)
theorem dX5_expect_30 : decode cX5_expect 30 = .ok (.iconst 1, 1) := dk_4 (dk_at dksX5_expect_1 8 rfl rfl)
theorem dX5_expect_31 : decode cX5_expect 31 = .ok (.iadd, 1) := dk_96 (dk_at dksX5_expect_1 9 rfl rfl)
theorem dX5_expect_32 : decode cX5_expect 32 = .ok (.putfield 19, 3) := dk_181 0 19 (dk_at dksX5_expect_1 10 rfl rfl)
theorem dX5_expect_35 : decode cX5_expect 35 = .ok (.return_, 1) := dk_177 (dk_at dksX5_expect_1 13 rfl rfl)
abbrev cX5_statement : ByteArray := prog_4_method_15_code
def yX5_statement : MethodName := ⟨RX5, "statement", "()V"⟩
def dkwX5_statement_9 : List UInt8 := [182, 0, 97, 177]
abbrev dktX5_statement_9 : List UInt8 := dkwX5_statement_9 ++ []
def dkwX5_statement_8 : List UInt8 := [182, 0, 94, 181, 0, 209, 167, 0, 14, 187, 0, 34, 89, 16, 254, 28, 183, 0, 36, 191, 42, 16, 59]
abbrev dktX5_statement_8 : List UInt8 := dkwX5_statement_8 ++ dktX5_statement_9
def dkwX5_statement_7 : List UInt8 := [4, 167, 0, 4, 3, 16, 254, 28, 182, 0, 43, 42, 4, 181, 0, 206, 42, 180, 0, 119, 180, 0, 123, 42]
abbrev dktX5_statement_7 : List UInt8 := dkwX5_statement_7 ++ dktX5_statement_8
def dkwX5_statement_6 : List UInt8 := [42, 28, 182, 0, 202, 167, 0, 63, 42, 28, 182, 0, 204, 167, 0, 55, 42, 42, 180, 0, 206, 154, 0, 7]
abbrev dktX5_statement_6 : List UInt8 := dkwX5_statement_6 ++ dktX5_statement_7
def dkwX5_statement_5 : List UInt8 := [170, 0, 0, 0, 0, 0, 0, 85, 0, 0, 0, 0, 0, 0, 0, 2, 0, 0, 0, 28, 0, 0, 0, 36, 0, 0, 0, 44]
abbrev dktX5_statement_5 : List UInt8 := dkwX5_statement_5 ++ dktX5_statement_6
def dkwX5_statement_4 : List UInt8 := [4, 54, 4, 167, 0, 15, 45, 18, 200, 182, 0, 195, 153, 0, 6, 5, 54, 4, 21, 4]
abbrev dktX5_statement_4 : List UInt8 := dkwX5_statement_4 ++ dktX5_statement_5
def dkwX5_statement_3 : List UInt8 := [45, 18, 193, 182, 0, 195, 153, 0, 36, 3, 54, 4, 167, 0, 30, 45, 18, 198, 182, 0, 195, 153, 0, 21]
abbrev dktX5_statement_3 : List UInt8 := dkwX5_statement_3 ++ dktX5_statement_4
def dkwX5_statement_2 : List UInt8 := [171, 0, 0, 0, 0, 0, 0, 78, 0, 0, 0, 3, 232, 78, 85, 58, 0, 0, 0, 51, 6, 131, 62, 146, 0, 0, 0, 66, 6, 138, 248, 101, 0, 0, 0, 36]
abbrev dktX5_statement_2 : List UInt8 := dkwX5_statement_2 ++ dktX5_statement_3
def dkwX5_statement_1 : List UInt8 := [78, 2, 54, 4, 45, 182, 0, 190]
abbrev dktX5_statement_1 : List UInt8 := dkwX5_statement_1 ++ dktX5_statement_2
def dkwX5_statement_0 : List UInt8 := [42, 182, 0, 108, 76, 42, 180, 0, 19, 61, 42, 89, 180, 0, 19, 43, 182, 0, 115, 96, 181, 0, 19, 43]
abbrev dktX5_statement_0 : List UInt8 := dkwX5_statement_0 ++ dktX5_statement_1
theorem dksX5_statement_0 : cX5_statement.data.toList.drop 0 = dktX5_statement_0 := by decide +kernel
theorem dksX5_statement_1 : cX5_statement.data.toList.drop 24 = dktX5_statement_1 := dk_seg dksX5_statement_0 24 rfl rfl
theorem dksX5_statement_2 : cX5_statement.data.toList.drop 32 = dktX5_statement_2 := dk_seg dksX5_statement_1 8 rfl rfl
theorem dksX5_statement_3 : cX5_statement.data.toList.drop 68 = dktX5_statement_3 := dk_seg dksX5_statement_2 36 rfl rfl
theorem dksX5_statement_4 : cX5_statement.data.toList.drop 92 = dktX5_statement_4 := dk_seg dksX5_statement_3 24 rfl rfl
theorem dksX5_statement_5 : cX5_statement.data.toList.drop 112 = dktX5_statement_5 := dk_seg dksX5_statement_4 20 rfl rfl
theorem dksX5_statement_6 : cX5_statement.data.toList.drop 140 = dktX5_statement_6 := dk_seg dksX5_statement_5 28 rfl rfl
theorem dksX5_statement_7 : cX5_statement.data.toList.drop 164 = dktX5_statement_7 := dk_seg dksX5_statement_6 24 rfl rfl
theorem dksX5_statement_8 : cX5_statement.data.toList.drop 188 = dktX5_statement_8 := dk_seg dksX5_statement_7 24 rfl rfl
theorem dksX5_statement_9 : cX5_statement.data.toList.drop 211 = dktX5_statement_9 := dk_seg dksX5_statement_8 23 rfl rfl
theorem dX5_statement_0 : decode cX5_statement 0 = .ok (.aload_n 0, 1) := dk_42 (dk_at dksX5_statement_0 0 rfl rfl)
theorem dX5_statement_1 : decode cX5_statement 1 = .ok (.invokevirtual 108, 3) := dk_182 0 108 (dk_at dksX5_statement_0 1 rfl rfl)
theorem dX5_statement_4 : decode cX5_statement 4 = .ok (.astore_n 1, 1) := dk_76 (dk_at dksX5_statement_0 4 rfl rfl)
theorem dX5_statement_5 : decode cX5_statement 5 = .ok (.aload_n 0, 1) := dk_42 (dk_at dksX5_statement_0 5 rfl rfl)
theorem dX5_statement_6 : decode cX5_statement 6 = .ok (.getfield 19, 3) := dk_180 0 19 (dk_at dksX5_statement_0 6 rfl rfl)
theorem dX5_statement_9 : decode cX5_statement 9 = .ok (.istore_n 2, 1) := dk_61 (dk_at dksX5_statement_0 9 rfl rfl)
theorem dX5_statement_10 : decode cX5_statement 10 = .ok (.aload_n 0, 1) := dk_42 (dk_at dksX5_statement_0 10 rfl rfl)
theorem dX5_statement_11 : decode cX5_statement 11 = .ok (.dup, 1) := dk_89 (dk_at dksX5_statement_0 11 rfl rfl)
theorem dX5_statement_12 : decode cX5_statement 12 = .ok (.getfield 19, 3) := dk_180 0 19 (dk_at dksX5_statement_0 12 rfl rfl)
theorem dX5_statement_15 : decode cX5_statement 15 = .ok (.aload_n 1, 1) := dk_43 (dk_at dksX5_statement_0 15 rfl rfl)
theorem dX5_statement_16 : decode cX5_statement 16 = .ok (.invokevirtual 115, 3) := dk_182 0 115 (dk_at dksX5_statement_0 16 rfl rfl)
theorem dX5_statement_19 : decode cX5_statement 19 = .ok (.iadd, 1) := dk_96 (dk_at dksX5_statement_0 19 rfl rfl)
theorem dX5_statement_20 : decode cX5_statement 20 = .ok (.putfield 19, 3) := dk_181 0 19 (dk_at dksX5_statement_0 20 rfl rfl)
theorem dX5_statement_23 : decode cX5_statement 23 = .ok (.aload_n 1, 1) := dk_43 (dk_at dksX5_statement_0 23 rfl rfl)
theorem dX5_statement_24 : decode cX5_statement 24 = .ok (.astore_n 3, 1) := dk_78 (dk_at dksX5_statement_1 0 rfl rfl)
theorem dX5_statement_25 : decode cX5_statement 25 = .ok (.iconst (-1), 1) := dk_2 (dk_at dksX5_statement_1 1 rfl rfl)
theorem dX5_statement_26 : decode cX5_statement 26 = .ok (.istore 4, 2) := dk_54 4 (dk_at dksX5_statement_1 2 rfl rfl)
theorem dX5_statement_28 : decode cX5_statement 28 = .ok (.aload_n 3, 1) := dk_45 (dk_at dksX5_statement_1 4 rfl rfl)
theorem dX5_statement_29 : decode cX5_statement 29 = .ok (.invokevirtual 190, 3) := dk_182 0 190 (dk_at dksX5_statement_1 5 rfl rfl)
theorem dX5_statement_32 : decode cX5_statement 32 = .ok (.lookupswitch 78 #[(-397519558, 51), (109264530, 66), (109770853, 36)], 36) := by decide +kernel
theorem dX5_statement_68 : decode cX5_statement 68 = .ok (.aload_n 3, 1) := dk_45 (dk_at dksX5_statement_3 0 rfl rfl)
theorem dX5_statement_69 : decode cX5_statement 69 = .ok (.ldc 193, 2) := dk_18 193 (dk_at dksX5_statement_3 1 rfl rfl)
theorem dX5_statement_71 : decode cX5_statement 71 = .ok (.invokevirtual 195, 3) := dk_182 0 195 (dk_at dksX5_statement_3 3 rfl rfl)
theorem dX5_statement_74 : decode cX5_statement 74 = .ok (.ifCond .eq 36, 3) := dk_153 0 36 (dk_at dksX5_statement_3 6 rfl rfl)
theorem dX5_statement_77 : decode cX5_statement 77 = .ok (.iconst 0, 1) := dk_3 (dk_at dksX5_statement_3 9 rfl rfl)
theorem dX5_statement_78 : decode cX5_statement 78 = .ok (.istore 4, 2) := dk_54 4 (dk_at dksX5_statement_3 10 rfl rfl)
theorem dX5_statement_80 : decode cX5_statement 80 = .ok (.goto 30, 3) := dk_167 0 30 (dk_at dksX5_statement_3 12 rfl rfl)
theorem dX5_statement_83 : decode cX5_statement 83 = .ok (.aload_n 3, 1) := dk_45 (dk_at dksX5_statement_3 15 rfl rfl)
theorem dX5_statement_84 : decode cX5_statement 84 = .ok (.ldc 198, 2) := dk_18 198 (dk_at dksX5_statement_3 16 rfl rfl)
theorem dX5_statement_86 : decode cX5_statement 86 = .ok (.invokevirtual 195, 3) := dk_182 0 195 (dk_at dksX5_statement_3 18 rfl rfl)
theorem dX5_statement_89 : decode cX5_statement 89 = .ok (.ifCond .eq 21, 3) := dk_153 0 21 (dk_at dksX5_statement_3 21 rfl rfl)
theorem dX5_statement_92 : decode cX5_statement 92 = .ok (.iconst 1, 1) := dk_4 (dk_at dksX5_statement_4 0 rfl rfl)
theorem dX5_statement_93 : decode cX5_statement 93 = .ok (.istore 4, 2) := dk_54 4 (dk_at dksX5_statement_4 1 rfl rfl)
theorem dX5_statement_95 : decode cX5_statement 95 = .ok (.goto 15, 3) := dk_167 0 15 (dk_at dksX5_statement_4 3 rfl rfl)
theorem dX5_statement_98 : decode cX5_statement 98 = .ok (.aload_n 3, 1) := dk_45 (dk_at dksX5_statement_4 6 rfl rfl)
theorem dX5_statement_99 : decode cX5_statement 99 = .ok (.ldc 200, 2) := dk_18 200 (dk_at dksX5_statement_4 7 rfl rfl)
theorem dX5_statement_101 : decode cX5_statement 101 = .ok (.invokevirtual 195, 3) := dk_182 0 195 (dk_at dksX5_statement_4 9 rfl rfl)
theorem dX5_statement_104 : decode cX5_statement 104 = .ok (.ifCond .eq 6, 3) := dk_153 0 6 (dk_at dksX5_statement_4 12 rfl rfl)
theorem dX5_statement_107 : decode cX5_statement 107 = .ok (.iconst 2, 1) := dk_5 (dk_at dksX5_statement_4 15 rfl rfl)
theorem dX5_statement_108 : decode cX5_statement 108 = .ok (.istore 4, 2) := dk_54 4 (dk_at dksX5_statement_4 16 rfl rfl)
theorem dX5_statement_110 : decode cX5_statement 110 = .ok (.iload 4, 2) := dk_21 4 (dk_at dksX5_statement_4 18 rfl rfl)
theorem dX5_statement_112 : decode cX5_statement 112 = .ok (.tableswitch 85 0 2 #[28, 36, 44], 28) := by decide +kernel
theorem dX5_statement_140 : decode cX5_statement 140 = .ok (.aload_n 0, 1) := dk_42 (dk_at dksX5_statement_6 0 rfl rfl)
theorem dX5_statement_141 : decode cX5_statement 141 = .ok (.iload_n 2, 1) := dk_28 (dk_at dksX5_statement_6 1 rfl rfl)
theorem dX5_statement_142 : decode cX5_statement 142 = .ok (.invokevirtual 202, 3) := dk_182 0 202 (dk_at dksX5_statement_6 2 rfl rfl)
theorem dX5_statement_145 : decode cX5_statement 145 = .ok (.goto 63, 3) := dk_167 0 63 (dk_at dksX5_statement_6 5 rfl rfl)
theorem dX5_statement_148 : decode cX5_statement 148 = .ok (.aload_n 0, 1) := dk_42 (dk_at dksX5_statement_6 8 rfl rfl)
theorem dX5_statement_149 : decode cX5_statement 149 = .ok (.iload_n 2, 1) := dk_28 (dk_at dksX5_statement_6 9 rfl rfl)
theorem dX5_statement_150 : decode cX5_statement 150 = .ok (.invokevirtual 204, 3) := dk_182 0 204 (dk_at dksX5_statement_6 10 rfl rfl)
theorem dX5_statement_153 : decode cX5_statement 153 = .ok (.goto 55, 3) := dk_167 0 55 (dk_at dksX5_statement_6 13 rfl rfl)
theorem dX5_statement_156 : decode cX5_statement 156 = .ok (.aload_n 0, 1) := dk_42 (dk_at dksX5_statement_6 16 rfl rfl)
theorem dX5_statement_157 : decode cX5_statement 157 = .ok (.aload_n 0, 1) := dk_42 (dk_at dksX5_statement_6 17 rfl rfl)
theorem dX5_statement_158 : decode cX5_statement 158 = .ok (.getfield 206, 3) := dk_180 0 206 (dk_at dksX5_statement_6 18 rfl rfl)
theorem dX5_statement_161 : decode cX5_statement 161 = .ok (.ifCond .ne 7, 3) := dk_154 0 7 (dk_at dksX5_statement_6 21 rfl rfl)
theorem dX5_statement_164 : decode cX5_statement 164 = .ok (.iconst 1, 1) := dk_4 (dk_at dksX5_statement_7 0 rfl rfl)
theorem dX5_statement_165 : decode cX5_statement 165 = .ok (.goto 4, 3) := dk_167 0 4 (dk_at dksX5_statement_7 1 rfl rfl)
theorem dX5_statement_168 : decode cX5_statement 168 = .ok (.iconst 0, 1) := dk_3 (dk_at dksX5_statement_7 4 rfl rfl)
theorem dX5_statement_169 : decode cX5_statement 169 = .ok (.bipush (-2), 2) := dk_16 254 (dk_at dksX5_statement_7 5 rfl rfl)
theorem dX5_statement_171 : decode cX5_statement 171 = .ok (.iload_n 2, 1) := dk_28 (dk_at dksX5_statement_7 7 rfl rfl)
theorem dX5_statement_172 : decode cX5_statement 172 = .ok (.invokevirtual 43, 3) := dk_182 0 43 (dk_at dksX5_statement_7 8 rfl rfl)
theorem dX5_statement_175 : decode cX5_statement 175 = .ok (.aload_n 0, 1) := dk_42 (dk_at dksX5_statement_7 11 rfl rfl)
theorem dX5_statement_176 : decode cX5_statement 176 = .ok (.iconst 1, 1) := dk_4 (dk_at dksX5_statement_7 12 rfl rfl)
theorem dX5_statement_177 : decode cX5_statement 177 = .ok (.putfield 206, 3) := dk_181 0 206 (dk_at dksX5_statement_7 13 rfl rfl)
theorem dX5_statement_180 : decode cX5_statement 180 = .ok (.aload_n 0, 1) := dk_42 (dk_at dksX5_statement_7 16 rfl rfl)
theorem dX5_statement_181 : decode cX5_statement 181 = .ok (.getfield 119, 3) := dk_180 0 119 (dk_at dksX5_statement_7 17 rfl rfl)
theorem dX5_statement_184 : decode cX5_statement 184 = .ok (.getfield 123, 3) := dk_180 0 123 (dk_at dksX5_statement_7 20 rfl rfl)
theorem dX5_statement_187 : decode cX5_statement 187 = .ok (.aload_n 0, 1) := dk_42 (dk_at dksX5_statement_7 23 rfl rfl)
theorem dX5_statement_188 : decode cX5_statement 188 = .ok (.invokevirtual 94, 3) := dk_182 0 94 (dk_at dksX5_statement_8 0 rfl rfl)
theorem dX5_statement_191 : decode cX5_statement 191 = .ok (.putfield 209, 3) := dk_181 0 209 (dk_at dksX5_statement_8 3 rfl rfl)
theorem dX5_statement_194 : decode cX5_statement 194 = .ok (.goto 14, 3) := dk_167 0 14 (dk_at dksX5_statement_8 6 rfl rfl)
theorem dX5_statement_197 : decode cX5_statement 197 = .ok (.new 34, 3) := dk_187 0 34 (dk_at dksX5_statement_8 9 rfl rfl)
theorem dX5_statement_200 : decode cX5_statement 200 = .ok (.dup, 1) := dk_89 (dk_at dksX5_statement_8 12 rfl rfl)
theorem dX5_statement_201 : decode cX5_statement 201 = .ok (.bipush (-2), 2) := dk_16 254 (dk_at dksX5_statement_8 13 rfl rfl)
theorem dX5_statement_203 : decode cX5_statement 203 = .ok (.iload_n 2, 1) := dk_28 (dk_at dksX5_statement_8 15 rfl rfl)
theorem dX5_statement_204 : decode cX5_statement 204 = .ok (.invokespecial 36, 3) := dk_183 0 36 (dk_at dksX5_statement_8 16 rfl rfl)
theorem dX5_statement_207 : decode cX5_statement 207 = .ok (.athrow, 1) := dk_191 (dk_at dksX5_statement_8 19 rfl rfl)
theorem dX5_statement_208 : decode cX5_statement 208 = .ok (.aload_n 0, 1) := dk_42 (dk_at dksX5_statement_8 20 rfl rfl)
theorem dX5_statement_209 : decode cX5_statement 209 = .ok (.bipush 59, 2) := dk_16 59 (dk_at dksX5_statement_8 21 rfl rfl)
theorem dX5_statement_211 : decode cX5_statement 211 = .ok (.invokevirtual 97, 3) := dk_182 0 97 (dk_at dksX5_statement_9 0 rfl rfl)
theorem dX5_statement_214 : decode cX5_statement 214 = .ok (.return_, 1) := dk_177 (dk_at dksX5_statement_9 3 rfl rfl)
abbrev cX5_stone : ByteArray := prog_4_method_13_code
def yX5_stone : MethodName := ⟨RX5, "stone", "(I)V"⟩
def dkwX5_stone_4 : List UInt8 := [177]
abbrev dktX5_stone_4 : List UInt8 := dkwX5_stone_4 ++ []
def dkwX5_stone_3 : List UInt8 := [180, 0, 70, 182, 0, 43, 42, 180, 0, 119, 180, 0, 123, 44, 42, 4, 16, 99, 182, 0, 101, 182, 0, 160]
abbrev dktX5_stone_3 : List UInt8 := dkwX5_stone_3 ++ dktX5_stone_4
def dkwX5_stone_2 : List UInt8 := [154, 0, 18, 42, 180, 0, 119, 44, 182, 0, 157, 154, 0, 7, 4, 167, 0, 4, 3, 16, 252, 42]
abbrev dktX5_stone_2 : List UInt8 := dkwX5_stone_2 ++ dktX5_stone_3
def dkwX5_stone_1 : List UInt8 := [167, 0, 4, 3, 16, 251, 27, 182, 0, 43, 42, 182, 0, 149, 77, 42, 42, 180, 0, 119, 44, 182, 0, 153]
abbrev dktX5_stone_1 : List UInt8 := dkwX5_stone_1 ++ dktX5_stone_2
def dkwX5_stone_0 : List UInt8 := [42, 42, 180, 0, 119, 180, 0, 123, 180, 0, 140, 185, 0, 144, 1, 0, 16, 20, 162, 0, 7, 4]
abbrev dktX5_stone_0 : List UInt8 := dkwX5_stone_0 ++ dktX5_stone_1
theorem dksX5_stone_0 : cX5_stone.data.toList.drop 0 = dktX5_stone_0 := by decide +kernel
theorem dksX5_stone_1 : cX5_stone.data.toList.drop 22 = dktX5_stone_1 := dk_seg dksX5_stone_0 22 rfl rfl
theorem dksX5_stone_2 : cX5_stone.data.toList.drop 46 = dktX5_stone_2 := dk_seg dksX5_stone_1 24 rfl rfl
theorem dksX5_stone_3 : cX5_stone.data.toList.drop 68 = dktX5_stone_3 := dk_seg dksX5_stone_2 22 rfl rfl
theorem dksX5_stone_4 : cX5_stone.data.toList.drop 92 = dktX5_stone_4 := dk_seg dksX5_stone_3 24 rfl rfl
theorem dX5_stone_0 : decode cX5_stone 0 = .ok (.aload_n 0, 1) := dk_42 (dk_at dksX5_stone_0 0 rfl rfl)
theorem dX5_stone_1 : decode cX5_stone 1 = .ok (.aload_n 0, 1) := dk_42 (dk_at dksX5_stone_0 1 rfl rfl)
theorem dX5_stone_2 : decode cX5_stone 2 = .ok (.getfield 119, 3) := dk_180 0 119 (dk_at dksX5_stone_0 2 rfl rfl)
theorem dX5_stone_5 : decode cX5_stone 5 = .ok (.getfield 123, 3) := dk_180 0 123 (dk_at dksX5_stone_0 5 rfl rfl)
theorem dX5_stone_8 : decode cX5_stone 8 = .ok (.getfield 140, 3) := dk_180 0 140 (dk_at dksX5_stone_0 8 rfl rfl)
theorem dX5_stone_11 : decode cX5_stone 11 = .ok (.invokeinterface 144 1, 5) := by decide +kernel
theorem dX5_stone_16 : decode cX5_stone 16 = .ok (.bipush 20, 2) := dk_16 20 (dk_at dksX5_stone_0 16 rfl rfl)
theorem dX5_stone_18 : decode cX5_stone 18 = .ok (.if_icmp .ge 7, 3) := dk_162 0 7 (dk_at dksX5_stone_0 18 rfl rfl)
theorem dX5_stone_21 : decode cX5_stone 21 = .ok (.iconst 1, 1) := dk_4 (dk_at dksX5_stone_0 21 rfl rfl)
theorem dX5_stone_22 : decode cX5_stone 22 = .ok (.goto 4, 3) := dk_167 0 4 (dk_at dksX5_stone_1 0 rfl rfl)
theorem dX5_stone_25 : decode cX5_stone 25 = .ok (.iconst 0, 1) := dk_3 (dk_at dksX5_stone_1 3 rfl rfl)
theorem dX5_stone_26 : decode cX5_stone 26 = .ok (.bipush (-5), 2) := dk_16 251 (dk_at dksX5_stone_1 4 rfl rfl)
theorem dX5_stone_28 : decode cX5_stone 28 = .ok (.iload_n 1, 1) := dk_27 (dk_at dksX5_stone_1 6 rfl rfl)
theorem dX5_stone_29 : decode cX5_stone 29 = .ok (.invokevirtual 43, 3) := dk_182 0 43 (dk_at dksX5_stone_1 7 rfl rfl)
theorem dX5_stone_32 : decode cX5_stone 32 = .ok (.aload_n 0, 1) := dk_42 (dk_at dksX5_stone_1 10 rfl rfl)
theorem dX5_stone_33 : decode cX5_stone 33 = .ok (.invokevirtual 149, 3) := dk_182 0 149 (dk_at dksX5_stone_1 11 rfl rfl)
theorem dX5_stone_36 : decode cX5_stone 36 = .ok (.astore_n 2, 1) := dk_77 (dk_at dksX5_stone_1 14 rfl rfl)
theorem dX5_stone_37 : decode cX5_stone 37 = .ok (.aload_n 0, 1) := dk_42 (dk_at dksX5_stone_1 15 rfl rfl)
theorem dX5_stone_38 : decode cX5_stone 38 = .ok (.aload_n 0, 1) := dk_42 (dk_at dksX5_stone_1 16 rfl rfl)
theorem dX5_stone_39 : decode cX5_stone 39 = .ok (.getfield 119, 3) := dk_180 0 119 (dk_at dksX5_stone_1 17 rfl rfl)
theorem dX5_stone_42 : decode cX5_stone 42 = .ok (.aload_n 2, 1) := dk_44 (dk_at dksX5_stone_1 20 rfl rfl)
theorem dX5_stone_43 : decode cX5_stone 43 = .ok (.invokevirtual 153, 3) := dk_182 0 153 (dk_at dksX5_stone_1 21 rfl rfl)
theorem dX5_stone_46 : decode cX5_stone 46 = .ok (.ifCond .ne 18, 3) := dk_154 0 18 (dk_at dksX5_stone_2 0 rfl rfl)
theorem dX5_stone_49 : decode cX5_stone 49 = .ok (.aload_n 0, 1) := dk_42 (dk_at dksX5_stone_2 3 rfl rfl)
theorem dX5_stone_50 : decode cX5_stone 50 = .ok (.getfield 119, 3) := dk_180 0 119 (dk_at dksX5_stone_2 4 rfl rfl)
theorem dX5_stone_53 : decode cX5_stone 53 = .ok (.aload_n 2, 1) := dk_44 (dk_at dksX5_stone_2 7 rfl rfl)
theorem dX5_stone_54 : decode cX5_stone 54 = .ok (.invokevirtual 157, 3) := dk_182 0 157 (dk_at dksX5_stone_2 8 rfl rfl)
theorem dX5_stone_57 : decode cX5_stone 57 = .ok (.ifCond .ne 7, 3) := dk_154 0 7 (dk_at dksX5_stone_2 11 rfl rfl)
theorem dX5_stone_60 : decode cX5_stone 60 = .ok (.iconst 1, 1) := dk_4 (dk_at dksX5_stone_2 14 rfl rfl)
theorem dX5_stone_61 : decode cX5_stone 61 = .ok (.goto 4, 3) := dk_167 0 4 (dk_at dksX5_stone_2 15 rfl rfl)
theorem dX5_stone_64 : decode cX5_stone 64 = .ok (.iconst 0, 1) := dk_3 (dk_at dksX5_stone_2 18 rfl rfl)
theorem dX5_stone_65 : decode cX5_stone 65 = .ok (.bipush (-4), 2) := dk_16 252 (dk_at dksX5_stone_2 19 rfl rfl)
theorem dX5_stone_67 : decode cX5_stone 67 = .ok (.aload_n 0, 1) := dk_42 (dk_at dksX5_stone_2 21 rfl rfl)
theorem dX5_stone_68 : decode cX5_stone 68 = .ok (.getfield 70, 3) := dk_180 0 70 (dk_at dksX5_stone_3 0 rfl rfl)
theorem dX5_stone_71 : decode cX5_stone 71 = .ok (.invokevirtual 43, 3) := dk_182 0 43 (dk_at dksX5_stone_3 3 rfl rfl)
theorem dX5_stone_74 : decode cX5_stone 74 = .ok (.aload_n 0, 1) := dk_42 (dk_at dksX5_stone_3 6 rfl rfl)
theorem dX5_stone_75 : decode cX5_stone 75 = .ok (.getfield 119, 3) := dk_180 0 119 (dk_at dksX5_stone_3 7 rfl rfl)
theorem dX5_stone_78 : decode cX5_stone 78 = .ok (.getfield 123, 3) := dk_180 0 123 (dk_at dksX5_stone_3 10 rfl rfl)
theorem dX5_stone_81 : decode cX5_stone 81 = .ok (.aload_n 2, 1) := dk_44 (dk_at dksX5_stone_3 13 rfl rfl)
theorem dX5_stone_82 : decode cX5_stone 82 = .ok (.aload_n 0, 1) := dk_42 (dk_at dksX5_stone_3 14 rfl rfl)
theorem dX5_stone_83 : decode cX5_stone 83 = .ok (.iconst 1, 1) := dk_4 (dk_at dksX5_stone_3 15 rfl rfl)
theorem dX5_stone_84 : decode cX5_stone 84 = .ok (.bipush 99, 2) := dk_16 99 (dk_at dksX5_stone_3 16 rfl rfl)
theorem dX5_stone_86 : decode cX5_stone 86 = .ok (.invokevirtual 101, 3) := dk_182 0 101 (dk_at dksX5_stone_3 18 rfl rfl)
theorem dX5_stone_89 : decode cX5_stone 89 = .ok (.invokevirtual 160, 3) := dk_182 0 160 (dk_at dksX5_stone_3 21 rfl rfl)
theorem dX5_stone_92 : decode cX5_stone 92 = .ok (.return_, 1) := dk_177 (dk_at dksX5_stone_4 0 rfl rfl)
abbrev cX5_point : ByteArray := prog_4_method_12_code
def yX5_point : MethodName := ⟨RX5, "point", "()LCornerClaims$Point;"⟩
def dkwX5_point_1 : List UInt8 := [180, 0, 119, 180, 0, 123, 180, 0, 136, 182, 0, 101, 183, 0, 139, 176]
abbrev dktX5_point_1 : List UInt8 := dkwX5_point_1 ++ []
def dkwX5_point_0 : List UInt8 := [42, 3, 42, 180, 0, 119, 180, 0, 123, 180, 0, 129, 182, 0, 101, 60, 187, 0, 134, 89, 27, 42, 3, 42]
abbrev dktX5_point_0 : List UInt8 := dkwX5_point_0 ++ dktX5_point_1
theorem dksX5_point_0 : cX5_point.data.toList.drop 0 = dktX5_point_0 := by decide +kernel
theorem dksX5_point_1 : cX5_point.data.toList.drop 24 = dktX5_point_1 := dk_seg dksX5_point_0 24 rfl rfl
theorem dX5_point_0 : decode cX5_point 0 = .ok (.aload_n 0, 1) := dk_42 (dk_at dksX5_point_0 0 rfl rfl)
theorem dX5_point_1 : decode cX5_point 1 = .ok (.iconst 0, 1) := dk_3 (dk_at dksX5_point_0 1 rfl rfl)
theorem dX5_point_2 : decode cX5_point 2 = .ok (.aload_n 0, 1) := dk_42 (dk_at dksX5_point_0 2 rfl rfl)
theorem dX5_point_3 : decode cX5_point 3 = .ok (.getfield 119, 3) := dk_180 0 119 (dk_at dksX5_point_0 3 rfl rfl)
theorem dX5_point_6 : decode cX5_point 6 = .ok (.getfield 123, 3) := dk_180 0 123 (dk_at dksX5_point_0 6 rfl rfl)
theorem dX5_point_9 : decode cX5_point 9 = .ok (.getfield 129, 3) := dk_180 0 129 (dk_at dksX5_point_0 9 rfl rfl)
theorem dX5_point_12 : decode cX5_point 12 = .ok (.invokevirtual 101, 3) := dk_182 0 101 (dk_at dksX5_point_0 12 rfl rfl)
theorem dX5_point_15 : decode cX5_point 15 = .ok (.istore_n 1, 1) := dk_60 (dk_at dksX5_point_0 15 rfl rfl)
theorem dX5_point_16 : decode cX5_point 16 = .ok (.new 134, 3) := dk_187 0 134 (dk_at dksX5_point_0 16 rfl rfl)
theorem dX5_point_19 : decode cX5_point 19 = .ok (.dup, 1) := dk_89 (dk_at dksX5_point_0 19 rfl rfl)
theorem dX5_point_20 : decode cX5_point 20 = .ok (.iload_n 1, 1) := dk_27 (dk_at dksX5_point_0 20 rfl rfl)
theorem dX5_point_21 : decode cX5_point 21 = .ok (.aload_n 0, 1) := dk_42 (dk_at dksX5_point_0 21 rfl rfl)
theorem dX5_point_22 : decode cX5_point 22 = .ok (.iconst 0, 1) := dk_3 (dk_at dksX5_point_0 22 rfl rfl)
theorem dX5_point_23 : decode cX5_point 23 = .ok (.aload_n 0, 1) := dk_42 (dk_at dksX5_point_0 23 rfl rfl)
theorem dX5_point_24 : decode cX5_point 24 = .ok (.getfield 119, 3) := dk_180 0 119 (dk_at dksX5_point_1 0 rfl rfl)
theorem dX5_point_27 : decode cX5_point 27 = .ok (.getfield 123, 3) := dk_180 0 123 (dk_at dksX5_point_1 3 rfl rfl)
theorem dX5_point_30 : decode cX5_point 30 = .ok (.getfield 136, 3) := dk_180 0 136 (dk_at dksX5_point_1 6 rfl rfl)
theorem dX5_point_33 : decode cX5_point 33 = .ok (.invokevirtual 101, 3) := dk_182 0 101 (dk_at dksX5_point_1 9 rfl rfl)
theorem dX5_point_36 : decode cX5_point 36 = .ok (.invokespecial 139, 3) := dk_183 0 139 (dk_at dksX5_point_1 12 rfl rfl)
theorem dX5_point_39 : decode cX5_point 39 = .ok (.areturn, 1) := dk_176 (dk_at dksX5_point_1 15 rfl rfl)
abbrev cX5_polygon : ByteArray := prog_4_method_14_code
def yX5_polygon : MethodName := ⟨RX5, "polygon", "(I)V"⟩
def dkwX5_polygon_8 : List UInt8 := [154, 0, 7, 4, 167, 0, 4, 3, 16, 252, 42, 180, 0, 19, 182, 0, 43, 44, 4, 181, 0, 186, 177]
abbrev dktX5_polygon_8 : List UInt8 := dkwX5_polygon_8 ++ []
def dkwX5_polygon_7 : List UInt8 := [42, 182, 0, 39, 54, 4, 21, 4, 16, 59, 159, 0, 4, 177, 42, 42, 180, 0, 119, 44, 182, 0, 182]
abbrev dktX5_polygon_7 : List UInt8 := dkwX5_polygon_7 ++ dktX5_polygon_8
def dkwX5_polygon_6 : List UInt8 := [16, 252, 42, 180, 0, 70, 182, 0, 43, 44, 180, 0, 171, 25, 4, 185, 0, 174, 2, 0, 87, 167, 255, 203]
abbrev dktX5_polygon_6 : List UInt8 := dkwX5_polygon_6 ++ dktX5_polygon_7
def dkwX5_polygon_5 : List UInt8 := [182, 0, 149, 58, 4, 42, 42, 180, 0, 119, 44, 25, 4, 182, 0, 178, 154, 0, 7, 4, 167, 0, 4, 3]
abbrev dktX5_polygon_5 : List UInt8 := dkwX5_polygon_5 ++ dktX5_polygon_6
def dkwX5_polygon_4 : List UInt8 := [87, 42, 180, 0, 119, 180, 0, 164, 44, 185, 0, 174, 2, 0, 87, 42, 182, 0, 66, 153, 0, 52, 42]
abbrev dktX5_polygon_4 : List UInt8 := dkwX5_polygon_4 ++ dktX5_polygon_5
def dkwX5_polygon_3 : List UInt8 := [4, 167, 0, 4, 3, 16, 252, 42, 180, 0, 70, 182, 0, 43, 44, 180, 0, 171, 45, 185, 0, 174, 2, 0]
abbrev dktX5_polygon_3 : List UInt8 := dkwX5_polygon_3 ++ dktX5_polygon_4
def dkwX5_polygon_2 : List UInt8 := [78, 42, 42, 180, 0, 119, 45, 182, 0, 153, 154, 0, 18, 42, 180, 0, 119, 45, 182, 0, 157, 154, 0, 7]
abbrev dktX5_polygon_2 : List UInt8 := dkwX5_polygon_2 ++ dktX5_polygon_3
def dkwX5_polygon_1 : List UInt8 := [16, 251, 27, 182, 0, 43, 187, 0, 167, 89, 42, 3, 6, 182, 0, 101, 183, 0, 169, 77, 42, 182, 0, 149]
abbrev dktX5_polygon_1 : List UInt8 := dkwX5_polygon_1 ++ dktX5_polygon_2
def dkwX5_polygon_0 : List UInt8 := [42, 42, 180, 0, 119, 180, 0, 164, 185, 0, 144, 1, 0, 16, 6, 162, 0, 7, 4, 167, 0, 4, 3]
abbrev dktX5_polygon_0 : List UInt8 := dkwX5_polygon_0 ++ dktX5_polygon_1
theorem dksX5_polygon_0 : cX5_polygon.data.toList.drop 0 = dktX5_polygon_0 := by decide +kernel
theorem dksX5_polygon_1 : cX5_polygon.data.toList.drop 23 = dktX5_polygon_1 := dk_seg dksX5_polygon_0 23 rfl rfl
theorem dksX5_polygon_2 : cX5_polygon.data.toList.drop 47 = dktX5_polygon_2 := dk_seg dksX5_polygon_1 24 rfl rfl
theorem dksX5_polygon_3 : cX5_polygon.data.toList.drop 71 = dktX5_polygon_3 := dk_seg dksX5_polygon_2 24 rfl rfl
theorem dksX5_polygon_4 : cX5_polygon.data.toList.drop 95 = dktX5_polygon_4 := dk_seg dksX5_polygon_3 24 rfl rfl
theorem dksX5_polygon_5 : cX5_polygon.data.toList.drop 118 = dktX5_polygon_5 := dk_seg dksX5_polygon_4 23 rfl rfl
theorem dksX5_polygon_6 : cX5_polygon.data.toList.drop 142 = dktX5_polygon_6 := dk_seg dksX5_polygon_5 24 rfl rfl
theorem dksX5_polygon_7 : cX5_polygon.data.toList.drop 166 = dktX5_polygon_7 := dk_seg dksX5_polygon_6 24 rfl rfl
theorem dksX5_polygon_8 : cX5_polygon.data.toList.drop 189 = dktX5_polygon_8 := dk_seg dksX5_polygon_7 23 rfl rfl
theorem dX5_polygon_0 : decode cX5_polygon 0 = .ok (.aload_n 0, 1) := dk_42 (dk_at dksX5_polygon_0 0 rfl rfl)
theorem dX5_polygon_1 : decode cX5_polygon 1 = .ok (.aload_n 0, 1) := dk_42 (dk_at dksX5_polygon_0 1 rfl rfl)
theorem dX5_polygon_2 : decode cX5_polygon 2 = .ok (.getfield 119, 3) := dk_180 0 119 (dk_at dksX5_polygon_0 2 rfl rfl)
theorem dX5_polygon_5 : decode cX5_polygon 5 = .ok (.getfield 164, 3) := dk_180 0 164 (dk_at dksX5_polygon_0 5 rfl rfl)
theorem dX5_polygon_8 : decode cX5_polygon 8 = .ok (.invokeinterface 144 1, 5) := by decide +kernel
theorem dX5_polygon_13 : decode cX5_polygon 13 = .ok (.bipush 6, 2) := dk_16 6 (dk_at dksX5_polygon_0 13 rfl rfl)
theorem dX5_polygon_15 : decode cX5_polygon 15 = .ok (.if_icmp .ge 7, 3) := dk_162 0 7 (dk_at dksX5_polygon_0 15 rfl rfl)
theorem dX5_polygon_18 : decode cX5_polygon 18 = .ok (.iconst 1, 1) := dk_4 (dk_at dksX5_polygon_0 18 rfl rfl)
theorem dX5_polygon_19 : decode cX5_polygon 19 = .ok (.goto 4, 3) := dk_167 0 4 (dk_at dksX5_polygon_0 19 rfl rfl)
theorem dX5_polygon_22 : decode cX5_polygon 22 = .ok (.iconst 0, 1) := dk_3 (dk_at dksX5_polygon_0 22 rfl rfl)
theorem dX5_polygon_23 : decode cX5_polygon 23 = .ok (.bipush (-5), 2) := dk_16 251 (dk_at dksX5_polygon_1 0 rfl rfl)
theorem dX5_polygon_25 : decode cX5_polygon 25 = .ok (.iload_n 1, 1) := dk_27 (dk_at dksX5_polygon_1 2 rfl rfl)
theorem dX5_polygon_26 : decode cX5_polygon 26 = .ok (.invokevirtual 43, 3) := dk_182 0 43 (dk_at dksX5_polygon_1 3 rfl rfl)
theorem dX5_polygon_29 : decode cX5_polygon 29 = .ok (.new 167, 3) := dk_187 0 167 (dk_at dksX5_polygon_1 6 rfl rfl)
theorem dX5_polygon_32 : decode cX5_polygon 32 = .ok (.dup, 1) := dk_89 (dk_at dksX5_polygon_1 9 rfl rfl)
theorem dX5_polygon_33 : decode cX5_polygon 33 = .ok (.aload_n 0, 1) := dk_42 (dk_at dksX5_polygon_1 10 rfl rfl)
theorem dX5_polygon_34 : decode cX5_polygon 34 = .ok (.iconst 0, 1) := dk_3 (dk_at dksX5_polygon_1 11 rfl rfl)
theorem dX5_polygon_35 : decode cX5_polygon 35 = .ok (.iconst 3, 1) := dk_6 (dk_at dksX5_polygon_1 12 rfl rfl)
theorem dX5_polygon_36 : decode cX5_polygon 36 = .ok (.invokevirtual 101, 3) := dk_182 0 101 (dk_at dksX5_polygon_1 13 rfl rfl)
theorem dX5_polygon_39 : decode cX5_polygon 39 = .ok (.invokespecial 169, 3) := dk_183 0 169 (dk_at dksX5_polygon_1 16 rfl rfl)
theorem dX5_polygon_42 : decode cX5_polygon 42 = .ok (.astore_n 2, 1) := dk_77 (dk_at dksX5_polygon_1 19 rfl rfl)
theorem dX5_polygon_43 : decode cX5_polygon 43 = .ok (.aload_n 0, 1) := dk_42 (dk_at dksX5_polygon_1 20 rfl rfl)
theorem dX5_polygon_44 : decode cX5_polygon 44 = .ok (.invokevirtual 149, 3) := dk_182 0 149 (dk_at dksX5_polygon_1 21 rfl rfl)
theorem dX5_polygon_47 : decode cX5_polygon 47 = .ok (.astore_n 3, 1) := dk_78 (dk_at dksX5_polygon_2 0 rfl rfl)
theorem dX5_polygon_48 : decode cX5_polygon 48 = .ok (.aload_n 0, 1) := dk_42 (dk_at dksX5_polygon_2 1 rfl rfl)
theorem dX5_polygon_49 : decode cX5_polygon 49 = .ok (.aload_n 0, 1) := dk_42 (dk_at dksX5_polygon_2 2 rfl rfl)
theorem dX5_polygon_50 : decode cX5_polygon 50 = .ok (.getfield 119, 3) := dk_180 0 119 (dk_at dksX5_polygon_2 3 rfl rfl)
theorem dX5_polygon_53 : decode cX5_polygon 53 = .ok (.aload_n 3, 1) := dk_45 (dk_at dksX5_polygon_2 6 rfl rfl)
theorem dX5_polygon_54 : decode cX5_polygon 54 = .ok (.invokevirtual 153, 3) := dk_182 0 153 (dk_at dksX5_polygon_2 7 rfl rfl)
theorem dX5_polygon_57 : decode cX5_polygon 57 = .ok (.ifCond .ne 18, 3) := dk_154 0 18 (dk_at dksX5_polygon_2 10 rfl rfl)
theorem dX5_polygon_60 : decode cX5_polygon 60 = .ok (.aload_n 0, 1) := dk_42 (dk_at dksX5_polygon_2 13 rfl rfl)
theorem dX5_polygon_61 : decode cX5_polygon 61 = .ok (.getfield 119, 3) := dk_180 0 119 (dk_at dksX5_polygon_2 14 rfl rfl)
theorem dX5_polygon_64 : decode cX5_polygon 64 = .ok (.aload_n 3, 1) := dk_45 (dk_at dksX5_polygon_2 17 rfl rfl)
theorem dX5_polygon_65 : decode cX5_polygon 65 = .ok (.invokevirtual 157, 3) := dk_182 0 157 (dk_at dksX5_polygon_2 18 rfl rfl)
theorem dX5_polygon_68 : decode cX5_polygon 68 = .ok (.ifCond .ne 7, 3) := dk_154 0 7 (dk_at dksX5_polygon_2 21 rfl rfl)
theorem dX5_polygon_71 : decode cX5_polygon 71 = .ok (.iconst 1, 1) := dk_4 (dk_at dksX5_polygon_3 0 rfl rfl)
theorem dX5_polygon_72 : decode cX5_polygon 72 = .ok (.goto 4, 3) := dk_167 0 4 (dk_at dksX5_polygon_3 1 rfl rfl)
theorem dX5_polygon_75 : decode cX5_polygon 75 = .ok (.iconst 0, 1) := dk_3 (dk_at dksX5_polygon_3 4 rfl rfl)
theorem dX5_polygon_76 : decode cX5_polygon 76 = .ok (.bipush (-4), 2) := dk_16 252 (dk_at dksX5_polygon_3 5 rfl rfl)
theorem dX5_polygon_78 : decode cX5_polygon 78 = .ok (.aload_n 0, 1) := dk_42 (dk_at dksX5_polygon_3 7 rfl rfl)
theorem dX5_polygon_79 : decode cX5_polygon 79 = .ok (.getfield 70, 3) := dk_180 0 70 (dk_at dksX5_polygon_3 8 rfl rfl)
theorem dX5_polygon_82 : decode cX5_polygon 82 = .ok (.invokevirtual 43, 3) := dk_182 0 43 (dk_at dksX5_polygon_3 11 rfl rfl)
theorem dX5_polygon_85 : decode cX5_polygon 85 = .ok (.aload_n 2, 1) := dk_44 (dk_at dksX5_polygon_3 14 rfl rfl)
theorem dX5_polygon_86 : decode cX5_polygon 86 = .ok (.getfield 171, 3) := dk_180 0 171 (dk_at dksX5_polygon_3 15 rfl rfl)
theorem dX5_polygon_89 : decode cX5_polygon 89 = .ok (.aload_n 3, 1) := dk_45 (dk_at dksX5_polygon_3 18 rfl rfl)
theorem dX5_polygon_90 : decode cX5_polygon 90 = .ok (.invokeinterface 174 2, 5) := by decide +kernel
theorem dX5_polygon_95 : decode cX5_polygon 95 = .ok (.pop, 1) := dk_87 (dk_at dksX5_polygon_4 0 rfl rfl)
theorem dX5_polygon_96 : decode cX5_polygon 96 = .ok (.aload_n 0, 1) := dk_42 (dk_at dksX5_polygon_4 1 rfl rfl)
theorem dX5_polygon_97 : decode cX5_polygon 97 = .ok (.getfield 119, 3) := dk_180 0 119 (dk_at dksX5_polygon_4 2 rfl rfl)
theorem dX5_polygon_100 : decode cX5_polygon 100 = .ok (.getfield 164, 3) := dk_180 0 164 (dk_at dksX5_polygon_4 5 rfl rfl)
theorem dX5_polygon_103 : decode cX5_polygon 103 = .ok (.aload_n 2, 1) := dk_44 (dk_at dksX5_polygon_4 8 rfl rfl)
theorem dX5_polygon_104 : decode cX5_polygon 104 = .ok (.invokeinterface 174 2, 5) := by decide +kernel
theorem dX5_polygon_109 : decode cX5_polygon 109 = .ok (.pop, 1) := dk_87 (dk_at dksX5_polygon_4 14 rfl rfl)
theorem dX5_polygon_110 : decode cX5_polygon 110 = .ok (.aload_n 0, 1) := dk_42 (dk_at dksX5_polygon_4 15 rfl rfl)
theorem dX5_polygon_111 : decode cX5_polygon 111 = .ok (.invokevirtual 66, 3) := dk_182 0 66 (dk_at dksX5_polygon_4 16 rfl rfl)
theorem dX5_polygon_114 : decode cX5_polygon 114 = .ok (.ifCond .eq 52, 3) := dk_153 0 52 (dk_at dksX5_polygon_4 19 rfl rfl)
theorem dX5_polygon_117 : decode cX5_polygon 117 = .ok (.aload_n 0, 1) := dk_42 (dk_at dksX5_polygon_4 22 rfl rfl)
theorem dX5_polygon_118 : decode cX5_polygon 118 = .ok (.invokevirtual 149, 3) := dk_182 0 149 (dk_at dksX5_polygon_5 0 rfl rfl)
theorem dX5_polygon_121 : decode cX5_polygon 121 = .ok (.astore 4, 2) := dk_58 4 (dk_at dksX5_polygon_5 3 rfl rfl)
theorem dX5_polygon_123 : decode cX5_polygon 123 = .ok (.aload_n 0, 1) := dk_42 (dk_at dksX5_polygon_5 5 rfl rfl)
theorem dX5_polygon_124 : decode cX5_polygon 124 = .ok (.aload_n 0, 1) := dk_42 (dk_at dksX5_polygon_5 6 rfl rfl)
theorem dX5_polygon_125 : decode cX5_polygon 125 = .ok (.getfield 119, 3) := dk_180 0 119 (dk_at dksX5_polygon_5 7 rfl rfl)
theorem dX5_polygon_128 : decode cX5_polygon 128 = .ok (.aload_n 2, 1) := dk_44 (dk_at dksX5_polygon_5 10 rfl rfl)
theorem dX5_polygon_129 : decode cX5_polygon 129 = .ok (.aload 4, 2) := dk_25 4 (dk_at dksX5_polygon_5 11 rfl rfl)
theorem dX5_polygon_131 : decode cX5_polygon 131 = .ok (.invokevirtual 178, 3) := dk_182 0 178 (dk_at dksX5_polygon_5 13 rfl rfl)
theorem dX5_polygon_134 : decode cX5_polygon 134 = .ok (.ifCond .ne 7, 3) := dk_154 0 7 (dk_at dksX5_polygon_5 16 rfl rfl)
theorem dX5_polygon_137 : decode cX5_polygon 137 = .ok (.iconst 1, 1) := dk_4 (dk_at dksX5_polygon_5 19 rfl rfl)
theorem dX5_polygon_138 : decode cX5_polygon 138 = .ok (.goto 4, 3) := dk_167 0 4 (dk_at dksX5_polygon_5 20 rfl rfl)
theorem dX5_polygon_141 : decode cX5_polygon 141 = .ok (.iconst 0, 1) := dk_3 (dk_at dksX5_polygon_5 23 rfl rfl)
theorem dX5_polygon_142 : decode cX5_polygon 142 = .ok (.bipush (-4), 2) := dk_16 252 (dk_at dksX5_polygon_6 0 rfl rfl)
theorem dX5_polygon_144 : decode cX5_polygon 144 = .ok (.aload_n 0, 1) := dk_42 (dk_at dksX5_polygon_6 2 rfl rfl)
theorem dX5_polygon_145 : decode cX5_polygon 145 = .ok (.getfield 70, 3) := dk_180 0 70 (dk_at dksX5_polygon_6 3 rfl rfl)
theorem dX5_polygon_148 : decode cX5_polygon 148 = .ok (.invokevirtual 43, 3) := dk_182 0 43 (dk_at dksX5_polygon_6 6 rfl rfl)
theorem dX5_polygon_151 : decode cX5_polygon 151 = .ok (.aload_n 2, 1) := dk_44 (dk_at dksX5_polygon_6 9 rfl rfl)
theorem dX5_polygon_152 : decode cX5_polygon 152 = .ok (.getfield 171, 3) := dk_180 0 171 (dk_at dksX5_polygon_6 10 rfl rfl)
theorem dX5_polygon_155 : decode cX5_polygon 155 = .ok (.aload 4, 2) := dk_25 4 (dk_at dksX5_polygon_6 13 rfl rfl)
theorem dX5_polygon_157 : decode cX5_polygon 157 = .ok (.invokeinterface 174 2, 5) := by decide +kernel
theorem dX5_polygon_162 : decode cX5_polygon 162 = .ok (.pop, 1) := dk_87 (dk_at dksX5_polygon_6 20 rfl rfl)
theorem dX5_polygon_163 : decode cX5_polygon 163 = .ok (.goto (-53), 3) := dk_167 255 203 (dk_at dksX5_polygon_6 21 rfl rfl)
theorem dX5_polygon_166 : decode cX5_polygon 166 = .ok (.aload_n 0, 1) := dk_42 (dk_at dksX5_polygon_7 0 rfl rfl)
theorem dX5_polygon_167 : decode cX5_polygon 167 = .ok (.invokevirtual 39, 3) := dk_182 0 39 (dk_at dksX5_polygon_7 1 rfl rfl)
theorem dX5_polygon_170 : decode cX5_polygon 170 = .ok (.istore 4, 2) := dk_54 4 (dk_at dksX5_polygon_7 4 rfl rfl)
theorem dX5_polygon_172 : decode cX5_polygon 172 = .ok (.iload 4, 2) := dk_21 4 (dk_at dksX5_polygon_7 6 rfl rfl)
theorem dX5_polygon_174 : decode cX5_polygon 174 = .ok (.bipush 59, 2) := dk_16 59 (dk_at dksX5_polygon_7 8 rfl rfl)
theorem dX5_polygon_176 : decode cX5_polygon 176 = .ok (.if_icmp .eq 4, 3) := dk_159 0 4 (dk_at dksX5_polygon_7 10 rfl rfl)
theorem dX5_polygon_179 : decode cX5_polygon 179 = .ok (.return_, 1) := dk_177 (dk_at dksX5_polygon_7 13 rfl rfl)
theorem dX5_polygon_180 : decode cX5_polygon 180 = .ok (.aload_n 0, 1) := dk_42 (dk_at dksX5_polygon_7 14 rfl rfl)
theorem dX5_polygon_181 : decode cX5_polygon 181 = .ok (.aload_n 0, 1) := dk_42 (dk_at dksX5_polygon_7 15 rfl rfl)
theorem dX5_polygon_182 : decode cX5_polygon 182 = .ok (.getfield 119, 3) := dk_180 0 119 (dk_at dksX5_polygon_7 16 rfl rfl)
theorem dX5_polygon_185 : decode cX5_polygon 185 = .ok (.aload_n 2, 1) := dk_44 (dk_at dksX5_polygon_7 19 rfl rfl)
theorem dX5_polygon_186 : decode cX5_polygon 186 = .ok (.invokevirtual 182, 3) := dk_182 0 182 (dk_at dksX5_polygon_7 20 rfl rfl)
theorem dX5_polygon_189 : decode cX5_polygon 189 = .ok (.ifCond .ne 7, 3) := dk_154 0 7 (dk_at dksX5_polygon_8 0 rfl rfl)
theorem dX5_polygon_192 : decode cX5_polygon 192 = .ok (.iconst 1, 1) := dk_4 (dk_at dksX5_polygon_8 3 rfl rfl)
theorem dX5_polygon_193 : decode cX5_polygon 193 = .ok (.goto 4, 3) := dk_167 0 4 (dk_at dksX5_polygon_8 4 rfl rfl)
theorem dX5_polygon_196 : decode cX5_polygon 196 = .ok (.iconst 0, 1) := dk_3 (dk_at dksX5_polygon_8 7 rfl rfl)
theorem dX5_polygon_197 : decode cX5_polygon 197 = .ok (.bipush (-4), 2) := dk_16 252 (dk_at dksX5_polygon_8 8 rfl rfl)
theorem dX5_polygon_199 : decode cX5_polygon 199 = .ok (.aload_n 0, 1) := dk_42 (dk_at dksX5_polygon_8 10 rfl rfl)
theorem dX5_polygon_200 : decode cX5_polygon 200 = .ok (.getfield 19, 3) := dk_180 0 19 (dk_at dksX5_polygon_8 11 rfl rfl)
theorem dX5_polygon_203 : decode cX5_polygon 203 = .ok (.invokevirtual 43, 3) := dk_182 0 43 (dk_at dksX5_polygon_8 14 rfl rfl)
theorem dX5_polygon_206 : decode cX5_polygon 206 = .ok (.aload_n 2, 1) := dk_44 (dk_at dksX5_polygon_8 17 rfl rfl)
theorem dX5_polygon_207 : decode cX5_polygon 207 = .ok (.iconst 1, 1) := dk_4 (dk_at dksX5_polygon_8 18 rfl rfl)
theorem dX5_polygon_208 : decode cX5_polygon 208 = .ok (.putfield 186, 3) := dk_181 0 186 (dk_at dksX5_polygon_8 19 rfl rfl)
theorem dX5_polygon_211 : decode cX5_polygon 211 = .ok (.return_, 1) := dk_177 (dk_at dksX5_polygon_8 22 rfl rfl)
abbrev cX5_sum : ByteArray := prog_4_method_9_code
def yX5_sum : MethodName := ⟨RX5, "sum", "()LCornerClaims$Score;"⟩
def dkwX5_sum_2 : List UInt8 := [42, 182, 0, 80, 184, 0, 84, 76, 167, 255, 205, 43, 176]
abbrev dktX5_sum_2 : List UInt8 := dkwX5_sum_2 ++ []
def dkwX5_sum_1 : List UInt8 := [180, 0, 3, 180, 0, 22, 42, 180, 0, 19, 51, 61, 42, 89, 180, 0, 19, 4, 96, 181, 0, 19, 28, 43]
abbrev dktX5_sum_1 : List UInt8 := dkwX5_sum_1 ++ dktX5_sum_2
def dkwX5_sum_0 : List UInt8 := [42, 182, 0, 80, 76, 42, 182, 0, 39, 16, 43, 159, 0, 12, 42, 182, 0, 39, 16, 45, 160, 0, 39, 42]
abbrev dktX5_sum_0 : List UInt8 := dkwX5_sum_0 ++ dktX5_sum_1
theorem dksX5_sum_0 : cX5_sum.data.toList.drop 0 = dktX5_sum_0 := by decide +kernel
theorem dksX5_sum_1 : cX5_sum.data.toList.drop 24 = dktX5_sum_1 := dk_seg dksX5_sum_0 24 rfl rfl
theorem dksX5_sum_2 : cX5_sum.data.toList.drop 48 = dktX5_sum_2 := dk_seg dksX5_sum_1 24 rfl rfl
theorem dX5_sum_0 : decode cX5_sum 0 = .ok (.aload_n 0, 1) := dk_42 (dk_at dksX5_sum_0 0 rfl rfl)
theorem dX5_sum_1 : decode cX5_sum 1 = .ok (.invokevirtual 80, 3) := dk_182 0 80 (dk_at dksX5_sum_0 1 rfl rfl)
theorem dX5_sum_4 : decode cX5_sum 4 = .ok (.astore_n 1, 1) := dk_76 (dk_at dksX5_sum_0 4 rfl rfl)
theorem dX5_sum_5 : decode cX5_sum 5 = .ok (.aload_n 0, 1) := dk_42 (dk_at dksX5_sum_0 5 rfl rfl)
theorem dX5_sum_6 : decode cX5_sum 6 = .ok (.invokevirtual 39, 3) := dk_182 0 39 (dk_at dksX5_sum_0 6 rfl rfl)
theorem dX5_sum_9 : decode cX5_sum 9 = .ok (.bipush 43, 2) := dk_16 43 (dk_at dksX5_sum_0 9 rfl rfl)
theorem dX5_sum_11 : decode cX5_sum 11 = .ok (.if_icmp .eq 12, 3) := dk_159 0 12 (dk_at dksX5_sum_0 11 rfl rfl)
theorem dX5_sum_14 : decode cX5_sum 14 = .ok (.aload_n 0, 1) := dk_42 (dk_at dksX5_sum_0 14 rfl rfl)
theorem dX5_sum_15 : decode cX5_sum 15 = .ok (.invokevirtual 39, 3) := dk_182 0 39 (dk_at dksX5_sum_0 15 rfl rfl)
theorem dX5_sum_18 : decode cX5_sum 18 = .ok (.bipush 45, 2) := dk_16 45 (dk_at dksX5_sum_0 18 rfl rfl)
theorem dX5_sum_20 : decode cX5_sum 20 = .ok (.if_icmp .ne 39, 3) := dk_160 0 39 (dk_at dksX5_sum_0 20 rfl rfl)
theorem dX5_sum_23 : decode cX5_sum 23 = .ok (.aload_n 0, 1) := dk_42 (dk_at dksX5_sum_0 23 rfl rfl)
theorem dX5_sum_24 : decode cX5_sum 24 = .ok (.getfield 3, 3) := dk_180 0 3 (dk_at dksX5_sum_1 0 rfl rfl)
theorem dX5_sum_27 : decode cX5_sum 27 = .ok (.getfield 22, 3) := dk_180 0 22 (dk_at dksX5_sum_1 3 rfl rfl)
theorem dX5_sum_30 : decode cX5_sum 30 = .ok (.aload_n 0, 1) := dk_42 (dk_at dksX5_sum_1 6 rfl rfl)
theorem dX5_sum_31 : decode cX5_sum 31 = .ok (.getfield 19, 3) := dk_180 0 19 (dk_at dksX5_sum_1 7 rfl rfl)
theorem dX5_sum_34 : decode cX5_sum 34 = .ok (.baload, 1) := dk_51 (dk_at dksX5_sum_1 10 rfl rfl)
theorem dX5_sum_35 : decode cX5_sum 35 = .ok (.istore_n 2, 1) := dk_61 (dk_at dksX5_sum_1 11 rfl rfl)
theorem dX5_sum_36 : decode cX5_sum 36 = .ok (.aload_n 0, 1) := dk_42 (dk_at dksX5_sum_1 12 rfl rfl)
theorem dX5_sum_37 : decode cX5_sum 37 = .ok (.dup, 1) := dk_89 (dk_at dksX5_sum_1 13 rfl rfl)
theorem dX5_sum_38 : decode cX5_sum 38 = .ok (.getfield 19, 3) := dk_180 0 19 (dk_at dksX5_sum_1 14 rfl rfl)
theorem dX5_sum_41 : decode cX5_sum 41 = .ok (.iconst 1, 1) := dk_4 (dk_at dksX5_sum_1 17 rfl rfl)
theorem dX5_sum_42 : decode cX5_sum 42 = .ok (.iadd, 1) := dk_96 (dk_at dksX5_sum_1 18 rfl rfl)
theorem dX5_sum_43 : decode cX5_sum 43 = .ok (.putfield 19, 3) := dk_181 0 19 (dk_at dksX5_sum_1 19 rfl rfl)
theorem dX5_sum_46 : decode cX5_sum 46 = .ok (.iload_n 2, 1) := dk_28 (dk_at dksX5_sum_1 22 rfl rfl)
theorem dX5_sum_47 : decode cX5_sum 47 = .ok (.aload_n 1, 1) := dk_43 (dk_at dksX5_sum_1 23 rfl rfl)
theorem dX5_sum_48 : decode cX5_sum 48 = .ok (.aload_n 0, 1) := dk_42 (dk_at dksX5_sum_2 0 rfl rfl)
theorem dX5_sum_49 : decode cX5_sum 49 = .ok (.invokevirtual 80, 3) := dk_182 0 80 (dk_at dksX5_sum_2 1 rfl rfl)
theorem dX5_sum_52 : decode cX5_sum 52 = .ok (.invokestatic 84, 3) := dk_184 0 84 (dk_at dksX5_sum_2 4 rfl rfl)
theorem dX5_sum_55 : decode cX5_sum 55 = .ok (.astore_n 1, 1) := dk_76 (dk_at dksX5_sum_2 7 rfl rfl)
theorem dX5_sum_56 : decode cX5_sum 56 = .ok (.goto (-51), 3) := dk_167 255 205 (dk_at dksX5_sum_2 8 rfl rfl)
theorem dX5_sum_59 : decode cX5_sum 59 = .ok (.aload_n 1, 1) := dk_43 (dk_at dksX5_sum_2 11 rfl rfl)
theorem dX5_sum_60 : decode cX5_sum 60 = .ok (.areturn, 1) := dk_176 (dk_at dksX5_sum_2 12 rfl rfl)
abbrev cX5_term : ByteArray := prog_4_method_10_code
def yX5_term : MethodName := ⟨RX5, "term", "()LCornerClaims$Score;"⟩
def dkwX5_term_2 : List UInt8 := [42, 182, 0, 88, 184, 0, 84, 76, 167, 255, 205, 43, 176]
abbrev dktX5_term_2 : List UInt8 := dkwX5_term_2 ++ []
def dkwX5_term_1 : List UInt8 := [180, 0, 3, 180, 0, 22, 42, 180, 0, 19, 51, 61, 42, 89, 180, 0, 19, 4, 96, 181, 0, 19, 28, 43]
abbrev dktX5_term_1 : List UInt8 := dkwX5_term_1 ++ dktX5_term_2
def dkwX5_term_0 : List UInt8 := [42, 182, 0, 88, 76, 42, 182, 0, 39, 16, 42, 159, 0, 12, 42, 182, 0, 39, 16, 47, 160, 0, 39, 42]
abbrev dktX5_term_0 : List UInt8 := dkwX5_term_0 ++ dktX5_term_1
theorem dksX5_term_0 : cX5_term.data.toList.drop 0 = dktX5_term_0 := by decide +kernel
theorem dksX5_term_1 : cX5_term.data.toList.drop 24 = dktX5_term_1 := dk_seg dksX5_term_0 24 rfl rfl
theorem dksX5_term_2 : cX5_term.data.toList.drop 48 = dktX5_term_2 := dk_seg dksX5_term_1 24 rfl rfl
theorem dX5_term_0 : decode cX5_term 0 = .ok (.aload_n 0, 1) := dk_42 (dk_at dksX5_term_0 0 rfl rfl)
theorem dX5_term_1 : decode cX5_term 1 = .ok (.invokevirtual 88, 3) := dk_182 0 88 (dk_at dksX5_term_0 1 rfl rfl)
theorem dX5_term_4 : decode cX5_term 4 = .ok (.astore_n 1, 1) := dk_76 (dk_at dksX5_term_0 4 rfl rfl)
theorem dX5_term_5 : decode cX5_term 5 = .ok (.aload_n 0, 1) := dk_42 (dk_at dksX5_term_0 5 rfl rfl)
theorem dX5_term_6 : decode cX5_term 6 = .ok (.invokevirtual 39, 3) := dk_182 0 39 (dk_at dksX5_term_0 6 rfl rfl)
theorem dX5_term_9 : decode cX5_term 9 = .ok (.bipush 42, 2) := dk_16 42 (dk_at dksX5_term_0 9 rfl rfl)
theorem dX5_term_11 : decode cX5_term 11 = .ok (.if_icmp .eq 12, 3) := dk_159 0 12 (dk_at dksX5_term_0 11 rfl rfl)
theorem dX5_term_14 : decode cX5_term 14 = .ok (.aload_n 0, 1) := dk_42 (dk_at dksX5_term_0 14 rfl rfl)
theorem dX5_term_15 : decode cX5_term 15 = .ok (.invokevirtual 39, 3) := dk_182 0 39 (dk_at dksX5_term_0 15 rfl rfl)
theorem dX5_term_18 : decode cX5_term 18 = .ok (.bipush 47, 2) := dk_16 47 (dk_at dksX5_term_0 18 rfl rfl)
theorem dX5_term_20 : decode cX5_term 20 = .ok (.if_icmp .ne 39, 3) := dk_160 0 39 (dk_at dksX5_term_0 20 rfl rfl)
theorem dX5_term_23 : decode cX5_term 23 = .ok (.aload_n 0, 1) := dk_42 (dk_at dksX5_term_0 23 rfl rfl)
theorem dX5_term_24 : decode cX5_term 24 = .ok (.getfield 3, 3) := dk_180 0 3 (dk_at dksX5_term_1 0 rfl rfl)
theorem dX5_term_27 : decode cX5_term 27 = .ok (.getfield 22, 3) := dk_180 0 22 (dk_at dksX5_term_1 3 rfl rfl)
theorem dX5_term_30 : decode cX5_term 30 = .ok (.aload_n 0, 1) := dk_42 (dk_at dksX5_term_1 6 rfl rfl)
theorem dX5_term_31 : decode cX5_term 31 = .ok (.getfield 19, 3) := dk_180 0 19 (dk_at dksX5_term_1 7 rfl rfl)
theorem dX5_term_34 : decode cX5_term 34 = .ok (.baload, 1) := dk_51 (dk_at dksX5_term_1 10 rfl rfl)
theorem dX5_term_35 : decode cX5_term 35 = .ok (.istore_n 2, 1) := dk_61 (dk_at dksX5_term_1 11 rfl rfl)
theorem dX5_term_36 : decode cX5_term 36 = .ok (.aload_n 0, 1) := dk_42 (dk_at dksX5_term_1 12 rfl rfl)
theorem dX5_term_37 : decode cX5_term 37 = .ok (.dup, 1) := dk_89 (dk_at dksX5_term_1 13 rfl rfl)
theorem dX5_term_38 : decode cX5_term 38 = .ok (.getfield 19, 3) := dk_180 0 19 (dk_at dksX5_term_1 14 rfl rfl)
theorem dX5_term_41 : decode cX5_term 41 = .ok (.iconst 1, 1) := dk_4 (dk_at dksX5_term_1 17 rfl rfl)
theorem dX5_term_42 : decode cX5_term 42 = .ok (.iadd, 1) := dk_96 (dk_at dksX5_term_1 18 rfl rfl)
theorem dX5_term_43 : decode cX5_term 43 = .ok (.putfield 19, 3) := dk_181 0 19 (dk_at dksX5_term_1 19 rfl rfl)
theorem dX5_term_46 : decode cX5_term 46 = .ok (.iload_n 2, 1) := dk_28 (dk_at dksX5_term_1 22 rfl rfl)
theorem dX5_term_47 : decode cX5_term 47 = .ok (.aload_n 1, 1) := dk_43 (dk_at dksX5_term_1 23 rfl rfl)
theorem dX5_term_48 : decode cX5_term 48 = .ok (.aload_n 0, 1) := dk_42 (dk_at dksX5_term_2 0 rfl rfl)
theorem dX5_term_49 : decode cX5_term 49 = .ok (.invokevirtual 88, 3) := dk_182 0 88 (dk_at dksX5_term_2 1 rfl rfl)
theorem dX5_term_52 : decode cX5_term 52 = .ok (.invokestatic 84, 3) := dk_184 0 84 (dk_at dksX5_term_2 4 rfl rfl)
theorem dX5_term_55 : decode cX5_term 55 = .ok (.astore_n 1, 1) := dk_76 (dk_at dksX5_term_2 7 rfl rfl)
theorem dX5_term_56 : decode cX5_term 56 = .ok (.goto (-51), 3) := dk_167 255 205 (dk_at dksX5_term_2 8 rfl rfl)
theorem dX5_term_59 : decode cX5_term 59 = .ok (.aload_n 1, 1) := dk_43 (dk_at dksX5_term_2 11 rfl rfl)
theorem dX5_term_60 : decode cX5_term 60 = .ok (.areturn, 1) := dk_176 (dk_at dksX5_term_2 12 rfl rfl)
abbrev cX5_factor : ByteArray := prog_4_method_11_code
def yX5_factor : MethodName := ⟨RX5, "factor", "()LCornerClaims$Score;"⟩
def dkwX5_factor_6 : List UInt8 := [181, 0, 19, 44, 176]
abbrev dktX5_factor_6 : List UInt8 := dkwX5_factor_6 ++ []
def dkwX5_factor_5 : List UInt8 := [167, 0, 4, 3, 16, 254, 42, 180, 0, 19, 182, 0, 43, 42, 89, 180, 0, 19, 43, 182, 0, 115, 96]
abbrev dktX5_factor_5 : List UInt8 := dkwX5_factor_5 ++ dktX5_factor_6
def dkwX5_factor_4 : List UInt8 := [186, 0, 104, 0, 0, 176, 42, 182, 0, 108, 76, 43, 184, 0, 111, 77, 42, 44, 198, 0, 7, 4]
abbrev dktX5_factor_4 : List UInt8 := dkwX5_factor_4 ++ dktX5_factor_5
def dkwX5_factor_3 : List UInt8 := [181, 0, 91, 43, 176, 42, 182, 0, 66, 153, 0, 20, 42, 3, 17, 39, 15, 182, 0, 101, 133, 64, 31]
abbrev dktX5_factor_3 : List UInt8 := dkwX5_factor_3 ++ dktX5_factor_4
def dkwX5_factor_2 : List UInt8 := [4, 96, 181, 0, 19, 42, 182, 0, 94, 76, 42, 16, 41, 182, 0, 97, 42, 89, 180, 0, 91, 4, 100]
abbrev dktX5_factor_2 : List UInt8 := dkwX5_factor_2 ++ dktX5_factor_3
def dkwX5_factor_1 : List UInt8 := [16, 250, 42, 180, 0, 19, 182, 0, 43, 42, 89, 180, 0, 91, 4, 96, 181, 0, 91, 42, 89, 180, 0, 19]
abbrev dktX5_factor_1 : List UInt8 := dkwX5_factor_1 ++ dktX5_factor_2
def dkwX5_factor_0 : List UInt8 := [42, 182, 0, 39, 16, 40, 160, 0, 69, 42, 42, 180, 0, 91, 7, 162, 0, 7, 4, 167, 0, 4, 3]
abbrev dktX5_factor_0 : List UInt8 := dkwX5_factor_0 ++ dktX5_factor_1
theorem dksX5_factor_0 : cX5_factor.data.toList.drop 0 = dktX5_factor_0 := by decide +kernel
theorem dksX5_factor_1 : cX5_factor.data.toList.drop 23 = dktX5_factor_1 := dk_seg dksX5_factor_0 23 rfl rfl
theorem dksX5_factor_2 : cX5_factor.data.toList.drop 47 = dktX5_factor_2 := dk_seg dksX5_factor_1 24 rfl rfl
theorem dksX5_factor_3 : cX5_factor.data.toList.drop 70 = dktX5_factor_3 := dk_seg dksX5_factor_2 23 rfl rfl
theorem dksX5_factor_4 : cX5_factor.data.toList.drop 93 = dktX5_factor_4 := dk_seg dksX5_factor_3 23 rfl rfl
theorem dksX5_factor_5 : cX5_factor.data.toList.drop 115 = dktX5_factor_5 := dk_seg dksX5_factor_4 22 rfl rfl
theorem dksX5_factor_6 : cX5_factor.data.toList.drop 138 = dktX5_factor_6 := dk_seg dksX5_factor_5 23 rfl rfl
theorem dX5_factor_0 : decode cX5_factor 0 = .ok (.aload_n 0, 1) := dk_42 (dk_at dksX5_factor_0 0 rfl rfl)
theorem dX5_factor_1 : decode cX5_factor 1 = .ok (.invokevirtual 39, 3) := dk_182 0 39 (dk_at dksX5_factor_0 1 rfl rfl)
theorem dX5_factor_4 : decode cX5_factor 4 = .ok (.bipush 40, 2) := dk_16 40 (dk_at dksX5_factor_0 4 rfl rfl)
theorem dX5_factor_6 : decode cX5_factor 6 = .ok (.if_icmp .ne 69, 3) := dk_160 0 69 (dk_at dksX5_factor_0 6 rfl rfl)
theorem dX5_factor_9 : decode cX5_factor 9 = .ok (.aload_n 0, 1) := dk_42 (dk_at dksX5_factor_0 9 rfl rfl)
theorem dX5_factor_10 : decode cX5_factor 10 = .ok (.aload_n 0, 1) := dk_42 (dk_at dksX5_factor_0 10 rfl rfl)
theorem dX5_factor_11 : decode cX5_factor 11 = .ok (.getfield 91, 3) := dk_180 0 91 (dk_at dksX5_factor_0 11 rfl rfl)
theorem dX5_factor_14 : decode cX5_factor 14 = .ok (.iconst 4, 1) := dk_7 (dk_at dksX5_factor_0 14 rfl rfl)
theorem dX5_factor_15 : decode cX5_factor 15 = .ok (.if_icmp .ge 7, 3) := dk_162 0 7 (dk_at dksX5_factor_0 15 rfl rfl)
theorem dX5_factor_18 : decode cX5_factor 18 = .ok (.iconst 1, 1) := dk_4 (dk_at dksX5_factor_0 18 rfl rfl)
theorem dX5_factor_19 : decode cX5_factor 19 = .ok (.goto 4, 3) := dk_167 0 4 (dk_at dksX5_factor_0 19 rfl rfl)
theorem dX5_factor_22 : decode cX5_factor 22 = .ok (.iconst 0, 1) := dk_3 (dk_at dksX5_factor_0 22 rfl rfl)
theorem dX5_factor_23 : decode cX5_factor 23 = .ok (.bipush (-6), 2) := dk_16 250 (dk_at dksX5_factor_1 0 rfl rfl)
theorem dX5_factor_25 : decode cX5_factor 25 = .ok (.aload_n 0, 1) := dk_42 (dk_at dksX5_factor_1 2 rfl rfl)
theorem dX5_factor_26 : decode cX5_factor 26 = .ok (.getfield 19, 3) := dk_180 0 19 (dk_at dksX5_factor_1 3 rfl rfl)
theorem dX5_factor_29 : decode cX5_factor 29 = .ok (.invokevirtual 43, 3) := dk_182 0 43 (dk_at dksX5_factor_1 6 rfl rfl)
theorem dX5_factor_32 : decode cX5_factor 32 = .ok (.aload_n 0, 1) := dk_42 (dk_at dksX5_factor_1 9 rfl rfl)
theorem dX5_factor_33 : decode cX5_factor 33 = .ok (.dup, 1) := dk_89 (dk_at dksX5_factor_1 10 rfl rfl)
theorem dX5_factor_34 : decode cX5_factor 34 = .ok (.getfield 91, 3) := dk_180 0 91 (dk_at dksX5_factor_1 11 rfl rfl)
theorem dX5_factor_37 : decode cX5_factor 37 = .ok (.iconst 1, 1) := dk_4 (dk_at dksX5_factor_1 14 rfl rfl)
theorem dX5_factor_38 : decode cX5_factor 38 = .ok (.iadd, 1) := dk_96 (dk_at dksX5_factor_1 15 rfl rfl)
theorem dX5_factor_39 : decode cX5_factor 39 = .ok (.putfield 91, 3) := dk_181 0 91 (dk_at dksX5_factor_1 16 rfl rfl)
theorem dX5_factor_42 : decode cX5_factor 42 = .ok (.aload_n 0, 1) := dk_42 (dk_at dksX5_factor_1 19 rfl rfl)
theorem dX5_factor_43 : decode cX5_factor 43 = .ok (.dup, 1) := dk_89 (dk_at dksX5_factor_1 20 rfl rfl)
theorem dX5_factor_44 : decode cX5_factor 44 = .ok (.getfield 19, 3) := dk_180 0 19 (dk_at dksX5_factor_1 21 rfl rfl)
theorem dX5_factor_47 : decode cX5_factor 47 = .ok (.iconst 1, 1) := dk_4 (dk_at dksX5_factor_2 0 rfl rfl)
theorem dX5_factor_48 : decode cX5_factor 48 = .ok (.iadd, 1) := dk_96 (dk_at dksX5_factor_2 1 rfl rfl)
theorem dX5_factor_49 : decode cX5_factor 49 = .ok (.putfield 19, 3) := dk_181 0 19 (dk_at dksX5_factor_2 2 rfl rfl)
theorem dX5_factor_52 : decode cX5_factor 52 = .ok (.aload_n 0, 1) := dk_42 (dk_at dksX5_factor_2 5 rfl rfl)
theorem dX5_factor_53 : decode cX5_factor 53 = .ok (.invokevirtual 94, 3) := dk_182 0 94 (dk_at dksX5_factor_2 6 rfl rfl)
theorem dX5_factor_56 : decode cX5_factor 56 = .ok (.astore_n 1, 1) := dk_76 (dk_at dksX5_factor_2 9 rfl rfl)
theorem dX5_factor_57 : decode cX5_factor 57 = .ok (.aload_n 0, 1) := dk_42 (dk_at dksX5_factor_2 10 rfl rfl)
theorem dX5_factor_58 : decode cX5_factor 58 = .ok (.bipush 41, 2) := dk_16 41 (dk_at dksX5_factor_2 11 rfl rfl)
theorem dX5_factor_60 : decode cX5_factor 60 = .ok (.invokevirtual 97, 3) := dk_182 0 97 (dk_at dksX5_factor_2 13 rfl rfl)
theorem dX5_factor_63 : decode cX5_factor 63 = .ok (.aload_n 0, 1) := dk_42 (dk_at dksX5_factor_2 16 rfl rfl)
theorem dX5_factor_64 : decode cX5_factor 64 = .ok (.dup, 1) := dk_89 (dk_at dksX5_factor_2 17 rfl rfl)
theorem dX5_factor_65 : decode cX5_factor 65 = .ok (.getfield 91, 3) := dk_180 0 91 (dk_at dksX5_factor_2 18 rfl rfl)
theorem dX5_factor_68 : decode cX5_factor 68 = .ok (.iconst 1, 1) := dk_4 (dk_at dksX5_factor_2 21 rfl rfl)
theorem dX5_factor_69 : decode cX5_factor 69 = .ok (.isub, 1) := dk_100 (dk_at dksX5_factor_2 22 rfl rfl)
theorem dX5_factor_70 : decode cX5_factor 70 = .ok (.putfield 91, 3) := dk_181 0 91 (dk_at dksX5_factor_3 0 rfl rfl)
theorem dX5_factor_73 : decode cX5_factor 73 = .ok (.aload_n 1, 1) := dk_43 (dk_at dksX5_factor_3 3 rfl rfl)
theorem dX5_factor_74 : decode cX5_factor 74 = .ok (.areturn, 1) := dk_176 (dk_at dksX5_factor_3 4 rfl rfl)
theorem dX5_factor_75 : decode cX5_factor 75 = .ok (.aload_n 0, 1) := dk_42 (dk_at dksX5_factor_3 5 rfl rfl)
theorem dX5_factor_76 : decode cX5_factor 76 = .ok (.invokevirtual 66, 3) := dk_182 0 66 (dk_at dksX5_factor_3 6 rfl rfl)
theorem dX5_factor_79 : decode cX5_factor 79 = .ok (.ifCond .eq 20, 3) := dk_153 0 20 (dk_at dksX5_factor_3 9 rfl rfl)
theorem dX5_factor_82 : decode cX5_factor 82 = .ok (.aload_n 0, 1) := dk_42 (dk_at dksX5_factor_3 12 rfl rfl)
theorem dX5_factor_83 : decode cX5_factor 83 = .ok (.iconst 0, 1) := dk_3 (dk_at dksX5_factor_3 13 rfl rfl)
theorem dX5_factor_84 : decode cX5_factor 84 = .ok (.sipush 9999, 3) := dk_17 39 15 (dk_at dksX5_factor_3 14 rfl rfl)
theorem dX5_factor_87 : decode cX5_factor 87 = .ok (.invokevirtual 101, 3) := dk_182 0 101 (dk_at dksX5_factor_3 17 rfl rfl)
theorem dX5_factor_90 : decode cX5_factor 90 = .ok (.i2l, 1) := dk_133 (dk_at dksX5_factor_3 20 rfl rfl)
theorem dX5_factor_91 : decode cX5_factor 91 = .ok (.lstore_n 1, 1) := dk_64 (dk_at dksX5_factor_3 21 rfl rfl)
theorem dX5_factor_92 : decode cX5_factor 92 = .ok (.lload_n 1, 1) := dk_31 (dk_at dksX5_factor_3 22 rfl rfl)
theorem dX5_factor_93 : decode cX5_factor 93 = .ok (.invokedynamic 104, 5) := by decide +kernel
theorem dX5_factor_98 : decode cX5_factor 98 = .ok (.areturn, 1) := dk_176 (dk_at dksX5_factor_4 5 rfl rfl)
theorem dX5_factor_99 : decode cX5_factor 99 = .ok (.aload_n 0, 1) := dk_42 (dk_at dksX5_factor_4 6 rfl rfl)
theorem dX5_factor_100 : decode cX5_factor 100 = .ok (.invokevirtual 108, 3) := dk_182 0 108 (dk_at dksX5_factor_4 7 rfl rfl)
theorem dX5_factor_103 : decode cX5_factor 103 = .ok (.astore_n 1, 1) := dk_76 (dk_at dksX5_factor_4 10 rfl rfl)
theorem dX5_factor_104 : decode cX5_factor 104 = .ok (.aload_n 1, 1) := dk_43 (dk_at dksX5_factor_4 11 rfl rfl)
theorem dX5_factor_105 : decode cX5_factor 105 = .ok (.invokestatic 111, 3) := dk_184 0 111 (dk_at dksX5_factor_4 12 rfl rfl)
theorem dX5_factor_108 : decode cX5_factor 108 = .ok (.astore_n 2, 1) := dk_77 (dk_at dksX5_factor_4 15 rfl rfl)
theorem dX5_factor_109 : decode cX5_factor 109 = .ok (.aload_n 0, 1) := dk_42 (dk_at dksX5_factor_4 16 rfl rfl)
theorem dX5_factor_110 : decode cX5_factor 110 = .ok (.aload_n 2, 1) := dk_44 (dk_at dksX5_factor_4 17 rfl rfl)
theorem dX5_factor_111 : decode cX5_factor 111 = .ok (.ifnull 7, 3) := dk_198 0 7 (dk_at dksX5_factor_4 18 rfl rfl)
theorem dX5_factor_114 : decode cX5_factor 114 = .ok (.iconst 1, 1) := dk_4 (dk_at dksX5_factor_4 21 rfl rfl)
theorem dX5_factor_115 : decode cX5_factor 115 = .ok (.goto 4, 3) := dk_167 0 4 (dk_at dksX5_factor_5 0 rfl rfl)
theorem dX5_factor_118 : decode cX5_factor 118 = .ok (.iconst 0, 1) := dk_3 (dk_at dksX5_factor_5 3 rfl rfl)
theorem dX5_factor_119 : decode cX5_factor 119 = .ok (.bipush (-2), 2) := dk_16 254 (dk_at dksX5_factor_5 4 rfl rfl)
theorem dX5_factor_121 : decode cX5_factor 121 = .ok (.aload_n 0, 1) := dk_42 (dk_at dksX5_factor_5 6 rfl rfl)
theorem dX5_factor_122 : decode cX5_factor 122 = .ok (.getfield 19, 3) := dk_180 0 19 (dk_at dksX5_factor_5 7 rfl rfl)
theorem dX5_factor_125 : decode cX5_factor 125 = .ok (.invokevirtual 43, 3) := dk_182 0 43 (dk_at dksX5_factor_5 10 rfl rfl)
theorem dX5_factor_128 : decode cX5_factor 128 = .ok (.aload_n 0, 1) := dk_42 (dk_at dksX5_factor_5 13 rfl rfl)
theorem dX5_factor_129 : decode cX5_factor 129 = .ok (.dup, 1) := dk_89 (dk_at dksX5_factor_5 14 rfl rfl)
theorem dX5_factor_130 : decode cX5_factor 130 = .ok (.getfield 19, 3) := dk_180 0 19 (dk_at dksX5_factor_5 15 rfl rfl)
theorem dX5_factor_133 : decode cX5_factor 133 = .ok (.aload_n 1, 1) := dk_43 (dk_at dksX5_factor_5 18 rfl rfl)
theorem dX5_factor_134 : decode cX5_factor 134 = .ok (.invokevirtual 115, 3) := dk_182 0 115 (dk_at dksX5_factor_5 19 rfl rfl)
theorem dX5_factor_137 : decode cX5_factor 137 = .ok (.iadd, 1) := dk_96 (dk_at dksX5_factor_5 22 rfl rfl)
theorem dX5_factor_138 : decode cX5_factor 138 = .ok (.putfield 19, 3) := dk_181 0 19 (dk_at dksX5_factor_6 0 rfl rfl)
theorem dX5_factor_141 : decode cX5_factor 141 = .ok (.aload_n 2, 1) := dk_44 (dk_at dksX5_factor_6 3 rfl rfl)
theorem dX5_factor_142 : decode cX5_factor 142 = .ok (.areturn, 1) := dk_176 (dk_at dksX5_factor_6 4 rfl rfl)
abbrev cX5_lambda_factor_0 : ByteArray := prog_4_method_17_code
def yX5_lambda_factor_0 : MethodName := ⟨RX5, "lambda$factor$0", "(JIIIII)J"⟩
theorem dX5_lambda_factor_0_0 : decode cX5_lambda_factor_0 0 = .ok (.lload_n 0, 1) := by decide +kernel
theorem dX5_lambda_factor_0_1 : decode cX5_lambda_factor_0 1 = .ok (.lreturn, 1) := by decide +kernel
theorem q110 : (Jvm.Cond.initialized "CornerClaims$Parser") ∈ lw_all := lw_g (lw_at lw_m1 27 rfl) rfl
theorem q634 : (Jvm.Cond.fieldLinkNest "CornerClaims$Parser" (129 : Nat) "CornerClaims$Layout" "width" "I" "CornerClaims") ∈ lw_tbl := lw_at lw_m3 71 rfl
theorem q637 : (Jvm.Cond.fieldLinkNest "CornerClaims$Parser" (136 : Nat) "CornerClaims$Layout" "height" "I" "CornerClaims") ∈ lw_tbl := lw_at lw_m3 74 rfl
theorem q643 : (Jvm.Cond.fieldLinkNest "CornerClaims$Parser" (140 : Nat) "CornerClaims$Layout" "places" "Ljava/util/List;" "CornerClaims") ∈ lw_tbl := lw_at lw_m3 80 rfl
theorem q649 : (Jvm.Cond.fieldLinkNest "CornerClaims$Parser" (209 : Nat) "CornerClaims$Layout" "score" "LCornerClaims$Score;" "CornerClaims") ∈ lw_tbl := lw_at lw_m3 86 rfl
theorem q671 : (Jvm.Cond.fieldLinkNest "CornerClaims$Parser" (123 : Nat) "CornerClaims$Field" "layout" "LCornerClaims$Layout;" "CornerClaims") ∈ lw_tbl := lw_at lw_m3 108 rfl
theorem q675 : (Jvm.Cond.fieldLinkNest "CornerClaims$Parser" (164 : Nat) "CornerClaims$Field" "polygons" "Ljava/util/List;" "CornerClaims") ∈ lw_tbl := lw_at lw_m3 112 rfl
theorem q681 : (Jvm.Cond.fieldLinkNest "CornerClaims$Parser" (22 : Nat) "CornerClaims" "buffer" "[B" "CornerClaims") ∈ lw_tbl := lw_at lw_m3 118 rfl
theorem q931 : (Jvm.Cond.instantiable "CornerClaims$Parser" (7 : Nat)) ∈ lw_all := lw_g (lw_at lw_m4 128 rfl) rfl
theorem q933 : (Jvm.Cond.instanceMethod ({ cls := "CornerClaims$Parser", name := "<init>", desc := "(LCornerClaims;I)V" } : Jvm.MethodName)) ∈ lw_all := lw_g (lw_at lw_m4 130 rfl) rfl
theorem q934 : (Jvm.Cond.code ({ cls := "CornerClaims$Parser", name := "<init>", desc := "(LCornerClaims;I)V" } : Jvm.MethodName) prog_4_method_1_code (3 : Nat) (Option.none : Option Jvm.ClassFile.FieldType)) ∈ lw_all := lw_g (lw_at lw_m4 131 rfl) rfl
theorem q935 : (Jvm.Cond.methodLink "CornerClaims$Parser" (9 : Nat) ({ cls := "java/lang/Object", name := "<init>", desc := "()V" } : Jvm.MethodName)) ∈ lw_all := lw_g (lw_at lw_m4 132 rfl) rfl
theorem q936 : (Jvm.Cond.fieldLink "CornerClaims$Parser" (15 : Nat) "CornerClaims$Parser" "length" "I") ∈ lw_all := lw_g (lw_at lw_m4 133 rfl) rfl
theorem q937 : (Jvm.Cond.fieldLink "CornerClaims$Parser" (119 : Nat) "CornerClaims$Parser" "field" "LCornerClaims$Field;") ∈ lw_all := lw_g (lw_at lw_m4 134 rfl) rfl
theorem q938 : (Jvm.Cond.fieldLink "CornerClaims$Parser" (19 : Nat) "CornerClaims$Parser" "next" "I") ∈ lw_all := lw_g (lw_at lw_m4 135 rfl) rfl
theorem q939 : (Jvm.Cond.fieldLink "CornerClaims$Parser" (70 : Nat) "CornerClaims$Parser" "start" "I") ∈ lw_all := lw_g (lw_at lw_m4 136 rfl) rfl
theorem q940 : (Jvm.Cond.fieldLink "CornerClaims$Parser" (91 : Nat) "CornerClaims$Parser" "depth" "I") ∈ lw_all := lw_g (lw_at lw_m4 137 rfl) rfl
theorem q941 : (Jvm.Cond.fieldLink "CornerClaims$Parser" (206 : Nat) "CornerClaims$Parser" "hasScore" "Z") ∈ lw_all := lw_g (lw_at lw_m4 138 rfl) rfl
theorem q942 : (Jvm.Cond.fieldLink "CornerClaims$Parser" (3 : Nat) "CornerClaims$Parser" "this$0" "LCornerClaims;") ∈ lw_all := lw_g (lw_at lw_m4 139 rfl) rfl
theorem q943 : (Jvm.Cond.laysFinal "CornerClaims$Parser" "CornerClaims$Parser" "length" "I") ∈ lw_all := lw_g (lw_at lw_m4 140 rfl) rfl
theorem q944 : (Jvm.Cond.soleField "CornerClaims$Parser" "length") ∈ lw_all := lw_g (lw_at lw_m4 141 rfl) rfl
theorem q945 : (Jvm.Cond.lays "CornerClaims$Parser" "CornerClaims$Parser" "field" "LCornerClaims$Field;") ∈ lw_all := lw_g (lw_at lw_m4 142 rfl) rfl
theorem q946 : (Jvm.Cond.soleField "CornerClaims$Parser" "field") ∈ lw_all := lw_g (lw_at lw_m4 143 rfl) rfl
theorem q947 : (Jvm.Cond.lays "CornerClaims$Parser" "CornerClaims$Parser" "next" "I") ∈ lw_all := lw_g (lw_at lw_m4 144 rfl) rfl
theorem q948 : (Jvm.Cond.soleField "CornerClaims$Parser" "next") ∈ lw_all := lw_g (lw_at lw_m4 145 rfl) rfl
theorem q949 : (Jvm.Cond.lays "CornerClaims$Parser" "CornerClaims$Parser" "start" "I") ∈ lw_all := lw_g (lw_at lw_m4 146 rfl) rfl
theorem q950 : (Jvm.Cond.soleField "CornerClaims$Parser" "start") ∈ lw_all := lw_g (lw_at lw_m4 147 rfl) rfl
theorem q951 : (Jvm.Cond.lays "CornerClaims$Parser" "CornerClaims$Parser" "depth" "I") ∈ lw_all := lw_g (lw_at lw_m4 148 rfl) rfl
theorem q952 : (Jvm.Cond.soleField "CornerClaims$Parser" "depth") ∈ lw_all := lw_g (lw_at lw_m4 149 rfl) rfl
theorem q953 : (Jvm.Cond.lays "CornerClaims$Parser" "CornerClaims$Parser" "hasScore" "Z") ∈ lw_all := lw_g (lw_at lw_m4 150 rfl) rfl
theorem q954 : (Jvm.Cond.soleField "CornerClaims$Parser" "hasScore") ∈ lw_all := lw_g (lw_at lw_m4 151 rfl) rfl
theorem q955 : (Jvm.Cond.laysFinal "CornerClaims$Parser" "CornerClaims$Parser" "this$0" "LCornerClaims;") ∈ lw_all := lw_g (lw_at lw_m4 152 rfl) rfl
theorem q956 : (Jvm.Cond.soleField "CornerClaims$Parser" "this$0") ∈ lw_all := lw_g (lw_at lw_m4 153 rfl) rfl
theorem q957 : (Jvm.Cond.superclass "CornerClaims$Parser" "java/lang/Object") ∈ lw_all := lw_g (lw_at lw_m4 154 rfl) rfl
theorem q959 : (Jvm.Cond.instanceMethod ({ cls := "CornerClaims$Parser", name := "parse", desc := "()LCornerClaims$Field;" } : Jvm.MethodName)) ∈ lw_all := lw_g (lw_at lw_m4 156 rfl) rfl
theorem q960 : (Jvm.Cond.selects "CornerClaims$Parser" ({ cls := "CornerClaims$Parser", name := "parse", desc := "()LCornerClaims$Field;" } : Jvm.MethodName) ({ cls := "CornerClaims$Parser", name := "parse", desc := "()LCornerClaims$Field;" } : Jvm.MethodName)) ∈ lw_all := lw_g (lw_at lw_m4 157 rfl) rfl
theorem q961 : (Jvm.Cond.code ({ cls := "CornerClaims$Parser", name := "parse", desc := "()LCornerClaims$Field;" } : Jvm.MethodName) prog_4_method_16_code (3 : Nat) (Option.some (Jvm.ClassFile.FieldType.object "CornerClaims$Field"))) ∈ lw_all := lw_g (lw_at lw_m4 158 rfl) rfl
theorem q962 : (Jvm.Cond.methodLink "CornerClaims$Parser" (108 : Nat) ({ cls := "CornerClaims$Parser", name := "word", desc := "()Ljava/lang/String;" } : Jvm.MethodName)) ∈ lw_all := lw_g (lw_at lw_m4 159 rfl) rfl
theorem q963 : (Jvm.Cond.privateMethod ({ cls := "CornerClaims$Parser", name := "word", desc := "()Ljava/lang/String;" } : Jvm.MethodName)) ∈ lw_tbl := lw_at lw_m4 160 rfl
theorem q964 : (Jvm.Cond.instanceMethod ({ cls := "CornerClaims$Parser", name := "word", desc := "()Ljava/lang/String;" } : Jvm.MethodName)) ∈ lw_all := lw_g (lw_at lw_m4 161 rfl) rfl
theorem q965 : (Jvm.Cond.code ({ cls := "CornerClaims$Parser", name := "word", desc := "()Ljava/lang/String;" } : Jvm.MethodName) prog_4_method_6_code (3 : Nat) (Option.some (Jvm.ClassFile.FieldType.object "java/lang/String"))) ∈ lw_all := lw_g (lw_at lw_m4 162 rfl) rfl
theorem q966 : (Jvm.Cond.methodLink "CornerClaims$Parser" (39 : Nat) ({ cls := "CornerClaims$Parser", name := "peek", desc := "()I" } : Jvm.MethodName)) ∈ lw_all := lw_g (lw_at lw_m4 163 rfl) rfl
theorem q967 : (Jvm.Cond.privateMethod ({ cls := "CornerClaims$Parser", name := "peek", desc := "()I" } : Jvm.MethodName)) ∈ lw_tbl := lw_at lw_m4 164 rfl
theorem q968 : (Jvm.Cond.instanceMethod ({ cls := "CornerClaims$Parser", name := "peek", desc := "()I" } : Jvm.MethodName)) ∈ lw_all := lw_g (lw_at lw_m4 165 rfl) rfl
theorem q969 : (Jvm.Cond.code ({ cls := "CornerClaims$Parser", name := "peek", desc := "()I" } : Jvm.MethodName) prog_4_method_2_code (1 : Nat) (Option.some Jvm.ClassFile.FieldType.int)) ∈ lw_all := lw_g (lw_at lw_m4 166 rfl) rfl
theorem q970 : (Jvm.Cond.classLink "CornerClaims$Parser" (47 : Nat) "java/lang/StringBuilder") ∈ lw_all := lw_g (lw_at lw_m4 167 rfl) rfl
theorem q971 : (Jvm.Cond.methodLink "CornerClaims$Parser" (49 : Nat) ({ cls := "java/lang/StringBuilder", name := "<init>", desc := "()V" } : Jvm.MethodName)) ∈ lw_all := lw_g (lw_at lw_m4 168 rfl) rfl
theorem q972 : (Jvm.Cond.methodLink "CornerClaims$Parser" (50 : Nat) ({ cls := "CornerClaims$Parser", name := "isLetterAt", desc := "(I)Z" } : Jvm.MethodName)) ∈ lw_all := lw_g (lw_at lw_m4 169 rfl) rfl
theorem q973 : (Jvm.Cond.privateMethod ({ cls := "CornerClaims$Parser", name := "isLetterAt", desc := "(I)Z" } : Jvm.MethodName)) ∈ lw_tbl := lw_at lw_m4 170 rfl
theorem q974 : (Jvm.Cond.instanceMethod ({ cls := "CornerClaims$Parser", name := "isLetterAt", desc := "(I)Z" } : Jvm.MethodName)) ∈ lw_all := lw_g (lw_at lw_m4 171 rfl) rfl
theorem q975 : (Jvm.Cond.code ({ cls := "CornerClaims$Parser", name := "isLetterAt", desc := "(I)Z" } : Jvm.MethodName) prog_4_method_3_code (2 : Nat) (Option.some Jvm.ClassFile.FieldType.boolean)) ∈ lw_all := lw_g (lw_at lw_m4 172 rfl) rfl
theorem q976 : (Jvm.Cond.constantLong "CornerClaims$Parser" (26 : Nat) (97 : Int64)) ∈ lw_all := lw_g (lw_at lw_m4 173 rfl) rfl
theorem q977 : (Jvm.Cond.constantLong "CornerClaims$Parser" (28 : Nat) (122 : Int64)) ∈ lw_all := lw_g (lw_at lw_m4 174 rfl) rfl
theorem q978 : (Jvm.Cond.methodLinkNest "CornerClaims$Parser" (30 : Nat) ({ cls := "CornerClaims", name := "isBetween", desc := "(JJJ)Z" } : Jvm.MethodName) "CornerClaims") ∈ lw_tbl := lw_at lw_m4 175 rfl
theorem q979 : (Jvm.Cond.methodLink "CornerClaims$Parser" (54 : Nat) ({ cls := "java/lang/StringBuilder", name := "append", desc := "(C)Ljava/lang/StringBuilder;" } : Jvm.MethodName)) ∈ lw_all := lw_g (lw_at lw_m4 176 rfl) rfl
theorem q999 : (Jvm.Cond.methodLink "CornerClaims$Parser" (58 : Nat) ({ cls := "java/lang/StringBuilder", name := "toString", desc := "()Ljava/lang/String;" } : Jvm.MethodName)) ∈ lw_all := lw_g (lw_at lw_m4 196 rfl) rfl
theorem q1000 : (Jvm.Cond.stringRef "CornerClaims$Parser" (212 : Nat) "field") ∈ lw_tbl := lw_at lw_m4 197 rfl
theorem q1001 : (Jvm.Cond.methodLink "CornerClaims$Parser" (195 : Nat) ({ cls := "java/lang/String", name := "equals", desc := "(Ljava/lang/Object;)Z" } : Jvm.MethodName)) ∈ lw_all := lw_g (lw_at lw_m4 198 rfl) rfl
theorem q1002 : (Jvm.Cond.methodLink "CornerClaims$Parser" (43 : Nat) ({ cls := "CornerClaims$Parser", name := "require", desc := "(ZII)V" } : Jvm.MethodName)) ∈ lw_all := lw_g (lw_at lw_m4 199 rfl) rfl
theorem q1003 : (Jvm.Cond.privateMethod ({ cls := "CornerClaims$Parser", name := "require", desc := "(ZII)V" } : Jvm.MethodName)) ∈ lw_tbl := lw_at lw_m4 200 rfl
theorem q1004 : (Jvm.Cond.instanceMethod ({ cls := "CornerClaims$Parser", name := "require", desc := "(ZII)V" } : Jvm.MethodName)) ∈ lw_all := lw_g (lw_at lw_m4 201 rfl) rfl
theorem q1005 : (Jvm.Cond.code ({ cls := "CornerClaims$Parser", name := "require", desc := "(ZII)V" } : Jvm.MethodName) prog_4_method_4_code (4 : Nat) (Option.none : Option Jvm.ClassFile.FieldType)) ∈ lw_all := lw_g (lw_at lw_m4 202 rfl) rfl
theorem q1006 : (Jvm.Cond.classLink "CornerClaims$Parser" (34 : Nat) "CornerClaims$SetupException") ∈ lw_all := lw_g (lw_at lw_m4 203 rfl) rfl
theorem q1015 : (Jvm.Cond.methodLink "CornerClaims$Parser" (36 : Nat) ({ cls := "CornerClaims$SetupException", name := "<init>", desc := "(II)V" } : Jvm.MethodName)) ∈ lw_all := lw_g (lw_at lw_m4 212 rfl) rfl
theorem q1034 : (Jvm.Cond.methodLink "CornerClaims$Parser" (101 : Nat) ({ cls := "CornerClaims$Parser", name := "number", desc := "(II)I" } : Jvm.MethodName)) ∈ lw_all := lw_g (lw_at lw_m4 231 rfl) rfl
theorem q1035 : (Jvm.Cond.privateMethod ({ cls := "CornerClaims$Parser", name := "number", desc := "(II)I" } : Jvm.MethodName)) ∈ lw_tbl := lw_at lw_m4 232 rfl
theorem q1036 : (Jvm.Cond.instanceMethod ({ cls := "CornerClaims$Parser", name := "number", desc := "(II)I" } : Jvm.MethodName)) ∈ lw_all := lw_g (lw_at lw_m4 233 rfl) rfl
theorem q1037 : (Jvm.Cond.code ({ cls := "CornerClaims$Parser", name := "number", desc := "(II)I" } : Jvm.MethodName) prog_4_method_8_code (5 : Nat) (Option.some Jvm.ClassFile.FieldType.int)) ∈ lw_all := lw_g (lw_at lw_m4 234 rfl) rfl
theorem q1038 : (Jvm.Cond.methodLink "CornerClaims$Parser" (66 : Nat) ({ cls := "CornerClaims$Parser", name := "isDigit", desc := "()Z" } : Jvm.MethodName)) ∈ lw_all := lw_g (lw_at lw_m4 235 rfl) rfl
theorem q1039 : (Jvm.Cond.privateMethod ({ cls := "CornerClaims$Parser", name := "isDigit", desc := "()Z" } : Jvm.MethodName)) ∈ lw_tbl := lw_at lw_m4 236 rfl
theorem q1040 : (Jvm.Cond.instanceMethod ({ cls := "CornerClaims$Parser", name := "isDigit", desc := "()Z" } : Jvm.MethodName)) ∈ lw_all := lw_g (lw_at lw_m4 237 rfl) rfl
theorem q1041 : (Jvm.Cond.code ({ cls := "CornerClaims$Parser", name := "isDigit", desc := "()Z" } : Jvm.MethodName) prog_4_method_7_code (1 : Nat) (Option.some Jvm.ClassFile.FieldType.boolean)) ∈ lw_all := lw_g (lw_at lw_m4 238 rfl) rfl
theorem q1042 : (Jvm.Cond.constantLong "CornerClaims$Parser" (62 : Nat) (48 : Int64)) ∈ lw_all := lw_g (lw_at lw_m4 239 rfl) rfl
theorem q1043 : (Jvm.Cond.constantLong "CornerClaims$Parser" (64 : Nat) (57 : Int64)) ∈ lw_all := lw_g (lw_at lw_m5 0 rfl) rfl
theorem q1044 : (Jvm.Cond.constant "CornerClaims$Parser" (73 : Nat) (1000000 : Int32)) ∈ lw_all := lw_g (lw_at lw_m5 1 rfl) rfl
theorem q1045 : (Jvm.Cond.methodLink "CornerClaims$Parser" (74 : Nat) ({ cls := "java/lang/Math", name := "min", desc := "(II)I" } : Jvm.MethodName)) ∈ lw_all := lw_g (lw_at lw_m5 2 rfl) rfl
theorem q1046 : (Jvm.Cond.classLink "CornerClaims$Parser" (124 : Nat) "CornerClaims$Field") ∈ lw_all := lw_g (lw_at lw_m5 3 rfl) rfl
theorem q1047 : (Jvm.Cond.classLink "CornerClaims$Parser" (130 : Nat) "CornerClaims$Layout") ∈ lw_all := lw_g (lw_at lw_m5 4 rfl) rfl
theorem q1048 : (Jvm.Cond.methodLink "CornerClaims$Parser" (213 : Nat) ({ cls := "CornerClaims$Layout", name := "<init>", desc := "(II)V" } : Jvm.MethodName)) ∈ lw_all := lw_g (lw_at lw_m5 5 rfl) rfl
theorem q1049 : (Jvm.Cond.methodLink "CornerClaims$Parser" (214 : Nat) ({ cls := "CornerClaims$Field", name := "<init>", desc := "(LCornerClaims$Layout;)V" } : Jvm.MethodName)) ∈ lw_all := lw_g (lw_at lw_m5 6 rfl) rfl
theorem q1050 : (Jvm.Cond.methodLink "CornerClaims$Parser" (97 : Nat) ({ cls := "CornerClaims$Parser", name := "expect", desc := "(I)V" } : Jvm.MethodName)) ∈ lw_all := lw_g (lw_at lw_m5 7 rfl) rfl
theorem q1051 : (Jvm.Cond.privateMethod ({ cls := "CornerClaims$Parser", name := "expect", desc := "(I)V" } : Jvm.MethodName)) ∈ lw_tbl := lw_at lw_m5 8 rfl
theorem q1052 : (Jvm.Cond.instanceMethod ({ cls := "CornerClaims$Parser", name := "expect", desc := "(I)V" } : Jvm.MethodName)) ∈ lw_all := lw_g (lw_at lw_m5 9 rfl) rfl
theorem q1053 : (Jvm.Cond.code ({ cls := "CornerClaims$Parser", name := "expect", desc := "(I)V" } : Jvm.MethodName) prog_4_method_5_code (3 : Nat) (Option.none : Option Jvm.ClassFile.FieldType)) ∈ lw_all := lw_g (lw_at lw_m5 10 rfl) rfl
theorem q1054 : (Jvm.Cond.methodLink "CornerClaims$Parser" (217 : Nat) ({ cls := "CornerClaims$Parser", name := "statement", desc := "()V" } : Jvm.MethodName)) ∈ lw_all := lw_g (lw_at lw_m5 11 rfl) rfl
theorem q1055 : (Jvm.Cond.privateMethod ({ cls := "CornerClaims$Parser", name := "statement", desc := "()V" } : Jvm.MethodName)) ∈ lw_tbl := lw_at lw_m5 12 rfl
theorem q1056 : (Jvm.Cond.instanceMethod ({ cls := "CornerClaims$Parser", name := "statement", desc := "()V" } : Jvm.MethodName)) ∈ lw_all := lw_g (lw_at lw_m5 13 rfl) rfl
theorem q1057 : (Jvm.Cond.code ({ cls := "CornerClaims$Parser", name := "statement", desc := "()V" } : Jvm.MethodName) prog_4_method_15_code (5 : Nat) (Option.none : Option Jvm.ClassFile.FieldType)) ∈ lw_all := lw_g (lw_at lw_m5 14 rfl) rfl
theorem q1058 : (Jvm.Cond.methodLink "CornerClaims$Parser" (115 : Nat) ({ cls := "java/lang/String", name := "length", desc := "()I" } : Jvm.MethodName)) ∈ lw_all := lw_g (lw_at lw_m5 15 rfl) rfl
theorem q1059 : (Jvm.Cond.methodLink "CornerClaims$Parser" (190 : Nat) ({ cls := "java/lang/String", name := "hashCode", desc := "()I" } : Jvm.MethodName)) ∈ lw_all := lw_g (lw_at lw_m5 16 rfl) rfl
theorem q1060 : (Jvm.Cond.stringRef "CornerClaims$Parser" (193 : Nat) "stone") ∈ lw_tbl := lw_at lw_m5 17 rfl
theorem q1061 : (Jvm.Cond.stringRef "CornerClaims$Parser" (198 : Nat) "polygon") ∈ lw_tbl := lw_at lw_m5 18 rfl
theorem q1062 : (Jvm.Cond.stringRef "CornerClaims$Parser" (200 : Nat) "score") ∈ lw_tbl := lw_at lw_m5 19 rfl
theorem q1063 : (Jvm.Cond.methodLink "CornerClaims$Parser" (202 : Nat) ({ cls := "CornerClaims$Parser", name := "stone", desc := "(I)V" } : Jvm.MethodName)) ∈ lw_all := lw_g (lw_at lw_m5 20 rfl) rfl
theorem q1064 : (Jvm.Cond.privateMethod ({ cls := "CornerClaims$Parser", name := "stone", desc := "(I)V" } : Jvm.MethodName)) ∈ lw_tbl := lw_at lw_m5 21 rfl
theorem q1065 : (Jvm.Cond.instanceMethod ({ cls := "CornerClaims$Parser", name := "stone", desc := "(I)V" } : Jvm.MethodName)) ∈ lw_all := lw_g (lw_at lw_m5 22 rfl) rfl
theorem q1066 : (Jvm.Cond.code ({ cls := "CornerClaims$Parser", name := "stone", desc := "(I)V" } : Jvm.MethodName) prog_4_method_13_code (3 : Nat) (Option.none : Option Jvm.ClassFile.FieldType)) ∈ lw_all := lw_g (lw_at lw_m5 23 rfl) rfl
theorem q1067 : (Jvm.Cond.interfaceEntry "CornerClaims$Parser" (144 : Nat)) ∈ lw_tbl := lw_at lw_m5 24 rfl
theorem q1068 : (Jvm.Cond.methodLink "CornerClaims$Parser" (144 : Nat) ({ cls := "java/util/List", name := "size", desc := "()I" } : Jvm.MethodName)) ∈ lw_all := lw_g (lw_at lw_m5 25 rfl) rfl
theorem q1069 : (Jvm.Cond.methodLink "CornerClaims$Parser" (149 : Nat) ({ cls := "CornerClaims$Parser", name := "point", desc := "()LCornerClaims$Point;" } : Jvm.MethodName)) ∈ lw_all := lw_g (lw_at lw_m5 26 rfl) rfl
theorem q1070 : (Jvm.Cond.privateMethod ({ cls := "CornerClaims$Parser", name := "point", desc := "()LCornerClaims$Point;" } : Jvm.MethodName)) ∈ lw_tbl := lw_at lw_m5 27 rfl
theorem q1071 : (Jvm.Cond.instanceMethod ({ cls := "CornerClaims$Parser", name := "point", desc := "()LCornerClaims$Point;" } : Jvm.MethodName)) ∈ lw_all := lw_g (lw_at lw_m5 28 rfl) rfl
theorem q1072 : (Jvm.Cond.code ({ cls := "CornerClaims$Parser", name := "point", desc := "()LCornerClaims$Point;" } : Jvm.MethodName) prog_4_method_12_code (2 : Nat) (Option.some (Jvm.ClassFile.FieldType.object "CornerClaims$Point"))) ∈ lw_all := lw_g (lw_at lw_m5 29 rfl) rfl
theorem q1073 : (Jvm.Cond.classLink "CornerClaims$Parser" (134 : Nat) "CornerClaims$Point") ∈ lw_all := lw_g (lw_at lw_m5 30 rfl) rfl
theorem q1075 : (Jvm.Cond.methodLink "CornerClaims$Parser" (139 : Nat) ({ cls := "CornerClaims$Point", name := "<init>", desc := "(II)V" } : Jvm.MethodName)) ∈ lw_all := lw_g (lw_at lw_m5 32 rfl) rfl
theorem q1090 : (Jvm.Cond.methodLink "CornerClaims$Parser" (153 : Nat) ({ cls := "CornerClaims$Field", name := "isTaken", desc := "(LCornerClaims$Point;)Z" } : Jvm.MethodName)) ∈ lw_all := lw_g (lw_at lw_m5 47 rfl) rfl
theorem q1112 : (Jvm.Cond.selects "CornerClaims$Parser" ({ cls := "java/lang/Object", name := "hashCode", desc := "()I" } : Jvm.MethodName) ({ cls := "java/lang/Object", name := "hashCode", desc := "()I" } : Jvm.MethodName)) ∈ lw_all := lw_g (lw_at lw_m5 69 rfl) rfl
theorem q1142 : (Jvm.Cond.selects "CornerClaims$Parser" ({ cls := "java/lang/Object", name := "equals", desc := "(Ljava/lang/Object;)Z" } : Jvm.MethodName) ({ cls := "java/lang/Object", name := "equals", desc := "(Ljava/lang/Object;)Z" } : Jvm.MethodName)) ∈ lw_all := lw_g (lw_at lw_m5 99 rfl) rfl
theorem q1188 : (Jvm.Cond.selects "CornerClaims$Parser" ({ cls := "java/lang/Object", name := "getClass", desc := "()Ljava/lang/Class;" } : Jvm.MethodName) ({ cls := "java/lang/Object", name := "getClass", desc := "()Ljava/lang/Class;" } : Jvm.MethodName)) ∈ lw_all := lw_g (lw_at lw_m5 145 rfl) rfl
theorem q1430 : (Jvm.Cond.methodLink "CornerClaims$Parser" (157 : Nat) ({ cls := "CornerClaims$Field", name := "isOnSide", desc := "(LCornerClaims$Point;)Z" } : Jvm.MethodName)) ∈ lw_all := lw_g (lw_at lw_m6 147 rfl) rfl
theorem q1441 : (Jvm.Cond.methodLink "CornerClaims$Parser" (160 : Nat) ({ cls := "CornerClaims$Layout", name := "addStone", desc := "(LCornerClaims$Point;I)V" } : Jvm.MethodName)) ∈ lw_all := lw_g (lw_at lw_m6 158 rfl) rfl
theorem q1640 : (Jvm.Cond.methodLink "CornerClaims$Parser" (204 : Nat) ({ cls := "CornerClaims$Parser", name := "polygon", desc := "(I)V" } : Jvm.MethodName)) ∈ lw_all := lw_g (lw_at lw_m7 117 rfl) rfl
theorem q1641 : (Jvm.Cond.privateMethod ({ cls := "CornerClaims$Parser", name := "polygon", desc := "(I)V" } : Jvm.MethodName)) ∈ lw_tbl := lw_at lw_m7 118 rfl
theorem q1642 : (Jvm.Cond.instanceMethod ({ cls := "CornerClaims$Parser", name := "polygon", desc := "(I)V" } : Jvm.MethodName)) ∈ lw_all := lw_g (lw_at lw_m7 119 rfl) rfl
theorem q1643 : (Jvm.Cond.code ({ cls := "CornerClaims$Parser", name := "polygon", desc := "(I)V" } : Jvm.MethodName) prog_4_method_14_code (5 : Nat) (Option.none : Option Jvm.ClassFile.FieldType)) ∈ lw_all := lw_g (lw_at lw_m7 120 rfl) rfl
theorem q1644 : (Jvm.Cond.classLink "CornerClaims$Parser" (167 : Nat) "CornerClaims$Polygon") ∈ lw_all := lw_g (lw_at lw_m7 121 rfl) rfl
theorem q1645 : (Jvm.Cond.methodLink "CornerClaims$Parser" (169 : Nat) ({ cls := "CornerClaims$Polygon", name := "<init>", desc := "(I)V" } : Jvm.MethodName)) ∈ lw_all := lw_g (lw_at lw_m7 122 rfl) rfl
theorem q1656 : (Jvm.Cond.fieldLinkNest "CornerClaims$Parser" (171 : Nat) "CornerClaims$Polygon" "corners" "Ljava/util/List;" "CornerClaims") ∈ lw_tbl := lw_at lw_m7 133 rfl
theorem q1661 : (Jvm.Cond.fieldLinkNest "CornerClaims$Parser" (186 : Nat) "CornerClaims$Polygon" "isClosed" "Z" "CornerClaims") ∈ lw_tbl := lw_at lw_m7 138 rfl
theorem q1669 : (Jvm.Cond.interfaceEntry "CornerClaims$Parser" (174 : Nat)) ∈ lw_tbl := lw_at lw_m7 146 rfl
theorem q1670 : (Jvm.Cond.methodLink "CornerClaims$Parser" (174 : Nat) ({ cls := "java/util/List", name := "add", desc := "(Ljava/lang/Object;)Z" } : Jvm.MethodName)) ∈ lw_all := lw_g (lw_at lw_m7 147 rfl) rfl
theorem q1671 : (Jvm.Cond.methodLink "CornerClaims$Parser" (178 : Nat) ({ cls := "CornerClaims$Field", name := "cornerReason", desc := "(LCornerClaims$Polygon;LCornerClaims$Point;)I" } : Jvm.MethodName)) ∈ lw_all := lw_g (lw_at lw_m7 148 rfl) rfl
theorem q1698 : (Jvm.Cond.methodLink "CornerClaims$Parser" (182 : Nat) ({ cls := "CornerClaims$Field", name := "closeReason", desc := "(LCornerClaims$Polygon;)I" } : Jvm.MethodName)) ∈ lw_all := lw_g (lw_at lw_m7 175 rfl) rfl
theorem q1702 : (Jvm.Cond.methodLink "CornerClaims$Parser" (94 : Nat) ({ cls := "CornerClaims$Parser", name := "sum", desc := "()LCornerClaims$Score;" } : Jvm.MethodName)) ∈ lw_all := lw_g (lw_at lw_m7 179 rfl) rfl
theorem q1703 : (Jvm.Cond.privateMethod ({ cls := "CornerClaims$Parser", name := "sum", desc := "()LCornerClaims$Score;" } : Jvm.MethodName)) ∈ lw_tbl := lw_at lw_m7 180 rfl
theorem q1704 : (Jvm.Cond.instanceMethod ({ cls := "CornerClaims$Parser", name := "sum", desc := "()LCornerClaims$Score;" } : Jvm.MethodName)) ∈ lw_all := lw_g (lw_at lw_m7 181 rfl) rfl
theorem q1705 : (Jvm.Cond.code ({ cls := "CornerClaims$Parser", name := "sum", desc := "()LCornerClaims$Score;" } : Jvm.MethodName) prog_4_method_9_code (3 : Nat) (Option.some (Jvm.ClassFile.FieldType.object "CornerClaims$Score"))) ∈ lw_all := lw_g (lw_at lw_m7 182 rfl) rfl
theorem q1706 : (Jvm.Cond.methodLink "CornerClaims$Parser" (80 : Nat) ({ cls := "CornerClaims$Parser", name := "term", desc := "()LCornerClaims$Score;" } : Jvm.MethodName)) ∈ lw_all := lw_g (lw_at lw_m7 183 rfl) rfl
theorem q1707 : (Jvm.Cond.privateMethod ({ cls := "CornerClaims$Parser", name := "term", desc := "()LCornerClaims$Score;" } : Jvm.MethodName)) ∈ lw_tbl := lw_at lw_m7 184 rfl
theorem q1708 : (Jvm.Cond.instanceMethod ({ cls := "CornerClaims$Parser", name := "term", desc := "()LCornerClaims$Score;" } : Jvm.MethodName)) ∈ lw_all := lw_g (lw_at lw_m7 185 rfl) rfl
theorem q1709 : (Jvm.Cond.code ({ cls := "CornerClaims$Parser", name := "term", desc := "()LCornerClaims$Score;" } : Jvm.MethodName) prog_4_method_10_code (3 : Nat) (Option.some (Jvm.ClassFile.FieldType.object "CornerClaims$Score"))) ∈ lw_all := lw_g (lw_at lw_m7 186 rfl) rfl
theorem q1710 : (Jvm.Cond.methodLink "CornerClaims$Parser" (88 : Nat) ({ cls := "CornerClaims$Parser", name := "factor", desc := "()LCornerClaims$Score;" } : Jvm.MethodName)) ∈ lw_all := lw_g (lw_at lw_m7 187 rfl) rfl
theorem q1711 : (Jvm.Cond.privateMethod ({ cls := "CornerClaims$Parser", name := "factor", desc := "()LCornerClaims$Score;" } : Jvm.MethodName)) ∈ lw_tbl := lw_at lw_m7 188 rfl
theorem q1712 : (Jvm.Cond.instanceMethod ({ cls := "CornerClaims$Parser", name := "factor", desc := "()LCornerClaims$Score;" } : Jvm.MethodName)) ∈ lw_all := lw_g (lw_at lw_m7 189 rfl) rfl
theorem q1713 : (Jvm.Cond.code ({ cls := "CornerClaims$Parser", name := "factor", desc := "()LCornerClaims$Score;" } : Jvm.MethodName) prog_4_method_11_code (3 : Nat) (Option.some (Jvm.ClassFile.FieldType.object "CornerClaims$Score"))) ∈ lw_all := lw_g (lw_at lw_m7 190 rfl) rfl
theorem q1714 : (Jvm.Cond.static ({ cls := "CornerClaims$Parser", name := "lambda$factor$0", desc := "(JIIIII)J" } : Jvm.MethodName)) ∈ lw_all := lw_g (lw_at lw_m7 191 rfl) rfl
theorem q1715 : (Jvm.Cond.code ({ cls := "CornerClaims$Parser", name := "lambda$factor$0", desc := "(JIIIII)J" } : Jvm.MethodName) prog_4_method_17_code (7 : Nat) (Option.some Jvm.ClassFile.FieldType.long)) ∈ lw_all := lw_g (lw_at lw_m7 192 rfl) rfl
theorem q1716 : (Jvm.Cond.methodLinkNest "CornerClaims$Parser" (111 : Nat) ({ cls := "CornerClaims", name := "variable", desc := "(Ljava/lang/String;)LCornerClaims$Score;" } : Jvm.MethodName) "CornerClaims") ∈ lw_tbl := lw_at lw_m7 193 rfl
theorem q1717 : (Jvm.Cond.methodLinkNest "CornerClaims$Parser" (84 : Nat) ({ cls := "CornerClaims", name := "operation", desc := "(ILCornerClaims$Score;LCornerClaims$Score;)LCornerClaims$Score;" } : Jvm.MethodName) "CornerClaims") ∈ lw_tbl := lw_at lw_m7 194 rfl
theorem q2540 : (Jvm.Cond.castable "CornerClaims$Parser" "java/lang/Object") ∈ lw_tbl := lw_at lw_m11 57 rfl
theorem in_X5 : ∀ w ∈ wsX50, w ∈ lw_all := lw_in wsX50 [943, 945, 947, 949, 951, 953, 955] (by decide +kernel) (by decide +kernel)
/-! CornerClaims$SetupException -/
set_option maxRecDepth 100000
def RX6 : String := "CornerClaims$SetupException"
def TX6 : u_T := fun k => match k with
  | 0 => ("java/lang/Throwable", "cause", "Ljava/lang/Throwable;", false)
  | 1 => ("java/lang/Throwable", "stackTrace", "[Ljava/lang/StackTraceElement;", false)
  | 2 => ("java/lang/Throwable", "suppressedExceptions", "Ljava/util/List;", false)
  | 3 => ("java/lang/Throwable", "detailMessage", "Ljava/lang/String;", false)
  | 4 => ("java/lang/Throwable", "backtrace", "Ljava/lang/Object;", false)
  | 5 => ("java/lang/Throwable", "depth", "I", false)
  | 6 => ("CornerClaims$SetupException", "code", "I", true)
  | _ => ("CornerClaims$SetupException", "offset", "I", true)
def tyX6 : Nat → FieldType := fun k => match k with
  | 0 => .object "java/lang/Throwable"
  | 1 => .array (.object "java/lang/StackTraceElement")
  | 2 => .object "java/util/List"
  | 3 => .object "java/lang/String"
  | 4 => .object "java/lang/Object"
  | 5 => .int
  | 6 => .int
  | _ => .int
abbrev wsX60 : List Cond := u_ws RX6 TX6 8
theorem nmX6 : ∀ a, a < 8 → ∀ b, b < 8 → a ≠ b → (TX6 a).2.1 ≠ (TX6 b).2.1 := by decide +kernel
theorem tyX6_ok : ∀ k, k < 8 → parseFieldDescriptor (TX6 k).2.2.1 = some (tyX6 k) := by decide +kernel
abbrev cX6_init : ByteArray := prog_8_method_1_code
def yX6_init : MethodName := ⟨RX6, "<init>", "(II)V"⟩
def dkwX6_init_0 : List UInt8 := [42, 1, 1, 3, 3, 183, 0, 1, 42, 27, 181, 0, 7, 42, 28, 181, 0, 13, 177]
abbrev dktX6_init_0 : List UInt8 := dkwX6_init_0 ++ []
theorem dksX6_init_0 : cX6_init.data.toList.drop 0 = dktX6_init_0 := by decide +kernel
theorem dX6_init_0 : decode cX6_init 0 = .ok (.aload_n 0, 1) := dk_42 (dk_at dksX6_init_0 0 rfl rfl)
theorem dX6_init_1 : decode cX6_init 1 = .ok (.aconst_null, 1) := dk_1 (dk_at dksX6_init_0 1 rfl rfl)
theorem dX6_init_2 : decode cX6_init 2 = .ok (.aconst_null, 1) := dk_1 (dk_at dksX6_init_0 2 rfl rfl)
theorem dX6_init_3 : decode cX6_init 3 = .ok (.iconst 0, 1) := dk_3 (dk_at dksX6_init_0 3 rfl rfl)
theorem dX6_init_4 : decode cX6_init 4 = .ok (.iconst 0, 1) := dk_3 (dk_at dksX6_init_0 4 rfl rfl)
theorem dX6_init_5 : decode cX6_init 5 = .ok (.invokespecial 1, 3) := dk_183 0 1 (dk_at dksX6_init_0 5 rfl rfl)
theorem dX6_init_8 : decode cX6_init 8 = .ok (.aload_n 0, 1) := dk_42 (dk_at dksX6_init_0 8 rfl rfl)
theorem dX6_init_9 : decode cX6_init 9 = .ok (.iload_n 1, 1) := dk_27 (dk_at dksX6_init_0 9 rfl rfl)
theorem dX6_init_10 : decode cX6_init 10 = .ok (.putfield 7, 3) := dk_181 0 7 (dk_at dksX6_init_0 10 rfl rfl)
theorem dX6_init_13 : decode cX6_init 13 = .ok (.aload_n 0, 1) := dk_42 (dk_at dksX6_init_0 13 rfl rfl)
theorem dX6_init_14 : decode cX6_init 14 = .ok (.iload_n 2, 1) := dk_28 (dk_at dksX6_init_0 14 rfl rfl)
theorem dX6_init_15 : decode cX6_init 15 = .ok (.putfield 13, 3) := dk_181 0 13 (dk_at dksX6_init_0 15 rfl rfl)
theorem dX6_init_18 : decode cX6_init 18 = .ok (.return_, 1) := dk_177 (dk_at dksX6_init_0 18 rfl rfl)
theorem q111 : (Jvm.Cond.initialized "CornerClaims$SetupException") ∈ lw_all := lw_g (lw_at lw_m1 28 rfl) rfl
theorem q318 : (Jvm.Cond.selects "CornerClaims$SetupException" ({ cls := "java/lang/Throwable", name := "fillInStackTrace", desc := "()Ljava/lang/Throwable;" } : Jvm.MethodName) ({ cls := "java/lang/Throwable", name := "fillInStackTrace", desc := "()Ljava/lang/Throwable;" } : Jvm.MethodName)) ∈ lw_all := lw_g (lw_at lw_m1 235 rfl) rfl
theorem q1007 : (Jvm.Cond.instantiable "CornerClaims$SetupException" (8 : Nat)) ∈ lw_all := lw_g (lw_at lw_m4 204 rfl) rfl
theorem q1008 : (Jvm.Cond.castable "CornerClaims$SetupException" "CornerClaims$SetupException") ∈ lw_tbl := lw_at lw_m4 205 rfl
theorem q1009 : (Jvm.Cond.selects "CornerClaims$SetupException" ({ cls := "java/lang/Throwable", name := "fillInStackTrace", desc := "(I)Ljava/lang/Throwable;" } : Jvm.MethodName) ({ cls := "java/lang/Throwable", name := "fillInStackTrace", desc := "(I)Ljava/lang/Throwable;" } : Jvm.MethodName)) ∈ lw_all := lw_g (lw_at lw_m4 206 rfl) rfl
theorem q1010 : (Jvm.Cond.lays "CornerClaims$SetupException" "java/lang/Throwable" "cause" "Ljava/lang/Throwable;") ∈ lw_all := lw_g (lw_at lw_m4 207 rfl) rfl
theorem q1011 : (Jvm.Cond.lays "CornerClaims$SetupException" "java/lang/Throwable" "stackTrace" "[Ljava/lang/StackTraceElement;") ∈ lw_all := lw_g (lw_at lw_m4 208 rfl) rfl
theorem q1012 : (Jvm.Cond.lays "CornerClaims$SetupException" "java/lang/Throwable" "suppressedExceptions" "Ljava/util/List;") ∈ lw_all := lw_g (lw_at lw_m4 209 rfl) rfl
theorem q1013 : (Jvm.Cond.lays "CornerClaims$SetupException" "java/lang/Throwable" "detailMessage" "Ljava/lang/String;") ∈ lw_all := lw_g (lw_at lw_m4 210 rfl) rfl
theorem q1014 : (Jvm.Cond.lays "CornerClaims$SetupException" "java/lang/Throwable" "backtrace" "Ljava/lang/Object;") ∈ lw_all := lw_g (lw_at lw_m4 211 rfl) rfl
theorem q1016 : (Jvm.Cond.instanceMethod ({ cls := "CornerClaims$SetupException", name := "<init>", desc := "(II)V" } : Jvm.MethodName)) ∈ lw_all := lw_g (lw_at lw_m4 213 rfl) rfl
theorem q1017 : (Jvm.Cond.code ({ cls := "CornerClaims$SetupException", name := "<init>", desc := "(II)V" } : Jvm.MethodName) prog_8_method_1_code (3 : Nat) (Option.none : Option Jvm.ClassFile.FieldType)) ∈ lw_all := lw_g (lw_at lw_m4 214 rfl) rfl
theorem q1018 : (Jvm.Cond.methodLink "CornerClaims$SetupException" (1 : Nat) ({ cls := "java/lang/Exception", name := "<init>", desc := "(Ljava/lang/String;Ljava/lang/Throwable;ZZ)V" } : Jvm.MethodName)) ∈ lw_all := lw_g (lw_at lw_m4 215 rfl) rfl
theorem q1024 : (Jvm.Cond.fieldLink "CornerClaims$SetupException" (7 : Nat) "CornerClaims$SetupException" "code" "I") ∈ lw_all := lw_g (lw_at lw_m4 221 rfl) rfl
theorem q1026 : (Jvm.Cond.fieldLink "CornerClaims$SetupException" (13 : Nat) "CornerClaims$SetupException" "offset" "I") ∈ lw_all := lw_g (lw_at lw_m4 223 rfl) rfl
theorem q1028 : (Jvm.Cond.laysFinal "CornerClaims$SetupException" "CornerClaims$SetupException" "code" "I") ∈ lw_all := lw_g (lw_at lw_m4 225 rfl) rfl
theorem q1029 : (Jvm.Cond.soleField "CornerClaims$SetupException" "code") ∈ lw_all := lw_g (lw_at lw_m4 226 rfl) rfl
theorem q1030 : (Jvm.Cond.laysFinal "CornerClaims$SetupException" "CornerClaims$SetupException" "offset" "I") ∈ lw_all := lw_g (lw_at lw_m4 227 rfl) rfl
theorem q1031 : (Jvm.Cond.soleField "CornerClaims$SetupException" "offset") ∈ lw_all := lw_g (lw_at lw_m4 228 rfl) rfl
theorem q1032 : (Jvm.Cond.lays "CornerClaims$SetupException" "java/lang/Throwable" "depth" "I") ∈ lw_all := lw_g (lw_at lw_m4 229 rfl) rfl
theorem q1033 : (Jvm.Cond.superclass "CornerClaims$SetupException" "java/lang/Exception") ∈ lw_all := lw_g (lw_at lw_m4 230 rfl) rfl
theorem q1118 : (Jvm.Cond.selects "CornerClaims$SetupException" ({ cls := "java/lang/Object", name := "hashCode", desc := "()I" } : Jvm.MethodName) ({ cls := "java/lang/Object", name := "hashCode", desc := "()I" } : Jvm.MethodName)) ∈ lw_all := lw_g (lw_at lw_m5 75 rfl) rfl
theorem q1148 : (Jvm.Cond.selects "CornerClaims$SetupException" ({ cls := "java/lang/Object", name := "equals", desc := "(Ljava/lang/Object;)Z" } : Jvm.MethodName) ({ cls := "java/lang/Object", name := "equals", desc := "(Ljava/lang/Object;)Z" } : Jvm.MethodName)) ∈ lw_all := lw_g (lw_at lw_m5 105 rfl) rfl
theorem q1191 : (Jvm.Cond.selects "CornerClaims$SetupException" ({ cls := "java/lang/Object", name := "getClass", desc := "()Ljava/lang/Class;" } : Jvm.MethodName) ({ cls := "java/lang/Object", name := "getClass", desc := "()Ljava/lang/Class;" } : Jvm.MethodName)) ∈ lw_all := lw_g (lw_at lw_m5 148 rfl) rfl
theorem q2541 : (Jvm.Cond.castable "CornerClaims$SetupException" "java/lang/Object") ∈ lw_tbl := lw_at lw_m11 58 rfl
theorem in_X6 : ∀ w ∈ wsX60, w ∈ lw_all := lw_in wsX60 [1010, 1011, 1012, 1013, 1014, 1032, 1028, 1030] (by decide +kernel) (by decide +kernel)
/-! CornerClaims$Point -/
set_option maxRecDepth 100000
def RX7 : String := "CornerClaims$Point"
def TX7 : u_T := fun k => match k with
  | 0 => ("CornerClaims$Point", "x", "I", true)
  | _ => ("CornerClaims$Point", "y", "I", true)
def tyX7 : Nat → FieldType := fun k => match k with
  | 0 => .int
  | _ => .int
abbrev wsX70 : List Cond := u_ws RX7 TX7 2
theorem nmX7 : ∀ a, a < 2 → ∀ b, b < 2 → a ≠ b → (TX7 a).2.1 ≠ (TX7 b).2.1 := by decide +kernel
theorem tyX7_ok : ∀ k, k < 2 → parseFieldDescriptor (TX7 k).2.2.1 = some (tyX7 k) := by decide +kernel
abbrev cX7_code : ByteArray := prog_5_method_2_code
def yX7_code : MethodName := ⟨RX7, "code", "()I"⟩
def dkwX7_code_0 : List UInt8 := [16, 100, 42, 180, 0, 7, 104, 42, 180, 0, 13, 96, 172]
abbrev dktX7_code_0 : List UInt8 := dkwX7_code_0 ++ []
theorem dksX7_code_0 : cX7_code.data.toList.drop 0 = dktX7_code_0 := by decide +kernel
theorem dX7_code_0 : decode cX7_code 0 = .ok (.bipush 100, 2) := dk_16 100 (dk_at dksX7_code_0 0 rfl rfl)
theorem dX7_code_2 : decode cX7_code 2 = .ok (.aload_n 0, 1) := dk_42 (dk_at dksX7_code_0 2 rfl rfl)
theorem dX7_code_3 : decode cX7_code 3 = .ok (.getfield 7, 3) := dk_180 0 7 (dk_at dksX7_code_0 3 rfl rfl)
theorem dX7_code_6 : decode cX7_code 6 = .ok (.imul, 1) := dk_104 (dk_at dksX7_code_0 6 rfl rfl)
theorem dX7_code_7 : decode cX7_code 7 = .ok (.aload_n 0, 1) := dk_42 (dk_at dksX7_code_0 7 rfl rfl)
theorem dX7_code_8 : decode cX7_code 8 = .ok (.getfield 13, 3) := dk_180 0 13 (dk_at dksX7_code_0 8 rfl rfl)
theorem dX7_code_11 : decode cX7_code 11 = .ok (.iadd, 1) := dk_96 (dk_at dksX7_code_0 11 rfl rfl)
theorem dX7_code_12 : decode cX7_code 12 = .ok (.ireturn, 1) := dk_172 (dk_at dksX7_code_0 12 rfl rfl)
abbrev cX7_init : ByteArray := prog_5_method_1_code
def yX7_init : MethodName := ⟨RX7, "<init>", "(II)V"⟩
def dkwX7_init_0 : List UInt8 := [42, 183, 0, 1, 42, 27, 181, 0, 7, 42, 28, 181, 0, 13, 177]
abbrev dktX7_init_0 : List UInt8 := dkwX7_init_0 ++ []
theorem dksX7_init_0 : cX7_init.data.toList.drop 0 = dktX7_init_0 := by decide +kernel
theorem dX7_init_0 : decode cX7_init 0 = .ok (.aload_n 0, 1) := dk_42 (dk_at dksX7_init_0 0 rfl rfl)
theorem dX7_init_1 : decode cX7_init 1 = .ok (.invokespecial 1, 3) := dk_183 0 1 (dk_at dksX7_init_0 1 rfl rfl)
theorem dX7_init_4 : decode cX7_init 4 = .ok (.aload_n 0, 1) := dk_42 (dk_at dksX7_init_0 4 rfl rfl)
theorem dX7_init_5 : decode cX7_init 5 = .ok (.iload_n 1, 1) := dk_27 (dk_at dksX7_init_0 5 rfl rfl)
theorem dX7_init_6 : decode cX7_init 6 = .ok (.putfield 7, 3) := dk_181 0 7 (dk_at dksX7_init_0 6 rfl rfl)
theorem dX7_init_9 : decode cX7_init 9 = .ok (.aload_n 0, 1) := dk_42 (dk_at dksX7_init_0 9 rfl rfl)
theorem dX7_init_10 : decode cX7_init 10 = .ok (.iload_n 2, 1) := dk_28 (dk_at dksX7_init_0 10 rfl rfl)
theorem dX7_init_11 : decode cX7_init 11 = .ok (.putfield 13, 3) := dk_181 0 13 (dk_at dksX7_init_0 11 rfl rfl)
theorem dX7_init_14 : decode cX7_init 14 = .ok (.return_, 1) := dk_177 (dk_at dksX7_init_0 14 rfl rfl)
abbrev cX7_hashCode : ByteArray := prog_5_method_4_code
def yX7_hashCode : MethodName := ⟨RX7, "hashCode", "()I"⟩
theorem dX7_hashCode_0 : decode cX7_hashCode 0 = .ok (.aload_n 0, 1) := by decide +kernel
theorem dX7_hashCode_1 : decode cX7_hashCode 1 = .ok (.invokevirtual 16, 3) := by decide +kernel
theorem dX7_hashCode_4 : decode cX7_hashCode 4 = .ok (.ireturn, 1) := by decide +kernel
abbrev cX7_equals : ByteArray := prog_5_method_3_code
def yX7_equals : MethodName := ⟨RX7, "equals", "(Ljava/lang/Object;)Z"⟩
def dkwX7_equals_1 : List UInt8 := [167, 0, 4, 3, 172]
abbrev dktX7_equals_1 : List UInt8 := dkwX7_equals_1 ++ []
def dkwX7_equals_0 : List UInt8 := [43, 193, 0, 8, 153, 0, 21, 43, 192, 0, 8, 182, 0, 16, 42, 182, 0, 16, 160, 0, 7, 4]
abbrev dktX7_equals_0 : List UInt8 := dkwX7_equals_0 ++ dktX7_equals_1
theorem dksX7_equals_0 : cX7_equals.data.toList.drop 0 = dktX7_equals_0 := by decide +kernel
theorem dksX7_equals_1 : cX7_equals.data.toList.drop 22 = dktX7_equals_1 := dk_seg dksX7_equals_0 22 rfl rfl
theorem dX7_equals_0 : decode cX7_equals 0 = .ok (.aload_n 1, 1) := dk_43 (dk_at dksX7_equals_0 0 rfl rfl)
theorem dX7_equals_1 : decode cX7_equals 1 = .ok (.instanceof 8, 3) := dk_193 0 8 (dk_at dksX7_equals_0 1 rfl rfl)
theorem dX7_equals_4 : decode cX7_equals 4 = .ok (.ifCond .eq 21, 3) := dk_153 0 21 (dk_at dksX7_equals_0 4 rfl rfl)
theorem dX7_equals_7 : decode cX7_equals 7 = .ok (.aload_n 1, 1) := dk_43 (dk_at dksX7_equals_0 7 rfl rfl)
theorem dX7_equals_8 : decode cX7_equals 8 = .ok (.checkcast 8, 3) := dk_192 0 8 (dk_at dksX7_equals_0 8 rfl rfl)
theorem dX7_equals_11 : decode cX7_equals 11 = .ok (.invokevirtual 16, 3) := dk_182 0 16 (dk_at dksX7_equals_0 11 rfl rfl)
theorem dX7_equals_14 : decode cX7_equals 14 = .ok (.aload_n 0, 1) := dk_42 (dk_at dksX7_equals_0 14 rfl rfl)
theorem dX7_equals_15 : decode cX7_equals 15 = .ok (.invokevirtual 16, 3) := dk_182 0 16 (dk_at dksX7_equals_0 15 rfl rfl)
theorem dX7_equals_18 : decode cX7_equals 18 = .ok (.if_icmp .ne 7, 3) := dk_160 0 7 (dk_at dksX7_equals_0 18 rfl rfl)
theorem dX7_equals_21 : decode cX7_equals 21 = .ok (.iconst 1, 1) := dk_4 (dk_at dksX7_equals_0 21 rfl rfl)
theorem dX7_equals_22 : decode cX7_equals 22 = .ok (.goto 4, 3) := dk_167 0 4 (dk_at dksX7_equals_1 0 rfl rfl)
theorem dX7_equals_25 : decode cX7_equals 25 = .ok (.iconst 0, 1) := dk_3 (dk_at dksX7_equals_1 3 rfl rfl)
theorem dX7_equals_26 : decode cX7_equals 26 = .ok (.ireturn, 1) := dk_172 (dk_at dksX7_equals_1 4 rfl rfl)
theorem q112 : (Jvm.Cond.initialized "CornerClaims$Point") ∈ lw_all := lw_g (lw_at lw_m1 29 rfl) rfl
theorem q909 : (Jvm.Cond.instanceMethod ({ cls := "CornerClaims$Point", name := "code", desc := "()I" } : Jvm.MethodName)) ∈ lw_all := lw_g (lw_at lw_m4 106 rfl) rfl
theorem q910 : (Jvm.Cond.selects "CornerClaims$Point" ({ cls := "CornerClaims$Point", name := "code", desc := "()I" } : Jvm.MethodName) ({ cls := "CornerClaims$Point", name := "code", desc := "()I" } : Jvm.MethodName)) ∈ lw_all := lw_g (lw_at lw_m4 107 rfl) rfl
theorem q911 : (Jvm.Cond.code ({ cls := "CornerClaims$Point", name := "code", desc := "()I" } : Jvm.MethodName) prog_5_method_2_code (1 : Nat) (Option.some Jvm.ClassFile.FieldType.int)) ∈ lw_all := lw_g (lw_at lw_m4 108 rfl) rfl
theorem q1074 : (Jvm.Cond.instantiable "CornerClaims$Point" (2 : Nat)) ∈ lw_all := lw_g (lw_at lw_m5 31 rfl) rfl
theorem q1076 : (Jvm.Cond.instanceMethod ({ cls := "CornerClaims$Point", name := "<init>", desc := "(II)V" } : Jvm.MethodName)) ∈ lw_all := lw_g (lw_at lw_m5 33 rfl) rfl
theorem q1077 : (Jvm.Cond.code ({ cls := "CornerClaims$Point", name := "<init>", desc := "(II)V" } : Jvm.MethodName) prog_5_method_1_code (3 : Nat) (Option.none : Option Jvm.ClassFile.FieldType)) ∈ lw_all := lw_g (lw_at lw_m5 34 rfl) rfl
theorem q1078 : (Jvm.Cond.methodLink "CornerClaims$Point" (1 : Nat) ({ cls := "java/lang/Object", name := "<init>", desc := "()V" } : Jvm.MethodName)) ∈ lw_all := lw_g (lw_at lw_m5 35 rfl) rfl
theorem q1079 : (Jvm.Cond.fieldLink "CornerClaims$Point" (7 : Nat) "CornerClaims$Point" "x" "I") ∈ lw_all := lw_g (lw_at lw_m5 36 rfl) rfl
theorem q1082 : (Jvm.Cond.fieldLink "CornerClaims$Point" (13 : Nat) "CornerClaims$Point" "y" "I") ∈ lw_all := lw_g (lw_at lw_m5 39 rfl) rfl
theorem q1085 : (Jvm.Cond.laysFinal "CornerClaims$Point" "CornerClaims$Point" "x" "I") ∈ lw_all := lw_g (lw_at lw_m5 42 rfl) rfl
theorem q1086 : (Jvm.Cond.soleField "CornerClaims$Point" "x") ∈ lw_all := lw_g (lw_at lw_m5 43 rfl) rfl
theorem q1087 : (Jvm.Cond.laysFinal "CornerClaims$Point" "CornerClaims$Point" "y" "I") ∈ lw_all := lw_g (lw_at lw_m5 44 rfl) rfl
theorem q1088 : (Jvm.Cond.soleField "CornerClaims$Point" "y") ∈ lw_all := lw_g (lw_at lw_m5 45 rfl) rfl
theorem q1089 : (Jvm.Cond.superclass "CornerClaims$Point" "java/lang/Object") ∈ lw_all := lw_g (lw_at lw_m5 46 rfl) rfl
theorem q1113 : (Jvm.Cond.selects "CornerClaims$Point" ({ cls := "java/lang/Object", name := "hashCode", desc := "()I" } : Jvm.MethodName) ({ cls := "CornerClaims$Point", name := "hashCode", desc := "()I" } : Jvm.MethodName)) ∈ lw_all := lw_g (lw_at lw_m5 70 rfl) rfl
theorem q1114 : (Jvm.Cond.instanceMethod ({ cls := "CornerClaims$Point", name := "hashCode", desc := "()I" } : Jvm.MethodName)) ∈ lw_all := lw_g (lw_at lw_m5 71 rfl) rfl
theorem q1115 : (Jvm.Cond.code ({ cls := "CornerClaims$Point", name := "hashCode", desc := "()I" } : Jvm.MethodName) prog_5_method_4_code (1 : Nat) (Option.some Jvm.ClassFile.FieldType.int)) ∈ lw_all := lw_g (lw_at lw_m5 72 rfl) rfl
theorem q1116 : (Jvm.Cond.methodLink "CornerClaims$Point" (16 : Nat) ({ cls := "CornerClaims$Point", name := "code", desc := "()I" } : Jvm.MethodName)) ∈ lw_all := lw_g (lw_at lw_m5 73 rfl) rfl
theorem q1143 : (Jvm.Cond.selects "CornerClaims$Point" ({ cls := "java/lang/Object", name := "equals", desc := "(Ljava/lang/Object;)Z" } : Jvm.MethodName) ({ cls := "CornerClaims$Point", name := "equals", desc := "(Ljava/lang/Object;)Z" } : Jvm.MethodName)) ∈ lw_all := lw_g (lw_at lw_m5 100 rfl) rfl
theorem q1144 : (Jvm.Cond.instanceMethod ({ cls := "CornerClaims$Point", name := "equals", desc := "(Ljava/lang/Object;)Z" } : Jvm.MethodName)) ∈ lw_all := lw_g (lw_at lw_m5 101 rfl) rfl
theorem q1145 : (Jvm.Cond.code ({ cls := "CornerClaims$Point", name := "equals", desc := "(Ljava/lang/Object;)Z" } : Jvm.MethodName) prog_5_method_3_code (2 : Nat) (Option.some Jvm.ClassFile.FieldType.boolean)) ∈ lw_all := lw_g (lw_at lw_m5 102 rfl) rfl
theorem q1146 : (Jvm.Cond.classLink "CornerClaims$Point" (8 : Nat) "CornerClaims$Point") ∈ lw_all := lw_g (lw_at lw_m5 103 rfl) rfl
theorem q1189 : (Jvm.Cond.selects "CornerClaims$Point" ({ cls := "java/lang/Object", name := "getClass", desc := "()Ljava/lang/Class;" } : Jvm.MethodName) ({ cls := "java/lang/Object", name := "getClass", desc := "()Ljava/lang/Class;" } : Jvm.MethodName)) ∈ lw_all := lw_g (lw_at lw_m5 146 rfl) rfl
theorem q2525 : (Jvm.Cond.selects "CornerClaims$Point" ({ cls := "CornerClaims$Point", name := "equals", desc := "(Ljava/lang/Object;)Z" } : Jvm.MethodName) ({ cls := "CornerClaims$Point", name := "equals", desc := "(Ljava/lang/Object;)Z" } : Jvm.MethodName)) ∈ lw_all := lw_g (lw_at lw_m11 42 rfl) rfl
theorem q2542 : (Jvm.Cond.castable "CornerClaims$Point" "java/lang/Object") ∈ lw_tbl := lw_at lw_m11 59 rfl
theorem in_X7 : ∀ w ∈ wsX70, w ∈ lw_all := lw_in wsX70 [1085, 1087] (by decide +kernel) (by decide +kernel)
/-! CornerClaims$Polygon -/
set_option maxRecDepth 100000
def RX8 : String := "CornerClaims$Polygon"
def TX8 : u_T := fun k => match k with
  | 0 => ("CornerClaims$Polygon", "owner", "I", true)
  | 1 => ("CornerClaims$Polygon", "corners", "Ljava/util/List;", true)
  | _ => ("CornerClaims$Polygon", "isClosed", "Z", false)
def tyX8 : Nat → FieldType := fun k => match k with
  | 0 => .int
  | 1 => .object "java/util/List"
  | _ => .boolean
abbrev wsX80 : List Cond := u_ws RX8 TX8 3
theorem nmX8 : ∀ a, a < 3 → ∀ b, b < 3 → a ≠ b → (TX8 a).2.1 ≠ (TX8 b).2.1 := by decide +kernel
theorem tyX8_ok : ∀ k, k < 3 → parseFieldDescriptor (TX8 k).2.2.1 = some (tyX8 k) := by decide +kernel
abbrev cX8_where : ByteArray := prog_6_method_14_code
def yX8_where : MethodName := ⟨RX8, "where", "(LCornerClaims$Point;)I"⟩
def dkwX8_where_6 : List UInt8 := [3, 172]
abbrev dktX8_where_6 : List UInt8 := dkwX8_where_6 ++ []
def dkwX8_where_5 : List UInt8 := [156, 0, 7, 4, 167, 0, 4, 3, 130, 61, 132, 3, 1, 167, 255, 129, 28, 153, 0, 7, 5, 167, 0, 4]
abbrev dktX8_where_5 : List UInt8 := dkwX8_where_5 ++ dktX8_where_6
def dkwX8_where_4 : List UInt8 := [25, 4, 180, 0, 56, 164, 0, 16, 21, 6, 158, 0, 7, 4, 167, 0, 17, 3, 167, 0, 13, 21, 6]
abbrev dktX8_where_4 : List UInt8 := dkwX8_where_4 ++ dktX8_where_5
def dkwX8_where_3 : List UInt8 := [3, 160, 0, 6, 167, 0, 52, 25, 4, 25, 5, 43, 184, 0, 86, 54, 6, 28, 25, 5, 180, 0, 56]
abbrev dktX8_where_3 : List UInt8 := dkwX8_where_3 ++ dktX8_where_4
def dkwX8_where_2 : List UInt8 := [164, 0, 7, 4, 167, 0, 4, 3, 25, 5, 180, 0, 56, 43, 180, 0, 56, 164, 0, 7, 4, 167, 0, 4]
abbrev dktX8_where_2 : List UInt8 := dkwX8_where_2 ++ dktX8_where_3
def dkwX8_where_1 : List UInt8 := [58, 5, 43, 25, 4, 25, 5, 184, 0, 90, 153, 0, 5, 4, 172, 25, 4, 180, 0, 56, 43, 180, 0, 56]
abbrev dktX8_where_1 : List UInt8 := dkwX8_where_1 ++ dktX8_where_2
def dkwX8_where_0 : List UInt8 := [3, 61, 3, 62, 29, 42, 182, 0, 45, 162, 0, 125, 42, 29, 182, 0, 46, 58, 4, 42, 29, 182, 0, 53]
abbrev dktX8_where_0 : List UInt8 := dkwX8_where_0 ++ dktX8_where_1
theorem dksX8_where_0 : cX8_where.data.toList.drop 0 = dktX8_where_0 := by decide +kernel
theorem dksX8_where_1 : cX8_where.data.toList.drop 24 = dktX8_where_1 := dk_seg dksX8_where_0 24 rfl rfl
theorem dksX8_where_2 : cX8_where.data.toList.drop 48 = dktX8_where_2 := dk_seg dksX8_where_1 24 rfl rfl
theorem dksX8_where_3 : cX8_where.data.toList.drop 72 = dktX8_where_3 := dk_seg dksX8_where_2 24 rfl rfl
theorem dksX8_where_4 : cX8_where.data.toList.drop 95 = dktX8_where_4 := dk_seg dksX8_where_3 23 rfl rfl
theorem dksX8_where_5 : cX8_where.data.toList.drop 118 = dktX8_where_5 := dk_seg dksX8_where_4 23 rfl rfl
theorem dksX8_where_6 : cX8_where.data.toList.drop 142 = dktX8_where_6 := dk_seg dksX8_where_5 24 rfl rfl
theorem dX8_where_0 : decode cX8_where 0 = .ok (.iconst 0, 1) := dk_3 (dk_at dksX8_where_0 0 rfl rfl)
theorem dX8_where_1 : decode cX8_where 1 = .ok (.istore_n 2, 1) := dk_61 (dk_at dksX8_where_0 1 rfl rfl)
theorem dX8_where_2 : decode cX8_where 2 = .ok (.iconst 0, 1) := dk_3 (dk_at dksX8_where_0 2 rfl rfl)
theorem dX8_where_3 : decode cX8_where 3 = .ok (.istore_n 3, 1) := dk_62 (dk_at dksX8_where_0 3 rfl rfl)
theorem dX8_where_4 : decode cX8_where 4 = .ok (.iload_n 3, 1) := dk_29 (dk_at dksX8_where_0 4 rfl rfl)
theorem dX8_where_5 : decode cX8_where 5 = .ok (.aload_n 0, 1) := dk_42 (dk_at dksX8_where_0 5 rfl rfl)
theorem dX8_where_6 : decode cX8_where 6 = .ok (.invokevirtual 45, 3) := dk_182 0 45 (dk_at dksX8_where_0 6 rfl rfl)
theorem dX8_where_9 : decode cX8_where 9 = .ok (.if_icmp .ge 125, 3) := dk_162 0 125 (dk_at dksX8_where_0 9 rfl rfl)
theorem dX8_where_12 : decode cX8_where 12 = .ok (.aload_n 0, 1) := dk_42 (dk_at dksX8_where_0 12 rfl rfl)
theorem dX8_where_13 : decode cX8_where 13 = .ok (.iload_n 3, 1) := dk_29 (dk_at dksX8_where_0 13 rfl rfl)
theorem dX8_where_14 : decode cX8_where 14 = .ok (.invokevirtual 46, 3) := dk_182 0 46 (dk_at dksX8_where_0 14 rfl rfl)
theorem dX8_where_17 : decode cX8_where 17 = .ok (.astore 4, 2) := dk_58 4 (dk_at dksX8_where_0 17 rfl rfl)
theorem dX8_where_19 : decode cX8_where 19 = .ok (.aload_n 0, 1) := dk_42 (dk_at dksX8_where_0 19 rfl rfl)
theorem dX8_where_20 : decode cX8_where 20 = .ok (.iload_n 3, 1) := dk_29 (dk_at dksX8_where_0 20 rfl rfl)
theorem dX8_where_21 : decode cX8_where 21 = .ok (.invokevirtual 53, 3) := dk_182 0 53 (dk_at dksX8_where_0 21 rfl rfl)
theorem dX8_where_24 : decode cX8_where 24 = .ok (.astore 5, 2) := dk_58 5 (dk_at dksX8_where_1 0 rfl rfl)
theorem dX8_where_26 : decode cX8_where 26 = .ok (.aload_n 1, 1) := dk_43 (dk_at dksX8_where_1 2 rfl rfl)
theorem dX8_where_27 : decode cX8_where 27 = .ok (.aload 4, 2) := dk_25 4 (dk_at dksX8_where_1 3 rfl rfl)
theorem dX8_where_29 : decode cX8_where 29 = .ok (.aload 5, 2) := dk_25 5 (dk_at dksX8_where_1 5 rfl rfl)
theorem dX8_where_31 : decode cX8_where 31 = .ok (.invokestatic 90, 3) := dk_184 0 90 (dk_at dksX8_where_1 7 rfl rfl)
theorem dX8_where_34 : decode cX8_where 34 = .ok (.ifCond .eq 5, 3) := dk_153 0 5 (dk_at dksX8_where_1 10 rfl rfl)
theorem dX8_where_37 : decode cX8_where 37 = .ok (.iconst 1, 1) := dk_4 (dk_at dksX8_where_1 13 rfl rfl)
theorem dX8_where_38 : decode cX8_where 38 = .ok (.ireturn, 1) := dk_172 (dk_at dksX8_where_1 14 rfl rfl)
theorem dX8_where_39 : decode cX8_where 39 = .ok (.aload 4, 2) := dk_25 4 (dk_at dksX8_where_1 15 rfl rfl)
theorem dX8_where_41 : decode cX8_where 41 = .ok (.getfield 56, 3) := dk_180 0 56 (dk_at dksX8_where_1 17 rfl rfl)
theorem dX8_where_44 : decode cX8_where 44 = .ok (.aload_n 1, 1) := dk_43 (dk_at dksX8_where_1 20 rfl rfl)
theorem dX8_where_45 : decode cX8_where 45 = .ok (.getfield 56, 3) := dk_180 0 56 (dk_at dksX8_where_1 21 rfl rfl)
theorem dX8_where_48 : decode cX8_where 48 = .ok (.if_icmp .le 7, 3) := dk_164 0 7 (dk_at dksX8_where_2 0 rfl rfl)
theorem dX8_where_51 : decode cX8_where 51 = .ok (.iconst 1, 1) := dk_4 (dk_at dksX8_where_2 3 rfl rfl)
theorem dX8_where_52 : decode cX8_where 52 = .ok (.goto 4, 3) := dk_167 0 4 (dk_at dksX8_where_2 4 rfl rfl)
theorem dX8_where_55 : decode cX8_where 55 = .ok (.iconst 0, 1) := dk_3 (dk_at dksX8_where_2 7 rfl rfl)
theorem dX8_where_56 : decode cX8_where 56 = .ok (.aload 5, 2) := dk_25 5 (dk_at dksX8_where_2 8 rfl rfl)
theorem dX8_where_58 : decode cX8_where 58 = .ok (.getfield 56, 3) := dk_180 0 56 (dk_at dksX8_where_2 10 rfl rfl)
theorem dX8_where_61 : decode cX8_where 61 = .ok (.aload_n 1, 1) := dk_43 (dk_at dksX8_where_2 13 rfl rfl)
theorem dX8_where_62 : decode cX8_where 62 = .ok (.getfield 56, 3) := dk_180 0 56 (dk_at dksX8_where_2 14 rfl rfl)
theorem dX8_where_65 : decode cX8_where 65 = .ok (.if_icmp .le 7, 3) := dk_164 0 7 (dk_at dksX8_where_2 17 rfl rfl)
theorem dX8_where_68 : decode cX8_where 68 = .ok (.iconst 1, 1) := dk_4 (dk_at dksX8_where_2 20 rfl rfl)
theorem dX8_where_69 : decode cX8_where 69 = .ok (.goto 4, 3) := dk_167 0 4 (dk_at dksX8_where_2 21 rfl rfl)
theorem dX8_where_72 : decode cX8_where 72 = .ok (.iconst 0, 1) := dk_3 (dk_at dksX8_where_3 0 rfl rfl)
theorem dX8_where_73 : decode cX8_where 73 = .ok (.if_icmp .ne 6, 3) := dk_160 0 6 (dk_at dksX8_where_3 1 rfl rfl)
theorem dX8_where_76 : decode cX8_where 76 = .ok (.goto 52, 3) := dk_167 0 52 (dk_at dksX8_where_3 4 rfl rfl)
theorem dX8_where_79 : decode cX8_where 79 = .ok (.aload 4, 2) := dk_25 4 (dk_at dksX8_where_3 7 rfl rfl)
theorem dX8_where_81 : decode cX8_where 81 = .ok (.aload 5, 2) := dk_25 5 (dk_at dksX8_where_3 9 rfl rfl)
theorem dX8_where_83 : decode cX8_where 83 = .ok (.aload_n 1, 1) := dk_43 (dk_at dksX8_where_3 11 rfl rfl)
theorem dX8_where_84 : decode cX8_where 84 = .ok (.invokestatic 86, 3) := dk_184 0 86 (dk_at dksX8_where_3 12 rfl rfl)
theorem dX8_where_87 : decode cX8_where 87 = .ok (.istore 6, 2) := dk_54 6 (dk_at dksX8_where_3 15 rfl rfl)
theorem dX8_where_89 : decode cX8_where 89 = .ok (.iload_n 2, 1) := dk_28 (dk_at dksX8_where_3 17 rfl rfl)
theorem dX8_where_90 : decode cX8_where 90 = .ok (.aload 5, 2) := dk_25 5 (dk_at dksX8_where_3 18 rfl rfl)
theorem dX8_where_92 : decode cX8_where 92 = .ok (.getfield 56, 3) := dk_180 0 56 (dk_at dksX8_where_3 20 rfl rfl)
theorem dX8_where_95 : decode cX8_where 95 = .ok (.aload 4, 2) := dk_25 4 (dk_at dksX8_where_4 0 rfl rfl)
theorem dX8_where_97 : decode cX8_where 97 = .ok (.getfield 56, 3) := dk_180 0 56 (dk_at dksX8_where_4 2 rfl rfl)
theorem dX8_where_100 : decode cX8_where 100 = .ok (.if_icmp .le 16, 3) := dk_164 0 16 (dk_at dksX8_where_4 5 rfl rfl)
theorem dX8_where_103 : decode cX8_where 103 = .ok (.iload 6, 2) := dk_21 6 (dk_at dksX8_where_4 8 rfl rfl)
theorem dX8_where_105 : decode cX8_where 105 = .ok (.ifCond .le 7, 3) := dk_158 0 7 (dk_at dksX8_where_4 10 rfl rfl)
theorem dX8_where_108 : decode cX8_where 108 = .ok (.iconst 1, 1) := dk_4 (dk_at dksX8_where_4 13 rfl rfl)
theorem dX8_where_109 : decode cX8_where 109 = .ok (.goto 17, 3) := dk_167 0 17 (dk_at dksX8_where_4 14 rfl rfl)
theorem dX8_where_112 : decode cX8_where 112 = .ok (.iconst 0, 1) := dk_3 (dk_at dksX8_where_4 17 rfl rfl)
theorem dX8_where_113 : decode cX8_where 113 = .ok (.goto 13, 3) := dk_167 0 13 (dk_at dksX8_where_4 18 rfl rfl)
theorem dX8_where_116 : decode cX8_where 116 = .ok (.iload 6, 2) := dk_21 6 (dk_at dksX8_where_4 21 rfl rfl)
theorem dX8_where_118 : decode cX8_where 118 = .ok (.ifCond .ge 7, 3) := dk_156 0 7 (dk_at dksX8_where_5 0 rfl rfl)
theorem dX8_where_121 : decode cX8_where 121 = .ok (.iconst 1, 1) := dk_4 (dk_at dksX8_where_5 3 rfl rfl)
theorem dX8_where_122 : decode cX8_where 122 = .ok (.goto 4, 3) := dk_167 0 4 (dk_at dksX8_where_5 4 rfl rfl)
theorem dX8_where_125 : decode cX8_where 125 = .ok (.iconst 0, 1) := dk_3 (dk_at dksX8_where_5 7 rfl rfl)
theorem dX8_where_126 : decode cX8_where 126 = .ok (.ixor, 1) := dk_130 (dk_at dksX8_where_5 8 rfl rfl)
theorem dX8_where_127 : decode cX8_where 127 = .ok (.istore_n 2, 1) := dk_61 (dk_at dksX8_where_5 9 rfl rfl)
theorem dX8_where_128 : decode cX8_where 128 = .ok (.iinc 3 1, 3) := dk_132 3 1 (dk_at dksX8_where_5 10 rfl rfl)
theorem dX8_where_131 : decode cX8_where 131 = .ok (.goto (-127), 3) := dk_167 255 129 (dk_at dksX8_where_5 13 rfl rfl)
theorem dX8_where_134 : decode cX8_where 134 = .ok (.iload_n 2, 1) := dk_28 (dk_at dksX8_where_5 16 rfl rfl)
theorem dX8_where_135 : decode cX8_where 135 = .ok (.ifCond .eq 7, 3) := dk_153 0 7 (dk_at dksX8_where_5 17 rfl rfl)
theorem dX8_where_138 : decode cX8_where 138 = .ok (.iconst 2, 1) := dk_5 (dk_at dksX8_where_5 20 rfl rfl)
theorem dX8_where_139 : decode cX8_where 139 = .ok (.goto 4, 3) := dk_167 0 4 (dk_at dksX8_where_5 21 rfl rfl)
theorem dX8_where_142 : decode cX8_where 142 = .ok (.iconst 0, 1) := dk_3 (dk_at dksX8_where_6 0 rfl rfl)
theorem dX8_where_143 : decode cX8_where 143 = .ok (.ireturn, 1) := dk_172 (dk_at dksX8_where_6 1 rfl rfl)
abbrev cX8_size : ByteArray := prog_6_method_3_code
def yX8_size : MethodName := ⟨RX8, "size", "()I"⟩
def dkwX8_size_0 : List UInt8 := [42, 180, 0, 12, 185, 0, 25, 1, 0, 172]
abbrev dktX8_size_0 : List UInt8 := dkwX8_size_0 ++ []
theorem dksX8_size_0 : cX8_size.data.toList.drop 0 = dktX8_size_0 := by decide +kernel
theorem dX8_size_0 : decode cX8_size 0 = .ok (.aload_n 0, 1) := dk_42 (dk_at dksX8_size_0 0 rfl rfl)
theorem dX8_size_1 : decode cX8_size 1 = .ok (.getfield 12, 3) := dk_180 0 12 (dk_at dksX8_size_0 1 rfl rfl)
theorem dX8_size_4 : decode cX8_size 4 = .ok (.invokeinterface 25 1, 5) := by decide +kernel
theorem dX8_size_9 : decode cX8_size 9 = .ok (.ireturn, 1) := dk_172 (dk_at dksX8_size_0 9 rfl rfl)
abbrev cX8_at : ByteArray := prog_6_method_5_code
def yX8_at : MethodName := ⟨RX8, "at", "(I)LCornerClaims$Point;"⟩
def dkwX8_at_0 : List UInt8 := [42, 180, 0, 12, 27, 185, 0, 31, 2, 0, 192, 0, 35, 176]
abbrev dktX8_at_0 : List UInt8 := dkwX8_at_0 ++ []
theorem dksX8_at_0 : cX8_at.data.toList.drop 0 = dktX8_at_0 := by decide +kernel
theorem dX8_at_0 : decode cX8_at 0 = .ok (.aload_n 0, 1) := dk_42 (dk_at dksX8_at_0 0 rfl rfl)
theorem dX8_at_1 : decode cX8_at 1 = .ok (.getfield 12, 3) := dk_180 0 12 (dk_at dksX8_at_0 1 rfl rfl)
theorem dX8_at_4 : decode cX8_at 4 = .ok (.iload_n 1, 1) := dk_27 (dk_at dksX8_at_0 4 rfl rfl)
theorem dX8_at_5 : decode cX8_at 5 = .ok (.invokeinterface 31 2, 5) := by decide +kernel
theorem dX8_at_10 : decode cX8_at 10 = .ok (.checkcast 35, 3) := dk_192 0 35 (dk_at dksX8_at_0 10 rfl rfl)
theorem dX8_at_13 : decode cX8_at 13 = .ok (.areturn, 1) := dk_176 (dk_at dksX8_at_0 13 rfl rfl)
abbrev cX8_next : ByteArray := prog_6_method_6_code
def yX8_next : MethodName := ⟨RX8, "next", "(I)LCornerClaims$Point;"⟩
def dkwX8_next_0 : List UInt8 := [42, 27, 4, 96, 42, 182, 0, 45, 112, 182, 0, 46, 176]
abbrev dktX8_next_0 : List UInt8 := dkwX8_next_0 ++ []
theorem dksX8_next_0 : cX8_next.data.toList.drop 0 = dktX8_next_0 := by decide +kernel
theorem dX8_next_0 : decode cX8_next 0 = .ok (.aload_n 0, 1) := dk_42 (dk_at dksX8_next_0 0 rfl rfl)
theorem dX8_next_1 : decode cX8_next 1 = .ok (.iload_n 1, 1) := dk_27 (dk_at dksX8_next_0 1 rfl rfl)
theorem dX8_next_2 : decode cX8_next 2 = .ok (.iconst 1, 1) := dk_4 (dk_at dksX8_next_0 2 rfl rfl)
theorem dX8_next_3 : decode cX8_next 3 = .ok (.iadd, 1) := dk_96 (dk_at dksX8_next_0 3 rfl rfl)
theorem dX8_next_4 : decode cX8_next 4 = .ok (.aload_n 0, 1) := dk_42 (dk_at dksX8_next_0 4 rfl rfl)
theorem dX8_next_5 : decode cX8_next 5 = .ok (.invokevirtual 45, 3) := dk_182 0 45 (dk_at dksX8_next_0 5 rfl rfl)
theorem dX8_next_8 : decode cX8_next 8 = .ok (.irem, 1) := dk_112 (dk_at dksX8_next_0 8 rfl rfl)
theorem dX8_next_9 : decode cX8_next 9 = .ok (.invokevirtual 46, 3) := dk_182 0 46 (dk_at dksX8_next_0 9 rfl rfl)
theorem dX8_next_12 : decode cX8_next 12 = .ok (.areturn, 1) := dk_176 (dk_at dksX8_next_0 12 rfl rfl)
abbrev cX8_area : ByteArray := prog_6_method_10_code
def yX8_area : MethodName := ⟨RX8, "area", "()I"⟩
def dkwX8_area_0 : List UInt8 := [42, 182, 0, 59, 184, 0, 62, 172]
abbrev dktX8_area_0 : List UInt8 := dkwX8_area_0 ++ []
theorem dksX8_area_0 : cX8_area.data.toList.drop 0 = dktX8_area_0 := by decide +kernel
theorem dX8_area_0 : decode cX8_area 0 = .ok (.aload_n 0, 1) := dk_42 (dk_at dksX8_area_0 0 rfl rfl)
theorem dX8_area_1 : decode cX8_area 1 = .ok (.invokevirtual 59, 3) := dk_182 0 59 (dk_at dksX8_area_0 1 rfl rfl)
theorem dX8_area_4 : decode cX8_area 4 = .ok (.invokestatic 62, 3) := dk_184 0 62 (dk_at dksX8_area_0 4 rfl rfl)
theorem dX8_area_7 : decode cX8_area 7 = .ok (.ireturn, 1) := dk_172 (dk_at dksX8_area_0 7 rfl rfl)
abbrev cX8_signedArea : ByteArray := prog_6_method_9_code
def yX8_signedArea : MethodName := ⟨RX8, "signedArea", "()I"⟩
def dkwX8_signedArea_2 : List UInt8 := [100, 96, 60, 132, 2, 1, 167, 255, 207, 27, 172]
abbrev dktX8_signedArea_2 : List UInt8 := dkwX8_signedArea_2 ++ []
def dkwX8_signedArea_1 : List UInt8 := [182, 0, 53, 180, 0, 56, 104, 42, 28, 182, 0, 46, 180, 0, 56, 42, 28, 182, 0, 53, 180, 0, 50, 104]
abbrev dktX8_signedArea_1 : List UInt8 := dkwX8_signedArea_1 ++ dktX8_signedArea_2
def dkwX8_signedArea_0 : List UInt8 := [3, 60, 3, 61, 28, 42, 182, 0, 45, 162, 0, 47, 27, 42, 28, 182, 0, 46, 180, 0, 50, 42, 28]
abbrev dktX8_signedArea_0 : List UInt8 := dkwX8_signedArea_0 ++ dktX8_signedArea_1
theorem dksX8_signedArea_0 : cX8_signedArea.data.toList.drop 0 = dktX8_signedArea_0 := by decide +kernel
theorem dksX8_signedArea_1 : cX8_signedArea.data.toList.drop 23 = dktX8_signedArea_1 := dk_seg dksX8_signedArea_0 23 rfl rfl
theorem dksX8_signedArea_2 : cX8_signedArea.data.toList.drop 47 = dktX8_signedArea_2 := dk_seg dksX8_signedArea_1 24 rfl rfl
theorem dX8_signedArea_0 : decode cX8_signedArea 0 = .ok (.iconst 0, 1) := dk_3 (dk_at dksX8_signedArea_0 0 rfl rfl)
theorem dX8_signedArea_1 : decode cX8_signedArea 1 = .ok (.istore_n 1, 1) := dk_60 (dk_at dksX8_signedArea_0 1 rfl rfl)
theorem dX8_signedArea_2 : decode cX8_signedArea 2 = .ok (.iconst 0, 1) := dk_3 (dk_at dksX8_signedArea_0 2 rfl rfl)
theorem dX8_signedArea_3 : decode cX8_signedArea 3 = .ok (.istore_n 2, 1) := dk_61 (dk_at dksX8_signedArea_0 3 rfl rfl)
theorem dX8_signedArea_4 : decode cX8_signedArea 4 = .ok (.iload_n 2, 1) := dk_28 (dk_at dksX8_signedArea_0 4 rfl rfl)
theorem dX8_signedArea_5 : decode cX8_signedArea 5 = .ok (.aload_n 0, 1) := dk_42 (dk_at dksX8_signedArea_0 5 rfl rfl)
theorem dX8_signedArea_6 : decode cX8_signedArea 6 = .ok (.invokevirtual 45, 3) := dk_182 0 45 (dk_at dksX8_signedArea_0 6 rfl rfl)
theorem dX8_signedArea_9 : decode cX8_signedArea 9 = .ok (.if_icmp .ge 47, 3) := dk_162 0 47 (dk_at dksX8_signedArea_0 9 rfl rfl)
theorem dX8_signedArea_12 : decode cX8_signedArea 12 = .ok (.iload_n 1, 1) := dk_27 (dk_at dksX8_signedArea_0 12 rfl rfl)
theorem dX8_signedArea_13 : decode cX8_signedArea 13 = .ok (.aload_n 0, 1) := dk_42 (dk_at dksX8_signedArea_0 13 rfl rfl)
theorem dX8_signedArea_14 : decode cX8_signedArea 14 = .ok (.iload_n 2, 1) := dk_28 (dk_at dksX8_signedArea_0 14 rfl rfl)
theorem dX8_signedArea_15 : decode cX8_signedArea 15 = .ok (.invokevirtual 46, 3) := dk_182 0 46 (dk_at dksX8_signedArea_0 15 rfl rfl)
theorem dX8_signedArea_18 : decode cX8_signedArea 18 = .ok (.getfield 50, 3) := dk_180 0 50 (dk_at dksX8_signedArea_0 18 rfl rfl)
theorem dX8_signedArea_21 : decode cX8_signedArea 21 = .ok (.aload_n 0, 1) := dk_42 (dk_at dksX8_signedArea_0 21 rfl rfl)
theorem dX8_signedArea_22 : decode cX8_signedArea 22 = .ok (.iload_n 2, 1) := dk_28 (dk_at dksX8_signedArea_0 22 rfl rfl)
theorem dX8_signedArea_23 : decode cX8_signedArea 23 = .ok (.invokevirtual 53, 3) := dk_182 0 53 (dk_at dksX8_signedArea_1 0 rfl rfl)
theorem dX8_signedArea_26 : decode cX8_signedArea 26 = .ok (.getfield 56, 3) := dk_180 0 56 (dk_at dksX8_signedArea_1 3 rfl rfl)
theorem dX8_signedArea_29 : decode cX8_signedArea 29 = .ok (.imul, 1) := dk_104 (dk_at dksX8_signedArea_1 6 rfl rfl)
theorem dX8_signedArea_30 : decode cX8_signedArea 30 = .ok (.aload_n 0, 1) := dk_42 (dk_at dksX8_signedArea_1 7 rfl rfl)
theorem dX8_signedArea_31 : decode cX8_signedArea 31 = .ok (.iload_n 2, 1) := dk_28 (dk_at dksX8_signedArea_1 8 rfl rfl)
theorem dX8_signedArea_32 : decode cX8_signedArea 32 = .ok (.invokevirtual 46, 3) := dk_182 0 46 (dk_at dksX8_signedArea_1 9 rfl rfl)
theorem dX8_signedArea_35 : decode cX8_signedArea 35 = .ok (.getfield 56, 3) := dk_180 0 56 (dk_at dksX8_signedArea_1 12 rfl rfl)
theorem dX8_signedArea_38 : decode cX8_signedArea 38 = .ok (.aload_n 0, 1) := dk_42 (dk_at dksX8_signedArea_1 15 rfl rfl)
theorem dX8_signedArea_39 : decode cX8_signedArea 39 = .ok (.iload_n 2, 1) := dk_28 (dk_at dksX8_signedArea_1 16 rfl rfl)
theorem dX8_signedArea_40 : decode cX8_signedArea 40 = .ok (.invokevirtual 53, 3) := dk_182 0 53 (dk_at dksX8_signedArea_1 17 rfl rfl)
theorem dX8_signedArea_43 : decode cX8_signedArea 43 = .ok (.getfield 50, 3) := dk_180 0 50 (dk_at dksX8_signedArea_1 20 rfl rfl)
theorem dX8_signedArea_46 : decode cX8_signedArea 46 = .ok (.imul, 1) := dk_104 (dk_at dksX8_signedArea_1 23 rfl rfl)
theorem dX8_signedArea_47 : decode cX8_signedArea 47 = .ok (.isub, 1) := dk_100 (dk_at dksX8_signedArea_2 0 rfl rfl)
theorem dX8_signedArea_48 : decode cX8_signedArea 48 = .ok (.iadd, 1) := dk_96 (dk_at dksX8_signedArea_2 1 rfl rfl)
theorem dX8_signedArea_49 : decode cX8_signedArea 49 = .ok (.istore_n 1, 1) := dk_60 (dk_at dksX8_signedArea_2 2 rfl rfl)
theorem dX8_signedArea_50 : decode cX8_signedArea 50 = .ok (.iinc 2 1, 3) := dk_132 2 1 (dk_at dksX8_signedArea_2 3 rfl rfl)
theorem dX8_signedArea_53 : decode cX8_signedArea 53 = .ok (.goto (-49), 3) := dk_167 255 207 (dk_at dksX8_signedArea_2 6 rfl rfl)
theorem dX8_signedArea_56 : decode cX8_signedArea 56 = .ok (.iload_n 1, 1) := dk_27 (dk_at dksX8_signedArea_2 9 rfl rfl)
theorem dX8_signedArea_57 : decode cX8_signedArea 57 = .ok (.ireturn, 1) := dk_172 (dk_at dksX8_signedArea_2 10 rfl rfl)
abbrev cX8_dents : ByteArray := prog_6_method_13_code
def yX8_dents : MethodName := ⟨RX8, "dents", "()I"⟩
def dkwX8_dents_2 : List UInt8 := [4, 167, 0, 4, 3, 96, 61, 132, 3, 1, 167, 255, 211, 28, 172]
abbrev dktX8_dents_2 : List UInt8 := dkwX8_dents_2 ++ []
def dkwX8_dents_1 : List UInt8 := [182, 0, 83, 42, 29, 182, 0, 46, 42, 29, 182, 0, 53, 184, 0, 86, 184, 0, 78, 27, 116, 160, 0, 7]
abbrev dktX8_dents_1 : List UInt8 := dkwX8_dents_1 ++ dktX8_dents_2
def dkwX8_dents_0 : List UInt8 := [42, 182, 0, 59, 184, 0, 78, 60, 3, 61, 3, 62, 29, 42, 182, 0, 45, 162, 0, 43, 28, 42, 29]
abbrev dktX8_dents_0 : List UInt8 := dkwX8_dents_0 ++ dktX8_dents_1
theorem dksX8_dents_0 : cX8_dents.data.toList.drop 0 = dktX8_dents_0 := by decide +kernel
theorem dksX8_dents_1 : cX8_dents.data.toList.drop 23 = dktX8_dents_1 := dk_seg dksX8_dents_0 23 rfl rfl
theorem dksX8_dents_2 : cX8_dents.data.toList.drop 47 = dktX8_dents_2 := dk_seg dksX8_dents_1 24 rfl rfl
theorem dX8_dents_0 : decode cX8_dents 0 = .ok (.aload_n 0, 1) := dk_42 (dk_at dksX8_dents_0 0 rfl rfl)
theorem dX8_dents_1 : decode cX8_dents 1 = .ok (.invokevirtual 59, 3) := dk_182 0 59 (dk_at dksX8_dents_0 1 rfl rfl)
theorem dX8_dents_4 : decode cX8_dents 4 = .ok (.invokestatic 78, 3) := dk_184 0 78 (dk_at dksX8_dents_0 4 rfl rfl)
theorem dX8_dents_7 : decode cX8_dents 7 = .ok (.istore_n 1, 1) := dk_60 (dk_at dksX8_dents_0 7 rfl rfl)
theorem dX8_dents_8 : decode cX8_dents 8 = .ok (.iconst 0, 1) := dk_3 (dk_at dksX8_dents_0 8 rfl rfl)
theorem dX8_dents_9 : decode cX8_dents 9 = .ok (.istore_n 2, 1) := dk_61 (dk_at dksX8_dents_0 9 rfl rfl)
theorem dX8_dents_10 : decode cX8_dents 10 = .ok (.iconst 0, 1) := dk_3 (dk_at dksX8_dents_0 10 rfl rfl)
theorem dX8_dents_11 : decode cX8_dents 11 = .ok (.istore_n 3, 1) := dk_62 (dk_at dksX8_dents_0 11 rfl rfl)
theorem dX8_dents_12 : decode cX8_dents 12 = .ok (.iload_n 3, 1) := dk_29 (dk_at dksX8_dents_0 12 rfl rfl)
theorem dX8_dents_13 : decode cX8_dents 13 = .ok (.aload_n 0, 1) := dk_42 (dk_at dksX8_dents_0 13 rfl rfl)
theorem dX8_dents_14 : decode cX8_dents 14 = .ok (.invokevirtual 45, 3) := dk_182 0 45 (dk_at dksX8_dents_0 14 rfl rfl)
theorem dX8_dents_17 : decode cX8_dents 17 = .ok (.if_icmp .ge 43, 3) := dk_162 0 43 (dk_at dksX8_dents_0 17 rfl rfl)
theorem dX8_dents_20 : decode cX8_dents 20 = .ok (.iload_n 2, 1) := dk_28 (dk_at dksX8_dents_0 20 rfl rfl)
theorem dX8_dents_21 : decode cX8_dents 21 = .ok (.aload_n 0, 1) := dk_42 (dk_at dksX8_dents_0 21 rfl rfl)
theorem dX8_dents_22 : decode cX8_dents 22 = .ok (.iload_n 3, 1) := dk_29 (dk_at dksX8_dents_0 22 rfl rfl)
theorem dX8_dents_23 : decode cX8_dents 23 = .ok (.invokevirtual 83, 3) := dk_182 0 83 (dk_at dksX8_dents_1 0 rfl rfl)
theorem dX8_dents_26 : decode cX8_dents 26 = .ok (.aload_n 0, 1) := dk_42 (dk_at dksX8_dents_1 3 rfl rfl)
theorem dX8_dents_27 : decode cX8_dents 27 = .ok (.iload_n 3, 1) := dk_29 (dk_at dksX8_dents_1 4 rfl rfl)
theorem dX8_dents_28 : decode cX8_dents 28 = .ok (.invokevirtual 46, 3) := dk_182 0 46 (dk_at dksX8_dents_1 5 rfl rfl)
theorem dX8_dents_31 : decode cX8_dents 31 = .ok (.aload_n 0, 1) := dk_42 (dk_at dksX8_dents_1 8 rfl rfl)
theorem dX8_dents_32 : decode cX8_dents 32 = .ok (.iload_n 3, 1) := dk_29 (dk_at dksX8_dents_1 9 rfl rfl)
theorem dX8_dents_33 : decode cX8_dents 33 = .ok (.invokevirtual 53, 3) := dk_182 0 53 (dk_at dksX8_dents_1 10 rfl rfl)
theorem dX8_dents_36 : decode cX8_dents 36 = .ok (.invokestatic 86, 3) := dk_184 0 86 (dk_at dksX8_dents_1 13 rfl rfl)
theorem dX8_dents_39 : decode cX8_dents 39 = .ok (.invokestatic 78, 3) := dk_184 0 78 (dk_at dksX8_dents_1 16 rfl rfl)
theorem dX8_dents_42 : decode cX8_dents 42 = .ok (.iload_n 1, 1) := dk_27 (dk_at dksX8_dents_1 19 rfl rfl)
theorem dX8_dents_43 : decode cX8_dents 43 = .ok (.ineg, 1) := dk_116 (dk_at dksX8_dents_1 20 rfl rfl)
theorem dX8_dents_44 : decode cX8_dents 44 = .ok (.if_icmp .ne 7, 3) := dk_160 0 7 (dk_at dksX8_dents_1 21 rfl rfl)
theorem dX8_dents_47 : decode cX8_dents 47 = .ok (.iconst 1, 1) := dk_4 (dk_at dksX8_dents_2 0 rfl rfl)
theorem dX8_dents_48 : decode cX8_dents 48 = .ok (.goto 4, 3) := dk_167 0 4 (dk_at dksX8_dents_2 1 rfl rfl)
theorem dX8_dents_51 : decode cX8_dents 51 = .ok (.iconst 0, 1) := dk_3 (dk_at dksX8_dents_2 4 rfl rfl)
theorem dX8_dents_52 : decode cX8_dents 52 = .ok (.iadd, 1) := dk_96 (dk_at dksX8_dents_2 5 rfl rfl)
theorem dX8_dents_53 : decode cX8_dents 53 = .ok (.istore_n 2, 1) := dk_61 (dk_at dksX8_dents_2 6 rfl rfl)
theorem dX8_dents_54 : decode cX8_dents 54 = .ok (.iinc 3 1, 3) := dk_132 3 1 (dk_at dksX8_dents_2 7 rfl rfl)
theorem dX8_dents_57 : decode cX8_dents 57 = .ok (.goto (-45), 3) := dk_167 255 211 (dk_at dksX8_dents_2 10 rfl rfl)
theorem dX8_dents_60 : decode cX8_dents 60 = .ok (.iload_n 2, 1) := dk_28 (dk_at dksX8_dents_2 13 rfl rfl)
theorem dX8_dents_61 : decode cX8_dents 61 = .ok (.ireturn, 1) := dk_172 (dk_at dksX8_dents_2 14 rfl rfl)
abbrev cX8_previous : ByteArray := prog_6_method_7_code
def yX8_previous : MethodName := ⟨RX8, "previous", "(I)LCornerClaims$Point;"⟩
def dkwX8_previous_0 : List UInt8 := [42, 27, 42, 182, 0, 45, 96, 4, 100, 42, 182, 0, 45, 112, 182, 0, 46, 176]
abbrev dktX8_previous_0 : List UInt8 := dkwX8_previous_0 ++ []
theorem dksX8_previous_0 : cX8_previous.data.toList.drop 0 = dktX8_previous_0 := by decide +kernel
theorem dX8_previous_0 : decode cX8_previous 0 = .ok (.aload_n 0, 1) := dk_42 (dk_at dksX8_previous_0 0 rfl rfl)
theorem dX8_previous_1 : decode cX8_previous 1 = .ok (.iload_n 1, 1) := dk_27 (dk_at dksX8_previous_0 1 rfl rfl)
theorem dX8_previous_2 : decode cX8_previous 2 = .ok (.aload_n 0, 1) := dk_42 (dk_at dksX8_previous_0 2 rfl rfl)
theorem dX8_previous_3 : decode cX8_previous 3 = .ok (.invokevirtual 45, 3) := dk_182 0 45 (dk_at dksX8_previous_0 3 rfl rfl)
theorem dX8_previous_6 : decode cX8_previous 6 = .ok (.iadd, 1) := dk_96 (dk_at dksX8_previous_0 6 rfl rfl)
theorem dX8_previous_7 : decode cX8_previous 7 = .ok (.iconst 1, 1) := dk_4 (dk_at dksX8_previous_0 7 rfl rfl)
theorem dX8_previous_8 : decode cX8_previous 8 = .ok (.isub, 1) := dk_100 (dk_at dksX8_previous_0 8 rfl rfl)
theorem dX8_previous_9 : decode cX8_previous 9 = .ok (.aload_n 0, 1) := dk_42 (dk_at dksX8_previous_0 9 rfl rfl)
theorem dX8_previous_10 : decode cX8_previous 10 = .ok (.invokevirtual 45, 3) := dk_182 0 45 (dk_at dksX8_previous_0 10 rfl rfl)
theorem dX8_previous_13 : decode cX8_previous 13 = .ok (.irem, 1) := dk_112 (dk_at dksX8_previous_0 13 rfl rfl)
theorem dX8_previous_14 : decode cX8_previous 14 = .ok (.invokevirtual 46, 3) := dk_182 0 46 (dk_at dksX8_previous_0 14 rfl rfl)
theorem dX8_previous_17 : decode cX8_previous 17 = .ok (.areturn, 1) := dk_176 (dk_at dksX8_previous_0 17 rfl rfl)
abbrev cX8_inner : ByteArray := prog_6_method_12_code
def yX8_inner : MethodName := ⟨RX8, "inner", "()I"⟩
def dkwX8_inner_0 : List UInt8 := [42, 182, 0, 72, 42, 182, 0, 75, 100, 5, 96, 5, 108, 172]
abbrev dktX8_inner_0 : List UInt8 := dkwX8_inner_0 ++ []
theorem dksX8_inner_0 : cX8_inner.data.toList.drop 0 = dktX8_inner_0 := by decide +kernel
theorem dX8_inner_0 : decode cX8_inner 0 = .ok (.aload_n 0, 1) := dk_42 (dk_at dksX8_inner_0 0 rfl rfl)
theorem dX8_inner_1 : decode cX8_inner 1 = .ok (.invokevirtual 72, 3) := dk_182 0 72 (dk_at dksX8_inner_0 1 rfl rfl)
theorem dX8_inner_4 : decode cX8_inner 4 = .ok (.aload_n 0, 1) := dk_42 (dk_at dksX8_inner_0 4 rfl rfl)
theorem dX8_inner_5 : decode cX8_inner 5 = .ok (.invokevirtual 75, 3) := dk_182 0 75 (dk_at dksX8_inner_0 5 rfl rfl)
theorem dX8_inner_8 : decode cX8_inner 8 = .ok (.isub, 1) := dk_100 (dk_at dksX8_inner_0 8 rfl rfl)
theorem dX8_inner_9 : decode cX8_inner 9 = .ok (.iconst 2, 1) := dk_5 (dk_at dksX8_inner_0 9 rfl rfl)
theorem dX8_inner_10 : decode cX8_inner 10 = .ok (.iadd, 1) := dk_96 (dk_at dksX8_inner_0 10 rfl rfl)
theorem dX8_inner_11 : decode cX8_inner 11 = .ok (.iconst 2, 1) := dk_5 (dk_at dksX8_inner_0 11 rfl rfl)
theorem dX8_inner_12 : decode cX8_inner 12 = .ok (.idiv, 1) := dk_108 (dk_at dksX8_inner_0 12 rfl rfl)
theorem dX8_inner_13 : decode cX8_inner 13 = .ok (.ireturn, 1) := dk_172 (dk_at dksX8_inner_0 13 rfl rfl)
abbrev cX8_border : ByteArray := prog_6_method_11_code
def yX8_border : MethodName := ⟨RX8, "border", "()I"⟩
def dkwX8_border_2 : List UInt8 := [184, 0, 68, 96, 60, 132, 2, 1, 167, 255, 205, 27, 172]
abbrev dktX8_border_2 : List UInt8 := dkwX8_border_2 ++ []
def dkwX8_border_1 : List UInt8 := [182, 0, 46, 180, 0, 50, 100, 42, 28, 182, 0, 53, 180, 0, 56, 42, 28, 182, 0, 46, 180, 0, 56, 100]
abbrev dktX8_border_1 : List UInt8 := dkwX8_border_1 ++ dktX8_border_2
def dkwX8_border_0 : List UInt8 := [3, 60, 3, 61, 28, 42, 182, 0, 45, 162, 0, 49, 27, 42, 28, 182, 0, 53, 180, 0, 50, 42, 28]
abbrev dktX8_border_0 : List UInt8 := dkwX8_border_0 ++ dktX8_border_1
theorem dksX8_border_0 : cX8_border.data.toList.drop 0 = dktX8_border_0 := by decide +kernel
theorem dksX8_border_1 : cX8_border.data.toList.drop 23 = dktX8_border_1 := dk_seg dksX8_border_0 23 rfl rfl
theorem dksX8_border_2 : cX8_border.data.toList.drop 47 = dktX8_border_2 := dk_seg dksX8_border_1 24 rfl rfl
theorem dX8_border_0 : decode cX8_border 0 = .ok (.iconst 0, 1) := dk_3 (dk_at dksX8_border_0 0 rfl rfl)
theorem dX8_border_1 : decode cX8_border 1 = .ok (.istore_n 1, 1) := dk_60 (dk_at dksX8_border_0 1 rfl rfl)
theorem dX8_border_2 : decode cX8_border 2 = .ok (.iconst 0, 1) := dk_3 (dk_at dksX8_border_0 2 rfl rfl)
theorem dX8_border_3 : decode cX8_border 3 = .ok (.istore_n 2, 1) := dk_61 (dk_at dksX8_border_0 3 rfl rfl)
theorem dX8_border_4 : decode cX8_border 4 = .ok (.iload_n 2, 1) := dk_28 (dk_at dksX8_border_0 4 rfl rfl)
theorem dX8_border_5 : decode cX8_border 5 = .ok (.aload_n 0, 1) := dk_42 (dk_at dksX8_border_0 5 rfl rfl)
theorem dX8_border_6 : decode cX8_border 6 = .ok (.invokevirtual 45, 3) := dk_182 0 45 (dk_at dksX8_border_0 6 rfl rfl)
theorem dX8_border_9 : decode cX8_border 9 = .ok (.if_icmp .ge 49, 3) := dk_162 0 49 (dk_at dksX8_border_0 9 rfl rfl)
theorem dX8_border_12 : decode cX8_border 12 = .ok (.iload_n 1, 1) := dk_27 (dk_at dksX8_border_0 12 rfl rfl)
theorem dX8_border_13 : decode cX8_border 13 = .ok (.aload_n 0, 1) := dk_42 (dk_at dksX8_border_0 13 rfl rfl)
theorem dX8_border_14 : decode cX8_border 14 = .ok (.iload_n 2, 1) := dk_28 (dk_at dksX8_border_0 14 rfl rfl)
theorem dX8_border_15 : decode cX8_border 15 = .ok (.invokevirtual 53, 3) := dk_182 0 53 (dk_at dksX8_border_0 15 rfl rfl)
theorem dX8_border_18 : decode cX8_border 18 = .ok (.getfield 50, 3) := dk_180 0 50 (dk_at dksX8_border_0 18 rfl rfl)
theorem dX8_border_21 : decode cX8_border 21 = .ok (.aload_n 0, 1) := dk_42 (dk_at dksX8_border_0 21 rfl rfl)
theorem dX8_border_22 : decode cX8_border 22 = .ok (.iload_n 2, 1) := dk_28 (dk_at dksX8_border_0 22 rfl rfl)
theorem dX8_border_23 : decode cX8_border 23 = .ok (.invokevirtual 46, 3) := dk_182 0 46 (dk_at dksX8_border_1 0 rfl rfl)
theorem dX8_border_26 : decode cX8_border 26 = .ok (.getfield 50, 3) := dk_180 0 50 (dk_at dksX8_border_1 3 rfl rfl)
theorem dX8_border_29 : decode cX8_border 29 = .ok (.isub, 1) := dk_100 (dk_at dksX8_border_1 6 rfl rfl)
theorem dX8_border_30 : decode cX8_border 30 = .ok (.aload_n 0, 1) := dk_42 (dk_at dksX8_border_1 7 rfl rfl)
theorem dX8_border_31 : decode cX8_border 31 = .ok (.iload_n 2, 1) := dk_28 (dk_at dksX8_border_1 8 rfl rfl)
theorem dX8_border_32 : decode cX8_border 32 = .ok (.invokevirtual 53, 3) := dk_182 0 53 (dk_at dksX8_border_1 9 rfl rfl)
theorem dX8_border_35 : decode cX8_border 35 = .ok (.getfield 56, 3) := dk_180 0 56 (dk_at dksX8_border_1 12 rfl rfl)
theorem dX8_border_38 : decode cX8_border 38 = .ok (.aload_n 0, 1) := dk_42 (dk_at dksX8_border_1 15 rfl rfl)
theorem dX8_border_39 : decode cX8_border 39 = .ok (.iload_n 2, 1) := dk_28 (dk_at dksX8_border_1 16 rfl rfl)
theorem dX8_border_40 : decode cX8_border 40 = .ok (.invokevirtual 46, 3) := dk_182 0 46 (dk_at dksX8_border_1 17 rfl rfl)
theorem dX8_border_43 : decode cX8_border 43 = .ok (.getfield 56, 3) := dk_180 0 56 (dk_at dksX8_border_1 20 rfl rfl)
theorem dX8_border_46 : decode cX8_border 46 = .ok (.isub, 1) := dk_100 (dk_at dksX8_border_1 23 rfl rfl)
theorem dX8_border_47 : decode cX8_border 47 = .ok (.invokestatic 68, 3) := dk_184 0 68 (dk_at dksX8_border_2 0 rfl rfl)
theorem dX8_border_50 : decode cX8_border 50 = .ok (.iadd, 1) := dk_96 (dk_at dksX8_border_2 3 rfl rfl)
theorem dX8_border_51 : decode cX8_border 51 = .ok (.istore_n 1, 1) := dk_60 (dk_at dksX8_border_2 4 rfl rfl)
theorem dX8_border_52 : decode cX8_border 52 = .ok (.iinc 2 1, 3) := dk_132 2 1 (dk_at dksX8_border_2 5 rfl rfl)
theorem dX8_border_55 : decode cX8_border 55 = .ok (.goto (-51), 3) := dk_167 255 205 (dk_at dksX8_border_2 8 rfl rfl)
theorem dX8_border_58 : decode cX8_border 58 = .ok (.iload_n 1, 1) := dk_27 (dk_at dksX8_border_2 11 rfl rfl)
theorem dX8_border_59 : decode cX8_border 59 = .ok (.ireturn, 1) := dk_172 (dk_at dksX8_border_2 12 rfl rfl)
abbrev cX8_sides : ByteArray := prog_6_method_4_code
def yX8_sides : MethodName := ⟨RX8, "sides", "()I"⟩
def dkwX8_sides_0 : List UInt8 := [42, 180, 0, 41, 153, 0, 10, 42, 182, 0, 45, 167, 0, 9, 42, 182, 0, 45, 4, 100, 172]
abbrev dktX8_sides_0 : List UInt8 := dkwX8_sides_0 ++ []
theorem dksX8_sides_0 : cX8_sides.data.toList.drop 0 = dktX8_sides_0 := by decide +kernel
theorem dX8_sides_0 : decode cX8_sides 0 = .ok (.aload_n 0, 1) := dk_42 (dk_at dksX8_sides_0 0 rfl rfl)
theorem dX8_sides_1 : decode cX8_sides 1 = .ok (.getfield 41, 3) := dk_180 0 41 (dk_at dksX8_sides_0 1 rfl rfl)
theorem dX8_sides_4 : decode cX8_sides 4 = .ok (.ifCond .eq 10, 3) := dk_153 0 10 (dk_at dksX8_sides_0 4 rfl rfl)
theorem dX8_sides_7 : decode cX8_sides 7 = .ok (.aload_n 0, 1) := dk_42 (dk_at dksX8_sides_0 7 rfl rfl)
theorem dX8_sides_8 : decode cX8_sides 8 = .ok (.invokevirtual 45, 3) := dk_182 0 45 (dk_at dksX8_sides_0 8 rfl rfl)
theorem dX8_sides_11 : decode cX8_sides 11 = .ok (.goto 9, 3) := dk_167 0 9 (dk_at dksX8_sides_0 11 rfl rfl)
theorem dX8_sides_14 : decode cX8_sides 14 = .ok (.aload_n 0, 1) := dk_42 (dk_at dksX8_sides_0 14 rfl rfl)
theorem dX8_sides_15 : decode cX8_sides 15 = .ok (.invokevirtual 45, 3) := dk_182 0 45 (dk_at dksX8_sides_0 15 rfl rfl)
theorem dX8_sides_18 : decode cX8_sides 18 = .ok (.iconst 1, 1) := dk_4 (dk_at dksX8_sides_0 18 rfl rfl)
theorem dX8_sides_19 : decode cX8_sides 19 = .ok (.isub, 1) := dk_100 (dk_at dksX8_sides_0 19 rfl rfl)
theorem dX8_sides_20 : decode cX8_sides 20 = .ok (.ireturn, 1) := dk_172 (dk_at dksX8_sides_0 20 rfl rfl)
abbrev cX8_init : ByteArray := prog_6_method_1_code
def yX8_init : MethodName := ⟨RX8, "<init>", "(I)V"⟩
def dkwX8_init_0 : List UInt8 := [42, 183, 0, 3, 42, 187, 0, 9, 89, 183, 0, 11, 181, 0, 12, 42, 27, 181, 0, 18, 177]
abbrev dktX8_init_0 : List UInt8 := dkwX8_init_0 ++ []
theorem dksX8_init_0 : cX8_init.data.toList.drop 0 = dktX8_init_0 := by decide +kernel
theorem dX8_init_0 : decode cX8_init 0 = .ok (.aload_n 0, 1) := dk_42 (dk_at dksX8_init_0 0 rfl rfl)
theorem dX8_init_1 : decode cX8_init 1 = .ok (.invokespecial 3, 3) := dk_183 0 3 (dk_at dksX8_init_0 1 rfl rfl)
theorem dX8_init_4 : decode cX8_init 4 = .ok (.aload_n 0, 1) := dk_42 (dk_at dksX8_init_0 4 rfl rfl)
theorem dX8_init_5 : decode cX8_init 5 = .ok (.new 9, 3) := dk_187 0 9 (dk_at dksX8_init_0 5 rfl rfl)
theorem dX8_init_8 : decode cX8_init 8 = .ok (.dup, 1) := dk_89 (dk_at dksX8_init_0 8 rfl rfl)
theorem dX8_init_9 : decode cX8_init 9 = .ok (.invokespecial 11, 3) := dk_183 0 11 (dk_at dksX8_init_0 9 rfl rfl)
theorem dX8_init_12 : decode cX8_init 12 = .ok (.putfield 12, 3) := dk_181 0 12 (dk_at dksX8_init_0 12 rfl rfl)
theorem dX8_init_15 : decode cX8_init 15 = .ok (.aload_n 0, 1) := dk_42 (dk_at dksX8_init_0 15 rfl rfl)
theorem dX8_init_16 : decode cX8_init 16 = .ok (.iload_n 1, 1) := dk_27 (dk_at dksX8_init_0 16 rfl rfl)
theorem dX8_init_17 : decode cX8_init 17 = .ok (.putfield 18, 3) := dk_181 0 18 (dk_at dksX8_init_0 17 rfl rfl)
theorem dX8_init_20 : decode cX8_init 20 = .ok (.return_, 1) := dk_177 (dk_at dksX8_init_0 20 rfl rfl)
abbrev cX8_last : ByteArray := prog_6_method_8_code
def yX8_last : MethodName := ⟨RX8, "last", "()LCornerClaims$Point;"⟩
def dkwX8_last_0 : List UInt8 := [42, 42, 182, 0, 45, 4, 100, 182, 0, 46, 176]
abbrev dktX8_last_0 : List UInt8 := dkwX8_last_0 ++ []
theorem dksX8_last_0 : cX8_last.data.toList.drop 0 = dktX8_last_0 := by decide +kernel
theorem dX8_last_0 : decode cX8_last 0 = .ok (.aload_n 0, 1) := dk_42 (dk_at dksX8_last_0 0 rfl rfl)
theorem dX8_last_1 : decode cX8_last 1 = .ok (.aload_n 0, 1) := dk_42 (dk_at dksX8_last_0 1 rfl rfl)
theorem dX8_last_2 : decode cX8_last 2 = .ok (.invokevirtual 45, 3) := dk_182 0 45 (dk_at dksX8_last_0 2 rfl rfl)
theorem dX8_last_5 : decode cX8_last 5 = .ok (.iconst 1, 1) := dk_4 (dk_at dksX8_last_0 5 rfl rfl)
theorem dX8_last_6 : decode cX8_last 6 = .ok (.isub, 1) := dk_100 (dk_at dksX8_last_0 6 rfl rfl)
theorem dX8_last_7 : decode cX8_last 7 = .ok (.invokevirtual 46, 3) := dk_182 0 46 (dk_at dksX8_last_0 7 rfl rfl)
theorem dX8_last_10 : decode cX8_last 10 = .ok (.areturn, 1) := dk_176 (dk_at dksX8_last_0 10 rfl rfl)
abbrev cX8_copy : ByteArray := prog_6_method_2_code
def yX8_copy : MethodName := ⟨RX8, "copy", "()LCornerClaims$Polygon;"⟩
def dkwX8_copy_2 : List UInt8 := [185, 0, 37, 2, 0, 87, 132, 2, 1, 167, 255, 217, 43, 42, 180, 0, 41, 181, 0, 41, 43, 176]
abbrev dktX8_copy_2 : List UInt8 := dkwX8_copy_2 ++ []
def dkwX8_copy_1 : List UInt8 := [162, 0, 32, 43, 180, 0, 12, 42, 180, 0, 12, 28, 185, 0, 31, 2, 0, 192, 0, 35]
abbrev dktX8_copy_1 : List UInt8 := dkwX8_copy_1 ++ dktX8_copy_2
def dkwX8_copy_0 : List UInt8 := [187, 0, 13, 89, 42, 180, 0, 18, 183, 0, 22, 76, 3, 61, 28, 42, 180, 0, 12, 185, 0, 25, 1, 0]
abbrev dktX8_copy_0 : List UInt8 := dkwX8_copy_0 ++ dktX8_copy_1
theorem dksX8_copy_0 : cX8_copy.data.toList.drop 0 = dktX8_copy_0 := by decide +kernel
theorem dksX8_copy_1 : cX8_copy.data.toList.drop 24 = dktX8_copy_1 := dk_seg dksX8_copy_0 24 rfl rfl
theorem dksX8_copy_2 : cX8_copy.data.toList.drop 44 = dktX8_copy_2 := dk_seg dksX8_copy_1 20 rfl rfl
theorem dX8_copy_0 : decode cX8_copy 0 = .ok (.new 13, 3) := dk_187 0 13 (dk_at dksX8_copy_0 0 rfl rfl)
theorem dX8_copy_3 : decode cX8_copy 3 = .ok (.dup, 1) := dk_89 (dk_at dksX8_copy_0 3 rfl rfl)
theorem dX8_copy_4 : decode cX8_copy 4 = .ok (.aload_n 0, 1) := dk_42 (dk_at dksX8_copy_0 4 rfl rfl)
theorem dX8_copy_5 : decode cX8_copy 5 = .ok (.getfield 18, 3) := dk_180 0 18 (dk_at dksX8_copy_0 5 rfl rfl)
theorem dX8_copy_8 : decode cX8_copy 8 = .ok (.invokespecial 22, 3) := dk_183 0 22 (dk_at dksX8_copy_0 8 rfl rfl)
theorem dX8_copy_11 : decode cX8_copy 11 = .ok (.astore_n 1, 1) := dk_76 (dk_at dksX8_copy_0 11 rfl rfl)
theorem dX8_copy_12 : decode cX8_copy 12 = .ok (.iconst 0, 1) := dk_3 (dk_at dksX8_copy_0 12 rfl rfl)
theorem dX8_copy_13 : decode cX8_copy 13 = .ok (.istore_n 2, 1) := dk_61 (dk_at dksX8_copy_0 13 rfl rfl)
theorem dX8_copy_14 : decode cX8_copy 14 = .ok (.iload_n 2, 1) := dk_28 (dk_at dksX8_copy_0 14 rfl rfl)
theorem dX8_copy_15 : decode cX8_copy 15 = .ok (.aload_n 0, 1) := dk_42 (dk_at dksX8_copy_0 15 rfl rfl)
theorem dX8_copy_16 : decode cX8_copy 16 = .ok (.getfield 12, 3) := dk_180 0 12 (dk_at dksX8_copy_0 16 rfl rfl)
theorem dX8_copy_19 : decode cX8_copy 19 = .ok (.invokeinterface 25 1, 5) := by decide +kernel
theorem dX8_copy_24 : decode cX8_copy 24 = .ok (.if_icmp .ge 32, 3) := dk_162 0 32 (dk_at dksX8_copy_1 0 rfl rfl)
theorem dX8_copy_27 : decode cX8_copy 27 = .ok (.aload_n 1, 1) := dk_43 (dk_at dksX8_copy_1 3 rfl rfl)
theorem dX8_copy_28 : decode cX8_copy 28 = .ok (.getfield 12, 3) := dk_180 0 12 (dk_at dksX8_copy_1 4 rfl rfl)
theorem dX8_copy_31 : decode cX8_copy 31 = .ok (.aload_n 0, 1) := dk_42 (dk_at dksX8_copy_1 7 rfl rfl)
theorem dX8_copy_32 : decode cX8_copy 32 = .ok (.getfield 12, 3) := dk_180 0 12 (dk_at dksX8_copy_1 8 rfl rfl)
theorem dX8_copy_35 : decode cX8_copy 35 = .ok (.iload_n 2, 1) := dk_28 (dk_at dksX8_copy_1 11 rfl rfl)
theorem dX8_copy_36 : decode cX8_copy 36 = .ok (.invokeinterface 31 2, 5) := by decide +kernel
theorem dX8_copy_41 : decode cX8_copy 41 = .ok (.checkcast 35, 3) := dk_192 0 35 (dk_at dksX8_copy_1 17 rfl rfl)
theorem dX8_copy_44 : decode cX8_copy 44 = .ok (.invokeinterface 37 2, 5) := by decide +kernel
theorem dX8_copy_49 : decode cX8_copy 49 = .ok (.pop, 1) := dk_87 (dk_at dksX8_copy_2 5 rfl rfl)
theorem dX8_copy_50 : decode cX8_copy 50 = .ok (.iinc 2 1, 3) := dk_132 2 1 (dk_at dksX8_copy_2 6 rfl rfl)
theorem dX8_copy_53 : decode cX8_copy 53 = .ok (.goto (-39), 3) := dk_167 255 217 (dk_at dksX8_copy_2 9 rfl rfl)
theorem dX8_copy_56 : decode cX8_copy 56 = .ok (.aload_n 1, 1) := dk_43 (dk_at dksX8_copy_2 12 rfl rfl)
theorem dX8_copy_57 : decode cX8_copy 57 = .ok (.aload_n 0, 1) := dk_42 (dk_at dksX8_copy_2 13 rfl rfl)
theorem dX8_copy_58 : decode cX8_copy 58 = .ok (.getfield 41, 3) := dk_180 0 41 (dk_at dksX8_copy_2 14 rfl rfl)
theorem dX8_copy_61 : decode cX8_copy 61 = .ok (.putfield 41, 3) := dk_181 0 41 (dk_at dksX8_copy_2 17 rfl rfl)
theorem dX8_copy_64 : decode cX8_copy 64 = .ok (.aload_n 1, 1) := dk_43 (dk_at dksX8_copy_2 20 rfl rfl)
theorem dX8_copy_65 : decode cX8_copy 65 = .ok (.areturn, 1) := dk_176 (dk_at dksX8_copy_2 21 rfl rfl)
theorem q121 : (Jvm.Cond.initialized "CornerClaims$Polygon") ∈ lw_all := lw_g (lw_at lw_m1 38 rfl) rfl
theorem q762 : (Jvm.Cond.instanceMethod ({ cls := "CornerClaims$Polygon", name := "where", desc := "(LCornerClaims$Point;)I" } : Jvm.MethodName)) ∈ lw_all := lw_g (lw_at lw_m3 199 rfl) rfl
theorem q763 : (Jvm.Cond.selects "CornerClaims$Polygon" ({ cls := "CornerClaims$Polygon", name := "where", desc := "(LCornerClaims$Point;)I" } : Jvm.MethodName) ({ cls := "CornerClaims$Polygon", name := "where", desc := "(LCornerClaims$Point;)I" } : Jvm.MethodName)) ∈ lw_all := lw_g (lw_at lw_m3 200 rfl) rfl
theorem q764 : (Jvm.Cond.code ({ cls := "CornerClaims$Polygon", name := "where", desc := "(LCornerClaims$Point;)I" } : Jvm.MethodName) prog_6_method_14_code (7 : Nat) (Option.some Jvm.ClassFile.FieldType.int)) ∈ lw_all := lw_g (lw_at lw_m3 201 rfl) rfl
theorem q765 : (Jvm.Cond.methodLink "CornerClaims$Polygon" (45 : Nat) ({ cls := "CornerClaims$Polygon", name := "size", desc := "()I" } : Jvm.MethodName)) ∈ lw_all := lw_g (lw_at lw_m3 202 rfl) rfl
theorem q766 : (Jvm.Cond.instanceMethod ({ cls := "CornerClaims$Polygon", name := "size", desc := "()I" } : Jvm.MethodName)) ∈ lw_all := lw_g (lw_at lw_m3 203 rfl) rfl
theorem q767 : (Jvm.Cond.selects "CornerClaims$Polygon" ({ cls := "CornerClaims$Polygon", name := "size", desc := "()I" } : Jvm.MethodName) ({ cls := "CornerClaims$Polygon", name := "size", desc := "()I" } : Jvm.MethodName)) ∈ lw_all := lw_g (lw_at lw_m3 204 rfl) rfl
theorem q768 : (Jvm.Cond.code ({ cls := "CornerClaims$Polygon", name := "size", desc := "()I" } : Jvm.MethodName) prog_6_method_3_code (1 : Nat) (Option.some Jvm.ClassFile.FieldType.int)) ∈ lw_all := lw_g (lw_at lw_m3 205 rfl) rfl
theorem q769 : (Jvm.Cond.interfaceEntry "CornerClaims$Polygon" (25 : Nat)) ∈ lw_tbl := lw_at lw_m3 206 rfl
theorem q770 : (Jvm.Cond.methodLink "CornerClaims$Polygon" (25 : Nat) ({ cls := "java/util/List", name := "size", desc := "()I" } : Jvm.MethodName)) ∈ lw_all := lw_g (lw_at lw_m3 207 rfl) rfl
theorem q771 : (Jvm.Cond.methodLink "CornerClaims$Polygon" (46 : Nat) ({ cls := "CornerClaims$Polygon", name := "at", desc := "(I)LCornerClaims$Point;" } : Jvm.MethodName)) ∈ lw_all := lw_g (lw_at lw_m3 208 rfl) rfl
theorem q772 : (Jvm.Cond.instanceMethod ({ cls := "CornerClaims$Polygon", name := "at", desc := "(I)LCornerClaims$Point;" } : Jvm.MethodName)) ∈ lw_all := lw_g (lw_at lw_m3 209 rfl) rfl
theorem q773 : (Jvm.Cond.selects "CornerClaims$Polygon" ({ cls := "CornerClaims$Polygon", name := "at", desc := "(I)LCornerClaims$Point;" } : Jvm.MethodName) ({ cls := "CornerClaims$Polygon", name := "at", desc := "(I)LCornerClaims$Point;" } : Jvm.MethodName)) ∈ lw_all := lw_g (lw_at lw_m3 210 rfl) rfl
theorem q774 : (Jvm.Cond.code ({ cls := "CornerClaims$Polygon", name := "at", desc := "(I)LCornerClaims$Point;" } : Jvm.MethodName) prog_6_method_5_code (2 : Nat) (Option.some (Jvm.ClassFile.FieldType.object "CornerClaims$Point"))) ∈ lw_all := lw_g (lw_at lw_m3 211 rfl) rfl
theorem q775 : (Jvm.Cond.interfaceEntry "CornerClaims$Polygon" (31 : Nat)) ∈ lw_tbl := lw_at lw_m3 212 rfl
theorem q776 : (Jvm.Cond.methodLink "CornerClaims$Polygon" (31 : Nat) ({ cls := "java/util/List", name := "get", desc := "(I)Ljava/lang/Object;" } : Jvm.MethodName)) ∈ lw_all := lw_g (lw_at lw_m3 213 rfl) rfl
theorem q777 : (Jvm.Cond.classLink "CornerClaims$Polygon" (35 : Nat) "CornerClaims$Point") ∈ lw_all := lw_g (lw_at lw_m3 214 rfl) rfl
theorem q778 : (Jvm.Cond.methodLink "CornerClaims$Polygon" (53 : Nat) ({ cls := "CornerClaims$Polygon", name := "next", desc := "(I)LCornerClaims$Point;" } : Jvm.MethodName)) ∈ lw_all := lw_g (lw_at lw_m3 215 rfl) rfl
theorem q779 : (Jvm.Cond.instanceMethod ({ cls := "CornerClaims$Polygon", name := "next", desc := "(I)LCornerClaims$Point;" } : Jvm.MethodName)) ∈ lw_all := lw_g (lw_at lw_m3 216 rfl) rfl
theorem q780 : (Jvm.Cond.selects "CornerClaims$Polygon" ({ cls := "CornerClaims$Polygon", name := "next", desc := "(I)LCornerClaims$Point;" } : Jvm.MethodName) ({ cls := "CornerClaims$Polygon", name := "next", desc := "(I)LCornerClaims$Point;" } : Jvm.MethodName)) ∈ lw_all := lw_g (lw_at lw_m3 217 rfl) rfl
theorem q781 : (Jvm.Cond.code ({ cls := "CornerClaims$Polygon", name := "next", desc := "(I)LCornerClaims$Point;" } : Jvm.MethodName) prog_6_method_6_code (2 : Nat) (Option.some (Jvm.ClassFile.FieldType.object "CornerClaims$Point"))) ∈ lw_all := lw_g (lw_at lw_m3 218 rfl) rfl
theorem q782 : (Jvm.Cond.methodLinkNest "CornerClaims$Polygon" (90 : Nat) ({ cls := "CornerClaims", name := "isOn", desc := "(LCornerClaims$Point;LCornerClaims$Point;LCornerClaims$Point;)Z" } : Jvm.MethodName) "CornerClaims") ∈ lw_tbl := lw_at lw_m3 219 rfl
theorem q793 : (Jvm.Cond.methodLinkNest "CornerClaims$Polygon" (86 : Nat) ({ cls := "CornerClaims", name := "turn", desc := "(LCornerClaims$Point;LCornerClaims$Point;LCornerClaims$Point;)I" } : Jvm.MethodName) "CornerClaims") ∈ lw_tbl := lw_at lw_m3 230 rfl
theorem q795 : (Jvm.Cond.instanceMethod ({ cls := "CornerClaims$Polygon", name := "area", desc := "()I" } : Jvm.MethodName)) ∈ lw_all := lw_g (lw_at lw_m3 232 rfl) rfl
theorem q796 : (Jvm.Cond.selects "CornerClaims$Polygon" ({ cls := "CornerClaims$Polygon", name := "area", desc := "()I" } : Jvm.MethodName) ({ cls := "CornerClaims$Polygon", name := "area", desc := "()I" } : Jvm.MethodName)) ∈ lw_all := lw_g (lw_at lw_m3 233 rfl) rfl
theorem q797 : (Jvm.Cond.code ({ cls := "CornerClaims$Polygon", name := "area", desc := "()I" } : Jvm.MethodName) prog_6_method_10_code (1 : Nat) (Option.some Jvm.ClassFile.FieldType.int)) ∈ lw_all := lw_g (lw_at lw_m3 234 rfl) rfl
theorem q798 : (Jvm.Cond.methodLink "CornerClaims$Polygon" (59 : Nat) ({ cls := "CornerClaims$Polygon", name := "signedArea", desc := "()I" } : Jvm.MethodName)) ∈ lw_all := lw_g (lw_at lw_m3 235 rfl) rfl
theorem q799 : (Jvm.Cond.privateMethod ({ cls := "CornerClaims$Polygon", name := "signedArea", desc := "()I" } : Jvm.MethodName)) ∈ lw_tbl := lw_at lw_m3 236 rfl
theorem q800 : (Jvm.Cond.instanceMethod ({ cls := "CornerClaims$Polygon", name := "signedArea", desc := "()I" } : Jvm.MethodName)) ∈ lw_all := lw_g (lw_at lw_m3 237 rfl) rfl
theorem q801 : (Jvm.Cond.instantiable "CornerClaims$Polygon" (3 : Nat)) ∈ lw_all := lw_g (lw_at lw_m3 238 rfl) rfl
theorem q802 : (Jvm.Cond.code ({ cls := "CornerClaims$Polygon", name := "signedArea", desc := "()I" } : Jvm.MethodName) prog_6_method_9_code (3 : Nat) (Option.some Jvm.ClassFile.FieldType.int)) ∈ lw_all := lw_g (lw_at lw_m3 239 rfl) rfl
theorem q803 : (Jvm.Cond.methodLink "CornerClaims$Polygon" (62 : Nat) ({ cls := "java/lang/Math", name := "abs", desc := "(I)I" } : Jvm.MethodName)) ∈ lw_all := lw_g (lw_at lw_m4 0 rfl) rfl
theorem q813 : (Jvm.Cond.instanceMethod ({ cls := "CornerClaims$Polygon", name := "dents", desc := "()I" } : Jvm.MethodName)) ∈ lw_all := lw_g (lw_at lw_m4 10 rfl) rfl
theorem q814 : (Jvm.Cond.selects "CornerClaims$Polygon" ({ cls := "CornerClaims$Polygon", name := "dents", desc := "()I" } : Jvm.MethodName) ({ cls := "CornerClaims$Polygon", name := "dents", desc := "()I" } : Jvm.MethodName)) ∈ lw_all := lw_g (lw_at lw_m4 11 rfl) rfl
theorem q815 : (Jvm.Cond.code ({ cls := "CornerClaims$Polygon", name := "dents", desc := "()I" } : Jvm.MethodName) prog_6_method_13_code (4 : Nat) (Option.some Jvm.ClassFile.FieldType.int)) ∈ lw_all := lw_g (lw_at lw_m4 12 rfl) rfl
theorem q816 : (Jvm.Cond.methodLink "CornerClaims$Polygon" (78 : Nat) ({ cls := "java/lang/Integer", name := "signum", desc := "(I)I" } : Jvm.MethodName)) ∈ lw_all := lw_g (lw_at lw_m4 13 rfl) rfl
theorem q819 : (Jvm.Cond.methodLink "CornerClaims$Polygon" (83 : Nat) ({ cls := "CornerClaims$Polygon", name := "previous", desc := "(I)LCornerClaims$Point;" } : Jvm.MethodName)) ∈ lw_all := lw_g (lw_at lw_m4 16 rfl) rfl
theorem q820 : (Jvm.Cond.instanceMethod ({ cls := "CornerClaims$Polygon", name := "previous", desc := "(I)LCornerClaims$Point;" } : Jvm.MethodName)) ∈ lw_all := lw_g (lw_at lw_m4 17 rfl) rfl
theorem q821 : (Jvm.Cond.selects "CornerClaims$Polygon" ({ cls := "CornerClaims$Polygon", name := "previous", desc := "(I)LCornerClaims$Point;" } : Jvm.MethodName) ({ cls := "CornerClaims$Polygon", name := "previous", desc := "(I)LCornerClaims$Point;" } : Jvm.MethodName)) ∈ lw_all := lw_g (lw_at lw_m4 18 rfl) rfl
theorem q822 : (Jvm.Cond.code ({ cls := "CornerClaims$Polygon", name := "previous", desc := "(I)LCornerClaims$Point;" } : Jvm.MethodName) prog_6_method_7_code (2 : Nat) (Option.some (Jvm.ClassFile.FieldType.object "CornerClaims$Point"))) ∈ lw_all := lw_g (lw_at lw_m4 19 rfl) rfl
theorem q824 : (Jvm.Cond.instanceMethod ({ cls := "CornerClaims$Polygon", name := "inner", desc := "()I" } : Jvm.MethodName)) ∈ lw_all := lw_g (lw_at lw_m4 21 rfl) rfl
theorem q825 : (Jvm.Cond.selects "CornerClaims$Polygon" ({ cls := "CornerClaims$Polygon", name := "inner", desc := "()I" } : Jvm.MethodName) ({ cls := "CornerClaims$Polygon", name := "inner", desc := "()I" } : Jvm.MethodName)) ∈ lw_all := lw_g (lw_at lw_m4 22 rfl) rfl
theorem q826 : (Jvm.Cond.code ({ cls := "CornerClaims$Polygon", name := "inner", desc := "()I" } : Jvm.MethodName) prog_6_method_12_code (1 : Nat) (Option.some Jvm.ClassFile.FieldType.int)) ∈ lw_all := lw_g (lw_at lw_m4 23 rfl) rfl
theorem q827 : (Jvm.Cond.methodLink "CornerClaims$Polygon" (72 : Nat) ({ cls := "CornerClaims$Polygon", name := "area", desc := "()I" } : Jvm.MethodName)) ∈ lw_all := lw_g (lw_at lw_m4 24 rfl) rfl
theorem q828 : (Jvm.Cond.methodLink "CornerClaims$Polygon" (75 : Nat) ({ cls := "CornerClaims$Polygon", name := "border", desc := "()I" } : Jvm.MethodName)) ∈ lw_all := lw_g (lw_at lw_m4 25 rfl) rfl
theorem q829 : (Jvm.Cond.instanceMethod ({ cls := "CornerClaims$Polygon", name := "border", desc := "()I" } : Jvm.MethodName)) ∈ lw_all := lw_g (lw_at lw_m4 26 rfl) rfl
theorem q830 : (Jvm.Cond.selects "CornerClaims$Polygon" ({ cls := "CornerClaims$Polygon", name := "border", desc := "()I" } : Jvm.MethodName) ({ cls := "CornerClaims$Polygon", name := "border", desc := "()I" } : Jvm.MethodName)) ∈ lw_all := lw_g (lw_at lw_m4 27 rfl) rfl
theorem q831 : (Jvm.Cond.code ({ cls := "CornerClaims$Polygon", name := "border", desc := "()I" } : Jvm.MethodName) prog_6_method_11_code (3 : Nat) (Option.some Jvm.ClassFile.FieldType.int)) ∈ lw_all := lw_g (lw_at lw_m4 28 rfl) rfl
theorem q832 : (Jvm.Cond.methodLinkNest "CornerClaims$Polygon" (68 : Nat) ({ cls := "CornerClaims", name := "divisor", desc := "(II)I" } : Jvm.MethodName) "CornerClaims") ∈ lw_tbl := lw_at lw_m4 29 rfl
theorem q1081 : (Jvm.Cond.fieldLinkNest "CornerClaims$Polygon" (50 : Nat) "CornerClaims$Point" "x" "I" "CornerClaims") ∈ lw_tbl := lw_at lw_m5 38 rfl
theorem q1084 : (Jvm.Cond.fieldLinkNest "CornerClaims$Polygon" (56 : Nat) "CornerClaims$Point" "y" "I" "CornerClaims") ∈ lw_tbl := lw_at lw_m5 41 rfl
theorem q1117 : (Jvm.Cond.selects "CornerClaims$Polygon" ({ cls := "java/lang/Object", name := "hashCode", desc := "()I" } : Jvm.MethodName) ({ cls := "java/lang/Object", name := "hashCode", desc := "()I" } : Jvm.MethodName)) ∈ lw_all := lw_g (lw_at lw_m5 74 rfl) rfl
theorem q1147 : (Jvm.Cond.selects "CornerClaims$Polygon" ({ cls := "java/lang/Object", name := "equals", desc := "(Ljava/lang/Object;)Z" } : Jvm.MethodName) ({ cls := "java/lang/Object", name := "equals", desc := "(Ljava/lang/Object;)Z" } : Jvm.MethodName)) ∈ lw_all := lw_g (lw_at lw_m5 104 rfl) rfl
theorem q1190 : (Jvm.Cond.selects "CornerClaims$Polygon" ({ cls := "java/lang/Object", name := "getClass", desc := "()Ljava/lang/Class;" } : Jvm.MethodName) ({ cls := "java/lang/Object", name := "getClass", desc := "()Ljava/lang/Class;" } : Jvm.MethodName)) ∈ lw_all := lw_g (lw_at lw_m5 147 rfl) rfl
theorem q1435 : (Jvm.Cond.instanceMethod ({ cls := "CornerClaims$Polygon", name := "sides", desc := "()I" } : Jvm.MethodName)) ∈ lw_all := lw_g (lw_at lw_m6 152 rfl) rfl
theorem q1436 : (Jvm.Cond.selects "CornerClaims$Polygon" ({ cls := "CornerClaims$Polygon", name := "sides", desc := "()I" } : Jvm.MethodName) ({ cls := "CornerClaims$Polygon", name := "sides", desc := "()I" } : Jvm.MethodName)) ∈ lw_all := lw_g (lw_at lw_m6 153 rfl) rfl
theorem q1437 : (Jvm.Cond.code ({ cls := "CornerClaims$Polygon", name := "sides", desc := "()I" } : Jvm.MethodName) prog_6_method_4_code (1 : Nat) (Option.some Jvm.ClassFile.FieldType.int)) ∈ lw_all := lw_g (lw_at lw_m6 154 rfl) rfl
theorem q1646 : (Jvm.Cond.instanceMethod ({ cls := "CornerClaims$Polygon", name := "<init>", desc := "(I)V" } : Jvm.MethodName)) ∈ lw_all := lw_g (lw_at lw_m7 123 rfl) rfl
theorem q1647 : (Jvm.Cond.code ({ cls := "CornerClaims$Polygon", name := "<init>", desc := "(I)V" } : Jvm.MethodName) prog_6_method_1_code (2 : Nat) (Option.none : Option Jvm.ClassFile.FieldType)) ∈ lw_all := lw_g (lw_at lw_m7 124 rfl) rfl
theorem q1648 : (Jvm.Cond.methodLink "CornerClaims$Polygon" (3 : Nat) ({ cls := "java/lang/Object", name := "<init>", desc := "()V" } : Jvm.MethodName)) ∈ lw_all := lw_g (lw_at lw_m7 125 rfl) rfl
theorem q1649 : (Jvm.Cond.classLink "CornerClaims$Polygon" (9 : Nat) "java/util/ArrayList") ∈ lw_all := lw_g (lw_at lw_m7 126 rfl) rfl
theorem q1650 : (Jvm.Cond.methodLink "CornerClaims$Polygon" (11 : Nat) ({ cls := "java/util/ArrayList", name := "<init>", desc := "()V" } : Jvm.MethodName)) ∈ lw_all := lw_g (lw_at lw_m7 127 rfl) rfl
theorem q1651 : (Jvm.Cond.fieldLink "CornerClaims$Polygon" (18 : Nat) "CornerClaims$Polygon" "owner" "I") ∈ lw_all := lw_g (lw_at lw_m7 128 rfl) rfl
theorem q1654 : (Jvm.Cond.fieldLink "CornerClaims$Polygon" (12 : Nat) "CornerClaims$Polygon" "corners" "Ljava/util/List;") ∈ lw_all := lw_g (lw_at lw_m7 131 rfl) rfl
theorem q1658 : (Jvm.Cond.fieldLink "CornerClaims$Polygon" (41 : Nat) "CornerClaims$Polygon" "isClosed" "Z") ∈ lw_all := lw_g (lw_at lw_m7 135 rfl) rfl
theorem q1662 : (Jvm.Cond.laysFinal "CornerClaims$Polygon" "CornerClaims$Polygon" "owner" "I") ∈ lw_all := lw_g (lw_at lw_m7 139 rfl) rfl
theorem q1663 : (Jvm.Cond.soleField "CornerClaims$Polygon" "owner") ∈ lw_all := lw_g (lw_at lw_m7 140 rfl) rfl
theorem q1664 : (Jvm.Cond.laysFinal "CornerClaims$Polygon" "CornerClaims$Polygon" "corners" "Ljava/util/List;") ∈ lw_all := lw_g (lw_at lw_m7 141 rfl) rfl
theorem q1665 : (Jvm.Cond.soleField "CornerClaims$Polygon" "corners") ∈ lw_all := lw_g (lw_at lw_m7 142 rfl) rfl
theorem q1666 : (Jvm.Cond.lays "CornerClaims$Polygon" "CornerClaims$Polygon" "isClosed" "Z") ∈ lw_all := lw_g (lw_at lw_m7 143 rfl) rfl
theorem q1667 : (Jvm.Cond.soleField "CornerClaims$Polygon" "isClosed") ∈ lw_all := lw_g (lw_at lw_m7 144 rfl) rfl
theorem q1668 : (Jvm.Cond.superclass "CornerClaims$Polygon" "java/lang/Object") ∈ lw_all := lw_g (lw_at lw_m7 145 rfl) rfl
theorem q1677 : (Jvm.Cond.instanceMethod ({ cls := "CornerClaims$Polygon", name := "last", desc := "()LCornerClaims$Point;" } : Jvm.MethodName)) ∈ lw_all := lw_g (lw_at lw_m7 154 rfl) rfl
theorem q1678 : (Jvm.Cond.selects "CornerClaims$Polygon" ({ cls := "CornerClaims$Polygon", name := "last", desc := "()LCornerClaims$Point;" } : Jvm.MethodName) ({ cls := "CornerClaims$Polygon", name := "last", desc := "()LCornerClaims$Point;" } : Jvm.MethodName)) ∈ lw_all := lw_g (lw_at lw_m7 155 rfl) rfl
theorem q1679 : (Jvm.Cond.code ({ cls := "CornerClaims$Polygon", name := "last", desc := "()LCornerClaims$Point;" } : Jvm.MethodName) prog_6_method_8_code (1 : Nat) (Option.some (Jvm.ClassFile.FieldType.object "CornerClaims$Point"))) ∈ lw_all := lw_g (lw_at lw_m7 156 rfl) rfl
theorem q1970 : (Jvm.Cond.instanceMethod ({ cls := "CornerClaims$Polygon", name := "copy", desc := "()LCornerClaims$Polygon;" } : Jvm.MethodName)) ∈ lw_all := lw_g (lw_at lw_m8 207 rfl) rfl
theorem q1971 : (Jvm.Cond.selects "CornerClaims$Polygon" ({ cls := "CornerClaims$Polygon", name := "copy", desc := "()LCornerClaims$Polygon;" } : Jvm.MethodName) ({ cls := "CornerClaims$Polygon", name := "copy", desc := "()LCornerClaims$Polygon;" } : Jvm.MethodName)) ∈ lw_all := lw_g (lw_at lw_m8 208 rfl) rfl
theorem q1972 : (Jvm.Cond.code ({ cls := "CornerClaims$Polygon", name := "copy", desc := "()LCornerClaims$Polygon;" } : Jvm.MethodName) prog_6_method_2_code (3 : Nat) (Option.some (Jvm.ClassFile.FieldType.object "CornerClaims$Polygon"))) ∈ lw_all := lw_g (lw_at lw_m8 209 rfl) rfl
theorem q1973 : (Jvm.Cond.classLink "CornerClaims$Polygon" (13 : Nat) "CornerClaims$Polygon") ∈ lw_all := lw_g (lw_at lw_m8 210 rfl) rfl
theorem q1974 : (Jvm.Cond.methodLink "CornerClaims$Polygon" (22 : Nat) ({ cls := "CornerClaims$Polygon", name := "<init>", desc := "(I)V" } : Jvm.MethodName)) ∈ lw_all := lw_g (lw_at lw_m8 211 rfl) rfl
theorem q1975 : (Jvm.Cond.interfaceEntry "CornerClaims$Polygon" (37 : Nat)) ∈ lw_tbl := lw_at lw_m8 212 rfl
theorem q1976 : (Jvm.Cond.methodLink "CornerClaims$Polygon" (37 : Nat) ({ cls := "java/util/List", name := "add", desc := "(Ljava/lang/Object;)Z" } : Jvm.MethodName)) ∈ lw_all := lw_g (lw_at lw_m8 213 rfl) rfl
theorem q2546 : (Jvm.Cond.castable "CornerClaims$Polygon" "java/lang/Object") ∈ lw_tbl := lw_at lw_m11 63 rfl
theorem in_X8 : ∀ w ∈ wsX80, w ∈ lw_all := lw_in wsX80 [1662, 1664, 1666] (by decide +kernel) (by decide +kernel)
theorem q623 : (Jvm.Cond.interfaceMethod "CornerClaims$Score" "CornerClaims$Score" "of" "(IIIII)J") ∈ lw_tbl := lw_at lw_m3 60 rfl
set_option maxRecDepth 100000
theorem q624 : (Jvm.Cond.declares ({ cls := "CornerClaims$Score", name := "of", desc := "(IIIII)J" } : Jvm.MethodName)) ∈ lw_tbl := lw_at lw_m3 61 rfl
theorem q394 : (Jvm.Cond.sameMethod "[B" "java/lang/Object" "clone" "()Ljava/lang/Object;") ∈ lw_all := lw_g (lw_at lw_m2 71 rfl) rfl
set_option maxRecDepth 100000
theorem q397 : (Jvm.Cond.selects "[B" ({ cls := "[B", name := "clone", desc := "()Ljava/lang/Object;" } : Jvm.MethodName) ({ cls := "java/lang/Object", name := "clone", desc := "()Ljava/lang/Object;" } : Jvm.MethodName)) ∈ lw_all := lw_g (lw_at lw_m2 74 rfl) rfl
theorem q398 : (Jvm.Cond.castable "[B" "java/lang/Cloneable") ∈ lw_tbl := lw_at lw_m2 75 rfl
theorem q2557 : (Jvm.Cond.castable "[B" "java/lang/Object") ∈ lw_tbl := lw_at lw_m11 74 rfl
theorem q2560 : (Jvm.Cond.castable "[I" "java/lang/Object") ∈ lw_tbl := lw_at lw_m11 77 rfl
set_option maxRecDepth 100000
theorem q2561 : (Jvm.Cond.castable "[J" "java/lang/Object") ∈ lw_tbl := lw_at lw_m11 78 rfl
set_option maxRecDepth 100000
theorem q2553 : (Jvm.Cond.sameMethod "[Ljava/lang/Object;" "java/lang/Object" "getClass" "()Ljava/lang/Class;") ∈ lw_all := lw_g (lw_at lw_m11 70 rfl) rfl
set_option maxRecDepth 100000
theorem q2554 : (Jvm.Cond.selects "[Ljava/lang/Object;" ({ cls := "java/lang/Object", name := "getClass", desc := "()Ljava/lang/Class;" } : Jvm.MethodName) ({ cls := "java/lang/Object", name := "getClass", desc := "()Ljava/lang/Class;" } : Jvm.MethodName)) ∈ lw_all := lw_g (lw_at lw_m11 71 rfl) rfl
theorem q2556 : (Jvm.Cond.castable "[Ljava/lang/Object;" "java/lang/Object") ∈ lw_tbl := lw_at lw_m11 73 rfl
theorem q2558 : (Jvm.Cond.castable "[Ljava/util/HashMap$Node;" "java/lang/Object") ∈ lw_tbl := lw_at lw_m11 75 rfl
set_option maxRecDepth 100000
theorem q2559 : (Jvm.Cond.castable "[[I" "java/lang/Object") ∈ lw_tbl := lw_at lw_m11 76 rfl
set_option maxRecDepth 100000
theorem q1215 : (Jvm.Cond.interfaceMethod "java/lang/Comparable" "java/lang/Comparable" "compareTo" "(Ljava/lang/Object;)I") ∈ lw_tbl := lw_at lw_m5 172 rfl
set_option maxRecDepth 100000
theorem q1216 : (Jvm.Cond.declares ({ cls := "java/lang/Comparable", name := "compareTo", desc := "(Ljava/lang/Object;)I" } : Jvm.MethodName)) ∈ lw_tbl := lw_at lw_m5 173 rfl
theorem q117 : (Jvm.Cond.initialized "java/lang/Integer$IntegerCache") ∈ lw_all := lw_g (lw_at lw_m1 34 rfl) rfl
set_option maxRecDepth 100000
theorem q1451 : (Jvm.Cond.laysStatic "java/lang/Integer$IntegerCache" "high" "I") ∈ lw_tbl := lw_at lw_m6 168 rfl
theorem q1453 : (Jvm.Cond.laysStatic "java/lang/Integer$IntegerCache" "cache" "[Ljava/lang/Integer;") ∈ lw_tbl := lw_at lw_m6 170 rfl
theorem q105 : (Jvm.Cond.initialized "java/lang/System") ∈ lw_all := lw_g (lw_at lw_m1 22 rfl) rfl
set_option maxRecDepth 100000
theorem q404 : (Jvm.Cond.static ({ cls := "java/lang/System", name := "arraycopy", desc := "(Ljava/lang/Object;ILjava/lang/Object;II)V" } : Jvm.MethodName)) ∈ lw_all := lw_g (lw_at lw_m2 81 rfl) rfl
theorem q405 : (Jvm.Cond.native ({ cls := "java/lang/System", name := "arraycopy", desc := "(Ljava/lang/Object;ILjava/lang/Object;II)V" } : Jvm.MethodName)) ∈ lw_all := lw_g (lw_at lw_m2 82 rfl) rfl
theorem q720 : (Jvm.Cond.interfaceMethod "java/util/List" "java/util/List" "size" "()I") ∈ lw_tbl := lw_at lw_m3 157 rfl
set_option maxRecDepth 100000
theorem q721 : (Jvm.Cond.declares ({ cls := "java/util/List", name := "size", desc := "()I" } : Jvm.MethodName)) ∈ lw_tbl := lw_at lw_m3 158 rfl
theorem q730 : (Jvm.Cond.interfaceMethod "java/util/List" "java/util/List" "get" "(I)Ljava/lang/Object;") ∈ lw_tbl := lw_at lw_m3 167 rfl
theorem q731 : (Jvm.Cond.declares ({ cls := "java/util/List", name := "get", desc := "(I)Ljava/lang/Object;" } : Jvm.MethodName)) ∈ lw_tbl := lw_at lw_m3 168 rfl
theorem q1414 : (Jvm.Cond.interfaceMethod "java/util/List" "java/util/List" "contains" "(Ljava/lang/Object;)Z") ∈ lw_tbl := lw_at lw_m6 131 rfl
theorem q1415 : (Jvm.Cond.declares ({ cls := "java/util/List", name := "contains", desc := "(Ljava/lang/Object;)Z" } : Jvm.MethodName)) ∈ lw_tbl := lw_at lw_m6 132 rfl
theorem q1609 : (Jvm.Cond.interfaceMethod "java/util/List" "java/util/List" "add" "(Ljava/lang/Object;)Z") ∈ lw_tbl := lw_at lw_m7 86 rfl
theorem q1610 : (Jvm.Cond.declares ({ cls := "java/util/List", name := "add", desc := "(Ljava/lang/Object;)Z" } : Jvm.MethodName)) ∈ lw_tbl := lw_at lw_m7 87 rfl
theorem q2014 : (Jvm.Cond.interfaceMethod "java/util/List" "java/util/List" "add" "(ILjava/lang/Object;)V") ∈ lw_tbl := lw_at lw_m9 11 rfl
theorem q2015 : (Jvm.Cond.declares ({ cls := "java/util/List", name := "add", desc := "(ILjava/lang/Object;)V" } : Jvm.MethodName)) ∈ lw_tbl := lw_at lw_m9 12 rfl
theorem q2053 : (Jvm.Cond.interfaceMethod "java/util/List" "java/util/List" "remove" "(I)Ljava/lang/Object;") ∈ lw_tbl := lw_at lw_m9 50 rfl
theorem q2054 : (Jvm.Cond.declares ({ cls := "java/util/List", name := "remove", desc := "(I)Ljava/lang/Object;" } : Jvm.MethodName)) ∈ lw_tbl := lw_at lw_m9 51 rfl
theorem q250 : (Jvm.Cond.interfaceMethod "jdk/internal/access/JavaLangAccess" "jdk/internal/access/JavaLangAccess" "getUTF16Char" "([BI)C") ∈ lw_tbl := lw_at lw_m1 167 rfl
set_option maxRecDepth 100000
theorem q251 : (Jvm.Cond.declares ({ cls := "jdk/internal/access/JavaLangAccess", name := "getUTF16Char", desc := "([BI)C" } : Jvm.MethodName)) ∈ lw_tbl := lw_at lw_m1 168 rfl
theorem q114 : (Jvm.Cond.initialized "jdk/internal/misc/UnsafeConstants") ∈ lw_all := lw_g (lw_at lw_m1 31 rfl) rfl
set_option maxRecDepth 100000
theorem q1287 : (Jvm.Cond.laysStatic "jdk/internal/misc/UnsafeConstants" "BIG_ENDIAN" "Z") ∈ lw_tbl := lw_at lw_m6 4 rfl
theorem q144 : (Jvm.Cond.arrayOver (Jvm.ClassFile.FieldType.object "java/lang/Object")) ∈ lw_tbl := lw_at lw_m1 61 rfl
set_option maxRecDepth 100000
theorem q155 : (Jvm.Cond.arrayClass Jvm.ClassFile.FieldType.byte) ∈ lw_all := lw_g (lw_at lw_m1 72 rfl) rfl
theorem q1482 : (Jvm.Cond.arrayOver (Jvm.ClassFile.FieldType.object "java/util/HashMap$Node")) ∈ lw_tbl := lw_at lw_m6 199 rfl
theorem q2078 : (Jvm.Cond.arrayOver (Jvm.ClassFile.FieldType.array Jvm.ClassFile.FieldType.int)) ∈ lw_tbl := lw_at lw_m9 75 rfl
theorem q2140 : (Jvm.Cond.arrayClass Jvm.ClassFile.FieldType.int) ∈ lw_all := lw_g (lw_at lw_m9 137 rfl) rfl
theorem q2141 : (Jvm.Cond.arrayClass Jvm.ClassFile.FieldType.long) ∈ lw_all := lw_g (lw_at lw_m9 138 rfl) rfl
theorem q2562 : (Jvm.Cond.arrayClass Jvm.ClassFile.FieldType.char) ∈ lw_all := lw_g (lw_at lw_m11 79 rfl) rfl
theorem q2563 : (Jvm.Cond.arrayClass Jvm.ClassFile.FieldType.short) ∈ lw_all := lw_g (lw_at lw_m11 80 rfl) rfl
