/-! DECODE ROWS BY BYTES: one lemma an opcode; a method's code is cut into short pieces once, and a row reads its own piece alone. -/
set_option maxRecDepth 100000
/-- the code has just these bytes from pc on -/
def DkAt (code : ByteArray) (pc : Nat) (bs : List UInt8) : Prop := ∀ (j : Nat) (b : UInt8), bs[j]? = some b → code.data.toList[pc + j]? = some b
/-- the piece W has the bytes bs from its place j on -/
def dkIn (W : List UInt8) (j : Nat) (bs : List UInt8) : Bool := decide ((W.drop j).take bs.length = bs)
theorem dk_seg {l W T : List UInt8} {o o2 : Nat} (h : l.drop o = W ++ T) (n : Nat) (hn : W.length = n) (ho : o + n = o2) : l.drop o2 = T := by
  subst ho
  rw [← List.drop_drop, h, List.drop_left' hn]
theorem dk_at {code : ByteArray} {W T bs : List UInt8} {o pc : Nat} (h : code.data.toList.drop o = W ++ T) (j : Nat) (hp : o + j = pc) (hw : dkIn W j bs = true) : DkAt code pc bs := by
  subst hp
  intro i b e
  have h1 := of_decide_eq_true hw
  have h2 : i < bs.length := (List.getElem?_eq_some_iff.mp e).1
  have h3 : W[j + i]? = some b := by
    rw [← h1, List.getElem?_take, if_pos h2, List.getElem?_drop] at e
    exact e
  have h4 : j + i < W.length := (List.getElem?_eq_some_iff.mp h3).1
  have h5 : (code.data.toList.drop o)[j + i]? = some b := by
    rw [h, List.getElem?_append_left h4]
    exact h3
  rw [List.getElem?_drop, ← Nat.add_assoc] at h5
  exact h5
theorem dk_u1 {A : ByteArray} {p : Nat} {b : UInt8} (h : A.data.toList[p]? = some b) : (Reader.u1 : Reader DecodeError Nat) A p = .ok (b.toNat, p + 1) := by
  obtain ⟨h1, h2⟩ := List.getElem?_eq_some_iff.mp h
  have h3 : p < A.size := by simpa using h1
  have h4 : A[p]'h3 = b := h2
  have e : (Reader.u1 : Reader DecodeError Nat) A p = (if h : p < A.size then .ok (A[p].toNat, p + 1) else .error (HasTruncated.truncated p)) := by
    show (do if h : p < A.size then do set (p + 1); Pure.pure A[p].toNat else MonadExcept.throw (HasTruncated.truncated p) : Reader DecodeError Nat) A p = _
    by_cases hi : p < A.size
    · rw [dif_pos hi, dif_pos hi]; rfl
    · rw [dif_neg hi, dif_neg hi]; rfl
  rw [e, dif_pos h3, h4]
theorem dk_bind {α β : Type} {r : Reader DecodeError α} {f : α → Reader DecodeError β} {A : ByteArray} {p s : Nat} {a : α} (h : r A p = .ok (a, s)) : (r >>= f) A p = f a A s := by
  show (do let (a, s) ← r A p; f a A s : Except DecodeError (β × Nat)) = _
  rw [h]
  rfl
theorem dk_map {α β : Type} {r : Reader DecodeError α} {g : α → β} {A : ByteArray} {p s : Nat} {a : α} (h : r A p = .ok (a, s)) : (g <$> r) A p = .ok (g a, s) := by
  show (do let (a, s) ← r A p; .ok (g a, s) : Except DecodeError (β × Nat)) = _
  rw [h]
  rfl
theorem dk_u2 {A : ByteArray} {p : Nat} {a b : UInt8} (h : A.data.toList[p]? = some a) (h2 : A.data.toList[p + 1]? = some b) : (Reader.u2 : Reader DecodeError Nat) A p = .ok (a.toNat * 256 + b.toNat, p + 2) := by
  show (Reader.u1 >>= fun hi => Reader.u1 >>= fun lo => Pure.pure (hi * 256 + lo) : Reader DecodeError Nat) A p = _
  rw [dk_bind (dk_u1 h), dk_bind (dk_u1 h2)]
  rfl
theorem dk_of {code : ByteArray} {pc n : Nat} {i : Instr} (h : Decoder.instr pc code pc = .ok (i, pc + n)) : decode code pc = .ok (i, n) := by
  have e : decode code pc = (match Decoder.instr pc code pc with | .error x => .error x | .ok (j, s) => .ok (j, s - pc)) := by
    show (do let (j, s) ← Decoder.instr pc code pc; Pure.pure (j, s - pc) : Except DecodeError (Instr × Nat)) = _
    cases Decoder.instr pc code pc <;> rfl
  rw [e, h]
  show Except.ok (i, pc + n - pc) = _
  rw [Nat.add_sub_cancel_left]
theorem dk_1 {code : ByteArray} {pc : Nat} (h : DkAt code pc [1]) : decode code pc = .ok (.aconst_null, 1) := dk_of ((dk_bind (dk_u1 (h 0 _ rfl))).trans rfl)
theorem dk_2 {code : ByteArray} {pc : Nat} (h : DkAt code pc [2]) : decode code pc = .ok (.iconst (-1), 1) := dk_of ((dk_bind (dk_u1 (h 0 _ rfl))).trans rfl)
theorem dk_3 {code : ByteArray} {pc : Nat} (h : DkAt code pc [3]) : decode code pc = .ok (.iconst 0, 1) := dk_of ((dk_bind (dk_u1 (h 0 _ rfl))).trans rfl)
theorem dk_4 {code : ByteArray} {pc : Nat} (h : DkAt code pc [4]) : decode code pc = .ok (.iconst 1, 1) := dk_of ((dk_bind (dk_u1 (h 0 _ rfl))).trans rfl)
theorem dk_5 {code : ByteArray} {pc : Nat} (h : DkAt code pc [5]) : decode code pc = .ok (.iconst 2, 1) := dk_of ((dk_bind (dk_u1 (h 0 _ rfl))).trans rfl)
theorem dk_6 {code : ByteArray} {pc : Nat} (h : DkAt code pc [6]) : decode code pc = .ok (.iconst 3, 1) := dk_of ((dk_bind (dk_u1 (h 0 _ rfl))).trans rfl)
theorem dk_7 {code : ByteArray} {pc : Nat} (h : DkAt code pc [7]) : decode code pc = .ok (.iconst 4, 1) := dk_of ((dk_bind (dk_u1 (h 0 _ rfl))).trans rfl)
theorem dk_8 {code : ByteArray} {pc : Nat} (h : DkAt code pc [8]) : decode code pc = .ok (.iconst 5, 1) := dk_of ((dk_bind (dk_u1 (h 0 _ rfl))).trans rfl)
theorem dk_9 {code : ByteArray} {pc : Nat} (h : DkAt code pc [9]) : decode code pc = .ok (.lconst 0, 1) := dk_of ((dk_bind (dk_u1 (h 0 _ rfl))).trans rfl)
theorem dk_10 {code : ByteArray} {pc : Nat} (h : DkAt code pc [10]) : decode code pc = .ok (.lconst 1, 1) := dk_of ((dk_bind (dk_u1 (h 0 _ rfl))).trans rfl)
theorem dk_11 {code : ByteArray} {pc : Nat} (h : DkAt code pc [11]) : decode code pc = .ok (.fconst 0, 1) := dk_of ((dk_bind (dk_u1 (h 0 _ rfl))).trans rfl)
theorem dk_16 {code : ByteArray} {pc : Nat} (a : UInt8) (h : DkAt code pc [16, a]) : decode code pc = .ok (.bipush (Reader.signed 8 a.toNat), 2) := dk_of ((dk_bind (dk_u1 (h 0 _ rfl))).trans ((dk_bind (dk_map (dk_u1 (h 1 _ rfl)))).trans rfl))
theorem dk_17 {code : ByteArray} {pc : Nat} (a b : UInt8) (h : DkAt code pc [17, a, b]) : decode code pc = .ok (.sipush (Reader.signed 16 (a.toNat * 256 + b.toNat)), 3) := dk_of ((dk_bind (dk_u1 (h 0 _ rfl))).trans ((dk_bind (dk_map (dk_u2 (h 1 _ rfl) (h 2 _ rfl)))).trans rfl))
theorem dk_18 {code : ByteArray} {pc : Nat} (a : UInt8) (h : DkAt code pc [18, a]) : decode code pc = .ok (.ldc a.toNat, 2) := dk_of ((dk_bind (dk_u1 (h 0 _ rfl))).trans ((dk_bind (dk_u1 (h 1 _ rfl))).trans rfl))
theorem dk_19 {code : ByteArray} {pc : Nat} (a b : UInt8) (h : DkAt code pc [19, a, b]) : decode code pc = .ok (.ldc_w (a.toNat * 256 + b.toNat), 3) := dk_of ((dk_bind (dk_u1 (h 0 _ rfl))).trans ((dk_bind (dk_u2 (h 1 _ rfl) (h 2 _ rfl))).trans rfl))
theorem dk_20 {code : ByteArray} {pc : Nat} (a b : UInt8) (h : DkAt code pc [20, a, b]) : decode code pc = .ok (.ldc2_w (a.toNat * 256 + b.toNat), 3) := dk_of ((dk_bind (dk_u1 (h 0 _ rfl))).trans ((dk_bind (dk_u2 (h 1 _ rfl) (h 2 _ rfl))).trans rfl))
theorem dk_21 {code : ByteArray} {pc : Nat} (a : UInt8) (h : DkAt code pc [21, a]) : decode code pc = .ok (.iload a.toNat, 2) := dk_of ((dk_bind (dk_u1 (h 0 _ rfl))).trans ((dk_bind (dk_u1 (h 1 _ rfl))).trans rfl))
theorem dk_22 {code : ByteArray} {pc : Nat} (a : UInt8) (h : DkAt code pc [22, a]) : decode code pc = .ok (.lload a.toNat, 2) := dk_of ((dk_bind (dk_u1 (h 0 _ rfl))).trans ((dk_bind (dk_u1 (h 1 _ rfl))).trans rfl))
theorem dk_23 {code : ByteArray} {pc : Nat} (a : UInt8) (h : DkAt code pc [23, a]) : decode code pc = .ok (.fload a.toNat, 2) := dk_of ((dk_bind (dk_u1 (h 0 _ rfl))).trans ((dk_bind (dk_u1 (h 1 _ rfl))).trans rfl))
theorem dk_25 {code : ByteArray} {pc : Nat} (a : UInt8) (h : DkAt code pc [25, a]) : decode code pc = .ok (.aload a.toNat, 2) := dk_of ((dk_bind (dk_u1 (h 0 _ rfl))).trans ((dk_bind (dk_u1 (h 1 _ rfl))).trans rfl))
theorem dk_26 {code : ByteArray} {pc : Nat} (h : DkAt code pc [26]) : decode code pc = .ok (.iload_n 0, 1) := dk_of ((dk_bind (dk_u1 (h 0 _ rfl))).trans rfl)
theorem dk_27 {code : ByteArray} {pc : Nat} (h : DkAt code pc [27]) : decode code pc = .ok (.iload_n 1, 1) := dk_of ((dk_bind (dk_u1 (h 0 _ rfl))).trans rfl)
theorem dk_28 {code : ByteArray} {pc : Nat} (h : DkAt code pc [28]) : decode code pc = .ok (.iload_n 2, 1) := dk_of ((dk_bind (dk_u1 (h 0 _ rfl))).trans rfl)
theorem dk_29 {code : ByteArray} {pc : Nat} (h : DkAt code pc [29]) : decode code pc = .ok (.iload_n 3, 1) := dk_of ((dk_bind (dk_u1 (h 0 _ rfl))).trans rfl)
theorem dk_30 {code : ByteArray} {pc : Nat} (h : DkAt code pc [30]) : decode code pc = .ok (.lload_n 0, 1) := dk_of ((dk_bind (dk_u1 (h 0 _ rfl))).trans rfl)
theorem dk_31 {code : ByteArray} {pc : Nat} (h : DkAt code pc [31]) : decode code pc = .ok (.lload_n 1, 1) := dk_of ((dk_bind (dk_u1 (h 0 _ rfl))).trans rfl)
theorem dk_32 {code : ByteArray} {pc : Nat} (h : DkAt code pc [32]) : decode code pc = .ok (.lload_n 2, 1) := dk_of ((dk_bind (dk_u1 (h 0 _ rfl))).trans rfl)
theorem dk_33 {code : ByteArray} {pc : Nat} (h : DkAt code pc [33]) : decode code pc = .ok (.lload_n 3, 1) := dk_of ((dk_bind (dk_u1 (h 0 _ rfl))).trans rfl)
theorem dk_34 {code : ByteArray} {pc : Nat} (h : DkAt code pc [34]) : decode code pc = .ok (.fload_n 0, 1) := dk_of ((dk_bind (dk_u1 (h 0 _ rfl))).trans rfl)
theorem dk_36 {code : ByteArray} {pc : Nat} (h : DkAt code pc [36]) : decode code pc = .ok (.fload_n 2, 1) := dk_of ((dk_bind (dk_u1 (h 0 _ rfl))).trans rfl)
theorem dk_42 {code : ByteArray} {pc : Nat} (h : DkAt code pc [42]) : decode code pc = .ok (.aload_n 0, 1) := dk_of ((dk_bind (dk_u1 (h 0 _ rfl))).trans rfl)
theorem dk_43 {code : ByteArray} {pc : Nat} (h : DkAt code pc [43]) : decode code pc = .ok (.aload_n 1, 1) := dk_of ((dk_bind (dk_u1 (h 0 _ rfl))).trans rfl)
theorem dk_44 {code : ByteArray} {pc : Nat} (h : DkAt code pc [44]) : decode code pc = .ok (.aload_n 2, 1) := dk_of ((dk_bind (dk_u1 (h 0 _ rfl))).trans rfl)
theorem dk_45 {code : ByteArray} {pc : Nat} (h : DkAt code pc [45]) : decode code pc = .ok (.aload_n 3, 1) := dk_of ((dk_bind (dk_u1 (h 0 _ rfl))).trans rfl)
theorem dk_46 {code : ByteArray} {pc : Nat} (h : DkAt code pc [46]) : decode code pc = .ok (.iaload, 1) := dk_of ((dk_bind (dk_u1 (h 0 _ rfl))).trans rfl)
theorem dk_47 {code : ByteArray} {pc : Nat} (h : DkAt code pc [47]) : decode code pc = .ok (.laload, 1) := dk_of ((dk_bind (dk_u1 (h 0 _ rfl))).trans rfl)
theorem dk_50 {code : ByteArray} {pc : Nat} (h : DkAt code pc [50]) : decode code pc = .ok (.aaload, 1) := dk_of ((dk_bind (dk_u1 (h 0 _ rfl))).trans rfl)
theorem dk_51 {code : ByteArray} {pc : Nat} (h : DkAt code pc [51]) : decode code pc = .ok (.baload, 1) := dk_of ((dk_bind (dk_u1 (h 0 _ rfl))).trans rfl)
theorem dk_52 {code : ByteArray} {pc : Nat} (h : DkAt code pc [52]) : decode code pc = .ok (.caload, 1) := dk_of ((dk_bind (dk_u1 (h 0 _ rfl))).trans rfl)
theorem dk_53 {code : ByteArray} {pc : Nat} (h : DkAt code pc [53]) : decode code pc = .ok (.saload, 1) := dk_of ((dk_bind (dk_u1 (h 0 _ rfl))).trans rfl)
theorem dk_54 {code : ByteArray} {pc : Nat} (a : UInt8) (h : DkAt code pc [54, a]) : decode code pc = .ok (.istore a.toNat, 2) := dk_of ((dk_bind (dk_u1 (h 0 _ rfl))).trans ((dk_bind (dk_u1 (h 1 _ rfl))).trans rfl))
theorem dk_55 {code : ByteArray} {pc : Nat} (a : UInt8) (h : DkAt code pc [55, a]) : decode code pc = .ok (.lstore a.toNat, 2) := dk_of ((dk_bind (dk_u1 (h 0 _ rfl))).trans ((dk_bind (dk_u1 (h 1 _ rfl))).trans rfl))
theorem dk_56 {code : ByteArray} {pc : Nat} (a : UInt8) (h : DkAt code pc [56, a]) : decode code pc = .ok (.fstore a.toNat, 2) := dk_of ((dk_bind (dk_u1 (h 0 _ rfl))).trans ((dk_bind (dk_u1 (h 1 _ rfl))).trans rfl))
theorem dk_58 {code : ByteArray} {pc : Nat} (a : UInt8) (h : DkAt code pc [58, a]) : decode code pc = .ok (.astore a.toNat, 2) := dk_of ((dk_bind (dk_u1 (h 0 _ rfl))).trans ((dk_bind (dk_u1 (h 1 _ rfl))).trans rfl))
theorem dk_59 {code : ByteArray} {pc : Nat} (h : DkAt code pc [59]) : decode code pc = .ok (.istore_n 0, 1) := dk_of ((dk_bind (dk_u1 (h 0 _ rfl))).trans rfl)
theorem dk_60 {code : ByteArray} {pc : Nat} (h : DkAt code pc [60]) : decode code pc = .ok (.istore_n 1, 1) := dk_of ((dk_bind (dk_u1 (h 0 _ rfl))).trans rfl)
theorem dk_61 {code : ByteArray} {pc : Nat} (h : DkAt code pc [61]) : decode code pc = .ok (.istore_n 2, 1) := dk_of ((dk_bind (dk_u1 (h 0 _ rfl))).trans rfl)
theorem dk_62 {code : ByteArray} {pc : Nat} (h : DkAt code pc [62]) : decode code pc = .ok (.istore_n 3, 1) := dk_of ((dk_bind (dk_u1 (h 0 _ rfl))).trans rfl)
theorem dk_64 {code : ByteArray} {pc : Nat} (h : DkAt code pc [64]) : decode code pc = .ok (.lstore_n 1, 1) := dk_of ((dk_bind (dk_u1 (h 0 _ rfl))).trans rfl)
theorem dk_65 {code : ByteArray} {pc : Nat} (h : DkAt code pc [65]) : decode code pc = .ok (.lstore_n 2, 1) := dk_of ((dk_bind (dk_u1 (h 0 _ rfl))).trans rfl)
theorem dk_66 {code : ByteArray} {pc : Nat} (h : DkAt code pc [66]) : decode code pc = .ok (.lstore_n 3, 1) := dk_of ((dk_bind (dk_u1 (h 0 _ rfl))).trans rfl)
theorem dk_75 {code : ByteArray} {pc : Nat} (h : DkAt code pc [75]) : decode code pc = .ok (.astore_n 0, 1) := dk_of ((dk_bind (dk_u1 (h 0 _ rfl))).trans rfl)
theorem dk_76 {code : ByteArray} {pc : Nat} (h : DkAt code pc [76]) : decode code pc = .ok (.astore_n 1, 1) := dk_of ((dk_bind (dk_u1 (h 0 _ rfl))).trans rfl)
theorem dk_77 {code : ByteArray} {pc : Nat} (h : DkAt code pc [77]) : decode code pc = .ok (.astore_n 2, 1) := dk_of ((dk_bind (dk_u1 (h 0 _ rfl))).trans rfl)
theorem dk_78 {code : ByteArray} {pc : Nat} (h : DkAt code pc [78]) : decode code pc = .ok (.astore_n 3, 1) := dk_of ((dk_bind (dk_u1 (h 0 _ rfl))).trans rfl)
theorem dk_79 {code : ByteArray} {pc : Nat} (h : DkAt code pc [79]) : decode code pc = .ok (.iastore, 1) := dk_of ((dk_bind (dk_u1 (h 0 _ rfl))).trans rfl)
theorem dk_80 {code : ByteArray} {pc : Nat} (h : DkAt code pc [80]) : decode code pc = .ok (.lastore, 1) := dk_of ((dk_bind (dk_u1 (h 0 _ rfl))).trans rfl)
theorem dk_83 {code : ByteArray} {pc : Nat} (h : DkAt code pc [83]) : decode code pc = .ok (.aastore, 1) := dk_of ((dk_bind (dk_u1 (h 0 _ rfl))).trans rfl)
theorem dk_84 {code : ByteArray} {pc : Nat} (h : DkAt code pc [84]) : decode code pc = .ok (.bastore, 1) := dk_of ((dk_bind (dk_u1 (h 0 _ rfl))).trans rfl)
theorem dk_85 {code : ByteArray} {pc : Nat} (h : DkAt code pc [85]) : decode code pc = .ok (.castore, 1) := dk_of ((dk_bind (dk_u1 (h 0 _ rfl))).trans rfl)
theorem dk_87 {code : ByteArray} {pc : Nat} (h : DkAt code pc [87]) : decode code pc = .ok (.pop, 1) := dk_of ((dk_bind (dk_u1 (h 0 _ rfl))).trans rfl)
theorem dk_89 {code : ByteArray} {pc : Nat} (h : DkAt code pc [89]) : decode code pc = .ok (.dup, 1) := dk_of ((dk_bind (dk_u1 (h 0 _ rfl))).trans rfl)
theorem dk_90 {code : ByteArray} {pc : Nat} (h : DkAt code pc [90]) : decode code pc = .ok (.dup_x1, 1) := dk_of ((dk_bind (dk_u1 (h 0 _ rfl))).trans rfl)
theorem dk_91 {code : ByteArray} {pc : Nat} (h : DkAt code pc [91]) : decode code pc = .ok (.dup_x2, 1) := dk_of ((dk_bind (dk_u1 (h 0 _ rfl))).trans rfl)
theorem dk_92 {code : ByteArray} {pc : Nat} (h : DkAt code pc [92]) : decode code pc = .ok (.dup2, 1) := dk_of ((dk_bind (dk_u1 (h 0 _ rfl))).trans rfl)
theorem dk_96 {code : ByteArray} {pc : Nat} (h : DkAt code pc [96]) : decode code pc = .ok (.iadd, 1) := dk_of ((dk_bind (dk_u1 (h 0 _ rfl))).trans rfl)
theorem dk_97 {code : ByteArray} {pc : Nat} (h : DkAt code pc [97]) : decode code pc = .ok (.ladd, 1) := dk_of ((dk_bind (dk_u1 (h 0 _ rfl))).trans rfl)
theorem dk_100 {code : ByteArray} {pc : Nat} (h : DkAt code pc [100]) : decode code pc = .ok (.isub, 1) := dk_of ((dk_bind (dk_u1 (h 0 _ rfl))).trans rfl)
theorem dk_101 {code : ByteArray} {pc : Nat} (h : DkAt code pc [101]) : decode code pc = .ok (.lsub, 1) := dk_of ((dk_bind (dk_u1 (h 0 _ rfl))).trans rfl)
theorem dk_104 {code : ByteArray} {pc : Nat} (h : DkAt code pc [104]) : decode code pc = .ok (.imul, 1) := dk_of ((dk_bind (dk_u1 (h 0 _ rfl))).trans rfl)
theorem dk_105 {code : ByteArray} {pc : Nat} (h : DkAt code pc [105]) : decode code pc = .ok (.lmul, 1) := dk_of ((dk_bind (dk_u1 (h 0 _ rfl))).trans rfl)
theorem dk_106 {code : ByteArray} {pc : Nat} (h : DkAt code pc [106]) : decode code pc = .ok (.fmul, 1) := dk_of ((dk_bind (dk_u1 (h 0 _ rfl))).trans rfl)
theorem dk_108 {code : ByteArray} {pc : Nat} (h : DkAt code pc [108]) : decode code pc = .ok (.idiv, 1) := dk_of ((dk_bind (dk_u1 (h 0 _ rfl))).trans rfl)
theorem dk_109 {code : ByteArray} {pc : Nat} (h : DkAt code pc [109]) : decode code pc = .ok (.ldiv, 1) := dk_of ((dk_bind (dk_u1 (h 0 _ rfl))).trans rfl)
theorem dk_112 {code : ByteArray} {pc : Nat} (h : DkAt code pc [112]) : decode code pc = .ok (.irem, 1) := dk_of ((dk_bind (dk_u1 (h 0 _ rfl))).trans rfl)
theorem dk_113 {code : ByteArray} {pc : Nat} (h : DkAt code pc [113]) : decode code pc = .ok (.lrem, 1) := dk_of ((dk_bind (dk_u1 (h 0 _ rfl))).trans rfl)
theorem dk_116 {code : ByteArray} {pc : Nat} (h : DkAt code pc [116]) : decode code pc = .ok (.ineg, 1) := dk_of ((dk_bind (dk_u1 (h 0 _ rfl))).trans rfl)
theorem dk_120 {code : ByteArray} {pc : Nat} (h : DkAt code pc [120]) : decode code pc = .ok (.ishl, 1) := dk_of ((dk_bind (dk_u1 (h 0 _ rfl))).trans rfl)
theorem dk_121 {code : ByteArray} {pc : Nat} (h : DkAt code pc [121]) : decode code pc = .ok (.lshl, 1) := dk_of ((dk_bind (dk_u1 (h 0 _ rfl))).trans rfl)
theorem dk_122 {code : ByteArray} {pc : Nat} (h : DkAt code pc [122]) : decode code pc = .ok (.ishr, 1) := dk_of ((dk_bind (dk_u1 (h 0 _ rfl))).trans rfl)
theorem dk_124 {code : ByteArray} {pc : Nat} (h : DkAt code pc [124]) : decode code pc = .ok (.iushr, 1) := dk_of ((dk_bind (dk_u1 (h 0 _ rfl))).trans rfl)
theorem dk_125 {code : ByteArray} {pc : Nat} (h : DkAt code pc [125]) : decode code pc = .ok (.lushr, 1) := dk_of ((dk_bind (dk_u1 (h 0 _ rfl))).trans rfl)
theorem dk_126 {code : ByteArray} {pc : Nat} (h : DkAt code pc [126]) : decode code pc = .ok (.iand, 1) := dk_of ((dk_bind (dk_u1 (h 0 _ rfl))).trans rfl)
theorem dk_127 {code : ByteArray} {pc : Nat} (h : DkAt code pc [127]) : decode code pc = .ok (.land, 1) := dk_of ((dk_bind (dk_u1 (h 0 _ rfl))).trans rfl)
theorem dk_128 {code : ByteArray} {pc : Nat} (h : DkAt code pc [128]) : decode code pc = .ok (.ior, 1) := dk_of ((dk_bind (dk_u1 (h 0 _ rfl))).trans rfl)
theorem dk_129 {code : ByteArray} {pc : Nat} (h : DkAt code pc [129]) : decode code pc = .ok (.lor, 1) := dk_of ((dk_bind (dk_u1 (h 0 _ rfl))).trans rfl)
theorem dk_130 {code : ByteArray} {pc : Nat} (h : DkAt code pc [130]) : decode code pc = .ok (.ixor, 1) := dk_of ((dk_bind (dk_u1 (h 0 _ rfl))).trans rfl)
theorem dk_131 {code : ByteArray} {pc : Nat} (h : DkAt code pc [131]) : decode code pc = .ok (.lxor, 1) := dk_of ((dk_bind (dk_u1 (h 0 _ rfl))).trans rfl)
theorem dk_132 {code : ByteArray} {pc : Nat} (a b : UInt8) (h : DkAt code pc [132, a, b]) : decode code pc = .ok (.iinc a.toNat (Reader.signed 8 b.toNat), 3) := dk_of ((dk_bind (dk_u1 (h 0 _ rfl))).trans ((dk_bind (dk_u1 (h 1 _ rfl))).trans ((dk_bind (dk_map (dk_u1 (h 2 _ rfl)))).trans rfl)))
theorem dk_133 {code : ByteArray} {pc : Nat} (h : DkAt code pc [133]) : decode code pc = .ok (.i2l, 1) := dk_of ((dk_bind (dk_u1 (h 0 _ rfl))).trans rfl)
theorem dk_134 {code : ByteArray} {pc : Nat} (h : DkAt code pc [134]) : decode code pc = .ok (.i2f, 1) := dk_of ((dk_bind (dk_u1 (h 0 _ rfl))).trans rfl)
theorem dk_136 {code : ByteArray} {pc : Nat} (h : DkAt code pc [136]) : decode code pc = .ok (.l2i, 1) := dk_of ((dk_bind (dk_u1 (h 0 _ rfl))).trans rfl)
theorem dk_139 {code : ByteArray} {pc : Nat} (h : DkAt code pc [139]) : decode code pc = .ok (.f2i, 1) := dk_of ((dk_bind (dk_u1 (h 0 _ rfl))).trans rfl)
theorem dk_145 {code : ByteArray} {pc : Nat} (h : DkAt code pc [145]) : decode code pc = .ok (.i2b, 1) := dk_of ((dk_bind (dk_u1 (h 0 _ rfl))).trans rfl)
theorem dk_146 {code : ByteArray} {pc : Nat} (h : DkAt code pc [146]) : decode code pc = .ok (.i2c, 1) := dk_of ((dk_bind (dk_u1 (h 0 _ rfl))).trans rfl)
theorem dk_148 {code : ByteArray} {pc : Nat} (h : DkAt code pc [148]) : decode code pc = .ok (.lcmp, 1) := dk_of ((dk_bind (dk_u1 (h 0 _ rfl))).trans rfl)
theorem dk_149 {code : ByteArray} {pc : Nat} (h : DkAt code pc [149]) : decode code pc = .ok (.fcmp .l, 1) := dk_of ((dk_bind (dk_u1 (h 0 _ rfl))).trans rfl)
theorem dk_150 {code : ByteArray} {pc : Nat} (h : DkAt code pc [150]) : decode code pc = .ok (.fcmp .g, 1) := dk_of ((dk_bind (dk_u1 (h 0 _ rfl))).trans rfl)
theorem dk_153 {code : ByteArray} {pc : Nat} (a b : UInt8) (h : DkAt code pc [153, a, b]) : decode code pc = .ok (.ifCond .eq (Reader.signed 16 (a.toNat * 256 + b.toNat)), 3) := dk_of ((dk_bind (dk_u1 (h 0 _ rfl))).trans ((dk_bind (dk_map (dk_u2 (h 1 _ rfl) (h 2 _ rfl)))).trans rfl))
theorem dk_154 {code : ByteArray} {pc : Nat} (a b : UInt8) (h : DkAt code pc [154, a, b]) : decode code pc = .ok (.ifCond .ne (Reader.signed 16 (a.toNat * 256 + b.toNat)), 3) := dk_of ((dk_bind (dk_u1 (h 0 _ rfl))).trans ((dk_bind (dk_map (dk_u2 (h 1 _ rfl) (h 2 _ rfl)))).trans rfl))
theorem dk_155 {code : ByteArray} {pc : Nat} (a b : UInt8) (h : DkAt code pc [155, a, b]) : decode code pc = .ok (.ifCond .lt (Reader.signed 16 (a.toNat * 256 + b.toNat)), 3) := dk_of ((dk_bind (dk_u1 (h 0 _ rfl))).trans ((dk_bind (dk_map (dk_u2 (h 1 _ rfl) (h 2 _ rfl)))).trans rfl))
theorem dk_156 {code : ByteArray} {pc : Nat} (a b : UInt8) (h : DkAt code pc [156, a, b]) : decode code pc = .ok (.ifCond .ge (Reader.signed 16 (a.toNat * 256 + b.toNat)), 3) := dk_of ((dk_bind (dk_u1 (h 0 _ rfl))).trans ((dk_bind (dk_map (dk_u2 (h 1 _ rfl) (h 2 _ rfl)))).trans rfl))
theorem dk_157 {code : ByteArray} {pc : Nat} (a b : UInt8) (h : DkAt code pc [157, a, b]) : decode code pc = .ok (.ifCond .gt (Reader.signed 16 (a.toNat * 256 + b.toNat)), 3) := dk_of ((dk_bind (dk_u1 (h 0 _ rfl))).trans ((dk_bind (dk_map (dk_u2 (h 1 _ rfl) (h 2 _ rfl)))).trans rfl))
theorem dk_158 {code : ByteArray} {pc : Nat} (a b : UInt8) (h : DkAt code pc [158, a, b]) : decode code pc = .ok (.ifCond .le (Reader.signed 16 (a.toNat * 256 + b.toNat)), 3) := dk_of ((dk_bind (dk_u1 (h 0 _ rfl))).trans ((dk_bind (dk_map (dk_u2 (h 1 _ rfl) (h 2 _ rfl)))).trans rfl))
theorem dk_159 {code : ByteArray} {pc : Nat} (a b : UInt8) (h : DkAt code pc [159, a, b]) : decode code pc = .ok (.if_icmp .eq (Reader.signed 16 (a.toNat * 256 + b.toNat)), 3) := dk_of ((dk_bind (dk_u1 (h 0 _ rfl))).trans ((dk_bind (dk_map (dk_u2 (h 1 _ rfl) (h 2 _ rfl)))).trans rfl))
theorem dk_160 {code : ByteArray} {pc : Nat} (a b : UInt8) (h : DkAt code pc [160, a, b]) : decode code pc = .ok (.if_icmp .ne (Reader.signed 16 (a.toNat * 256 + b.toNat)), 3) := dk_of ((dk_bind (dk_u1 (h 0 _ rfl))).trans ((dk_bind (dk_map (dk_u2 (h 1 _ rfl) (h 2 _ rfl)))).trans rfl))
theorem dk_161 {code : ByteArray} {pc : Nat} (a b : UInt8) (h : DkAt code pc [161, a, b]) : decode code pc = .ok (.if_icmp .lt (Reader.signed 16 (a.toNat * 256 + b.toNat)), 3) := dk_of ((dk_bind (dk_u1 (h 0 _ rfl))).trans ((dk_bind (dk_map (dk_u2 (h 1 _ rfl) (h 2 _ rfl)))).trans rfl))
theorem dk_162 {code : ByteArray} {pc : Nat} (a b : UInt8) (h : DkAt code pc [162, a, b]) : decode code pc = .ok (.if_icmp .ge (Reader.signed 16 (a.toNat * 256 + b.toNat)), 3) := dk_of ((dk_bind (dk_u1 (h 0 _ rfl))).trans ((dk_bind (dk_map (dk_u2 (h 1 _ rfl) (h 2 _ rfl)))).trans rfl))
theorem dk_163 {code : ByteArray} {pc : Nat} (a b : UInt8) (h : DkAt code pc [163, a, b]) : decode code pc = .ok (.if_icmp .gt (Reader.signed 16 (a.toNat * 256 + b.toNat)), 3) := dk_of ((dk_bind (dk_u1 (h 0 _ rfl))).trans ((dk_bind (dk_map (dk_u2 (h 1 _ rfl) (h 2 _ rfl)))).trans rfl))
theorem dk_164 {code : ByteArray} {pc : Nat} (a b : UInt8) (h : DkAt code pc [164, a, b]) : decode code pc = .ok (.if_icmp .le (Reader.signed 16 (a.toNat * 256 + b.toNat)), 3) := dk_of ((dk_bind (dk_u1 (h 0 _ rfl))).trans ((dk_bind (dk_map (dk_u2 (h 1 _ rfl) (h 2 _ rfl)))).trans rfl))
theorem dk_165 {code : ByteArray} {pc : Nat} (a b : UInt8) (h : DkAt code pc [165, a, b]) : decode code pc = .ok (.if_acmp .eq (Reader.signed 16 (a.toNat * 256 + b.toNat)), 3) := dk_of ((dk_bind (dk_u1 (h 0 _ rfl))).trans ((dk_bind (dk_map (dk_u2 (h 1 _ rfl) (h 2 _ rfl)))).trans rfl))
theorem dk_166 {code : ByteArray} {pc : Nat} (a b : UInt8) (h : DkAt code pc [166, a, b]) : decode code pc = .ok (.if_acmp .ne (Reader.signed 16 (a.toNat * 256 + b.toNat)), 3) := dk_of ((dk_bind (dk_u1 (h 0 _ rfl))).trans ((dk_bind (dk_map (dk_u2 (h 1 _ rfl) (h 2 _ rfl)))).trans rfl))
theorem dk_167 {code : ByteArray} {pc : Nat} (a b : UInt8) (h : DkAt code pc [167, a, b]) : decode code pc = .ok (.goto (Reader.signed 16 (a.toNat * 256 + b.toNat)), 3) := dk_of ((dk_bind (dk_u1 (h 0 _ rfl))).trans ((dk_bind (dk_map (dk_u2 (h 1 _ rfl) (h 2 _ rfl)))).trans rfl))
theorem dk_172 {code : ByteArray} {pc : Nat} (h : DkAt code pc [172]) : decode code pc = .ok (.ireturn, 1) := dk_of ((dk_bind (dk_u1 (h 0 _ rfl))).trans rfl)
theorem dk_173 {code : ByteArray} {pc : Nat} (h : DkAt code pc [173]) : decode code pc = .ok (.lreturn, 1) := dk_of ((dk_bind (dk_u1 (h 0 _ rfl))).trans rfl)
theorem dk_176 {code : ByteArray} {pc : Nat} (h : DkAt code pc [176]) : decode code pc = .ok (.areturn, 1) := dk_of ((dk_bind (dk_u1 (h 0 _ rfl))).trans rfl)
theorem dk_177 {code : ByteArray} {pc : Nat} (h : DkAt code pc [177]) : decode code pc = .ok (.return_, 1) := dk_of ((dk_bind (dk_u1 (h 0 _ rfl))).trans rfl)
theorem dk_178 {code : ByteArray} {pc : Nat} (a b : UInt8) (h : DkAt code pc [178, a, b]) : decode code pc = .ok (.getstatic (a.toNat * 256 + b.toNat), 3) := dk_of ((dk_bind (dk_u1 (h 0 _ rfl))).trans ((dk_bind (dk_u2 (h 1 _ rfl) (h 2 _ rfl))).trans rfl))
theorem dk_180 {code : ByteArray} {pc : Nat} (a b : UInt8) (h : DkAt code pc [180, a, b]) : decode code pc = .ok (.getfield (a.toNat * 256 + b.toNat), 3) := dk_of ((dk_bind (dk_u1 (h 0 _ rfl))).trans ((dk_bind (dk_u2 (h 1 _ rfl) (h 2 _ rfl))).trans rfl))
theorem dk_181 {code : ByteArray} {pc : Nat} (a b : UInt8) (h : DkAt code pc [181, a, b]) : decode code pc = .ok (.putfield (a.toNat * 256 + b.toNat), 3) := dk_of ((dk_bind (dk_u1 (h 0 _ rfl))).trans ((dk_bind (dk_u2 (h 1 _ rfl) (h 2 _ rfl))).trans rfl))
theorem dk_182 {code : ByteArray} {pc : Nat} (a b : UInt8) (h : DkAt code pc [182, a, b]) : decode code pc = .ok (.invokevirtual (a.toNat * 256 + b.toNat), 3) := dk_of ((dk_bind (dk_u1 (h 0 _ rfl))).trans ((dk_bind (dk_u2 (h 1 _ rfl) (h 2 _ rfl))).trans rfl))
theorem dk_183 {code : ByteArray} {pc : Nat} (a b : UInt8) (h : DkAt code pc [183, a, b]) : decode code pc = .ok (.invokespecial (a.toNat * 256 + b.toNat), 3) := dk_of ((dk_bind (dk_u1 (h 0 _ rfl))).trans ((dk_bind (dk_u2 (h 1 _ rfl) (h 2 _ rfl))).trans rfl))
theorem dk_184 {code : ByteArray} {pc : Nat} (a b : UInt8) (h : DkAt code pc [184, a, b]) : decode code pc = .ok (.invokestatic (a.toNat * 256 + b.toNat), 3) := dk_of ((dk_bind (dk_u1 (h 0 _ rfl))).trans ((dk_bind (dk_u2 (h 1 _ rfl) (h 2 _ rfl))).trans rfl))
theorem dk_187 {code : ByteArray} {pc : Nat} (a b : UInt8) (h : DkAt code pc [187, a, b]) : decode code pc = .ok (.new (a.toNat * 256 + b.toNat), 3) := dk_of ((dk_bind (dk_u1 (h 0 _ rfl))).trans ((dk_bind (dk_u2 (h 1 _ rfl) (h 2 _ rfl))).trans rfl))
theorem dk_188_4 {code : ByteArray} {pc : Nat} (h : DkAt code pc [188, 4]) : decode code pc = .ok (.newarray .boolean, 2) := dk_of ((dk_bind (dk_u1 (h 0 _ rfl))).trans ((dk_bind (dk_u1 (h 1 _ rfl))).trans rfl))
theorem dk_188_5 {code : ByteArray} {pc : Nat} (h : DkAt code pc [188, 5]) : decode code pc = .ok (.newarray .char, 2) := dk_of ((dk_bind (dk_u1 (h 0 _ rfl))).trans ((dk_bind (dk_u1 (h 1 _ rfl))).trans rfl))
theorem dk_188_8 {code : ByteArray} {pc : Nat} (h : DkAt code pc [188, 8]) : decode code pc = .ok (.newarray .byte, 2) := dk_of ((dk_bind (dk_u1 (h 0 _ rfl))).trans ((dk_bind (dk_u1 (h 1 _ rfl))).trans rfl))
theorem dk_188_10 {code : ByteArray} {pc : Nat} (h : DkAt code pc [188, 10]) : decode code pc = .ok (.newarray .int, 2) := dk_of ((dk_bind (dk_u1 (h 0 _ rfl))).trans ((dk_bind (dk_u1 (h 1 _ rfl))).trans rfl))
theorem dk_188_11 {code : ByteArray} {pc : Nat} (h : DkAt code pc [188, 11]) : decode code pc = .ok (.newarray .long, 2) := dk_of ((dk_bind (dk_u1 (h 0 _ rfl))).trans ((dk_bind (dk_u1 (h 1 _ rfl))).trans rfl))
theorem dk_189 {code : ByteArray} {pc : Nat} (a b : UInt8) (h : DkAt code pc [189, a, b]) : decode code pc = .ok (.anewarray (a.toNat * 256 + b.toNat), 3) := dk_of ((dk_bind (dk_u1 (h 0 _ rfl))).trans ((dk_bind (dk_u2 (h 1 _ rfl) (h 2 _ rfl))).trans rfl))
theorem dk_190 {code : ByteArray} {pc : Nat} (h : DkAt code pc [190]) : decode code pc = .ok (.arraylength, 1) := dk_of ((dk_bind (dk_u1 (h 0 _ rfl))).trans rfl)
theorem dk_191 {code : ByteArray} {pc : Nat} (h : DkAt code pc [191]) : decode code pc = .ok (.athrow, 1) := dk_of ((dk_bind (dk_u1 (h 0 _ rfl))).trans rfl)
theorem dk_192 {code : ByteArray} {pc : Nat} (a b : UInt8) (h : DkAt code pc [192, a, b]) : decode code pc = .ok (.checkcast (a.toNat * 256 + b.toNat), 3) := dk_of ((dk_bind (dk_u1 (h 0 _ rfl))).trans ((dk_bind (dk_u2 (h 1 _ rfl) (h 2 _ rfl))).trans rfl))
theorem dk_193 {code : ByteArray} {pc : Nat} (a b : UInt8) (h : DkAt code pc [193, a, b]) : decode code pc = .ok (.instanceof (a.toNat * 256 + b.toNat), 3) := dk_of ((dk_bind (dk_u1 (h 0 _ rfl))).trans ((dk_bind (dk_u2 (h 1 _ rfl) (h 2 _ rfl))).trans rfl))
theorem dk_198 {code : ByteArray} {pc : Nat} (a b : UInt8) (h : DkAt code pc [198, a, b]) : decode code pc = .ok (.ifnull (Reader.signed 16 (a.toNat * 256 + b.toNat)), 3) := dk_of ((dk_bind (dk_u1 (h 0 _ rfl))).trans ((dk_bind (dk_map (dk_u2 (h 1 _ rfl) (h 2 _ rfl)))).trans rfl))
theorem dk_199 {code : ByteArray} {pc : Nat} (a b : UInt8) (h : DkAt code pc [199, a, b]) : decode code pc = .ok (.ifnonnull (Reader.signed 16 (a.toNat * 256 + b.toNat)), 3) := dk_of ((dk_bind (dk_u1 (h 0 _ rfl))).trans ((dk_bind (dk_map (dk_u2 (h 1 _ rfl) (h 2 _ rfl)))).trans rfl))
/-! java/lang/Object -/
set_option maxRecDepth 100000
def RJ37 : String := "java/lang/Object"
abbrev cJ37_init : ByteArray := object_method_1_code
def yJ37_init : MethodName := ⟨RJ37, "<init>", "()V"⟩
theorem dJ37_init_0 : decode cJ37_init 0 = .ok (.return_, 1) := by decide +kernel
abbrev cJ37_equals : ByteArray := object_method_4_code
def yJ37_equals : MethodName := ⟨RJ37, "equals", "(Ljava/lang/Object;)Z"⟩
def dkwJ37_equals_0 : List UInt8 := [42, 43, 166, 0, 7, 4, 167, 0, 4, 3, 172]
abbrev dktJ37_equals_0 : List UInt8 := dkwJ37_equals_0 ++ []
theorem dksJ37_equals_0 : cJ37_equals.data.toList.drop 0 = dktJ37_equals_0 := by decide +kernel
theorem dJ37_equals_0 : decode cJ37_equals 0 = .ok (.aload_n 0, 1) := dk_42 (dk_at dksJ37_equals_0 0 rfl rfl)
theorem dJ37_equals_1 : decode cJ37_equals 1 = .ok (.aload_n 1, 1) := dk_43 (dk_at dksJ37_equals_0 1 rfl rfl)
theorem dJ37_equals_2 : decode cJ37_equals 2 = .ok (.if_acmp .ne 7, 3) := dk_166 0 7 (dk_at dksJ37_equals_0 2 rfl rfl)
theorem dJ37_equals_5 : decode cJ37_equals 5 = .ok (.iconst 1, 1) := dk_4 (dk_at dksJ37_equals_0 5 rfl rfl)
theorem dJ37_equals_6 : decode cJ37_equals 6 = .ok (.goto 4, 3) := dk_167 0 4 (dk_at dksJ37_equals_0 6 rfl rfl)
theorem dJ37_equals_9 : decode cJ37_equals 9 = .ok (.iconst 0, 1) := dk_3 (dk_at dksJ37_equals_0 9 rfl rfl)
theorem dJ37_equals_10 : decode cJ37_equals 10 = .ok (.ireturn, 1) := dk_172 (dk_at dksJ37_equals_0 10 rfl rfl)
theorem q259 : (Jvm.Cond.instanceMethod ({ cls := "java/lang/Object", name := "<init>", desc := "()V" } : Jvm.MethodName)) ∈ lw_all := lw_g (lw_at lw_m1 72 rfl) rfl
theorem q260 : (Jvm.Cond.code ({ cls := "java/lang/Object", name := "<init>", desc := "()V" } : Jvm.MethodName) object_method_1_code (1 : Nat) (Option.none : Option Jvm.ClassFile.FieldType)) ∈ lw_all := lw_g (lw_at lw_m1 73 rfl) rfl
theorem q1273 : (Jvm.Cond.instanceMethod ({ cls := "java/lang/Object", name := "getClass", desc := "()Ljava/lang/Class;" } : Jvm.MethodName)) ∈ lw_all := lw_g (lw_at lw_m5 126 rfl) rfl
theorem q1274 : (Jvm.Cond.sameMethod "java/lang/Object" "java/lang/Object" "getClass" "()Ljava/lang/Class;") ∈ lw_all := lw_g (lw_at lw_m5 127 rfl) rfl
theorem q1316 : (Jvm.Cond.native ({ cls := "java/lang/Object", name := "getClass", desc := "()Ljava/lang/Class;" } : Jvm.MethodName)) ∈ lw_all := lw_g (lw_at lw_m5 169 rfl) rfl
theorem q1539 : (Jvm.Cond.native ({ cls := "java/lang/Object", name := "clone", desc := "()Ljava/lang/Object;" } : Jvm.MethodName)) ∈ lw_all := lw_g (lw_at lw_m6 152 rfl) rfl
theorem q1540 : (Jvm.Cond.instanceMethod ({ cls := "java/lang/Object", name := "clone", desc := "()Ljava/lang/Object;" } : Jvm.MethodName)) ∈ lw_all := lw_g (lw_at lw_m6 153 rfl) rfl
theorem q1651 : (Jvm.Cond.declares ({ cls := "java/lang/Object", name := "hashCode", desc := "()I" } : Jvm.MethodName)) ∈ lw_tbl := lw_at lw_m7 24 rfl
theorem q1653 : (Jvm.Cond.instanceMethod ({ cls := "java/lang/Object", name := "hashCode", desc := "()I" } : Jvm.MethodName)) ∈ lw_all := lw_g (lw_at lw_m7 26 rfl) rfl
theorem q1654 : (Jvm.Cond.sameMethod "java/lang/Object" "java/lang/Object" "hashCode" "()I") ∈ lw_all := lw_g (lw_at lw_m7 27 rfl) rfl
theorem q1692 : (Jvm.Cond.native ({ cls := "java/lang/Object", name := "hashCode", desc := "()I" } : Jvm.MethodName)) ∈ lw_all := lw_g (lw_at lw_m7 65 rfl) rfl
theorem q1699 : (Jvm.Cond.declares ({ cls := "java/lang/Object", name := "equals", desc := "(Ljava/lang/Object;)Z" } : Jvm.MethodName)) ∈ lw_tbl := lw_at lw_m7 72 rfl
theorem q1701 : (Jvm.Cond.instanceMethod ({ cls := "java/lang/Object", name := "equals", desc := "(Ljava/lang/Object;)Z" } : Jvm.MethodName)) ∈ lw_all := lw_g (lw_at lw_m7 74 rfl) rfl
theorem q1702 : (Jvm.Cond.sameMethod "java/lang/Object" "java/lang/Object" "equals" "(Ljava/lang/Object;)Z") ∈ lw_all := lw_g (lw_at lw_m7 75 rfl) rfl
theorem q1743 : (Jvm.Cond.code ({ cls := "java/lang/Object", name := "equals", desc := "(Ljava/lang/Object;)Z" } : Jvm.MethodName) object_method_4_code (2 : Nat) (Option.some Jvm.ClassFile.FieldType.boolean)) ∈ lw_all := lw_g (lw_at lw_m7 116 rfl) rfl
theorem q4145 : (Jvm.Cond.initialized "java/lang/Object") ∈ lw_all := lw_g (lw_at lw_m17 118 rfl) rfl
theorem q4204 : (Jvm.Cond.declares ({ cls := "java/lang/Object", name := "getClass", desc := "()Ljava/lang/Class;" } : Jvm.MethodName)) ∈ lw_tbl := lw_at lw_m17 177 rfl

/-! GroupJournal$Key -/
set_option maxRecDepth 100000
def RX1 : String := "GroupJournal$Key"
def TX1 : u_T := fun k => match k with
  | 0 => ("GroupJournal$Key", "group", "I", false)
  | _ => ("GroupJournal$Key", "place", "I", false)
def tyX1 : Nat → FieldType := fun k => match k with
  | 0 => .int
  | _ => .int
abbrev wsX10 : List Cond := u_ws RX1 TX1 2
theorem nmX1 : ∀ a, a < 2 → ∀ b, b < 2 → a ≠ b → (TX1 a).2.1 ≠ (TX1 b).2.1 := by decide +kernel
theorem tyX1_ok : ∀ k, k < 2 → parseFieldDescriptor (TX1 k).2.2.1 = some (tyX1 k) := by decide +kernel
abbrev cX1_init : ByteArray := prog_10_method_1_code
def yX1_init : MethodName := ⟨RX1, "<init>", "()V"⟩
theorem dX1_init_0 : decode cX1_init 0 = .ok (.aload_n 0, 1) := by decide +kernel
theorem dX1_init_1 : decode cX1_init 1 = .ok (.invokespecial 1, 3) := by decide +kernel
theorem dX1_init_4 : decode cX1_init 4 = .ok (.return_, 1) := by decide +kernel
abbrev cX1_of : ByteArray := prog_10_method_2_code
def yX1_of : MethodName := ⟨RX1, "of", "(I)LGroupJournal$Key;"⟩
def dkwX1_of_0 : List UInt8 := [42, 27, 7, 108, 181, 0, 7, 42, 27, 7, 112, 181, 0, 13, 42, 176]
abbrev dktX1_of_0 : List UInt8 := dkwX1_of_0 ++ []
theorem dksX1_of_0 : cX1_of.data.toList.drop 0 = dktX1_of_0 := by decide +kernel
theorem dX1_of_0 : decode cX1_of 0 = .ok (.aload_n 0, 1) := dk_42 (dk_at dksX1_of_0 0 rfl rfl)
theorem dX1_of_1 : decode cX1_of 1 = .ok (.iload_n 1, 1) := dk_27 (dk_at dksX1_of_0 1 rfl rfl)
theorem dX1_of_2 : decode cX1_of 2 = .ok (.iconst 4, 1) := dk_7 (dk_at dksX1_of_0 2 rfl rfl)
theorem dX1_of_3 : decode cX1_of 3 = .ok (.idiv, 1) := dk_108 (dk_at dksX1_of_0 3 rfl rfl)
theorem dX1_of_4 : decode cX1_of 4 = .ok (.putfield 7, 3) := dk_181 0 7 (dk_at dksX1_of_0 4 rfl rfl)
theorem dX1_of_7 : decode cX1_of 7 = .ok (.aload_n 0, 1) := dk_42 (dk_at dksX1_of_0 7 rfl rfl)
theorem dX1_of_8 : decode cX1_of 8 = .ok (.iload_n 1, 1) := dk_27 (dk_at dksX1_of_0 8 rfl rfl)
theorem dX1_of_9 : decode cX1_of 9 = .ok (.iconst 4, 1) := dk_7 (dk_at dksX1_of_0 9 rfl rfl)
theorem dX1_of_10 : decode cX1_of 10 = .ok (.irem, 1) := dk_112 (dk_at dksX1_of_0 10 rfl rfl)
theorem dX1_of_11 : decode cX1_of 11 = .ok (.putfield 13, 3) := dk_181 0 13 (dk_at dksX1_of_0 11 rfl rfl)
theorem dX1_of_14 : decode cX1_of 14 = .ok (.aload_n 0, 1) := dk_42 (dk_at dksX1_of_0 14 rfl rfl)
theorem dX1_of_15 : decode cX1_of 15 = .ok (.areturn, 1) := dk_176 (dk_at dksX1_of_0 15 rfl rfl)
abbrev cX1_hashCode : ByteArray := prog_10_method_4_code
def yX1_hashCode : MethodName := ⟨RX1, "hashCode", "()I"⟩
def dkwX1_hashCode_0 : List UInt8 := [16, 31, 42, 180, 0, 7, 104, 42, 180, 0, 13, 96, 172]
abbrev dktX1_hashCode_0 : List UInt8 := dkwX1_hashCode_0 ++ []
theorem dksX1_hashCode_0 : cX1_hashCode.data.toList.drop 0 = dktX1_hashCode_0 := by decide +kernel
theorem dX1_hashCode_0 : decode cX1_hashCode 0 = .ok (.bipush 31, 2) := dk_16 31 (dk_at dksX1_hashCode_0 0 rfl rfl)
theorem dX1_hashCode_2 : decode cX1_hashCode 2 = .ok (.aload_n 0, 1) := dk_42 (dk_at dksX1_hashCode_0 2 rfl rfl)
theorem dX1_hashCode_3 : decode cX1_hashCode 3 = .ok (.getfield 7, 3) := dk_180 0 7 (dk_at dksX1_hashCode_0 3 rfl rfl)
theorem dX1_hashCode_6 : decode cX1_hashCode 6 = .ok (.imul, 1) := dk_104 (dk_at dksX1_hashCode_0 6 rfl rfl)
theorem dX1_hashCode_7 : decode cX1_hashCode 7 = .ok (.aload_n 0, 1) := dk_42 (dk_at dksX1_hashCode_0 7 rfl rfl)
theorem dX1_hashCode_8 : decode cX1_hashCode 8 = .ok (.getfield 13, 3) := dk_180 0 13 (dk_at dksX1_hashCode_0 8 rfl rfl)
theorem dX1_hashCode_11 : decode cX1_hashCode 11 = .ok (.iadd, 1) := dk_96 (dk_at dksX1_hashCode_0 11 rfl rfl)
theorem dX1_hashCode_12 : decode cX1_hashCode 12 = .ok (.ireturn, 1) := dk_172 (dk_at dksX1_hashCode_0 12 rfl rfl)
abbrev cX1_equals : ByteArray := prog_10_method_3_code
def yX1_equals : MethodName := ⟨RX1, "equals", "(Ljava/lang/Object;)Z"⟩
def dkwX1_equals_1 : List UInt8 := [180, 0, 13, 42, 180, 0, 13, 160, 0, 7, 4, 167, 0, 4, 3, 172]
abbrev dktX1_equals_1 : List UInt8 := dkwX1_equals_1 ++ []
def dkwX1_equals_0 : List UInt8 := [43, 193, 0, 8, 153, 0, 34, 43, 192, 0, 8, 77, 44, 180, 0, 7, 42, 180, 0, 7, 160, 0, 18, 44]
abbrev dktX1_equals_0 : List UInt8 := dkwX1_equals_0 ++ dktX1_equals_1
theorem dksX1_equals_0 : cX1_equals.data.toList.drop 0 = dktX1_equals_0 := by decide +kernel
theorem dksX1_equals_1 : cX1_equals.data.toList.drop 24 = dktX1_equals_1 := dk_seg dksX1_equals_0 24 rfl rfl
theorem dX1_equals_0 : decode cX1_equals 0 = .ok (.aload_n 1, 1) := dk_43 (dk_at dksX1_equals_0 0 rfl rfl)
theorem dX1_equals_1 : decode cX1_equals 1 = .ok (.instanceof 8, 3) := dk_193 0 8 (dk_at dksX1_equals_0 1 rfl rfl)
theorem dX1_equals_4 : decode cX1_equals 4 = .ok (.ifCond .eq 34, 3) := dk_153 0 34 (dk_at dksX1_equals_0 4 rfl rfl)
theorem dX1_equals_7 : decode cX1_equals 7 = .ok (.aload_n 1, 1) := dk_43 (dk_at dksX1_equals_0 7 rfl rfl)
theorem dX1_equals_8 : decode cX1_equals 8 = .ok (.checkcast 8, 3) := dk_192 0 8 (dk_at dksX1_equals_0 8 rfl rfl)
theorem dX1_equals_11 : decode cX1_equals 11 = .ok (.astore_n 2, 1) := dk_77 (dk_at dksX1_equals_0 11 rfl rfl)
theorem dX1_equals_12 : decode cX1_equals 12 = .ok (.aload_n 2, 1) := dk_44 (dk_at dksX1_equals_0 12 rfl rfl)
theorem dX1_equals_13 : decode cX1_equals 13 = .ok (.getfield 7, 3) := dk_180 0 7 (dk_at dksX1_equals_0 13 rfl rfl)
theorem dX1_equals_16 : decode cX1_equals 16 = .ok (.aload_n 0, 1) := dk_42 (dk_at dksX1_equals_0 16 rfl rfl)
theorem dX1_equals_17 : decode cX1_equals 17 = .ok (.getfield 7, 3) := dk_180 0 7 (dk_at dksX1_equals_0 17 rfl rfl)
theorem dX1_equals_20 : decode cX1_equals 20 = .ok (.if_icmp .ne 18, 3) := dk_160 0 18 (dk_at dksX1_equals_0 20 rfl rfl)
theorem dX1_equals_23 : decode cX1_equals 23 = .ok (.aload_n 2, 1) := dk_44 (dk_at dksX1_equals_0 23 rfl rfl)
theorem dX1_equals_24 : decode cX1_equals 24 = .ok (.getfield 13, 3) := dk_180 0 13 (dk_at dksX1_equals_1 0 rfl rfl)
theorem dX1_equals_27 : decode cX1_equals 27 = .ok (.aload_n 0, 1) := dk_42 (dk_at dksX1_equals_1 3 rfl rfl)
theorem dX1_equals_28 : decode cX1_equals 28 = .ok (.getfield 13, 3) := dk_180 0 13 (dk_at dksX1_equals_1 4 rfl rfl)
theorem dX1_equals_31 : decode cX1_equals 31 = .ok (.if_icmp .ne 7, 3) := dk_160 0 7 (dk_at dksX1_equals_1 7 rfl rfl)
theorem dX1_equals_34 : decode cX1_equals 34 = .ok (.iconst 1, 1) := dk_4 (dk_at dksX1_equals_1 10 rfl rfl)
theorem dX1_equals_35 : decode cX1_equals 35 = .ok (.goto 4, 3) := dk_167 0 4 (dk_at dksX1_equals_1 11 rfl rfl)
theorem dX1_equals_38 : decode cX1_equals 38 = .ok (.iconst 0, 1) := dk_3 (dk_at dksX1_equals_1 14 rfl rfl)
theorem dX1_equals_39 : decode cX1_equals 39 = .ok (.ireturn, 1) := dk_172 (dk_at dksX1_equals_1 15 rfl rfl)
theorem q189 : (Jvm.Cond.initialized "GroupJournal$Key") ∈ lw_all := lw_g (lw_at lw_m1 2 rfl) rfl
theorem q263 : (Jvm.Cond.instantiable "GroupJournal$Key" (2 : Nat)) ∈ lw_all := lw_g (lw_at lw_m1 76 rfl) rfl
theorem q265 : (Jvm.Cond.instanceMethod ({ cls := "GroupJournal$Key", name := "<init>", desc := "()V" } : Jvm.MethodName)) ∈ lw_all := lw_g (lw_at lw_m1 78 rfl) rfl
theorem q266 : (Jvm.Cond.code ({ cls := "GroupJournal$Key", name := "<init>", desc := "()V" } : Jvm.MethodName) prog_10_method_1_code (1 : Nat) (Option.none : Option Jvm.ClassFile.FieldType)) ∈ lw_all := lw_g (lw_at lw_m1 79 rfl) rfl
theorem q267 : (Jvm.Cond.methodLink "GroupJournal$Key" (1 : Nat) ({ cls := "java/lang/Object", name := "<init>", desc := "()V" } : Jvm.MethodName)) ∈ lw_all := lw_g (lw_at lw_m1 80 rfl) rfl
theorem q268 : (Jvm.Cond.fieldLink "GroupJournal$Key" (7 : Nat) "GroupJournal$Key" "group" "I") ∈ lw_all := lw_g (lw_at lw_m1 81 rfl) rfl
theorem q269 : (Jvm.Cond.fieldLink "GroupJournal$Key" (13 : Nat) "GroupJournal$Key" "place" "I") ∈ lw_all := lw_g (lw_at lw_m1 82 rfl) rfl
theorem q270 : (Jvm.Cond.lays "GroupJournal$Key" "GroupJournal$Key" "group" "I") ∈ lw_all := lw_g (lw_at lw_m1 83 rfl) rfl
theorem q271 : (Jvm.Cond.soleField "GroupJournal$Key" "group") ∈ lw_all := lw_g (lw_at lw_m1 84 rfl) rfl
theorem q272 : (Jvm.Cond.lays "GroupJournal$Key" "GroupJournal$Key" "place" "I") ∈ lw_all := lw_g (lw_at lw_m1 85 rfl) rfl
theorem q273 : (Jvm.Cond.soleField "GroupJournal$Key" "place") ∈ lw_all := lw_g (lw_at lw_m1 86 rfl) rfl
theorem q274 : (Jvm.Cond.superclass "GroupJournal$Key" "java/lang/Object") ∈ lw_all := lw_g (lw_at lw_m1 87 rfl) rfl
theorem q841 : (Jvm.Cond.instanceMethod ({ cls := "GroupJournal$Key", name := "of", desc := "(I)LGroupJournal$Key;" } : Jvm.MethodName)) ∈ lw_all := lw_g (lw_at lw_m3 174 rfl) rfl
theorem q842 : (Jvm.Cond.selects "GroupJournal$Key" ({ cls := "GroupJournal$Key", name := "of", desc := "(I)LGroupJournal$Key;" } : Jvm.MethodName) ({ cls := "GroupJournal$Key", name := "of", desc := "(I)LGroupJournal$Key;" } : Jvm.MethodName)) ∈ lw_all := lw_g (lw_at lw_m3 175 rfl) rfl
theorem q843 : (Jvm.Cond.code ({ cls := "GroupJournal$Key", name := "of", desc := "(I)LGroupJournal$Key;" } : Jvm.MethodName) prog_10_method_2_code (2 : Nat) (Option.some (Jvm.ClassFile.FieldType.object "GroupJournal$Key"))) ∈ lw_all := lw_g (lw_at lw_m3 176 rfl) rfl
theorem q1284 : (Jvm.Cond.selects "GroupJournal$Key" ({ cls := "java/lang/Object", name := "getClass", desc := "()Ljava/lang/Class;" } : Jvm.MethodName) ({ cls := "java/lang/Object", name := "getClass", desc := "()Ljava/lang/Class;" } : Jvm.MethodName)) ∈ lw_all := lw_g (lw_at lw_m5 137 rfl) rfl
theorem q1664 : (Jvm.Cond.selects "GroupJournal$Key" ({ cls := "java/lang/Object", name := "hashCode", desc := "()I" } : Jvm.MethodName) ({ cls := "GroupJournal$Key", name := "hashCode", desc := "()I" } : Jvm.MethodName)) ∈ lw_all := lw_g (lw_at lw_m7 37 rfl) rfl
theorem q1665 : (Jvm.Cond.instanceMethod ({ cls := "GroupJournal$Key", name := "hashCode", desc := "()I" } : Jvm.MethodName)) ∈ lw_all := lw_g (lw_at lw_m7 38 rfl) rfl
theorem q1666 : (Jvm.Cond.code ({ cls := "GroupJournal$Key", name := "hashCode", desc := "()I" } : Jvm.MethodName) prog_10_method_4_code (1 : Nat) (Option.some Jvm.ClassFile.FieldType.int)) ∈ lw_all := lw_g (lw_at lw_m7 39 rfl) rfl
theorem q1712 : (Jvm.Cond.selects "GroupJournal$Key" ({ cls := "java/lang/Object", name := "equals", desc := "(Ljava/lang/Object;)Z" } : Jvm.MethodName) ({ cls := "GroupJournal$Key", name := "equals", desc := "(Ljava/lang/Object;)Z" } : Jvm.MethodName)) ∈ lw_all := lw_g (lw_at lw_m7 85 rfl) rfl
theorem q1713 : (Jvm.Cond.instanceMethod ({ cls := "GroupJournal$Key", name := "equals", desc := "(Ljava/lang/Object;)Z" } : Jvm.MethodName)) ∈ lw_all := lw_g (lw_at lw_m7 86 rfl) rfl
theorem q1714 : (Jvm.Cond.code ({ cls := "GroupJournal$Key", name := "equals", desc := "(Ljava/lang/Object;)Z" } : Jvm.MethodName) prog_10_method_3_code (3 : Nat) (Option.some Jvm.ClassFile.FieldType.boolean)) ∈ lw_all := lw_g (lw_at lw_m7 87 rfl) rfl
theorem q1715 : (Jvm.Cond.classLink "GroupJournal$Key" (8 : Nat) "GroupJournal$Key") ∈ lw_all := lw_g (lw_at lw_m7 88 rfl) rfl
theorem q4158 : (Jvm.Cond.castable "GroupJournal$Key" "java/lang/Object") ∈ lw_tbl := lw_at lw_m17 131 rfl
theorem in_X1 : ∀ w ∈ wsX10, w ∈ lw_all := lw_in wsX10 [270, 272] (by decide +kernel) (by decide +kernel)

/-! GroupJournal$Spot -/
set_option maxRecDepth 100000
def RX2 : String := "GroupJournal$Spot"
def TX2 : u_T := fun k => match k with
  | 0 => ("GroupJournal$Spot", "segment", "I", false)
  | _ => ("GroupJournal$Spot", "at", "I", false)
def tyX2 : Nat → FieldType := fun k => match k with
  | 0 => .int
  | _ => .int
abbrev wsX20 : List Cond := u_ws RX2 TX2 2
theorem nmX2 : ∀ a, a < 2 → ∀ b, b < 2 → a ≠ b → (TX2 a).2.1 ≠ (TX2 b).2.1 := by decide +kernel
theorem tyX2_ok : ∀ k, k < 2 → parseFieldDescriptor (TX2 k).2.2.1 = some (tyX2 k) := by decide +kernel
abbrev cX2_init : ByteArray := prog_20_method_1_code
def yX2_init : MethodName := ⟨RX2, "<init>", "()V"⟩
theorem dX2_init_0 : decode cX2_init 0 = .ok (.aload_n 0, 1) := by decide +kernel
theorem dX2_init_1 : decode cX2_init 1 = .ok (.invokespecial 3, 3) := by decide +kernel
theorem dX2_init_4 : decode cX2_init 4 = .ok (.return_, 1) := by decide +kernel
abbrev cX2_of : ByteArray := prog_20_method_2_code
def yX2_of : MethodName := ⟨RX2, "of", "(II)LGroupJournal$Spot;"⟩
def dkwX2_of_0 : List UInt8 := [42, 27, 181, 0, 9, 42, 28, 181, 0, 15, 42, 176]
abbrev dktX2_of_0 : List UInt8 := dkwX2_of_0 ++ []
theorem dksX2_of_0 : cX2_of.data.toList.drop 0 = dktX2_of_0 := by decide +kernel
theorem dX2_of_0 : decode cX2_of 0 = .ok (.aload_n 0, 1) := dk_42 (dk_at dksX2_of_0 0 rfl rfl)
theorem dX2_of_1 : decode cX2_of 1 = .ok (.iload_n 1, 1) := dk_27 (dk_at dksX2_of_0 1 rfl rfl)
theorem dX2_of_2 : decode cX2_of 2 = .ok (.putfield 9, 3) := dk_181 0 9 (dk_at dksX2_of_0 2 rfl rfl)
theorem dX2_of_5 : decode cX2_of 5 = .ok (.aload_n 0, 1) := dk_42 (dk_at dksX2_of_0 5 rfl rfl)
theorem dX2_of_6 : decode cX2_of 6 = .ok (.iload_n 2, 1) := dk_28 (dk_at dksX2_of_0 6 rfl rfl)
theorem dX2_of_7 : decode cX2_of 7 = .ok (.putfield 15, 3) := dk_181 0 15 (dk_at dksX2_of_0 7 rfl rfl)
theorem dX2_of_10 : decode cX2_of 10 = .ok (.aload_n 0, 1) := dk_42 (dk_at dksX2_of_0 10 rfl rfl)
theorem dX2_of_11 : decode cX2_of 11 = .ok (.areturn, 1) := dk_176 (dk_at dksX2_of_0 11 rfl rfl)
abbrev cX2_hashCode : ByteArray := prog_20_method_4_code
def yX2_hashCode : MethodName := ⟨RX2, "hashCode", "()I"⟩
def dkwX2_hashCode_0 : List UInt8 := [17, 0, 128, 42, 180, 0, 9, 104, 42, 180, 0, 15, 96, 172]
abbrev dktX2_hashCode_0 : List UInt8 := dkwX2_hashCode_0 ++ []
theorem dksX2_hashCode_0 : cX2_hashCode.data.toList.drop 0 = dktX2_hashCode_0 := by decide +kernel
theorem dX2_hashCode_0 : decode cX2_hashCode 0 = .ok (.sipush 128, 3) := dk_17 0 128 (dk_at dksX2_hashCode_0 0 rfl rfl)
theorem dX2_hashCode_3 : decode cX2_hashCode 3 = .ok (.aload_n 0, 1) := dk_42 (dk_at dksX2_hashCode_0 3 rfl rfl)
theorem dX2_hashCode_4 : decode cX2_hashCode 4 = .ok (.getfield 9, 3) := dk_180 0 9 (dk_at dksX2_hashCode_0 4 rfl rfl)
theorem dX2_hashCode_7 : decode cX2_hashCode 7 = .ok (.imul, 1) := dk_104 (dk_at dksX2_hashCode_0 7 rfl rfl)
theorem dX2_hashCode_8 : decode cX2_hashCode 8 = .ok (.aload_n 0, 1) := dk_42 (dk_at dksX2_hashCode_0 8 rfl rfl)
theorem dX2_hashCode_9 : decode cX2_hashCode 9 = .ok (.getfield 15, 3) := dk_180 0 15 (dk_at dksX2_hashCode_0 9 rfl rfl)
theorem dX2_hashCode_12 : decode cX2_hashCode 12 = .ok (.iadd, 1) := dk_96 (dk_at dksX2_hashCode_0 12 rfl rfl)
theorem dX2_hashCode_13 : decode cX2_hashCode 13 = .ok (.ireturn, 1) := dk_172 (dk_at dksX2_hashCode_0 13 rfl rfl)
abbrev cX2_equals : ByteArray := prog_20_method_3_code
def yX2_equals : MethodName := ⟨RX2, "equals", "(Ljava/lang/Object;)Z"⟩
def dkwX2_equals_1 : List UInt8 := [180, 0, 15, 42, 180, 0, 15, 160, 0, 7, 4, 167, 0, 4, 3, 172]
abbrev dktX2_equals_1 : List UInt8 := dkwX2_equals_1 ++ []
def dkwX2_equals_0 : List UInt8 := [43, 193, 0, 10, 153, 0, 34, 43, 192, 0, 10, 77, 44, 180, 0, 9, 42, 180, 0, 9, 160, 0, 18, 44]
abbrev dktX2_equals_0 : List UInt8 := dkwX2_equals_0 ++ dktX2_equals_1
theorem dksX2_equals_0 : cX2_equals.data.toList.drop 0 = dktX2_equals_0 := by decide +kernel
theorem dksX2_equals_1 : cX2_equals.data.toList.drop 24 = dktX2_equals_1 := dk_seg dksX2_equals_0 24 rfl rfl
theorem dX2_equals_0 : decode cX2_equals 0 = .ok (.aload_n 1, 1) := dk_43 (dk_at dksX2_equals_0 0 rfl rfl)
theorem dX2_equals_1 : decode cX2_equals 1 = .ok (.instanceof 10, 3) := dk_193 0 10 (dk_at dksX2_equals_0 1 rfl rfl)
theorem dX2_equals_4 : decode cX2_equals 4 = .ok (.ifCond .eq 34, 3) := dk_153 0 34 (dk_at dksX2_equals_0 4 rfl rfl)
theorem dX2_equals_7 : decode cX2_equals 7 = .ok (.aload_n 1, 1) := dk_43 (dk_at dksX2_equals_0 7 rfl rfl)
theorem dX2_equals_8 : decode cX2_equals 8 = .ok (.checkcast 10, 3) := dk_192 0 10 (dk_at dksX2_equals_0 8 rfl rfl)
theorem dX2_equals_11 : decode cX2_equals 11 = .ok (.astore_n 2, 1) := dk_77 (dk_at dksX2_equals_0 11 rfl rfl)
theorem dX2_equals_12 : decode cX2_equals 12 = .ok (.aload_n 2, 1) := dk_44 (dk_at dksX2_equals_0 12 rfl rfl)
theorem dX2_equals_13 : decode cX2_equals 13 = .ok (.getfield 9, 3) := dk_180 0 9 (dk_at dksX2_equals_0 13 rfl rfl)
theorem dX2_equals_16 : decode cX2_equals 16 = .ok (.aload_n 0, 1) := dk_42 (dk_at dksX2_equals_0 16 rfl rfl)
theorem dX2_equals_17 : decode cX2_equals 17 = .ok (.getfield 9, 3) := dk_180 0 9 (dk_at dksX2_equals_0 17 rfl rfl)
theorem dX2_equals_20 : decode cX2_equals 20 = .ok (.if_icmp .ne 18, 3) := dk_160 0 18 (dk_at dksX2_equals_0 20 rfl rfl)
theorem dX2_equals_23 : decode cX2_equals 23 = .ok (.aload_n 2, 1) := dk_44 (dk_at dksX2_equals_0 23 rfl rfl)
theorem dX2_equals_24 : decode cX2_equals 24 = .ok (.getfield 15, 3) := dk_180 0 15 (dk_at dksX2_equals_1 0 rfl rfl)
theorem dX2_equals_27 : decode cX2_equals 27 = .ok (.aload_n 0, 1) := dk_42 (dk_at dksX2_equals_1 3 rfl rfl)
theorem dX2_equals_28 : decode cX2_equals 28 = .ok (.getfield 15, 3) := dk_180 0 15 (dk_at dksX2_equals_1 4 rfl rfl)
theorem dX2_equals_31 : decode cX2_equals 31 = .ok (.if_icmp .ne 7, 3) := dk_160 0 7 (dk_at dksX2_equals_1 7 rfl rfl)
theorem dX2_equals_34 : decode cX2_equals 34 = .ok (.iconst 1, 1) := dk_4 (dk_at dksX2_equals_1 10 rfl rfl)
theorem dX2_equals_35 : decode cX2_equals 35 = .ok (.goto 4, 3) := dk_167 0 4 (dk_at dksX2_equals_1 11 rfl rfl)
theorem dX2_equals_38 : decode cX2_equals 38 = .ok (.iconst 0, 1) := dk_3 (dk_at dksX2_equals_1 14 rfl rfl)
theorem dX2_equals_39 : decode cX2_equals 39 = .ok (.ireturn, 1) := dk_172 (dk_at dksX2_equals_1 15 rfl rfl)
theorem q190 : (Jvm.Cond.initialized "GroupJournal$Spot") ∈ lw_all := lw_g (lw_at lw_m1 3 rfl) rfl
theorem q276 : (Jvm.Cond.instantiable "GroupJournal$Spot" (2 : Nat)) ∈ lw_all := lw_g (lw_at lw_m1 89 rfl) rfl
theorem q278 : (Jvm.Cond.instanceMethod ({ cls := "GroupJournal$Spot", name := "<init>", desc := "()V" } : Jvm.MethodName)) ∈ lw_all := lw_g (lw_at lw_m1 91 rfl) rfl
theorem q279 : (Jvm.Cond.code ({ cls := "GroupJournal$Spot", name := "<init>", desc := "()V" } : Jvm.MethodName) prog_20_method_1_code (1 : Nat) (Option.none : Option Jvm.ClassFile.FieldType)) ∈ lw_all := lw_g (lw_at lw_m1 92 rfl) rfl
theorem q280 : (Jvm.Cond.methodLink "GroupJournal$Spot" (3 : Nat) ({ cls := "java/lang/Object", name := "<init>", desc := "()V" } : Jvm.MethodName)) ∈ lw_all := lw_g (lw_at lw_m1 93 rfl) rfl
theorem q281 : (Jvm.Cond.fieldLink "GroupJournal$Spot" (9 : Nat) "GroupJournal$Spot" "segment" "I") ∈ lw_all := lw_g (lw_at lw_m1 94 rfl) rfl
theorem q282 : (Jvm.Cond.fieldLink "GroupJournal$Spot" (15 : Nat) "GroupJournal$Spot" "at" "I") ∈ lw_all := lw_g (lw_at lw_m1 95 rfl) rfl
theorem q283 : (Jvm.Cond.lays "GroupJournal$Spot" "GroupJournal$Spot" "segment" "I") ∈ lw_all := lw_g (lw_at lw_m1 96 rfl) rfl
theorem q284 : (Jvm.Cond.soleField "GroupJournal$Spot" "segment") ∈ lw_all := lw_g (lw_at lw_m1 97 rfl) rfl
theorem q285 : (Jvm.Cond.lays "GroupJournal$Spot" "GroupJournal$Spot" "at" "I") ∈ lw_all := lw_g (lw_at lw_m1 98 rfl) rfl
theorem q286 : (Jvm.Cond.soleField "GroupJournal$Spot" "at") ∈ lw_all := lw_g (lw_at lw_m1 99 rfl) rfl
theorem q287 : (Jvm.Cond.superclass "GroupJournal$Spot" "java/lang/Object") ∈ lw_all := lw_g (lw_at lw_m1 100 rfl) rfl
theorem q1294 : (Jvm.Cond.selects "GroupJournal$Spot" ({ cls := "java/lang/Object", name := "getClass", desc := "()Ljava/lang/Class;" } : Jvm.MethodName) ({ cls := "java/lang/Object", name := "getClass", desc := "()Ljava/lang/Class;" } : Jvm.MethodName)) ∈ lw_all := lw_g (lw_at lw_m5 147 rfl) rfl
theorem q1635 : (Jvm.Cond.instanceMethod ({ cls := "GroupJournal$Spot", name := "of", desc := "(II)LGroupJournal$Spot;" } : Jvm.MethodName)) ∈ lw_all := lw_g (lw_at lw_m7 8 rfl) rfl
theorem q1636 : (Jvm.Cond.selects "GroupJournal$Spot" ({ cls := "GroupJournal$Spot", name := "of", desc := "(II)LGroupJournal$Spot;" } : Jvm.MethodName) ({ cls := "GroupJournal$Spot", name := "of", desc := "(II)LGroupJournal$Spot;" } : Jvm.MethodName)) ∈ lw_all := lw_g (lw_at lw_m7 9 rfl) rfl
theorem q1637 : (Jvm.Cond.code ({ cls := "GroupJournal$Spot", name := "of", desc := "(II)LGroupJournal$Spot;" } : Jvm.MethodName) prog_20_method_2_code (3 : Nat) (Option.some (Jvm.ClassFile.FieldType.object "GroupJournal$Spot"))) ∈ lw_all := lw_g (lw_at lw_m7 10 rfl) rfl
theorem q1676 : (Jvm.Cond.selects "GroupJournal$Spot" ({ cls := "java/lang/Object", name := "hashCode", desc := "()I" } : Jvm.MethodName) ({ cls := "GroupJournal$Spot", name := "hashCode", desc := "()I" } : Jvm.MethodName)) ∈ lw_all := lw_g (lw_at lw_m7 49 rfl) rfl
theorem q1677 : (Jvm.Cond.instanceMethod ({ cls := "GroupJournal$Spot", name := "hashCode", desc := "()I" } : Jvm.MethodName)) ∈ lw_all := lw_g (lw_at lw_m7 50 rfl) rfl
theorem q1678 : (Jvm.Cond.code ({ cls := "GroupJournal$Spot", name := "hashCode", desc := "()I" } : Jvm.MethodName) prog_20_method_4_code (1 : Nat) (Option.some Jvm.ClassFile.FieldType.int)) ∈ lw_all := lw_g (lw_at lw_m7 51 rfl) rfl
theorem q1725 : (Jvm.Cond.selects "GroupJournal$Spot" ({ cls := "java/lang/Object", name := "equals", desc := "(Ljava/lang/Object;)Z" } : Jvm.MethodName) ({ cls := "GroupJournal$Spot", name := "equals", desc := "(Ljava/lang/Object;)Z" } : Jvm.MethodName)) ∈ lw_all := lw_g (lw_at lw_m7 98 rfl) rfl
theorem q1726 : (Jvm.Cond.instanceMethod ({ cls := "GroupJournal$Spot", name := "equals", desc := "(Ljava/lang/Object;)Z" } : Jvm.MethodName)) ∈ lw_all := lw_g (lw_at lw_m7 99 rfl) rfl
theorem q1727 : (Jvm.Cond.code ({ cls := "GroupJournal$Spot", name := "equals", desc := "(Ljava/lang/Object;)Z" } : Jvm.MethodName) prog_20_method_3_code (3 : Nat) (Option.some Jvm.ClassFile.FieldType.boolean)) ∈ lw_all := lw_g (lw_at lw_m7 100 rfl) rfl
theorem q1728 : (Jvm.Cond.classLink "GroupJournal$Spot" (10 : Nat) "GroupJournal$Spot") ∈ lw_all := lw_g (lw_at lw_m7 101 rfl) rfl
theorem q4162 : (Jvm.Cond.castable "GroupJournal$Spot" "java/lang/Object") ∈ lw_tbl := lw_at lw_m17 135 rfl
theorem in_X2 : ∀ w ∈ wsX20, w ∈ lw_all := lw_in wsX20 [283, 285] (by decide +kernel) (by decide +kernel)

/-! GroupJournal$Journal -/
set_option maxRecDepth 100000
def RX3 : String := "GroupJournal$Journal"
def TX3 : u_T := fun k => match k with
  | 0 => ("GroupJournal$Journal", "statements", "I", false)
  | 1 => ("GroupJournal$Journal", "segments", "I", false)
  | 2 => ("GroupJournal$Journal", "blocks", "I", false)
  | 3 => ("GroupJournal$Journal", "bytes", "I", false)
  | 4 => ("GroupJournal$Journal", "noise", "I", false)
  | 5 => ("GroupJournal$Journal", "puts", "Ljava/util/List;", true)
  | 6 => ("GroupJournal$Journal", "closes", "LGroupJournal$Test;", false)
  | _ => ("GroupJournal$Journal", "takes", "LGroupJournal$Value;", false)
def tyX3 : Nat → FieldType := fun k => match k with
  | 0 => .int
  | 1 => .int
  | 2 => .int
  | 3 => .int
  | 4 => .int
  | 5 => .object "java/util/List"
  | 6 => .object "GroupJournal$Test"
  | _ => .object "GroupJournal$Value"
abbrev wsX30 : List Cond := u_ws RX3 TX3 8
theorem nmX3 : ∀ a, a < 8 → ∀ b, b < 8 → a ≠ b → (TX3 a).2.1 ≠ (TX3 b).2.1 := by decide +kernel
theorem tyX3_ok : ∀ k, k < 8 → parseFieldDescriptor (TX3 k).2.2.1 = some (tyX3 k) := by decide +kernel
abbrev cX3_init : ByteArray := prog_9_method_1_code
def yX3_init : MethodName := ⟨RX3, "<init>", "()V"⟩
def dkwX3_init_0 : List UInt8 := [42, 183, 0, 1, 42, 187, 0, 7, 89, 7, 183, 0, 9, 181, 0, 12, 177]
abbrev dktX3_init_0 : List UInt8 := dkwX3_init_0 ++ []
theorem dksX3_init_0 : cX3_init.data.toList.drop 0 = dktX3_init_0 := by decide +kernel
theorem dX3_init_0 : decode cX3_init 0 = .ok (.aload_n 0, 1) := dk_42 (dk_at dksX3_init_0 0 rfl rfl)
theorem dX3_init_1 : decode cX3_init 1 = .ok (.invokespecial 1, 3) := dk_183 0 1 (dk_at dksX3_init_0 1 rfl rfl)
theorem dX3_init_4 : decode cX3_init 4 = .ok (.aload_n 0, 1) := dk_42 (dk_at dksX3_init_0 4 rfl rfl)
theorem dX3_init_5 : decode cX3_init 5 = .ok (.new 7, 3) := dk_187 0 7 (dk_at dksX3_init_0 5 rfl rfl)
theorem dX3_init_8 : decode cX3_init 8 = .ok (.dup, 1) := dk_89 (dk_at dksX3_init_0 8 rfl rfl)
theorem dX3_init_9 : decode cX3_init 9 = .ok (.iconst 4, 1) := dk_7 (dk_at dksX3_init_0 9 rfl rfl)
theorem dX3_init_10 : decode cX3_init 10 = .ok (.invokespecial 9, 3) := dk_183 0 9 (dk_at dksX3_init_0 10 rfl rfl)
theorem dX3_init_13 : decode cX3_init 13 = .ok (.putfield 12, 3) := dk_181 0 12 (dk_at dksX3_init_0 13 rfl rfl)
theorem dX3_init_16 : decode cX3_init 16 = .ok (.return_, 1) := dk_177 (dk_at dksX3_init_0 16 rfl rfl)
theorem q191 : (Jvm.Cond.initialized "GroupJournal$Journal") ∈ lw_all := lw_g (lw_at lw_m1 4 rfl) rfl
theorem q289 : (Jvm.Cond.instantiable "GroupJournal$Journal" (8 : Nat)) ∈ lw_all := lw_g (lw_at lw_m1 102 rfl) rfl
theorem q291 : (Jvm.Cond.instanceMethod ({ cls := "GroupJournal$Journal", name := "<init>", desc := "()V" } : Jvm.MethodName)) ∈ lw_all := lw_g (lw_at lw_m1 104 rfl) rfl
theorem q292 : (Jvm.Cond.code ({ cls := "GroupJournal$Journal", name := "<init>", desc := "()V" } : Jvm.MethodName) prog_9_method_1_code (1 : Nat) (Option.none : Option Jvm.ClassFile.FieldType)) ∈ lw_all := lw_g (lw_at lw_m1 105 rfl) rfl
theorem q293 : (Jvm.Cond.methodLink "GroupJournal$Journal" (1 : Nat) ({ cls := "java/lang/Object", name := "<init>", desc := "()V" } : Jvm.MethodName)) ∈ lw_all := lw_g (lw_at lw_m1 106 rfl) rfl
theorem q294 : (Jvm.Cond.classLink "GroupJournal$Journal" (7 : Nat) "java/util/ArrayList") ∈ lw_all := lw_g (lw_at lw_m1 107 rfl) rfl
theorem q296 : (Jvm.Cond.methodLink "GroupJournal$Journal" (9 : Nat) ({ cls := "java/util/ArrayList", name := "<init>", desc := "(I)V" } : Jvm.MethodName)) ∈ lw_all := lw_g (lw_at lw_m1 109 rfl) rfl
theorem q337 : (Jvm.Cond.fieldLink "GroupJournal$Journal" (12 : Nat) "GroupJournal$Journal" "puts" "Ljava/util/List;") ∈ lw_all := lw_g (lw_at lw_m1 150 rfl) rfl
theorem q344 : (Jvm.Cond.lays "GroupJournal$Journal" "GroupJournal$Journal" "statements" "I") ∈ lw_all := lw_g (lw_at lw_m1 157 rfl) rfl
theorem q345 : (Jvm.Cond.soleField "GroupJournal$Journal" "statements") ∈ lw_all := lw_g (lw_at lw_m1 158 rfl) rfl
theorem q346 : (Jvm.Cond.lays "GroupJournal$Journal" "GroupJournal$Journal" "segments" "I") ∈ lw_all := lw_g (lw_at lw_m1 159 rfl) rfl
theorem q347 : (Jvm.Cond.soleField "GroupJournal$Journal" "segments") ∈ lw_all := lw_g (lw_at lw_m1 160 rfl) rfl
theorem q348 : (Jvm.Cond.lays "GroupJournal$Journal" "GroupJournal$Journal" "blocks" "I") ∈ lw_all := lw_g (lw_at lw_m1 161 rfl) rfl
theorem q349 : (Jvm.Cond.soleField "GroupJournal$Journal" "blocks") ∈ lw_all := lw_g (lw_at lw_m1 162 rfl) rfl
theorem q350 : (Jvm.Cond.lays "GroupJournal$Journal" "GroupJournal$Journal" "bytes" "I") ∈ lw_all := lw_g (lw_at lw_m1 163 rfl) rfl
theorem q351 : (Jvm.Cond.soleField "GroupJournal$Journal" "bytes") ∈ lw_all := lw_g (lw_at lw_m1 164 rfl) rfl
theorem q352 : (Jvm.Cond.lays "GroupJournal$Journal" "GroupJournal$Journal" "noise" "I") ∈ lw_all := lw_g (lw_at lw_m1 165 rfl) rfl
theorem q353 : (Jvm.Cond.soleField "GroupJournal$Journal" "noise") ∈ lw_all := lw_g (lw_at lw_m1 166 rfl) rfl
theorem q354 : (Jvm.Cond.laysFinal "GroupJournal$Journal" "GroupJournal$Journal" "puts" "Ljava/util/List;") ∈ lw_all := lw_g (lw_at lw_m1 167 rfl) rfl
theorem q355 : (Jvm.Cond.soleField "GroupJournal$Journal" "puts") ∈ lw_all := lw_g (lw_at lw_m1 168 rfl) rfl
theorem q356 : (Jvm.Cond.lays "GroupJournal$Journal" "GroupJournal$Journal" "closes" "LGroupJournal$Test;") ∈ lw_all := lw_g (lw_at lw_m1 169 rfl) rfl
theorem q357 : (Jvm.Cond.soleField "GroupJournal$Journal" "closes") ∈ lw_all := lw_g (lw_at lw_m1 170 rfl) rfl
theorem q358 : (Jvm.Cond.lays "GroupJournal$Journal" "GroupJournal$Journal" "takes" "LGroupJournal$Value;") ∈ lw_all := lw_g (lw_at lw_m1 171 rfl) rfl
theorem q359 : (Jvm.Cond.soleField "GroupJournal$Journal" "takes") ∈ lw_all := lw_g (lw_at lw_m1 172 rfl) rfl
theorem q360 : (Jvm.Cond.superclass "GroupJournal$Journal" "java/lang/Object") ∈ lw_all := lw_g (lw_at lw_m1 173 rfl) rfl
theorem q1283 : (Jvm.Cond.selects "GroupJournal$Journal" ({ cls := "java/lang/Object", name := "getClass", desc := "()Ljava/lang/Class;" } : Jvm.MethodName) ({ cls := "java/lang/Object", name := "getClass", desc := "()Ljava/lang/Class;" } : Jvm.MethodName)) ∈ lw_all := lw_g (lw_at lw_m5 136 rfl) rfl
theorem q1663 : (Jvm.Cond.selects "GroupJournal$Journal" ({ cls := "java/lang/Object", name := "hashCode", desc := "()I" } : Jvm.MethodName) ({ cls := "java/lang/Object", name := "hashCode", desc := "()I" } : Jvm.MethodName)) ∈ lw_all := lw_g (lw_at lw_m7 36 rfl) rfl
theorem q1711 : (Jvm.Cond.selects "GroupJournal$Journal" ({ cls := "java/lang/Object", name := "equals", desc := "(Ljava/lang/Object;)Z" } : Jvm.MethodName) ({ cls := "java/lang/Object", name := "equals", desc := "(Ljava/lang/Object;)Z" } : Jvm.MethodName)) ∈ lw_all := lw_g (lw_at lw_m7 84 rfl) rfl
theorem q4163 : (Jvm.Cond.castable "GroupJournal$Journal" "java/lang/Object") ∈ lw_tbl := lw_at lw_m17 136 rfl
theorem in_X3 : ∀ w ∈ wsX30, w ∈ lw_all := lw_in wsX30 [344, 346, 348, 350, 352, 354, 356, 358] (by decide +kernel) (by decide +kernel)

/-! GroupJournal$Reader -/
set_option maxRecDepth 100000
def RX4 : String := "GroupJournal$Reader"
def TX4 : u_T := fun k => match k with
  | 0 => ("GroupJournal$Reader", "fault", "LGroupJournal$Fault;", true)
  | 1 => ("GroupJournal$Reader", "size", "I", false)
  | 2 => ("GroupJournal$Reader", "at", "I", false)
  | 3 => ("GroupJournal$Reader", "from", "I", false)
  | 4 => ("GroupJournal$Reader", "open", "I", false)
  | 5 => ("GroupJournal$Reader", "context", "I", false)
  | 6 => ("GroupJournal$Reader", "to", "LGroupJournal$Journal;", false)
  | _ => ("GroupJournal$Reader", "this$0", "LGroupJournal;", true)
def tyX4 : Nat → FieldType := fun k => match k with
  | 0 => .object "GroupJournal$Fault"
  | 1 => .int
  | 2 => .int
  | 3 => .int
  | 4 => .int
  | 5 => .int
  | 6 => .object "GroupJournal$Journal"
  | _ => .object "GroupJournal"
abbrev wsX40 : List Cond := u_ws RX4 TX4 8
theorem nmX4 : ∀ a, a < 8 → ∀ b, b < 8 → a ≠ b → (TX4 a).2.1 ≠ (TX4 b).2.1 := by decide +kernel
theorem tyX4_ok : ∀ k, k < 8 → parseFieldDescriptor (TX4 k).2.2.1 = some (tyX4 k) := by decide +kernel
abbrev cX4_init : ByteArray := prog_17_method_1_code
def yX4_init : MethodName := ⟨RX4, "<init>", "(LGroupJournal;)V"⟩
def dkwX4_init_0 : List UInt8 := [42, 43, 181, 0, 3, 42, 183, 0, 9, 42, 187, 0, 15, 89, 183, 0, 17, 181, 0, 18, 177]
abbrev dktX4_init_0 : List UInt8 := dkwX4_init_0 ++ []
theorem dksX4_init_0 : cX4_init.data.toList.drop 0 = dktX4_init_0 := by decide +kernel
theorem dX4_init_0 : decode cX4_init 0 = .ok (.aload_n 0, 1) := dk_42 (dk_at dksX4_init_0 0 rfl rfl)
theorem dX4_init_1 : decode cX4_init 1 = .ok (.aload_n 1, 1) := dk_43 (dk_at dksX4_init_0 1 rfl rfl)
theorem dX4_init_2 : decode cX4_init 2 = .ok (.putfield 3, 3) := dk_181 0 3 (dk_at dksX4_init_0 2 rfl rfl)
theorem dX4_init_5 : decode cX4_init 5 = .ok (.aload_n 0, 1) := dk_42 (dk_at dksX4_init_0 5 rfl rfl)
theorem dX4_init_6 : decode cX4_init 6 = .ok (.invokespecial 9, 3) := dk_183 0 9 (dk_at dksX4_init_0 6 rfl rfl)
theorem dX4_init_9 : decode cX4_init 9 = .ok (.aload_n 0, 1) := dk_42 (dk_at dksX4_init_0 9 rfl rfl)
theorem dX4_init_10 : decode cX4_init 10 = .ok (.new 15, 3) := dk_187 0 15 (dk_at dksX4_init_0 10 rfl rfl)
theorem dX4_init_13 : decode cX4_init 13 = .ok (.dup, 1) := dk_89 (dk_at dksX4_init_0 13 rfl rfl)
theorem dX4_init_14 : decode cX4_init 14 = .ok (.invokespecial 17, 3) := dk_183 0 17 (dk_at dksX4_init_0 14 rfl rfl)
theorem dX4_init_17 : decode cX4_init 17 = .ok (.putfield 18, 3) := dk_181 0 18 (dk_at dksX4_init_0 17 rfl rfl)
theorem dX4_init_20 : decode cX4_init 20 = .ok (.return_, 1) := dk_177 (dk_at dksX4_init_0 20 rfl rfl)
abbrev cX4_all : ByteArray := prog_17_method_13_code
def yX4_all : MethodName := ⟨RX4, "all", "(I)LGroupJournal$Journal;"⟩
def dkwX4_all_6 : List UInt8 := [42, 180, 0, 61, 182, 0, 126, 42, 16, 59, 182, 0, 115, 167, 255, 192, 42, 180, 0, 92, 176]
abbrev dktX4_all_6 : List UInt8 := dkwX4_all_6 ++ []
def dkwX4_all_5 : List UInt8 := [180, 0, 36, 182, 0, 122, 42, 180, 0, 92, 89, 180, 0, 119, 4, 96, 181, 0, 119, 42, 42, 182, 0, 70]
abbrev dktX4_all_5 : List UInt8 := dkwX4_all_5 ++ dktX4_all_6
def dkwX4_all_4 : List UInt8 := [159, 0, 62, 42, 42, 180, 0, 92, 180, 0, 119, 16, 40, 160, 0, 7, 4, 167, 0, 4, 3, 42]
abbrev dktX4_all_4 : List UInt8 := dkwX4_all_4 ++ dktX4_all_5
def dkwX4_all_3 : List UInt8 := [181, 0, 113, 42, 16, 59, 182, 0, 115, 42, 180, 0, 92, 4, 181, 0, 119, 42, 182, 0, 43, 2]
abbrev dktX4_all_3 : List UInt8 := dkwX4_all_3 ++ dktX4_all_4
def dkwX4_all_2 : List UInt8 := [18, 107, 5, 7, 182, 0, 101, 181, 0, 109, 42, 180, 0, 92, 42, 18, 111, 16, 16, 16, 32, 182, 0, 101]
abbrev dktX4_all_2 : List UInt8 := dkwX4_all_2 ++ dktX4_all_3
def dkwX4_all_1 : List UInt8 := [181, 0, 96, 42, 180, 0, 92, 42, 18, 99, 5, 7, 182, 0, 101, 181, 0, 104, 42, 180, 0, 92, 42]
abbrev dktX4_all_1 : List UInt8 := dkwX4_all_1 ++ dktX4_all_2
def dkwX4_all_0 : List UInt8 := [42, 187, 0, 89, 89, 183, 0, 91, 181, 0, 92, 42, 27, 181, 0, 29, 42, 3, 181, 0, 36, 42, 3]
abbrev dktX4_all_0 : List UInt8 := dkwX4_all_0 ++ dktX4_all_1
theorem dksX4_all_0 : cX4_all.data.toList.drop 0 = dktX4_all_0 := by decide +kernel
theorem dksX4_all_1 : cX4_all.data.toList.drop 23 = dktX4_all_1 := dk_seg dksX4_all_0 23 rfl rfl
theorem dksX4_all_2 : cX4_all.data.toList.drop 46 = dktX4_all_2 := dk_seg dksX4_all_1 23 rfl rfl
theorem dksX4_all_3 : cX4_all.data.toList.drop 70 = dktX4_all_3 := dk_seg dksX4_all_2 24 rfl rfl
theorem dksX4_all_4 : cX4_all.data.toList.drop 92 = dktX4_all_4 := dk_seg dksX4_all_3 22 rfl rfl
theorem dksX4_all_5 : cX4_all.data.toList.drop 114 = dktX4_all_5 := dk_seg dksX4_all_4 22 rfl rfl
theorem dksX4_all_6 : cX4_all.data.toList.drop 138 = dktX4_all_6 := dk_seg dksX4_all_5 24 rfl rfl
theorem dX4_all_0 : decode cX4_all 0 = .ok (.aload_n 0, 1) := dk_42 (dk_at dksX4_all_0 0 rfl rfl)
theorem dX4_all_1 : decode cX4_all 1 = .ok (.new 89, 3) := dk_187 0 89 (dk_at dksX4_all_0 1 rfl rfl)
theorem dX4_all_4 : decode cX4_all 4 = .ok (.dup, 1) := dk_89 (dk_at dksX4_all_0 4 rfl rfl)
theorem dX4_all_5 : decode cX4_all 5 = .ok (.invokespecial 91, 3) := dk_183 0 91 (dk_at dksX4_all_0 5 rfl rfl)
theorem dX4_all_8 : decode cX4_all 8 = .ok (.putfield 92, 3) := dk_181 0 92 (dk_at dksX4_all_0 8 rfl rfl)
theorem dX4_all_11 : decode cX4_all 11 = .ok (.aload_n 0, 1) := dk_42 (dk_at dksX4_all_0 11 rfl rfl)
theorem dX4_all_12 : decode cX4_all 12 = .ok (.iload_n 1, 1) := dk_27 (dk_at dksX4_all_0 12 rfl rfl)
theorem dX4_all_13 : decode cX4_all 13 = .ok (.putfield 29, 3) := dk_181 0 29 (dk_at dksX4_all_0 13 rfl rfl)
theorem dX4_all_16 : decode cX4_all 16 = .ok (.aload_n 0, 1) := dk_42 (dk_at dksX4_all_0 16 rfl rfl)
theorem dX4_all_17 : decode cX4_all 17 = .ok (.iconst 0, 1) := dk_3 (dk_at dksX4_all_0 17 rfl rfl)
theorem dX4_all_18 : decode cX4_all 18 = .ok (.putfield 36, 3) := dk_181 0 36 (dk_at dksX4_all_0 18 rfl rfl)
theorem dX4_all_21 : decode cX4_all 21 = .ok (.aload_n 0, 1) := dk_42 (dk_at dksX4_all_0 21 rfl rfl)
theorem dX4_all_22 : decode cX4_all 22 = .ok (.iconst 0, 1) := dk_3 (dk_at dksX4_all_0 22 rfl rfl)
theorem dX4_all_23 : decode cX4_all 23 = .ok (.putfield 96, 3) := dk_181 0 96 (dk_at dksX4_all_1 0 rfl rfl)
theorem dX4_all_26 : decode cX4_all 26 = .ok (.aload_n 0, 1) := dk_42 (dk_at dksX4_all_1 3 rfl rfl)
theorem dX4_all_27 : decode cX4_all 27 = .ok (.getfield 92, 3) := dk_180 0 92 (dk_at dksX4_all_1 4 rfl rfl)
theorem dX4_all_30 : decode cX4_all 30 = .ok (.aload_n 0, 1) := dk_42 (dk_at dksX4_all_1 7 rfl rfl)
theorem dX4_all_31 : decode cX4_all 31 = .ok (.ldc 99, 2) := dk_18 99 (dk_at dksX4_all_1 8 rfl rfl)
theorem dX4_all_33 : decode cX4_all 33 = .ok (.iconst 2, 1) := dk_5 (dk_at dksX4_all_1 10 rfl rfl)
theorem dX4_all_34 : decode cX4_all 34 = .ok (.iconst 4, 1) := dk_7 (dk_at dksX4_all_1 11 rfl rfl)
theorem dX4_all_35 : decode cX4_all 35 = .ok (.invokevirtual 101, 3) := dk_182 0 101 (dk_at dksX4_all_1 12 rfl rfl)
theorem dX4_all_38 : decode cX4_all 38 = .ok (.putfield 104, 3) := dk_181 0 104 (dk_at dksX4_all_1 15 rfl rfl)
theorem dX4_all_41 : decode cX4_all 41 = .ok (.aload_n 0, 1) := dk_42 (dk_at dksX4_all_1 18 rfl rfl)
theorem dX4_all_42 : decode cX4_all 42 = .ok (.getfield 92, 3) := dk_180 0 92 (dk_at dksX4_all_1 19 rfl rfl)
theorem dX4_all_45 : decode cX4_all 45 = .ok (.aload_n 0, 1) := dk_42 (dk_at dksX4_all_1 22 rfl rfl)
theorem dX4_all_46 : decode cX4_all 46 = .ok (.ldc 107, 2) := dk_18 107 (dk_at dksX4_all_2 0 rfl rfl)
theorem dX4_all_48 : decode cX4_all 48 = .ok (.iconst 2, 1) := dk_5 (dk_at dksX4_all_2 2 rfl rfl)
theorem dX4_all_49 : decode cX4_all 49 = .ok (.iconst 4, 1) := dk_7 (dk_at dksX4_all_2 3 rfl rfl)
theorem dX4_all_50 : decode cX4_all 50 = .ok (.invokevirtual 101, 3) := dk_182 0 101 (dk_at dksX4_all_2 4 rfl rfl)
theorem dX4_all_53 : decode cX4_all 53 = .ok (.putfield 109, 3) := dk_181 0 109 (dk_at dksX4_all_2 7 rfl rfl)
theorem dX4_all_56 : decode cX4_all 56 = .ok (.aload_n 0, 1) := dk_42 (dk_at dksX4_all_2 10 rfl rfl)
theorem dX4_all_57 : decode cX4_all 57 = .ok (.getfield 92, 3) := dk_180 0 92 (dk_at dksX4_all_2 11 rfl rfl)
theorem dX4_all_60 : decode cX4_all 60 = .ok (.aload_n 0, 1) := dk_42 (dk_at dksX4_all_2 14 rfl rfl)
theorem dX4_all_61 : decode cX4_all 61 = .ok (.ldc 111, 2) := dk_18 111 (dk_at dksX4_all_2 15 rfl rfl)
theorem dX4_all_63 : decode cX4_all 63 = .ok (.bipush 16, 2) := dk_16 16 (dk_at dksX4_all_2 17 rfl rfl)
theorem dX4_all_65 : decode cX4_all 65 = .ok (.bipush 32, 2) := dk_16 32 (dk_at dksX4_all_2 19 rfl rfl)
theorem dX4_all_67 : decode cX4_all 67 = .ok (.invokevirtual 101, 3) := dk_182 0 101 (dk_at dksX4_all_2 21 rfl rfl)
theorem dX4_all_70 : decode cX4_all 70 = .ok (.putfield 113, 3) := dk_181 0 113 (dk_at dksX4_all_3 0 rfl rfl)
theorem dX4_all_73 : decode cX4_all 73 = .ok (.aload_n 0, 1) := dk_42 (dk_at dksX4_all_3 3 rfl rfl)
theorem dX4_all_74 : decode cX4_all 74 = .ok (.bipush 59, 2) := dk_16 59 (dk_at dksX4_all_3 4 rfl rfl)
theorem dX4_all_76 : decode cX4_all 76 = .ok (.invokevirtual 115, 3) := dk_182 0 115 (dk_at dksX4_all_3 6 rfl rfl)
theorem dX4_all_79 : decode cX4_all 79 = .ok (.aload_n 0, 1) := dk_42 (dk_at dksX4_all_3 9 rfl rfl)
theorem dX4_all_80 : decode cX4_all 80 = .ok (.getfield 92, 3) := dk_180 0 92 (dk_at dksX4_all_3 10 rfl rfl)
theorem dX4_all_83 : decode cX4_all 83 = .ok (.iconst 1, 1) := dk_4 (dk_at dksX4_all_3 13 rfl rfl)
theorem dX4_all_84 : decode cX4_all 84 = .ok (.putfield 119, 3) := dk_181 0 119 (dk_at dksX4_all_3 14 rfl rfl)
theorem dX4_all_87 : decode cX4_all 87 = .ok (.aload_n 0, 1) := dk_42 (dk_at dksX4_all_3 17 rfl rfl)
theorem dX4_all_88 : decode cX4_all 88 = .ok (.invokevirtual 43, 3) := dk_182 0 43 (dk_at dksX4_all_3 18 rfl rfl)
theorem dX4_all_91 : decode cX4_all 91 = .ok (.iconst (-1), 1) := dk_2 (dk_at dksX4_all_3 21 rfl rfl)
theorem dX4_all_92 : decode cX4_all 92 = .ok (.if_icmp .eq 62, 3) := dk_159 0 62 (dk_at dksX4_all_4 0 rfl rfl)
theorem dX4_all_95 : decode cX4_all 95 = .ok (.aload_n 0, 1) := dk_42 (dk_at dksX4_all_4 3 rfl rfl)
theorem dX4_all_96 : decode cX4_all 96 = .ok (.aload_n 0, 1) := dk_42 (dk_at dksX4_all_4 4 rfl rfl)
theorem dX4_all_97 : decode cX4_all 97 = .ok (.getfield 92, 3) := dk_180 0 92 (dk_at dksX4_all_4 5 rfl rfl)
theorem dX4_all_100 : decode cX4_all 100 = .ok (.getfield 119, 3) := dk_180 0 119 (dk_at dksX4_all_4 8 rfl rfl)
theorem dX4_all_103 : decode cX4_all 103 = .ok (.bipush 40, 2) := dk_16 40 (dk_at dksX4_all_4 11 rfl rfl)
theorem dX4_all_105 : decode cX4_all 105 = .ok (.if_icmp .ne 7, 3) := dk_160 0 7 (dk_at dksX4_all_4 13 rfl rfl)
theorem dX4_all_108 : decode cX4_all 108 = .ok (.iconst 1, 1) := dk_4 (dk_at dksX4_all_4 16 rfl rfl)
theorem dX4_all_109 : decode cX4_all 109 = .ok (.goto 4, 3) := dk_167 0 4 (dk_at dksX4_all_4 17 rfl rfl)
theorem dX4_all_112 : decode cX4_all 112 = .ok (.iconst 0, 1) := dk_3 (dk_at dksX4_all_4 20 rfl rfl)
theorem dX4_all_113 : decode cX4_all 113 = .ok (.aload_n 0, 1) := dk_42 (dk_at dksX4_all_4 21 rfl rfl)
theorem dX4_all_114 : decode cX4_all 114 = .ok (.getfield 36, 3) := dk_180 0 36 (dk_at dksX4_all_5 0 rfl rfl)
theorem dX4_all_117 : decode cX4_all 117 = .ok (.invokevirtual 122, 3) := dk_182 0 122 (dk_at dksX4_all_5 3 rfl rfl)
theorem dX4_all_120 : decode cX4_all 120 = .ok (.aload_n 0, 1) := dk_42 (dk_at dksX4_all_5 6 rfl rfl)
theorem dX4_all_121 : decode cX4_all 121 = .ok (.getfield 92, 3) := dk_180 0 92 (dk_at dksX4_all_5 7 rfl rfl)
theorem dX4_all_124 : decode cX4_all 124 = .ok (.dup, 1) := dk_89 (dk_at dksX4_all_5 10 rfl rfl)
theorem dX4_all_125 : decode cX4_all 125 = .ok (.getfield 119, 3) := dk_180 0 119 (dk_at dksX4_all_5 11 rfl rfl)
theorem dX4_all_128 : decode cX4_all 128 = .ok (.iconst 1, 1) := dk_4 (dk_at dksX4_all_5 14 rfl rfl)
theorem dX4_all_129 : decode cX4_all 129 = .ok (.iadd, 1) := dk_96 (dk_at dksX4_all_5 15 rfl rfl)
theorem dX4_all_130 : decode cX4_all 130 = .ok (.putfield 119, 3) := dk_181 0 119 (dk_at dksX4_all_5 16 rfl rfl)
theorem dX4_all_133 : decode cX4_all 133 = .ok (.aload_n 0, 1) := dk_42 (dk_at dksX4_all_5 19 rfl rfl)
theorem dX4_all_134 : decode cX4_all 134 = .ok (.aload_n 0, 1) := dk_42 (dk_at dksX4_all_5 20 rfl rfl)
theorem dX4_all_135 : decode cX4_all 135 = .ok (.invokevirtual 70, 3) := dk_182 0 70 (dk_at dksX4_all_5 21 rfl rfl)
theorem dX4_all_138 : decode cX4_all 138 = .ok (.aload_n 0, 1) := dk_42 (dk_at dksX4_all_6 0 rfl rfl)
theorem dX4_all_139 : decode cX4_all 139 = .ok (.getfield 61, 3) := dk_180 0 61 (dk_at dksX4_all_6 1 rfl rfl)
theorem dX4_all_142 : decode cX4_all 142 = .ok (.invokevirtual 126, 3) := dk_182 0 126 (dk_at dksX4_all_6 4 rfl rfl)
theorem dX4_all_145 : decode cX4_all 145 = .ok (.aload_n 0, 1) := dk_42 (dk_at dksX4_all_6 7 rfl rfl)
theorem dX4_all_146 : decode cX4_all 146 = .ok (.bipush 59, 2) := dk_16 59 (dk_at dksX4_all_6 8 rfl rfl)
theorem dX4_all_148 : decode cX4_all 148 = .ok (.invokevirtual 115, 3) := dk_182 0 115 (dk_at dksX4_all_6 10 rfl rfl)
theorem dX4_all_151 : decode cX4_all 151 = .ok (.goto (-64), 3) := dk_167 255 192 (dk_at dksX4_all_6 13 rfl rfl)
theorem dX4_all_154 : decode cX4_all 154 = .ok (.aload_n 0, 1) := dk_42 (dk_at dksX4_all_6 16 rfl rfl)
theorem dX4_all_155 : decode cX4_all 155 = .ok (.getfield 92, 3) := dk_180 0 92 (dk_at dksX4_all_6 17 rfl rfl)
theorem dX4_all_158 : decode cX4_all 158 = .ok (.areturn, 1) := dk_176 (dk_at dksX4_all_6 20 rfl rfl)
abbrev cX4_number : ByteArray := prog_17_method_11_code
def yX4_number : MethodName := ⟨RX4, "number", "(Ljava/lang/String;II)I"⟩
def dkwX4_number_0 : List UInt8 := [42, 43, 182, 0, 82, 42, 28, 29, 182, 0, 85, 172]
abbrev dktX4_number_0 : List UInt8 := dkwX4_number_0 ++ []
theorem dksX4_number_0 : cX4_number.data.toList.drop 0 = dktX4_number_0 := by decide +kernel
theorem dX4_number_0 : decode cX4_number 0 = .ok (.aload_n 0, 1) := dk_42 (dk_at dksX4_number_0 0 rfl rfl)
theorem dX4_number_1 : decode cX4_number 1 = .ok (.aload_n 1, 1) := dk_43 (dk_at dksX4_number_0 1 rfl rfl)
theorem dX4_number_2 : decode cX4_number 2 = .ok (.invokevirtual 82, 3) := dk_182 0 82 (dk_at dksX4_number_0 2 rfl rfl)
theorem dX4_number_5 : decode cX4_number 5 = .ok (.aload_n 0, 1) := dk_42 (dk_at dksX4_number_0 5 rfl rfl)
theorem dX4_number_6 : decode cX4_number 6 = .ok (.iload_n 2, 1) := dk_28 (dk_at dksX4_number_0 6 rfl rfl)
theorem dX4_number_7 : decode cX4_number 7 = .ok (.iload_n 3, 1) := dk_29 (dk_at dksX4_number_0 7 rfl rfl)
theorem dX4_number_8 : decode cX4_number 8 = .ok (.invokevirtual 85, 3) := dk_182 0 85 (dk_at dksX4_number_0 8 rfl rfl)
theorem dX4_number_11 : decode cX4_number 11 = .ok (.ireturn, 1) := dk_172 (dk_at dksX4_number_0 11 rfl rfl)
abbrev cX4_word : ByteArray := prog_17_method_8_code
def yX4_word : MethodName := ⟨RX4, "word", "(Ljava/lang/String;)V"⟩
def dkwX4_word_0 : List UInt8 := [42, 182, 0, 70, 43, 182, 0, 74, 154, 0, 13, 42, 4, 42, 180, 0, 61, 182, 0, 47, 191, 177]
abbrev dktX4_word_0 : List UInt8 := dkwX4_word_0 ++ []
theorem dksX4_word_0 : cX4_word.data.toList.drop 0 = dktX4_word_0 := by decide +kernel
theorem dX4_word_0 : decode cX4_word 0 = .ok (.aload_n 0, 1) := dk_42 (dk_at dksX4_word_0 0 rfl rfl)
theorem dX4_word_1 : decode cX4_word 1 = .ok (.invokevirtual 70, 3) := dk_182 0 70 (dk_at dksX4_word_0 1 rfl rfl)
theorem dX4_word_4 : decode cX4_word 4 = .ok (.aload_n 1, 1) := dk_43 (dk_at dksX4_word_0 4 rfl rfl)
theorem dX4_word_5 : decode cX4_word 5 = .ok (.invokevirtual 74, 3) := dk_182 0 74 (dk_at dksX4_word_0 5 rfl rfl)
theorem dX4_word_8 : decode cX4_word 8 = .ok (.ifCond .ne 13, 3) := dk_154 0 13 (dk_at dksX4_word_0 8 rfl rfl)
theorem dX4_word_11 : decode cX4_word 11 = .ok (.aload_n 0, 1) := dk_42 (dk_at dksX4_word_0 11 rfl rfl)
theorem dX4_word_12 : decode cX4_word 12 = .ok (.iconst 1, 1) := dk_4 (dk_at dksX4_word_0 12 rfl rfl)
theorem dX4_word_13 : decode cX4_word 13 = .ok (.aload_n 0, 1) := dk_42 (dk_at dksX4_word_0 13 rfl rfl)
theorem dX4_word_14 : decode cX4_word 14 = .ok (.getfield 61, 3) := dk_180 0 61 (dk_at dksX4_word_0 14 rfl rfl)
theorem dX4_word_17 : decode cX4_word 17 = .ok (.invokevirtual 47, 3) := dk_182 0 47 (dk_at dksX4_word_0 17 rfl rfl)
theorem dX4_word_20 : decode cX4_word 20 = .ok (.athrow, 1) := dk_191 (dk_at dksX4_word_0 20 rfl rfl)
theorem dX4_word_21 : decode cX4_word 21 = .ok (.return_, 1) := dk_177 (dk_at dksX4_word_0 21 rfl rfl)
abbrev cX4_word_2 : ByteArray := prog_17_method_7_code
def yX4_word_2 : MethodName := ⟨RX4, "word", "()Ljava/lang/String;"⟩
def dkwX4_word_2_4 : List UInt8 := [180, 0, 32, 28, 51, 146, 85, 132, 2, 1, 167, 255, 227, 43, 184, 0, 64, 176]
abbrev dktX4_word_2_4 : List UInt8 := dkwX4_word_2_4 ++ []
def dkwX4_word_2_3 : List UInt8 := [180, 0, 61, 61, 28, 42, 180, 0, 36, 162, 0, 27, 43, 28, 42, 180, 0, 61, 100, 42, 180, 0, 3]
abbrev dktX4_word_2_3 : List UInt8 := dkwX4_word_2_3 ++ dktX4_word_2_4
def dkwX4_word_2_2 : List UInt8 := [180, 0, 36, 4, 96, 181, 0, 36, 167, 255, 232, 42, 180, 0, 36, 42, 180, 0, 61, 100, 188, 5, 76, 42]
abbrev dktX4_word_2_2 : List UInt8 := dkwX4_word_2_2 ++ dktX4_word_2_3
def dkwX4_word_2_1 : List UInt8 := [42, 42, 180, 0, 36, 181, 0, 61, 42, 42, 180, 0, 36, 182, 0, 39, 184, 0, 51, 153, 0, 16, 42, 89]
abbrev dktX4_word_2_1 : List UInt8 := dkwX4_word_2_1 ++ dktX4_word_2_2
def dkwX4_word_2_0 : List UInt8 := [42, 182, 0, 43, 184, 0, 51, 154, 0, 13, 42, 4, 42, 180, 0, 36, 182, 0, 47, 191, 42, 182, 0, 58]
abbrev dktX4_word_2_0 : List UInt8 := dkwX4_word_2_0 ++ dktX4_word_2_1
theorem dksX4_word_2_0 : cX4_word_2.data.toList.drop 0 = dktX4_word_2_0 := by decide +kernel
theorem dksX4_word_2_1 : cX4_word_2.data.toList.drop 24 = dktX4_word_2_1 := dk_seg dksX4_word_2_0 24 rfl rfl
theorem dksX4_word_2_2 : cX4_word_2.data.toList.drop 48 = dktX4_word_2_2 := dk_seg dksX4_word_2_1 24 rfl rfl
theorem dksX4_word_2_3 : cX4_word_2.data.toList.drop 72 = dktX4_word_2_3 := dk_seg dksX4_word_2_2 24 rfl rfl
theorem dksX4_word_2_4 : cX4_word_2.data.toList.drop 95 = dktX4_word_2_4 := dk_seg dksX4_word_2_3 23 rfl rfl
theorem dX4_word_2_0 : decode cX4_word_2 0 = .ok (.aload_n 0, 1) := dk_42 (dk_at dksX4_word_2_0 0 rfl rfl)
theorem dX4_word_2_1 : decode cX4_word_2 1 = .ok (.invokevirtual 43, 3) := dk_182 0 43 (dk_at dksX4_word_2_0 1 rfl rfl)
theorem dX4_word_2_4 : decode cX4_word_2 4 = .ok (.invokestatic 51, 3) := dk_184 0 51 (dk_at dksX4_word_2_0 4 rfl rfl)
theorem dX4_word_2_7 : decode cX4_word_2 7 = .ok (.ifCond .ne 13, 3) := dk_154 0 13 (dk_at dksX4_word_2_0 7 rfl rfl)
theorem dX4_word_2_10 : decode cX4_word_2 10 = .ok (.aload_n 0, 1) := dk_42 (dk_at dksX4_word_2_0 10 rfl rfl)
theorem dX4_word_2_11 : decode cX4_word_2 11 = .ok (.iconst 1, 1) := dk_4 (dk_at dksX4_word_2_0 11 rfl rfl)
theorem dX4_word_2_12 : decode cX4_word_2 12 = .ok (.aload_n 0, 1) := dk_42 (dk_at dksX4_word_2_0 12 rfl rfl)
theorem dX4_word_2_13 : decode cX4_word_2 13 = .ok (.getfield 36, 3) := dk_180 0 36 (dk_at dksX4_word_2_0 13 rfl rfl)
theorem dX4_word_2_16 : decode cX4_word_2 16 = .ok (.invokevirtual 47, 3) := dk_182 0 47 (dk_at dksX4_word_2_0 16 rfl rfl)
theorem dX4_word_2_19 : decode cX4_word_2 19 = .ok (.athrow, 1) := dk_191 (dk_at dksX4_word_2_0 19 rfl rfl)
theorem dX4_word_2_20 : decode cX4_word_2 20 = .ok (.aload_n 0, 1) := dk_42 (dk_at dksX4_word_2_0 20 rfl rfl)
theorem dX4_word_2_21 : decode cX4_word_2 21 = .ok (.invokevirtual 58, 3) := dk_182 0 58 (dk_at dksX4_word_2_0 21 rfl rfl)
theorem dX4_word_2_24 : decode cX4_word_2 24 = .ok (.aload_n 0, 1) := dk_42 (dk_at dksX4_word_2_1 0 rfl rfl)
theorem dX4_word_2_25 : decode cX4_word_2 25 = .ok (.aload_n 0, 1) := dk_42 (dk_at dksX4_word_2_1 1 rfl rfl)
theorem dX4_word_2_26 : decode cX4_word_2 26 = .ok (.getfield 36, 3) := dk_180 0 36 (dk_at dksX4_word_2_1 2 rfl rfl)
theorem dX4_word_2_29 : decode cX4_word_2 29 = .ok (.putfield 61, 3) := dk_181 0 61 (dk_at dksX4_word_2_1 5 rfl rfl)
theorem dX4_word_2_32 : decode cX4_word_2 32 = .ok (.aload_n 0, 1) := dk_42 (dk_at dksX4_word_2_1 8 rfl rfl)
theorem dX4_word_2_33 : decode cX4_word_2 33 = .ok (.aload_n 0, 1) := dk_42 (dk_at dksX4_word_2_1 9 rfl rfl)
theorem dX4_word_2_34 : decode cX4_word_2 34 = .ok (.getfield 36, 3) := dk_180 0 36 (dk_at dksX4_word_2_1 10 rfl rfl)
theorem dX4_word_2_37 : decode cX4_word_2 37 = .ok (.invokevirtual 39, 3) := dk_182 0 39 (dk_at dksX4_word_2_1 13 rfl rfl)
theorem dX4_word_2_40 : decode cX4_word_2 40 = .ok (.invokestatic 51, 3) := dk_184 0 51 (dk_at dksX4_word_2_1 16 rfl rfl)
theorem dX4_word_2_43 : decode cX4_word_2 43 = .ok (.ifCond .eq 16, 3) := dk_153 0 16 (dk_at dksX4_word_2_1 19 rfl rfl)
theorem dX4_word_2_46 : decode cX4_word_2 46 = .ok (.aload_n 0, 1) := dk_42 (dk_at dksX4_word_2_1 22 rfl rfl)
theorem dX4_word_2_47 : decode cX4_word_2 47 = .ok (.dup, 1) := dk_89 (dk_at dksX4_word_2_1 23 rfl rfl)
theorem dX4_word_2_48 : decode cX4_word_2 48 = .ok (.getfield 36, 3) := dk_180 0 36 (dk_at dksX4_word_2_2 0 rfl rfl)
theorem dX4_word_2_51 : decode cX4_word_2 51 = .ok (.iconst 1, 1) := dk_4 (dk_at dksX4_word_2_2 3 rfl rfl)
theorem dX4_word_2_52 : decode cX4_word_2 52 = .ok (.iadd, 1) := dk_96 (dk_at dksX4_word_2_2 4 rfl rfl)
theorem dX4_word_2_53 : decode cX4_word_2 53 = .ok (.putfield 36, 3) := dk_181 0 36 (dk_at dksX4_word_2_2 5 rfl rfl)
theorem dX4_word_2_56 : decode cX4_word_2 56 = .ok (.goto (-24), 3) := dk_167 255 232 (dk_at dksX4_word_2_2 8 rfl rfl)
theorem dX4_word_2_59 : decode cX4_word_2 59 = .ok (.aload_n 0, 1) := dk_42 (dk_at dksX4_word_2_2 11 rfl rfl)
theorem dX4_word_2_60 : decode cX4_word_2 60 = .ok (.getfield 36, 3) := dk_180 0 36 (dk_at dksX4_word_2_2 12 rfl rfl)
theorem dX4_word_2_63 : decode cX4_word_2 63 = .ok (.aload_n 0, 1) := dk_42 (dk_at dksX4_word_2_2 15 rfl rfl)
theorem dX4_word_2_64 : decode cX4_word_2 64 = .ok (.getfield 61, 3) := dk_180 0 61 (dk_at dksX4_word_2_2 16 rfl rfl)
theorem dX4_word_2_67 : decode cX4_word_2 67 = .ok (.isub, 1) := dk_100 (dk_at dksX4_word_2_2 19 rfl rfl)
theorem dX4_word_2_68 : decode cX4_word_2 68 = .ok (.newarray .char, 2) := dk_188_5 (dk_at dksX4_word_2_2 20 rfl rfl)
theorem dX4_word_2_70 : decode cX4_word_2 70 = .ok (.astore_n 1, 1) := dk_76 (dk_at dksX4_word_2_2 22 rfl rfl)
theorem dX4_word_2_71 : decode cX4_word_2 71 = .ok (.aload_n 0, 1) := dk_42 (dk_at dksX4_word_2_2 23 rfl rfl)
theorem dX4_word_2_72 : decode cX4_word_2 72 = .ok (.getfield 61, 3) := dk_180 0 61 (dk_at dksX4_word_2_3 0 rfl rfl)
theorem dX4_word_2_75 : decode cX4_word_2 75 = .ok (.istore_n 2, 1) := dk_61 (dk_at dksX4_word_2_3 3 rfl rfl)
theorem dX4_word_2_76 : decode cX4_word_2 76 = .ok (.iload_n 2, 1) := dk_28 (dk_at dksX4_word_2_3 4 rfl rfl)
theorem dX4_word_2_77 : decode cX4_word_2 77 = .ok (.aload_n 0, 1) := dk_42 (dk_at dksX4_word_2_3 5 rfl rfl)
theorem dX4_word_2_78 : decode cX4_word_2 78 = .ok (.getfield 36, 3) := dk_180 0 36 (dk_at dksX4_word_2_3 6 rfl rfl)
theorem dX4_word_2_81 : decode cX4_word_2 81 = .ok (.if_icmp .ge 27, 3) := dk_162 0 27 (dk_at dksX4_word_2_3 9 rfl rfl)
theorem dX4_word_2_84 : decode cX4_word_2 84 = .ok (.aload_n 1, 1) := dk_43 (dk_at dksX4_word_2_3 12 rfl rfl)
theorem dX4_word_2_85 : decode cX4_word_2 85 = .ok (.iload_n 2, 1) := dk_28 (dk_at dksX4_word_2_3 13 rfl rfl)
theorem dX4_word_2_86 : decode cX4_word_2 86 = .ok (.aload_n 0, 1) := dk_42 (dk_at dksX4_word_2_3 14 rfl rfl)
theorem dX4_word_2_87 : decode cX4_word_2 87 = .ok (.getfield 61, 3) := dk_180 0 61 (dk_at dksX4_word_2_3 15 rfl rfl)
theorem dX4_word_2_90 : decode cX4_word_2 90 = .ok (.isub, 1) := dk_100 (dk_at dksX4_word_2_3 18 rfl rfl)
theorem dX4_word_2_91 : decode cX4_word_2 91 = .ok (.aload_n 0, 1) := dk_42 (dk_at dksX4_word_2_3 19 rfl rfl)
theorem dX4_word_2_92 : decode cX4_word_2 92 = .ok (.getfield 3, 3) := dk_180 0 3 (dk_at dksX4_word_2_3 20 rfl rfl)
theorem dX4_word_2_95 : decode cX4_word_2 95 = .ok (.getfield 32, 3) := dk_180 0 32 (dk_at dksX4_word_2_4 0 rfl rfl)
theorem dX4_word_2_98 : decode cX4_word_2 98 = .ok (.iload_n 2, 1) := dk_28 (dk_at dksX4_word_2_4 3 rfl rfl)
theorem dX4_word_2_99 : decode cX4_word_2 99 = .ok (.baload, 1) := dk_51 (dk_at dksX4_word_2_4 4 rfl rfl)
theorem dX4_word_2_100 : decode cX4_word_2 100 = .ok (.i2c, 1) := dk_146 (dk_at dksX4_word_2_4 5 rfl rfl)
theorem dX4_word_2_101 : decode cX4_word_2 101 = .ok (.castore, 1) := dk_85 (dk_at dksX4_word_2_4 6 rfl rfl)
theorem dX4_word_2_102 : decode cX4_word_2 102 = .ok (.iinc 2 1, 3) := dk_132 2 1 (dk_at dksX4_word_2_4 7 rfl rfl)
theorem dX4_word_2_105 : decode cX4_word_2 105 = .ok (.goto (-29), 3) := dk_167 255 227 (dk_at dksX4_word_2_4 10 rfl rfl)
theorem dX4_word_2_108 : decode cX4_word_2 108 = .ok (.aload_n 1, 1) := dk_43 (dk_at dksX4_word_2_4 13 rfl rfl)
theorem dX4_word_2_109 : decode cX4_word_2 109 = .ok (.invokestatic 64, 3) := dk_184 0 64 (dk_at dksX4_word_2_4 14 rfl rfl)
theorem dX4_word_2_112 : decode cX4_word_2 112 = .ok (.areturn, 1) := dk_176 (dk_at dksX4_word_2_4 17 rfl rfl)
abbrev cX4_here : ByteArray := prog_17_method_4_code
def yX4_here : MethodName := ⟨RX4, "here", "()I"⟩
def dkwX4_here_2 : List UInt8 := [172]
abbrev dktX4_here_2 : List UInt8 := dkwX4_here_2 ++ []
def dkwX4_here_1 : List UInt8 := [160, 0, 16, 42, 89, 180, 0, 36, 4, 96, 181, 0, 36, 167, 255, 220, 42, 42, 180, 0, 36, 182, 0, 39]
abbrev dktX4_here_1 : List UInt8 := dkwX4_here_1 ++ dktX4_here_2
def dkwX4_here_0 : List UInt8 := [42, 42, 180, 0, 36, 182, 0, 39, 16, 32, 159, 0, 16, 42, 42, 180, 0, 36, 182, 0, 39, 16, 10]
abbrev dktX4_here_0 : List UInt8 := dkwX4_here_0 ++ dktX4_here_1
theorem dksX4_here_0 : cX4_here.data.toList.drop 0 = dktX4_here_0 := by decide +kernel
theorem dksX4_here_1 : cX4_here.data.toList.drop 23 = dktX4_here_1 := dk_seg dksX4_here_0 23 rfl rfl
theorem dksX4_here_2 : cX4_here.data.toList.drop 47 = dktX4_here_2 := dk_seg dksX4_here_1 24 rfl rfl
theorem dX4_here_0 : decode cX4_here 0 = .ok (.aload_n 0, 1) := dk_42 (dk_at dksX4_here_0 0 rfl rfl)
theorem dX4_here_1 : decode cX4_here 1 = .ok (.aload_n 0, 1) := dk_42 (dk_at dksX4_here_0 1 rfl rfl)
theorem dX4_here_2 : decode cX4_here 2 = .ok (.getfield 36, 3) := dk_180 0 36 (dk_at dksX4_here_0 2 rfl rfl)
theorem dX4_here_5 : decode cX4_here 5 = .ok (.invokevirtual 39, 3) := dk_182 0 39 (dk_at dksX4_here_0 5 rfl rfl)
theorem dX4_here_8 : decode cX4_here 8 = .ok (.bipush 32, 2) := dk_16 32 (dk_at dksX4_here_0 8 rfl rfl)
theorem dX4_here_10 : decode cX4_here 10 = .ok (.if_icmp .eq 16, 3) := dk_159 0 16 (dk_at dksX4_here_0 10 rfl rfl)
theorem dX4_here_13 : decode cX4_here 13 = .ok (.aload_n 0, 1) := dk_42 (dk_at dksX4_here_0 13 rfl rfl)
theorem dX4_here_14 : decode cX4_here 14 = .ok (.aload_n 0, 1) := dk_42 (dk_at dksX4_here_0 14 rfl rfl)
theorem dX4_here_15 : decode cX4_here 15 = .ok (.getfield 36, 3) := dk_180 0 36 (dk_at dksX4_here_0 15 rfl rfl)
theorem dX4_here_18 : decode cX4_here 18 = .ok (.invokevirtual 39, 3) := dk_182 0 39 (dk_at dksX4_here_0 18 rfl rfl)
theorem dX4_here_21 : decode cX4_here 21 = .ok (.bipush 10, 2) := dk_16 10 (dk_at dksX4_here_0 21 rfl rfl)
theorem dX4_here_23 : decode cX4_here 23 = .ok (.if_icmp .ne 16, 3) := dk_160 0 16 (dk_at dksX4_here_1 0 rfl rfl)
theorem dX4_here_26 : decode cX4_here 26 = .ok (.aload_n 0, 1) := dk_42 (dk_at dksX4_here_1 3 rfl rfl)
theorem dX4_here_27 : decode cX4_here 27 = .ok (.dup, 1) := dk_89 (dk_at dksX4_here_1 4 rfl rfl)
theorem dX4_here_28 : decode cX4_here 28 = .ok (.getfield 36, 3) := dk_180 0 36 (dk_at dksX4_here_1 5 rfl rfl)
theorem dX4_here_31 : decode cX4_here 31 = .ok (.iconst 1, 1) := dk_4 (dk_at dksX4_here_1 8 rfl rfl)
theorem dX4_here_32 : decode cX4_here 32 = .ok (.iadd, 1) := dk_96 (dk_at dksX4_here_1 9 rfl rfl)
theorem dX4_here_33 : decode cX4_here 33 = .ok (.putfield 36, 3) := dk_181 0 36 (dk_at dksX4_here_1 10 rfl rfl)
theorem dX4_here_36 : decode cX4_here 36 = .ok (.goto (-36), 3) := dk_167 255 220 (dk_at dksX4_here_1 13 rfl rfl)
theorem dX4_here_39 : decode cX4_here 39 = .ok (.aload_n 0, 1) := dk_42 (dk_at dksX4_here_1 16 rfl rfl)
theorem dX4_here_40 : decode cX4_here 40 = .ok (.aload_n 0, 1) := dk_42 (dk_at dksX4_here_1 17 rfl rfl)
theorem dX4_here_41 : decode cX4_here 41 = .ok (.getfield 36, 3) := dk_180 0 36 (dk_at dksX4_here_1 18 rfl rfl)
theorem dX4_here_44 : decode cX4_here 44 = .ok (.invokevirtual 39, 3) := dk_182 0 39 (dk_at dksX4_here_1 21 rfl rfl)
theorem dX4_here_47 : decode cX4_here 47 = .ok (.ireturn, 1) := dk_172 (dk_at dksX4_here_2 0 rfl rfl)
abbrev cX4_byteAt : ByteArray := prog_17_method_3_code
def yX4_byteAt : MethodName := ⟨RX4, "byteAt", "(I)I"⟩
def dkwX4_byteAt_1 : List UInt8 := [126, 167, 0, 4, 2, 172]
abbrev dktX4_byteAt_1 : List UInt8 := dkwX4_byteAt_1 ++ []
def dkwX4_byteAt_0 : List UInt8 := [27, 155, 0, 27, 27, 42, 180, 0, 29, 162, 0, 19, 42, 180, 0, 3, 180, 0, 32, 27, 51, 17, 0, 255]
abbrev dktX4_byteAt_0 : List UInt8 := dkwX4_byteAt_0 ++ dktX4_byteAt_1
theorem dksX4_byteAt_0 : cX4_byteAt.data.toList.drop 0 = dktX4_byteAt_0 := by decide +kernel
theorem dksX4_byteAt_1 : cX4_byteAt.data.toList.drop 24 = dktX4_byteAt_1 := dk_seg dksX4_byteAt_0 24 rfl rfl
theorem dX4_byteAt_0 : decode cX4_byteAt 0 = .ok (.iload_n 1, 1) := dk_27 (dk_at dksX4_byteAt_0 0 rfl rfl)
theorem dX4_byteAt_1 : decode cX4_byteAt 1 = .ok (.ifCond .lt 27, 3) := dk_155 0 27 (dk_at dksX4_byteAt_0 1 rfl rfl)
theorem dX4_byteAt_4 : decode cX4_byteAt 4 = .ok (.iload_n 1, 1) := dk_27 (dk_at dksX4_byteAt_0 4 rfl rfl)
theorem dX4_byteAt_5 : decode cX4_byteAt 5 = .ok (.aload_n 0, 1) := dk_42 (dk_at dksX4_byteAt_0 5 rfl rfl)
theorem dX4_byteAt_6 : decode cX4_byteAt 6 = .ok (.getfield 29, 3) := dk_180 0 29 (dk_at dksX4_byteAt_0 6 rfl rfl)
theorem dX4_byteAt_9 : decode cX4_byteAt 9 = .ok (.if_icmp .ge 19, 3) := dk_162 0 19 (dk_at dksX4_byteAt_0 9 rfl rfl)
theorem dX4_byteAt_12 : decode cX4_byteAt 12 = .ok (.aload_n 0, 1) := dk_42 (dk_at dksX4_byteAt_0 12 rfl rfl)
theorem dX4_byteAt_13 : decode cX4_byteAt 13 = .ok (.getfield 3, 3) := dk_180 0 3 (dk_at dksX4_byteAt_0 13 rfl rfl)
theorem dX4_byteAt_16 : decode cX4_byteAt 16 = .ok (.getfield 32, 3) := dk_180 0 32 (dk_at dksX4_byteAt_0 16 rfl rfl)
theorem dX4_byteAt_19 : decode cX4_byteAt 19 = .ok (.iload_n 1, 1) := dk_27 (dk_at dksX4_byteAt_0 19 rfl rfl)
theorem dX4_byteAt_20 : decode cX4_byteAt 20 = .ok (.baload, 1) := dk_51 (dk_at dksX4_byteAt_0 20 rfl rfl)
theorem dX4_byteAt_21 : decode cX4_byteAt 21 = .ok (.sipush 255, 3) := dk_17 0 255 (dk_at dksX4_byteAt_0 21 rfl rfl)
theorem dX4_byteAt_24 : decode cX4_byteAt 24 = .ok (.iand, 1) := dk_126 (dk_at dksX4_byteAt_1 0 rfl rfl)
theorem dX4_byteAt_25 : decode cX4_byteAt 25 = .ok (.goto 4, 3) := dk_167 0 4 (dk_at dksX4_byteAt_1 1 rfl rfl)
theorem dX4_byteAt_28 : decode cX4_byteAt 28 = .ok (.iconst (-1), 1) := dk_2 (dk_at dksX4_byteAt_1 4 rfl rfl)
theorem dX4_byteAt_29 : decode cX4_byteAt 29 = .ok (.ireturn, 1) := dk_172 (dk_at dksX4_byteAt_1 5 rfl rfl)
abbrev cX4_wrong : ByteArray := prog_17_method_2_code
def yX4_wrong : MethodName := ⟨RX4, "wrong", "(II)LGroupJournal$Fault;"⟩
def dkwX4_wrong_0 : List UInt8 := [42, 180, 0, 18, 27, 181, 0, 22, 42, 180, 0, 18, 28, 181, 0, 26, 42, 180, 0, 18, 176]
abbrev dktX4_wrong_0 : List UInt8 := dkwX4_wrong_0 ++ []
theorem dksX4_wrong_0 : cX4_wrong.data.toList.drop 0 = dktX4_wrong_0 := by decide +kernel
theorem dX4_wrong_0 : decode cX4_wrong 0 = .ok (.aload_n 0, 1) := dk_42 (dk_at dksX4_wrong_0 0 rfl rfl)
theorem dX4_wrong_1 : decode cX4_wrong 1 = .ok (.getfield 18, 3) := dk_180 0 18 (dk_at dksX4_wrong_0 1 rfl rfl)
theorem dX4_wrong_4 : decode cX4_wrong 4 = .ok (.iload_n 1, 1) := dk_27 (dk_at dksX4_wrong_0 4 rfl rfl)
theorem dX4_wrong_5 : decode cX4_wrong 5 = .ok (.putfield 22, 3) := dk_181 0 22 (dk_at dksX4_wrong_0 5 rfl rfl)
theorem dX4_wrong_8 : decode cX4_wrong 8 = .ok (.aload_n 0, 1) := dk_42 (dk_at dksX4_wrong_0 8 rfl rfl)
theorem dX4_wrong_9 : decode cX4_wrong 9 = .ok (.getfield 18, 3) := dk_180 0 18 (dk_at dksX4_wrong_0 9 rfl rfl)
theorem dX4_wrong_12 : decode cX4_wrong 12 = .ok (.iload_n 2, 1) := dk_28 (dk_at dksX4_wrong_0 12 rfl rfl)
theorem dX4_wrong_13 : decode cX4_wrong 13 = .ok (.putfield 26, 3) := dk_181 0 26 (dk_at dksX4_wrong_0 13 rfl rfl)
theorem dX4_wrong_16 : decode cX4_wrong 16 = .ok (.aload_n 0, 1) := dk_42 (dk_at dksX4_wrong_0 16 rfl rfl)
theorem dX4_wrong_17 : decode cX4_wrong 17 = .ok (.getfield 18, 3) := dk_180 0 18 (dk_at dksX4_wrong_0 17 rfl rfl)
theorem dX4_wrong_20 : decode cX4_wrong 20 = .ok (.areturn, 1) := dk_176 (dk_at dksX4_wrong_0 20 rfl rfl)
abbrev cX4_parted : ByteArray := prog_17_method_6_code
def yX4_parted : MethodName := ⟨RX4, "parted", "()V"⟩
def dkwX4_parted_1 : List UInt8 := [182, 0, 39, 184, 0, 55, 153, 0, 13, 42, 4, 42, 180, 0, 36, 182, 0, 47, 191, 177]
abbrev dktX4_parted_1 : List UInt8 := dkwX4_parted_1 ++ []
def dkwX4_parted_0 : List UInt8 := [42, 42, 180, 0, 36, 4, 100, 182, 0, 39, 184, 0, 51, 154, 0, 19, 42, 42, 180, 0, 36, 4, 100]
abbrev dktX4_parted_0 : List UInt8 := dkwX4_parted_0 ++ dktX4_parted_1
theorem dksX4_parted_0 : cX4_parted.data.toList.drop 0 = dktX4_parted_0 := by decide +kernel
theorem dksX4_parted_1 : cX4_parted.data.toList.drop 23 = dktX4_parted_1 := dk_seg dksX4_parted_0 23 rfl rfl
theorem dX4_parted_0 : decode cX4_parted 0 = .ok (.aload_n 0, 1) := dk_42 (dk_at dksX4_parted_0 0 rfl rfl)
theorem dX4_parted_1 : decode cX4_parted 1 = .ok (.aload_n 0, 1) := dk_42 (dk_at dksX4_parted_0 1 rfl rfl)
theorem dX4_parted_2 : decode cX4_parted 2 = .ok (.getfield 36, 3) := dk_180 0 36 (dk_at dksX4_parted_0 2 rfl rfl)
theorem dX4_parted_5 : decode cX4_parted 5 = .ok (.iconst 1, 1) := dk_4 (dk_at dksX4_parted_0 5 rfl rfl)
theorem dX4_parted_6 : decode cX4_parted 6 = .ok (.isub, 1) := dk_100 (dk_at dksX4_parted_0 6 rfl rfl)
theorem dX4_parted_7 : decode cX4_parted 7 = .ok (.invokevirtual 39, 3) := dk_182 0 39 (dk_at dksX4_parted_0 7 rfl rfl)
theorem dX4_parted_10 : decode cX4_parted 10 = .ok (.invokestatic 51, 3) := dk_184 0 51 (dk_at dksX4_parted_0 10 rfl rfl)
theorem dX4_parted_13 : decode cX4_parted 13 = .ok (.ifCond .ne 19, 3) := dk_154 0 19 (dk_at dksX4_parted_0 13 rfl rfl)
theorem dX4_parted_16 : decode cX4_parted 16 = .ok (.aload_n 0, 1) := dk_42 (dk_at dksX4_parted_0 16 rfl rfl)
theorem dX4_parted_17 : decode cX4_parted 17 = .ok (.aload_n 0, 1) := dk_42 (dk_at dksX4_parted_0 17 rfl rfl)
theorem dX4_parted_18 : decode cX4_parted 18 = .ok (.getfield 36, 3) := dk_180 0 36 (dk_at dksX4_parted_0 18 rfl rfl)
theorem dX4_parted_21 : decode cX4_parted 21 = .ok (.iconst 1, 1) := dk_4 (dk_at dksX4_parted_0 21 rfl rfl)
theorem dX4_parted_22 : decode cX4_parted 22 = .ok (.isub, 1) := dk_100 (dk_at dksX4_parted_0 22 rfl rfl)
theorem dX4_parted_23 : decode cX4_parted 23 = .ok (.invokevirtual 39, 3) := dk_182 0 39 (dk_at dksX4_parted_1 0 rfl rfl)
theorem dX4_parted_26 : decode cX4_parted 26 = .ok (.invokestatic 55, 3) := dk_184 0 55 (dk_at dksX4_parted_1 3 rfl rfl)
theorem dX4_parted_29 : decode cX4_parted 29 = .ok (.ifCond .eq 13, 3) := dk_153 0 13 (dk_at dksX4_parted_1 6 rfl rfl)
theorem dX4_parted_32 : decode cX4_parted 32 = .ok (.aload_n 0, 1) := dk_42 (dk_at dksX4_parted_1 9 rfl rfl)
theorem dX4_parted_33 : decode cX4_parted 33 = .ok (.iconst 1, 1) := dk_4 (dk_at dksX4_parted_1 10 rfl rfl)
theorem dX4_parted_34 : decode cX4_parted 34 = .ok (.aload_n 0, 1) := dk_42 (dk_at dksX4_parted_1 11 rfl rfl)
theorem dX4_parted_35 : decode cX4_parted 35 = .ok (.getfield 36, 3) := dk_180 0 36 (dk_at dksX4_parted_1 12 rfl rfl)
theorem dX4_parted_38 : decode cX4_parted 38 = .ok (.invokevirtual 47, 3) := dk_182 0 47 (dk_at dksX4_parted_1 15 rfl rfl)
theorem dX4_parted_41 : decode cX4_parted 41 = .ok (.athrow, 1) := dk_191 (dk_at dksX4_parted_1 18 rfl rfl)
theorem dX4_parted_42 : decode cX4_parted 42 = .ok (.return_, 1) := dk_177 (dk_at dksX4_parted_1 19 rfl rfl)
abbrev cX4_number_2 : ByteArray := prog_17_method_10_code
def yX4_number_2 : MethodName := ⟨RX4, "number", "(II)I"⟩
def dkwX4_number_2_5 : List UInt8 := [191, 29, 172]
abbrev dktX4_number_2_5 : List UInt8 := dkwX4_number_2_5 ++ []
def dkwX4_number_2_4 : List UInt8 := [181, 0, 36, 167, 255, 192, 29, 27, 28, 184, 0, 78, 154, 0, 13, 42, 5, 42, 180, 0, 61, 182, 0, 47]
abbrev dktX4_number_2_4 : List UInt8 := dkwX4_number_2_4 ++ dktX4_number_2_5
def dkwX4_number_2_3 : List UInt8 := [16, 10, 29, 104, 42, 42, 180, 0, 36, 182, 0, 39, 96, 16, 48, 100, 62, 42, 89, 180, 0, 36, 4, 96]
abbrev dktX4_number_2_3 : List UInt8 := dkwX4_number_2_3 ++ dktX4_number_2_4
def dkwX4_number_2_2 : List UInt8 := [42, 180, 0, 36, 42, 180, 0, 61, 100, 7, 160, 0, 13, 42, 4, 42, 180, 0, 36, 182, 0, 47, 191]
abbrev dktX4_number_2_2 : List UInt8 := dkwX4_number_2_2 ++ dktX4_number_2_3
def dkwX4_number_2_1 : List UInt8 := [42, 42, 180, 0, 36, 181, 0, 61, 3, 62, 42, 42, 180, 0, 36, 182, 0, 39, 184, 0, 55, 153, 0, 56]
abbrev dktX4_number_2_1 : List UInt8 := dkwX4_number_2_1 ++ dktX4_number_2_2
def dkwX4_number_2_0 : List UInt8 := [42, 182, 0, 43, 184, 0, 55, 154, 0, 13, 42, 4, 42, 180, 0, 36, 182, 0, 47, 191, 42, 182, 0, 58]
abbrev dktX4_number_2_0 : List UInt8 := dkwX4_number_2_0 ++ dktX4_number_2_1
theorem dksX4_number_2_0 : cX4_number_2.data.toList.drop 0 = dktX4_number_2_0 := by decide +kernel
theorem dksX4_number_2_1 : cX4_number_2.data.toList.drop 24 = dktX4_number_2_1 := dk_seg dksX4_number_2_0 24 rfl rfl
theorem dksX4_number_2_2 : cX4_number_2.data.toList.drop 48 = dktX4_number_2_2 := dk_seg dksX4_number_2_1 24 rfl rfl
theorem dksX4_number_2_3 : cX4_number_2.data.toList.drop 71 = dktX4_number_2_3 := dk_seg dksX4_number_2_2 23 rfl rfl
theorem dksX4_number_2_4 : cX4_number_2.data.toList.drop 95 = dktX4_number_2_4 := dk_seg dksX4_number_2_3 24 rfl rfl
theorem dksX4_number_2_5 : cX4_number_2.data.toList.drop 119 = dktX4_number_2_5 := dk_seg dksX4_number_2_4 24 rfl rfl
theorem dX4_number_2_0 : decode cX4_number_2 0 = .ok (.aload_n 0, 1) := dk_42 (dk_at dksX4_number_2_0 0 rfl rfl)
theorem dX4_number_2_1 : decode cX4_number_2 1 = .ok (.invokevirtual 43, 3) := dk_182 0 43 (dk_at dksX4_number_2_0 1 rfl rfl)
theorem dX4_number_2_4 : decode cX4_number_2 4 = .ok (.invokestatic 55, 3) := dk_184 0 55 (dk_at dksX4_number_2_0 4 rfl rfl)
theorem dX4_number_2_7 : decode cX4_number_2 7 = .ok (.ifCond .ne 13, 3) := dk_154 0 13 (dk_at dksX4_number_2_0 7 rfl rfl)
theorem dX4_number_2_10 : decode cX4_number_2 10 = .ok (.aload_n 0, 1) := dk_42 (dk_at dksX4_number_2_0 10 rfl rfl)
theorem dX4_number_2_11 : decode cX4_number_2 11 = .ok (.iconst 1, 1) := dk_4 (dk_at dksX4_number_2_0 11 rfl rfl)
theorem dX4_number_2_12 : decode cX4_number_2 12 = .ok (.aload_n 0, 1) := dk_42 (dk_at dksX4_number_2_0 12 rfl rfl)
theorem dX4_number_2_13 : decode cX4_number_2 13 = .ok (.getfield 36, 3) := dk_180 0 36 (dk_at dksX4_number_2_0 13 rfl rfl)
theorem dX4_number_2_16 : decode cX4_number_2 16 = .ok (.invokevirtual 47, 3) := dk_182 0 47 (dk_at dksX4_number_2_0 16 rfl rfl)
theorem dX4_number_2_19 : decode cX4_number_2 19 = .ok (.athrow, 1) := dk_191 (dk_at dksX4_number_2_0 19 rfl rfl)
theorem dX4_number_2_20 : decode cX4_number_2 20 = .ok (.aload_n 0, 1) := dk_42 (dk_at dksX4_number_2_0 20 rfl rfl)
theorem dX4_number_2_21 : decode cX4_number_2 21 = .ok (.invokevirtual 58, 3) := dk_182 0 58 (dk_at dksX4_number_2_0 21 rfl rfl)
theorem dX4_number_2_24 : decode cX4_number_2 24 = .ok (.aload_n 0, 1) := dk_42 (dk_at dksX4_number_2_1 0 rfl rfl)
theorem dX4_number_2_25 : decode cX4_number_2 25 = .ok (.aload_n 0, 1) := dk_42 (dk_at dksX4_number_2_1 1 rfl rfl)
theorem dX4_number_2_26 : decode cX4_number_2 26 = .ok (.getfield 36, 3) := dk_180 0 36 (dk_at dksX4_number_2_1 2 rfl rfl)
theorem dX4_number_2_29 : decode cX4_number_2 29 = .ok (.putfield 61, 3) := dk_181 0 61 (dk_at dksX4_number_2_1 5 rfl rfl)
theorem dX4_number_2_32 : decode cX4_number_2 32 = .ok (.iconst 0, 1) := dk_3 (dk_at dksX4_number_2_1 8 rfl rfl)
theorem dX4_number_2_33 : decode cX4_number_2 33 = .ok (.istore_n 3, 1) := dk_62 (dk_at dksX4_number_2_1 9 rfl rfl)
theorem dX4_number_2_34 : decode cX4_number_2 34 = .ok (.aload_n 0, 1) := dk_42 (dk_at dksX4_number_2_1 10 rfl rfl)
theorem dX4_number_2_35 : decode cX4_number_2 35 = .ok (.aload_n 0, 1) := dk_42 (dk_at dksX4_number_2_1 11 rfl rfl)
theorem dX4_number_2_36 : decode cX4_number_2 36 = .ok (.getfield 36, 3) := dk_180 0 36 (dk_at dksX4_number_2_1 12 rfl rfl)
theorem dX4_number_2_39 : decode cX4_number_2 39 = .ok (.invokevirtual 39, 3) := dk_182 0 39 (dk_at dksX4_number_2_1 15 rfl rfl)
theorem dX4_number_2_42 : decode cX4_number_2 42 = .ok (.invokestatic 55, 3) := dk_184 0 55 (dk_at dksX4_number_2_1 18 rfl rfl)
theorem dX4_number_2_45 : decode cX4_number_2 45 = .ok (.ifCond .eq 56, 3) := dk_153 0 56 (dk_at dksX4_number_2_1 21 rfl rfl)
theorem dX4_number_2_48 : decode cX4_number_2 48 = .ok (.aload_n 0, 1) := dk_42 (dk_at dksX4_number_2_2 0 rfl rfl)
theorem dX4_number_2_49 : decode cX4_number_2 49 = .ok (.getfield 36, 3) := dk_180 0 36 (dk_at dksX4_number_2_2 1 rfl rfl)
theorem dX4_number_2_52 : decode cX4_number_2 52 = .ok (.aload_n 0, 1) := dk_42 (dk_at dksX4_number_2_2 4 rfl rfl)
theorem dX4_number_2_53 : decode cX4_number_2 53 = .ok (.getfield 61, 3) := dk_180 0 61 (dk_at dksX4_number_2_2 5 rfl rfl)
theorem dX4_number_2_56 : decode cX4_number_2 56 = .ok (.isub, 1) := dk_100 (dk_at dksX4_number_2_2 8 rfl rfl)
theorem dX4_number_2_57 : decode cX4_number_2 57 = .ok (.iconst 4, 1) := dk_7 (dk_at dksX4_number_2_2 9 rfl rfl)
theorem dX4_number_2_58 : decode cX4_number_2 58 = .ok (.if_icmp .ne 13, 3) := dk_160 0 13 (dk_at dksX4_number_2_2 10 rfl rfl)
theorem dX4_number_2_61 : decode cX4_number_2 61 = .ok (.aload_n 0, 1) := dk_42 (dk_at dksX4_number_2_2 13 rfl rfl)
theorem dX4_number_2_62 : decode cX4_number_2 62 = .ok (.iconst 1, 1) := dk_4 (dk_at dksX4_number_2_2 14 rfl rfl)
theorem dX4_number_2_63 : decode cX4_number_2 63 = .ok (.aload_n 0, 1) := dk_42 (dk_at dksX4_number_2_2 15 rfl rfl)
theorem dX4_number_2_64 : decode cX4_number_2 64 = .ok (.getfield 36, 3) := dk_180 0 36 (dk_at dksX4_number_2_2 16 rfl rfl)
theorem dX4_number_2_67 : decode cX4_number_2 67 = .ok (.invokevirtual 47, 3) := dk_182 0 47 (dk_at dksX4_number_2_2 19 rfl rfl)
theorem dX4_number_2_70 : decode cX4_number_2 70 = .ok (.athrow, 1) := dk_191 (dk_at dksX4_number_2_2 22 rfl rfl)
theorem dX4_number_2_71 : decode cX4_number_2 71 = .ok (.bipush 10, 2) := dk_16 10 (dk_at dksX4_number_2_3 0 rfl rfl)
theorem dX4_number_2_73 : decode cX4_number_2 73 = .ok (.iload_n 3, 1) := dk_29 (dk_at dksX4_number_2_3 2 rfl rfl)
theorem dX4_number_2_74 : decode cX4_number_2 74 = .ok (.imul, 1) := dk_104 (dk_at dksX4_number_2_3 3 rfl rfl)
theorem dX4_number_2_75 : decode cX4_number_2 75 = .ok (.aload_n 0, 1) := dk_42 (dk_at dksX4_number_2_3 4 rfl rfl)
theorem dX4_number_2_76 : decode cX4_number_2 76 = .ok (.aload_n 0, 1) := dk_42 (dk_at dksX4_number_2_3 5 rfl rfl)
theorem dX4_number_2_77 : decode cX4_number_2 77 = .ok (.getfield 36, 3) := dk_180 0 36 (dk_at dksX4_number_2_3 6 rfl rfl)
theorem dX4_number_2_80 : decode cX4_number_2 80 = .ok (.invokevirtual 39, 3) := dk_182 0 39 (dk_at dksX4_number_2_3 9 rfl rfl)
theorem dX4_number_2_83 : decode cX4_number_2 83 = .ok (.iadd, 1) := dk_96 (dk_at dksX4_number_2_3 12 rfl rfl)
theorem dX4_number_2_84 : decode cX4_number_2 84 = .ok (.bipush 48, 2) := dk_16 48 (dk_at dksX4_number_2_3 13 rfl rfl)
theorem dX4_number_2_86 : decode cX4_number_2 86 = .ok (.isub, 1) := dk_100 (dk_at dksX4_number_2_3 15 rfl rfl)
theorem dX4_number_2_87 : decode cX4_number_2 87 = .ok (.istore_n 3, 1) := dk_62 (dk_at dksX4_number_2_3 16 rfl rfl)
theorem dX4_number_2_88 : decode cX4_number_2 88 = .ok (.aload_n 0, 1) := dk_42 (dk_at dksX4_number_2_3 17 rfl rfl)
theorem dX4_number_2_89 : decode cX4_number_2 89 = .ok (.dup, 1) := dk_89 (dk_at dksX4_number_2_3 18 rfl rfl)
theorem dX4_number_2_90 : decode cX4_number_2 90 = .ok (.getfield 36, 3) := dk_180 0 36 (dk_at dksX4_number_2_3 19 rfl rfl)
theorem dX4_number_2_93 : decode cX4_number_2 93 = .ok (.iconst 1, 1) := dk_4 (dk_at dksX4_number_2_3 22 rfl rfl)
theorem dX4_number_2_94 : decode cX4_number_2 94 = .ok (.iadd, 1) := dk_96 (dk_at dksX4_number_2_3 23 rfl rfl)
theorem dX4_number_2_95 : decode cX4_number_2 95 = .ok (.putfield 36, 3) := dk_181 0 36 (dk_at dksX4_number_2_4 0 rfl rfl)
theorem dX4_number_2_98 : decode cX4_number_2 98 = .ok (.goto (-64), 3) := dk_167 255 192 (dk_at dksX4_number_2_4 3 rfl rfl)
theorem dX4_number_2_101 : decode cX4_number_2 101 = .ok (.iload_n 3, 1) := dk_29 (dk_at dksX4_number_2_4 6 rfl rfl)
theorem dX4_number_2_102 : decode cX4_number_2 102 = .ok (.iload_n 1, 1) := dk_27 (dk_at dksX4_number_2_4 7 rfl rfl)
theorem dX4_number_2_103 : decode cX4_number_2 103 = .ok (.iload_n 2, 1) := dk_28 (dk_at dksX4_number_2_4 8 rfl rfl)
theorem dX4_number_2_104 : decode cX4_number_2 104 = .ok (.invokestatic 78, 3) := dk_184 0 78 (dk_at dksX4_number_2_4 9 rfl rfl)
theorem dX4_number_2_107 : decode cX4_number_2 107 = .ok (.ifCond .ne 13, 3) := dk_154 0 13 (dk_at dksX4_number_2_4 12 rfl rfl)
theorem dX4_number_2_110 : decode cX4_number_2 110 = .ok (.aload_n 0, 1) := dk_42 (dk_at dksX4_number_2_4 15 rfl rfl)
theorem dX4_number_2_111 : decode cX4_number_2 111 = .ok (.iconst 2, 1) := dk_5 (dk_at dksX4_number_2_4 16 rfl rfl)
theorem dX4_number_2_112 : decode cX4_number_2 112 = .ok (.aload_n 0, 1) := dk_42 (dk_at dksX4_number_2_4 17 rfl rfl)
theorem dX4_number_2_113 : decode cX4_number_2 113 = .ok (.getfield 61, 3) := dk_180 0 61 (dk_at dksX4_number_2_4 18 rfl rfl)
theorem dX4_number_2_116 : decode cX4_number_2 116 = .ok (.invokevirtual 47, 3) := dk_182 0 47 (dk_at dksX4_number_2_4 21 rfl rfl)
theorem dX4_number_2_119 : decode cX4_number_2 119 = .ok (.athrow, 1) := dk_191 (dk_at dksX4_number_2_5 0 rfl rfl)
theorem dX4_number_2_120 : decode cX4_number_2 120 = .ok (.iload_n 3, 1) := dk_29 (dk_at dksX4_number_2_5 1 rfl rfl)
theorem dX4_number_2_121 : decode cX4_number_2 121 = .ok (.ireturn, 1) := dk_172 (dk_at dksX4_number_2_5 2 rfl rfl)
abbrev cX4_must : ByteArray := prog_17_method_5_code
def yX4_must : MethodName := ⟨RX4, "must", "(I)V"⟩
def dkwX4_must_1 : List UInt8 := [96, 181, 0, 36, 177]
abbrev dktX4_must_1 : List UInt8 := dkwX4_must_1 ++ []
def dkwX4_must_0 : List UInt8 := [42, 182, 0, 43, 27, 159, 0, 13, 42, 4, 42, 180, 0, 36, 182, 0, 47, 191, 42, 89, 180, 0, 36, 4]
abbrev dktX4_must_0 : List UInt8 := dkwX4_must_0 ++ dktX4_must_1
theorem dksX4_must_0 : cX4_must.data.toList.drop 0 = dktX4_must_0 := by decide +kernel
theorem dksX4_must_1 : cX4_must.data.toList.drop 24 = dktX4_must_1 := dk_seg dksX4_must_0 24 rfl rfl
theorem dX4_must_0 : decode cX4_must 0 = .ok (.aload_n 0, 1) := dk_42 (dk_at dksX4_must_0 0 rfl rfl)
theorem dX4_must_1 : decode cX4_must 1 = .ok (.invokevirtual 43, 3) := dk_182 0 43 (dk_at dksX4_must_0 1 rfl rfl)
theorem dX4_must_4 : decode cX4_must 4 = .ok (.iload_n 1, 1) := dk_27 (dk_at dksX4_must_0 4 rfl rfl)
theorem dX4_must_5 : decode cX4_must 5 = .ok (.if_icmp .eq 13, 3) := dk_159 0 13 (dk_at dksX4_must_0 5 rfl rfl)
theorem dX4_must_8 : decode cX4_must 8 = .ok (.aload_n 0, 1) := dk_42 (dk_at dksX4_must_0 8 rfl rfl)
theorem dX4_must_9 : decode cX4_must 9 = .ok (.iconst 1, 1) := dk_4 (dk_at dksX4_must_0 9 rfl rfl)
theorem dX4_must_10 : decode cX4_must 10 = .ok (.aload_n 0, 1) := dk_42 (dk_at dksX4_must_0 10 rfl rfl)
theorem dX4_must_11 : decode cX4_must 11 = .ok (.getfield 36, 3) := dk_180 0 36 (dk_at dksX4_must_0 11 rfl rfl)
theorem dX4_must_14 : decode cX4_must 14 = .ok (.invokevirtual 47, 3) := dk_182 0 47 (dk_at dksX4_must_0 14 rfl rfl)
theorem dX4_must_17 : decode cX4_must 17 = .ok (.athrow, 1) := dk_191 (dk_at dksX4_must_0 17 rfl rfl)
theorem dX4_must_18 : decode cX4_must 18 = .ok (.aload_n 0, 1) := dk_42 (dk_at dksX4_must_0 18 rfl rfl)
theorem dX4_must_19 : decode cX4_must 19 = .ok (.dup, 1) := dk_89 (dk_at dksX4_must_0 19 rfl rfl)
theorem dX4_must_20 : decode cX4_must 20 = .ok (.getfield 36, 3) := dk_180 0 36 (dk_at dksX4_must_0 20 rfl rfl)
theorem dX4_must_23 : decode cX4_must 23 = .ok (.iconst 1, 1) := dk_4 (dk_at dksX4_must_0 23 rfl rfl)
theorem dX4_must_24 : decode cX4_must 24 = .ok (.iadd, 1) := dk_96 (dk_at dksX4_must_1 0 rfl rfl)
theorem dX4_must_25 : decode cX4_must 25 = .ok (.putfield 36, 3) := dk_181 0 36 (dk_at dksX4_must_1 1 rfl rfl)
theorem dX4_must_28 : decode cX4_must 28 = .ok (.return_, 1) := dk_177 (dk_at dksX4_must_1 4 rfl rfl)
abbrev cX4_most : ByteArray := prog_17_method_12_code
def yX4_most : MethodName := ⟨RX4, "most", "(ZI)V"⟩
def dkwX4_most_0 : List UInt8 := [27, 153, 0, 10, 42, 8, 28, 182, 0, 47, 191, 177]
abbrev dktX4_most_0 : List UInt8 := dkwX4_most_0 ++ []
theorem dksX4_most_0 : cX4_most.data.toList.drop 0 = dktX4_most_0 := by decide +kernel
theorem dX4_most_0 : decode cX4_most 0 = .ok (.iload_n 1, 1) := dk_27 (dk_at dksX4_most_0 0 rfl rfl)
theorem dX4_most_1 : decode cX4_most 1 = .ok (.ifCond .eq 10, 3) := dk_153 0 10 (dk_at dksX4_most_0 1 rfl rfl)
theorem dX4_most_4 : decode cX4_most 4 = .ok (.aload_n 0, 1) := dk_42 (dk_at dksX4_most_0 4 rfl rfl)
theorem dX4_most_5 : decode cX4_most 5 = .ok (.iconst 5, 1) := dk_8 (dk_at dksX4_most_0 5 rfl rfl)
theorem dX4_most_6 : decode cX4_most 6 = .ok (.iload_n 2, 1) := dk_28 (dk_at dksX4_most_0 6 rfl rfl)
theorem dX4_most_7 : decode cX4_most 7 = .ok (.invokevirtual 47, 3) := dk_182 0 47 (dk_at dksX4_most_0 7 rfl rfl)
theorem dX4_most_10 : decode cX4_most 10 = .ok (.athrow, 1) := dk_191 (dk_at dksX4_most_0 10 rfl rfl)
theorem dX4_most_11 : decode cX4_most 11 = .ok (.return_, 1) := dk_177 (dk_at dksX4_most_0 11 rfl rfl)
abbrev cX4_tells : ByteArray := prog_17_method_15_code
def yX4_tells : MethodName := ⟨RX4, "tells", "(Ljava/lang/String;I)V"⟩
def dkwX4_tells_10 : List UInt8 := [180, 0, 92, 42, 182, 0, 174, 181, 0, 171, 167, 0, 10, 42, 4, 28, 182, 0, 47, 191, 177]
abbrev dktX4_tells_10 : List UInt8 := dkwX4_tells_10 ++ []
def dkwX4_tells_9 : List UInt8 := [180, 0, 171, 198, 0, 7, 4, 167, 0, 4, 3, 28, 182, 0, 122, 42, 16, 7, 181, 0, 164, 42]
abbrev dktX4_tells_9 : List UInt8 := dkwX4_tells_9 ++ dktX4_tells_10
def dkwX4_tells_8 : List UInt8 := [181, 0, 164, 42, 180, 0, 92, 42, 182, 0, 167, 181, 0, 161, 167, 0, 50, 42, 42, 180, 0, 92]
abbrev dktX4_tells_8 : List UInt8 := dkwX4_tells_8 ++ dktX4_tells_9
def dkwX4_tells_7 : List UInt8 := [42, 42, 180, 0, 92, 180, 0, 161, 198, 0, 7, 4, 167, 0, 4, 3, 28, 182, 0, 122, 42, 16, 31]
abbrev dktX4_tells_7 : List UInt8 := dkwX4_tells_7 ++ dktX4_tells_8
def dkwX4_tells_6 : List UInt8 := [42, 182, 0, 156, 167, 0, 107, 42, 180, 0, 92, 42, 3, 16, 100, 182, 0, 85, 181, 0, 159, 167, 0, 90]
abbrev dktX4_tells_6 : List UInt8 := dkwX4_tells_6 ++ dktX4_tells_7
def dkwX4_tells_5 : List UInt8 := [170, 0, 0, 0, 133, 0, 0, 0, 0, 0, 0, 0, 3, 0, 0, 0, 29, 0, 0, 0, 36, 0, 0, 0, 53, 0, 0, 0, 93]
abbrev dktX4_tells_5 : List UInt8 := dkwX4_tells_5 ++ dktX4_tells_6
def dkwX4_tells_4 : List UInt8 := [182, 0, 74, 153, 0, 6, 6, 54, 4, 21, 4]
abbrev dktX4_tells_4 : List UInt8 := dkwX4_tells_4 ++ dktX4_tells_5
def dkwX4_tells_3 : List UInt8 := [4, 54, 4, 167, 0, 30, 45, 18, 152, 182, 0, 74, 153, 0, 21, 5, 54, 4, 167, 0, 15, 45, 18, 154]
abbrev dktX4_tells_3 : List UInt8 := dkwX4_tells_3 ++ dktX4_tells_4
def dkwX4_tells_2 : List UInt8 := [45, 18, 148, 182, 0, 74, 153, 0, 51, 3, 54, 4, 167, 0, 45, 45, 18, 150, 182, 0, 74, 153, 0, 36]
abbrev dktX4_tells_2 : List UInt8 := dkwX4_tells_2 ++ dktX4_tells_3
def dkwX4_tells_1 : List UInt8 := [171, 0, 0, 0, 0, 0, 100, 0, 0, 0, 4, 175, 21, 225, 123, 0, 0, 0, 73, 0, 1, 179, 15, 0, 0, 0, 43, 6, 66, 39, 26, 0, 0, 0, 58, 6, 144, 92, 204, 0, 0, 0, 88]
abbrev dktX4_tells_1 : List UInt8 := dkwX4_tells_1 ++ dktX4_tells_2
def dkwX4_tells_0 : List UInt8 := [43, 78, 2, 54, 4, 45, 182, 0, 145]
abbrev dktX4_tells_0 : List UInt8 := dkwX4_tells_0 ++ dktX4_tells_1
theorem dksX4_tells_0 : cX4_tells.data.toList.drop 0 = dktX4_tells_0 := by decide +kernel
theorem dksX4_tells_1 : cX4_tells.data.toList.drop 9 = dktX4_tells_1 := dk_seg dksX4_tells_0 9 rfl rfl
theorem dksX4_tells_2 : cX4_tells.data.toList.drop 52 = dktX4_tells_2 := dk_seg dksX4_tells_1 43 rfl rfl
theorem dksX4_tells_3 : cX4_tells.data.toList.drop 76 = dktX4_tells_3 := dk_seg dksX4_tells_2 24 rfl rfl
theorem dksX4_tells_4 : cX4_tells.data.toList.drop 100 = dktX4_tells_4 := dk_seg dksX4_tells_3 24 rfl rfl
theorem dksX4_tells_5 : cX4_tells.data.toList.drop 111 = dktX4_tells_5 := dk_seg dksX4_tells_4 11 rfl rfl
theorem dksX4_tells_6 : cX4_tells.data.toList.drop 140 = dktX4_tells_6 := dk_seg dksX4_tells_5 29 rfl rfl
theorem dksX4_tells_7 : cX4_tells.data.toList.drop 164 = dktX4_tells_7 := dk_seg dksX4_tells_6 24 rfl rfl
theorem dksX4_tells_8 : cX4_tells.data.toList.drop 187 = dktX4_tells_8 := dk_seg dksX4_tells_7 23 rfl rfl
theorem dksX4_tells_9 : cX4_tells.data.toList.drop 209 = dktX4_tells_9 := dk_seg dksX4_tells_8 22 rfl rfl
theorem dksX4_tells_10 : cX4_tells.data.toList.drop 231 = dktX4_tells_10 := dk_seg dksX4_tells_9 22 rfl rfl
theorem dX4_tells_0 : decode cX4_tells 0 = .ok (.aload_n 1, 1) := dk_43 (dk_at dksX4_tells_0 0 rfl rfl)
theorem dX4_tells_1 : decode cX4_tells 1 = .ok (.astore_n 3, 1) := dk_78 (dk_at dksX4_tells_0 1 rfl rfl)
theorem dX4_tells_2 : decode cX4_tells 2 = .ok (.iconst (-1), 1) := dk_2 (dk_at dksX4_tells_0 2 rfl rfl)
theorem dX4_tells_3 : decode cX4_tells 3 = .ok (.istore 4, 2) := dk_54 4 (dk_at dksX4_tells_0 3 rfl rfl)
theorem dX4_tells_5 : decode cX4_tells 5 = .ok (.aload_n 3, 1) := dk_45 (dk_at dksX4_tells_0 5 rfl rfl)
theorem dX4_tells_6 : decode cX4_tells 6 = .ok (.invokevirtual 145, 3) := dk_182 0 145 (dk_at dksX4_tells_0 6 rfl rfl)
theorem dX4_tells_9 : decode cX4_tells 9 = .ok (.lookupswitch 100 #[(-1357520517, 73), (111375, 43), (104998682, 58), (110124236, 88)], 43) := by decide +kernel
theorem dX4_tells_52 : decode cX4_tells 52 = .ok (.aload_n 3, 1) := dk_45 (dk_at dksX4_tells_2 0 rfl rfl)
theorem dX4_tells_53 : decode cX4_tells 53 = .ok (.ldc 148, 2) := dk_18 148 (dk_at dksX4_tells_2 1 rfl rfl)
theorem dX4_tells_55 : decode cX4_tells 55 = .ok (.invokevirtual 74, 3) := dk_182 0 74 (dk_at dksX4_tells_2 3 rfl rfl)
theorem dX4_tells_58 : decode cX4_tells 58 = .ok (.ifCond .eq 51, 3) := dk_153 0 51 (dk_at dksX4_tells_2 6 rfl rfl)
theorem dX4_tells_61 : decode cX4_tells 61 = .ok (.iconst 0, 1) := dk_3 (dk_at dksX4_tells_2 9 rfl rfl)
theorem dX4_tells_62 : decode cX4_tells 62 = .ok (.istore 4, 2) := dk_54 4 (dk_at dksX4_tells_2 10 rfl rfl)
theorem dX4_tells_64 : decode cX4_tells 64 = .ok (.goto 45, 3) := dk_167 0 45 (dk_at dksX4_tells_2 12 rfl rfl)
theorem dX4_tells_67 : decode cX4_tells 67 = .ok (.aload_n 3, 1) := dk_45 (dk_at dksX4_tells_2 15 rfl rfl)
theorem dX4_tells_68 : decode cX4_tells 68 = .ok (.ldc 150, 2) := dk_18 150 (dk_at dksX4_tells_2 16 rfl rfl)
theorem dX4_tells_70 : decode cX4_tells 70 = .ok (.invokevirtual 74, 3) := dk_182 0 74 (dk_at dksX4_tells_2 18 rfl rfl)
theorem dX4_tells_73 : decode cX4_tells 73 = .ok (.ifCond .eq 36, 3) := dk_153 0 36 (dk_at dksX4_tells_2 21 rfl rfl)
theorem dX4_tells_76 : decode cX4_tells 76 = .ok (.iconst 1, 1) := dk_4 (dk_at dksX4_tells_3 0 rfl rfl)
theorem dX4_tells_77 : decode cX4_tells 77 = .ok (.istore 4, 2) := dk_54 4 (dk_at dksX4_tells_3 1 rfl rfl)
theorem dX4_tells_79 : decode cX4_tells 79 = .ok (.goto 30, 3) := dk_167 0 30 (dk_at dksX4_tells_3 3 rfl rfl)
theorem dX4_tells_82 : decode cX4_tells 82 = .ok (.aload_n 3, 1) := dk_45 (dk_at dksX4_tells_3 6 rfl rfl)
theorem dX4_tells_83 : decode cX4_tells 83 = .ok (.ldc 152, 2) := dk_18 152 (dk_at dksX4_tells_3 7 rfl rfl)
theorem dX4_tells_85 : decode cX4_tells 85 = .ok (.invokevirtual 74, 3) := dk_182 0 74 (dk_at dksX4_tells_3 9 rfl rfl)
theorem dX4_tells_88 : decode cX4_tells 88 = .ok (.ifCond .eq 21, 3) := dk_153 0 21 (dk_at dksX4_tells_3 12 rfl rfl)
theorem dX4_tells_91 : decode cX4_tells 91 = .ok (.iconst 2, 1) := dk_5 (dk_at dksX4_tells_3 15 rfl rfl)
theorem dX4_tells_92 : decode cX4_tells 92 = .ok (.istore 4, 2) := dk_54 4 (dk_at dksX4_tells_3 16 rfl rfl)
theorem dX4_tells_94 : decode cX4_tells 94 = .ok (.goto 15, 3) := dk_167 0 15 (dk_at dksX4_tells_3 18 rfl rfl)
theorem dX4_tells_97 : decode cX4_tells 97 = .ok (.aload_n 3, 1) := dk_45 (dk_at dksX4_tells_3 21 rfl rfl)
theorem dX4_tells_98 : decode cX4_tells 98 = .ok (.ldc 154, 2) := dk_18 154 (dk_at dksX4_tells_3 22 rfl rfl)
theorem dX4_tells_100 : decode cX4_tells 100 = .ok (.invokevirtual 74, 3) := dk_182 0 74 (dk_at dksX4_tells_4 0 rfl rfl)
theorem dX4_tells_103 : decode cX4_tells 103 = .ok (.ifCond .eq 6, 3) := dk_153 0 6 (dk_at dksX4_tells_4 3 rfl rfl)
theorem dX4_tells_106 : decode cX4_tells 106 = .ok (.iconst 3, 1) := dk_6 (dk_at dksX4_tells_4 6 rfl rfl)
theorem dX4_tells_107 : decode cX4_tells 107 = .ok (.istore 4, 2) := dk_54 4 (dk_at dksX4_tells_4 7 rfl rfl)
theorem dX4_tells_109 : decode cX4_tells 109 = .ok (.iload 4, 2) := dk_21 4 (dk_at dksX4_tells_4 9 rfl rfl)
theorem dX4_tells_111 : decode cX4_tells 111 = .ok (.tableswitch 133 0 3 #[29, 36, 53, 93], 29) := by decide +kernel
theorem dX4_tells_140 : decode cX4_tells 140 = .ok (.aload_n 0, 1) := dk_42 (dk_at dksX4_tells_6 0 rfl rfl)
theorem dX4_tells_141 : decode cX4_tells 141 = .ok (.invokevirtual 156, 3) := dk_182 0 156 (dk_at dksX4_tells_6 1 rfl rfl)
theorem dX4_tells_144 : decode cX4_tells 144 = .ok (.goto 107, 3) := dk_167 0 107 (dk_at dksX4_tells_6 4 rfl rfl)
theorem dX4_tells_147 : decode cX4_tells 147 = .ok (.aload_n 0, 1) := dk_42 (dk_at dksX4_tells_6 7 rfl rfl)
theorem dX4_tells_148 : decode cX4_tells 148 = .ok (.getfield 92, 3) := dk_180 0 92 (dk_at dksX4_tells_6 8 rfl rfl)
theorem dX4_tells_151 : decode cX4_tells 151 = .ok (.aload_n 0, 1) := dk_42 (dk_at dksX4_tells_6 11 rfl rfl)
theorem dX4_tells_152 : decode cX4_tells 152 = .ok (.iconst 0, 1) := dk_3 (dk_at dksX4_tells_6 12 rfl rfl)
theorem dX4_tells_153 : decode cX4_tells 153 = .ok (.bipush 100, 2) := dk_16 100 (dk_at dksX4_tells_6 13 rfl rfl)
theorem dX4_tells_155 : decode cX4_tells 155 = .ok (.invokevirtual 85, 3) := dk_182 0 85 (dk_at dksX4_tells_6 15 rfl rfl)
theorem dX4_tells_158 : decode cX4_tells 158 = .ok (.putfield 159, 3) := dk_181 0 159 (dk_at dksX4_tells_6 18 rfl rfl)
theorem dX4_tells_161 : decode cX4_tells 161 = .ok (.goto 90, 3) := dk_167 0 90 (dk_at dksX4_tells_6 21 rfl rfl)
theorem dX4_tells_164 : decode cX4_tells 164 = .ok (.aload_n 0, 1) := dk_42 (dk_at dksX4_tells_7 0 rfl rfl)
theorem dX4_tells_165 : decode cX4_tells 165 = .ok (.aload_n 0, 1) := dk_42 (dk_at dksX4_tells_7 1 rfl rfl)
theorem dX4_tells_166 : decode cX4_tells 166 = .ok (.getfield 92, 3) := dk_180 0 92 (dk_at dksX4_tells_7 2 rfl rfl)
theorem dX4_tells_169 : decode cX4_tells 169 = .ok (.getfield 161, 3) := dk_180 0 161 (dk_at dksX4_tells_7 5 rfl rfl)
theorem dX4_tells_172 : decode cX4_tells 172 = .ok (.ifnull 7, 3) := dk_198 0 7 (dk_at dksX4_tells_7 8 rfl rfl)
theorem dX4_tells_175 : decode cX4_tells 175 = .ok (.iconst 1, 1) := dk_4 (dk_at dksX4_tells_7 11 rfl rfl)
theorem dX4_tells_176 : decode cX4_tells 176 = .ok (.goto 4, 3) := dk_167 0 4 (dk_at dksX4_tells_7 12 rfl rfl)
theorem dX4_tells_179 : decode cX4_tells 179 = .ok (.iconst 0, 1) := dk_3 (dk_at dksX4_tells_7 15 rfl rfl)
theorem dX4_tells_180 : decode cX4_tells 180 = .ok (.iload_n 2, 1) := dk_28 (dk_at dksX4_tells_7 16 rfl rfl)
theorem dX4_tells_181 : decode cX4_tells 181 = .ok (.invokevirtual 122, 3) := dk_182 0 122 (dk_at dksX4_tells_7 17 rfl rfl)
theorem dX4_tells_184 : decode cX4_tells 184 = .ok (.aload_n 0, 1) := dk_42 (dk_at dksX4_tells_7 20 rfl rfl)
theorem dX4_tells_185 : decode cX4_tells 185 = .ok (.bipush 31, 2) := dk_16 31 (dk_at dksX4_tells_7 21 rfl rfl)
theorem dX4_tells_187 : decode cX4_tells 187 = .ok (.putfield 164, 3) := dk_181 0 164 (dk_at dksX4_tells_8 0 rfl rfl)
theorem dX4_tells_190 : decode cX4_tells 190 = .ok (.aload_n 0, 1) := dk_42 (dk_at dksX4_tells_8 3 rfl rfl)
theorem dX4_tells_191 : decode cX4_tells 191 = .ok (.getfield 92, 3) := dk_180 0 92 (dk_at dksX4_tells_8 4 rfl rfl)
theorem dX4_tells_194 : decode cX4_tells 194 = .ok (.aload_n 0, 1) := dk_42 (dk_at dksX4_tells_8 7 rfl rfl)
theorem dX4_tells_195 : decode cX4_tells 195 = .ok (.invokevirtual 167, 3) := dk_182 0 167 (dk_at dksX4_tells_8 8 rfl rfl)
theorem dX4_tells_198 : decode cX4_tells 198 = .ok (.putfield 161, 3) := dk_181 0 161 (dk_at dksX4_tells_8 11 rfl rfl)
theorem dX4_tells_201 : decode cX4_tells 201 = .ok (.goto 50, 3) := dk_167 0 50 (dk_at dksX4_tells_8 14 rfl rfl)
theorem dX4_tells_204 : decode cX4_tells 204 = .ok (.aload_n 0, 1) := dk_42 (dk_at dksX4_tells_8 17 rfl rfl)
theorem dX4_tells_205 : decode cX4_tells 205 = .ok (.aload_n 0, 1) := dk_42 (dk_at dksX4_tells_8 18 rfl rfl)
theorem dX4_tells_206 : decode cX4_tells 206 = .ok (.getfield 92, 3) := dk_180 0 92 (dk_at dksX4_tells_8 19 rfl rfl)
theorem dX4_tells_209 : decode cX4_tells 209 = .ok (.getfield 171, 3) := dk_180 0 171 (dk_at dksX4_tells_9 0 rfl rfl)
theorem dX4_tells_212 : decode cX4_tells 212 = .ok (.ifnull 7, 3) := dk_198 0 7 (dk_at dksX4_tells_9 3 rfl rfl)
theorem dX4_tells_215 : decode cX4_tells 215 = .ok (.iconst 1, 1) := dk_4 (dk_at dksX4_tells_9 6 rfl rfl)
theorem dX4_tells_216 : decode cX4_tells 216 = .ok (.goto 4, 3) := dk_167 0 4 (dk_at dksX4_tells_9 7 rfl rfl)
theorem dX4_tells_219 : decode cX4_tells 219 = .ok (.iconst 0, 1) := dk_3 (dk_at dksX4_tells_9 10 rfl rfl)
theorem dX4_tells_220 : decode cX4_tells 220 = .ok (.iload_n 2, 1) := dk_28 (dk_at dksX4_tells_9 11 rfl rfl)
theorem dX4_tells_221 : decode cX4_tells 221 = .ok (.invokevirtual 122, 3) := dk_182 0 122 (dk_at dksX4_tells_9 12 rfl rfl)
theorem dX4_tells_224 : decode cX4_tells 224 = .ok (.aload_n 0, 1) := dk_42 (dk_at dksX4_tells_9 15 rfl rfl)
theorem dX4_tells_225 : decode cX4_tells 225 = .ok (.bipush 7, 2) := dk_16 7 (dk_at dksX4_tells_9 16 rfl rfl)
theorem dX4_tells_227 : decode cX4_tells 227 = .ok (.putfield 164, 3) := dk_181 0 164 (dk_at dksX4_tells_9 18 rfl rfl)
theorem dX4_tells_230 : decode cX4_tells 230 = .ok (.aload_n 0, 1) := dk_42 (dk_at dksX4_tells_9 21 rfl rfl)
theorem dX4_tells_231 : decode cX4_tells 231 = .ok (.getfield 92, 3) := dk_180 0 92 (dk_at dksX4_tells_10 0 rfl rfl)
theorem dX4_tells_234 : decode cX4_tells 234 = .ok (.aload_n 0, 1) := dk_42 (dk_at dksX4_tells_10 3 rfl rfl)
theorem dX4_tells_235 : decode cX4_tells 235 = .ok (.invokevirtual 174, 3) := dk_182 0 174 (dk_at dksX4_tells_10 4 rfl rfl)
theorem dX4_tells_238 : decode cX4_tells 238 = .ok (.putfield 171, 3) := dk_181 0 171 (dk_at dksX4_tells_10 7 rfl rfl)
theorem dX4_tells_241 : decode cX4_tells 241 = .ok (.goto 10, 3) := dk_167 0 10 (dk_at dksX4_tells_10 10 rfl rfl)
theorem dX4_tells_244 : decode cX4_tells 244 = .ok (.aload_n 0, 1) := dk_42 (dk_at dksX4_tells_10 13 rfl rfl)
theorem dX4_tells_245 : decode cX4_tells 245 = .ok (.iconst 1, 1) := dk_4 (dk_at dksX4_tells_10 14 rfl rfl)
theorem dX4_tells_246 : decode cX4_tells 246 = .ok (.iload_n 2, 1) := dk_28 (dk_at dksX4_tells_10 15 rfl rfl)
theorem dX4_tells_247 : decode cX4_tells 247 = .ok (.invokevirtual 47, 3) := dk_182 0 47 (dk_at dksX4_tells_10 16 rfl rfl)
theorem dX4_tells_250 : decode cX4_tells 250 = .ok (.athrow, 1) := dk_191 (dk_at dksX4_tells_10 19 rfl rfl)
theorem dX4_tells_251 : decode cX4_tells 251 = .ok (.return_, 1) := dk_177 (dk_at dksX4_tells_10 20 rfl rfl)
abbrev cX4_readsPut : ByteArray := prog_17_method_14_code
def yX4_readsPut : MethodName := ⟨RX4, "readsPut", "()V"⟩
def dkwX4_readsPut_2 : List UInt8 := [185, 0, 140, 2, 0, 87, 177]
abbrev dktX4_readsPut_2 : List UInt8 := dkwX4_readsPut_2 ++ []
def dkwX4_readsPut_1 : List UInt8 := [187, 0, 134, 89, 3, 27, 28, 42, 18, 136, 3, 16, 40, 182, 0, 101, 3, 183, 0, 137]
abbrev dktX4_readsPut_1 : List UInt8 := dkwX4_readsPut_1 ++ dktX4_readsPut_2
def dkwX4_readsPut_0 : List UInt8 := [42, 3, 16, 15, 182, 0, 85, 60, 42, 3, 17, 3, 231, 182, 0, 85, 61, 42, 180, 0, 92, 180, 0, 130]
abbrev dktX4_readsPut_0 : List UInt8 := dkwX4_readsPut_0 ++ dktX4_readsPut_1
theorem dksX4_readsPut_0 : cX4_readsPut.data.toList.drop 0 = dktX4_readsPut_0 := by decide +kernel
theorem dksX4_readsPut_1 : cX4_readsPut.data.toList.drop 24 = dktX4_readsPut_1 := dk_seg dksX4_readsPut_0 24 rfl rfl
theorem dksX4_readsPut_2 : cX4_readsPut.data.toList.drop 44 = dktX4_readsPut_2 := dk_seg dksX4_readsPut_1 20 rfl rfl
theorem dX4_readsPut_0 : decode cX4_readsPut 0 = .ok (.aload_n 0, 1) := dk_42 (dk_at dksX4_readsPut_0 0 rfl rfl)
theorem dX4_readsPut_1 : decode cX4_readsPut 1 = .ok (.iconst 0, 1) := dk_3 (dk_at dksX4_readsPut_0 1 rfl rfl)
theorem dX4_readsPut_2 : decode cX4_readsPut 2 = .ok (.bipush 15, 2) := dk_16 15 (dk_at dksX4_readsPut_0 2 rfl rfl)
theorem dX4_readsPut_4 : decode cX4_readsPut 4 = .ok (.invokevirtual 85, 3) := dk_182 0 85 (dk_at dksX4_readsPut_0 4 rfl rfl)
theorem dX4_readsPut_7 : decode cX4_readsPut 7 = .ok (.istore_n 1, 1) := dk_60 (dk_at dksX4_readsPut_0 7 rfl rfl)
theorem dX4_readsPut_8 : decode cX4_readsPut 8 = .ok (.aload_n 0, 1) := dk_42 (dk_at dksX4_readsPut_0 8 rfl rfl)
theorem dX4_readsPut_9 : decode cX4_readsPut 9 = .ok (.iconst 0, 1) := dk_3 (dk_at dksX4_readsPut_0 9 rfl rfl)
theorem dX4_readsPut_10 : decode cX4_readsPut 10 = .ok (.sipush 999, 3) := dk_17 3 231 (dk_at dksX4_readsPut_0 10 rfl rfl)
theorem dX4_readsPut_13 : decode cX4_readsPut 13 = .ok (.invokevirtual 85, 3) := dk_182 0 85 (dk_at dksX4_readsPut_0 13 rfl rfl)
theorem dX4_readsPut_16 : decode cX4_readsPut 16 = .ok (.istore_n 2, 1) := dk_61 (dk_at dksX4_readsPut_0 16 rfl rfl)
theorem dX4_readsPut_17 : decode cX4_readsPut 17 = .ok (.aload_n 0, 1) := dk_42 (dk_at dksX4_readsPut_0 17 rfl rfl)
theorem dX4_readsPut_18 : decode cX4_readsPut 18 = .ok (.getfield 92, 3) := dk_180 0 92 (dk_at dksX4_readsPut_0 18 rfl rfl)
theorem dX4_readsPut_21 : decode cX4_readsPut 21 = .ok (.getfield 130, 3) := dk_180 0 130 (dk_at dksX4_readsPut_0 21 rfl rfl)
theorem dX4_readsPut_24 : decode cX4_readsPut 24 = .ok (.new 134, 3) := dk_187 0 134 (dk_at dksX4_readsPut_1 0 rfl rfl)
theorem dX4_readsPut_27 : decode cX4_readsPut 27 = .ok (.dup, 1) := dk_89 (dk_at dksX4_readsPut_1 3 rfl rfl)
theorem dX4_readsPut_28 : decode cX4_readsPut 28 = .ok (.iconst 0, 1) := dk_3 (dk_at dksX4_readsPut_1 4 rfl rfl)
theorem dX4_readsPut_29 : decode cX4_readsPut 29 = .ok (.iload_n 1, 1) := dk_27 (dk_at dksX4_readsPut_1 5 rfl rfl)
theorem dX4_readsPut_30 : decode cX4_readsPut 30 = .ok (.iload_n 2, 1) := dk_28 (dk_at dksX4_readsPut_1 6 rfl rfl)
theorem dX4_readsPut_31 : decode cX4_readsPut 31 = .ok (.aload_n 0, 1) := dk_42 (dk_at dksX4_readsPut_1 7 rfl rfl)
theorem dX4_readsPut_32 : decode cX4_readsPut 32 = .ok (.ldc 136, 2) := dk_18 136 (dk_at dksX4_readsPut_1 8 rfl rfl)
theorem dX4_readsPut_34 : decode cX4_readsPut 34 = .ok (.iconst 0, 1) := dk_3 (dk_at dksX4_readsPut_1 10 rfl rfl)
theorem dX4_readsPut_35 : decode cX4_readsPut 35 = .ok (.bipush 40, 2) := dk_16 40 (dk_at dksX4_readsPut_1 11 rfl rfl)
theorem dX4_readsPut_37 : decode cX4_readsPut 37 = .ok (.invokevirtual 101, 3) := dk_182 0 101 (dk_at dksX4_readsPut_1 13 rfl rfl)
theorem dX4_readsPut_40 : decode cX4_readsPut 40 = .ok (.iconst 0, 1) := dk_3 (dk_at dksX4_readsPut_1 16 rfl rfl)
theorem dX4_readsPut_41 : decode cX4_readsPut 41 = .ok (.invokespecial 137, 3) := dk_183 0 137 (dk_at dksX4_readsPut_1 17 rfl rfl)
theorem dX4_readsPut_44 : decode cX4_readsPut 44 = .ok (.invokeinterface 140 2, 5) := by decide +kernel
theorem dX4_readsPut_49 : decode cX4_readsPut 49 = .ok (.pop, 1) := dk_87 (dk_at dksX4_readsPut_2 5 rfl rfl)
theorem dX4_readsPut_50 : decode cX4_readsPut 50 = .ok (.return_, 1) := dk_177 (dk_at dksX4_readsPut_2 6 rfl rfl)
abbrev cX4_test : ByteArray := prog_17_method_22_code
def yX4_test : MethodName := ⟨RX4, "test", "()LGroupJournal$Test;"⟩
def dkwX4_test_2 : List UInt8 := [167, 255, 233, 43, 176]
abbrev dktX4_test_2 : List UInt8 := dkwX4_test_2 ++ []
def dkwX4_test_1 : List UInt8 := [18, 246, 182, 0, 248, 153, 0, 20, 43, 180, 0, 240, 42, 182, 0, 243, 185, 0, 140, 2, 0, 87]
abbrev dktX4_test_1 : List UInt8 := dkwX4_test_1 ++ dktX4_test_2
def dkwX4_test_0 : List UInt8 := [187, 0, 235, 89, 3, 183, 0, 237, 76, 43, 180, 0, 240, 42, 182, 0, 243, 185, 0, 140, 2, 0, 87, 42]
abbrev dktX4_test_0 : List UInt8 := dkwX4_test_0 ++ dktX4_test_1
theorem dksX4_test_0 : cX4_test.data.toList.drop 0 = dktX4_test_0 := by decide +kernel
theorem dksX4_test_1 : cX4_test.data.toList.drop 24 = dktX4_test_1 := dk_seg dksX4_test_0 24 rfl rfl
theorem dksX4_test_2 : cX4_test.data.toList.drop 46 = dktX4_test_2 := dk_seg dksX4_test_1 22 rfl rfl
theorem dX4_test_0 : decode cX4_test 0 = .ok (.new 235, 3) := dk_187 0 235 (dk_at dksX4_test_0 0 rfl rfl)
theorem dX4_test_3 : decode cX4_test 3 = .ok (.dup, 1) := dk_89 (dk_at dksX4_test_0 3 rfl rfl)
theorem dX4_test_4 : decode cX4_test 4 = .ok (.iconst 0, 1) := dk_3 (dk_at dksX4_test_0 4 rfl rfl)
theorem dX4_test_5 : decode cX4_test 5 = .ok (.invokespecial 237, 3) := dk_183 0 237 (dk_at dksX4_test_0 5 rfl rfl)
theorem dX4_test_8 : decode cX4_test 8 = .ok (.astore_n 1, 1) := dk_76 (dk_at dksX4_test_0 8 rfl rfl)
theorem dX4_test_9 : decode cX4_test 9 = .ok (.aload_n 1, 1) := dk_43 (dk_at dksX4_test_0 9 rfl rfl)
theorem dX4_test_10 : decode cX4_test 10 = .ok (.getfield 240, 3) := dk_180 0 240 (dk_at dksX4_test_0 10 rfl rfl)
theorem dX4_test_13 : decode cX4_test 13 = .ok (.aload_n 0, 1) := dk_42 (dk_at dksX4_test_0 13 rfl rfl)
theorem dX4_test_14 : decode cX4_test 14 = .ok (.invokevirtual 243, 3) := dk_182 0 243 (dk_at dksX4_test_0 14 rfl rfl)
theorem dX4_test_17 : decode cX4_test 17 = .ok (.invokeinterface 140 2, 5) := by decide +kernel
theorem dX4_test_22 : decode cX4_test 22 = .ok (.pop, 1) := dk_87 (dk_at dksX4_test_0 22 rfl rfl)
theorem dX4_test_23 : decode cX4_test 23 = .ok (.aload_n 0, 1) := dk_42 (dk_at dksX4_test_0 23 rfl rfl)
theorem dX4_test_24 : decode cX4_test 24 = .ok (.ldc 246, 2) := dk_18 246 (dk_at dksX4_test_1 0 rfl rfl)
theorem dX4_test_26 : decode cX4_test 26 = .ok (.invokevirtual 248, 3) := dk_182 0 248 (dk_at dksX4_test_1 2 rfl rfl)
theorem dX4_test_29 : decode cX4_test 29 = .ok (.ifCond .eq 20, 3) := dk_153 0 20 (dk_at dksX4_test_1 5 rfl rfl)
theorem dX4_test_32 : decode cX4_test 32 = .ok (.aload_n 1, 1) := dk_43 (dk_at dksX4_test_1 8 rfl rfl)
theorem dX4_test_33 : decode cX4_test 33 = .ok (.getfield 240, 3) := dk_180 0 240 (dk_at dksX4_test_1 9 rfl rfl)
theorem dX4_test_36 : decode cX4_test 36 = .ok (.aload_n 0, 1) := dk_42 (dk_at dksX4_test_1 12 rfl rfl)
theorem dX4_test_37 : decode cX4_test 37 = .ok (.invokevirtual 243, 3) := dk_182 0 243 (dk_at dksX4_test_1 13 rfl rfl)
theorem dX4_test_40 : decode cX4_test 40 = .ok (.invokeinterface 140 2, 5) := by decide +kernel
theorem dX4_test_45 : decode cX4_test 45 = .ok (.pop, 1) := dk_87 (dk_at dksX4_test_1 21 rfl rfl)
theorem dX4_test_46 : decode cX4_test 46 = .ok (.goto (-23), 3) := dk_167 255 233 (dk_at dksX4_test_2 0 rfl rfl)
theorem dX4_test_49 : decode cX4_test 49 = .ok (.aload_n 1, 1) := dk_43 (dk_at dksX4_test_2 3 rfl rfl)
theorem dX4_test_50 : decode cX4_test 50 = .ok (.areturn, 1) := dk_176 (dk_at dksX4_test_2 4 rfl rfl)
abbrev cX4_both : ByteArray := prog_17_method_23_code
def yX4_both : MethodName := ⟨RX4, "both", "()LGroupJournal$Test;"⟩
def dkwX4_both_2 : List UInt8 := [167, 255, 233, 43, 176]
abbrev dktX4_both_2 : List UInt8 := dkwX4_both_2 ++ []
def dkwX4_both_1 : List UInt8 := [18, 255, 182, 0, 248, 153, 0, 20, 43, 180, 0, 240, 42, 182, 0, 252, 185, 0, 140, 2, 0, 87]
abbrev dktX4_both_1 : List UInt8 := dkwX4_both_1 ++ dktX4_both_2
def dkwX4_both_0 : List UInt8 := [187, 0, 235, 89, 4, 183, 0, 237, 76, 43, 180, 0, 240, 42, 182, 0, 252, 185, 0, 140, 2, 0, 87, 42]
abbrev dktX4_both_0 : List UInt8 := dkwX4_both_0 ++ dktX4_both_1
theorem dksX4_both_0 : cX4_both.data.toList.drop 0 = dktX4_both_0 := by decide +kernel
theorem dksX4_both_1 : cX4_both.data.toList.drop 24 = dktX4_both_1 := dk_seg dksX4_both_0 24 rfl rfl
theorem dksX4_both_2 : cX4_both.data.toList.drop 46 = dktX4_both_2 := dk_seg dksX4_both_1 22 rfl rfl
theorem dX4_both_0 : decode cX4_both 0 = .ok (.new 235, 3) := dk_187 0 235 (dk_at dksX4_both_0 0 rfl rfl)
theorem dX4_both_3 : decode cX4_both 3 = .ok (.dup, 1) := dk_89 (dk_at dksX4_both_0 3 rfl rfl)
theorem dX4_both_4 : decode cX4_both 4 = .ok (.iconst 1, 1) := dk_4 (dk_at dksX4_both_0 4 rfl rfl)
theorem dX4_both_5 : decode cX4_both 5 = .ok (.invokespecial 237, 3) := dk_183 0 237 (dk_at dksX4_both_0 5 rfl rfl)
theorem dX4_both_8 : decode cX4_both 8 = .ok (.astore_n 1, 1) := dk_76 (dk_at dksX4_both_0 8 rfl rfl)
theorem dX4_both_9 : decode cX4_both 9 = .ok (.aload_n 1, 1) := dk_43 (dk_at dksX4_both_0 9 rfl rfl)
theorem dX4_both_10 : decode cX4_both 10 = .ok (.getfield 240, 3) := dk_180 0 240 (dk_at dksX4_both_0 10 rfl rfl)
theorem dX4_both_13 : decode cX4_both 13 = .ok (.aload_n 0, 1) := dk_42 (dk_at dksX4_both_0 13 rfl rfl)
theorem dX4_both_14 : decode cX4_both 14 = .ok (.invokevirtual 252, 3) := dk_182 0 252 (dk_at dksX4_both_0 14 rfl rfl)
theorem dX4_both_17 : decode cX4_both 17 = .ok (.invokeinterface 140 2, 5) := by decide +kernel
theorem dX4_both_22 : decode cX4_both 22 = .ok (.pop, 1) := dk_87 (dk_at dksX4_both_0 22 rfl rfl)
theorem dX4_both_23 : decode cX4_both 23 = .ok (.aload_n 0, 1) := dk_42 (dk_at dksX4_both_0 23 rfl rfl)
theorem dX4_both_24 : decode cX4_both 24 = .ok (.ldc 255, 2) := dk_18 255 (dk_at dksX4_both_1 0 rfl rfl)
theorem dX4_both_26 : decode cX4_both 26 = .ok (.invokevirtual 248, 3) := dk_182 0 248 (dk_at dksX4_both_1 2 rfl rfl)
theorem dX4_both_29 : decode cX4_both 29 = .ok (.ifCond .eq 20, 3) := dk_153 0 20 (dk_at dksX4_both_1 5 rfl rfl)
theorem dX4_both_32 : decode cX4_both 32 = .ok (.aload_n 1, 1) := dk_43 (dk_at dksX4_both_1 8 rfl rfl)
theorem dX4_both_33 : decode cX4_both 33 = .ok (.getfield 240, 3) := dk_180 0 240 (dk_at dksX4_both_1 9 rfl rfl)
theorem dX4_both_36 : decode cX4_both 36 = .ok (.aload_n 0, 1) := dk_42 (dk_at dksX4_both_1 12 rfl rfl)
theorem dX4_both_37 : decode cX4_both 37 = .ok (.invokevirtual 252, 3) := dk_182 0 252 (dk_at dksX4_both_1 13 rfl rfl)
theorem dX4_both_40 : decode cX4_both 40 = .ok (.invokeinterface 140 2, 5) := by decide +kernel
theorem dX4_both_45 : decode cX4_both 45 = .ok (.pop, 1) := dk_87 (dk_at dksX4_both_1 21 rfl rfl)
theorem dX4_both_46 : decode cX4_both 46 = .ok (.goto (-23), 3) := dk_167 255 233 (dk_at dksX4_both_2 0 rfl rfl)
theorem dX4_both_49 : decode cX4_both 49 = .ok (.aload_n 1, 1) := dk_43 (dk_at dksX4_both_2 3 rfl rfl)
theorem dX4_both_50 : decode cX4_both 50 = .ok (.areturn, 1) := dk_176 (dk_at dksX4_both_2 4 rfl rfl)
abbrev cX4_fact : ByteArray := prog_17_method_24_code
def yX4_fact : MethodName := ⟨RX4, "fact", "()LGroupJournal$Test;"⟩
def dkwX4_fact_7 : List UInt8 := [183, 1, 15, 176]
abbrev dktX4_fact_7 : List UInt8 := dkwX4_fact_7 ++ []
def dkwX4_fact_6 : List UInt8 := [182, 0, 47, 191, 42, 89, 180, 0, 36, 4, 96, 181, 0, 36, 187, 1, 13, 89, 43, 28, 42, 182, 0, 174]
abbrev dktX4_fact_6 : List UInt8 := dkwX4_fact_6 ++ dktX4_fact_7
def dkwX4_fact_5 : List UInt8 := [28, 16, 60, 159, 0, 25, 28, 16, 62, 159, 0, 19, 28, 16, 61, 159, 0, 13, 42, 4, 42, 180, 0, 36]
abbrev dktX4_fact_5 : List UInt8 := dkwX4_fact_5 ++ dktX4_fact_6
def dkwX4_fact_4 : List UInt8 := [182, 0, 248, 153, 0, 11, 187, 1, 10, 89, 183, 1, 12, 176, 42, 182, 0, 174, 76, 42, 182, 0, 43, 61]
abbrev dktX4_fact_4 : List UInt8 := dkwX4_fact_4 ++ dktX4_fact_5
def dkwX4_fact_3 : List UInt8 := [42, 182, 0, 252, 183, 1, 5, 76, 42, 89, 180, 0, 96, 4, 100, 181, 0, 96, 43, 176, 42, 19, 1, 8]
abbrev dktX4_fact_3 : List UInt8 := dkwX4_fact_3 ++ dktX4_fact_4
def dkwX4_fact_2 : List UInt8 := [43, 176, 42, 19, 1, 1, 182, 0, 248, 153, 0, 35, 42, 42, 180, 0, 61, 182, 0, 192, 187, 1, 3, 89]
abbrev dktX4_fact_2 : List UInt8 := dkwX4_fact_2 ++ dktX4_fact_3
def dkwX4_fact_1 : List UInt8 := [181, 0, 36, 42, 182, 0, 167, 76, 42, 16, 93, 182, 0, 115, 42, 89, 180, 0, 96, 4, 100, 181, 0, 96]
abbrev dktX4_fact_1 : List UInt8 := dkwX4_fact_1 ++ dktX4_fact_2
def dkwX4_fact_0 : List UInt8 := [42, 182, 0, 43, 16, 91, 160, 0, 44, 42, 42, 180, 0, 36, 182, 0, 192, 42, 89, 180, 0, 36, 4, 96]
abbrev dktX4_fact_0 : List UInt8 := dkwX4_fact_0 ++ dktX4_fact_1
theorem dksX4_fact_0 : cX4_fact.data.toList.drop 0 = dktX4_fact_0 := by decide +kernel
theorem dksX4_fact_1 : cX4_fact.data.toList.drop 24 = dktX4_fact_1 := dk_seg dksX4_fact_0 24 rfl rfl
theorem dksX4_fact_2 : cX4_fact.data.toList.drop 48 = dktX4_fact_2 := dk_seg dksX4_fact_1 24 rfl rfl
theorem dksX4_fact_3 : cX4_fact.data.toList.drop 72 = dktX4_fact_3 := dk_seg dksX4_fact_2 24 rfl rfl
theorem dksX4_fact_4 : cX4_fact.data.toList.drop 96 = dktX4_fact_4 := dk_seg dksX4_fact_3 24 rfl rfl
theorem dksX4_fact_5 : cX4_fact.data.toList.drop 120 = dktX4_fact_5 := dk_seg dksX4_fact_4 24 rfl rfl
theorem dksX4_fact_6 : cX4_fact.data.toList.drop 144 = dktX4_fact_6 := dk_seg dksX4_fact_5 24 rfl rfl
theorem dksX4_fact_7 : cX4_fact.data.toList.drop 168 = dktX4_fact_7 := dk_seg dksX4_fact_6 24 rfl rfl
theorem dX4_fact_0 : decode cX4_fact 0 = .ok (.aload_n 0, 1) := dk_42 (dk_at dksX4_fact_0 0 rfl rfl)
theorem dX4_fact_1 : decode cX4_fact 1 = .ok (.invokevirtual 43, 3) := dk_182 0 43 (dk_at dksX4_fact_0 1 rfl rfl)
theorem dX4_fact_4 : decode cX4_fact 4 = .ok (.bipush 91, 2) := dk_16 91 (dk_at dksX4_fact_0 4 rfl rfl)
theorem dX4_fact_6 : decode cX4_fact 6 = .ok (.if_icmp .ne 44, 3) := dk_160 0 44 (dk_at dksX4_fact_0 6 rfl rfl)
theorem dX4_fact_9 : decode cX4_fact 9 = .ok (.aload_n 0, 1) := dk_42 (dk_at dksX4_fact_0 9 rfl rfl)
theorem dX4_fact_10 : decode cX4_fact 10 = .ok (.aload_n 0, 1) := dk_42 (dk_at dksX4_fact_0 10 rfl rfl)
theorem dX4_fact_11 : decode cX4_fact 11 = .ok (.getfield 36, 3) := dk_180 0 36 (dk_at dksX4_fact_0 11 rfl rfl)
theorem dX4_fact_14 : decode cX4_fact 14 = .ok (.invokevirtual 192, 3) := dk_182 0 192 (dk_at dksX4_fact_0 14 rfl rfl)
theorem dX4_fact_17 : decode cX4_fact 17 = .ok (.aload_n 0, 1) := dk_42 (dk_at dksX4_fact_0 17 rfl rfl)
theorem dX4_fact_18 : decode cX4_fact 18 = .ok (.dup, 1) := dk_89 (dk_at dksX4_fact_0 18 rfl rfl)
theorem dX4_fact_19 : decode cX4_fact 19 = .ok (.getfield 36, 3) := dk_180 0 36 (dk_at dksX4_fact_0 19 rfl rfl)
theorem dX4_fact_22 : decode cX4_fact 22 = .ok (.iconst 1, 1) := dk_4 (dk_at dksX4_fact_0 22 rfl rfl)
theorem dX4_fact_23 : decode cX4_fact 23 = .ok (.iadd, 1) := dk_96 (dk_at dksX4_fact_0 23 rfl rfl)
theorem dX4_fact_24 : decode cX4_fact 24 = .ok (.putfield 36, 3) := dk_181 0 36 (dk_at dksX4_fact_1 0 rfl rfl)
theorem dX4_fact_27 : decode cX4_fact 27 = .ok (.aload_n 0, 1) := dk_42 (dk_at dksX4_fact_1 3 rfl rfl)
theorem dX4_fact_28 : decode cX4_fact 28 = .ok (.invokevirtual 167, 3) := dk_182 0 167 (dk_at dksX4_fact_1 4 rfl rfl)
theorem dX4_fact_31 : decode cX4_fact 31 = .ok (.astore_n 1, 1) := dk_76 (dk_at dksX4_fact_1 7 rfl rfl)
theorem dX4_fact_32 : decode cX4_fact 32 = .ok (.aload_n 0, 1) := dk_42 (dk_at dksX4_fact_1 8 rfl rfl)
theorem dX4_fact_33 : decode cX4_fact 33 = .ok (.bipush 93, 2) := dk_16 93 (dk_at dksX4_fact_1 9 rfl rfl)
theorem dX4_fact_35 : decode cX4_fact 35 = .ok (.invokevirtual 115, 3) := dk_182 0 115 (dk_at dksX4_fact_1 11 rfl rfl)
theorem dX4_fact_38 : decode cX4_fact 38 = .ok (.aload_n 0, 1) := dk_42 (dk_at dksX4_fact_1 14 rfl rfl)
theorem dX4_fact_39 : decode cX4_fact 39 = .ok (.dup, 1) := dk_89 (dk_at dksX4_fact_1 15 rfl rfl)
theorem dX4_fact_40 : decode cX4_fact 40 = .ok (.getfield 96, 3) := dk_180 0 96 (dk_at dksX4_fact_1 16 rfl rfl)
theorem dX4_fact_43 : decode cX4_fact 43 = .ok (.iconst 1, 1) := dk_4 (dk_at dksX4_fact_1 19 rfl rfl)
theorem dX4_fact_44 : decode cX4_fact 44 = .ok (.isub, 1) := dk_100 (dk_at dksX4_fact_1 20 rfl rfl)
theorem dX4_fact_45 : decode cX4_fact 45 = .ok (.putfield 96, 3) := dk_181 0 96 (dk_at dksX4_fact_1 21 rfl rfl)
theorem dX4_fact_48 : decode cX4_fact 48 = .ok (.aload_n 1, 1) := dk_43 (dk_at dksX4_fact_2 0 rfl rfl)
theorem dX4_fact_49 : decode cX4_fact 49 = .ok (.areturn, 1) := dk_176 (dk_at dksX4_fact_2 1 rfl rfl)
theorem dX4_fact_50 : decode cX4_fact 50 = .ok (.aload_n 0, 1) := dk_42 (dk_at dksX4_fact_2 2 rfl rfl)
theorem dX4_fact_51 : decode cX4_fact 51 = .ok (.ldc_w 257, 3) := dk_19 1 1 (dk_at dksX4_fact_2 3 rfl rfl)
theorem dX4_fact_54 : decode cX4_fact 54 = .ok (.invokevirtual 248, 3) := dk_182 0 248 (dk_at dksX4_fact_2 6 rfl rfl)
theorem dX4_fact_57 : decode cX4_fact 57 = .ok (.ifCond .eq 35, 3) := dk_153 0 35 (dk_at dksX4_fact_2 9 rfl rfl)
theorem dX4_fact_60 : decode cX4_fact 60 = .ok (.aload_n 0, 1) := dk_42 (dk_at dksX4_fact_2 12 rfl rfl)
theorem dX4_fact_61 : decode cX4_fact 61 = .ok (.aload_n 0, 1) := dk_42 (dk_at dksX4_fact_2 13 rfl rfl)
theorem dX4_fact_62 : decode cX4_fact 62 = .ok (.getfield 61, 3) := dk_180 0 61 (dk_at dksX4_fact_2 14 rfl rfl)
theorem dX4_fact_65 : decode cX4_fact 65 = .ok (.invokevirtual 192, 3) := dk_182 0 192 (dk_at dksX4_fact_2 17 rfl rfl)
theorem dX4_fact_68 : decode cX4_fact 68 = .ok (.new 259, 3) := dk_187 1 3 (dk_at dksX4_fact_2 20 rfl rfl)
theorem dX4_fact_71 : decode cX4_fact 71 = .ok (.dup, 1) := dk_89 (dk_at dksX4_fact_2 23 rfl rfl)
theorem dX4_fact_72 : decode cX4_fact 72 = .ok (.aload_n 0, 1) := dk_42 (dk_at dksX4_fact_3 0 rfl rfl)
theorem dX4_fact_73 : decode cX4_fact 73 = .ok (.invokevirtual 252, 3) := dk_182 0 252 (dk_at dksX4_fact_3 1 rfl rfl)
theorem dX4_fact_76 : decode cX4_fact 76 = .ok (.invokespecial 261, 3) := dk_183 1 5 (dk_at dksX4_fact_3 4 rfl rfl)
theorem dX4_fact_79 : decode cX4_fact 79 = .ok (.astore_n 1, 1) := dk_76 (dk_at dksX4_fact_3 7 rfl rfl)
theorem dX4_fact_80 : decode cX4_fact 80 = .ok (.aload_n 0, 1) := dk_42 (dk_at dksX4_fact_3 8 rfl rfl)
theorem dX4_fact_81 : decode cX4_fact 81 = .ok (.dup, 1) := dk_89 (dk_at dksX4_fact_3 9 rfl rfl)
theorem dX4_fact_82 : decode cX4_fact 82 = .ok (.getfield 96, 3) := dk_180 0 96 (dk_at dksX4_fact_3 10 rfl rfl)
theorem dX4_fact_85 : decode cX4_fact 85 = .ok (.iconst 1, 1) := dk_4 (dk_at dksX4_fact_3 13 rfl rfl)
theorem dX4_fact_86 : decode cX4_fact 86 = .ok (.isub, 1) := dk_100 (dk_at dksX4_fact_3 14 rfl rfl)
theorem dX4_fact_87 : decode cX4_fact 87 = .ok (.putfield 96, 3) := dk_181 0 96 (dk_at dksX4_fact_3 15 rfl rfl)
theorem dX4_fact_90 : decode cX4_fact 90 = .ok (.aload_n 1, 1) := dk_43 (dk_at dksX4_fact_3 18 rfl rfl)
theorem dX4_fact_91 : decode cX4_fact 91 = .ok (.areturn, 1) := dk_176 (dk_at dksX4_fact_3 19 rfl rfl)
theorem dX4_fact_92 : decode cX4_fact 92 = .ok (.aload_n 0, 1) := dk_42 (dk_at dksX4_fact_3 20 rfl rfl)
theorem dX4_fact_93 : decode cX4_fact 93 = .ok (.ldc_w 264, 3) := dk_19 1 8 (dk_at dksX4_fact_3 21 rfl rfl)
theorem dX4_fact_96 : decode cX4_fact 96 = .ok (.invokevirtual 248, 3) := dk_182 0 248 (dk_at dksX4_fact_4 0 rfl rfl)
theorem dX4_fact_99 : decode cX4_fact 99 = .ok (.ifCond .eq 11, 3) := dk_153 0 11 (dk_at dksX4_fact_4 3 rfl rfl)
theorem dX4_fact_102 : decode cX4_fact 102 = .ok (.new 266, 3) := dk_187 1 10 (dk_at dksX4_fact_4 6 rfl rfl)
theorem dX4_fact_105 : decode cX4_fact 105 = .ok (.dup, 1) := dk_89 (dk_at dksX4_fact_4 9 rfl rfl)
theorem dX4_fact_106 : decode cX4_fact 106 = .ok (.invokespecial 268, 3) := dk_183 1 12 (dk_at dksX4_fact_4 10 rfl rfl)
theorem dX4_fact_109 : decode cX4_fact 109 = .ok (.areturn, 1) := dk_176 (dk_at dksX4_fact_4 13 rfl rfl)
theorem dX4_fact_110 : decode cX4_fact 110 = .ok (.aload_n 0, 1) := dk_42 (dk_at dksX4_fact_4 14 rfl rfl)
theorem dX4_fact_111 : decode cX4_fact 111 = .ok (.invokevirtual 174, 3) := dk_182 0 174 (dk_at dksX4_fact_4 15 rfl rfl)
theorem dX4_fact_114 : decode cX4_fact 114 = .ok (.astore_n 1, 1) := dk_76 (dk_at dksX4_fact_4 18 rfl rfl)
theorem dX4_fact_115 : decode cX4_fact 115 = .ok (.aload_n 0, 1) := dk_42 (dk_at dksX4_fact_4 19 rfl rfl)
theorem dX4_fact_116 : decode cX4_fact 116 = .ok (.invokevirtual 43, 3) := dk_182 0 43 (dk_at dksX4_fact_4 20 rfl rfl)
theorem dX4_fact_119 : decode cX4_fact 119 = .ok (.istore_n 2, 1) := dk_61 (dk_at dksX4_fact_4 23 rfl rfl)
theorem dX4_fact_120 : decode cX4_fact 120 = .ok (.iload_n 2, 1) := dk_28 (dk_at dksX4_fact_5 0 rfl rfl)
theorem dX4_fact_121 : decode cX4_fact 121 = .ok (.bipush 60, 2) := dk_16 60 (dk_at dksX4_fact_5 1 rfl rfl)
theorem dX4_fact_123 : decode cX4_fact 123 = .ok (.if_icmp .eq 25, 3) := dk_159 0 25 (dk_at dksX4_fact_5 3 rfl rfl)
theorem dX4_fact_126 : decode cX4_fact 126 = .ok (.iload_n 2, 1) := dk_28 (dk_at dksX4_fact_5 6 rfl rfl)
theorem dX4_fact_127 : decode cX4_fact 127 = .ok (.bipush 62, 2) := dk_16 62 (dk_at dksX4_fact_5 7 rfl rfl)
theorem dX4_fact_129 : decode cX4_fact 129 = .ok (.if_icmp .eq 19, 3) := dk_159 0 19 (dk_at dksX4_fact_5 9 rfl rfl)
theorem dX4_fact_132 : decode cX4_fact 132 = .ok (.iload_n 2, 1) := dk_28 (dk_at dksX4_fact_5 12 rfl rfl)
theorem dX4_fact_133 : decode cX4_fact 133 = .ok (.bipush 61, 2) := dk_16 61 (dk_at dksX4_fact_5 13 rfl rfl)
theorem dX4_fact_135 : decode cX4_fact 135 = .ok (.if_icmp .eq 13, 3) := dk_159 0 13 (dk_at dksX4_fact_5 15 rfl rfl)
theorem dX4_fact_138 : decode cX4_fact 138 = .ok (.aload_n 0, 1) := dk_42 (dk_at dksX4_fact_5 18 rfl rfl)
theorem dX4_fact_139 : decode cX4_fact 139 = .ok (.iconst 1, 1) := dk_4 (dk_at dksX4_fact_5 19 rfl rfl)
theorem dX4_fact_140 : decode cX4_fact 140 = .ok (.aload_n 0, 1) := dk_42 (dk_at dksX4_fact_5 20 rfl rfl)
theorem dX4_fact_141 : decode cX4_fact 141 = .ok (.getfield 36, 3) := dk_180 0 36 (dk_at dksX4_fact_5 21 rfl rfl)
theorem dX4_fact_144 : decode cX4_fact 144 = .ok (.invokevirtual 47, 3) := dk_182 0 47 (dk_at dksX4_fact_6 0 rfl rfl)
theorem dX4_fact_147 : decode cX4_fact 147 = .ok (.athrow, 1) := dk_191 (dk_at dksX4_fact_6 3 rfl rfl)
theorem dX4_fact_148 : decode cX4_fact 148 = .ok (.aload_n 0, 1) := dk_42 (dk_at dksX4_fact_6 4 rfl rfl)
theorem dX4_fact_149 : decode cX4_fact 149 = .ok (.dup, 1) := dk_89 (dk_at dksX4_fact_6 5 rfl rfl)
theorem dX4_fact_150 : decode cX4_fact 150 = .ok (.getfield 36, 3) := dk_180 0 36 (dk_at dksX4_fact_6 6 rfl rfl)
theorem dX4_fact_153 : decode cX4_fact 153 = .ok (.iconst 1, 1) := dk_4 (dk_at dksX4_fact_6 9 rfl rfl)
theorem dX4_fact_154 : decode cX4_fact 154 = .ok (.iadd, 1) := dk_96 (dk_at dksX4_fact_6 10 rfl rfl)
theorem dX4_fact_155 : decode cX4_fact 155 = .ok (.putfield 36, 3) := dk_181 0 36 (dk_at dksX4_fact_6 11 rfl rfl)
theorem dX4_fact_158 : decode cX4_fact 158 = .ok (.new 269, 3) := dk_187 1 13 (dk_at dksX4_fact_6 14 rfl rfl)
theorem dX4_fact_161 : decode cX4_fact 161 = .ok (.dup, 1) := dk_89 (dk_at dksX4_fact_6 17 rfl rfl)
theorem dX4_fact_162 : decode cX4_fact 162 = .ok (.aload_n 1, 1) := dk_43 (dk_at dksX4_fact_6 18 rfl rfl)
theorem dX4_fact_163 : decode cX4_fact 163 = .ok (.iload_n 2, 1) := dk_28 (dk_at dksX4_fact_6 19 rfl rfl)
theorem dX4_fact_164 : decode cX4_fact 164 = .ok (.aload_n 0, 1) := dk_42 (dk_at dksX4_fact_6 20 rfl rfl)
theorem dX4_fact_165 : decode cX4_fact 165 = .ok (.invokevirtual 174, 3) := dk_182 0 174 (dk_at dksX4_fact_6 21 rfl rfl)
theorem dX4_fact_168 : decode cX4_fact 168 = .ok (.invokespecial 271, 3) := dk_183 1 15 (dk_at dksX4_fact_7 0 rfl rfl)
theorem dX4_fact_171 : decode cX4_fact 171 = .ok (.areturn, 1) := dk_176 (dk_at dksX4_fact_7 3 rfl rfl)
abbrev cX4_opens : ByteArray := prog_17_method_19_code
def yX4_opens : MethodName := ⟨RX4, "opens", "(I)V"⟩
def dkwX4_opens_1 : List UInt8 := [181, 0, 96, 177]
abbrev dktX4_opens_1 : List UInt8 := dkwX4_opens_1 ++ []
def dkwX4_opens_0 : List UInt8 := [42, 180, 0, 96, 16, 6, 160, 0, 10, 42, 7, 27, 182, 0, 47, 191, 42, 89, 180, 0, 96, 4, 96]
abbrev dktX4_opens_0 : List UInt8 := dkwX4_opens_0 ++ dktX4_opens_1
theorem dksX4_opens_0 : cX4_opens.data.toList.drop 0 = dktX4_opens_0 := by decide +kernel
theorem dksX4_opens_1 : cX4_opens.data.toList.drop 23 = dktX4_opens_1 := dk_seg dksX4_opens_0 23 rfl rfl
theorem dX4_opens_0 : decode cX4_opens 0 = .ok (.aload_n 0, 1) := dk_42 (dk_at dksX4_opens_0 0 rfl rfl)
theorem dX4_opens_1 : decode cX4_opens 1 = .ok (.getfield 96, 3) := dk_180 0 96 (dk_at dksX4_opens_0 1 rfl rfl)
theorem dX4_opens_4 : decode cX4_opens 4 = .ok (.bipush 6, 2) := dk_16 6 (dk_at dksX4_opens_0 4 rfl rfl)
theorem dX4_opens_6 : decode cX4_opens 6 = .ok (.if_icmp .ne 10, 3) := dk_160 0 10 (dk_at dksX4_opens_0 6 rfl rfl)
theorem dX4_opens_9 : decode cX4_opens 9 = .ok (.aload_n 0, 1) := dk_42 (dk_at dksX4_opens_0 9 rfl rfl)
theorem dX4_opens_10 : decode cX4_opens 10 = .ok (.iconst 4, 1) := dk_7 (dk_at dksX4_opens_0 10 rfl rfl)
theorem dX4_opens_11 : decode cX4_opens 11 = .ok (.iload_n 1, 1) := dk_27 (dk_at dksX4_opens_0 11 rfl rfl)
theorem dX4_opens_12 : decode cX4_opens 12 = .ok (.invokevirtual 47, 3) := dk_182 0 47 (dk_at dksX4_opens_0 12 rfl rfl)
theorem dX4_opens_15 : decode cX4_opens 15 = .ok (.athrow, 1) := dk_191 (dk_at dksX4_opens_0 15 rfl rfl)
theorem dX4_opens_16 : decode cX4_opens 16 = .ok (.aload_n 0, 1) := dk_42 (dk_at dksX4_opens_0 16 rfl rfl)
theorem dX4_opens_17 : decode cX4_opens 17 = .ok (.dup, 1) := dk_89 (dk_at dksX4_opens_0 17 rfl rfl)
theorem dX4_opens_18 : decode cX4_opens 18 = .ok (.getfield 96, 3) := dk_180 0 96 (dk_at dksX4_opens_0 18 rfl rfl)
theorem dX4_opens_21 : decode cX4_opens 21 = .ok (.iconst 1, 1) := dk_4 (dk_at dksX4_opens_0 21 rfl rfl)
theorem dX4_opens_22 : decode cX4_opens 22 = .ok (.iadd, 1) := dk_96 (dk_at dksX4_opens_0 22 rfl rfl)
theorem dX4_opens_23 : decode cX4_opens 23 = .ok (.putfield 96, 3) := dk_181 0 96 (dk_at dksX4_opens_1 0 rfl rfl)
theorem dX4_opens_26 : decode cX4_opens 26 = .ok (.return_, 1) := dk_177 (dk_at dksX4_opens_1 3 rfl rfl)
abbrev cX4_passes : ByteArray := prog_17_method_9_code
def yX4_passes : MethodName := ⟨RX4, "passes", "(Ljava/lang/String;)Z"⟩
def dkwX4_passes_1 : List UInt8 := [182, 0, 74, 153, 0, 5, 4, 172, 42, 28, 181, 0, 36, 3, 172]
abbrev dktX4_passes_1 : List UInt8 := dkwX4_passes_1 ++ []
def dkwX4_passes_0 : List UInt8 := [42, 180, 0, 36, 61, 42, 182, 0, 43, 184, 0, 51, 154, 0, 5, 3, 172, 42, 182, 0, 70, 43]
abbrev dktX4_passes_0 : List UInt8 := dkwX4_passes_0 ++ dktX4_passes_1
theorem dksX4_passes_0 : cX4_passes.data.toList.drop 0 = dktX4_passes_0 := by decide +kernel
theorem dksX4_passes_1 : cX4_passes.data.toList.drop 22 = dktX4_passes_1 := dk_seg dksX4_passes_0 22 rfl rfl
theorem dX4_passes_0 : decode cX4_passes 0 = .ok (.aload_n 0, 1) := dk_42 (dk_at dksX4_passes_0 0 rfl rfl)
theorem dX4_passes_1 : decode cX4_passes 1 = .ok (.getfield 36, 3) := dk_180 0 36 (dk_at dksX4_passes_0 1 rfl rfl)
theorem dX4_passes_4 : decode cX4_passes 4 = .ok (.istore_n 2, 1) := dk_61 (dk_at dksX4_passes_0 4 rfl rfl)
theorem dX4_passes_5 : decode cX4_passes 5 = .ok (.aload_n 0, 1) := dk_42 (dk_at dksX4_passes_0 5 rfl rfl)
theorem dX4_passes_6 : decode cX4_passes 6 = .ok (.invokevirtual 43, 3) := dk_182 0 43 (dk_at dksX4_passes_0 6 rfl rfl)
theorem dX4_passes_9 : decode cX4_passes 9 = .ok (.invokestatic 51, 3) := dk_184 0 51 (dk_at dksX4_passes_0 9 rfl rfl)
theorem dX4_passes_12 : decode cX4_passes 12 = .ok (.ifCond .ne 5, 3) := dk_154 0 5 (dk_at dksX4_passes_0 12 rfl rfl)
theorem dX4_passes_15 : decode cX4_passes 15 = .ok (.iconst 0, 1) := dk_3 (dk_at dksX4_passes_0 15 rfl rfl)
theorem dX4_passes_16 : decode cX4_passes 16 = .ok (.ireturn, 1) := dk_172 (dk_at dksX4_passes_0 16 rfl rfl)
theorem dX4_passes_17 : decode cX4_passes 17 = .ok (.aload_n 0, 1) := dk_42 (dk_at dksX4_passes_0 17 rfl rfl)
theorem dX4_passes_18 : decode cX4_passes 18 = .ok (.invokevirtual 70, 3) := dk_182 0 70 (dk_at dksX4_passes_0 18 rfl rfl)
theorem dX4_passes_21 : decode cX4_passes 21 = .ok (.aload_n 1, 1) := dk_43 (dk_at dksX4_passes_0 21 rfl rfl)
theorem dX4_passes_22 : decode cX4_passes 22 = .ok (.invokevirtual 74, 3) := dk_182 0 74 (dk_at dksX4_passes_1 0 rfl rfl)
theorem dX4_passes_25 : decode cX4_passes 25 = .ok (.ifCond .eq 5, 3) := dk_153 0 5 (dk_at dksX4_passes_1 3 rfl rfl)
theorem dX4_passes_28 : decode cX4_passes 28 = .ok (.iconst 1, 1) := dk_4 (dk_at dksX4_passes_1 6 rfl rfl)
theorem dX4_passes_29 : decode cX4_passes 29 = .ok (.ireturn, 1) := dk_172 (dk_at dksX4_passes_1 7 rfl rfl)
theorem dX4_passes_30 : decode cX4_passes 30 = .ok (.aload_n 0, 1) := dk_42 (dk_at dksX4_passes_1 8 rfl rfl)
theorem dX4_passes_31 : decode cX4_passes 31 = .ok (.iload_n 2, 1) := dk_28 (dk_at dksX4_passes_1 9 rfl rfl)
theorem dX4_passes_32 : decode cX4_passes 32 = .ok (.putfield 36, 3) := dk_181 0 36 (dk_at dksX4_passes_1 10 rfl rfl)
theorem dX4_passes_35 : decode cX4_passes 35 = .ok (.iconst 0, 1) := dk_3 (dk_at dksX4_passes_1 13 rfl rfl)
theorem dX4_passes_36 : decode cX4_passes 36 = .ok (.ireturn, 1) := dk_172 (dk_at dksX4_passes_1 14 rfl rfl)
abbrev cX4_sum : ByteArray := prog_17_method_17_code
def yX4_sum : MethodName := ⟨RX4, "sum", "()LGroupJournal$Value;"⟩
def dkwX4_sum_3 : List UInt8 := [167, 255, 206, 43, 176]
abbrev dktX4_sum_3 : List UInt8 := dkwX4_sum_3 ++ []
def dkwX4_sum_2 : List UInt8 := [16, 45, 182, 0, 187, 153, 0, 16, 43, 16, 45, 42, 182, 0, 181, 182, 0, 184, 167, 255, 211, 3, 61]
abbrev dktX4_sum_2 : List UInt8 := dkwX4_sum_2 ++ dktX4_sum_3
def dkwX4_sum_1 : List UInt8 := [42, 16, 43, 182, 0, 187, 153, 0, 16, 43, 16, 43, 42, 182, 0, 181, 182, 0, 184, 167, 255, 233, 42]
abbrev dktX4_sum_1 : List UInt8 := dkwX4_sum_1 ++ dktX4_sum_2
def dkwX4_sum_0 : List UInt8 := [187, 0, 178, 89, 183, 0, 180, 76, 43, 16, 43, 42, 182, 0, 181, 182, 0, 184, 4, 61, 28, 153, 0, 52]
abbrev dktX4_sum_0 : List UInt8 := dkwX4_sum_0 ++ dktX4_sum_1
theorem dksX4_sum_0 : cX4_sum.data.toList.drop 0 = dktX4_sum_0 := by decide +kernel
theorem dksX4_sum_1 : cX4_sum.data.toList.drop 24 = dktX4_sum_1 := dk_seg dksX4_sum_0 24 rfl rfl
theorem dksX4_sum_2 : cX4_sum.data.toList.drop 47 = dktX4_sum_2 := dk_seg dksX4_sum_1 23 rfl rfl
theorem dksX4_sum_3 : cX4_sum.data.toList.drop 70 = dktX4_sum_3 := dk_seg dksX4_sum_2 23 rfl rfl
theorem dX4_sum_0 : decode cX4_sum 0 = .ok (.new 178, 3) := dk_187 0 178 (dk_at dksX4_sum_0 0 rfl rfl)
theorem dX4_sum_3 : decode cX4_sum 3 = .ok (.dup, 1) := dk_89 (dk_at dksX4_sum_0 3 rfl rfl)
theorem dX4_sum_4 : decode cX4_sum 4 = .ok (.invokespecial 180, 3) := dk_183 0 180 (dk_at dksX4_sum_0 4 rfl rfl)
theorem dX4_sum_7 : decode cX4_sum 7 = .ok (.astore_n 1, 1) := dk_76 (dk_at dksX4_sum_0 7 rfl rfl)
theorem dX4_sum_8 : decode cX4_sum 8 = .ok (.aload_n 1, 1) := dk_43 (dk_at dksX4_sum_0 8 rfl rfl)
theorem dX4_sum_9 : decode cX4_sum 9 = .ok (.bipush 43, 2) := dk_16 43 (dk_at dksX4_sum_0 9 rfl rfl)
theorem dX4_sum_11 : decode cX4_sum 11 = .ok (.aload_n 0, 1) := dk_42 (dk_at dksX4_sum_0 11 rfl rfl)
theorem dX4_sum_12 : decode cX4_sum 12 = .ok (.invokevirtual 181, 3) := dk_182 0 181 (dk_at dksX4_sum_0 12 rfl rfl)
theorem dX4_sum_15 : decode cX4_sum 15 = .ok (.invokevirtual 184, 3) := dk_182 0 184 (dk_at dksX4_sum_0 15 rfl rfl)
theorem dX4_sum_18 : decode cX4_sum 18 = .ok (.iconst 1, 1) := dk_4 (dk_at dksX4_sum_0 18 rfl rfl)
theorem dX4_sum_19 : decode cX4_sum 19 = .ok (.istore_n 2, 1) := dk_61 (dk_at dksX4_sum_0 19 rfl rfl)
theorem dX4_sum_20 : decode cX4_sum 20 = .ok (.iload_n 2, 1) := dk_28 (dk_at dksX4_sum_0 20 rfl rfl)
theorem dX4_sum_21 : decode cX4_sum 21 = .ok (.ifCond .eq 52, 3) := dk_153 0 52 (dk_at dksX4_sum_0 21 rfl rfl)
theorem dX4_sum_24 : decode cX4_sum 24 = .ok (.aload_n 0, 1) := dk_42 (dk_at dksX4_sum_1 0 rfl rfl)
theorem dX4_sum_25 : decode cX4_sum 25 = .ok (.bipush 43, 2) := dk_16 43 (dk_at dksX4_sum_1 1 rfl rfl)
theorem dX4_sum_27 : decode cX4_sum 27 = .ok (.invokevirtual 187, 3) := dk_182 0 187 (dk_at dksX4_sum_1 3 rfl rfl)
theorem dX4_sum_30 : decode cX4_sum 30 = .ok (.ifCond .eq 16, 3) := dk_153 0 16 (dk_at dksX4_sum_1 6 rfl rfl)
theorem dX4_sum_33 : decode cX4_sum 33 = .ok (.aload_n 1, 1) := dk_43 (dk_at dksX4_sum_1 9 rfl rfl)
theorem dX4_sum_34 : decode cX4_sum 34 = .ok (.bipush 43, 2) := dk_16 43 (dk_at dksX4_sum_1 10 rfl rfl)
theorem dX4_sum_36 : decode cX4_sum 36 = .ok (.aload_n 0, 1) := dk_42 (dk_at dksX4_sum_1 12 rfl rfl)
theorem dX4_sum_37 : decode cX4_sum 37 = .ok (.invokevirtual 181, 3) := dk_182 0 181 (dk_at dksX4_sum_1 13 rfl rfl)
theorem dX4_sum_40 : decode cX4_sum 40 = .ok (.invokevirtual 184, 3) := dk_182 0 184 (dk_at dksX4_sum_1 16 rfl rfl)
theorem dX4_sum_43 : decode cX4_sum 43 = .ok (.goto (-23), 3) := dk_167 255 233 (dk_at dksX4_sum_1 19 rfl rfl)
theorem dX4_sum_46 : decode cX4_sum 46 = .ok (.aload_n 0, 1) := dk_42 (dk_at dksX4_sum_1 22 rfl rfl)
theorem dX4_sum_47 : decode cX4_sum 47 = .ok (.bipush 45, 2) := dk_16 45 (dk_at dksX4_sum_2 0 rfl rfl)
theorem dX4_sum_49 : decode cX4_sum 49 = .ok (.invokevirtual 187, 3) := dk_182 0 187 (dk_at dksX4_sum_2 2 rfl rfl)
theorem dX4_sum_52 : decode cX4_sum 52 = .ok (.ifCond .eq 16, 3) := dk_153 0 16 (dk_at dksX4_sum_2 5 rfl rfl)
theorem dX4_sum_55 : decode cX4_sum 55 = .ok (.aload_n 1, 1) := dk_43 (dk_at dksX4_sum_2 8 rfl rfl)
theorem dX4_sum_56 : decode cX4_sum 56 = .ok (.bipush 45, 2) := dk_16 45 (dk_at dksX4_sum_2 9 rfl rfl)
theorem dX4_sum_58 : decode cX4_sum 58 = .ok (.aload_n 0, 1) := dk_42 (dk_at dksX4_sum_2 11 rfl rfl)
theorem dX4_sum_59 : decode cX4_sum 59 = .ok (.invokevirtual 181, 3) := dk_182 0 181 (dk_at dksX4_sum_2 12 rfl rfl)
theorem dX4_sum_62 : decode cX4_sum 62 = .ok (.invokevirtual 184, 3) := dk_182 0 184 (dk_at dksX4_sum_2 15 rfl rfl)
theorem dX4_sum_65 : decode cX4_sum 65 = .ok (.goto (-45), 3) := dk_167 255 211 (dk_at dksX4_sum_2 18 rfl rfl)
theorem dX4_sum_68 : decode cX4_sum 68 = .ok (.iconst 0, 1) := dk_3 (dk_at dksX4_sum_2 21 rfl rfl)
theorem dX4_sum_69 : decode cX4_sum 69 = .ok (.istore_n 2, 1) := dk_61 (dk_at dksX4_sum_2 22 rfl rfl)
theorem dX4_sum_70 : decode cX4_sum 70 = .ok (.goto (-50), 3) := dk_167 255 206 (dk_at dksX4_sum_3 0 rfl rfl)
theorem dX4_sum_73 : decode cX4_sum 73 = .ok (.aload_n 1, 1) := dk_43 (dk_at dksX4_sum_3 3 rfl rfl)
theorem dX4_sum_74 : decode cX4_sum 74 = .ok (.areturn, 1) := dk_176 (dk_at dksX4_sum_3 4 rfl rfl)
abbrev cX4_product : ByteArray := prog_17_method_18_code
def yX4_product : MethodName := ⟨RX4, "product", "()LGroupJournal$Value;"⟩
def dkwX4_product_3 : List UInt8 := [167, 255, 206, 43, 176]
abbrev dktX4_product_3 : List UInt8 := dkwX4_product_3 ++ []
def dkwX4_product_2 : List UInt8 := [16, 47, 182, 0, 187, 153, 0, 16, 43, 16, 47, 42, 182, 0, 189, 182, 0, 184, 167, 255, 211, 3, 61]
abbrev dktX4_product_2 : List UInt8 := dkwX4_product_2 ++ dktX4_product_3
def dkwX4_product_1 : List UInt8 := [42, 16, 42, 182, 0, 187, 153, 0, 16, 43, 16, 42, 42, 182, 0, 189, 182, 0, 184, 167, 255, 233, 42]
abbrev dktX4_product_1 : List UInt8 := dkwX4_product_1 ++ dktX4_product_2
def dkwX4_product_0 : List UInt8 := [187, 0, 178, 89, 183, 0, 180, 76, 43, 16, 42, 42, 182, 0, 189, 182, 0, 184, 4, 61, 28, 153, 0, 52]
abbrev dktX4_product_0 : List UInt8 := dkwX4_product_0 ++ dktX4_product_1
theorem dksX4_product_0 : cX4_product.data.toList.drop 0 = dktX4_product_0 := by decide +kernel
theorem dksX4_product_1 : cX4_product.data.toList.drop 24 = dktX4_product_1 := dk_seg dksX4_product_0 24 rfl rfl
theorem dksX4_product_2 : cX4_product.data.toList.drop 47 = dktX4_product_2 := dk_seg dksX4_product_1 23 rfl rfl
theorem dksX4_product_3 : cX4_product.data.toList.drop 70 = dktX4_product_3 := dk_seg dksX4_product_2 23 rfl rfl
theorem dX4_product_0 : decode cX4_product 0 = .ok (.new 178, 3) := dk_187 0 178 (dk_at dksX4_product_0 0 rfl rfl)
theorem dX4_product_3 : decode cX4_product 3 = .ok (.dup, 1) := dk_89 (dk_at dksX4_product_0 3 rfl rfl)
theorem dX4_product_4 : decode cX4_product 4 = .ok (.invokespecial 180, 3) := dk_183 0 180 (dk_at dksX4_product_0 4 rfl rfl)
theorem dX4_product_7 : decode cX4_product 7 = .ok (.astore_n 1, 1) := dk_76 (dk_at dksX4_product_0 7 rfl rfl)
theorem dX4_product_8 : decode cX4_product 8 = .ok (.aload_n 1, 1) := dk_43 (dk_at dksX4_product_0 8 rfl rfl)
theorem dX4_product_9 : decode cX4_product 9 = .ok (.bipush 42, 2) := dk_16 42 (dk_at dksX4_product_0 9 rfl rfl)
theorem dX4_product_11 : decode cX4_product 11 = .ok (.aload_n 0, 1) := dk_42 (dk_at dksX4_product_0 11 rfl rfl)
theorem dX4_product_12 : decode cX4_product 12 = .ok (.invokevirtual 189, 3) := dk_182 0 189 (dk_at dksX4_product_0 12 rfl rfl)
theorem dX4_product_15 : decode cX4_product 15 = .ok (.invokevirtual 184, 3) := dk_182 0 184 (dk_at dksX4_product_0 15 rfl rfl)
theorem dX4_product_18 : decode cX4_product 18 = .ok (.iconst 1, 1) := dk_4 (dk_at dksX4_product_0 18 rfl rfl)
theorem dX4_product_19 : decode cX4_product 19 = .ok (.istore_n 2, 1) := dk_61 (dk_at dksX4_product_0 19 rfl rfl)
theorem dX4_product_20 : decode cX4_product 20 = .ok (.iload_n 2, 1) := dk_28 (dk_at dksX4_product_0 20 rfl rfl)
theorem dX4_product_21 : decode cX4_product 21 = .ok (.ifCond .eq 52, 3) := dk_153 0 52 (dk_at dksX4_product_0 21 rfl rfl)
theorem dX4_product_24 : decode cX4_product 24 = .ok (.aload_n 0, 1) := dk_42 (dk_at dksX4_product_1 0 rfl rfl)
theorem dX4_product_25 : decode cX4_product 25 = .ok (.bipush 42, 2) := dk_16 42 (dk_at dksX4_product_1 1 rfl rfl)
theorem dX4_product_27 : decode cX4_product 27 = .ok (.invokevirtual 187, 3) := dk_182 0 187 (dk_at dksX4_product_1 3 rfl rfl)
theorem dX4_product_30 : decode cX4_product 30 = .ok (.ifCond .eq 16, 3) := dk_153 0 16 (dk_at dksX4_product_1 6 rfl rfl)
theorem dX4_product_33 : decode cX4_product 33 = .ok (.aload_n 1, 1) := dk_43 (dk_at dksX4_product_1 9 rfl rfl)
theorem dX4_product_34 : decode cX4_product 34 = .ok (.bipush 42, 2) := dk_16 42 (dk_at dksX4_product_1 10 rfl rfl)
theorem dX4_product_36 : decode cX4_product 36 = .ok (.aload_n 0, 1) := dk_42 (dk_at dksX4_product_1 12 rfl rfl)
theorem dX4_product_37 : decode cX4_product 37 = .ok (.invokevirtual 189, 3) := dk_182 0 189 (dk_at dksX4_product_1 13 rfl rfl)
theorem dX4_product_40 : decode cX4_product 40 = .ok (.invokevirtual 184, 3) := dk_182 0 184 (dk_at dksX4_product_1 16 rfl rfl)
theorem dX4_product_43 : decode cX4_product 43 = .ok (.goto (-23), 3) := dk_167 255 233 (dk_at dksX4_product_1 19 rfl rfl)
theorem dX4_product_46 : decode cX4_product 46 = .ok (.aload_n 0, 1) := dk_42 (dk_at dksX4_product_1 22 rfl rfl)
theorem dX4_product_47 : decode cX4_product 47 = .ok (.bipush 47, 2) := dk_16 47 (dk_at dksX4_product_2 0 rfl rfl)
theorem dX4_product_49 : decode cX4_product 49 = .ok (.invokevirtual 187, 3) := dk_182 0 187 (dk_at dksX4_product_2 2 rfl rfl)
theorem dX4_product_52 : decode cX4_product 52 = .ok (.ifCond .eq 16, 3) := dk_153 0 16 (dk_at dksX4_product_2 5 rfl rfl)
theorem dX4_product_55 : decode cX4_product 55 = .ok (.aload_n 1, 1) := dk_43 (dk_at dksX4_product_2 8 rfl rfl)
theorem dX4_product_56 : decode cX4_product 56 = .ok (.bipush 47, 2) := dk_16 47 (dk_at dksX4_product_2 9 rfl rfl)
theorem dX4_product_58 : decode cX4_product 58 = .ok (.aload_n 0, 1) := dk_42 (dk_at dksX4_product_2 11 rfl rfl)
theorem dX4_product_59 : decode cX4_product 59 = .ok (.invokevirtual 189, 3) := dk_182 0 189 (dk_at dksX4_product_2 12 rfl rfl)
theorem dX4_product_62 : decode cX4_product 62 = .ok (.invokevirtual 184, 3) := dk_182 0 184 (dk_at dksX4_product_2 15 rfl rfl)
theorem dX4_product_65 : decode cX4_product 65 = .ok (.goto (-45), 3) := dk_167 255 211 (dk_at dksX4_product_2 18 rfl rfl)
theorem dX4_product_68 : decode cX4_product 68 = .ok (.iconst 0, 1) := dk_3 (dk_at dksX4_product_2 21 rfl rfl)
theorem dX4_product_69 : decode cX4_product 69 = .ok (.istore_n 2, 1) := dk_61 (dk_at dksX4_product_2 22 rfl rfl)
theorem dX4_product_70 : decode cX4_product 70 = .ok (.goto (-50), 3) := dk_167 255 206 (dk_at dksX4_product_3 0 rfl rfl)
theorem dX4_product_73 : decode cX4_product 73 = .ok (.aload_n 1, 1) := dk_43 (dk_at dksX4_product_3 3 rfl rfl)
theorem dX4_product_74 : decode cX4_product 74 = .ok (.areturn, 1) := dk_176 (dk_at dksX4_product_3 4 rfl rfl)
abbrev cX4_atom : ByteArray := prog_17_method_21_code
def yX4_atom : MethodName := ⟨RX4, "atom", "()LGroupJournal$Value;"⟩
def dkwX4_atom_6 : List UInt8 := [182, 0, 47, 191, 42, 43, 18, 231, 182, 0, 74, 153, 0, 7, 4, 167, 0, 4, 5, 182, 0, 200, 176]
abbrev dktX4_atom_6 : List UInt8 := dkwX4_atom_6 ++ []
def dkwX4_atom_5 : List UInt8 := [18, 231, 182, 0, 74, 154, 0, 22, 43, 18, 233, 182, 0, 74, 154, 0, 13, 42, 4, 42, 180, 0, 61]
abbrev dktX4_atom_5 : List UInt8 := dkwX4_atom_5 ++ dktX4_atom_6
def dkwX4_atom_4 : List UInt8 := [178, 0, 225, 184, 0, 213, 167, 0, 4, 2, 61, 28, 2, 159, 0, 9, 42, 28, 182, 0, 228, 176, 43]
abbrev dktX4_atom_4 : List UInt8 := dkwX4_atom_4 ++ dktX4_atom_5
def dkwX4_atom_3 : List UInt8 := [153, 0, 12, 187, 0, 221, 89, 28, 183, 0, 223, 176, 42, 180, 0, 164, 17, 1, 225, 160, 0, 13, 43]
abbrev dktX4_atom_3 : List UInt8 := dkwX4_atom_3 ++ dktX4_atom_4
def dkwX4_atom_2 : List UInt8 := [76, 43, 178, 0, 209, 184, 0, 213, 61, 28, 2, 159, 0, 23, 42, 180, 0, 164, 28, 184, 0, 217]
abbrev dktX4_atom_2 : List UInt8 := dkwX4_atom_2 ++ dktX4_atom_3
def dkwX4_atom_1 : List UInt8 := [153, 0, 20, 187, 0, 204, 89, 42, 3, 17, 39, 15, 182, 0, 85, 133, 183, 0, 206, 176, 42, 182, 0, 70]
abbrev dktX4_atom_1 : List UInt8 := dkwX4_atom_1 ++ dktX4_atom_2
def dkwX4_atom_0 : List UInt8 := [42, 182, 0, 43, 16, 40, 160, 0, 9, 42, 3, 182, 0, 200, 176, 42, 182, 0, 43, 184, 0, 55]
abbrev dktX4_atom_0 : List UInt8 := dkwX4_atom_0 ++ dktX4_atom_1
theorem dksX4_atom_0 : cX4_atom.data.toList.drop 0 = dktX4_atom_0 := by decide +kernel
theorem dksX4_atom_1 : cX4_atom.data.toList.drop 22 = dktX4_atom_1 := dk_seg dksX4_atom_0 22 rfl rfl
theorem dksX4_atom_2 : cX4_atom.data.toList.drop 46 = dktX4_atom_2 := dk_seg dksX4_atom_1 24 rfl rfl
theorem dksX4_atom_3 : cX4_atom.data.toList.drop 68 = dktX4_atom_3 := dk_seg dksX4_atom_2 22 rfl rfl
theorem dksX4_atom_4 : cX4_atom.data.toList.drop 91 = dktX4_atom_4 := dk_seg dksX4_atom_3 23 rfl rfl
theorem dksX4_atom_5 : cX4_atom.data.toList.drop 114 = dktX4_atom_5 := dk_seg dksX4_atom_4 23 rfl rfl
theorem dksX4_atom_6 : cX4_atom.data.toList.drop 137 = dktX4_atom_6 := dk_seg dksX4_atom_5 23 rfl rfl
theorem dX4_atom_0 : decode cX4_atom 0 = .ok (.aload_n 0, 1) := dk_42 (dk_at dksX4_atom_0 0 rfl rfl)
theorem dX4_atom_1 : decode cX4_atom 1 = .ok (.invokevirtual 43, 3) := dk_182 0 43 (dk_at dksX4_atom_0 1 rfl rfl)
theorem dX4_atom_4 : decode cX4_atom 4 = .ok (.bipush 40, 2) := dk_16 40 (dk_at dksX4_atom_0 4 rfl rfl)
theorem dX4_atom_6 : decode cX4_atom 6 = .ok (.if_icmp .ne 9, 3) := dk_160 0 9 (dk_at dksX4_atom_0 6 rfl rfl)
theorem dX4_atom_9 : decode cX4_atom 9 = .ok (.aload_n 0, 1) := dk_42 (dk_at dksX4_atom_0 9 rfl rfl)
theorem dX4_atom_10 : decode cX4_atom 10 = .ok (.iconst 0, 1) := dk_3 (dk_at dksX4_atom_0 10 rfl rfl)
theorem dX4_atom_11 : decode cX4_atom 11 = .ok (.invokevirtual 200, 3) := dk_182 0 200 (dk_at dksX4_atom_0 11 rfl rfl)
theorem dX4_atom_14 : decode cX4_atom 14 = .ok (.areturn, 1) := dk_176 (dk_at dksX4_atom_0 14 rfl rfl)
theorem dX4_atom_15 : decode cX4_atom 15 = .ok (.aload_n 0, 1) := dk_42 (dk_at dksX4_atom_0 15 rfl rfl)
theorem dX4_atom_16 : decode cX4_atom 16 = .ok (.invokevirtual 43, 3) := dk_182 0 43 (dk_at dksX4_atom_0 16 rfl rfl)
theorem dX4_atom_19 : decode cX4_atom 19 = .ok (.invokestatic 55, 3) := dk_184 0 55 (dk_at dksX4_atom_0 19 rfl rfl)
theorem dX4_atom_22 : decode cX4_atom 22 = .ok (.ifCond .eq 20, 3) := dk_153 0 20 (dk_at dksX4_atom_1 0 rfl rfl)
theorem dX4_atom_25 : decode cX4_atom 25 = .ok (.new 204, 3) := dk_187 0 204 (dk_at dksX4_atom_1 3 rfl rfl)
theorem dX4_atom_28 : decode cX4_atom 28 = .ok (.dup, 1) := dk_89 (dk_at dksX4_atom_1 6 rfl rfl)
theorem dX4_atom_29 : decode cX4_atom 29 = .ok (.aload_n 0, 1) := dk_42 (dk_at dksX4_atom_1 7 rfl rfl)
theorem dX4_atom_30 : decode cX4_atom 30 = .ok (.iconst 0, 1) := dk_3 (dk_at dksX4_atom_1 8 rfl rfl)
theorem dX4_atom_31 : decode cX4_atom 31 = .ok (.sipush 9999, 3) := dk_17 39 15 (dk_at dksX4_atom_1 9 rfl rfl)
theorem dX4_atom_34 : decode cX4_atom 34 = .ok (.invokevirtual 85, 3) := dk_182 0 85 (dk_at dksX4_atom_1 12 rfl rfl)
theorem dX4_atom_37 : decode cX4_atom 37 = .ok (.i2l, 1) := dk_133 (dk_at dksX4_atom_1 15 rfl rfl)
theorem dX4_atom_38 : decode cX4_atom 38 = .ok (.invokespecial 206, 3) := dk_183 0 206 (dk_at dksX4_atom_1 16 rfl rfl)
theorem dX4_atom_41 : decode cX4_atom 41 = .ok (.areturn, 1) := dk_176 (dk_at dksX4_atom_1 19 rfl rfl)
theorem dX4_atom_42 : decode cX4_atom 42 = .ok (.aload_n 0, 1) := dk_42 (dk_at dksX4_atom_1 20 rfl rfl)
theorem dX4_atom_43 : decode cX4_atom 43 = .ok (.invokevirtual 70, 3) := dk_182 0 70 (dk_at dksX4_atom_1 21 rfl rfl)
theorem dX4_atom_46 : decode cX4_atom 46 = .ok (.astore_n 1, 1) := dk_76 (dk_at dksX4_atom_2 0 rfl rfl)
theorem dX4_atom_47 : decode cX4_atom 47 = .ok (.aload_n 1, 1) := dk_43 (dk_at dksX4_atom_2 1 rfl rfl)
theorem dX4_atom_48 : decode cX4_atom 48 = .ok (.getstatic 209, 3) := dk_178 0 209 (dk_at dksX4_atom_2 2 rfl rfl)
theorem dX4_atom_51 : decode cX4_atom 51 = .ok (.invokestatic 213, 3) := dk_184 0 213 (dk_at dksX4_atom_2 5 rfl rfl)
theorem dX4_atom_54 : decode cX4_atom 54 = .ok (.istore_n 2, 1) := dk_61 (dk_at dksX4_atom_2 8 rfl rfl)
theorem dX4_atom_55 : decode cX4_atom 55 = .ok (.iload_n 2, 1) := dk_28 (dk_at dksX4_atom_2 9 rfl rfl)
theorem dX4_atom_56 : decode cX4_atom 56 = .ok (.iconst (-1), 1) := dk_2 (dk_at dksX4_atom_2 10 rfl rfl)
theorem dX4_atom_57 : decode cX4_atom 57 = .ok (.if_icmp .eq 23, 3) := dk_159 0 23 (dk_at dksX4_atom_2 11 rfl rfl)
theorem dX4_atom_60 : decode cX4_atom 60 = .ok (.aload_n 0, 1) := dk_42 (dk_at dksX4_atom_2 14 rfl rfl)
theorem dX4_atom_61 : decode cX4_atom 61 = .ok (.getfield 164, 3) := dk_180 0 164 (dk_at dksX4_atom_2 15 rfl rfl)
theorem dX4_atom_64 : decode cX4_atom 64 = .ok (.iload_n 2, 1) := dk_28 (dk_at dksX4_atom_2 18 rfl rfl)
theorem dX4_atom_65 : decode cX4_atom 65 = .ok (.invokestatic 217, 3) := dk_184 0 217 (dk_at dksX4_atom_2 19 rfl rfl)
theorem dX4_atom_68 : decode cX4_atom 68 = .ok (.ifCond .eq 12, 3) := dk_153 0 12 (dk_at dksX4_atom_3 0 rfl rfl)
theorem dX4_atom_71 : decode cX4_atom 71 = .ok (.new 221, 3) := dk_187 0 221 (dk_at dksX4_atom_3 3 rfl rfl)
theorem dX4_atom_74 : decode cX4_atom 74 = .ok (.dup, 1) := dk_89 (dk_at dksX4_atom_3 6 rfl rfl)
theorem dX4_atom_75 : decode cX4_atom 75 = .ok (.iload_n 2, 1) := dk_28 (dk_at dksX4_atom_3 7 rfl rfl)
theorem dX4_atom_76 : decode cX4_atom 76 = .ok (.invokespecial 223, 3) := dk_183 0 223 (dk_at dksX4_atom_3 8 rfl rfl)
theorem dX4_atom_79 : decode cX4_atom 79 = .ok (.areturn, 1) := dk_176 (dk_at dksX4_atom_3 11 rfl rfl)
theorem dX4_atom_80 : decode cX4_atom 80 = .ok (.aload_n 0, 1) := dk_42 (dk_at dksX4_atom_3 12 rfl rfl)
theorem dX4_atom_81 : decode cX4_atom 81 = .ok (.getfield 164, 3) := dk_180 0 164 (dk_at dksX4_atom_3 13 rfl rfl)
theorem dX4_atom_84 : decode cX4_atom 84 = .ok (.sipush 481, 3) := dk_17 1 225 (dk_at dksX4_atom_3 16 rfl rfl)
theorem dX4_atom_87 : decode cX4_atom 87 = .ok (.if_icmp .ne 13, 3) := dk_160 0 13 (dk_at dksX4_atom_3 19 rfl rfl)
theorem dX4_atom_90 : decode cX4_atom 90 = .ok (.aload_n 1, 1) := dk_43 (dk_at dksX4_atom_3 22 rfl rfl)
theorem dX4_atom_91 : decode cX4_atom 91 = .ok (.getstatic 225, 3) := dk_178 0 225 (dk_at dksX4_atom_4 0 rfl rfl)
theorem dX4_atom_94 : decode cX4_atom 94 = .ok (.invokestatic 213, 3) := dk_184 0 213 (dk_at dksX4_atom_4 3 rfl rfl)
theorem dX4_atom_97 : decode cX4_atom 97 = .ok (.goto 4, 3) := dk_167 0 4 (dk_at dksX4_atom_4 6 rfl rfl)
theorem dX4_atom_100 : decode cX4_atom 100 = .ok (.iconst (-1), 1) := dk_2 (dk_at dksX4_atom_4 9 rfl rfl)
theorem dX4_atom_101 : decode cX4_atom 101 = .ok (.istore_n 2, 1) := dk_61 (dk_at dksX4_atom_4 10 rfl rfl)
theorem dX4_atom_102 : decode cX4_atom 102 = .ok (.iload_n 2, 1) := dk_28 (dk_at dksX4_atom_4 11 rfl rfl)
theorem dX4_atom_103 : decode cX4_atom 103 = .ok (.iconst (-1), 1) := dk_2 (dk_at dksX4_atom_4 12 rfl rfl)
theorem dX4_atom_104 : decode cX4_atom 104 = .ok (.if_icmp .eq 9, 3) := dk_159 0 9 (dk_at dksX4_atom_4 13 rfl rfl)
theorem dX4_atom_107 : decode cX4_atom 107 = .ok (.aload_n 0, 1) := dk_42 (dk_at dksX4_atom_4 16 rfl rfl)
theorem dX4_atom_108 : decode cX4_atom 108 = .ok (.iload_n 2, 1) := dk_28 (dk_at dksX4_atom_4 17 rfl rfl)
theorem dX4_atom_109 : decode cX4_atom 109 = .ok (.invokevirtual 228, 3) := dk_182 0 228 (dk_at dksX4_atom_4 18 rfl rfl)
theorem dX4_atom_112 : decode cX4_atom 112 = .ok (.areturn, 1) := dk_176 (dk_at dksX4_atom_4 21 rfl rfl)
theorem dX4_atom_113 : decode cX4_atom 113 = .ok (.aload_n 1, 1) := dk_43 (dk_at dksX4_atom_4 22 rfl rfl)
theorem dX4_atom_114 : decode cX4_atom 114 = .ok (.ldc 231, 2) := dk_18 231 (dk_at dksX4_atom_5 0 rfl rfl)
theorem dX4_atom_116 : decode cX4_atom 116 = .ok (.invokevirtual 74, 3) := dk_182 0 74 (dk_at dksX4_atom_5 2 rfl rfl)
theorem dX4_atom_119 : decode cX4_atom 119 = .ok (.ifCond .ne 22, 3) := dk_154 0 22 (dk_at dksX4_atom_5 5 rfl rfl)
theorem dX4_atom_122 : decode cX4_atom 122 = .ok (.aload_n 1, 1) := dk_43 (dk_at dksX4_atom_5 8 rfl rfl)
theorem dX4_atom_123 : decode cX4_atom 123 = .ok (.ldc 233, 2) := dk_18 233 (dk_at dksX4_atom_5 9 rfl rfl)
theorem dX4_atom_125 : decode cX4_atom 125 = .ok (.invokevirtual 74, 3) := dk_182 0 74 (dk_at dksX4_atom_5 11 rfl rfl)
theorem dX4_atom_128 : decode cX4_atom 128 = .ok (.ifCond .ne 13, 3) := dk_154 0 13 (dk_at dksX4_atom_5 14 rfl rfl)
theorem dX4_atom_131 : decode cX4_atom 131 = .ok (.aload_n 0, 1) := dk_42 (dk_at dksX4_atom_5 17 rfl rfl)
theorem dX4_atom_132 : decode cX4_atom 132 = .ok (.iconst 1, 1) := dk_4 (dk_at dksX4_atom_5 18 rfl rfl)
theorem dX4_atom_133 : decode cX4_atom 133 = .ok (.aload_n 0, 1) := dk_42 (dk_at dksX4_atom_5 19 rfl rfl)
theorem dX4_atom_134 : decode cX4_atom 134 = .ok (.getfield 61, 3) := dk_180 0 61 (dk_at dksX4_atom_5 20 rfl rfl)
theorem dX4_atom_137 : decode cX4_atom 137 = .ok (.invokevirtual 47, 3) := dk_182 0 47 (dk_at dksX4_atom_6 0 rfl rfl)
theorem dX4_atom_140 : decode cX4_atom 140 = .ok (.athrow, 1) := dk_191 (dk_at dksX4_atom_6 3 rfl rfl)
theorem dX4_atom_141 : decode cX4_atom 141 = .ok (.aload_n 0, 1) := dk_42 (dk_at dksX4_atom_6 4 rfl rfl)
theorem dX4_atom_142 : decode cX4_atom 142 = .ok (.aload_n 1, 1) := dk_43 (dk_at dksX4_atom_6 5 rfl rfl)
theorem dX4_atom_143 : decode cX4_atom 143 = .ok (.ldc 231, 2) := dk_18 231 (dk_at dksX4_atom_6 6 rfl rfl)
theorem dX4_atom_145 : decode cX4_atom 145 = .ok (.invokevirtual 74, 3) := dk_182 0 74 (dk_at dksX4_atom_6 8 rfl rfl)
theorem dX4_atom_148 : decode cX4_atom 148 = .ok (.ifCond .eq 7, 3) := dk_153 0 7 (dk_at dksX4_atom_6 11 rfl rfl)
theorem dX4_atom_151 : decode cX4_atom 151 = .ok (.iconst 1, 1) := dk_4 (dk_at dksX4_atom_6 14 rfl rfl)
theorem dX4_atom_152 : decode cX4_atom 152 = .ok (.goto 4, 3) := dk_167 0 4 (dk_at dksX4_atom_6 15 rfl rfl)
theorem dX4_atom_155 : decode cX4_atom 155 = .ok (.iconst 2, 1) := dk_5 (dk_at dksX4_atom_6 18 rfl rfl)
theorem dX4_atom_156 : decode cX4_atom 156 = .ok (.invokevirtual 200, 3) := dk_182 0 200 (dk_at dksX4_atom_6 19 rfl rfl)
theorem dX4_atom_159 : decode cX4_atom 159 = .ok (.areturn, 1) := dk_176 (dk_at dksX4_atom_6 22 rfl rfl)
abbrev cX4_within : ByteArray := prog_17_method_20_code
def yX4_within : MethodName := ⟨RX4, "within", "(I)LGroupJournal$Value;"⟩
def dkwX4_within_4 : List UInt8 := [176]
abbrev dktX4_within_4 : List UInt8 := dkwX4_within_4 ++ []
def dkwX4_within_3 : List UInt8 := [182, 0, 174, 183, 0, 197, 78, 42, 16, 41, 182, 0, 115, 42, 89, 180, 0, 96, 4, 100, 181, 0, 96, 45]
abbrev dktX4_within_3 : List UInt8 := dkwX4_within_3 ++ dktX4_within_4
def dkwX4_within_2 : List UInt8 := [42, 16, 44, 182, 0, 115, 187, 0, 195, 89, 27, 5, 160, 0, 7, 4, 167, 0, 4, 3, 44, 42]
abbrev dktX4_within_2 : List UInt8 := dkwX4_within_2 ++ dktX4_within_3
def dkwX4_within_1 : List UInt8 := [182, 0, 192, 42, 89, 180, 0, 36, 4, 96, 181, 0, 36, 42, 182, 0, 174, 77, 44, 78, 27, 158, 0, 32]
abbrev dktX4_within_1 : List UInt8 := dkwX4_within_1 ++ dktX4_within_2
def dkwX4_within_0 : List UInt8 := [42, 182, 0, 43, 16, 40, 159, 0, 13, 42, 4, 42, 180, 0, 36, 182, 0, 47, 191, 42, 42, 180, 0, 36]
abbrev dktX4_within_0 : List UInt8 := dkwX4_within_0 ++ dktX4_within_1
theorem dksX4_within_0 : cX4_within.data.toList.drop 0 = dktX4_within_0 := by decide +kernel
theorem dksX4_within_1 : cX4_within.data.toList.drop 24 = dktX4_within_1 := dk_seg dksX4_within_0 24 rfl rfl
theorem dksX4_within_2 : cX4_within.data.toList.drop 48 = dktX4_within_2 := dk_seg dksX4_within_1 24 rfl rfl
theorem dksX4_within_3 : cX4_within.data.toList.drop 70 = dktX4_within_3 := dk_seg dksX4_within_2 22 rfl rfl
theorem dksX4_within_4 : cX4_within.data.toList.drop 94 = dktX4_within_4 := dk_seg dksX4_within_3 24 rfl rfl
theorem dX4_within_0 : decode cX4_within 0 = .ok (.aload_n 0, 1) := dk_42 (dk_at dksX4_within_0 0 rfl rfl)
theorem dX4_within_1 : decode cX4_within 1 = .ok (.invokevirtual 43, 3) := dk_182 0 43 (dk_at dksX4_within_0 1 rfl rfl)
theorem dX4_within_4 : decode cX4_within 4 = .ok (.bipush 40, 2) := dk_16 40 (dk_at dksX4_within_0 4 rfl rfl)
theorem dX4_within_6 : decode cX4_within 6 = .ok (.if_icmp .eq 13, 3) := dk_159 0 13 (dk_at dksX4_within_0 6 rfl rfl)
theorem dX4_within_9 : decode cX4_within 9 = .ok (.aload_n 0, 1) := dk_42 (dk_at dksX4_within_0 9 rfl rfl)
theorem dX4_within_10 : decode cX4_within 10 = .ok (.iconst 1, 1) := dk_4 (dk_at dksX4_within_0 10 rfl rfl)
theorem dX4_within_11 : decode cX4_within 11 = .ok (.aload_n 0, 1) := dk_42 (dk_at dksX4_within_0 11 rfl rfl)
theorem dX4_within_12 : decode cX4_within 12 = .ok (.getfield 36, 3) := dk_180 0 36 (dk_at dksX4_within_0 12 rfl rfl)
theorem dX4_within_15 : decode cX4_within 15 = .ok (.invokevirtual 47, 3) := dk_182 0 47 (dk_at dksX4_within_0 15 rfl rfl)
theorem dX4_within_18 : decode cX4_within 18 = .ok (.athrow, 1) := dk_191 (dk_at dksX4_within_0 18 rfl rfl)
theorem dX4_within_19 : decode cX4_within 19 = .ok (.aload_n 0, 1) := dk_42 (dk_at dksX4_within_0 19 rfl rfl)
theorem dX4_within_20 : decode cX4_within 20 = .ok (.aload_n 0, 1) := dk_42 (dk_at dksX4_within_0 20 rfl rfl)
theorem dX4_within_21 : decode cX4_within 21 = .ok (.getfield 36, 3) := dk_180 0 36 (dk_at dksX4_within_0 21 rfl rfl)
theorem dX4_within_24 : decode cX4_within 24 = .ok (.invokevirtual 192, 3) := dk_182 0 192 (dk_at dksX4_within_1 0 rfl rfl)
theorem dX4_within_27 : decode cX4_within 27 = .ok (.aload_n 0, 1) := dk_42 (dk_at dksX4_within_1 3 rfl rfl)
theorem dX4_within_28 : decode cX4_within 28 = .ok (.dup, 1) := dk_89 (dk_at dksX4_within_1 4 rfl rfl)
theorem dX4_within_29 : decode cX4_within 29 = .ok (.getfield 36, 3) := dk_180 0 36 (dk_at dksX4_within_1 5 rfl rfl)
theorem dX4_within_32 : decode cX4_within 32 = .ok (.iconst 1, 1) := dk_4 (dk_at dksX4_within_1 8 rfl rfl)
theorem dX4_within_33 : decode cX4_within 33 = .ok (.iadd, 1) := dk_96 (dk_at dksX4_within_1 9 rfl rfl)
theorem dX4_within_34 : decode cX4_within 34 = .ok (.putfield 36, 3) := dk_181 0 36 (dk_at dksX4_within_1 10 rfl rfl)
theorem dX4_within_37 : decode cX4_within 37 = .ok (.aload_n 0, 1) := dk_42 (dk_at dksX4_within_1 13 rfl rfl)
theorem dX4_within_38 : decode cX4_within 38 = .ok (.invokevirtual 174, 3) := dk_182 0 174 (dk_at dksX4_within_1 14 rfl rfl)
theorem dX4_within_41 : decode cX4_within 41 = .ok (.astore_n 2, 1) := dk_77 (dk_at dksX4_within_1 17 rfl rfl)
theorem dX4_within_42 : decode cX4_within 42 = .ok (.aload_n 2, 1) := dk_44 (dk_at dksX4_within_1 18 rfl rfl)
theorem dX4_within_43 : decode cX4_within 43 = .ok (.astore_n 3, 1) := dk_78 (dk_at dksX4_within_1 19 rfl rfl)
theorem dX4_within_44 : decode cX4_within 44 = .ok (.iload_n 1, 1) := dk_27 (dk_at dksX4_within_1 20 rfl rfl)
theorem dX4_within_45 : decode cX4_within 45 = .ok (.ifCond .le 32, 3) := dk_158 0 32 (dk_at dksX4_within_1 21 rfl rfl)
theorem dX4_within_48 : decode cX4_within 48 = .ok (.aload_n 0, 1) := dk_42 (dk_at dksX4_within_2 0 rfl rfl)
theorem dX4_within_49 : decode cX4_within 49 = .ok (.bipush 44, 2) := dk_16 44 (dk_at dksX4_within_2 1 rfl rfl)
theorem dX4_within_51 : decode cX4_within 51 = .ok (.invokevirtual 115, 3) := dk_182 0 115 (dk_at dksX4_within_2 3 rfl rfl)
theorem dX4_within_54 : decode cX4_within 54 = .ok (.new 195, 3) := dk_187 0 195 (dk_at dksX4_within_2 6 rfl rfl)
theorem dX4_within_57 : decode cX4_within 57 = .ok (.dup, 1) := dk_89 (dk_at dksX4_within_2 9 rfl rfl)
theorem dX4_within_58 : decode cX4_within 58 = .ok (.iload_n 1, 1) := dk_27 (dk_at dksX4_within_2 10 rfl rfl)
theorem dX4_within_59 : decode cX4_within 59 = .ok (.iconst 2, 1) := dk_5 (dk_at dksX4_within_2 11 rfl rfl)
theorem dX4_within_60 : decode cX4_within 60 = .ok (.if_icmp .ne 7, 3) := dk_160 0 7 (dk_at dksX4_within_2 12 rfl rfl)
theorem dX4_within_63 : decode cX4_within 63 = .ok (.iconst 1, 1) := dk_4 (dk_at dksX4_within_2 15 rfl rfl)
theorem dX4_within_64 : decode cX4_within 64 = .ok (.goto 4, 3) := dk_167 0 4 (dk_at dksX4_within_2 16 rfl rfl)
theorem dX4_within_67 : decode cX4_within 67 = .ok (.iconst 0, 1) := dk_3 (dk_at dksX4_within_2 19 rfl rfl)
theorem dX4_within_68 : decode cX4_within 68 = .ok (.aload_n 2, 1) := dk_44 (dk_at dksX4_within_2 20 rfl rfl)
theorem dX4_within_69 : decode cX4_within 69 = .ok (.aload_n 0, 1) := dk_42 (dk_at dksX4_within_2 21 rfl rfl)
theorem dX4_within_70 : decode cX4_within 70 = .ok (.invokevirtual 174, 3) := dk_182 0 174 (dk_at dksX4_within_3 0 rfl rfl)
theorem dX4_within_73 : decode cX4_within 73 = .ok (.invokespecial 197, 3) := dk_183 0 197 (dk_at dksX4_within_3 3 rfl rfl)
theorem dX4_within_76 : decode cX4_within 76 = .ok (.astore_n 3, 1) := dk_78 (dk_at dksX4_within_3 6 rfl rfl)
theorem dX4_within_77 : decode cX4_within 77 = .ok (.aload_n 0, 1) := dk_42 (dk_at dksX4_within_3 7 rfl rfl)
theorem dX4_within_78 : decode cX4_within 78 = .ok (.bipush 41, 2) := dk_16 41 (dk_at dksX4_within_3 8 rfl rfl)
theorem dX4_within_80 : decode cX4_within 80 = .ok (.invokevirtual 115, 3) := dk_182 0 115 (dk_at dksX4_within_3 10 rfl rfl)
theorem dX4_within_83 : decode cX4_within 83 = .ok (.aload_n 0, 1) := dk_42 (dk_at dksX4_within_3 13 rfl rfl)
theorem dX4_within_84 : decode cX4_within 84 = .ok (.dup, 1) := dk_89 (dk_at dksX4_within_3 14 rfl rfl)
theorem dX4_within_85 : decode cX4_within 85 = .ok (.getfield 96, 3) := dk_180 0 96 (dk_at dksX4_within_3 15 rfl rfl)
theorem dX4_within_88 : decode cX4_within 88 = .ok (.iconst 1, 1) := dk_4 (dk_at dksX4_within_3 18 rfl rfl)
theorem dX4_within_89 : decode cX4_within 89 = .ok (.isub, 1) := dk_100 (dk_at dksX4_within_3 19 rfl rfl)
theorem dX4_within_90 : decode cX4_within 90 = .ok (.putfield 96, 3) := dk_181 0 96 (dk_at dksX4_within_3 20 rfl rfl)
theorem dX4_within_93 : decode cX4_within 93 = .ok (.aload_n 3, 1) := dk_45 (dk_at dksX4_within_3 23 rfl rfl)
theorem dX4_within_94 : decode cX4_within 94 = .ok (.areturn, 1) := dk_176 (dk_at dksX4_within_4 0 rfl rfl)
abbrev cX4_looked : ByteArray := prog_17_method_25_code
def yX4_looked : MethodName := ⟨RX4, "looked", "(I)LGroupJournal$Value;"⟩
def dkwX4_looked_1 : List UInt8 := [77, 42, 89, 180, 0, 96, 4, 100, 181, 0, 96, 44, 176]
abbrev dktX4_looked_1 : List UInt8 := dkwX4_looked_1 ++ []
def dkwX4_looked_0 : List UInt8 := [42, 42, 180, 0, 61, 182, 0, 192, 187, 1, 18, 89, 42, 180, 0, 3, 27, 42, 182, 0, 189, 183, 1, 20]
abbrev dktX4_looked_0 : List UInt8 := dkwX4_looked_0 ++ dktX4_looked_1
theorem dksX4_looked_0 : cX4_looked.data.toList.drop 0 = dktX4_looked_0 := by decide +kernel
theorem dksX4_looked_1 : cX4_looked.data.toList.drop 24 = dktX4_looked_1 := dk_seg dksX4_looked_0 24 rfl rfl
theorem dX4_looked_0 : decode cX4_looked 0 = .ok (.aload_n 0, 1) := dk_42 (dk_at dksX4_looked_0 0 rfl rfl)
theorem dX4_looked_1 : decode cX4_looked 1 = .ok (.aload_n 0, 1) := dk_42 (dk_at dksX4_looked_0 1 rfl rfl)
theorem dX4_looked_2 : decode cX4_looked 2 = .ok (.getfield 61, 3) := dk_180 0 61 (dk_at dksX4_looked_0 2 rfl rfl)
theorem dX4_looked_5 : decode cX4_looked 5 = .ok (.invokevirtual 192, 3) := dk_182 0 192 (dk_at dksX4_looked_0 5 rfl rfl)
theorem dX4_looked_8 : decode cX4_looked 8 = .ok (.new 274, 3) := dk_187 1 18 (dk_at dksX4_looked_0 8 rfl rfl)
theorem dX4_looked_11 : decode cX4_looked 11 = .ok (.dup, 1) := dk_89 (dk_at dksX4_looked_0 11 rfl rfl)
theorem dX4_looked_12 : decode cX4_looked 12 = .ok (.aload_n 0, 1) := dk_42 (dk_at dksX4_looked_0 12 rfl rfl)
theorem dX4_looked_13 : decode cX4_looked 13 = .ok (.getfield 3, 3) := dk_180 0 3 (dk_at dksX4_looked_0 13 rfl rfl)
theorem dX4_looked_16 : decode cX4_looked 16 = .ok (.iload_n 1, 1) := dk_27 (dk_at dksX4_looked_0 16 rfl rfl)
theorem dX4_looked_17 : decode cX4_looked 17 = .ok (.aload_n 0, 1) := dk_42 (dk_at dksX4_looked_0 17 rfl rfl)
theorem dX4_looked_18 : decode cX4_looked 18 = .ok (.invokevirtual 189, 3) := dk_182 0 189 (dk_at dksX4_looked_0 18 rfl rfl)
theorem dX4_looked_21 : decode cX4_looked 21 = .ok (.invokespecial 276, 3) := dk_183 1 20 (dk_at dksX4_looked_0 21 rfl rfl)
theorem dX4_looked_24 : decode cX4_looked 24 = .ok (.astore_n 2, 1) := dk_77 (dk_at dksX4_looked_1 0 rfl rfl)
theorem dX4_looked_25 : decode cX4_looked 25 = .ok (.aload_n 0, 1) := dk_42 (dk_at dksX4_looked_1 1 rfl rfl)
theorem dX4_looked_26 : decode cX4_looked 26 = .ok (.dup, 1) := dk_89 (dk_at dksX4_looked_1 2 rfl rfl)
theorem dX4_looked_27 : decode cX4_looked 27 = .ok (.getfield 96, 3) := dk_180 0 96 (dk_at dksX4_looked_1 3 rfl rfl)
theorem dX4_looked_30 : decode cX4_looked 30 = .ok (.iconst 1, 1) := dk_4 (dk_at dksX4_looked_1 6 rfl rfl)
theorem dX4_looked_31 : decode cX4_looked 31 = .ok (.isub, 1) := dk_100 (dk_at dksX4_looked_1 7 rfl rfl)
theorem dX4_looked_32 : decode cX4_looked 32 = .ok (.putfield 96, 3) := dk_181 0 96 (dk_at dksX4_looked_1 8 rfl rfl)
theorem dX4_looked_35 : decode cX4_looked 35 = .ok (.aload_n 2, 1) := dk_44 (dk_at dksX4_looked_1 11 rfl rfl)
theorem dX4_looked_36 : decode cX4_looked 36 = .ok (.areturn, 1) := dk_176 (dk_at dksX4_looked_1 12 rfl rfl)
abbrev cX4_takes : ByteArray := prog_17_method_16_code
def yX4_takes : MethodName := ⟨RX4, "takes", "(I)Z"⟩
def dkwX4_takes_1 : List UInt8 := [167, 0, 4, 3, 96, 181, 0, 36, 28, 172]
abbrev dktX4_takes_1 : List UInt8 := dkwX4_takes_1 ++ []
def dkwX4_takes_0 : List UInt8 := [42, 182, 0, 43, 27, 160, 0, 7, 4, 167, 0, 4, 3, 61, 42, 89, 180, 0, 36, 28, 153, 0, 7, 4]
abbrev dktX4_takes_0 : List UInt8 := dkwX4_takes_0 ++ dktX4_takes_1
theorem dksX4_takes_0 : cX4_takes.data.toList.drop 0 = dktX4_takes_0 := by decide +kernel
theorem dksX4_takes_1 : cX4_takes.data.toList.drop 24 = dktX4_takes_1 := dk_seg dksX4_takes_0 24 rfl rfl
theorem dX4_takes_0 : decode cX4_takes 0 = .ok (.aload_n 0, 1) := dk_42 (dk_at dksX4_takes_0 0 rfl rfl)
theorem dX4_takes_1 : decode cX4_takes 1 = .ok (.invokevirtual 43, 3) := dk_182 0 43 (dk_at dksX4_takes_0 1 rfl rfl)
theorem dX4_takes_4 : decode cX4_takes 4 = .ok (.iload_n 1, 1) := dk_27 (dk_at dksX4_takes_0 4 rfl rfl)
theorem dX4_takes_5 : decode cX4_takes 5 = .ok (.if_icmp .ne 7, 3) := dk_160 0 7 (dk_at dksX4_takes_0 5 rfl rfl)
theorem dX4_takes_8 : decode cX4_takes 8 = .ok (.iconst 1, 1) := dk_4 (dk_at dksX4_takes_0 8 rfl rfl)
theorem dX4_takes_9 : decode cX4_takes 9 = .ok (.goto 4, 3) := dk_167 0 4 (dk_at dksX4_takes_0 9 rfl rfl)
theorem dX4_takes_12 : decode cX4_takes 12 = .ok (.iconst 0, 1) := dk_3 (dk_at dksX4_takes_0 12 rfl rfl)
theorem dX4_takes_13 : decode cX4_takes 13 = .ok (.istore_n 2, 1) := dk_61 (dk_at dksX4_takes_0 13 rfl rfl)
theorem dX4_takes_14 : decode cX4_takes 14 = .ok (.aload_n 0, 1) := dk_42 (dk_at dksX4_takes_0 14 rfl rfl)
theorem dX4_takes_15 : decode cX4_takes 15 = .ok (.dup, 1) := dk_89 (dk_at dksX4_takes_0 15 rfl rfl)
theorem dX4_takes_16 : decode cX4_takes 16 = .ok (.getfield 36, 3) := dk_180 0 36 (dk_at dksX4_takes_0 16 rfl rfl)
theorem dX4_takes_19 : decode cX4_takes 19 = .ok (.iload_n 2, 1) := dk_28 (dk_at dksX4_takes_0 19 rfl rfl)
theorem dX4_takes_20 : decode cX4_takes 20 = .ok (.ifCond .eq 7, 3) := dk_153 0 7 (dk_at dksX4_takes_0 20 rfl rfl)
theorem dX4_takes_23 : decode cX4_takes 23 = .ok (.iconst 1, 1) := dk_4 (dk_at dksX4_takes_0 23 rfl rfl)
theorem dX4_takes_24 : decode cX4_takes 24 = .ok (.goto 4, 3) := dk_167 0 4 (dk_at dksX4_takes_1 0 rfl rfl)
theorem dX4_takes_27 : decode cX4_takes 27 = .ok (.iconst 0, 1) := dk_3 (dk_at dksX4_takes_1 3 rfl rfl)
theorem dX4_takes_28 : decode cX4_takes 28 = .ok (.iadd, 1) := dk_96 (dk_at dksX4_takes_1 4 rfl rfl)
theorem dX4_takes_29 : decode cX4_takes 29 = .ok (.putfield 36, 3) := dk_181 0 36 (dk_at dksX4_takes_1 5 rfl rfl)
theorem dX4_takes_32 : decode cX4_takes 32 = .ok (.iload_n 2, 1) := dk_28 (dk_at dksX4_takes_1 8 rfl rfl)
theorem dX4_takes_33 : decode cX4_takes 33 = .ok (.ireturn, 1) := dk_172 (dk_at dksX4_takes_1 9 rfl rfl)
abbrev cX4_question : ByteArray := prog_17_method_26_code
def yX4_question : MethodName := ⟨RX4, "question", "(I)LGroupJournal$Question;"⟩
def dkwX4_question_4 : List UInt8 := [42, 180, 0, 36, 182, 0, 47, 191, 45, 176]
abbrev dktX4_question_4 : List UInt8 := dkwX4_question_4 ++ []
def dkwX4_question_3 : List UInt8 := [187, 1, 26, 89, 28, 1, 42, 182, 0, 174, 183, 1, 28, 78, 42, 182, 0, 43, 2, 159, 0, 13, 42, 4]
abbrev dktX4_question_3 : List UInt8 := dkwX4_question_3 ++ dktX4_question_4
def dkwX4_question_2 : List UInt8 := [191, 28, 6, 162, 0, 19, 187, 1, 26, 89, 28, 42, 182, 0, 167, 1, 183, 1, 28, 167, 0, 16]
abbrev dktX4_question_2 : List UInt8 := dkwX4_question_2 ++ dktX4_question_3
def dkwX4_question_1 : List UInt8 := [182, 0, 70, 178, 1, 23, 184, 0, 213, 61, 28, 2, 160, 0, 13, 42, 4, 42, 180, 0, 61, 182, 0, 47]
abbrev dktX4_question_1 : List UInt8 := dkwX4_question_1 ++ dktX4_question_2
def dkwX4_question_0 : List UInt8 := [42, 27, 181, 0, 29, 42, 3, 181, 0, 36, 42, 3, 181, 0, 96, 42, 17, 1, 225, 181, 0, 164, 42]
abbrev dktX4_question_0 : List UInt8 := dkwX4_question_0 ++ dktX4_question_1
theorem dksX4_question_0 : cX4_question.data.toList.drop 0 = dktX4_question_0 := by decide +kernel
theorem dksX4_question_1 : cX4_question.data.toList.drop 23 = dktX4_question_1 := dk_seg dksX4_question_0 23 rfl rfl
theorem dksX4_question_2 : cX4_question.data.toList.drop 47 = dktX4_question_2 := dk_seg dksX4_question_1 24 rfl rfl
theorem dksX4_question_3 : cX4_question.data.toList.drop 69 = dktX4_question_3 := dk_seg dksX4_question_2 22 rfl rfl
theorem dksX4_question_4 : cX4_question.data.toList.drop 93 = dktX4_question_4 := dk_seg dksX4_question_3 24 rfl rfl
theorem dX4_question_0 : decode cX4_question 0 = .ok (.aload_n 0, 1) := dk_42 (dk_at dksX4_question_0 0 rfl rfl)
theorem dX4_question_1 : decode cX4_question 1 = .ok (.iload_n 1, 1) := dk_27 (dk_at dksX4_question_0 1 rfl rfl)
theorem dX4_question_2 : decode cX4_question 2 = .ok (.putfield 29, 3) := dk_181 0 29 (dk_at dksX4_question_0 2 rfl rfl)
theorem dX4_question_5 : decode cX4_question 5 = .ok (.aload_n 0, 1) := dk_42 (dk_at dksX4_question_0 5 rfl rfl)
theorem dX4_question_6 : decode cX4_question 6 = .ok (.iconst 0, 1) := dk_3 (dk_at dksX4_question_0 6 rfl rfl)
theorem dX4_question_7 : decode cX4_question 7 = .ok (.putfield 36, 3) := dk_181 0 36 (dk_at dksX4_question_0 7 rfl rfl)
theorem dX4_question_10 : decode cX4_question 10 = .ok (.aload_n 0, 1) := dk_42 (dk_at dksX4_question_0 10 rfl rfl)
theorem dX4_question_11 : decode cX4_question 11 = .ok (.iconst 0, 1) := dk_3 (dk_at dksX4_question_0 11 rfl rfl)
theorem dX4_question_12 : decode cX4_question 12 = .ok (.putfield 96, 3) := dk_181 0 96 (dk_at dksX4_question_0 12 rfl rfl)
theorem dX4_question_15 : decode cX4_question 15 = .ok (.aload_n 0, 1) := dk_42 (dk_at dksX4_question_0 15 rfl rfl)
theorem dX4_question_16 : decode cX4_question 16 = .ok (.sipush 481, 3) := dk_17 1 225 (dk_at dksX4_question_0 16 rfl rfl)
theorem dX4_question_19 : decode cX4_question 19 = .ok (.putfield 164, 3) := dk_181 0 164 (dk_at dksX4_question_0 19 rfl rfl)
theorem dX4_question_22 : decode cX4_question 22 = .ok (.aload_n 0, 1) := dk_42 (dk_at dksX4_question_0 22 rfl rfl)
theorem dX4_question_23 : decode cX4_question 23 = .ok (.invokevirtual 70, 3) := dk_182 0 70 (dk_at dksX4_question_1 0 rfl rfl)
theorem dX4_question_26 : decode cX4_question 26 = .ok (.getstatic 279, 3) := dk_178 1 23 (dk_at dksX4_question_1 3 rfl rfl)
theorem dX4_question_29 : decode cX4_question 29 = .ok (.invokestatic 213, 3) := dk_184 0 213 (dk_at dksX4_question_1 6 rfl rfl)
theorem dX4_question_32 : decode cX4_question 32 = .ok (.istore_n 2, 1) := dk_61 (dk_at dksX4_question_1 9 rfl rfl)
theorem dX4_question_33 : decode cX4_question 33 = .ok (.iload_n 2, 1) := dk_28 (dk_at dksX4_question_1 10 rfl rfl)
theorem dX4_question_34 : decode cX4_question 34 = .ok (.iconst (-1), 1) := dk_2 (dk_at dksX4_question_1 11 rfl rfl)
theorem dX4_question_35 : decode cX4_question 35 = .ok (.if_icmp .ne 13, 3) := dk_160 0 13 (dk_at dksX4_question_1 12 rfl rfl)
theorem dX4_question_38 : decode cX4_question 38 = .ok (.aload_n 0, 1) := dk_42 (dk_at dksX4_question_1 15 rfl rfl)
theorem dX4_question_39 : decode cX4_question 39 = .ok (.iconst 1, 1) := dk_4 (dk_at dksX4_question_1 16 rfl rfl)
theorem dX4_question_40 : decode cX4_question 40 = .ok (.aload_n 0, 1) := dk_42 (dk_at dksX4_question_1 17 rfl rfl)
theorem dX4_question_41 : decode cX4_question 41 = .ok (.getfield 61, 3) := dk_180 0 61 (dk_at dksX4_question_1 18 rfl rfl)
theorem dX4_question_44 : decode cX4_question 44 = .ok (.invokevirtual 47, 3) := dk_182 0 47 (dk_at dksX4_question_1 21 rfl rfl)
theorem dX4_question_47 : decode cX4_question 47 = .ok (.athrow, 1) := dk_191 (dk_at dksX4_question_2 0 rfl rfl)
theorem dX4_question_48 : decode cX4_question 48 = .ok (.iload_n 2, 1) := dk_28 (dk_at dksX4_question_2 1 rfl rfl)
theorem dX4_question_49 : decode cX4_question 49 = .ok (.iconst 3, 1) := dk_6 (dk_at dksX4_question_2 2 rfl rfl)
theorem dX4_question_50 : decode cX4_question 50 = .ok (.if_icmp .ge 19, 3) := dk_162 0 19 (dk_at dksX4_question_2 3 rfl rfl)
theorem dX4_question_53 : decode cX4_question 53 = .ok (.new 282, 3) := dk_187 1 26 (dk_at dksX4_question_2 6 rfl rfl)
theorem dX4_question_56 : decode cX4_question 56 = .ok (.dup, 1) := dk_89 (dk_at dksX4_question_2 9 rfl rfl)
theorem dX4_question_57 : decode cX4_question 57 = .ok (.iload_n 2, 1) := dk_28 (dk_at dksX4_question_2 10 rfl rfl)
theorem dX4_question_58 : decode cX4_question 58 = .ok (.aload_n 0, 1) := dk_42 (dk_at dksX4_question_2 11 rfl rfl)
theorem dX4_question_59 : decode cX4_question 59 = .ok (.invokevirtual 167, 3) := dk_182 0 167 (dk_at dksX4_question_2 12 rfl rfl)
theorem dX4_question_62 : decode cX4_question 62 = .ok (.aconst_null, 1) := dk_1 (dk_at dksX4_question_2 15 rfl rfl)
theorem dX4_question_63 : decode cX4_question 63 = .ok (.invokespecial 284, 3) := dk_183 1 28 (dk_at dksX4_question_2 16 rfl rfl)
theorem dX4_question_66 : decode cX4_question 66 = .ok (.goto 16, 3) := dk_167 0 16 (dk_at dksX4_question_2 19 rfl rfl)
theorem dX4_question_69 : decode cX4_question 69 = .ok (.new 282, 3) := dk_187 1 26 (dk_at dksX4_question_3 0 rfl rfl)
theorem dX4_question_72 : decode cX4_question 72 = .ok (.dup, 1) := dk_89 (dk_at dksX4_question_3 3 rfl rfl)
theorem dX4_question_73 : decode cX4_question 73 = .ok (.iload_n 2, 1) := dk_28 (dk_at dksX4_question_3 4 rfl rfl)
theorem dX4_question_74 : decode cX4_question 74 = .ok (.aconst_null, 1) := dk_1 (dk_at dksX4_question_3 5 rfl rfl)
theorem dX4_question_75 : decode cX4_question 75 = .ok (.aload_n 0, 1) := dk_42 (dk_at dksX4_question_3 6 rfl rfl)
theorem dX4_question_76 : decode cX4_question 76 = .ok (.invokevirtual 174, 3) := dk_182 0 174 (dk_at dksX4_question_3 7 rfl rfl)
theorem dX4_question_79 : decode cX4_question 79 = .ok (.invokespecial 284, 3) := dk_183 1 28 (dk_at dksX4_question_3 10 rfl rfl)
theorem dX4_question_82 : decode cX4_question 82 = .ok (.astore_n 3, 1) := dk_78 (dk_at dksX4_question_3 13 rfl rfl)
theorem dX4_question_83 : decode cX4_question 83 = .ok (.aload_n 0, 1) := dk_42 (dk_at dksX4_question_3 14 rfl rfl)
theorem dX4_question_84 : decode cX4_question 84 = .ok (.invokevirtual 43, 3) := dk_182 0 43 (dk_at dksX4_question_3 15 rfl rfl)
theorem dX4_question_87 : decode cX4_question 87 = .ok (.iconst (-1), 1) := dk_2 (dk_at dksX4_question_3 18 rfl rfl)
theorem dX4_question_88 : decode cX4_question 88 = .ok (.if_icmp .eq 13, 3) := dk_159 0 13 (dk_at dksX4_question_3 19 rfl rfl)
theorem dX4_question_91 : decode cX4_question 91 = .ok (.aload_n 0, 1) := dk_42 (dk_at dksX4_question_3 22 rfl rfl)
theorem dX4_question_92 : decode cX4_question 92 = .ok (.iconst 1, 1) := dk_4 (dk_at dksX4_question_3 23 rfl rfl)
theorem dX4_question_93 : decode cX4_question 93 = .ok (.aload_n 0, 1) := dk_42 (dk_at dksX4_question_4 0 rfl rfl)
theorem dX4_question_94 : decode cX4_question 94 = .ok (.getfield 36, 3) := dk_180 0 36 (dk_at dksX4_question_4 1 rfl rfl)
theorem dX4_question_97 : decode cX4_question 97 = .ok (.invokevirtual 47, 3) := dk_182 0 47 (dk_at dksX4_question_4 4 rfl rfl)
theorem dX4_question_100 : decode cX4_question 100 = .ok (.athrow, 1) := dk_191 (dk_at dksX4_question_4 7 rfl rfl)
theorem dX4_question_101 : decode cX4_question 101 = .ok (.aload_n 3, 1) := dk_45 (dk_at dksX4_question_4 8 rfl rfl)
theorem dX4_question_102 : decode cX4_question 102 = .ok (.areturn, 1) := dk_176 (dk_at dksX4_question_4 9 rfl rfl)
theorem q195 : (Jvm.Cond.initialized "GroupJournal$Reader") ∈ lw_all := lw_g (lw_at lw_m1 8 rfl) rfl
theorem q322 : (Jvm.Cond.fieldLinkNest "GroupJournal$Reader" (119 : Nat) "GroupJournal$Journal" "statements" "I" "GroupJournal") ∈ lw_tbl := lw_at lw_m1 135 rfl
theorem q326 : (Jvm.Cond.fieldLinkNest "GroupJournal$Reader" (104 : Nat) "GroupJournal$Journal" "segments" "I" "GroupJournal") ∈ lw_tbl := lw_at lw_m1 139 rfl
theorem q329 : (Jvm.Cond.fieldLinkNest "GroupJournal$Reader" (109 : Nat) "GroupJournal$Journal" "blocks" "I" "GroupJournal") ∈ lw_tbl := lw_at lw_m1 142 rfl
theorem q333 : (Jvm.Cond.fieldLinkNest "GroupJournal$Reader" (113 : Nat) "GroupJournal$Journal" "bytes" "I" "GroupJournal") ∈ lw_tbl := lw_at lw_m1 146 rfl
theorem q335 : (Jvm.Cond.fieldLinkNest "GroupJournal$Reader" (159 : Nat) "GroupJournal$Journal" "noise" "I" "GroupJournal") ∈ lw_tbl := lw_at lw_m1 148 rfl
theorem q339 : (Jvm.Cond.fieldLinkNest "GroupJournal$Reader" (130 : Nat) "GroupJournal$Journal" "puts" "Ljava/util/List;" "GroupJournal") ∈ lw_tbl := lw_at lw_m1 152 rfl
theorem q341 : (Jvm.Cond.fieldLinkNest "GroupJournal$Reader" (161 : Nat) "GroupJournal$Journal" "closes" "LGroupJournal$Test;" "GroupJournal") ∈ lw_tbl := lw_at lw_m1 154 rfl
theorem q343 : (Jvm.Cond.fieldLinkNest "GroupJournal$Reader" (171 : Nat) "GroupJournal$Journal" "takes" "LGroupJournal$Value;" "GroupJournal") ∈ lw_tbl := lw_at lw_m1 156 rfl
theorem q362 : (Jvm.Cond.instantiable "GroupJournal$Reader" (8 : Nat)) ∈ lw_all := lw_g (lw_at lw_m1 175 rfl) rfl
theorem q364 : (Jvm.Cond.instanceMethod ({ cls := "GroupJournal$Reader", name := "<init>", desc := "(LGroupJournal;)V" } : Jvm.MethodName)) ∈ lw_all := lw_g (lw_at lw_m1 177 rfl) rfl
theorem q365 : (Jvm.Cond.code ({ cls := "GroupJournal$Reader", name := "<init>", desc := "(LGroupJournal;)V" } : Jvm.MethodName) prog_17_method_1_code (2 : Nat) (Option.none : Option Jvm.ClassFile.FieldType)) ∈ lw_all := lw_g (lw_at lw_m1 178 rfl) rfl
theorem q366 : (Jvm.Cond.methodLink "GroupJournal$Reader" (9 : Nat) ({ cls := "java/lang/Object", name := "<init>", desc := "()V" } : Jvm.MethodName)) ∈ lw_all := lw_g (lw_at lw_m1 179 rfl) rfl
theorem q367 : (Jvm.Cond.classLink "GroupJournal$Reader" (15 : Nat) "GroupJournal$Fault") ∈ lw_all := lw_g (lw_at lw_m1 180 rfl) rfl
theorem q406 : (Jvm.Cond.methodLink "GroupJournal$Reader" (17 : Nat) ({ cls := "GroupJournal$Fault", name := "<init>", desc := "()V" } : Jvm.MethodName)) ∈ lw_all := lw_g (lw_at lw_m1 219 rfl) rfl
theorem q418 : (Jvm.Cond.fieldLinkNest "GroupJournal$Reader" (22 : Nat) "GroupJournal$Fault" "kind" "I" "GroupJournal") ∈ lw_tbl := lw_at lw_m1 231 rfl
theorem q420 : (Jvm.Cond.fieldLinkNest "GroupJournal$Reader" (26 : Nat) "GroupJournal$Fault" "place" "I" "GroupJournal") ∈ lw_tbl := lw_at lw_m1 233 rfl
theorem q440 : (Jvm.Cond.fieldLink "GroupJournal$Reader" (18 : Nat) "GroupJournal$Reader" "fault" "LGroupJournal$Fault;") ∈ lw_all := lw_g (lw_at lw_m2 13 rfl) rfl
theorem q441 : (Jvm.Cond.fieldLink "GroupJournal$Reader" (29 : Nat) "GroupJournal$Reader" "size" "I") ∈ lw_all := lw_g (lw_at lw_m2 14 rfl) rfl
theorem q442 : (Jvm.Cond.fieldLink "GroupJournal$Reader" (36 : Nat) "GroupJournal$Reader" "at" "I") ∈ lw_all := lw_g (lw_at lw_m2 15 rfl) rfl
theorem q443 : (Jvm.Cond.fieldLink "GroupJournal$Reader" (61 : Nat) "GroupJournal$Reader" "from" "I") ∈ lw_all := lw_g (lw_at lw_m2 16 rfl) rfl
theorem q444 : (Jvm.Cond.fieldLink "GroupJournal$Reader" (96 : Nat) "GroupJournal$Reader" "open" "I") ∈ lw_all := lw_g (lw_at lw_m2 17 rfl) rfl
theorem q445 : (Jvm.Cond.fieldLink "GroupJournal$Reader" (164 : Nat) "GroupJournal$Reader" "context" "I") ∈ lw_all := lw_g (lw_at lw_m2 18 rfl) rfl
theorem q446 : (Jvm.Cond.fieldLink "GroupJournal$Reader" (92 : Nat) "GroupJournal$Reader" "to" "LGroupJournal$Journal;") ∈ lw_all := lw_g (lw_at lw_m2 19 rfl) rfl
theorem q447 : (Jvm.Cond.fieldLink "GroupJournal$Reader" (3 : Nat) "GroupJournal$Reader" "this$0" "LGroupJournal;") ∈ lw_all := lw_g (lw_at lw_m2 20 rfl) rfl
theorem q448 : (Jvm.Cond.laysFinal "GroupJournal$Reader" "GroupJournal$Reader" "fault" "LGroupJournal$Fault;") ∈ lw_all := lw_g (lw_at lw_m2 21 rfl) rfl
theorem q449 : (Jvm.Cond.soleField "GroupJournal$Reader" "fault") ∈ lw_all := lw_g (lw_at lw_m2 22 rfl) rfl
theorem q450 : (Jvm.Cond.lays "GroupJournal$Reader" "GroupJournal$Reader" "size" "I") ∈ lw_all := lw_g (lw_at lw_m2 23 rfl) rfl
theorem q451 : (Jvm.Cond.soleField "GroupJournal$Reader" "size") ∈ lw_all := lw_g (lw_at lw_m2 24 rfl) rfl
theorem q452 : (Jvm.Cond.lays "GroupJournal$Reader" "GroupJournal$Reader" "at" "I") ∈ lw_all := lw_g (lw_at lw_m2 25 rfl) rfl
theorem q453 : (Jvm.Cond.soleField "GroupJournal$Reader" "at") ∈ lw_all := lw_g (lw_at lw_m2 26 rfl) rfl
theorem q454 : (Jvm.Cond.lays "GroupJournal$Reader" "GroupJournal$Reader" "from" "I") ∈ lw_all := lw_g (lw_at lw_m2 27 rfl) rfl
theorem q455 : (Jvm.Cond.soleField "GroupJournal$Reader" "from") ∈ lw_all := lw_g (lw_at lw_m2 28 rfl) rfl
theorem q456 : (Jvm.Cond.lays "GroupJournal$Reader" "GroupJournal$Reader" "open" "I") ∈ lw_all := lw_g (lw_at lw_m2 29 rfl) rfl
theorem q457 : (Jvm.Cond.soleField "GroupJournal$Reader" "open") ∈ lw_all := lw_g (lw_at lw_m2 30 rfl) rfl
theorem q458 : (Jvm.Cond.lays "GroupJournal$Reader" "GroupJournal$Reader" "context" "I") ∈ lw_all := lw_g (lw_at lw_m2 31 rfl) rfl
theorem q459 : (Jvm.Cond.soleField "GroupJournal$Reader" "context") ∈ lw_all := lw_g (lw_at lw_m2 32 rfl) rfl
theorem q460 : (Jvm.Cond.lays "GroupJournal$Reader" "GroupJournal$Reader" "to" "LGroupJournal$Journal;") ∈ lw_all := lw_g (lw_at lw_m2 33 rfl) rfl
theorem q461 : (Jvm.Cond.soleField "GroupJournal$Reader" "to") ∈ lw_all := lw_g (lw_at lw_m2 34 rfl) rfl
theorem q462 : (Jvm.Cond.laysFinal "GroupJournal$Reader" "GroupJournal$Reader" "this$0" "LGroupJournal;") ∈ lw_all := lw_g (lw_at lw_m2 35 rfl) rfl
theorem q463 : (Jvm.Cond.soleField "GroupJournal$Reader" "this$0") ∈ lw_all := lw_g (lw_at lw_m2 36 rfl) rfl
theorem q464 : (Jvm.Cond.superclass "GroupJournal$Reader" "java/lang/Object") ∈ lw_all := lw_g (lw_at lw_m2 37 rfl) rfl
theorem q854 : (Jvm.Cond.fieldLinkNest "GroupJournal$Reader" (32 : Nat) "GroupJournal" "tape" "[B" "GroupJournal") ∈ lw_tbl := lw_at lw_m3 187 rfl
theorem q973 : (Jvm.Cond.instanceMethod ({ cls := "GroupJournal$Reader", name := "all", desc := "(I)LGroupJournal$Journal;" } : Jvm.MethodName)) ∈ lw_all := lw_g (lw_at lw_m4 66 rfl) rfl
theorem q974 : (Jvm.Cond.selects "GroupJournal$Reader" ({ cls := "GroupJournal$Reader", name := "all", desc := "(I)LGroupJournal$Journal;" } : Jvm.MethodName) ({ cls := "GroupJournal$Reader", name := "all", desc := "(I)LGroupJournal$Journal;" } : Jvm.MethodName)) ∈ lw_all := lw_g (lw_at lw_m4 67 rfl) rfl
theorem q975 : (Jvm.Cond.code ({ cls := "GroupJournal$Reader", name := "all", desc := "(I)LGroupJournal$Journal;" } : Jvm.MethodName) prog_17_method_13_code (2 : Nat) (Option.some (Jvm.ClassFile.FieldType.object "GroupJournal$Journal"))) ∈ lw_all := lw_g (lw_at lw_m4 68 rfl) rfl
theorem q976 : (Jvm.Cond.classLink "GroupJournal$Reader" (89 : Nat) "GroupJournal$Journal") ∈ lw_all := lw_g (lw_at lw_m4 69 rfl) rfl
theorem q977 : (Jvm.Cond.methodLinkNest "GroupJournal$Reader" (91 : Nat) ({ cls := "GroupJournal$Journal", name := "<init>", desc := "()V" } : Jvm.MethodName) "GroupJournal") ∈ lw_tbl := lw_at lw_m4 70 rfl
theorem q978 : (Jvm.Cond.stringRef "GroupJournal$Reader" (99 : Nat) "journal") ∈ lw_tbl := lw_at lw_m4 71 rfl
theorem q979 : (Jvm.Cond.methodLink "GroupJournal$Reader" (101 : Nat) ({ cls := "GroupJournal$Reader", name := "number", desc := "(Ljava/lang/String;II)I" } : Jvm.MethodName)) ∈ lw_all := lw_g (lw_at lw_m4 72 rfl) rfl
theorem q980 : (Jvm.Cond.privateMethod ({ cls := "GroupJournal$Reader", name := "number", desc := "(Ljava/lang/String;II)I" } : Jvm.MethodName)) ∈ lw_tbl := lw_at lw_m4 73 rfl
theorem q981 : (Jvm.Cond.instanceMethod ({ cls := "GroupJournal$Reader", name := "number", desc := "(Ljava/lang/String;II)I" } : Jvm.MethodName)) ∈ lw_all := lw_g (lw_at lw_m4 74 rfl) rfl
theorem q982 : (Jvm.Cond.code ({ cls := "GroupJournal$Reader", name := "number", desc := "(Ljava/lang/String;II)I" } : Jvm.MethodName) prog_17_method_11_code (4 : Nat) (Option.some Jvm.ClassFile.FieldType.int)) ∈ lw_all := lw_g (lw_at lw_m4 75 rfl) rfl
theorem q983 : (Jvm.Cond.methodLink "GroupJournal$Reader" (82 : Nat) ({ cls := "GroupJournal$Reader", name := "word", desc := "(Ljava/lang/String;)V" } : Jvm.MethodName)) ∈ lw_all := lw_g (lw_at lw_m4 76 rfl) rfl
theorem q984 : (Jvm.Cond.privateMethod ({ cls := "GroupJournal$Reader", name := "word", desc := "(Ljava/lang/String;)V" } : Jvm.MethodName)) ∈ lw_tbl := lw_at lw_m4 77 rfl
theorem q985 : (Jvm.Cond.instanceMethod ({ cls := "GroupJournal$Reader", name := "word", desc := "(Ljava/lang/String;)V" } : Jvm.MethodName)) ∈ lw_all := lw_g (lw_at lw_m4 78 rfl) rfl
theorem q986 : (Jvm.Cond.code ({ cls := "GroupJournal$Reader", name := "word", desc := "(Ljava/lang/String;)V" } : Jvm.MethodName) prog_17_method_8_code (2 : Nat) (Option.none : Option Jvm.ClassFile.FieldType)) ∈ lw_all := lw_g (lw_at lw_m4 79 rfl) rfl
theorem q987 : (Jvm.Cond.methodLink "GroupJournal$Reader" (70 : Nat) ({ cls := "GroupJournal$Reader", name := "word", desc := "()Ljava/lang/String;" } : Jvm.MethodName)) ∈ lw_all := lw_g (lw_at lw_m4 80 rfl) rfl
theorem q988 : (Jvm.Cond.privateMethod ({ cls := "GroupJournal$Reader", name := "word", desc := "()Ljava/lang/String;" } : Jvm.MethodName)) ∈ lw_tbl := lw_at lw_m4 81 rfl
theorem q989 : (Jvm.Cond.instanceMethod ({ cls := "GroupJournal$Reader", name := "word", desc := "()Ljava/lang/String;" } : Jvm.MethodName)) ∈ lw_all := lw_g (lw_at lw_m4 82 rfl) rfl
theorem q990 : (Jvm.Cond.code ({ cls := "GroupJournal$Reader", name := "word", desc := "()Ljava/lang/String;" } : Jvm.MethodName) prog_17_method_7_code (3 : Nat) (Option.some (Jvm.ClassFile.FieldType.object "java/lang/String"))) ∈ lw_all := lw_g (lw_at lw_m4 83 rfl) rfl
theorem q991 : (Jvm.Cond.methodLink "GroupJournal$Reader" (43 : Nat) ({ cls := "GroupJournal$Reader", name := "here", desc := "()I" } : Jvm.MethodName)) ∈ lw_all := lw_g (lw_at lw_m4 84 rfl) rfl
theorem q992 : (Jvm.Cond.privateMethod ({ cls := "GroupJournal$Reader", name := "here", desc := "()I" } : Jvm.MethodName)) ∈ lw_tbl := lw_at lw_m4 85 rfl
theorem q993 : (Jvm.Cond.instanceMethod ({ cls := "GroupJournal$Reader", name := "here", desc := "()I" } : Jvm.MethodName)) ∈ lw_all := lw_g (lw_at lw_m4 86 rfl) rfl
theorem q994 : (Jvm.Cond.code ({ cls := "GroupJournal$Reader", name := "here", desc := "()I" } : Jvm.MethodName) prog_17_method_4_code (1 : Nat) (Option.some Jvm.ClassFile.FieldType.int)) ∈ lw_all := lw_g (lw_at lw_m4 87 rfl) rfl
theorem q995 : (Jvm.Cond.methodLink "GroupJournal$Reader" (39 : Nat) ({ cls := "GroupJournal$Reader", name := "byteAt", desc := "(I)I" } : Jvm.MethodName)) ∈ lw_all := lw_g (lw_at lw_m4 88 rfl) rfl
theorem q996 : (Jvm.Cond.privateMethod ({ cls := "GroupJournal$Reader", name := "byteAt", desc := "(I)I" } : Jvm.MethodName)) ∈ lw_tbl := lw_at lw_m4 89 rfl
theorem q997 : (Jvm.Cond.instanceMethod ({ cls := "GroupJournal$Reader", name := "byteAt", desc := "(I)I" } : Jvm.MethodName)) ∈ lw_all := lw_g (lw_at lw_m4 90 rfl) rfl
theorem q998 : (Jvm.Cond.code ({ cls := "GroupJournal$Reader", name := "byteAt", desc := "(I)I" } : Jvm.MethodName) prog_17_method_3_code (2 : Nat) (Option.some Jvm.ClassFile.FieldType.int)) ∈ lw_all := lw_g (lw_at lw_m4 91 rfl) rfl
theorem q999 : (Jvm.Cond.methodLinkNest "GroupJournal$Reader" (51 : Nat) ({ cls := "GroupJournal", name := "isLetter", desc := "(I)Z" } : Jvm.MethodName) "GroupJournal") ∈ lw_tbl := lw_at lw_m4 92 rfl
theorem q1002 : (Jvm.Cond.methodLink "GroupJournal$Reader" (47 : Nat) ({ cls := "GroupJournal$Reader", name := "wrong", desc := "(II)LGroupJournal$Fault;" } : Jvm.MethodName)) ∈ lw_all := lw_g (lw_at lw_m4 95 rfl) rfl
theorem q1003 : (Jvm.Cond.privateMethod ({ cls := "GroupJournal$Reader", name := "wrong", desc := "(II)LGroupJournal$Fault;" } : Jvm.MethodName)) ∈ lw_tbl := lw_at lw_m4 96 rfl
theorem q1004 : (Jvm.Cond.instanceMethod ({ cls := "GroupJournal$Reader", name := "wrong", desc := "(II)LGroupJournal$Fault;" } : Jvm.MethodName)) ∈ lw_all := lw_g (lw_at lw_m4 97 rfl) rfl
theorem q1005 : (Jvm.Cond.code ({ cls := "GroupJournal$Reader", name := "wrong", desc := "(II)LGroupJournal$Fault;" } : Jvm.MethodName) prog_17_method_2_code (3 : Nat) (Option.some (Jvm.ClassFile.FieldType.object "GroupJournal$Fault"))) ∈ lw_all := lw_g (lw_at lw_m4 98 rfl) rfl
theorem q1006 : (Jvm.Cond.methodLink "GroupJournal$Reader" (58 : Nat) ({ cls := "GroupJournal$Reader", name := "parted", desc := "()V" } : Jvm.MethodName)) ∈ lw_all := lw_g (lw_at lw_m4 99 rfl) rfl
theorem q1007 : (Jvm.Cond.privateMethod ({ cls := "GroupJournal$Reader", name := "parted", desc := "()V" } : Jvm.MethodName)) ∈ lw_tbl := lw_at lw_m4 100 rfl
theorem q1008 : (Jvm.Cond.instanceMethod ({ cls := "GroupJournal$Reader", name := "parted", desc := "()V" } : Jvm.MethodName)) ∈ lw_all := lw_g (lw_at lw_m4 101 rfl) rfl
theorem q1009 : (Jvm.Cond.code ({ cls := "GroupJournal$Reader", name := "parted", desc := "()V" } : Jvm.MethodName) prog_17_method_6_code (1 : Nat) (Option.none : Option Jvm.ClassFile.FieldType)) ∈ lw_all := lw_g (lw_at lw_m4 102 rfl) rfl
theorem q1010 : (Jvm.Cond.methodLinkNest "GroupJournal$Reader" (55 : Nat) ({ cls := "GroupJournal", name := "isDigit", desc := "(I)Z" } : Jvm.MethodName) "GroupJournal") ∈ lw_tbl := lw_at lw_m4 103 rfl
theorem q1013 : (Jvm.Cond.methodLink "GroupJournal$Reader" (64 : Nat) ({ cls := "java/lang/String", name := "valueOf", desc := "([C)Ljava/lang/String;" } : Jvm.MethodName)) ∈ lw_all := lw_g (lw_at lw_m4 106 rfl) rfl
theorem q1091 : (Jvm.Cond.methodLink "GroupJournal$Reader" (74 : Nat) ({ cls := "java/lang/String", name := "equals", desc := "(Ljava/lang/Object;)Z" } : Jvm.MethodName)) ∈ lw_all := lw_g (lw_at lw_m4 184 rfl) rfl
theorem q1098 : (Jvm.Cond.methodLink "GroupJournal$Reader" (85 : Nat) ({ cls := "GroupJournal$Reader", name := "number", desc := "(II)I" } : Jvm.MethodName)) ∈ lw_all := lw_g (lw_at lw_m4 191 rfl) rfl
theorem q1099 : (Jvm.Cond.privateMethod ({ cls := "GroupJournal$Reader", name := "number", desc := "(II)I" } : Jvm.MethodName)) ∈ lw_tbl := lw_at lw_m4 192 rfl
theorem q1100 : (Jvm.Cond.instanceMethod ({ cls := "GroupJournal$Reader", name := "number", desc := "(II)I" } : Jvm.MethodName)) ∈ lw_all := lw_g (lw_at lw_m4 193 rfl) rfl
theorem q1101 : (Jvm.Cond.code ({ cls := "GroupJournal$Reader", name := "number", desc := "(II)I" } : Jvm.MethodName) prog_17_method_10_code (4 : Nat) (Option.some Jvm.ClassFile.FieldType.int)) ∈ lw_all := lw_g (lw_at lw_m4 194 rfl) rfl
theorem q1102 : (Jvm.Cond.methodLinkNest "GroupJournal$Reader" (78 : Nat) ({ cls := "GroupJournal", name := "is", desc := "(III)Z" } : Jvm.MethodName) "GroupJournal") ∈ lw_tbl := lw_at lw_m4 195 rfl
theorem q1105 : (Jvm.Cond.stringRef "GroupJournal$Reader" (107 : Nat) "blocks") ∈ lw_tbl := lw_at lw_m4 198 rfl
theorem q1106 : (Jvm.Cond.stringRef "GroupJournal$Reader" (111 : Nat) "bytes") ∈ lw_tbl := lw_at lw_m4 199 rfl
theorem q1107 : (Jvm.Cond.methodLink "GroupJournal$Reader" (115 : Nat) ({ cls := "GroupJournal$Reader", name := "must", desc := "(I)V" } : Jvm.MethodName)) ∈ lw_all := lw_g (lw_at lw_m4 200 rfl) rfl
theorem q1108 : (Jvm.Cond.privateMethod ({ cls := "GroupJournal$Reader", name := "must", desc := "(I)V" } : Jvm.MethodName)) ∈ lw_tbl := lw_at lw_m4 201 rfl
theorem q1109 : (Jvm.Cond.instanceMethod ({ cls := "GroupJournal$Reader", name := "must", desc := "(I)V" } : Jvm.MethodName)) ∈ lw_all := lw_g (lw_at lw_m4 202 rfl) rfl
theorem q1110 : (Jvm.Cond.code ({ cls := "GroupJournal$Reader", name := "must", desc := "(I)V" } : Jvm.MethodName) prog_17_method_5_code (2 : Nat) (Option.none : Option Jvm.ClassFile.FieldType)) ∈ lw_all := lw_g (lw_at lw_m4 203 rfl) rfl
theorem q1111 : (Jvm.Cond.methodLink "GroupJournal$Reader" (122 : Nat) ({ cls := "GroupJournal$Reader", name := "most", desc := "(ZI)V" } : Jvm.MethodName)) ∈ lw_all := lw_g (lw_at lw_m4 204 rfl) rfl
theorem q1112 : (Jvm.Cond.privateMethod ({ cls := "GroupJournal$Reader", name := "most", desc := "(ZI)V" } : Jvm.MethodName)) ∈ lw_tbl := lw_at lw_m4 205 rfl
theorem q1113 : (Jvm.Cond.instanceMethod ({ cls := "GroupJournal$Reader", name := "most", desc := "(ZI)V" } : Jvm.MethodName)) ∈ lw_all := lw_g (lw_at lw_m4 206 rfl) rfl
theorem q1114 : (Jvm.Cond.code ({ cls := "GroupJournal$Reader", name := "most", desc := "(ZI)V" } : Jvm.MethodName) prog_17_method_12_code (3 : Nat) (Option.none : Option Jvm.ClassFile.FieldType)) ∈ lw_all := lw_g (lw_at lw_m4 207 rfl) rfl
theorem q1115 : (Jvm.Cond.methodLink "GroupJournal$Reader" (126 : Nat) ({ cls := "GroupJournal$Reader", name := "tells", desc := "(Ljava/lang/String;I)V" } : Jvm.MethodName)) ∈ lw_all := lw_g (lw_at lw_m4 208 rfl) rfl
theorem q1116 : (Jvm.Cond.privateMethod ({ cls := "GroupJournal$Reader", name := "tells", desc := "(Ljava/lang/String;I)V" } : Jvm.MethodName)) ∈ lw_tbl := lw_at lw_m4 209 rfl
theorem q1117 : (Jvm.Cond.instanceMethod ({ cls := "GroupJournal$Reader", name := "tells", desc := "(Ljava/lang/String;I)V" } : Jvm.MethodName)) ∈ lw_all := lw_g (lw_at lw_m4 210 rfl) rfl
theorem q1118 : (Jvm.Cond.code ({ cls := "GroupJournal$Reader", name := "tells", desc := "(Ljava/lang/String;I)V" } : Jvm.MethodName) prog_17_method_15_code (5 : Nat) (Option.none : Option Jvm.ClassFile.FieldType)) ∈ lw_all := lw_g (lw_at lw_m4 211 rfl) rfl
theorem q1119 : (Jvm.Cond.methodLink "GroupJournal$Reader" (145 : Nat) ({ cls := "java/lang/String", name := "hashCode", desc := "()I" } : Jvm.MethodName)) ∈ lw_all := lw_g (lw_at lw_m4 212 rfl) rfl
theorem q1172 : (Jvm.Cond.stringRef "GroupJournal$Reader" (148 : Nat) "put") ∈ lw_tbl := lw_at lw_m5 25 rfl
theorem q1173 : (Jvm.Cond.stringRef "GroupJournal$Reader" (150 : Nat) "noise") ∈ lw_tbl := lw_at lw_m5 26 rfl
theorem q1174 : (Jvm.Cond.stringRef "GroupJournal$Reader" (152 : Nat) "closes") ∈ lw_tbl := lw_at lw_m5 27 rfl
theorem q1175 : (Jvm.Cond.stringRef "GroupJournal$Reader" (154 : Nat) "takes") ∈ lw_tbl := lw_at lw_m5 28 rfl
theorem q1176 : (Jvm.Cond.methodLink "GroupJournal$Reader" (156 : Nat) ({ cls := "GroupJournal$Reader", name := "readsPut", desc := "()V" } : Jvm.MethodName)) ∈ lw_all := lw_g (lw_at lw_m5 29 rfl) rfl
theorem q1177 : (Jvm.Cond.privateMethod ({ cls := "GroupJournal$Reader", name := "readsPut", desc := "()V" } : Jvm.MethodName)) ∈ lw_tbl := lw_at lw_m5 30 rfl
theorem q1178 : (Jvm.Cond.instanceMethod ({ cls := "GroupJournal$Reader", name := "readsPut", desc := "()V" } : Jvm.MethodName)) ∈ lw_all := lw_g (lw_at lw_m5 31 rfl) rfl
theorem q1179 : (Jvm.Cond.code ({ cls := "GroupJournal$Reader", name := "readsPut", desc := "()V" } : Jvm.MethodName) prog_17_method_14_code (3 : Nat) (Option.none : Option Jvm.ClassFile.FieldType)) ∈ lw_all := lw_g (lw_at lw_m5 32 rfl) rfl
theorem q1180 : (Jvm.Cond.classLink "GroupJournal$Reader" (134 : Nat) "GroupJournal$Entry") ∈ lw_all := lw_g (lw_at lw_m5 33 rfl) rfl
theorem q1182 : (Jvm.Cond.stringRef "GroupJournal$Reader" (136 : Nat) "size") ∈ lw_tbl := lw_at lw_m5 35 rfl
theorem q1183 : (Jvm.Cond.methodLink "GroupJournal$Reader" (137 : Nat) ({ cls := "GroupJournal$Entry", name := "<init>", desc := "(IIIII)V" } : Jvm.MethodName)) ∈ lw_all := lw_g (lw_at lw_m5 36 rfl) rfl
theorem q1235 : (Jvm.Cond.interfaceEntry "GroupJournal$Reader" (140 : Nat)) ∈ lw_tbl := lw_at lw_m5 88 rfl
theorem q1236 : (Jvm.Cond.methodLink "GroupJournal$Reader" (140 : Nat) ({ cls := "java/util/List", name := "add", desc := "(Ljava/lang/Object;)Z" } : Jvm.MethodName)) ∈ lw_all := lw_g (lw_at lw_m5 89 rfl) rfl
theorem q1291 : (Jvm.Cond.selects "GroupJournal$Reader" ({ cls := "java/lang/Object", name := "getClass", desc := "()Ljava/lang/Class;" } : Jvm.MethodName) ({ cls := "java/lang/Object", name := "getClass", desc := "()Ljava/lang/Class;" } : Jvm.MethodName)) ∈ lw_all := lw_g (lw_at lw_m5 144 rfl) rfl
theorem q1329 : (Jvm.Cond.methodLink "GroupJournal$Reader" (167 : Nat) ({ cls := "GroupJournal$Reader", name := "test", desc := "()LGroupJournal$Test;" } : Jvm.MethodName)) ∈ lw_all := lw_g (lw_at lw_m5 182 rfl) rfl
theorem q1330 : (Jvm.Cond.privateMethod ({ cls := "GroupJournal$Reader", name := "test", desc := "()LGroupJournal$Test;" } : Jvm.MethodName)) ∈ lw_tbl := lw_at lw_m5 183 rfl
theorem q1331 : (Jvm.Cond.instanceMethod ({ cls := "GroupJournal$Reader", name := "test", desc := "()LGroupJournal$Test;" } : Jvm.MethodName)) ∈ lw_all := lw_g (lw_at lw_m5 184 rfl) rfl
theorem q1332 : (Jvm.Cond.code ({ cls := "GroupJournal$Reader", name := "test", desc := "()LGroupJournal$Test;" } : Jvm.MethodName) prog_17_method_22_code (2 : Nat) (Option.some (Jvm.ClassFile.FieldType.object "GroupJournal$Test"))) ∈ lw_all := lw_g (lw_at lw_m5 185 rfl) rfl
theorem q1333 : (Jvm.Cond.classLink "GroupJournal$Reader" (235 : Nat) "GroupJournal$Facts") ∈ lw_all := lw_g (lw_at lw_m5 186 rfl) rfl
theorem q1335 : (Jvm.Cond.methodLink "GroupJournal$Reader" (237 : Nat) ({ cls := "GroupJournal$Facts", name := "<init>", desc := "(Z)V" } : Jvm.MethodName)) ∈ lw_all := lw_g (lw_at lw_m5 188 rfl) rfl
theorem q1345 : (Jvm.Cond.fieldLinkNest "GroupJournal$Reader" (240 : Nat) "GroupJournal$Facts" "tests" "Ljava/util/List;" "GroupJournal") ∈ lw_tbl := lw_at lw_m5 198 rfl
theorem q1352 : (Jvm.Cond.methodLink "GroupJournal$Reader" (243 : Nat) ({ cls := "GroupJournal$Reader", name := "both", desc := "()LGroupJournal$Test;" } : Jvm.MethodName)) ∈ lw_all := lw_g (lw_at lw_m5 205 rfl) rfl
theorem q1353 : (Jvm.Cond.privateMethod ({ cls := "GroupJournal$Reader", name := "both", desc := "()LGroupJournal$Test;" } : Jvm.MethodName)) ∈ lw_tbl := lw_at lw_m5 206 rfl
theorem q1354 : (Jvm.Cond.instanceMethod ({ cls := "GroupJournal$Reader", name := "both", desc := "()LGroupJournal$Test;" } : Jvm.MethodName)) ∈ lw_all := lw_g (lw_at lw_m5 207 rfl) rfl
theorem q1355 : (Jvm.Cond.code ({ cls := "GroupJournal$Reader", name := "both", desc := "()LGroupJournal$Test;" } : Jvm.MethodName) prog_17_method_23_code (2 : Nat) (Option.some (Jvm.ClassFile.FieldType.object "GroupJournal$Test"))) ∈ lw_all := lw_g (lw_at lw_m5 208 rfl) rfl
theorem q1356 : (Jvm.Cond.methodLink "GroupJournal$Reader" (252 : Nat) ({ cls := "GroupJournal$Reader", name := "fact", desc := "()LGroupJournal$Test;" } : Jvm.MethodName)) ∈ lw_all := lw_g (lw_at lw_m5 209 rfl) rfl
theorem q1357 : (Jvm.Cond.privateMethod ({ cls := "GroupJournal$Reader", name := "fact", desc := "()LGroupJournal$Test;" } : Jvm.MethodName)) ∈ lw_tbl := lw_at lw_m5 210 rfl
theorem q1358 : (Jvm.Cond.instanceMethod ({ cls := "GroupJournal$Reader", name := "fact", desc := "()LGroupJournal$Test;" } : Jvm.MethodName)) ∈ lw_all := lw_g (lw_at lw_m5 211 rfl) rfl
theorem q1359 : (Jvm.Cond.code ({ cls := "GroupJournal$Reader", name := "fact", desc := "()LGroupJournal$Test;" } : Jvm.MethodName) prog_17_method_24_code (3 : Nat) (Option.some (Jvm.ClassFile.FieldType.object "GroupJournal$Test"))) ∈ lw_all := lw_g (lw_at lw_m5 212 rfl) rfl
theorem q1360 : (Jvm.Cond.methodLink "GroupJournal$Reader" (192 : Nat) ({ cls := "GroupJournal$Reader", name := "opens", desc := "(I)V" } : Jvm.MethodName)) ∈ lw_all := lw_g (lw_at lw_m5 213 rfl) rfl
theorem q1361 : (Jvm.Cond.privateMethod ({ cls := "GroupJournal$Reader", name := "opens", desc := "(I)V" } : Jvm.MethodName)) ∈ lw_tbl := lw_at lw_m5 214 rfl
theorem q1362 : (Jvm.Cond.instanceMethod ({ cls := "GroupJournal$Reader", name := "opens", desc := "(I)V" } : Jvm.MethodName)) ∈ lw_all := lw_g (lw_at lw_m5 215 rfl) rfl
theorem q1363 : (Jvm.Cond.code ({ cls := "GroupJournal$Reader", name := "opens", desc := "(I)V" } : Jvm.MethodName) prog_17_method_19_code (2 : Nat) (Option.none : Option Jvm.ClassFile.FieldType)) ∈ lw_all := lw_g (lw_at lw_m5 216 rfl) rfl
theorem q1364 : (Jvm.Cond.stringRef "GroupJournal$Reader" (257 : Nat) "not") ∈ lw_tbl := lw_at lw_m5 217 rfl
theorem q1365 : (Jvm.Cond.methodLink "GroupJournal$Reader" (248 : Nat) ({ cls := "GroupJournal$Reader", name := "passes", desc := "(Ljava/lang/String;)Z" } : Jvm.MethodName)) ∈ lw_all := lw_g (lw_at lw_m5 218 rfl) rfl
theorem q1366 : (Jvm.Cond.privateMethod ({ cls := "GroupJournal$Reader", name := "passes", desc := "(Ljava/lang/String;)Z" } : Jvm.MethodName)) ∈ lw_tbl := lw_at lw_m5 219 rfl
theorem q1367 : (Jvm.Cond.instanceMethod ({ cls := "GroupJournal$Reader", name := "passes", desc := "(Ljava/lang/String;)Z" } : Jvm.MethodName)) ∈ lw_all := lw_g (lw_at lw_m5 220 rfl) rfl
theorem q1368 : (Jvm.Cond.code ({ cls := "GroupJournal$Reader", name := "passes", desc := "(Ljava/lang/String;)Z" } : Jvm.MethodName) prog_17_method_9_code (3 : Nat) (Option.some Jvm.ClassFile.FieldType.boolean)) ∈ lw_all := lw_g (lw_at lw_m5 221 rfl) rfl
theorem q1369 : (Jvm.Cond.classLink "GroupJournal$Reader" (259 : Nat) "GroupJournal$Not") ∈ lw_all := lw_g (lw_at lw_m5 222 rfl) rfl
theorem q1371 : (Jvm.Cond.methodLink "GroupJournal$Reader" (261 : Nat) ({ cls := "GroupJournal$Not", name := "<init>", desc := "(LGroupJournal$Test;)V" } : Jvm.MethodName)) ∈ lw_all := lw_g (lw_at lw_m5 224 rfl) rfl
theorem q1379 : (Jvm.Cond.stringRef "GroupJournal$Reader" (264 : Nat) "all") ∈ lw_tbl := lw_at lw_m5 232 rfl
theorem q1380 : (Jvm.Cond.classLink "GroupJournal$Reader" (266 : Nat) "GroupJournal$All") ∈ lw_all := lw_g (lw_at lw_m5 233 rfl) rfl
theorem q1382 : (Jvm.Cond.methodLinkNest "GroupJournal$Reader" (268 : Nat) ({ cls := "GroupJournal$All", name := "<init>", desc := "()V" } : Jvm.MethodName) "GroupJournal") ∈ lw_tbl := lw_at lw_m5 235 rfl
theorem q1387 : (Jvm.Cond.methodLink "GroupJournal$Reader" (174 : Nat) ({ cls := "GroupJournal$Reader", name := "sum", desc := "()LGroupJournal$Value;" } : Jvm.MethodName)) ∈ lw_all := lw_g (lw_at lw_m6 0 rfl) rfl
theorem q1388 : (Jvm.Cond.privateMethod ({ cls := "GroupJournal$Reader", name := "sum", desc := "()LGroupJournal$Value;" } : Jvm.MethodName)) ∈ lw_tbl := lw_at lw_m6 1 rfl
theorem q1389 : (Jvm.Cond.instanceMethod ({ cls := "GroupJournal$Reader", name := "sum", desc := "()LGroupJournal$Value;" } : Jvm.MethodName)) ∈ lw_all := lw_g (lw_at lw_m6 2 rfl) rfl
theorem q1390 : (Jvm.Cond.code ({ cls := "GroupJournal$Reader", name := "sum", desc := "()LGroupJournal$Value;" } : Jvm.MethodName) prog_17_method_17_code (3 : Nat) (Option.some (Jvm.ClassFile.FieldType.object "GroupJournal$Value"))) ∈ lw_all := lw_g (lw_at lw_m6 3 rfl) rfl
theorem q1391 : (Jvm.Cond.classLink "GroupJournal$Reader" (178 : Nat) "GroupJournal$Chain") ∈ lw_all := lw_g (lw_at lw_m6 4 rfl) rfl
theorem q1393 : (Jvm.Cond.methodLinkNest "GroupJournal$Reader" (180 : Nat) ({ cls := "GroupJournal$Chain", name := "<init>", desc := "()V" } : Jvm.MethodName) "GroupJournal") ∈ lw_tbl := lw_at lw_m6 6 rfl
theorem q1432 : (Jvm.Cond.methodLink "GroupJournal$Reader" (181 : Nat) ({ cls := "GroupJournal$Reader", name := "product", desc := "()LGroupJournal$Value;" } : Jvm.MethodName)) ∈ lw_all := lw_g (lw_at lw_m6 45 rfl) rfl
theorem q1433 : (Jvm.Cond.privateMethod ({ cls := "GroupJournal$Reader", name := "product", desc := "()LGroupJournal$Value;" } : Jvm.MethodName)) ∈ lw_tbl := lw_at lw_m6 46 rfl
theorem q1434 : (Jvm.Cond.instanceMethod ({ cls := "GroupJournal$Reader", name := "product", desc := "()LGroupJournal$Value;" } : Jvm.MethodName)) ∈ lw_all := lw_g (lw_at lw_m6 47 rfl) rfl
theorem q1435 : (Jvm.Cond.code ({ cls := "GroupJournal$Reader", name := "product", desc := "()LGroupJournal$Value;" } : Jvm.MethodName) prog_17_method_18_code (3 : Nat) (Option.some (Jvm.ClassFile.FieldType.object "GroupJournal$Value"))) ∈ lw_all := lw_g (lw_at lw_m6 48 rfl) rfl
theorem q1436 : (Jvm.Cond.methodLink "GroupJournal$Reader" (189 : Nat) ({ cls := "GroupJournal$Reader", name := "atom", desc := "()LGroupJournal$Value;" } : Jvm.MethodName)) ∈ lw_all := lw_g (lw_at lw_m6 49 rfl) rfl
theorem q1437 : (Jvm.Cond.privateMethod ({ cls := "GroupJournal$Reader", name := "atom", desc := "()LGroupJournal$Value;" } : Jvm.MethodName)) ∈ lw_tbl := lw_at lw_m6 50 rfl
theorem q1438 : (Jvm.Cond.instanceMethod ({ cls := "GroupJournal$Reader", name := "atom", desc := "()LGroupJournal$Value;" } : Jvm.MethodName)) ∈ lw_all := lw_g (lw_at lw_m6 51 rfl) rfl
theorem q1439 : (Jvm.Cond.code ({ cls := "GroupJournal$Reader", name := "atom", desc := "()LGroupJournal$Value;" } : Jvm.MethodName) prog_17_method_21_code (3 : Nat) (Option.some (Jvm.ClassFile.FieldType.object "GroupJournal$Value"))) ∈ lw_all := lw_g (lw_at lw_m6 52 rfl) rfl
theorem q1440 : (Jvm.Cond.methodLink "GroupJournal$Reader" (200 : Nat) ({ cls := "GroupJournal$Reader", name := "within", desc := "(I)LGroupJournal$Value;" } : Jvm.MethodName)) ∈ lw_all := lw_g (lw_at lw_m6 53 rfl) rfl
theorem q1441 : (Jvm.Cond.privateMethod ({ cls := "GroupJournal$Reader", name := "within", desc := "(I)LGroupJournal$Value;" } : Jvm.MethodName)) ∈ lw_tbl := lw_at lw_m6 54 rfl
theorem q1442 : (Jvm.Cond.instanceMethod ({ cls := "GroupJournal$Reader", name := "within", desc := "(I)LGroupJournal$Value;" } : Jvm.MethodName)) ∈ lw_all := lw_g (lw_at lw_m6 55 rfl) rfl
theorem q1443 : (Jvm.Cond.code ({ cls := "GroupJournal$Reader", name := "within", desc := "(I)LGroupJournal$Value;" } : Jvm.MethodName) prog_17_method_20_code (4 : Nat) (Option.some (Jvm.ClassFile.FieldType.object "GroupJournal$Value"))) ∈ lw_all := lw_g (lw_at lw_m6 56 rfl) rfl
theorem q1444 : (Jvm.Cond.classLink "GroupJournal$Reader" (195 : Nat) "GroupJournal$Pair") ∈ lw_all := lw_g (lw_at lw_m6 57 rfl) rfl
theorem q1446 : (Jvm.Cond.methodLink "GroupJournal$Reader" (197 : Nat) ({ cls := "GroupJournal$Pair", name := "<init>", desc := "(ZLGroupJournal$Value;LGroupJournal$Value;)V" } : Jvm.MethodName)) ∈ lw_all := lw_g (lw_at lw_m6 59 rfl) rfl
theorem q1460 : (Jvm.Cond.classLink "GroupJournal$Reader" (204 : Nat) "GroupJournal$Fixed") ∈ lw_all := lw_g (lw_at lw_m6 73 rfl) rfl
theorem q1462 : (Jvm.Cond.methodLink "GroupJournal$Reader" (206 : Nat) ({ cls := "GroupJournal$Fixed", name := "<init>", desc := "(J)V" } : Jvm.MethodName)) ∈ lw_all := lw_g (lw_at lw_m6 75 rfl) rfl
theorem q1470 : (Jvm.Cond.fieldLinkNest "GroupJournal$Reader" (209 : Nat) "GroupJournal" "ASKED" "[Ljava/lang/String;" "GroupJournal") ∈ lw_tbl := lw_at lw_m6 83 rfl
theorem q1472 : (Jvm.Cond.methodLinkNest "GroupJournal$Reader" (213 : Nat) ({ cls := "GroupJournal", name := "find", desc := "(Ljava/lang/String;[Ljava/lang/String;)I" } : Jvm.MethodName) "GroupJournal") ∈ lw_tbl := lw_at lw_m6 85 rfl
theorem q1476 : (Jvm.Cond.methodLinkNest "GroupJournal$Reader" (217 : Nat) ({ cls := "GroupJournal", name := "has", desc := "(II)Z" } : Jvm.MethodName) "GroupJournal") ∈ lw_tbl := lw_at lw_m6 89 rfl
theorem q1479 : (Jvm.Cond.classLink "GroupJournal$Reader" (221 : Nat) "GroupJournal$Asked") ∈ lw_all := lw_g (lw_at lw_m6 92 rfl) rfl
theorem q1481 : (Jvm.Cond.methodLink "GroupJournal$Reader" (223 : Nat) ({ cls := "GroupJournal$Asked", name := "<init>", desc := "(I)V" } : Jvm.MethodName)) ∈ lw_all := lw_g (lw_at lw_m6 94 rfl) rfl
theorem q1489 : (Jvm.Cond.fieldLinkNest "GroupJournal$Reader" (225 : Nat) "GroupJournal" "LOOKED" "[Ljava/lang/String;" "GroupJournal") ∈ lw_tbl := lw_at lw_m6 102 rfl
theorem q1491 : (Jvm.Cond.methodLink "GroupJournal$Reader" (228 : Nat) ({ cls := "GroupJournal$Reader", name := "looked", desc := "(I)LGroupJournal$Value;" } : Jvm.MethodName)) ∈ lw_all := lw_g (lw_at lw_m6 104 rfl) rfl
theorem q1492 : (Jvm.Cond.privateMethod ({ cls := "GroupJournal$Reader", name := "looked", desc := "(I)LGroupJournal$Value;" } : Jvm.MethodName)) ∈ lw_tbl := lw_at lw_m6 105 rfl
theorem q1493 : (Jvm.Cond.instanceMethod ({ cls := "GroupJournal$Reader", name := "looked", desc := "(I)LGroupJournal$Value;" } : Jvm.MethodName)) ∈ lw_all := lw_g (lw_at lw_m6 106 rfl) rfl
theorem q1494 : (Jvm.Cond.code ({ cls := "GroupJournal$Reader", name := "looked", desc := "(I)LGroupJournal$Value;" } : Jvm.MethodName) prog_17_method_25_code (3 : Nat) (Option.some (Jvm.ClassFile.FieldType.object "GroupJournal$Value"))) ∈ lw_all := lw_g (lw_at lw_m6 107 rfl) rfl
theorem q1495 : (Jvm.Cond.classLink "GroupJournal$Reader" (274 : Nat) "GroupJournal$Looked") ∈ lw_all := lw_g (lw_at lw_m6 108 rfl) rfl
theorem q1497 : (Jvm.Cond.methodLink "GroupJournal$Reader" (276 : Nat) ({ cls := "GroupJournal$Looked", name := "<init>", desc := "(LGroupJournal;ILGroupJournal$Value;)V" } : Jvm.MethodName)) ∈ lw_all := lw_g (lw_at lw_m6 110 rfl) rfl
theorem q1511 : (Jvm.Cond.stringRef "GroupJournal$Reader" (231 : Nat) "min") ∈ lw_tbl := lw_at lw_m6 124 rfl
theorem q1512 : (Jvm.Cond.stringRef "GroupJournal$Reader" (233 : Nat) "max") ∈ lw_tbl := lw_at lw_m6 125 rfl
theorem q1513 : (Jvm.Cond.methodLink "GroupJournal$Reader" (184 : Nat) ({ cls := "GroupJournal$Chain", name := "add", desc := "(CLGroupJournal$Value;)V" } : Jvm.MethodName)) ∈ lw_all := lw_g (lw_at lw_m6 126 rfl) rfl
theorem q1576 : (Jvm.Cond.methodLink "GroupJournal$Reader" (187 : Nat) ({ cls := "GroupJournal$Reader", name := "takes", desc := "(I)Z" } : Jvm.MethodName)) ∈ lw_all := lw_g (lw_at lw_m6 189 rfl) rfl
theorem q1577 : (Jvm.Cond.privateMethod ({ cls := "GroupJournal$Reader", name := "takes", desc := "(I)Z" } : Jvm.MethodName)) ∈ lw_tbl := lw_at lw_m6 190 rfl
theorem q1578 : (Jvm.Cond.instanceMethod ({ cls := "GroupJournal$Reader", name := "takes", desc := "(I)Z" } : Jvm.MethodName)) ∈ lw_all := lw_g (lw_at lw_m6 191 rfl) rfl
theorem q1579 : (Jvm.Cond.code ({ cls := "GroupJournal$Reader", name := "takes", desc := "(I)Z" } : Jvm.MethodName) prog_17_method_16_code (3 : Nat) (Option.some Jvm.ClassFile.FieldType.boolean)) ∈ lw_all := lw_g (lw_at lw_m6 192 rfl) rfl
theorem q1580 : (Jvm.Cond.classLink "GroupJournal$Reader" (269 : Nat) "GroupJournal$Than") ∈ lw_all := lw_g (lw_at lw_m6 193 rfl) rfl
theorem q1582 : (Jvm.Cond.methodLink "GroupJournal$Reader" (271 : Nat) ({ cls := "GroupJournal$Than", name := "<init>", desc := "(LGroupJournal$Value;ILGroupJournal$Value;)V" } : Jvm.MethodName)) ∈ lw_all := lw_g (lw_at lw_m6 195 rfl) rfl
theorem q1596 : (Jvm.Cond.stringRef "GroupJournal$Reader" (255 : Nat) "and") ∈ lw_tbl := lw_at lw_m6 209 rfl
theorem q1597 : (Jvm.Cond.stringRef "GroupJournal$Reader" (246 : Nat) "or") ∈ lw_tbl := lw_at lw_m6 210 rfl
theorem q1673 : (Jvm.Cond.selects "GroupJournal$Reader" ({ cls := "java/lang/Object", name := "hashCode", desc := "()I" } : Jvm.MethodName) ({ cls := "java/lang/Object", name := "hashCode", desc := "()I" } : Jvm.MethodName)) ∈ lw_all := lw_g (lw_at lw_m7 46 rfl) rfl
theorem q1722 : (Jvm.Cond.selects "GroupJournal$Reader" ({ cls := "java/lang/Object", name := "equals", desc := "(Ljava/lang/Object;)Z" } : Jvm.MethodName) ({ cls := "java/lang/Object", name := "equals", desc := "(Ljava/lang/Object;)Z" } : Jvm.MethodName)) ∈ lw_all := lw_g (lw_at lw_m7 95 rfl) rfl
theorem q3063 : (Jvm.Cond.instanceMethod ({ cls := "GroupJournal$Reader", name := "question", desc := "(I)LGroupJournal$Question;" } : Jvm.MethodName)) ∈ lw_all := lw_g (lw_at lw_m12 236 rfl) rfl
theorem q3064 : (Jvm.Cond.selects "GroupJournal$Reader" ({ cls := "GroupJournal$Reader", name := "question", desc := "(I)LGroupJournal$Question;" } : Jvm.MethodName) ({ cls := "GroupJournal$Reader", name := "question", desc := "(I)LGroupJournal$Question;" } : Jvm.MethodName)) ∈ lw_all := lw_g (lw_at lw_m12 237 rfl) rfl
theorem q3065 : (Jvm.Cond.code ({ cls := "GroupJournal$Reader", name := "question", desc := "(I)LGroupJournal$Question;" } : Jvm.MethodName) prog_17_method_26_code (4 : Nat) (Option.some (Jvm.ClassFile.FieldType.object "GroupJournal$Question"))) ∈ lw_all := lw_g (lw_at lw_m12 238 rfl) rfl
theorem q3066 : (Jvm.Cond.fieldLinkNest "GroupJournal$Reader" (279 : Nat) "GroupJournal" "TOLD_OF" "[Ljava/lang/String;" "GroupJournal") ∈ lw_tbl := lw_at lw_m12 239 rfl
theorem q3068 : (Jvm.Cond.classLink "GroupJournal$Reader" (282 : Nat) "GroupJournal$Question") ∈ lw_all := lw_g (lw_at lw_m13 1 rfl) rfl
theorem q3070 : (Jvm.Cond.methodLink "GroupJournal$Reader" (284 : Nat) ({ cls := "GroupJournal$Question", name := "<init>", desc := "(ILGroupJournal$Test;LGroupJournal$Value;)V" } : Jvm.MethodName)) ∈ lw_all := lw_g (lw_at lw_m13 3 rfl) rfl
theorem q4165 : (Jvm.Cond.castable "GroupJournal$Reader" "java/lang/Object") ∈ lw_tbl := lw_at lw_m17 138 rfl
theorem in_X4 : ∀ w ∈ wsX40, w ∈ lw_all := lw_in wsX40 [448, 450, 452, 454, 456, 458, 460, 462] (by decide +kernel) (by decide +kernel)

/-! GroupJournal$Fault -/
set_option maxRecDepth 100000
def RX5 : String := "GroupJournal$Fault"
def TX5 : u_T := fun k => match k with
  | 0 => ("java/lang/Throwable", "cause", "Ljava/lang/Throwable;", false)
  | 1 => ("java/lang/Throwable", "stackTrace", "[Ljava/lang/StackTraceElement;", false)
  | 2 => ("java/lang/Throwable", "suppressedExceptions", "Ljava/util/List;", false)
  | 3 => ("java/lang/Throwable", "detailMessage", "Ljava/lang/String;", false)
  | 4 => ("java/lang/Throwable", "backtrace", "Ljava/lang/Object;", false)
  | 5 => ("java/lang/Throwable", "depth", "I", false)
  | 6 => ("GroupJournal$Fault", "kind", "I", false)
  | _ => ("GroupJournal$Fault", "place", "I", false)
def tyX5 : Nat → FieldType := fun k => match k with
  | 0 => .object "java/lang/Throwable"
  | 1 => .array (.object "java/lang/StackTraceElement")
  | 2 => .object "java/util/List"
  | 3 => .object "java/lang/String"
  | 4 => .object "java/lang/Object"
  | 5 => .int
  | 6 => .int
  | _ => .int
abbrev wsX50 : List Cond := u_ws RX5 TX5 8
theorem nmX5 : ∀ a, a < 8 → ∀ b, b < 8 → a ≠ b → (TX5 a).2.1 ≠ (TX5 b).2.1 := by decide +kernel
theorem tyX5_ok : ∀ k, k < 8 → parseFieldDescriptor (TX5 k).2.2.1 = some (tyX5 k) := by decide +kernel
abbrev cX5_init : ByteArray := prog_7_method_1_code
def yX5_init : MethodName := ⟨RX5, "<init>", "()V"⟩
def dkwX5_init_0 : List UInt8 := [42, 1, 1, 3, 3, 183, 0, 1, 177]
abbrev dktX5_init_0 : List UInt8 := dkwX5_init_0 ++ []
theorem dksX5_init_0 : cX5_init.data.toList.drop 0 = dktX5_init_0 := by decide +kernel
theorem dX5_init_0 : decode cX5_init 0 = .ok (.aload_n 0, 1) := dk_42 (dk_at dksX5_init_0 0 rfl rfl)
theorem dX5_init_1 : decode cX5_init 1 = .ok (.aconst_null, 1) := dk_1 (dk_at dksX5_init_0 1 rfl rfl)
theorem dX5_init_2 : decode cX5_init 2 = .ok (.aconst_null, 1) := dk_1 (dk_at dksX5_init_0 2 rfl rfl)
theorem dX5_init_3 : decode cX5_init 3 = .ok (.iconst 0, 1) := dk_3 (dk_at dksX5_init_0 3 rfl rfl)
theorem dX5_init_4 : decode cX5_init 4 = .ok (.iconst 0, 1) := dk_3 (dk_at dksX5_init_0 4 rfl rfl)
theorem dX5_init_5 : decode cX5_init 5 = .ok (.invokespecial 1, 3) := dk_183 0 1 (dk_at dksX5_init_0 5 rfl rfl)
theorem dX5_init_8 : decode cX5_init 8 = .ok (.return_, 1) := dk_177 (dk_at dksX5_init_0 8 rfl rfl)
theorem q199 : (Jvm.Cond.initialized "GroupJournal$Fault") ∈ lw_all := lw_g (lw_at lw_m1 12 rfl) rfl
theorem q368 : (Jvm.Cond.instantiable "GroupJournal$Fault" (8 : Nat)) ∈ lw_all := lw_g (lw_at lw_m1 181 rfl) rfl
theorem q369 : (Jvm.Cond.castable "GroupJournal$Fault" "GroupJournal$Fault") ∈ lw_tbl := lw_at lw_m1 182 rfl
theorem q376 : (Jvm.Cond.selects "GroupJournal$Fault" ({ cls := "java/lang/Throwable", name := "fillInStackTrace", desc := "(I)Ljava/lang/Throwable;" } : Jvm.MethodName) ({ cls := "java/lang/Throwable", name := "fillInStackTrace", desc := "(I)Ljava/lang/Throwable;" } : Jvm.MethodName)) ∈ lw_all := lw_g (lw_at lw_m1 189 rfl) rfl
theorem q377 : (Jvm.Cond.selects "GroupJournal$Fault" ({ cls := "java/lang/Throwable", name := "fillInStackTrace", desc := "()Ljava/lang/Throwable;" } : Jvm.MethodName) ({ cls := "java/lang/Throwable", name := "fillInStackTrace", desc := "()Ljava/lang/Throwable;" } : Jvm.MethodName)) ∈ lw_all := lw_g (lw_at lw_m1 190 rfl) rfl
theorem q378 : (Jvm.Cond.lays "GroupJournal$Fault" "java/lang/Throwable" "cause" "Ljava/lang/Throwable;") ∈ lw_all := lw_g (lw_at lw_m1 191 rfl) rfl
theorem q380 : (Jvm.Cond.lays "GroupJournal$Fault" "java/lang/Throwable" "stackTrace" "[Ljava/lang/StackTraceElement;") ∈ lw_all := lw_g (lw_at lw_m1 193 rfl) rfl
theorem q382 : (Jvm.Cond.lays "GroupJournal$Fault" "java/lang/Throwable" "suppressedExceptions" "Ljava/util/List;") ∈ lw_all := lw_g (lw_at lw_m1 195 rfl) rfl
theorem q384 : (Jvm.Cond.lays "GroupJournal$Fault" "java/lang/Throwable" "detailMessage" "Ljava/lang/String;") ∈ lw_all := lw_g (lw_at lw_m1 197 rfl) rfl
theorem q386 : (Jvm.Cond.lays "GroupJournal$Fault" "java/lang/Throwable" "backtrace" "Ljava/lang/Object;") ∈ lw_all := lw_g (lw_at lw_m1 199 rfl) rfl
theorem q407 : (Jvm.Cond.instanceMethod ({ cls := "GroupJournal$Fault", name := "<init>", desc := "()V" } : Jvm.MethodName)) ∈ lw_all := lw_g (lw_at lw_m1 220 rfl) rfl
theorem q408 : (Jvm.Cond.code ({ cls := "GroupJournal$Fault", name := "<init>", desc := "()V" } : Jvm.MethodName) prog_7_method_1_code (1 : Nat) (Option.none : Option Jvm.ClassFile.FieldType)) ∈ lw_all := lw_g (lw_at lw_m1 221 rfl) rfl
theorem q409 : (Jvm.Cond.methodLink "GroupJournal$Fault" (1 : Nat) ({ cls := "java/lang/RuntimeException", name := "<init>", desc := "(Ljava/lang/String;Ljava/lang/Throwable;ZZ)V" } : Jvm.MethodName)) ∈ lw_all := lw_g (lw_at lw_m1 222 rfl) rfl
theorem q427 : (Jvm.Cond.lays "GroupJournal$Fault" "GroupJournal$Fault" "kind" "I") ∈ lw_all := lw_g (lw_at lw_m2 0 rfl) rfl
theorem q428 : (Jvm.Cond.soleField "GroupJournal$Fault" "kind") ∈ lw_all := lw_g (lw_at lw_m2 1 rfl) rfl
theorem q429 : (Jvm.Cond.lays "GroupJournal$Fault" "GroupJournal$Fault" "place" "I") ∈ lw_all := lw_g (lw_at lw_m2 2 rfl) rfl
theorem q430 : (Jvm.Cond.soleField "GroupJournal$Fault" "place") ∈ lw_all := lw_g (lw_at lw_m2 3 rfl) rfl
theorem q435 : (Jvm.Cond.lays "GroupJournal$Fault" "java/lang/Throwable" "depth" "I") ∈ lw_all := lw_g (lw_at lw_m2 8 rfl) rfl
theorem q438 : (Jvm.Cond.superclass "GroupJournal$Fault" "java/lang/RuntimeException") ∈ lw_all := lw_g (lw_at lw_m2 11 rfl) rfl
theorem q1281 : (Jvm.Cond.selects "GroupJournal$Fault" ({ cls := "java/lang/Object", name := "getClass", desc := "()Ljava/lang/Class;" } : Jvm.MethodName) ({ cls := "java/lang/Object", name := "getClass", desc := "()Ljava/lang/Class;" } : Jvm.MethodName)) ∈ lw_all := lw_g (lw_at lw_m5 134 rfl) rfl
theorem q1661 : (Jvm.Cond.selects "GroupJournal$Fault" ({ cls := "java/lang/Object", name := "hashCode", desc := "()I" } : Jvm.MethodName) ({ cls := "java/lang/Object", name := "hashCode", desc := "()I" } : Jvm.MethodName)) ∈ lw_all := lw_g (lw_at lw_m7 34 rfl) rfl
theorem q1709 : (Jvm.Cond.selects "GroupJournal$Fault" ({ cls := "java/lang/Object", name := "equals", desc := "(Ljava/lang/Object;)Z" } : Jvm.MethodName) ({ cls := "java/lang/Object", name := "equals", desc := "(Ljava/lang/Object;)Z" } : Jvm.MethodName)) ∈ lw_all := lw_g (lw_at lw_m7 82 rfl) rfl
theorem q4166 : (Jvm.Cond.castable "GroupJournal$Fault" "java/lang/Object") ∈ lw_tbl := lw_at lw_m17 139 rfl
theorem in_X5 : ∀ w ∈ wsX50, w ∈ lw_all := lw_in wsX50 [378, 380, 382, 384, 386, 435, 427, 429] (by decide +kernel) (by decide +kernel)

/-! GroupJournal$Moment -/
set_option maxRecDepth 100000
def RX6 : String := "GroupJournal$Moment"
def TX6 : u_T := fun k => match k with
  | _ => ("GroupJournal$Moment", "of", "[J", true)
def tyX6 : Nat → FieldType := fun k => match k with
  | _ => .array .long
abbrev wsX60 : List Cond := u_ws RX6 TX6 1
theorem nmX6 : ∀ a, a < 1 → ∀ b, b < 1 → a ≠ b → (TX6 a).2.1 ≠ (TX6 b).2.1 := by decide +kernel
theorem tyX6_ok : ∀ k, k < 1 → parseFieldDescriptor (TX6 k).2.2.1 = some (tyX6 k) := by decide +kernel
abbrev cX6_init : ByteArray := prog_13_method_1_code
def yX6_init : MethodName := ⟨RX6, "<init>", "()V"⟩
def dkwX6_init_0 : List UInt8 := [42, 183, 0, 1, 42, 16, 9, 188, 11, 181, 0, 7, 177]
abbrev dktX6_init_0 : List UInt8 := dkwX6_init_0 ++ []
theorem dksX6_init_0 : cX6_init.data.toList.drop 0 = dktX6_init_0 := by decide +kernel
theorem dX6_init_0 : decode cX6_init 0 = .ok (.aload_n 0, 1) := dk_42 (dk_at dksX6_init_0 0 rfl rfl)
theorem dX6_init_1 : decode cX6_init 1 = .ok (.invokespecial 1, 3) := dk_183 0 1 (dk_at dksX6_init_0 1 rfl rfl)
theorem dX6_init_4 : decode cX6_init 4 = .ok (.aload_n 0, 1) := dk_42 (dk_at dksX6_init_0 4 rfl rfl)
theorem dX6_init_5 : decode cX6_init 5 = .ok (.bipush 9, 2) := dk_16 9 (dk_at dksX6_init_0 5 rfl rfl)
theorem dX6_init_7 : decode cX6_init 7 = .ok (.newarray .long, 2) := dk_188_11 (dk_at dksX6_init_0 7 rfl rfl)
theorem dX6_init_9 : decode cX6_init 9 = .ok (.putfield 7, 3) := dk_181 0 7 (dk_at dksX6_init_0 9 rfl rfl)
theorem dX6_init_12 : decode cX6_init 12 = .ok (.return_, 1) := dk_177 (dk_at dksX6_init_0 12 rfl rfl)
theorem q200 : (Jvm.Cond.initialized "GroupJournal$Moment") ∈ lw_all := lw_g (lw_at lw_m1 13 rfl) rfl
theorem q466 : (Jvm.Cond.instantiable "GroupJournal$Moment" (1 : Nat)) ∈ lw_all := lw_g (lw_at lw_m2 39 rfl) rfl
theorem q468 : (Jvm.Cond.instanceMethod ({ cls := "GroupJournal$Moment", name := "<init>", desc := "()V" } : Jvm.MethodName)) ∈ lw_all := lw_g (lw_at lw_m2 41 rfl) rfl
theorem q469 : (Jvm.Cond.code ({ cls := "GroupJournal$Moment", name := "<init>", desc := "()V" } : Jvm.MethodName) prog_13_method_1_code (1 : Nat) (Option.none : Option Jvm.ClassFile.FieldType)) ∈ lw_all := lw_g (lw_at lw_m2 42 rfl) rfl
theorem q470 : (Jvm.Cond.methodLink "GroupJournal$Moment" (1 : Nat) ({ cls := "java/lang/Object", name := "<init>", desc := "()V" } : Jvm.MethodName)) ∈ lw_all := lw_g (lw_at lw_m2 43 rfl) rfl
theorem q471 : (Jvm.Cond.fieldLink "GroupJournal$Moment" (7 : Nat) "GroupJournal$Moment" "of" "[J") ∈ lw_all := lw_g (lw_at lw_m2 44 rfl) rfl
theorem q475 : (Jvm.Cond.laysFinal "GroupJournal$Moment" "GroupJournal$Moment" "of" "[J") ∈ lw_all := lw_g (lw_at lw_m2 48 rfl) rfl
theorem q476 : (Jvm.Cond.soleField "GroupJournal$Moment" "of") ∈ lw_all := lw_g (lw_at lw_m2 49 rfl) rfl
theorem q477 : (Jvm.Cond.superclass "GroupJournal$Moment" "java/lang/Object") ∈ lw_all := lw_g (lw_at lw_m2 50 rfl) rfl
theorem q1287 : (Jvm.Cond.selects "GroupJournal$Moment" ({ cls := "java/lang/Object", name := "getClass", desc := "()Ljava/lang/Class;" } : Jvm.MethodName) ({ cls := "java/lang/Object", name := "getClass", desc := "()Ljava/lang/Class;" } : Jvm.MethodName)) ∈ lw_all := lw_g (lw_at lw_m5 140 rfl) rfl
theorem q1669 : (Jvm.Cond.selects "GroupJournal$Moment" ({ cls := "java/lang/Object", name := "hashCode", desc := "()I" } : Jvm.MethodName) ({ cls := "java/lang/Object", name := "hashCode", desc := "()I" } : Jvm.MethodName)) ∈ lw_all := lw_g (lw_at lw_m7 42 rfl) rfl
theorem q1718 : (Jvm.Cond.selects "GroupJournal$Moment" ({ cls := "java/lang/Object", name := "equals", desc := "(Ljava/lang/Object;)Z" } : Jvm.MethodName) ({ cls := "java/lang/Object", name := "equals", desc := "(Ljava/lang/Object;)Z" } : Jvm.MethodName)) ∈ lw_all := lw_g (lw_at lw_m7 91 rfl) rfl
theorem q4167 : (Jvm.Cond.castable "GroupJournal$Moment" "java/lang/Object") ∈ lw_tbl := lw_at lw_m17 140 rfl
theorem in_X6 : ∀ w ∈ wsX60, w ∈ lw_all := lw_in wsX60 [475] (by decide +kernel) (by decide +kernel)

/-! GroupJournal$Layer -/
set_option maxRecDepth 100000
def RX7 : String := "GroupJournal$Layer"
def TX7 : u_T := fun k => match k with
  | 0 => ("GroupJournal$Layer", "where", "[I", true)
  | 1 => ("GroupJournal$Layer", "octets", "[I", true)
  | 2 => ("GroupJournal$Layer", "last", "[I", true)
  | 3 => ("GroupJournal$Layer", "opened", "[Z", true)
  | 4 => ("GroupJournal$Layer", "of", "LGroupJournal$State;", false)
  | 5 => ("GroupJournal$Layer", "many", "I", false)
  | 6 => ("GroupJournal$Layer", "segment", "I", false)
  | 7 => ("GroupJournal$Layer", "at", "I", false)
  | 8 => ("GroupJournal$Layer", "serial", "I", false)
  | 9 => ("GroupJournal$Layer", "newest", "I", false)
  | _ => ("GroupJournal$Layer", "this$0", "LGroupJournal;", true)
def tyX7 : Nat → FieldType := fun k => match k with
  | 0 => .array .int
  | 1 => .array .int
  | 2 => .array .int
  | 3 => .array .boolean
  | 4 => .object "GroupJournal$State"
  | 5 => .int
  | 6 => .int
  | 7 => .int
  | 8 => .int
  | 9 => .int
  | _ => .object "GroupJournal"
abbrev wsX70 : List Cond := u_ws RX7 TX7 11
theorem nmX7 : ∀ a, a < 11 → ∀ b, b < 11 → a ≠ b → (TX7 a).2.1 ≠ (TX7 b).2.1 := by decide +kernel
theorem tyX7_ok : ∀ k, k < 11 → parseFieldDescriptor (TX7 k).2.2.1 = some (tyX7 k) := by decide +kernel
abbrev cX7_init : ByteArray := prog_11_method_1_code
def yX7_init : MethodName := ⟨RX7, "<init>", "(LGroupJournal;)V"⟩
def dkwX7_init_1 : List UInt8 := [181, 0, 19, 42, 7, 188, 10, 181, 0, 22, 42, 7, 188, 4, 181, 0, 25, 177]
abbrev dktX7_init_1 : List UInt8 := dkwX7_init_1 ++ []
def dkwX7_init_0 : List UInt8 := [42, 43, 181, 0, 3, 42, 183, 0, 9, 42, 17, 2, 0, 188, 10, 181, 0, 15, 42, 17, 2, 0, 188, 10]
abbrev dktX7_init_0 : List UInt8 := dkwX7_init_0 ++ dktX7_init_1
theorem dksX7_init_0 : cX7_init.data.toList.drop 0 = dktX7_init_0 := by decide +kernel
theorem dksX7_init_1 : cX7_init.data.toList.drop 24 = dktX7_init_1 := dk_seg dksX7_init_0 24 rfl rfl
theorem dX7_init_0 : decode cX7_init 0 = .ok (.aload_n 0, 1) := dk_42 (dk_at dksX7_init_0 0 rfl rfl)
theorem dX7_init_1 : decode cX7_init 1 = .ok (.aload_n 1, 1) := dk_43 (dk_at dksX7_init_0 1 rfl rfl)
theorem dX7_init_2 : decode cX7_init 2 = .ok (.putfield 3, 3) := dk_181 0 3 (dk_at dksX7_init_0 2 rfl rfl)
theorem dX7_init_5 : decode cX7_init 5 = .ok (.aload_n 0, 1) := dk_42 (dk_at dksX7_init_0 5 rfl rfl)
theorem dX7_init_6 : decode cX7_init 6 = .ok (.invokespecial 9, 3) := dk_183 0 9 (dk_at dksX7_init_0 6 rfl rfl)
theorem dX7_init_9 : decode cX7_init 9 = .ok (.aload_n 0, 1) := dk_42 (dk_at dksX7_init_0 9 rfl rfl)
theorem dX7_init_10 : decode cX7_init 10 = .ok (.sipush 512, 3) := dk_17 2 0 (dk_at dksX7_init_0 10 rfl rfl)
theorem dX7_init_13 : decode cX7_init 13 = .ok (.newarray .int, 2) := dk_188_10 (dk_at dksX7_init_0 13 rfl rfl)
theorem dX7_init_15 : decode cX7_init 15 = .ok (.putfield 15, 3) := dk_181 0 15 (dk_at dksX7_init_0 15 rfl rfl)
theorem dX7_init_18 : decode cX7_init 18 = .ok (.aload_n 0, 1) := dk_42 (dk_at dksX7_init_0 18 rfl rfl)
theorem dX7_init_19 : decode cX7_init 19 = .ok (.sipush 512, 3) := dk_17 2 0 (dk_at dksX7_init_0 19 rfl rfl)
theorem dX7_init_22 : decode cX7_init 22 = .ok (.newarray .int, 2) := dk_188_10 (dk_at dksX7_init_0 22 rfl rfl)
theorem dX7_init_24 : decode cX7_init 24 = .ok (.putfield 19, 3) := dk_181 0 19 (dk_at dksX7_init_1 0 rfl rfl)
theorem dX7_init_27 : decode cX7_init 27 = .ok (.aload_n 0, 1) := dk_42 (dk_at dksX7_init_1 3 rfl rfl)
theorem dX7_init_28 : decode cX7_init 28 = .ok (.iconst 4, 1) := dk_7 (dk_at dksX7_init_1 4 rfl rfl)
theorem dX7_init_29 : decode cX7_init 29 = .ok (.newarray .int, 2) := dk_188_10 (dk_at dksX7_init_1 5 rfl rfl)
theorem dX7_init_31 : decode cX7_init 31 = .ok (.putfield 22, 3) := dk_181 0 22 (dk_at dksX7_init_1 7 rfl rfl)
theorem dX7_init_34 : decode cX7_init 34 = .ok (.aload_n 0, 1) := dk_42 (dk_at dksX7_init_1 10 rfl rfl)
theorem dX7_init_35 : decode cX7_init 35 = .ok (.iconst 4, 1) := dk_7 (dk_at dksX7_init_1 11 rfl rfl)
theorem dX7_init_36 : decode cX7_init 36 = .ok (.newarray .boolean, 2) := dk_188_4 (dk_at dksX7_init_1 12 rfl rfl)
theorem dX7_init_38 : decode cX7_init 38 = .ok (.putfield 25, 3) := dk_181 0 25 (dk_at dksX7_init_1 14 rfl rfl)
theorem dX7_init_41 : decode cX7_init 41 = .ok (.return_, 1) := dk_177 (dk_at dksX7_init_1 17 rfl rfl)
abbrev cX7_begins : ByteArray := prog_11_method_2_code
def yX7_begins : MethodName := ⟨RX7, "begins", "(LGroupJournal$State;)V"⟩
def dkwX7_begins_4 : List UInt8 := [167, 0, 4, 3, 84, 132, 2, 1, 167, 255, 214, 177]
abbrev dktX7_begins_4 : List UInt8 := dkwX7_begins_4 ++ []
def dkwX7_begins_3 : List UInt8 := [180, 0, 29, 180, 0, 55, 28, 46, 79, 42, 180, 0, 25, 28, 28, 42, 180, 0, 42, 160, 0, 7, 4]
abbrev dktX7_begins_3 : List UInt8 := dkwX7_begins_3 ++ dktX7_begins_4
def dkwX7_begins_2 : List UInt8 := [180, 0, 29, 180, 0, 51, 181, 0, 54, 3, 61, 28, 7, 162, 0, 43, 42, 180, 0, 22, 28, 42]
abbrev dktX7_begins_2 : List UInt8 := dkwX7_begins_2 ++ dktX7_begins_3
def dkwX7_begins_1 : List UInt8 := [180, 0, 29, 180, 0, 43, 181, 0, 46, 42, 42, 180, 0, 29, 180, 0, 47, 181, 0, 50, 42, 42]
abbrev dktX7_begins_1 : List UInt8 := dkwX7_begins_1 ++ dktX7_begins_2
def dkwX7_begins_0 : List UInt8 := [42, 43, 181, 0, 29, 42, 3, 181, 0, 33, 42, 42, 180, 0, 29, 180, 0, 37, 181, 0, 42, 42, 42]
abbrev dktX7_begins_0 : List UInt8 := dkwX7_begins_0 ++ dktX7_begins_1
theorem dksX7_begins_0 : cX7_begins.data.toList.drop 0 = dktX7_begins_0 := by decide +kernel
theorem dksX7_begins_1 : cX7_begins.data.toList.drop 23 = dktX7_begins_1 := dk_seg dksX7_begins_0 23 rfl rfl
theorem dksX7_begins_2 : cX7_begins.data.toList.drop 45 = dktX7_begins_2 := dk_seg dksX7_begins_1 22 rfl rfl
theorem dksX7_begins_3 : cX7_begins.data.toList.drop 67 = dktX7_begins_3 := dk_seg dksX7_begins_2 22 rfl rfl
theorem dksX7_begins_4 : cX7_begins.data.toList.drop 90 = dktX7_begins_4 := dk_seg dksX7_begins_3 23 rfl rfl
theorem dX7_begins_0 : decode cX7_begins 0 = .ok (.aload_n 0, 1) := dk_42 (dk_at dksX7_begins_0 0 rfl rfl)
theorem dX7_begins_1 : decode cX7_begins 1 = .ok (.aload_n 1, 1) := dk_43 (dk_at dksX7_begins_0 1 rfl rfl)
theorem dX7_begins_2 : decode cX7_begins 2 = .ok (.putfield 29, 3) := dk_181 0 29 (dk_at dksX7_begins_0 2 rfl rfl)
theorem dX7_begins_5 : decode cX7_begins 5 = .ok (.aload_n 0, 1) := dk_42 (dk_at dksX7_begins_0 5 rfl rfl)
theorem dX7_begins_6 : decode cX7_begins 6 = .ok (.iconst 0, 1) := dk_3 (dk_at dksX7_begins_0 6 rfl rfl)
theorem dX7_begins_7 : decode cX7_begins 7 = .ok (.putfield 33, 3) := dk_181 0 33 (dk_at dksX7_begins_0 7 rfl rfl)
theorem dX7_begins_10 : decode cX7_begins 10 = .ok (.aload_n 0, 1) := dk_42 (dk_at dksX7_begins_0 10 rfl rfl)
theorem dX7_begins_11 : decode cX7_begins 11 = .ok (.aload_n 0, 1) := dk_42 (dk_at dksX7_begins_0 11 rfl rfl)
theorem dX7_begins_12 : decode cX7_begins 12 = .ok (.getfield 29, 3) := dk_180 0 29 (dk_at dksX7_begins_0 12 rfl rfl)
theorem dX7_begins_15 : decode cX7_begins 15 = .ok (.getfield 37, 3) := dk_180 0 37 (dk_at dksX7_begins_0 15 rfl rfl)
theorem dX7_begins_18 : decode cX7_begins 18 = .ok (.putfield 42, 3) := dk_181 0 42 (dk_at dksX7_begins_0 18 rfl rfl)
theorem dX7_begins_21 : decode cX7_begins 21 = .ok (.aload_n 0, 1) := dk_42 (dk_at dksX7_begins_0 21 rfl rfl)
theorem dX7_begins_22 : decode cX7_begins 22 = .ok (.aload_n 0, 1) := dk_42 (dk_at dksX7_begins_0 22 rfl rfl)
theorem dX7_begins_23 : decode cX7_begins 23 = .ok (.getfield 29, 3) := dk_180 0 29 (dk_at dksX7_begins_1 0 rfl rfl)
theorem dX7_begins_26 : decode cX7_begins 26 = .ok (.getfield 43, 3) := dk_180 0 43 (dk_at dksX7_begins_1 3 rfl rfl)
theorem dX7_begins_29 : decode cX7_begins 29 = .ok (.putfield 46, 3) := dk_181 0 46 (dk_at dksX7_begins_1 6 rfl rfl)
theorem dX7_begins_32 : decode cX7_begins 32 = .ok (.aload_n 0, 1) := dk_42 (dk_at dksX7_begins_1 9 rfl rfl)
theorem dX7_begins_33 : decode cX7_begins 33 = .ok (.aload_n 0, 1) := dk_42 (dk_at dksX7_begins_1 10 rfl rfl)
theorem dX7_begins_34 : decode cX7_begins 34 = .ok (.getfield 29, 3) := dk_180 0 29 (dk_at dksX7_begins_1 11 rfl rfl)
theorem dX7_begins_37 : decode cX7_begins 37 = .ok (.getfield 47, 3) := dk_180 0 47 (dk_at dksX7_begins_1 14 rfl rfl)
theorem dX7_begins_40 : decode cX7_begins 40 = .ok (.putfield 50, 3) := dk_181 0 50 (dk_at dksX7_begins_1 17 rfl rfl)
theorem dX7_begins_43 : decode cX7_begins 43 = .ok (.aload_n 0, 1) := dk_42 (dk_at dksX7_begins_1 20 rfl rfl)
theorem dX7_begins_44 : decode cX7_begins 44 = .ok (.aload_n 0, 1) := dk_42 (dk_at dksX7_begins_1 21 rfl rfl)
theorem dX7_begins_45 : decode cX7_begins 45 = .ok (.getfield 29, 3) := dk_180 0 29 (dk_at dksX7_begins_2 0 rfl rfl)
theorem dX7_begins_48 : decode cX7_begins 48 = .ok (.getfield 51, 3) := dk_180 0 51 (dk_at dksX7_begins_2 3 rfl rfl)
theorem dX7_begins_51 : decode cX7_begins 51 = .ok (.putfield 54, 3) := dk_181 0 54 (dk_at dksX7_begins_2 6 rfl rfl)
theorem dX7_begins_54 : decode cX7_begins 54 = .ok (.iconst 0, 1) := dk_3 (dk_at dksX7_begins_2 9 rfl rfl)
theorem dX7_begins_55 : decode cX7_begins 55 = .ok (.istore_n 2, 1) := dk_61 (dk_at dksX7_begins_2 10 rfl rfl)
theorem dX7_begins_56 : decode cX7_begins 56 = .ok (.iload_n 2, 1) := dk_28 (dk_at dksX7_begins_2 11 rfl rfl)
theorem dX7_begins_57 : decode cX7_begins 57 = .ok (.iconst 4, 1) := dk_7 (dk_at dksX7_begins_2 12 rfl rfl)
theorem dX7_begins_58 : decode cX7_begins 58 = .ok (.if_icmp .ge 43, 3) := dk_162 0 43 (dk_at dksX7_begins_2 13 rfl rfl)
theorem dX7_begins_61 : decode cX7_begins 61 = .ok (.aload_n 0, 1) := dk_42 (dk_at dksX7_begins_2 16 rfl rfl)
theorem dX7_begins_62 : decode cX7_begins 62 = .ok (.getfield 22, 3) := dk_180 0 22 (dk_at dksX7_begins_2 17 rfl rfl)
theorem dX7_begins_65 : decode cX7_begins 65 = .ok (.iload_n 2, 1) := dk_28 (dk_at dksX7_begins_2 20 rfl rfl)
theorem dX7_begins_66 : decode cX7_begins 66 = .ok (.aload_n 0, 1) := dk_42 (dk_at dksX7_begins_2 21 rfl rfl)
theorem dX7_begins_67 : decode cX7_begins 67 = .ok (.getfield 29, 3) := dk_180 0 29 (dk_at dksX7_begins_3 0 rfl rfl)
theorem dX7_begins_70 : decode cX7_begins 70 = .ok (.getfield 55, 3) := dk_180 0 55 (dk_at dksX7_begins_3 3 rfl rfl)
theorem dX7_begins_73 : decode cX7_begins 73 = .ok (.iload_n 2, 1) := dk_28 (dk_at dksX7_begins_3 6 rfl rfl)
theorem dX7_begins_74 : decode cX7_begins 74 = .ok (.iaload, 1) := dk_46 (dk_at dksX7_begins_3 7 rfl rfl)
theorem dX7_begins_75 : decode cX7_begins 75 = .ok (.iastore, 1) := dk_79 (dk_at dksX7_begins_3 8 rfl rfl)
theorem dX7_begins_76 : decode cX7_begins 76 = .ok (.aload_n 0, 1) := dk_42 (dk_at dksX7_begins_3 9 rfl rfl)
theorem dX7_begins_77 : decode cX7_begins 77 = .ok (.getfield 25, 3) := dk_180 0 25 (dk_at dksX7_begins_3 10 rfl rfl)
theorem dX7_begins_80 : decode cX7_begins 80 = .ok (.iload_n 2, 1) := dk_28 (dk_at dksX7_begins_3 13 rfl rfl)
theorem dX7_begins_81 : decode cX7_begins 81 = .ok (.iload_n 2, 1) := dk_28 (dk_at dksX7_begins_3 14 rfl rfl)
theorem dX7_begins_82 : decode cX7_begins 82 = .ok (.aload_n 0, 1) := dk_42 (dk_at dksX7_begins_3 15 rfl rfl)
theorem dX7_begins_83 : decode cX7_begins 83 = .ok (.getfield 42, 3) := dk_180 0 42 (dk_at dksX7_begins_3 16 rfl rfl)
theorem dX7_begins_86 : decode cX7_begins 86 = .ok (.if_icmp .ne 7, 3) := dk_160 0 7 (dk_at dksX7_begins_3 19 rfl rfl)
theorem dX7_begins_89 : decode cX7_begins 89 = .ok (.iconst 1, 1) := dk_4 (dk_at dksX7_begins_3 22 rfl rfl)
theorem dX7_begins_90 : decode cX7_begins 90 = .ok (.goto 4, 3) := dk_167 0 4 (dk_at dksX7_begins_4 0 rfl rfl)
theorem dX7_begins_93 : decode cX7_begins 93 = .ok (.iconst 0, 1) := dk_3 (dk_at dksX7_begins_4 3 rfl rfl)
theorem dX7_begins_94 : decode cX7_begins 94 = .ok (.bastore, 1) := dk_84 (dk_at dksX7_begins_4 4 rfl rfl)
theorem dX7_begins_95 : decode cX7_begins 95 = .ok (.iinc 2 1, 3) := dk_132 2 1 (dk_at dksX7_begins_4 5 rfl rfl)
theorem dX7_begins_98 : decode cX7_begins 98 = .ok (.goto (-42), 3) := dk_167 255 214 (dk_at dksX7_begins_4 8 rfl rfl)
theorem dX7_begins_101 : decode cX7_begins 101 = .ok (.return_, 1) := dk_177 (dk_at dksX7_begins_4 11 rfl rfl)
abbrev cX7_lays : ByteArray := prog_11_method_7_code
def yX7_lays : MethodName := ⟨RX7, "lays", "(LGroupJournal$Entry;)Z"⟩
def dkwX7_lays_4 : List UInt8 := [167, 255, 197, 42, 180, 0, 22, 42, 180, 0, 42, 43, 180, 0, 101, 79, 4, 172]
abbrev dktX7_lays_4 : List UInt8 := dkwX7_lays_4 ++ []
def dkwX7_lays_3 : List UInt8 := [42, 89, 180, 0, 46, 4, 96, 181, 0, 46, 167, 255, 229, 28, 42, 43, 28, 182, 0, 110, 96, 61]
abbrev dktX7_lays_3 : List UInt8 := dkwX7_lays_3 ++ dktX7_lays_4
def dkwX7_lays_2 : List UInt8 := [180, 0, 46, 182, 0, 107, 62, 42, 180, 0, 46, 29, 162, 0, 25, 42, 42, 180, 0, 46, 3, 182, 0, 73]
abbrev dktX7_lays_2 : List UInt8 := dkwX7_lays_2 ++ dktX7_lays_3
def dkwX7_lays_1 : List UInt8 := [182, 0, 104, 154, 0, 5, 3, 172, 3, 61, 28, 43, 182, 0, 81, 162, 0, 57, 42, 180, 0, 3, 42]
abbrev dktX7_lays_1 : List UInt8 := dkwX7_lays_1 ++ dktX7_lays_2
def dkwX7_lays_0 : List UInt8 := [42, 180, 0, 3, 42, 180, 0, 46, 43, 182, 0, 81, 182, 0, 98, 2, 160, 0, 16, 42, 43, 180, 0, 101]
abbrev dktX7_lays_0 : List UInt8 := dkwX7_lays_0 ++ dktX7_lays_1
theorem dksX7_lays_0 : cX7_lays.data.toList.drop 0 = dktX7_lays_0 := by decide +kernel
theorem dksX7_lays_1 : cX7_lays.data.toList.drop 24 = dktX7_lays_1 := dk_seg dksX7_lays_0 24 rfl rfl
theorem dksX7_lays_2 : cX7_lays.data.toList.drop 47 = dktX7_lays_2 := dk_seg dksX7_lays_1 23 rfl rfl
theorem dksX7_lays_3 : cX7_lays.data.toList.drop 71 = dktX7_lays_3 := dk_seg dksX7_lays_2 24 rfl rfl
theorem dksX7_lays_4 : cX7_lays.data.toList.drop 93 = dktX7_lays_4 := dk_seg dksX7_lays_3 22 rfl rfl
theorem dX7_lays_0 : decode cX7_lays 0 = .ok (.aload_n 0, 1) := dk_42 (dk_at dksX7_lays_0 0 rfl rfl)
theorem dX7_lays_1 : decode cX7_lays 1 = .ok (.getfield 3, 3) := dk_180 0 3 (dk_at dksX7_lays_0 1 rfl rfl)
theorem dX7_lays_4 : decode cX7_lays 4 = .ok (.aload_n 0, 1) := dk_42 (dk_at dksX7_lays_0 4 rfl rfl)
theorem dX7_lays_5 : decode cX7_lays 5 = .ok (.getfield 46, 3) := dk_180 0 46 (dk_at dksX7_lays_0 5 rfl rfl)
theorem dX7_lays_8 : decode cX7_lays 8 = .ok (.aload_n 1, 1) := dk_43 (dk_at dksX7_lays_0 8 rfl rfl)
theorem dX7_lays_9 : decode cX7_lays 9 = .ok (.invokevirtual 81, 3) := dk_182 0 81 (dk_at dksX7_lays_0 9 rfl rfl)
theorem dX7_lays_12 : decode cX7_lays 12 = .ok (.invokevirtual 98, 3) := dk_182 0 98 (dk_at dksX7_lays_0 12 rfl rfl)
theorem dX7_lays_15 : decode cX7_lays 15 = .ok (.iconst (-1), 1) := dk_2 (dk_at dksX7_lays_0 15 rfl rfl)
theorem dX7_lays_16 : decode cX7_lays 16 = .ok (.if_icmp .ne 16, 3) := dk_160 0 16 (dk_at dksX7_lays_0 16 rfl rfl)
theorem dX7_lays_19 : decode cX7_lays 19 = .ok (.aload_n 0, 1) := dk_42 (dk_at dksX7_lays_0 19 rfl rfl)
theorem dX7_lays_20 : decode cX7_lays 20 = .ok (.aload_n 1, 1) := dk_43 (dk_at dksX7_lays_0 20 rfl rfl)
theorem dX7_lays_21 : decode cX7_lays 21 = .ok (.getfield 101, 3) := dk_180 0 101 (dk_at dksX7_lays_0 21 rfl rfl)
theorem dX7_lays_24 : decode cX7_lays 24 = .ok (.invokevirtual 104, 3) := dk_182 0 104 (dk_at dksX7_lays_1 0 rfl rfl)
theorem dX7_lays_27 : decode cX7_lays 27 = .ok (.ifCond .ne 5, 3) := dk_154 0 5 (dk_at dksX7_lays_1 3 rfl rfl)
theorem dX7_lays_30 : decode cX7_lays 30 = .ok (.iconst 0, 1) := dk_3 (dk_at dksX7_lays_1 6 rfl rfl)
theorem dX7_lays_31 : decode cX7_lays 31 = .ok (.ireturn, 1) := dk_172 (dk_at dksX7_lays_1 7 rfl rfl)
theorem dX7_lays_32 : decode cX7_lays 32 = .ok (.iconst 0, 1) := dk_3 (dk_at dksX7_lays_1 8 rfl rfl)
theorem dX7_lays_33 : decode cX7_lays 33 = .ok (.istore_n 2, 1) := dk_61 (dk_at dksX7_lays_1 9 rfl rfl)
theorem dX7_lays_34 : decode cX7_lays 34 = .ok (.iload_n 2, 1) := dk_28 (dk_at dksX7_lays_1 10 rfl rfl)
theorem dX7_lays_35 : decode cX7_lays 35 = .ok (.aload_n 1, 1) := dk_43 (dk_at dksX7_lays_1 11 rfl rfl)
theorem dX7_lays_36 : decode cX7_lays 36 = .ok (.invokevirtual 81, 3) := dk_182 0 81 (dk_at dksX7_lays_1 12 rfl rfl)
theorem dX7_lays_39 : decode cX7_lays 39 = .ok (.if_icmp .ge 57, 3) := dk_162 0 57 (dk_at dksX7_lays_1 15 rfl rfl)
theorem dX7_lays_42 : decode cX7_lays 42 = .ok (.aload_n 0, 1) := dk_42 (dk_at dksX7_lays_1 18 rfl rfl)
theorem dX7_lays_43 : decode cX7_lays 43 = .ok (.getfield 3, 3) := dk_180 0 3 (dk_at dksX7_lays_1 19 rfl rfl)
theorem dX7_lays_46 : decode cX7_lays 46 = .ok (.aload_n 0, 1) := dk_42 (dk_at dksX7_lays_1 22 rfl rfl)
theorem dX7_lays_47 : decode cX7_lays 47 = .ok (.getfield 46, 3) := dk_180 0 46 (dk_at dksX7_lays_2 0 rfl rfl)
theorem dX7_lays_50 : decode cX7_lays 50 = .ok (.invokevirtual 107, 3) := dk_182 0 107 (dk_at dksX7_lays_2 3 rfl rfl)
theorem dX7_lays_53 : decode cX7_lays 53 = .ok (.istore_n 3, 1) := dk_62 (dk_at dksX7_lays_2 6 rfl rfl)
theorem dX7_lays_54 : decode cX7_lays 54 = .ok (.aload_n 0, 1) := dk_42 (dk_at dksX7_lays_2 7 rfl rfl)
theorem dX7_lays_55 : decode cX7_lays 55 = .ok (.getfield 46, 3) := dk_180 0 46 (dk_at dksX7_lays_2 8 rfl rfl)
theorem dX7_lays_58 : decode cX7_lays 58 = .ok (.iload_n 3, 1) := dk_29 (dk_at dksX7_lays_2 11 rfl rfl)
theorem dX7_lays_59 : decode cX7_lays 59 = .ok (.if_icmp .ge 25, 3) := dk_162 0 25 (dk_at dksX7_lays_2 12 rfl rfl)
theorem dX7_lays_62 : decode cX7_lays 62 = .ok (.aload_n 0, 1) := dk_42 (dk_at dksX7_lays_2 15 rfl rfl)
theorem dX7_lays_63 : decode cX7_lays 63 = .ok (.aload_n 0, 1) := dk_42 (dk_at dksX7_lays_2 16 rfl rfl)
theorem dX7_lays_64 : decode cX7_lays 64 = .ok (.getfield 46, 3) := dk_180 0 46 (dk_at dksX7_lays_2 17 rfl rfl)
theorem dX7_lays_67 : decode cX7_lays 67 = .ok (.iconst 0, 1) := dk_3 (dk_at dksX7_lays_2 20 rfl rfl)
theorem dX7_lays_68 : decode cX7_lays 68 = .ok (.invokevirtual 73, 3) := dk_182 0 73 (dk_at dksX7_lays_2 21 rfl rfl)
theorem dX7_lays_71 : decode cX7_lays 71 = .ok (.aload_n 0, 1) := dk_42 (dk_at dksX7_lays_3 0 rfl rfl)
theorem dX7_lays_72 : decode cX7_lays 72 = .ok (.dup, 1) := dk_89 (dk_at dksX7_lays_3 1 rfl rfl)
theorem dX7_lays_73 : decode cX7_lays 73 = .ok (.getfield 46, 3) := dk_180 0 46 (dk_at dksX7_lays_3 2 rfl rfl)
theorem dX7_lays_76 : decode cX7_lays 76 = .ok (.iconst 1, 1) := dk_4 (dk_at dksX7_lays_3 5 rfl rfl)
theorem dX7_lays_77 : decode cX7_lays 77 = .ok (.iadd, 1) := dk_96 (dk_at dksX7_lays_3 6 rfl rfl)
theorem dX7_lays_78 : decode cX7_lays 78 = .ok (.putfield 46, 3) := dk_181 0 46 (dk_at dksX7_lays_3 7 rfl rfl)
theorem dX7_lays_81 : decode cX7_lays 81 = .ok (.goto (-27), 3) := dk_167 255 229 (dk_at dksX7_lays_3 10 rfl rfl)
theorem dX7_lays_84 : decode cX7_lays 84 = .ok (.iload_n 2, 1) := dk_28 (dk_at dksX7_lays_3 13 rfl rfl)
theorem dX7_lays_85 : decode cX7_lays 85 = .ok (.aload_n 0, 1) := dk_42 (dk_at dksX7_lays_3 14 rfl rfl)
theorem dX7_lays_86 : decode cX7_lays 86 = .ok (.aload_n 1, 1) := dk_43 (dk_at dksX7_lays_3 15 rfl rfl)
theorem dX7_lays_87 : decode cX7_lays 87 = .ok (.iload_n 2, 1) := dk_28 (dk_at dksX7_lays_3 16 rfl rfl)
theorem dX7_lays_88 : decode cX7_lays 88 = .ok (.invokevirtual 110, 3) := dk_182 0 110 (dk_at dksX7_lays_3 17 rfl rfl)
theorem dX7_lays_91 : decode cX7_lays 91 = .ok (.iadd, 1) := dk_96 (dk_at dksX7_lays_3 20 rfl rfl)
theorem dX7_lays_92 : decode cX7_lays 92 = .ok (.istore_n 2, 1) := dk_61 (dk_at dksX7_lays_3 21 rfl rfl)
theorem dX7_lays_93 : decode cX7_lays 93 = .ok (.goto (-59), 3) := dk_167 255 197 (dk_at dksX7_lays_4 0 rfl rfl)
theorem dX7_lays_96 : decode cX7_lays 96 = .ok (.aload_n 0, 1) := dk_42 (dk_at dksX7_lays_4 3 rfl rfl)
theorem dX7_lays_97 : decode cX7_lays 97 = .ok (.getfield 22, 3) := dk_180 0 22 (dk_at dksX7_lays_4 4 rfl rfl)
theorem dX7_lays_100 : decode cX7_lays 100 = .ok (.aload_n 0, 1) := dk_42 (dk_at dksX7_lays_4 7 rfl rfl)
theorem dX7_lays_101 : decode cX7_lays 101 = .ok (.getfield 42, 3) := dk_180 0 42 (dk_at dksX7_lays_4 8 rfl rfl)
theorem dX7_lays_104 : decode cX7_lays 104 = .ok (.aload_n 1, 1) := dk_43 (dk_at dksX7_lays_4 11 rfl rfl)
theorem dX7_lays_105 : decode cX7_lays 105 = .ok (.getfield 101, 3) := dk_180 0 101 (dk_at dksX7_lays_4 12 rfl rfl)
theorem dX7_lays_108 : decode cX7_lays 108 = .ok (.iastore, 1) := dk_79 (dk_at dksX7_lays_4 15 rfl rfl)
theorem dX7_lays_109 : decode cX7_lays 109 = .ok (.iconst 1, 1) := dk_4 (dk_at dksX7_lays_4 16 rfl rfl)
theorem dX7_lays_110 : decode cX7_lays 110 = .ok (.ireturn, 1) := dk_172 (dk_at dksX7_lays_4 17 rfl rfl)
abbrev cX7_opens : ByteArray := prog_11_method_5_code
def yX7_opens : MethodName := ⟨RX7, "opens", "(I)Z"⟩
def dkwX7_opens_6 : List UInt8 := [182, 0, 77, 182, 0, 73, 42, 8, 181, 0, 46, 4, 172]
abbrev dktX7_opens_6 : List UInt8 := dkwX7_opens_6 ++ []
def dkwX7_opens_5 : List UInt8 := [182, 0, 73, 42, 5, 27, 16, 8, 122, 182, 0, 73, 42, 6, 27, 182, 0, 73, 42, 7, 42, 29]
abbrev dktX7_opens_5 : List UInt8 := dkwX7_opens_5 ++ dktX7_opens_6
def dkwX7_opens_4 : List UInt8 := [180, 0, 33, 62, 42, 3, 42, 180, 0, 50, 16, 8, 122, 182, 0, 73, 42, 4, 42, 180, 0, 50]
abbrev dktX7_opens_4 : List UInt8 := dkwX7_opens_4 ++ dktX7_opens_5
def dkwX7_opens_3 : List UInt8 := [181, 0, 42, 42, 89, 180, 0, 54, 4, 96, 181, 0, 54, 42, 42, 180, 0, 54, 181, 0, 50, 42]
abbrev dktX7_opens_3 : List UInt8 := dkwX7_opens_3 ++ dktX7_opens_4
def dkwX7_opens_2 : List UInt8 := [180, 0, 3, 180, 0, 60, 180, 0, 64, 160, 0, 5, 3, 172, 42, 180, 0, 25, 28, 4, 84, 42, 28]
abbrev dktX7_opens_2 : List UInt8 := dkwX7_opens_2 ++ dktX7_opens_3
def dkwX7_opens_1 : List UInt8 := [154, 0, 14, 42, 180, 0, 29, 28, 182, 0, 69, 154, 0, 9, 132, 2, 1, 167, 255, 219, 28, 42]
abbrev dktX7_opens_1 : List UInt8 := dkwX7_opens_1 ++ dktX7_opens_2
def dkwX7_opens_0 : List UInt8 := [3, 61, 28, 42, 180, 0, 3, 180, 0, 60, 180, 0, 64, 162, 0, 29, 42, 180, 0, 25, 28, 51]
abbrev dktX7_opens_0 : List UInt8 := dkwX7_opens_0 ++ dktX7_opens_1
theorem dksX7_opens_0 : cX7_opens.data.toList.drop 0 = dktX7_opens_0 := by decide +kernel
theorem dksX7_opens_1 : cX7_opens.data.toList.drop 22 = dktX7_opens_1 := dk_seg dksX7_opens_0 22 rfl rfl
theorem dksX7_opens_2 : cX7_opens.data.toList.drop 44 = dktX7_opens_2 := dk_seg dksX7_opens_1 22 rfl rfl
theorem dksX7_opens_3 : cX7_opens.data.toList.drop 67 = dktX7_opens_3 := dk_seg dksX7_opens_2 23 rfl rfl
theorem dksX7_opens_4 : cX7_opens.data.toList.drop 89 = dktX7_opens_4 := dk_seg dksX7_opens_3 22 rfl rfl
theorem dksX7_opens_5 : cX7_opens.data.toList.drop 111 = dktX7_opens_5 := dk_seg dksX7_opens_4 22 rfl rfl
theorem dksX7_opens_6 : cX7_opens.data.toList.drop 133 = dktX7_opens_6 := dk_seg dksX7_opens_5 22 rfl rfl
theorem dX7_opens_0 : decode cX7_opens 0 = .ok (.iconst 0, 1) := dk_3 (dk_at dksX7_opens_0 0 rfl rfl)
theorem dX7_opens_1 : decode cX7_opens 1 = .ok (.istore_n 2, 1) := dk_61 (dk_at dksX7_opens_0 1 rfl rfl)
theorem dX7_opens_2 : decode cX7_opens 2 = .ok (.iload_n 2, 1) := dk_28 (dk_at dksX7_opens_0 2 rfl rfl)
theorem dX7_opens_3 : decode cX7_opens 3 = .ok (.aload_n 0, 1) := dk_42 (dk_at dksX7_opens_0 3 rfl rfl)
theorem dX7_opens_4 : decode cX7_opens 4 = .ok (.getfield 3, 3) := dk_180 0 3 (dk_at dksX7_opens_0 4 rfl rfl)
theorem dX7_opens_7 : decode cX7_opens 7 = .ok (.getfield 60, 3) := dk_180 0 60 (dk_at dksX7_opens_0 7 rfl rfl)
theorem dX7_opens_10 : decode cX7_opens 10 = .ok (.getfield 64, 3) := dk_180 0 64 (dk_at dksX7_opens_0 10 rfl rfl)
theorem dX7_opens_13 : decode cX7_opens 13 = .ok (.if_icmp .ge 29, 3) := dk_162 0 29 (dk_at dksX7_opens_0 13 rfl rfl)
theorem dX7_opens_16 : decode cX7_opens 16 = .ok (.aload_n 0, 1) := dk_42 (dk_at dksX7_opens_0 16 rfl rfl)
theorem dX7_opens_17 : decode cX7_opens 17 = .ok (.getfield 25, 3) := dk_180 0 25 (dk_at dksX7_opens_0 17 rfl rfl)
theorem dX7_opens_20 : decode cX7_opens 20 = .ok (.iload_n 2, 1) := dk_28 (dk_at dksX7_opens_0 20 rfl rfl)
theorem dX7_opens_21 : decode cX7_opens 21 = .ok (.baload, 1) := dk_51 (dk_at dksX7_opens_0 21 rfl rfl)
theorem dX7_opens_22 : decode cX7_opens 22 = .ok (.ifCond .ne 14, 3) := dk_154 0 14 (dk_at dksX7_opens_1 0 rfl rfl)
theorem dX7_opens_25 : decode cX7_opens 25 = .ok (.aload_n 0, 1) := dk_42 (dk_at dksX7_opens_1 3 rfl rfl)
theorem dX7_opens_26 : decode cX7_opens 26 = .ok (.getfield 29, 3) := dk_180 0 29 (dk_at dksX7_opens_1 4 rfl rfl)
theorem dX7_opens_29 : decode cX7_opens 29 = .ok (.iload_n 2, 1) := dk_28 (dk_at dksX7_opens_1 7 rfl rfl)
theorem dX7_opens_30 : decode cX7_opens 30 = .ok (.invokevirtual 69, 3) := dk_182 0 69 (dk_at dksX7_opens_1 8 rfl rfl)
theorem dX7_opens_33 : decode cX7_opens 33 = .ok (.ifCond .ne 9, 3) := dk_154 0 9 (dk_at dksX7_opens_1 11 rfl rfl)
theorem dX7_opens_36 : decode cX7_opens 36 = .ok (.iinc 2 1, 3) := dk_132 2 1 (dk_at dksX7_opens_1 14 rfl rfl)
theorem dX7_opens_39 : decode cX7_opens 39 = .ok (.goto (-37), 3) := dk_167 255 219 (dk_at dksX7_opens_1 17 rfl rfl)
theorem dX7_opens_42 : decode cX7_opens 42 = .ok (.iload_n 2, 1) := dk_28 (dk_at dksX7_opens_1 20 rfl rfl)
theorem dX7_opens_43 : decode cX7_opens 43 = .ok (.aload_n 0, 1) := dk_42 (dk_at dksX7_opens_1 21 rfl rfl)
theorem dX7_opens_44 : decode cX7_opens 44 = .ok (.getfield 3, 3) := dk_180 0 3 (dk_at dksX7_opens_2 0 rfl rfl)
theorem dX7_opens_47 : decode cX7_opens 47 = .ok (.getfield 60, 3) := dk_180 0 60 (dk_at dksX7_opens_2 3 rfl rfl)
theorem dX7_opens_50 : decode cX7_opens 50 = .ok (.getfield 64, 3) := dk_180 0 64 (dk_at dksX7_opens_2 6 rfl rfl)
theorem dX7_opens_53 : decode cX7_opens 53 = .ok (.if_icmp .ne 5, 3) := dk_160 0 5 (dk_at dksX7_opens_2 9 rfl rfl)
theorem dX7_opens_56 : decode cX7_opens 56 = .ok (.iconst 0, 1) := dk_3 (dk_at dksX7_opens_2 12 rfl rfl)
theorem dX7_opens_57 : decode cX7_opens 57 = .ok (.ireturn, 1) := dk_172 (dk_at dksX7_opens_2 13 rfl rfl)
theorem dX7_opens_58 : decode cX7_opens 58 = .ok (.aload_n 0, 1) := dk_42 (dk_at dksX7_opens_2 14 rfl rfl)
theorem dX7_opens_59 : decode cX7_opens 59 = .ok (.getfield 25, 3) := dk_180 0 25 (dk_at dksX7_opens_2 15 rfl rfl)
theorem dX7_opens_62 : decode cX7_opens 62 = .ok (.iload_n 2, 1) := dk_28 (dk_at dksX7_opens_2 18 rfl rfl)
theorem dX7_opens_63 : decode cX7_opens 63 = .ok (.iconst 1, 1) := dk_4 (dk_at dksX7_opens_2 19 rfl rfl)
theorem dX7_opens_64 : decode cX7_opens 64 = .ok (.bastore, 1) := dk_84 (dk_at dksX7_opens_2 20 rfl rfl)
theorem dX7_opens_65 : decode cX7_opens 65 = .ok (.aload_n 0, 1) := dk_42 (dk_at dksX7_opens_2 21 rfl rfl)
theorem dX7_opens_66 : decode cX7_opens 66 = .ok (.iload_n 2, 1) := dk_28 (dk_at dksX7_opens_2 22 rfl rfl)
theorem dX7_opens_67 : decode cX7_opens 67 = .ok (.putfield 42, 3) := dk_181 0 42 (dk_at dksX7_opens_3 0 rfl rfl)
theorem dX7_opens_70 : decode cX7_opens 70 = .ok (.aload_n 0, 1) := dk_42 (dk_at dksX7_opens_3 3 rfl rfl)
theorem dX7_opens_71 : decode cX7_opens 71 = .ok (.dup, 1) := dk_89 (dk_at dksX7_opens_3 4 rfl rfl)
theorem dX7_opens_72 : decode cX7_opens 72 = .ok (.getfield 54, 3) := dk_180 0 54 (dk_at dksX7_opens_3 5 rfl rfl)
theorem dX7_opens_75 : decode cX7_opens 75 = .ok (.iconst 1, 1) := dk_4 (dk_at dksX7_opens_3 8 rfl rfl)
theorem dX7_opens_76 : decode cX7_opens 76 = .ok (.iadd, 1) := dk_96 (dk_at dksX7_opens_3 9 rfl rfl)
theorem dX7_opens_77 : decode cX7_opens 77 = .ok (.putfield 54, 3) := dk_181 0 54 (dk_at dksX7_opens_3 10 rfl rfl)
theorem dX7_opens_80 : decode cX7_opens 80 = .ok (.aload_n 0, 1) := dk_42 (dk_at dksX7_opens_3 13 rfl rfl)
theorem dX7_opens_81 : decode cX7_opens 81 = .ok (.aload_n 0, 1) := dk_42 (dk_at dksX7_opens_3 14 rfl rfl)
theorem dX7_opens_82 : decode cX7_opens 82 = .ok (.getfield 54, 3) := dk_180 0 54 (dk_at dksX7_opens_3 15 rfl rfl)
theorem dX7_opens_85 : decode cX7_opens 85 = .ok (.putfield 50, 3) := dk_181 0 50 (dk_at dksX7_opens_3 18 rfl rfl)
theorem dX7_opens_88 : decode cX7_opens 88 = .ok (.aload_n 0, 1) := dk_42 (dk_at dksX7_opens_3 21 rfl rfl)
theorem dX7_opens_89 : decode cX7_opens 89 = .ok (.getfield 33, 3) := dk_180 0 33 (dk_at dksX7_opens_4 0 rfl rfl)
theorem dX7_opens_92 : decode cX7_opens 92 = .ok (.istore_n 3, 1) := dk_62 (dk_at dksX7_opens_4 3 rfl rfl)
theorem dX7_opens_93 : decode cX7_opens 93 = .ok (.aload_n 0, 1) := dk_42 (dk_at dksX7_opens_4 4 rfl rfl)
theorem dX7_opens_94 : decode cX7_opens 94 = .ok (.iconst 0, 1) := dk_3 (dk_at dksX7_opens_4 5 rfl rfl)
theorem dX7_opens_95 : decode cX7_opens 95 = .ok (.aload_n 0, 1) := dk_42 (dk_at dksX7_opens_4 6 rfl rfl)
theorem dX7_opens_96 : decode cX7_opens 96 = .ok (.getfield 50, 3) := dk_180 0 50 (dk_at dksX7_opens_4 7 rfl rfl)
theorem dX7_opens_99 : decode cX7_opens 99 = .ok (.bipush 8, 2) := dk_16 8 (dk_at dksX7_opens_4 10 rfl rfl)
theorem dX7_opens_101 : decode cX7_opens 101 = .ok (.ishr, 1) := dk_122 (dk_at dksX7_opens_4 12 rfl rfl)
theorem dX7_opens_102 : decode cX7_opens 102 = .ok (.invokevirtual 73, 3) := dk_182 0 73 (dk_at dksX7_opens_4 13 rfl rfl)
theorem dX7_opens_105 : decode cX7_opens 105 = .ok (.aload_n 0, 1) := dk_42 (dk_at dksX7_opens_4 16 rfl rfl)
theorem dX7_opens_106 : decode cX7_opens 106 = .ok (.iconst 1, 1) := dk_4 (dk_at dksX7_opens_4 17 rfl rfl)
theorem dX7_opens_107 : decode cX7_opens 107 = .ok (.aload_n 0, 1) := dk_42 (dk_at dksX7_opens_4 18 rfl rfl)
theorem dX7_opens_108 : decode cX7_opens 108 = .ok (.getfield 50, 3) := dk_180 0 50 (dk_at dksX7_opens_4 19 rfl rfl)
theorem dX7_opens_111 : decode cX7_opens 111 = .ok (.invokevirtual 73, 3) := dk_182 0 73 (dk_at dksX7_opens_5 0 rfl rfl)
theorem dX7_opens_114 : decode cX7_opens 114 = .ok (.aload_n 0, 1) := dk_42 (dk_at dksX7_opens_5 3 rfl rfl)
theorem dX7_opens_115 : decode cX7_opens 115 = .ok (.iconst 2, 1) := dk_5 (dk_at dksX7_opens_5 4 rfl rfl)
theorem dX7_opens_116 : decode cX7_opens 116 = .ok (.iload_n 1, 1) := dk_27 (dk_at dksX7_opens_5 5 rfl rfl)
theorem dX7_opens_117 : decode cX7_opens 117 = .ok (.bipush 8, 2) := dk_16 8 (dk_at dksX7_opens_5 6 rfl rfl)
theorem dX7_opens_119 : decode cX7_opens 119 = .ok (.ishr, 1) := dk_122 (dk_at dksX7_opens_5 8 rfl rfl)
theorem dX7_opens_120 : decode cX7_opens 120 = .ok (.invokevirtual 73, 3) := dk_182 0 73 (dk_at dksX7_opens_5 9 rfl rfl)
theorem dX7_opens_123 : decode cX7_opens 123 = .ok (.aload_n 0, 1) := dk_42 (dk_at dksX7_opens_5 12 rfl rfl)
theorem dX7_opens_124 : decode cX7_opens 124 = .ok (.iconst 3, 1) := dk_6 (dk_at dksX7_opens_5 13 rfl rfl)
theorem dX7_opens_125 : decode cX7_opens 125 = .ok (.iload_n 1, 1) := dk_27 (dk_at dksX7_opens_5 14 rfl rfl)
theorem dX7_opens_126 : decode cX7_opens 126 = .ok (.invokevirtual 73, 3) := dk_182 0 73 (dk_at dksX7_opens_5 15 rfl rfl)
theorem dX7_opens_129 : decode cX7_opens 129 = .ok (.aload_n 0, 1) := dk_42 (dk_at dksX7_opens_5 18 rfl rfl)
theorem dX7_opens_130 : decode cX7_opens 130 = .ok (.iconst 4, 1) := dk_7 (dk_at dksX7_opens_5 19 rfl rfl)
theorem dX7_opens_131 : decode cX7_opens 131 = .ok (.aload_n 0, 1) := dk_42 (dk_at dksX7_opens_5 20 rfl rfl)
theorem dX7_opens_132 : decode cX7_opens 132 = .ok (.iload_n 3, 1) := dk_29 (dk_at dksX7_opens_5 21 rfl rfl)
theorem dX7_opens_133 : decode cX7_opens 133 = .ok (.invokevirtual 77, 3) := dk_182 0 77 (dk_at dksX7_opens_6 0 rfl rfl)
theorem dX7_opens_136 : decode cX7_opens 136 = .ok (.invokevirtual 73, 3) := dk_182 0 73 (dk_at dksX7_opens_6 3 rfl rfl)
theorem dX7_opens_139 : decode cX7_opens 139 = .ok (.aload_n 0, 1) := dk_42 (dk_at dksX7_opens_6 6 rfl rfl)
theorem dX7_opens_140 : decode cX7_opens 140 = .ok (.iconst 5, 1) := dk_8 (dk_at dksX7_opens_6 7 rfl rfl)
theorem dX7_opens_141 : decode cX7_opens 141 = .ok (.putfield 46, 3) := dk_181 0 46 (dk_at dksX7_opens_6 8 rfl rfl)
theorem dX7_opens_144 : decode cX7_opens 144 = .ok (.iconst 1, 1) := dk_4 (dk_at dksX7_opens_6 11 rfl rfl)
theorem dX7_opens_145 : decode cX7_opens 145 = .ok (.ireturn, 1) := dk_172 (dk_at dksX7_opens_6 12 rfl rfl)
abbrev cX7_writes : ByteArray := prog_11_method_3_code
def yX7_writes : MethodName := ⟨RX7, "writes", "(II)V"⟩
def dkwX7_writes_1 : List UInt8 := [180, 0, 33, 28, 17, 0, 255, 126, 79, 42, 89, 180, 0, 33, 4, 96, 181, 0, 33, 177]
abbrev dktX7_writes_1 : List UInt8 := dkwX7_writes_1 ++ []
def dkwX7_writes_0 : List UInt8 := [42, 180, 0, 15, 42, 180, 0, 33, 17, 0, 128, 42, 180, 0, 42, 104, 27, 96, 79, 42, 180, 0, 19, 42]
abbrev dktX7_writes_0 : List UInt8 := dkwX7_writes_0 ++ dktX7_writes_1
theorem dksX7_writes_0 : cX7_writes.data.toList.drop 0 = dktX7_writes_0 := by decide +kernel
theorem dksX7_writes_1 : cX7_writes.data.toList.drop 24 = dktX7_writes_1 := dk_seg dksX7_writes_0 24 rfl rfl
theorem dX7_writes_0 : decode cX7_writes 0 = .ok (.aload_n 0, 1) := dk_42 (dk_at dksX7_writes_0 0 rfl rfl)
theorem dX7_writes_1 : decode cX7_writes 1 = .ok (.getfield 15, 3) := dk_180 0 15 (dk_at dksX7_writes_0 1 rfl rfl)
theorem dX7_writes_4 : decode cX7_writes 4 = .ok (.aload_n 0, 1) := dk_42 (dk_at dksX7_writes_0 4 rfl rfl)
theorem dX7_writes_5 : decode cX7_writes 5 = .ok (.getfield 33, 3) := dk_180 0 33 (dk_at dksX7_writes_0 5 rfl rfl)
theorem dX7_writes_8 : decode cX7_writes 8 = .ok (.sipush 128, 3) := dk_17 0 128 (dk_at dksX7_writes_0 8 rfl rfl)
theorem dX7_writes_11 : decode cX7_writes 11 = .ok (.aload_n 0, 1) := dk_42 (dk_at dksX7_writes_0 11 rfl rfl)
theorem dX7_writes_12 : decode cX7_writes 12 = .ok (.getfield 42, 3) := dk_180 0 42 (dk_at dksX7_writes_0 12 rfl rfl)
theorem dX7_writes_15 : decode cX7_writes 15 = .ok (.imul, 1) := dk_104 (dk_at dksX7_writes_0 15 rfl rfl)
theorem dX7_writes_16 : decode cX7_writes 16 = .ok (.iload_n 1, 1) := dk_27 (dk_at dksX7_writes_0 16 rfl rfl)
theorem dX7_writes_17 : decode cX7_writes 17 = .ok (.iadd, 1) := dk_96 (dk_at dksX7_writes_0 17 rfl rfl)
theorem dX7_writes_18 : decode cX7_writes 18 = .ok (.iastore, 1) := dk_79 (dk_at dksX7_writes_0 18 rfl rfl)
theorem dX7_writes_19 : decode cX7_writes 19 = .ok (.aload_n 0, 1) := dk_42 (dk_at dksX7_writes_0 19 rfl rfl)
theorem dX7_writes_20 : decode cX7_writes 20 = .ok (.getfield 19, 3) := dk_180 0 19 (dk_at dksX7_writes_0 20 rfl rfl)
theorem dX7_writes_23 : decode cX7_writes 23 = .ok (.aload_n 0, 1) := dk_42 (dk_at dksX7_writes_0 23 rfl rfl)
theorem dX7_writes_24 : decode cX7_writes 24 = .ok (.getfield 33, 3) := dk_180 0 33 (dk_at dksX7_writes_1 0 rfl rfl)
theorem dX7_writes_27 : decode cX7_writes 27 = .ok (.iload_n 2, 1) := dk_28 (dk_at dksX7_writes_1 3 rfl rfl)
theorem dX7_writes_28 : decode cX7_writes 28 = .ok (.sipush 255, 3) := dk_17 0 255 (dk_at dksX7_writes_1 4 rfl rfl)
theorem dX7_writes_31 : decode cX7_writes 31 = .ok (.iand, 1) := dk_126 (dk_at dksX7_writes_1 7 rfl rfl)
theorem dX7_writes_32 : decode cX7_writes 32 = .ok (.iastore, 1) := dk_79 (dk_at dksX7_writes_1 8 rfl rfl)
theorem dX7_writes_33 : decode cX7_writes 33 = .ok (.aload_n 0, 1) := dk_42 (dk_at dksX7_writes_1 9 rfl rfl)
theorem dX7_writes_34 : decode cX7_writes 34 = .ok (.dup, 1) := dk_89 (dk_at dksX7_writes_1 10 rfl rfl)
theorem dX7_writes_35 : decode cX7_writes 35 = .ok (.getfield 33, 3) := dk_180 0 33 (dk_at dksX7_writes_1 11 rfl rfl)
theorem dX7_writes_38 : decode cX7_writes 38 = .ok (.iconst 1, 1) := dk_4 (dk_at dksX7_writes_1 14 rfl rfl)
theorem dX7_writes_39 : decode cX7_writes 39 = .ok (.iadd, 1) := dk_96 (dk_at dksX7_writes_1 15 rfl rfl)
theorem dX7_writes_40 : decode cX7_writes 40 = .ok (.putfield 33, 3) := dk_181 0 33 (dk_at dksX7_writes_1 16 rfl rfl)
theorem dX7_writes_43 : decode cX7_writes 43 = .ok (.return_, 1) := dk_177 (dk_at dksX7_writes_1 19 rfl rfl)
abbrev cX7_checkFrom : ByteArray := prog_11_method_4_code
def yX7_checkFrom : MethodName := ⟨RX7, "checkFrom", "(I)I"⟩
def dkwX7_checkFrom_1 : List UInt8 := [132, 3, 1, 167, 255, 234, 28, 172]
abbrev dktX7_checkFrom_1 : List UInt8 := dkwX7_checkFrom_1 ++ []
def dkwX7_checkFrom_0 : List UInt8 := [16, 7, 61, 27, 62, 29, 42, 180, 0, 33, 162, 0, 20, 28, 42, 180, 0, 19, 29, 46, 184, 0, 56, 61]
abbrev dktX7_checkFrom_0 : List UInt8 := dkwX7_checkFrom_0 ++ dktX7_checkFrom_1
theorem dksX7_checkFrom_0 : cX7_checkFrom.data.toList.drop 0 = dktX7_checkFrom_0 := by decide +kernel
theorem dksX7_checkFrom_1 : cX7_checkFrom.data.toList.drop 24 = dktX7_checkFrom_1 := dk_seg dksX7_checkFrom_0 24 rfl rfl
theorem dX7_checkFrom_0 : decode cX7_checkFrom 0 = .ok (.bipush 7, 2) := dk_16 7 (dk_at dksX7_checkFrom_0 0 rfl rfl)
theorem dX7_checkFrom_2 : decode cX7_checkFrom 2 = .ok (.istore_n 2, 1) := dk_61 (dk_at dksX7_checkFrom_0 2 rfl rfl)
theorem dX7_checkFrom_3 : decode cX7_checkFrom 3 = .ok (.iload_n 1, 1) := dk_27 (dk_at dksX7_checkFrom_0 3 rfl rfl)
theorem dX7_checkFrom_4 : decode cX7_checkFrom 4 = .ok (.istore_n 3, 1) := dk_62 (dk_at dksX7_checkFrom_0 4 rfl rfl)
theorem dX7_checkFrom_5 : decode cX7_checkFrom 5 = .ok (.iload_n 3, 1) := dk_29 (dk_at dksX7_checkFrom_0 5 rfl rfl)
theorem dX7_checkFrom_6 : decode cX7_checkFrom 6 = .ok (.aload_n 0, 1) := dk_42 (dk_at dksX7_checkFrom_0 6 rfl rfl)
theorem dX7_checkFrom_7 : decode cX7_checkFrom 7 = .ok (.getfield 33, 3) := dk_180 0 33 (dk_at dksX7_checkFrom_0 7 rfl rfl)
theorem dX7_checkFrom_10 : decode cX7_checkFrom 10 = .ok (.if_icmp .ge 20, 3) := dk_162 0 20 (dk_at dksX7_checkFrom_0 10 rfl rfl)
theorem dX7_checkFrom_13 : decode cX7_checkFrom 13 = .ok (.iload_n 2, 1) := dk_28 (dk_at dksX7_checkFrom_0 13 rfl rfl)
theorem dX7_checkFrom_14 : decode cX7_checkFrom 14 = .ok (.aload_n 0, 1) := dk_42 (dk_at dksX7_checkFrom_0 14 rfl rfl)
theorem dX7_checkFrom_15 : decode cX7_checkFrom 15 = .ok (.getfield 19, 3) := dk_180 0 19 (dk_at dksX7_checkFrom_0 15 rfl rfl)
theorem dX7_checkFrom_18 : decode cX7_checkFrom 18 = .ok (.iload_n 3, 1) := dk_29 (dk_at dksX7_checkFrom_0 18 rfl rfl)
theorem dX7_checkFrom_19 : decode cX7_checkFrom 19 = .ok (.iaload, 1) := dk_46 (dk_at dksX7_checkFrom_0 19 rfl rfl)
theorem dX7_checkFrom_20 : decode cX7_checkFrom 20 = .ok (.invokestatic 56, 3) := dk_184 0 56 (dk_at dksX7_checkFrom_0 20 rfl rfl)
theorem dX7_checkFrom_23 : decode cX7_checkFrom 23 = .ok (.istore_n 2, 1) := dk_61 (dk_at dksX7_checkFrom_0 23 rfl rfl)
theorem dX7_checkFrom_24 : decode cX7_checkFrom 24 = .ok (.iinc 3 1, 3) := dk_132 3 1 (dk_at dksX7_checkFrom_1 0 rfl rfl)
theorem dX7_checkFrom_27 : decode cX7_checkFrom 27 = .ok (.goto (-22), 3) := dk_167 255 234 (dk_at dksX7_checkFrom_1 3 rfl rfl)
theorem dX7_checkFrom_30 : decode cX7_checkFrom 30 = .ok (.iload_n 2, 1) := dk_28 (dk_at dksX7_checkFrom_1 6 rfl rfl)
theorem dX7_checkFrom_31 : decode cX7_checkFrom 31 = .ok (.ireturn, 1) := dk_172 (dk_at dksX7_checkFrom_1 7 rfl rfl)
abbrev cX7_frames : ByteArray := prog_11_method_6_code
def yX7_frames : MethodName := ⟨RX7, "frames", "(LGroupJournal$Entry;I)I"⟩
def dkwX7_frames_8 : List UInt8 := [21, 4, 172]
abbrev dktX7_frames_8 : List UInt8 := dkwX7_frames_8 ++ []
def dkwX7_frames_7 : List UInt8 := [21, 5, 42, 21, 5, 4, 96, 182, 0, 77, 79, 42, 89, 180, 0, 46, 7, 21, 4, 96, 96, 181, 0, 46]
abbrev dktX7_frames_7 : List UInt8 := dkwX7_frames_7 ++ dktX7_frames_8
def dkwX7_frames_6 : List UInt8 := [21, 6, 96, 43, 28, 21, 6, 96, 182, 0, 95, 182, 0, 73, 132, 6, 1, 167, 255, 225, 42, 180, 0, 19]
abbrev dktX7_frames_6 : List UInt8 := dkwX7_frames_6 ++ dktX7_frames_7
def dkwX7_frames_5 : List UInt8 := [180, 0, 50, 182, 0, 73, 3, 54, 6, 21, 6, 21, 4, 162, 0, 30, 42, 42, 180, 0, 46, 7, 96]
abbrev dktX7_frames_5 : List UInt8 := dkwX7_frames_5 ++ dktX7_frames_6
def dkwX7_frames_4 : List UInt8 := [182, 0, 73, 42, 42, 180, 0, 46, 5, 96, 21, 4, 182, 0, 73, 42, 42, 180, 0, 46, 6, 96, 42]
abbrev dktX7_frames_4 : List UInt8 := dkwX7_frames_4 ++ dktX7_frames_5
def dkwX7_frames_3 : List UInt8 := [160, 0, 7, 4, 167, 0, 18, 5, 167, 0, 14, 21, 4, 29, 160, 0, 7, 7, 167, 0, 4, 6]
abbrev dktX7_frames_3 : List UInt8 := dkwX7_frames_3 ++ dktX7_frames_4
def dkwX7_frames_2 : List UInt8 := [42, 42, 180, 0, 46, 3, 182, 0, 73, 42, 42, 180, 0, 46, 4, 96, 28, 154, 0, 17, 21, 4, 29]
abbrev dktX7_frames_2 : List UInt8 := dkwX7_frames_2 ++ dktX7_frames_3
def dkwX7_frames_1 : List UInt8 := [180, 0, 3, 180, 0, 60, 180, 0, 87, 112, 100, 7, 100, 184, 0, 90, 54, 4, 42, 180, 0, 33, 54, 5]
abbrev dktX7_frames_1 : List UInt8 := dkwX7_frames_1 ++ dktX7_frames_2
def dkwX7_frames_0 : List UInt8 := [43, 182, 0, 81, 28, 100, 62, 29, 42, 180, 0, 3, 180, 0, 60, 180, 0, 87, 42, 180, 0, 46, 42]
abbrev dktX7_frames_0 : List UInt8 := dkwX7_frames_0 ++ dktX7_frames_1
theorem dksX7_frames_0 : cX7_frames.data.toList.drop 0 = dktX7_frames_0 := by decide +kernel
theorem dksX7_frames_1 : cX7_frames.data.toList.drop 23 = dktX7_frames_1 := dk_seg dksX7_frames_0 23 rfl rfl
theorem dksX7_frames_2 : cX7_frames.data.toList.drop 47 = dktX7_frames_2 := dk_seg dksX7_frames_1 24 rfl rfl
theorem dksX7_frames_3 : cX7_frames.data.toList.drop 70 = dktX7_frames_3 := dk_seg dksX7_frames_2 23 rfl rfl
theorem dksX7_frames_4 : cX7_frames.data.toList.drop 92 = dktX7_frames_4 := dk_seg dksX7_frames_3 22 rfl rfl
theorem dksX7_frames_5 : cX7_frames.data.toList.drop 115 = dktX7_frames_5 := dk_seg dksX7_frames_4 23 rfl rfl
theorem dksX7_frames_6 : cX7_frames.data.toList.drop 138 = dktX7_frames_6 := dk_seg dksX7_frames_5 23 rfl rfl
theorem dksX7_frames_7 : cX7_frames.data.toList.drop 162 = dktX7_frames_7 := dk_seg dksX7_frames_6 24 rfl rfl
theorem dksX7_frames_8 : cX7_frames.data.toList.drop 186 = dktX7_frames_8 := dk_seg dksX7_frames_7 24 rfl rfl
theorem dX7_frames_0 : decode cX7_frames 0 = .ok (.aload_n 1, 1) := dk_43 (dk_at dksX7_frames_0 0 rfl rfl)
theorem dX7_frames_1 : decode cX7_frames 1 = .ok (.invokevirtual 81, 3) := dk_182 0 81 (dk_at dksX7_frames_0 1 rfl rfl)
theorem dX7_frames_4 : decode cX7_frames 4 = .ok (.iload_n 2, 1) := dk_28 (dk_at dksX7_frames_0 4 rfl rfl)
theorem dX7_frames_5 : decode cX7_frames 5 = .ok (.isub, 1) := dk_100 (dk_at dksX7_frames_0 5 rfl rfl)
theorem dX7_frames_6 : decode cX7_frames 6 = .ok (.istore_n 3, 1) := dk_62 (dk_at dksX7_frames_0 6 rfl rfl)
theorem dX7_frames_7 : decode cX7_frames 7 = .ok (.iload_n 3, 1) := dk_29 (dk_at dksX7_frames_0 7 rfl rfl)
theorem dX7_frames_8 : decode cX7_frames 8 = .ok (.aload_n 0, 1) := dk_42 (dk_at dksX7_frames_0 8 rfl rfl)
theorem dX7_frames_9 : decode cX7_frames 9 = .ok (.getfield 3, 3) := dk_180 0 3 (dk_at dksX7_frames_0 9 rfl rfl)
theorem dX7_frames_12 : decode cX7_frames 12 = .ok (.getfield 60, 3) := dk_180 0 60 (dk_at dksX7_frames_0 12 rfl rfl)
theorem dX7_frames_15 : decode cX7_frames 15 = .ok (.getfield 87, 3) := dk_180 0 87 (dk_at dksX7_frames_0 15 rfl rfl)
theorem dX7_frames_18 : decode cX7_frames 18 = .ok (.aload_n 0, 1) := dk_42 (dk_at dksX7_frames_0 18 rfl rfl)
theorem dX7_frames_19 : decode cX7_frames 19 = .ok (.getfield 46, 3) := dk_180 0 46 (dk_at dksX7_frames_0 19 rfl rfl)
theorem dX7_frames_22 : decode cX7_frames 22 = .ok (.aload_n 0, 1) := dk_42 (dk_at dksX7_frames_0 22 rfl rfl)
theorem dX7_frames_23 : decode cX7_frames 23 = .ok (.getfield 3, 3) := dk_180 0 3 (dk_at dksX7_frames_1 0 rfl rfl)
theorem dX7_frames_26 : decode cX7_frames 26 = .ok (.getfield 60, 3) := dk_180 0 60 (dk_at dksX7_frames_1 3 rfl rfl)
theorem dX7_frames_29 : decode cX7_frames 29 = .ok (.getfield 87, 3) := dk_180 0 87 (dk_at dksX7_frames_1 6 rfl rfl)
theorem dX7_frames_32 : decode cX7_frames 32 = .ok (.irem, 1) := dk_112 (dk_at dksX7_frames_1 9 rfl rfl)
theorem dX7_frames_33 : decode cX7_frames 33 = .ok (.isub, 1) := dk_100 (dk_at dksX7_frames_1 10 rfl rfl)
theorem dX7_frames_34 : decode cX7_frames 34 = .ok (.iconst 4, 1) := dk_7 (dk_at dksX7_frames_1 11 rfl rfl)
theorem dX7_frames_35 : decode cX7_frames 35 = .ok (.isub, 1) := dk_100 (dk_at dksX7_frames_1 12 rfl rfl)
theorem dX7_frames_36 : decode cX7_frames 36 = .ok (.invokestatic 90, 3) := dk_184 0 90 (dk_at dksX7_frames_1 13 rfl rfl)
theorem dX7_frames_39 : decode cX7_frames 39 = .ok (.istore 4, 2) := dk_54 4 (dk_at dksX7_frames_1 16 rfl rfl)
theorem dX7_frames_41 : decode cX7_frames 41 = .ok (.aload_n 0, 1) := dk_42 (dk_at dksX7_frames_1 18 rfl rfl)
theorem dX7_frames_42 : decode cX7_frames 42 = .ok (.getfield 33, 3) := dk_180 0 33 (dk_at dksX7_frames_1 19 rfl rfl)
theorem dX7_frames_45 : decode cX7_frames 45 = .ok (.istore 5, 2) := dk_54 5 (dk_at dksX7_frames_1 22 rfl rfl)
theorem dX7_frames_47 : decode cX7_frames 47 = .ok (.aload_n 0, 1) := dk_42 (dk_at dksX7_frames_2 0 rfl rfl)
theorem dX7_frames_48 : decode cX7_frames 48 = .ok (.aload_n 0, 1) := dk_42 (dk_at dksX7_frames_2 1 rfl rfl)
theorem dX7_frames_49 : decode cX7_frames 49 = .ok (.getfield 46, 3) := dk_180 0 46 (dk_at dksX7_frames_2 2 rfl rfl)
theorem dX7_frames_52 : decode cX7_frames 52 = .ok (.iconst 0, 1) := dk_3 (dk_at dksX7_frames_2 5 rfl rfl)
theorem dX7_frames_53 : decode cX7_frames 53 = .ok (.invokevirtual 73, 3) := dk_182 0 73 (dk_at dksX7_frames_2 6 rfl rfl)
theorem dX7_frames_56 : decode cX7_frames 56 = .ok (.aload_n 0, 1) := dk_42 (dk_at dksX7_frames_2 9 rfl rfl)
theorem dX7_frames_57 : decode cX7_frames 57 = .ok (.aload_n 0, 1) := dk_42 (dk_at dksX7_frames_2 10 rfl rfl)
theorem dX7_frames_58 : decode cX7_frames 58 = .ok (.getfield 46, 3) := dk_180 0 46 (dk_at dksX7_frames_2 11 rfl rfl)
theorem dX7_frames_61 : decode cX7_frames 61 = .ok (.iconst 1, 1) := dk_4 (dk_at dksX7_frames_2 14 rfl rfl)
theorem dX7_frames_62 : decode cX7_frames 62 = .ok (.iadd, 1) := dk_96 (dk_at dksX7_frames_2 15 rfl rfl)
theorem dX7_frames_63 : decode cX7_frames 63 = .ok (.iload_n 2, 1) := dk_28 (dk_at dksX7_frames_2 16 rfl rfl)
theorem dX7_frames_64 : decode cX7_frames 64 = .ok (.ifCond .ne 17, 3) := dk_154 0 17 (dk_at dksX7_frames_2 17 rfl rfl)
theorem dX7_frames_67 : decode cX7_frames 67 = .ok (.iload 4, 2) := dk_21 4 (dk_at dksX7_frames_2 20 rfl rfl)
theorem dX7_frames_69 : decode cX7_frames 69 = .ok (.iload_n 3, 1) := dk_29 (dk_at dksX7_frames_2 22 rfl rfl)
theorem dX7_frames_70 : decode cX7_frames 70 = .ok (.if_icmp .ne 7, 3) := dk_160 0 7 (dk_at dksX7_frames_3 0 rfl rfl)
theorem dX7_frames_73 : decode cX7_frames 73 = .ok (.iconst 1, 1) := dk_4 (dk_at dksX7_frames_3 3 rfl rfl)
theorem dX7_frames_74 : decode cX7_frames 74 = .ok (.goto 18, 3) := dk_167 0 18 (dk_at dksX7_frames_3 4 rfl rfl)
theorem dX7_frames_77 : decode cX7_frames 77 = .ok (.iconst 2, 1) := dk_5 (dk_at dksX7_frames_3 7 rfl rfl)
theorem dX7_frames_78 : decode cX7_frames 78 = .ok (.goto 14, 3) := dk_167 0 14 (dk_at dksX7_frames_3 8 rfl rfl)
theorem dX7_frames_81 : decode cX7_frames 81 = .ok (.iload 4, 2) := dk_21 4 (dk_at dksX7_frames_3 11 rfl rfl)
theorem dX7_frames_83 : decode cX7_frames 83 = .ok (.iload_n 3, 1) := dk_29 (dk_at dksX7_frames_3 13 rfl rfl)
theorem dX7_frames_84 : decode cX7_frames 84 = .ok (.if_icmp .ne 7, 3) := dk_160 0 7 (dk_at dksX7_frames_3 14 rfl rfl)
theorem dX7_frames_87 : decode cX7_frames 87 = .ok (.iconst 4, 1) := dk_7 (dk_at dksX7_frames_3 17 rfl rfl)
theorem dX7_frames_88 : decode cX7_frames 88 = .ok (.goto 4, 3) := dk_167 0 4 (dk_at dksX7_frames_3 18 rfl rfl)
theorem dX7_frames_91 : decode cX7_frames 91 = .ok (.iconst 3, 1) := dk_6 (dk_at dksX7_frames_3 21 rfl rfl)
theorem dX7_frames_92 : decode cX7_frames 92 = .ok (.invokevirtual 73, 3) := dk_182 0 73 (dk_at dksX7_frames_4 0 rfl rfl)
theorem dX7_frames_95 : decode cX7_frames 95 = .ok (.aload_n 0, 1) := dk_42 (dk_at dksX7_frames_4 3 rfl rfl)
theorem dX7_frames_96 : decode cX7_frames 96 = .ok (.aload_n 0, 1) := dk_42 (dk_at dksX7_frames_4 4 rfl rfl)
theorem dX7_frames_97 : decode cX7_frames 97 = .ok (.getfield 46, 3) := dk_180 0 46 (dk_at dksX7_frames_4 5 rfl rfl)
theorem dX7_frames_100 : decode cX7_frames 100 = .ok (.iconst 2, 1) := dk_5 (dk_at dksX7_frames_4 8 rfl rfl)
theorem dX7_frames_101 : decode cX7_frames 101 = .ok (.iadd, 1) := dk_96 (dk_at dksX7_frames_4 9 rfl rfl)
theorem dX7_frames_102 : decode cX7_frames 102 = .ok (.iload 4, 2) := dk_21 4 (dk_at dksX7_frames_4 10 rfl rfl)
theorem dX7_frames_104 : decode cX7_frames 104 = .ok (.invokevirtual 73, 3) := dk_182 0 73 (dk_at dksX7_frames_4 12 rfl rfl)
theorem dX7_frames_107 : decode cX7_frames 107 = .ok (.aload_n 0, 1) := dk_42 (dk_at dksX7_frames_4 15 rfl rfl)
theorem dX7_frames_108 : decode cX7_frames 108 = .ok (.aload_n 0, 1) := dk_42 (dk_at dksX7_frames_4 16 rfl rfl)
theorem dX7_frames_109 : decode cX7_frames 109 = .ok (.getfield 46, 3) := dk_180 0 46 (dk_at dksX7_frames_4 17 rfl rfl)
theorem dX7_frames_112 : decode cX7_frames 112 = .ok (.iconst 3, 1) := dk_6 (dk_at dksX7_frames_4 20 rfl rfl)
theorem dX7_frames_113 : decode cX7_frames 113 = .ok (.iadd, 1) := dk_96 (dk_at dksX7_frames_4 21 rfl rfl)
theorem dX7_frames_114 : decode cX7_frames 114 = .ok (.aload_n 0, 1) := dk_42 (dk_at dksX7_frames_4 22 rfl rfl)
theorem dX7_frames_115 : decode cX7_frames 115 = .ok (.getfield 50, 3) := dk_180 0 50 (dk_at dksX7_frames_5 0 rfl rfl)
theorem dX7_frames_118 : decode cX7_frames 118 = .ok (.invokevirtual 73, 3) := dk_182 0 73 (dk_at dksX7_frames_5 3 rfl rfl)
theorem dX7_frames_121 : decode cX7_frames 121 = .ok (.iconst 0, 1) := dk_3 (dk_at dksX7_frames_5 6 rfl rfl)
theorem dX7_frames_122 : decode cX7_frames 122 = .ok (.istore 6, 2) := dk_54 6 (dk_at dksX7_frames_5 7 rfl rfl)
theorem dX7_frames_124 : decode cX7_frames 124 = .ok (.iload 6, 2) := dk_21 6 (dk_at dksX7_frames_5 9 rfl rfl)
theorem dX7_frames_126 : decode cX7_frames 126 = .ok (.iload 4, 2) := dk_21 4 (dk_at dksX7_frames_5 11 rfl rfl)
theorem dX7_frames_128 : decode cX7_frames 128 = .ok (.if_icmp .ge 30, 3) := dk_162 0 30 (dk_at dksX7_frames_5 13 rfl rfl)
theorem dX7_frames_131 : decode cX7_frames 131 = .ok (.aload_n 0, 1) := dk_42 (dk_at dksX7_frames_5 16 rfl rfl)
theorem dX7_frames_132 : decode cX7_frames 132 = .ok (.aload_n 0, 1) := dk_42 (dk_at dksX7_frames_5 17 rfl rfl)
theorem dX7_frames_133 : decode cX7_frames 133 = .ok (.getfield 46, 3) := dk_180 0 46 (dk_at dksX7_frames_5 18 rfl rfl)
theorem dX7_frames_136 : decode cX7_frames 136 = .ok (.iconst 4, 1) := dk_7 (dk_at dksX7_frames_5 21 rfl rfl)
theorem dX7_frames_137 : decode cX7_frames 137 = .ok (.iadd, 1) := dk_96 (dk_at dksX7_frames_5 22 rfl rfl)
theorem dX7_frames_138 : decode cX7_frames 138 = .ok (.iload 6, 2) := dk_21 6 (dk_at dksX7_frames_6 0 rfl rfl)
theorem dX7_frames_140 : decode cX7_frames 140 = .ok (.iadd, 1) := dk_96 (dk_at dksX7_frames_6 2 rfl rfl)
theorem dX7_frames_141 : decode cX7_frames 141 = .ok (.aload_n 1, 1) := dk_43 (dk_at dksX7_frames_6 3 rfl rfl)
theorem dX7_frames_142 : decode cX7_frames 142 = .ok (.iload_n 2, 1) := dk_28 (dk_at dksX7_frames_6 4 rfl rfl)
theorem dX7_frames_143 : decode cX7_frames 143 = .ok (.iload 6, 2) := dk_21 6 (dk_at dksX7_frames_6 5 rfl rfl)
theorem dX7_frames_145 : decode cX7_frames 145 = .ok (.iadd, 1) := dk_96 (dk_at dksX7_frames_6 7 rfl rfl)
theorem dX7_frames_146 : decode cX7_frames 146 = .ok (.invokevirtual 95, 3) := dk_182 0 95 (dk_at dksX7_frames_6 8 rfl rfl)
theorem dX7_frames_149 : decode cX7_frames 149 = .ok (.invokevirtual 73, 3) := dk_182 0 73 (dk_at dksX7_frames_6 11 rfl rfl)
theorem dX7_frames_152 : decode cX7_frames 152 = .ok (.iinc 6 1, 3) := dk_132 6 1 (dk_at dksX7_frames_6 14 rfl rfl)
theorem dX7_frames_155 : decode cX7_frames 155 = .ok (.goto (-31), 3) := dk_167 255 225 (dk_at dksX7_frames_6 17 rfl rfl)
theorem dX7_frames_158 : decode cX7_frames 158 = .ok (.aload_n 0, 1) := dk_42 (dk_at dksX7_frames_6 20 rfl rfl)
theorem dX7_frames_159 : decode cX7_frames 159 = .ok (.getfield 19, 3) := dk_180 0 19 (dk_at dksX7_frames_6 21 rfl rfl)
theorem dX7_frames_162 : decode cX7_frames 162 = .ok (.iload 5, 2) := dk_21 5 (dk_at dksX7_frames_7 0 rfl rfl)
theorem dX7_frames_164 : decode cX7_frames 164 = .ok (.aload_n 0, 1) := dk_42 (dk_at dksX7_frames_7 2 rfl rfl)
theorem dX7_frames_165 : decode cX7_frames 165 = .ok (.iload 5, 2) := dk_21 5 (dk_at dksX7_frames_7 3 rfl rfl)
theorem dX7_frames_167 : decode cX7_frames 167 = .ok (.iconst 1, 1) := dk_4 (dk_at dksX7_frames_7 5 rfl rfl)
theorem dX7_frames_168 : decode cX7_frames 168 = .ok (.iadd, 1) := dk_96 (dk_at dksX7_frames_7 6 rfl rfl)
theorem dX7_frames_169 : decode cX7_frames 169 = .ok (.invokevirtual 77, 3) := dk_182 0 77 (dk_at dksX7_frames_7 7 rfl rfl)
theorem dX7_frames_172 : decode cX7_frames 172 = .ok (.iastore, 1) := dk_79 (dk_at dksX7_frames_7 10 rfl rfl)
theorem dX7_frames_173 : decode cX7_frames 173 = .ok (.aload_n 0, 1) := dk_42 (dk_at dksX7_frames_7 11 rfl rfl)
theorem dX7_frames_174 : decode cX7_frames 174 = .ok (.dup, 1) := dk_89 (dk_at dksX7_frames_7 12 rfl rfl)
theorem dX7_frames_175 : decode cX7_frames 175 = .ok (.getfield 46, 3) := dk_180 0 46 (dk_at dksX7_frames_7 13 rfl rfl)
theorem dX7_frames_178 : decode cX7_frames 178 = .ok (.iconst 4, 1) := dk_7 (dk_at dksX7_frames_7 16 rfl rfl)
theorem dX7_frames_179 : decode cX7_frames 179 = .ok (.iload 4, 2) := dk_21 4 (dk_at dksX7_frames_7 17 rfl rfl)
theorem dX7_frames_181 : decode cX7_frames 181 = .ok (.iadd, 1) := dk_96 (dk_at dksX7_frames_7 19 rfl rfl)
theorem dX7_frames_182 : decode cX7_frames 182 = .ok (.iadd, 1) := dk_96 (dk_at dksX7_frames_7 20 rfl rfl)
theorem dX7_frames_183 : decode cX7_frames 183 = .ok (.putfield 46, 3) := dk_181 0 46 (dk_at dksX7_frames_7 21 rfl rfl)
theorem dX7_frames_186 : decode cX7_frames 186 = .ok (.iload 4, 2) := dk_21 4 (dk_at dksX7_frames_8 0 rfl rfl)
theorem dX7_frames_188 : decode cX7_frames 188 = .ok (.ireturn, 1) := dk_172 (dk_at dksX7_frames_8 2 rfl rfl)
theorem q201 : (Jvm.Cond.initialized "GroupJournal$Layer") ∈ lw_all := lw_g (lw_at lw_m1 14 rfl) rfl
theorem q325 : (Jvm.Cond.fieldLinkNest "GroupJournal$Layer" (64 : Nat) "GroupJournal$Journal" "segments" "I" "GroupJournal") ∈ lw_tbl := lw_at lw_m1 138 rfl
theorem q332 : (Jvm.Cond.fieldLinkNest "GroupJournal$Layer" (87 : Nat) "GroupJournal$Journal" "bytes" "I" "GroupJournal") ∈ lw_tbl := lw_at lw_m1 145 rfl
theorem q480 : (Jvm.Cond.instantiable "GroupJournal$Layer" (11 : Nat)) ∈ lw_all := lw_g (lw_at lw_m2 53 rfl) rfl
theorem q482 : (Jvm.Cond.instanceMethod ({ cls := "GroupJournal$Layer", name := "<init>", desc := "(LGroupJournal;)V" } : Jvm.MethodName)) ∈ lw_all := lw_g (lw_at lw_m2 55 rfl) rfl
theorem q483 : (Jvm.Cond.code ({ cls := "GroupJournal$Layer", name := "<init>", desc := "(LGroupJournal;)V" } : Jvm.MethodName) prog_11_method_1_code (2 : Nat) (Option.none : Option Jvm.ClassFile.FieldType)) ∈ lw_all := lw_g (lw_at lw_m2 56 rfl) rfl
theorem q484 : (Jvm.Cond.methodLink "GroupJournal$Layer" (9 : Nat) ({ cls := "java/lang/Object", name := "<init>", desc := "()V" } : Jvm.MethodName)) ∈ lw_all := lw_g (lw_at lw_m2 57 rfl) rfl
theorem q485 : (Jvm.Cond.fieldLink "GroupJournal$Layer" (15 : Nat) "GroupJournal$Layer" "where" "[I") ∈ lw_all := lw_g (lw_at lw_m2 58 rfl) rfl
theorem q487 : (Jvm.Cond.fieldLink "GroupJournal$Layer" (19 : Nat) "GroupJournal$Layer" "octets" "[I") ∈ lw_all := lw_g (lw_at lw_m2 60 rfl) rfl
theorem q489 : (Jvm.Cond.fieldLink "GroupJournal$Layer" (22 : Nat) "GroupJournal$Layer" "last" "[I") ∈ lw_all := lw_g (lw_at lw_m2 62 rfl) rfl
theorem q491 : (Jvm.Cond.fieldLink "GroupJournal$Layer" (25 : Nat) "GroupJournal$Layer" "opened" "[Z") ∈ lw_all := lw_g (lw_at lw_m2 64 rfl) rfl
theorem q492 : (Jvm.Cond.fieldLink "GroupJournal$Layer" (29 : Nat) "GroupJournal$Layer" "of" "LGroupJournal$State;") ∈ lw_all := lw_g (lw_at lw_m2 65 rfl) rfl
theorem q493 : (Jvm.Cond.fieldLink "GroupJournal$Layer" (33 : Nat) "GroupJournal$Layer" "many" "I") ∈ lw_all := lw_g (lw_at lw_m2 66 rfl) rfl
theorem q495 : (Jvm.Cond.fieldLink "GroupJournal$Layer" (42 : Nat) "GroupJournal$Layer" "segment" "I") ∈ lw_all := lw_g (lw_at lw_m2 68 rfl) rfl
theorem q497 : (Jvm.Cond.fieldLink "GroupJournal$Layer" (46 : Nat) "GroupJournal$Layer" "at" "I") ∈ lw_all := lw_g (lw_at lw_m2 70 rfl) rfl
theorem q499 : (Jvm.Cond.fieldLink "GroupJournal$Layer" (50 : Nat) "GroupJournal$Layer" "serial" "I") ∈ lw_all := lw_g (lw_at lw_m2 72 rfl) rfl
theorem q501 : (Jvm.Cond.fieldLink "GroupJournal$Layer" (54 : Nat) "GroupJournal$Layer" "newest" "I") ∈ lw_all := lw_g (lw_at lw_m2 74 rfl) rfl
theorem q503 : (Jvm.Cond.fieldLink "GroupJournal$Layer" (3 : Nat) "GroupJournal$Layer" "this$0" "LGroupJournal;") ∈ lw_all := lw_g (lw_at lw_m2 76 rfl) rfl
theorem q504 : (Jvm.Cond.laysFinal "GroupJournal$Layer" "GroupJournal$Layer" "where" "[I") ∈ lw_all := lw_g (lw_at lw_m2 77 rfl) rfl
theorem q505 : (Jvm.Cond.soleField "GroupJournal$Layer" "where") ∈ lw_all := lw_g (lw_at lw_m2 78 rfl) rfl
theorem q506 : (Jvm.Cond.laysFinal "GroupJournal$Layer" "GroupJournal$Layer" "octets" "[I") ∈ lw_all := lw_g (lw_at lw_m2 79 rfl) rfl
theorem q507 : (Jvm.Cond.soleField "GroupJournal$Layer" "octets") ∈ lw_all := lw_g (lw_at lw_m2 80 rfl) rfl
theorem q508 : (Jvm.Cond.laysFinal "GroupJournal$Layer" "GroupJournal$Layer" "last" "[I") ∈ lw_all := lw_g (lw_at lw_m2 81 rfl) rfl
theorem q509 : (Jvm.Cond.soleField "GroupJournal$Layer" "last") ∈ lw_all := lw_g (lw_at lw_m2 82 rfl) rfl
theorem q510 : (Jvm.Cond.laysFinal "GroupJournal$Layer" "GroupJournal$Layer" "opened" "[Z") ∈ lw_all := lw_g (lw_at lw_m2 83 rfl) rfl
theorem q511 : (Jvm.Cond.soleField "GroupJournal$Layer" "opened") ∈ lw_all := lw_g (lw_at lw_m2 84 rfl) rfl
theorem q512 : (Jvm.Cond.lays "GroupJournal$Layer" "GroupJournal$Layer" "of" "LGroupJournal$State;") ∈ lw_all := lw_g (lw_at lw_m2 85 rfl) rfl
theorem q513 : (Jvm.Cond.soleField "GroupJournal$Layer" "of") ∈ lw_all := lw_g (lw_at lw_m2 86 rfl) rfl
theorem q514 : (Jvm.Cond.lays "GroupJournal$Layer" "GroupJournal$Layer" "many" "I") ∈ lw_all := lw_g (lw_at lw_m2 87 rfl) rfl
theorem q515 : (Jvm.Cond.soleField "GroupJournal$Layer" "many") ∈ lw_all := lw_g (lw_at lw_m2 88 rfl) rfl
theorem q516 : (Jvm.Cond.lays "GroupJournal$Layer" "GroupJournal$Layer" "segment" "I") ∈ lw_all := lw_g (lw_at lw_m2 89 rfl) rfl
theorem q517 : (Jvm.Cond.soleField "GroupJournal$Layer" "segment") ∈ lw_all := lw_g (lw_at lw_m2 90 rfl) rfl
theorem q518 : (Jvm.Cond.lays "GroupJournal$Layer" "GroupJournal$Layer" "at" "I") ∈ lw_all := lw_g (lw_at lw_m2 91 rfl) rfl
theorem q519 : (Jvm.Cond.soleField "GroupJournal$Layer" "at") ∈ lw_all := lw_g (lw_at lw_m2 92 rfl) rfl
theorem q520 : (Jvm.Cond.lays "GroupJournal$Layer" "GroupJournal$Layer" "serial" "I") ∈ lw_all := lw_g (lw_at lw_m2 93 rfl) rfl
theorem q521 : (Jvm.Cond.soleField "GroupJournal$Layer" "serial") ∈ lw_all := lw_g (lw_at lw_m2 94 rfl) rfl
theorem q522 : (Jvm.Cond.lays "GroupJournal$Layer" "GroupJournal$Layer" "newest" "I") ∈ lw_all := lw_g (lw_at lw_m2 95 rfl) rfl
theorem q523 : (Jvm.Cond.soleField "GroupJournal$Layer" "newest") ∈ lw_all := lw_g (lw_at lw_m2 96 rfl) rfl
theorem q524 : (Jvm.Cond.laysFinal "GroupJournal$Layer" "GroupJournal$Layer" "this$0" "LGroupJournal;") ∈ lw_all := lw_g (lw_at lw_m2 97 rfl) rfl
theorem q525 : (Jvm.Cond.soleField "GroupJournal$Layer" "this$0") ∈ lw_all := lw_g (lw_at lw_m2 98 rfl) rfl
theorem q526 : (Jvm.Cond.superclass "GroupJournal$Layer" "java/lang/Object") ∈ lw_all := lw_g (lw_at lw_m2 99 rfl) rfl
theorem q749 : (Jvm.Cond.fieldLinkNest "GroupJournal$Layer" (37 : Nat) "GroupJournal$State" "segment" "I" "GroupJournal") ∈ lw_tbl := lw_at lw_m3 82 rfl
theorem q752 : (Jvm.Cond.fieldLinkNest "GroupJournal$Layer" (43 : Nat) "GroupJournal$State" "at" "I" "GroupJournal") ∈ lw_tbl := lw_at lw_m3 85 rfl
theorem q756 : (Jvm.Cond.fieldLinkNest "GroupJournal$Layer" (47 : Nat) "GroupJournal$State" "serial" "I" "GroupJournal") ∈ lw_tbl := lw_at lw_m3 89 rfl
theorem q759 : (Jvm.Cond.fieldLinkNest "GroupJournal$Layer" (51 : Nat) "GroupJournal$State" "newest" "I" "GroupJournal") ∈ lw_tbl := lw_at lw_m3 92 rfl
theorem q769 : (Jvm.Cond.fieldLinkNest "GroupJournal$Layer" (55 : Nat) "GroupJournal$State" "last" "[I" "GroupJournal") ∈ lw_tbl := lw_at lw_m3 102 rfl
theorem q851 : (Jvm.Cond.fieldLinkNest "GroupJournal$Layer" (60 : Nat) "GroupJournal" "journal" "LGroupJournal$Journal;" "GroupJournal") ∈ lw_tbl := lw_at lw_m3 184 rfl
theorem q1208 : (Jvm.Cond.fieldLinkNest "GroupJournal$Layer" (101 : Nat) "GroupJournal$Entry" "number" "I" "GroupJournal") ∈ lw_tbl := lw_at lw_m5 61 rfl
theorem q1285 : (Jvm.Cond.selects "GroupJournal$Layer" ({ cls := "java/lang/Object", name := "getClass", desc := "()Ljava/lang/Class;" } : Jvm.MethodName) ({ cls := "java/lang/Object", name := "getClass", desc := "()Ljava/lang/Class;" } : Jvm.MethodName)) ∈ lw_all := lw_g (lw_at lw_m5 138 rfl) rfl
theorem q1667 : (Jvm.Cond.selects "GroupJournal$Layer" ({ cls := "java/lang/Object", name := "hashCode", desc := "()I" } : Jvm.MethodName) ({ cls := "java/lang/Object", name := "hashCode", desc := "()I" } : Jvm.MethodName)) ∈ lw_all := lw_g (lw_at lw_m7 40 rfl) rfl
theorem q1716 : (Jvm.Cond.selects "GroupJournal$Layer" ({ cls := "java/lang/Object", name := "equals", desc := "(Ljava/lang/Object;)Z" } : Jvm.MethodName) ({ cls := "java/lang/Object", name := "equals", desc := "(Ljava/lang/Object;)Z" } : Jvm.MethodName)) ∈ lw_all := lw_g (lw_at lw_m7 89 rfl) rfl
theorem q2808 : (Jvm.Cond.instanceMethod ({ cls := "GroupJournal$Layer", name := "begins", desc := "(LGroupJournal$State;)V" } : Jvm.MethodName)) ∈ lw_all := lw_g (lw_at lw_m11 221 rfl) rfl
theorem q2809 : (Jvm.Cond.selects "GroupJournal$Layer" ({ cls := "GroupJournal$Layer", name := "begins", desc := "(LGroupJournal$State;)V" } : Jvm.MethodName) ({ cls := "GroupJournal$Layer", name := "begins", desc := "(LGroupJournal$State;)V" } : Jvm.MethodName)) ∈ lw_all := lw_g (lw_at lw_m11 222 rfl) rfl
theorem q2810 : (Jvm.Cond.code ({ cls := "GroupJournal$Layer", name := "begins", desc := "(LGroupJournal$State;)V" } : Jvm.MethodName) prog_11_method_2_code (3 : Nat) (Option.none : Option Jvm.ClassFile.FieldType)) ∈ lw_all := lw_g (lw_at lw_m11 223 rfl) rfl
theorem q2812 : (Jvm.Cond.instanceMethod ({ cls := "GroupJournal$Layer", name := "lays", desc := "(LGroupJournal$Entry;)Z" } : Jvm.MethodName)) ∈ lw_all := lw_g (lw_at lw_m11 225 rfl) rfl
theorem q2813 : (Jvm.Cond.selects "GroupJournal$Layer" ({ cls := "GroupJournal$Layer", name := "lays", desc := "(LGroupJournal$Entry;)Z" } : Jvm.MethodName) ({ cls := "GroupJournal$Layer", name := "lays", desc := "(LGroupJournal$Entry;)Z" } : Jvm.MethodName)) ∈ lw_all := lw_g (lw_at lw_m11 226 rfl) rfl
theorem q2814 : (Jvm.Cond.code ({ cls := "GroupJournal$Layer", name := "lays", desc := "(LGroupJournal$Entry;)Z" } : Jvm.MethodName) prog_11_method_7_code (4 : Nat) (Option.some Jvm.ClassFile.FieldType.boolean)) ∈ lw_all := lw_g (lw_at lw_m11 227 rfl) rfl
theorem q2815 : (Jvm.Cond.methodLink "GroupJournal$Layer" (81 : Nat) ({ cls := "GroupJournal$Entry", name := "payload", desc := "()I" } : Jvm.MethodName)) ∈ lw_all := lw_g (lw_at lw_m11 228 rfl) rfl
theorem q2816 : (Jvm.Cond.methodLinkNest "GroupJournal$Layer" (98 : Nat) ({ cls := "GroupJournal", name := "endOf", desc := "(II)I" } : Jvm.MethodName) "GroupJournal") ∈ lw_tbl := lw_at lw_m11 229 rfl
theorem q2817 : (Jvm.Cond.methodLink "GroupJournal$Layer" (104 : Nat) ({ cls := "GroupJournal$Layer", name := "opens", desc := "(I)Z" } : Jvm.MethodName)) ∈ lw_all := lw_g (lw_at lw_m11 230 rfl) rfl
theorem q2818 : (Jvm.Cond.privateMethod ({ cls := "GroupJournal$Layer", name := "opens", desc := "(I)Z" } : Jvm.MethodName)) ∈ lw_tbl := lw_at lw_m11 231 rfl
theorem q2819 : (Jvm.Cond.instanceMethod ({ cls := "GroupJournal$Layer", name := "opens", desc := "(I)Z" } : Jvm.MethodName)) ∈ lw_all := lw_g (lw_at lw_m11 232 rfl) rfl
theorem q2820 : (Jvm.Cond.code ({ cls := "GroupJournal$Layer", name := "opens", desc := "(I)Z" } : Jvm.MethodName) prog_11_method_5_code (4 : Nat) (Option.some Jvm.ClassFile.FieldType.boolean)) ∈ lw_all := lw_g (lw_at lw_m11 233 rfl) rfl
theorem q2821 : (Jvm.Cond.methodLink "GroupJournal$Layer" (69 : Nat) ({ cls := "GroupJournal$State", name := "isFree", desc := "(I)Z" } : Jvm.MethodName)) ∈ lw_all := lw_g (lw_at lw_m11 234 rfl) rfl
theorem q2822 : (Jvm.Cond.methodLink "GroupJournal$Layer" (73 : Nat) ({ cls := "GroupJournal$Layer", name := "writes", desc := "(II)V" } : Jvm.MethodName)) ∈ lw_all := lw_g (lw_at lw_m11 235 rfl) rfl
theorem q2823 : (Jvm.Cond.privateMethod ({ cls := "GroupJournal$Layer", name := "writes", desc := "(II)V" } : Jvm.MethodName)) ∈ lw_tbl := lw_at lw_m11 236 rfl
theorem q2824 : (Jvm.Cond.instanceMethod ({ cls := "GroupJournal$Layer", name := "writes", desc := "(II)V" } : Jvm.MethodName)) ∈ lw_all := lw_g (lw_at lw_m11 237 rfl) rfl
theorem q2825 : (Jvm.Cond.code ({ cls := "GroupJournal$Layer", name := "writes", desc := "(II)V" } : Jvm.MethodName) prog_11_method_3_code (3 : Nat) (Option.none : Option Jvm.ClassFile.FieldType)) ∈ lw_all := lw_g (lw_at lw_m11 238 rfl) rfl
theorem q2826 : (Jvm.Cond.methodLink "GroupJournal$Layer" (77 : Nat) ({ cls := "GroupJournal$Layer", name := "checkFrom", desc := "(I)I" } : Jvm.MethodName)) ∈ lw_all := lw_g (lw_at lw_m11 239 rfl) rfl
theorem q2827 : (Jvm.Cond.privateMethod ({ cls := "GroupJournal$Layer", name := "checkFrom", desc := "(I)I" } : Jvm.MethodName)) ∈ lw_tbl := lw_at lw_m12 0 rfl
theorem q2828 : (Jvm.Cond.instanceMethod ({ cls := "GroupJournal$Layer", name := "checkFrom", desc := "(I)I" } : Jvm.MethodName)) ∈ lw_all := lw_g (lw_at lw_m12 1 rfl) rfl
theorem q2829 : (Jvm.Cond.code ({ cls := "GroupJournal$Layer", name := "checkFrom", desc := "(I)I" } : Jvm.MethodName) prog_11_method_4_code (4 : Nat) (Option.some Jvm.ClassFile.FieldType.int)) ∈ lw_all := lw_g (lw_at lw_m12 2 rfl) rfl
theorem q2830 : (Jvm.Cond.methodLinkNest "GroupJournal$Layer" (56 : Nat) ({ cls := "GroupJournal", name := "checked", desc := "(II)I" } : Jvm.MethodName) "GroupJournal") ∈ lw_tbl := lw_at lw_m12 3 rfl
theorem q2831 : (Jvm.Cond.methodLinkNest "GroupJournal$Layer" (107 : Nat) ({ cls := "GroupJournal", name := "frameFrom", desc := "(I)I" } : Jvm.MethodName) "GroupJournal") ∈ lw_tbl := lw_at lw_m12 4 rfl
theorem q2832 : (Jvm.Cond.methodLink "GroupJournal$Layer" (110 : Nat) ({ cls := "GroupJournal$Layer", name := "frames", desc := "(LGroupJournal$Entry;I)I" } : Jvm.MethodName)) ∈ lw_all := lw_g (lw_at lw_m12 5 rfl) rfl
theorem q2833 : (Jvm.Cond.privateMethod ({ cls := "GroupJournal$Layer", name := "frames", desc := "(LGroupJournal$Entry;I)I" } : Jvm.MethodName)) ∈ lw_tbl := lw_at lw_m12 6 rfl
theorem q2834 : (Jvm.Cond.instanceMethod ({ cls := "GroupJournal$Layer", name := "frames", desc := "(LGroupJournal$Entry;I)I" } : Jvm.MethodName)) ∈ lw_all := lw_g (lw_at lw_m12 7 rfl) rfl
theorem q2835 : (Jvm.Cond.code ({ cls := "GroupJournal$Layer", name := "frames", desc := "(LGroupJournal$Entry;I)I" } : Jvm.MethodName) prog_11_method_6_code (7 : Nat) (Option.some Jvm.ClassFile.FieldType.int)) ∈ lw_all := lw_g (lw_at lw_m12 8 rfl) rfl
theorem q2836 : (Jvm.Cond.methodLink "GroupJournal$Layer" (90 : Nat) ({ cls := "java/lang/Math", name := "min", desc := "(II)I" } : Jvm.MethodName)) ∈ lw_all := lw_g (lw_at lw_m12 9 rfl) rfl
theorem q2837 : (Jvm.Cond.methodLink "GroupJournal$Layer" (95 : Nat) ({ cls := "GroupJournal$Entry", name := "octetAt", desc := "(I)I" } : Jvm.MethodName)) ∈ lw_all := lw_g (lw_at lw_m12 10 rfl) rfl
theorem q4168 : (Jvm.Cond.castable "GroupJournal$Layer" "java/lang/Object") ∈ lw_tbl := lw_at lw_m17 141 rfl
theorem in_X7 : ∀ w ∈ wsX70, w ∈ lw_all := lw_in wsX70 [504, 506, 508, 510, 512, 514, 516, 518, 520, 522, 524] (by decide +kernel) (by decide +kernel)

/-! GroupJournal$Reading -/
set_option maxRecDepth 100000
def RX8 : String := "GroupJournal$Reading"
def TX8 : u_T := fun k => match k with
  | 0 => ("GroupJournal$Reading", "frameAt", "[I", true)
  | 1 => ("GroupJournal$Reading", "entryKey", "[I", true)
  | 2 => ("GroupJournal$Reading", "entryValue", "[I", true)
  | 3 => ("GroupJournal$Reading", "payload", "[I", true)
  | 4 => ("GroupJournal$Reading", "disk", "[I", false)
  | 5 => ("GroupJournal$Reading", "serial", "I", false)
  | 6 => ("GroupJournal$Reading", "frames", "I", false)
  | 7 => ("GroupJournal$Reading", "records", "I", false)
  | 8 => ("GroupJournal$Reading", "end", "I", false)
  | 9 => ("GroupJournal$Reading", "bad", "I", false)
  | _ => ("GroupJournal$Reading", "this$0", "LGroupJournal;", true)
def tyX8 : Nat → FieldType := fun k => match k with
  | 0 => .array .int
  | 1 => .array .int
  | 2 => .array .int
  | 3 => .array .int
  | 4 => .array .int
  | 5 => .int
  | 6 => .int
  | 7 => .int
  | 8 => .int
  | 9 => .int
  | _ => .object "GroupJournal"
abbrev wsX80 : List Cond := u_ws RX8 TX8 11
theorem nmX8 : ∀ a, a < 11 → ∀ b, b < 11 → a ≠ b → (TX8 a).2.1 ≠ (TX8 b).2.1 := by decide +kernel
theorem tyX8_ok : ∀ k, k < 11 → parseFieldDescriptor (TX8 k).2.2.1 = some (tyX8 k) := by decide +kernel
abbrev cX8_init : ByteArray := prog_18_method_1_code
def yX8_init : MethodName := ⟨RX8, "<init>", "(LGroupJournal;)V"⟩
def dkwX8_init_1 : List UInt8 := [181, 0, 19, 42, 17, 0, 128, 188, 10, 181, 0, 22, 42, 17, 0, 128, 188, 10, 181, 0, 25, 177]
abbrev dktX8_init_1 : List UInt8 := dkwX8_init_1 ++ []
def dkwX8_init_0 : List UInt8 := [42, 43, 181, 0, 3, 42, 183, 0, 9, 42, 17, 0, 128, 188, 10, 181, 0, 15, 42, 17, 0, 128, 188, 10]
abbrev dktX8_init_0 : List UInt8 := dkwX8_init_0 ++ dktX8_init_1
theorem dksX8_init_0 : cX8_init.data.toList.drop 0 = dktX8_init_0 := by decide +kernel
theorem dksX8_init_1 : cX8_init.data.toList.drop 24 = dktX8_init_1 := dk_seg dksX8_init_0 24 rfl rfl
theorem dX8_init_0 : decode cX8_init 0 = .ok (.aload_n 0, 1) := dk_42 (dk_at dksX8_init_0 0 rfl rfl)
theorem dX8_init_1 : decode cX8_init 1 = .ok (.aload_n 1, 1) := dk_43 (dk_at dksX8_init_0 1 rfl rfl)
theorem dX8_init_2 : decode cX8_init 2 = .ok (.putfield 3, 3) := dk_181 0 3 (dk_at dksX8_init_0 2 rfl rfl)
theorem dX8_init_5 : decode cX8_init 5 = .ok (.aload_n 0, 1) := dk_42 (dk_at dksX8_init_0 5 rfl rfl)
theorem dX8_init_6 : decode cX8_init 6 = .ok (.invokespecial 9, 3) := dk_183 0 9 (dk_at dksX8_init_0 6 rfl rfl)
theorem dX8_init_9 : decode cX8_init 9 = .ok (.aload_n 0, 1) := dk_42 (dk_at dksX8_init_0 9 rfl rfl)
theorem dX8_init_10 : decode cX8_init 10 = .ok (.sipush 128, 3) := dk_17 0 128 (dk_at dksX8_init_0 10 rfl rfl)
theorem dX8_init_13 : decode cX8_init 13 = .ok (.newarray .int, 2) := dk_188_10 (dk_at dksX8_init_0 13 rfl rfl)
theorem dX8_init_15 : decode cX8_init 15 = .ok (.putfield 15, 3) := dk_181 0 15 (dk_at dksX8_init_0 15 rfl rfl)
theorem dX8_init_18 : decode cX8_init 18 = .ok (.aload_n 0, 1) := dk_42 (dk_at dksX8_init_0 18 rfl rfl)
theorem dX8_init_19 : decode cX8_init 19 = .ok (.sipush 128, 3) := dk_17 0 128 (dk_at dksX8_init_0 19 rfl rfl)
theorem dX8_init_22 : decode cX8_init 22 = .ok (.newarray .int, 2) := dk_188_10 (dk_at dksX8_init_0 22 rfl rfl)
theorem dX8_init_24 : decode cX8_init 24 = .ok (.putfield 19, 3) := dk_181 0 19 (dk_at dksX8_init_1 0 rfl rfl)
theorem dX8_init_27 : decode cX8_init 27 = .ok (.aload_n 0, 1) := dk_42 (dk_at dksX8_init_1 3 rfl rfl)
theorem dX8_init_28 : decode cX8_init 28 = .ok (.sipush 128, 3) := dk_17 0 128 (dk_at dksX8_init_1 4 rfl rfl)
theorem dX8_init_31 : decode cX8_init 31 = .ok (.newarray .int, 2) := dk_188_10 (dk_at dksX8_init_1 7 rfl rfl)
theorem dX8_init_33 : decode cX8_init 33 = .ok (.putfield 22, 3) := dk_181 0 22 (dk_at dksX8_init_1 9 rfl rfl)
theorem dX8_init_36 : decode cX8_init 36 = .ok (.aload_n 0, 1) := dk_42 (dk_at dksX8_init_1 12 rfl rfl)
theorem dX8_init_37 : decode cX8_init 37 = .ok (.sipush 128, 3) := dk_17 0 128 (dk_at dksX8_init_1 13 rfl rfl)
theorem dX8_init_40 : decode cX8_init 40 = .ok (.newarray .int, 2) := dk_188_10 (dk_at dksX8_init_1 16 rfl rfl)
theorem dX8_init_42 : decode cX8_init 42 = .ok (.putfield 25, 3) := dk_181 0 25 (dk_at dksX8_init_1 18 rfl rfl)
theorem dX8_init_45 : decode cX8_init 45 = .ok (.return_, 1) := dk_177 (dk_at dksX8_init_1 21 rfl rfl)
abbrev cX8_of : ByteArray := prog_18_method_2_code
def yX8_of : MethodName := ⟨RX8, "of", "([I)LGroupJournal$Reading;"⟩
def dkwX8_of_1 : List UInt8 := [181, 0, 42, 42, 8, 181, 0, 45, 42, 42, 182, 0, 48, 181, 0, 52, 42, 176]
abbrev dktX8_of_1 : List UInt8 := dkwX8_of_1 ++ []
def dkwX8_of_0 : List UInt8 := [42, 43, 181, 0, 28, 42, 42, 180, 0, 28, 184, 0, 31, 181, 0, 35, 42, 3, 181, 0, 39, 42, 3]
abbrev dktX8_of_0 : List UInt8 := dkwX8_of_0 ++ dktX8_of_1
theorem dksX8_of_0 : cX8_of.data.toList.drop 0 = dktX8_of_0 := by decide +kernel
theorem dksX8_of_1 : cX8_of.data.toList.drop 23 = dktX8_of_1 := dk_seg dksX8_of_0 23 rfl rfl
theorem dX8_of_0 : decode cX8_of 0 = .ok (.aload_n 0, 1) := dk_42 (dk_at dksX8_of_0 0 rfl rfl)
theorem dX8_of_1 : decode cX8_of 1 = .ok (.aload_n 1, 1) := dk_43 (dk_at dksX8_of_0 1 rfl rfl)
theorem dX8_of_2 : decode cX8_of 2 = .ok (.putfield 28, 3) := dk_181 0 28 (dk_at dksX8_of_0 2 rfl rfl)
theorem dX8_of_5 : decode cX8_of 5 = .ok (.aload_n 0, 1) := dk_42 (dk_at dksX8_of_0 5 rfl rfl)
theorem dX8_of_6 : decode cX8_of 6 = .ok (.aload_n 0, 1) := dk_42 (dk_at dksX8_of_0 6 rfl rfl)
theorem dX8_of_7 : decode cX8_of 7 = .ok (.getfield 28, 3) := dk_180 0 28 (dk_at dksX8_of_0 7 rfl rfl)
theorem dX8_of_10 : decode cX8_of 10 = .ok (.invokestatic 31, 3) := dk_184 0 31 (dk_at dksX8_of_0 10 rfl rfl)
theorem dX8_of_13 : decode cX8_of 13 = .ok (.putfield 35, 3) := dk_181 0 35 (dk_at dksX8_of_0 13 rfl rfl)
theorem dX8_of_16 : decode cX8_of 16 = .ok (.aload_n 0, 1) := dk_42 (dk_at dksX8_of_0 16 rfl rfl)
theorem dX8_of_17 : decode cX8_of 17 = .ok (.iconst 0, 1) := dk_3 (dk_at dksX8_of_0 17 rfl rfl)
theorem dX8_of_18 : decode cX8_of 18 = .ok (.putfield 39, 3) := dk_181 0 39 (dk_at dksX8_of_0 18 rfl rfl)
theorem dX8_of_21 : decode cX8_of 21 = .ok (.aload_n 0, 1) := dk_42 (dk_at dksX8_of_0 21 rfl rfl)
theorem dX8_of_22 : decode cX8_of 22 = .ok (.iconst 0, 1) := dk_3 (dk_at dksX8_of_0 22 rfl rfl)
theorem dX8_of_23 : decode cX8_of 23 = .ok (.putfield 42, 3) := dk_181 0 42 (dk_at dksX8_of_1 0 rfl rfl)
theorem dX8_of_26 : decode cX8_of 26 = .ok (.aload_n 0, 1) := dk_42 (dk_at dksX8_of_1 3 rfl rfl)
theorem dX8_of_27 : decode cX8_of 27 = .ok (.iconst 5, 1) := dk_8 (dk_at dksX8_of_1 4 rfl rfl)
theorem dX8_of_28 : decode cX8_of 28 = .ok (.putfield 45, 3) := dk_181 0 45 (dk_at dksX8_of_1 5 rfl rfl)
theorem dX8_of_31 : decode cX8_of 31 = .ok (.aload_n 0, 1) := dk_42 (dk_at dksX8_of_1 8 rfl rfl)
theorem dX8_of_32 : decode cX8_of 32 = .ok (.aload_n 0, 1) := dk_42 (dk_at dksX8_of_1 9 rfl rfl)
theorem dX8_of_33 : decode cX8_of 33 = .ok (.invokevirtual 48, 3) := dk_182 0 48 (dk_at dksX8_of_1 10 rfl rfl)
theorem dX8_of_36 : decode cX8_of 36 = .ok (.putfield 52, 3) := dk_181 0 52 (dk_at dksX8_of_1 13 rfl rfl)
theorem dX8_of_39 : decode cX8_of 39 = .ok (.aload_n 0, 1) := dk_42 (dk_at dksX8_of_1 16 rfl rfl)
theorem dX8_of_40 : decode cX8_of 40 = .ok (.areturn, 1) := dk_176 (dk_at dksX8_of_1 17 rfl rfl)
abbrev cX8_reads : ByteArray := prog_18_method_4_code
def yX8_reads : MethodName := ⟨RX8, "reads", "()I"⟩
def dkwX8_reads_10 : List UInt8 := [181, 0, 42, 42, 29, 181, 0, 45, 3, 60, 42, 180, 0, 3, 29, 182, 0, 75, 62, 167, 255, 16, 29, 172]
abbrev dktX8_reads_10 : List UInt8 := dkwX8_reads_10 ++ []
def dkwX8_reads_9 : List UInt8 := [180, 0, 25, 4, 46, 16, 8, 120, 42, 180, 0, 25, 5, 46, 128, 79, 42, 89, 180, 0, 42, 4, 96]
abbrev dktX8_reads_9 : List UInt8 := dkwX8_reads_9 ++ dktX8_reads_10
def dkwX8_reads_8 : List UInt8 := [180, 0, 19, 42, 180, 0, 42, 42, 180, 0, 25, 3, 46, 79, 42, 180, 0, 22, 42, 180, 0, 42, 42]
abbrev dktX8_reads_8 : List UInt8 := dkwX8_reads_8 ++ dktX8_reads_9
def dkwX8_reads_7 : List UInt8 := [96, 181, 0, 39, 29, 7, 42, 180, 0, 28, 29, 5, 96, 46, 96, 96, 62, 28, 154, 0, 60, 42]
abbrev dktX8_reads_7 : List UInt8 := dkwX8_reads_7 ++ dktX8_reads_8
def dkwX8_reads_6 : List UInt8 := [182, 0, 83, 154, 0, 5, 29, 172, 42, 180, 0, 15, 42, 180, 0, 39, 29, 79, 42, 89, 180, 0, 39, 4]
abbrev dktX8_reads_6 : List UInt8 := dkwX8_reads_6 ++ dktX8_reads_7
def dkwX8_reads_5 : List UInt8 := [21, 4, 5, 159, 0, 9, 21, 4, 6, 160, 0, 7, 4, 167, 0, 4, 3, 61, 28, 154, 0, 13, 42, 27]
abbrev dktX8_reads_5 : List UInt8 := dkwX8_reads_5 ++ dktX8_reads_6
def dkwX8_reads_4 : List UInt8 := [7, 96, 21, 5, 96, 46, 79, 132, 5, 1, 167, 255, 220, 27, 42, 180, 0, 28, 29, 5, 96, 46, 96, 60]
abbrev dktX8_reads_4 : List UInt8 := dkwX8_reads_4 ++ dktX8_reads_5
def dkwX8_reads_3 : List UInt8 := [42, 180, 0, 28, 29, 5, 96, 46, 162, 0, 29, 42, 180, 0, 25, 27, 21, 5, 96, 42, 180, 0, 28, 29]
abbrev dktX8_reads_3 : List UInt8 := dkwX8_reads_3 ++ dktX8_reads_4
def dkwX8_reads_2 : List UInt8 := [159, 0, 9, 21, 4, 7, 160, 0, 7, 4, 167, 0, 4, 3, 159, 0, 5, 29, 172, 3, 54, 5, 21, 5]
abbrev dktX8_reads_2 : List UInt8 := dkwX8_reads_2 ++ dktX8_reads_3
def dkwX8_reads_1 : List UInt8 := [42, 29, 182, 0, 79, 153, 0, 227, 42, 180, 0, 28, 29, 4, 96, 46, 54, 4, 28, 21, 4, 6]
abbrev dktX8_reads_1 : List UInt8 := dkwX8_reads_1 ++ dktX8_reads_2
def dkwX8_reads_0 : List UInt8 := [3, 60, 3, 61, 42, 180, 0, 3, 8, 182, 0, 75, 62, 29, 42, 180, 0, 3, 182, 0, 55, 162, 0, 235]
abbrev dktX8_reads_0 : List UInt8 := dkwX8_reads_0 ++ dktX8_reads_1
theorem dksX8_reads_0 : cX8_reads.data.toList.drop 0 = dktX8_reads_0 := by decide +kernel
theorem dksX8_reads_1 : cX8_reads.data.toList.drop 24 = dktX8_reads_1 := dk_seg dksX8_reads_0 24 rfl rfl
theorem dksX8_reads_2 : cX8_reads.data.toList.drop 46 = dktX8_reads_2 := dk_seg dksX8_reads_1 22 rfl rfl
theorem dksX8_reads_3 : cX8_reads.data.toList.drop 70 = dktX8_reads_3 := dk_seg dksX8_reads_2 24 rfl rfl
theorem dksX8_reads_4 : cX8_reads.data.toList.drop 94 = dktX8_reads_4 := dk_seg dksX8_reads_3 24 rfl rfl
theorem dksX8_reads_5 : cX8_reads.data.toList.drop 118 = dktX8_reads_5 := dk_seg dksX8_reads_4 24 rfl rfl
theorem dksX8_reads_6 : cX8_reads.data.toList.drop 142 = dktX8_reads_6 := dk_seg dksX8_reads_5 24 rfl rfl
theorem dksX8_reads_7 : cX8_reads.data.toList.drop 166 = dktX8_reads_7 := dk_seg dksX8_reads_6 24 rfl rfl
theorem dksX8_reads_8 : cX8_reads.data.toList.drop 188 = dktX8_reads_8 := dk_seg dksX8_reads_7 22 rfl rfl
theorem dksX8_reads_9 : cX8_reads.data.toList.drop 211 = dktX8_reads_9 := dk_seg dksX8_reads_8 23 rfl rfl
theorem dksX8_reads_10 : cX8_reads.data.toList.drop 234 = dktX8_reads_10 := dk_seg dksX8_reads_9 23 rfl rfl
theorem dX8_reads_0 : decode cX8_reads 0 = .ok (.iconst 0, 1) := dk_3 (dk_at dksX8_reads_0 0 rfl rfl)
theorem dX8_reads_1 : decode cX8_reads 1 = .ok (.istore_n 1, 1) := dk_60 (dk_at dksX8_reads_0 1 rfl rfl)
theorem dX8_reads_2 : decode cX8_reads 2 = .ok (.iconst 0, 1) := dk_3 (dk_at dksX8_reads_0 2 rfl rfl)
theorem dX8_reads_3 : decode cX8_reads 3 = .ok (.istore_n 2, 1) := dk_61 (dk_at dksX8_reads_0 3 rfl rfl)
theorem dX8_reads_4 : decode cX8_reads 4 = .ok (.aload_n 0, 1) := dk_42 (dk_at dksX8_reads_0 4 rfl rfl)
theorem dX8_reads_5 : decode cX8_reads 5 = .ok (.getfield 3, 3) := dk_180 0 3 (dk_at dksX8_reads_0 5 rfl rfl)
theorem dX8_reads_8 : decode cX8_reads 8 = .ok (.iconst 5, 1) := dk_8 (dk_at dksX8_reads_0 8 rfl rfl)
theorem dX8_reads_9 : decode cX8_reads 9 = .ok (.invokevirtual 75, 3) := dk_182 0 75 (dk_at dksX8_reads_0 9 rfl rfl)
theorem dX8_reads_12 : decode cX8_reads 12 = .ok (.istore_n 3, 1) := dk_62 (dk_at dksX8_reads_0 12 rfl rfl)
theorem dX8_reads_13 : decode cX8_reads 13 = .ok (.iload_n 3, 1) := dk_29 (dk_at dksX8_reads_0 13 rfl rfl)
theorem dX8_reads_14 : decode cX8_reads 14 = .ok (.aload_n 0, 1) := dk_42 (dk_at dksX8_reads_0 14 rfl rfl)
theorem dX8_reads_15 : decode cX8_reads 15 = .ok (.getfield 3, 3) := dk_180 0 3 (dk_at dksX8_reads_0 15 rfl rfl)
theorem dX8_reads_18 : decode cX8_reads 18 = .ok (.invokevirtual 55, 3) := dk_182 0 55 (dk_at dksX8_reads_0 18 rfl rfl)
theorem dX8_reads_21 : decode cX8_reads 21 = .ok (.if_icmp .ge 235, 3) := dk_162 0 235 (dk_at dksX8_reads_0 21 rfl rfl)
theorem dX8_reads_24 : decode cX8_reads 24 = .ok (.aload_n 0, 1) := dk_42 (dk_at dksX8_reads_1 0 rfl rfl)
theorem dX8_reads_25 : decode cX8_reads 25 = .ok (.iload_n 3, 1) := dk_29 (dk_at dksX8_reads_1 1 rfl rfl)
theorem dX8_reads_26 : decode cX8_reads 26 = .ok (.invokevirtual 79, 3) := dk_182 0 79 (dk_at dksX8_reads_1 2 rfl rfl)
theorem dX8_reads_29 : decode cX8_reads 29 = .ok (.ifCond .eq 227, 3) := dk_153 0 227 (dk_at dksX8_reads_1 5 rfl rfl)
theorem dX8_reads_32 : decode cX8_reads 32 = .ok (.aload_n 0, 1) := dk_42 (dk_at dksX8_reads_1 8 rfl rfl)
theorem dX8_reads_33 : decode cX8_reads 33 = .ok (.getfield 28, 3) := dk_180 0 28 (dk_at dksX8_reads_1 9 rfl rfl)
theorem dX8_reads_36 : decode cX8_reads 36 = .ok (.iload_n 3, 1) := dk_29 (dk_at dksX8_reads_1 12 rfl rfl)
theorem dX8_reads_37 : decode cX8_reads 37 = .ok (.iconst 1, 1) := dk_4 (dk_at dksX8_reads_1 13 rfl rfl)
theorem dX8_reads_38 : decode cX8_reads 38 = .ok (.iadd, 1) := dk_96 (dk_at dksX8_reads_1 14 rfl rfl)
theorem dX8_reads_39 : decode cX8_reads 39 = .ok (.iaload, 1) := dk_46 (dk_at dksX8_reads_1 15 rfl rfl)
theorem dX8_reads_40 : decode cX8_reads 40 = .ok (.istore 4, 2) := dk_54 4 (dk_at dksX8_reads_1 16 rfl rfl)
theorem dX8_reads_42 : decode cX8_reads 42 = .ok (.iload_n 2, 1) := dk_28 (dk_at dksX8_reads_1 18 rfl rfl)
theorem dX8_reads_43 : decode cX8_reads 43 = .ok (.iload 4, 2) := dk_21 4 (dk_at dksX8_reads_1 19 rfl rfl)
theorem dX8_reads_45 : decode cX8_reads 45 = .ok (.iconst 3, 1) := dk_6 (dk_at dksX8_reads_1 21 rfl rfl)
theorem dX8_reads_46 : decode cX8_reads 46 = .ok (.if_icmp .eq 9, 3) := dk_159 0 9 (dk_at dksX8_reads_2 0 rfl rfl)
theorem dX8_reads_49 : decode cX8_reads 49 = .ok (.iload 4, 2) := dk_21 4 (dk_at dksX8_reads_2 3 rfl rfl)
theorem dX8_reads_51 : decode cX8_reads 51 = .ok (.iconst 4, 1) := dk_7 (dk_at dksX8_reads_2 5 rfl rfl)
theorem dX8_reads_52 : decode cX8_reads 52 = .ok (.if_icmp .ne 7, 3) := dk_160 0 7 (dk_at dksX8_reads_2 6 rfl rfl)
theorem dX8_reads_55 : decode cX8_reads 55 = .ok (.iconst 1, 1) := dk_4 (dk_at dksX8_reads_2 9 rfl rfl)
theorem dX8_reads_56 : decode cX8_reads 56 = .ok (.goto 4, 3) := dk_167 0 4 (dk_at dksX8_reads_2 10 rfl rfl)
theorem dX8_reads_59 : decode cX8_reads 59 = .ok (.iconst 0, 1) := dk_3 (dk_at dksX8_reads_2 13 rfl rfl)
theorem dX8_reads_60 : decode cX8_reads 60 = .ok (.if_icmp .eq 5, 3) := dk_159 0 5 (dk_at dksX8_reads_2 14 rfl rfl)
theorem dX8_reads_63 : decode cX8_reads 63 = .ok (.iload_n 3, 1) := dk_29 (dk_at dksX8_reads_2 17 rfl rfl)
theorem dX8_reads_64 : decode cX8_reads 64 = .ok (.ireturn, 1) := dk_172 (dk_at dksX8_reads_2 18 rfl rfl)
theorem dX8_reads_65 : decode cX8_reads 65 = .ok (.iconst 0, 1) := dk_3 (dk_at dksX8_reads_2 19 rfl rfl)
theorem dX8_reads_66 : decode cX8_reads 66 = .ok (.istore 5, 2) := dk_54 5 (dk_at dksX8_reads_2 20 rfl rfl)
theorem dX8_reads_68 : decode cX8_reads 68 = .ok (.iload 5, 2) := dk_21 5 (dk_at dksX8_reads_2 22 rfl rfl)
theorem dX8_reads_70 : decode cX8_reads 70 = .ok (.aload_n 0, 1) := dk_42 (dk_at dksX8_reads_3 0 rfl rfl)
theorem dX8_reads_71 : decode cX8_reads 71 = .ok (.getfield 28, 3) := dk_180 0 28 (dk_at dksX8_reads_3 1 rfl rfl)
theorem dX8_reads_74 : decode cX8_reads 74 = .ok (.iload_n 3, 1) := dk_29 (dk_at dksX8_reads_3 4 rfl rfl)
theorem dX8_reads_75 : decode cX8_reads 75 = .ok (.iconst 2, 1) := dk_5 (dk_at dksX8_reads_3 5 rfl rfl)
theorem dX8_reads_76 : decode cX8_reads 76 = .ok (.iadd, 1) := dk_96 (dk_at dksX8_reads_3 6 rfl rfl)
theorem dX8_reads_77 : decode cX8_reads 77 = .ok (.iaload, 1) := dk_46 (dk_at dksX8_reads_3 7 rfl rfl)
theorem dX8_reads_78 : decode cX8_reads 78 = .ok (.if_icmp .ge 29, 3) := dk_162 0 29 (dk_at dksX8_reads_3 8 rfl rfl)
theorem dX8_reads_81 : decode cX8_reads 81 = .ok (.aload_n 0, 1) := dk_42 (dk_at dksX8_reads_3 11 rfl rfl)
theorem dX8_reads_82 : decode cX8_reads 82 = .ok (.getfield 25, 3) := dk_180 0 25 (dk_at dksX8_reads_3 12 rfl rfl)
theorem dX8_reads_85 : decode cX8_reads 85 = .ok (.iload_n 1, 1) := dk_27 (dk_at dksX8_reads_3 15 rfl rfl)
theorem dX8_reads_86 : decode cX8_reads 86 = .ok (.iload 5, 2) := dk_21 5 (dk_at dksX8_reads_3 16 rfl rfl)
theorem dX8_reads_88 : decode cX8_reads 88 = .ok (.iadd, 1) := dk_96 (dk_at dksX8_reads_3 18 rfl rfl)
theorem dX8_reads_89 : decode cX8_reads 89 = .ok (.aload_n 0, 1) := dk_42 (dk_at dksX8_reads_3 19 rfl rfl)
theorem dX8_reads_90 : decode cX8_reads 90 = .ok (.getfield 28, 3) := dk_180 0 28 (dk_at dksX8_reads_3 20 rfl rfl)
theorem dX8_reads_93 : decode cX8_reads 93 = .ok (.iload_n 3, 1) := dk_29 (dk_at dksX8_reads_3 23 rfl rfl)
theorem dX8_reads_94 : decode cX8_reads 94 = .ok (.iconst 4, 1) := dk_7 (dk_at dksX8_reads_4 0 rfl rfl)
theorem dX8_reads_95 : decode cX8_reads 95 = .ok (.iadd, 1) := dk_96 (dk_at dksX8_reads_4 1 rfl rfl)
theorem dX8_reads_96 : decode cX8_reads 96 = .ok (.iload 5, 2) := dk_21 5 (dk_at dksX8_reads_4 2 rfl rfl)
theorem dX8_reads_98 : decode cX8_reads 98 = .ok (.iadd, 1) := dk_96 (dk_at dksX8_reads_4 4 rfl rfl)
theorem dX8_reads_99 : decode cX8_reads 99 = .ok (.iaload, 1) := dk_46 (dk_at dksX8_reads_4 5 rfl rfl)
theorem dX8_reads_100 : decode cX8_reads 100 = .ok (.iastore, 1) := dk_79 (dk_at dksX8_reads_4 6 rfl rfl)
theorem dX8_reads_101 : decode cX8_reads 101 = .ok (.iinc 5 1, 3) := dk_132 5 1 (dk_at dksX8_reads_4 7 rfl rfl)
theorem dX8_reads_104 : decode cX8_reads 104 = .ok (.goto (-36), 3) := dk_167 255 220 (dk_at dksX8_reads_4 10 rfl rfl)
theorem dX8_reads_107 : decode cX8_reads 107 = .ok (.iload_n 1, 1) := dk_27 (dk_at dksX8_reads_4 13 rfl rfl)
theorem dX8_reads_108 : decode cX8_reads 108 = .ok (.aload_n 0, 1) := dk_42 (dk_at dksX8_reads_4 14 rfl rfl)
theorem dX8_reads_109 : decode cX8_reads 109 = .ok (.getfield 28, 3) := dk_180 0 28 (dk_at dksX8_reads_4 15 rfl rfl)
theorem dX8_reads_112 : decode cX8_reads 112 = .ok (.iload_n 3, 1) := dk_29 (dk_at dksX8_reads_4 18 rfl rfl)
theorem dX8_reads_113 : decode cX8_reads 113 = .ok (.iconst 2, 1) := dk_5 (dk_at dksX8_reads_4 19 rfl rfl)
theorem dX8_reads_114 : decode cX8_reads 114 = .ok (.iadd, 1) := dk_96 (dk_at dksX8_reads_4 20 rfl rfl)
theorem dX8_reads_115 : decode cX8_reads 115 = .ok (.iaload, 1) := dk_46 (dk_at dksX8_reads_4 21 rfl rfl)
theorem dX8_reads_116 : decode cX8_reads 116 = .ok (.iadd, 1) := dk_96 (dk_at dksX8_reads_4 22 rfl rfl)
theorem dX8_reads_117 : decode cX8_reads 117 = .ok (.istore_n 1, 1) := dk_60 (dk_at dksX8_reads_4 23 rfl rfl)
theorem dX8_reads_118 : decode cX8_reads 118 = .ok (.iload 4, 2) := dk_21 4 (dk_at dksX8_reads_5 0 rfl rfl)
theorem dX8_reads_120 : decode cX8_reads 120 = .ok (.iconst 2, 1) := dk_5 (dk_at dksX8_reads_5 2 rfl rfl)
theorem dX8_reads_121 : decode cX8_reads 121 = .ok (.if_icmp .eq 9, 3) := dk_159 0 9 (dk_at dksX8_reads_5 3 rfl rfl)
theorem dX8_reads_124 : decode cX8_reads 124 = .ok (.iload 4, 2) := dk_21 4 (dk_at dksX8_reads_5 6 rfl rfl)
theorem dX8_reads_126 : decode cX8_reads 126 = .ok (.iconst 3, 1) := dk_6 (dk_at dksX8_reads_5 8 rfl rfl)
theorem dX8_reads_127 : decode cX8_reads 127 = .ok (.if_icmp .ne 7, 3) := dk_160 0 7 (dk_at dksX8_reads_5 9 rfl rfl)
theorem dX8_reads_130 : decode cX8_reads 130 = .ok (.iconst 1, 1) := dk_4 (dk_at dksX8_reads_5 12 rfl rfl)
theorem dX8_reads_131 : decode cX8_reads 131 = .ok (.goto 4, 3) := dk_167 0 4 (dk_at dksX8_reads_5 13 rfl rfl)
theorem dX8_reads_134 : decode cX8_reads 134 = .ok (.iconst 0, 1) := dk_3 (dk_at dksX8_reads_5 16 rfl rfl)
theorem dX8_reads_135 : decode cX8_reads 135 = .ok (.istore_n 2, 1) := dk_61 (dk_at dksX8_reads_5 17 rfl rfl)
theorem dX8_reads_136 : decode cX8_reads 136 = .ok (.iload_n 2, 1) := dk_28 (dk_at dksX8_reads_5 18 rfl rfl)
theorem dX8_reads_137 : decode cX8_reads 137 = .ok (.ifCond .ne 13, 3) := dk_154 0 13 (dk_at dksX8_reads_5 19 rfl rfl)
theorem dX8_reads_140 : decode cX8_reads 140 = .ok (.aload_n 0, 1) := dk_42 (dk_at dksX8_reads_5 22 rfl rfl)
theorem dX8_reads_141 : decode cX8_reads 141 = .ok (.iload_n 1, 1) := dk_27 (dk_at dksX8_reads_5 23 rfl rfl)
theorem dX8_reads_142 : decode cX8_reads 142 = .ok (.invokevirtual 83, 3) := dk_182 0 83 (dk_at dksX8_reads_6 0 rfl rfl)
theorem dX8_reads_145 : decode cX8_reads 145 = .ok (.ifCond .ne 5, 3) := dk_154 0 5 (dk_at dksX8_reads_6 3 rfl rfl)
theorem dX8_reads_148 : decode cX8_reads 148 = .ok (.iload_n 3, 1) := dk_29 (dk_at dksX8_reads_6 6 rfl rfl)
theorem dX8_reads_149 : decode cX8_reads 149 = .ok (.ireturn, 1) := dk_172 (dk_at dksX8_reads_6 7 rfl rfl)
theorem dX8_reads_150 : decode cX8_reads 150 = .ok (.aload_n 0, 1) := dk_42 (dk_at dksX8_reads_6 8 rfl rfl)
theorem dX8_reads_151 : decode cX8_reads 151 = .ok (.getfield 15, 3) := dk_180 0 15 (dk_at dksX8_reads_6 9 rfl rfl)
theorem dX8_reads_154 : decode cX8_reads 154 = .ok (.aload_n 0, 1) := dk_42 (dk_at dksX8_reads_6 12 rfl rfl)
theorem dX8_reads_155 : decode cX8_reads 155 = .ok (.getfield 39, 3) := dk_180 0 39 (dk_at dksX8_reads_6 13 rfl rfl)
theorem dX8_reads_158 : decode cX8_reads 158 = .ok (.iload_n 3, 1) := dk_29 (dk_at dksX8_reads_6 16 rfl rfl)
theorem dX8_reads_159 : decode cX8_reads 159 = .ok (.iastore, 1) := dk_79 (dk_at dksX8_reads_6 17 rfl rfl)
theorem dX8_reads_160 : decode cX8_reads 160 = .ok (.aload_n 0, 1) := dk_42 (dk_at dksX8_reads_6 18 rfl rfl)
theorem dX8_reads_161 : decode cX8_reads 161 = .ok (.dup, 1) := dk_89 (dk_at dksX8_reads_6 19 rfl rfl)
theorem dX8_reads_162 : decode cX8_reads 162 = .ok (.getfield 39, 3) := dk_180 0 39 (dk_at dksX8_reads_6 20 rfl rfl)
theorem dX8_reads_165 : decode cX8_reads 165 = .ok (.iconst 1, 1) := dk_4 (dk_at dksX8_reads_6 23 rfl rfl)
theorem dX8_reads_166 : decode cX8_reads 166 = .ok (.iadd, 1) := dk_96 (dk_at dksX8_reads_7 0 rfl rfl)
theorem dX8_reads_167 : decode cX8_reads 167 = .ok (.putfield 39, 3) := dk_181 0 39 (dk_at dksX8_reads_7 1 rfl rfl)
theorem dX8_reads_170 : decode cX8_reads 170 = .ok (.iload_n 3, 1) := dk_29 (dk_at dksX8_reads_7 4 rfl rfl)
theorem dX8_reads_171 : decode cX8_reads 171 = .ok (.iconst 4, 1) := dk_7 (dk_at dksX8_reads_7 5 rfl rfl)
theorem dX8_reads_172 : decode cX8_reads 172 = .ok (.aload_n 0, 1) := dk_42 (dk_at dksX8_reads_7 6 rfl rfl)
theorem dX8_reads_173 : decode cX8_reads 173 = .ok (.getfield 28, 3) := dk_180 0 28 (dk_at dksX8_reads_7 7 rfl rfl)
theorem dX8_reads_176 : decode cX8_reads 176 = .ok (.iload_n 3, 1) := dk_29 (dk_at dksX8_reads_7 10 rfl rfl)
theorem dX8_reads_177 : decode cX8_reads 177 = .ok (.iconst 2, 1) := dk_5 (dk_at dksX8_reads_7 11 rfl rfl)
theorem dX8_reads_178 : decode cX8_reads 178 = .ok (.iadd, 1) := dk_96 (dk_at dksX8_reads_7 12 rfl rfl)
theorem dX8_reads_179 : decode cX8_reads 179 = .ok (.iaload, 1) := dk_46 (dk_at dksX8_reads_7 13 rfl rfl)
theorem dX8_reads_180 : decode cX8_reads 180 = .ok (.iadd, 1) := dk_96 (dk_at dksX8_reads_7 14 rfl rfl)
theorem dX8_reads_181 : decode cX8_reads 181 = .ok (.iadd, 1) := dk_96 (dk_at dksX8_reads_7 15 rfl rfl)
theorem dX8_reads_182 : decode cX8_reads 182 = .ok (.istore_n 3, 1) := dk_62 (dk_at dksX8_reads_7 16 rfl rfl)
theorem dX8_reads_183 : decode cX8_reads 183 = .ok (.iload_n 2, 1) := dk_28 (dk_at dksX8_reads_7 17 rfl rfl)
theorem dX8_reads_184 : decode cX8_reads 184 = .ok (.ifCond .ne 60, 3) := dk_154 0 60 (dk_at dksX8_reads_7 18 rfl rfl)
theorem dX8_reads_187 : decode cX8_reads 187 = .ok (.aload_n 0, 1) := dk_42 (dk_at dksX8_reads_7 21 rfl rfl)
theorem dX8_reads_188 : decode cX8_reads 188 = .ok (.getfield 19, 3) := dk_180 0 19 (dk_at dksX8_reads_8 0 rfl rfl)
theorem dX8_reads_191 : decode cX8_reads 191 = .ok (.aload_n 0, 1) := dk_42 (dk_at dksX8_reads_8 3 rfl rfl)
theorem dX8_reads_192 : decode cX8_reads 192 = .ok (.getfield 42, 3) := dk_180 0 42 (dk_at dksX8_reads_8 4 rfl rfl)
theorem dX8_reads_195 : decode cX8_reads 195 = .ok (.aload_n 0, 1) := dk_42 (dk_at dksX8_reads_8 7 rfl rfl)
theorem dX8_reads_196 : decode cX8_reads 196 = .ok (.getfield 25, 3) := dk_180 0 25 (dk_at dksX8_reads_8 8 rfl rfl)
theorem dX8_reads_199 : decode cX8_reads 199 = .ok (.iconst 0, 1) := dk_3 (dk_at dksX8_reads_8 11 rfl rfl)
theorem dX8_reads_200 : decode cX8_reads 200 = .ok (.iaload, 1) := dk_46 (dk_at dksX8_reads_8 12 rfl rfl)
theorem dX8_reads_201 : decode cX8_reads 201 = .ok (.iastore, 1) := dk_79 (dk_at dksX8_reads_8 13 rfl rfl)
theorem dX8_reads_202 : decode cX8_reads 202 = .ok (.aload_n 0, 1) := dk_42 (dk_at dksX8_reads_8 14 rfl rfl)
theorem dX8_reads_203 : decode cX8_reads 203 = .ok (.getfield 22, 3) := dk_180 0 22 (dk_at dksX8_reads_8 15 rfl rfl)
theorem dX8_reads_206 : decode cX8_reads 206 = .ok (.aload_n 0, 1) := dk_42 (dk_at dksX8_reads_8 18 rfl rfl)
theorem dX8_reads_207 : decode cX8_reads 207 = .ok (.getfield 42, 3) := dk_180 0 42 (dk_at dksX8_reads_8 19 rfl rfl)
theorem dX8_reads_210 : decode cX8_reads 210 = .ok (.aload_n 0, 1) := dk_42 (dk_at dksX8_reads_8 22 rfl rfl)
theorem dX8_reads_211 : decode cX8_reads 211 = .ok (.getfield 25, 3) := dk_180 0 25 (dk_at dksX8_reads_9 0 rfl rfl)
theorem dX8_reads_214 : decode cX8_reads 214 = .ok (.iconst 1, 1) := dk_4 (dk_at dksX8_reads_9 3 rfl rfl)
theorem dX8_reads_215 : decode cX8_reads 215 = .ok (.iaload, 1) := dk_46 (dk_at dksX8_reads_9 4 rfl rfl)
theorem dX8_reads_216 : decode cX8_reads 216 = .ok (.bipush 8, 2) := dk_16 8 (dk_at dksX8_reads_9 5 rfl rfl)
theorem dX8_reads_218 : decode cX8_reads 218 = .ok (.ishl, 1) := dk_120 (dk_at dksX8_reads_9 7 rfl rfl)
theorem dX8_reads_219 : decode cX8_reads 219 = .ok (.aload_n 0, 1) := dk_42 (dk_at dksX8_reads_9 8 rfl rfl)
theorem dX8_reads_220 : decode cX8_reads 220 = .ok (.getfield 25, 3) := dk_180 0 25 (dk_at dksX8_reads_9 9 rfl rfl)
theorem dX8_reads_223 : decode cX8_reads 223 = .ok (.iconst 2, 1) := dk_5 (dk_at dksX8_reads_9 12 rfl rfl)
theorem dX8_reads_224 : decode cX8_reads 224 = .ok (.iaload, 1) := dk_46 (dk_at dksX8_reads_9 13 rfl rfl)
theorem dX8_reads_225 : decode cX8_reads 225 = .ok (.ior, 1) := dk_128 (dk_at dksX8_reads_9 14 rfl rfl)
theorem dX8_reads_226 : decode cX8_reads 226 = .ok (.iastore, 1) := dk_79 (dk_at dksX8_reads_9 15 rfl rfl)
theorem dX8_reads_227 : decode cX8_reads 227 = .ok (.aload_n 0, 1) := dk_42 (dk_at dksX8_reads_9 16 rfl rfl)
theorem dX8_reads_228 : decode cX8_reads 228 = .ok (.dup, 1) := dk_89 (dk_at dksX8_reads_9 17 rfl rfl)
theorem dX8_reads_229 : decode cX8_reads 229 = .ok (.getfield 42, 3) := dk_180 0 42 (dk_at dksX8_reads_9 18 rfl rfl)
theorem dX8_reads_232 : decode cX8_reads 232 = .ok (.iconst 1, 1) := dk_4 (dk_at dksX8_reads_9 21 rfl rfl)
theorem dX8_reads_233 : decode cX8_reads 233 = .ok (.iadd, 1) := dk_96 (dk_at dksX8_reads_9 22 rfl rfl)
theorem dX8_reads_234 : decode cX8_reads 234 = .ok (.putfield 42, 3) := dk_181 0 42 (dk_at dksX8_reads_10 0 rfl rfl)
theorem dX8_reads_237 : decode cX8_reads 237 = .ok (.aload_n 0, 1) := dk_42 (dk_at dksX8_reads_10 3 rfl rfl)
theorem dX8_reads_238 : decode cX8_reads 238 = .ok (.iload_n 3, 1) := dk_29 (dk_at dksX8_reads_10 4 rfl rfl)
theorem dX8_reads_239 : decode cX8_reads 239 = .ok (.putfield 45, 3) := dk_181 0 45 (dk_at dksX8_reads_10 5 rfl rfl)
theorem dX8_reads_242 : decode cX8_reads 242 = .ok (.iconst 0, 1) := dk_3 (dk_at dksX8_reads_10 8 rfl rfl)
theorem dX8_reads_243 : decode cX8_reads 243 = .ok (.istore_n 1, 1) := dk_60 (dk_at dksX8_reads_10 9 rfl rfl)
theorem dX8_reads_244 : decode cX8_reads 244 = .ok (.aload_n 0, 1) := dk_42 (dk_at dksX8_reads_10 10 rfl rfl)
theorem dX8_reads_245 : decode cX8_reads 245 = .ok (.getfield 3, 3) := dk_180 0 3 (dk_at dksX8_reads_10 11 rfl rfl)
theorem dX8_reads_248 : decode cX8_reads 248 = .ok (.iload_n 3, 1) := dk_29 (dk_at dksX8_reads_10 14 rfl rfl)
theorem dX8_reads_249 : decode cX8_reads 249 = .ok (.invokevirtual 75, 3) := dk_182 0 75 (dk_at dksX8_reads_10 15 rfl rfl)
theorem dX8_reads_252 : decode cX8_reads 252 = .ok (.istore_n 3, 1) := dk_62 (dk_at dksX8_reads_10 18 rfl rfl)
theorem dX8_reads_253 : decode cX8_reads 253 = .ok (.goto (-240), 3) := dk_167 255 16 (dk_at dksX8_reads_10 19 rfl rfl)
theorem dX8_reads_256 : decode cX8_reads 256 = .ok (.iload_n 3, 1) := dk_29 (dk_at dksX8_reads_10 22 rfl rfl)
theorem dX8_reads_257 : decode cX8_reads 257 = .ok (.ireturn, 1) := dk_172 (dk_at dksX8_reads_10 23 rfl rfl)
abbrev cX8_isFrame : ByteArray := prog_18_method_3_code
def yX8_isFrame : MethodName := ⟨RX8, "isFrame", "(I)Z"⟩
def dkwX8_isFrame_6 : List UInt8 := [3, 172]
abbrev dktX8_isFrame_6 : List UInt8 := dkwX8_isFrame_6 ++ []
def dkwX8_isFrame_5 : List UInt8 := [184, 0, 71, 62, 132, 4, 1, 167, 255, 231, 29, 42, 180, 0, 28, 27, 46, 160, 0, 7, 4, 167, 0, 4]
abbrev dktX8_isFrame_5 : List UInt8 := dkwX8_isFrame_5 ++ dktX8_isFrame_6
def dkwX8_isFrame_4 : List UInt8 := [62, 27, 4, 96, 54, 4, 21, 4, 27, 7, 96, 28, 96, 162, 0, 21, 29, 42, 180, 0, 28, 21, 4, 46]
abbrev dktX8_isFrame_4 : List UInt8 := dkwX8_isFrame_4 ++ dktX8_isFrame_5
def dkwX8_isFrame_3 : List UInt8 := [126, 160, 0, 19, 42, 180, 0, 28, 27, 4, 96, 46, 4, 7, 184, 0, 67, 154, 0, 5, 3, 172, 16, 7]
abbrev dktX8_isFrame_3 : List UInt8 := dkwX8_isFrame_3 ++ dktX8_isFrame_4
def dkwX8_isFrame_2 : List UInt8 := [180, 0, 58, 180, 0, 62, 163, 0, 38, 42, 180, 0, 28, 27, 6, 96, 46, 42, 180, 0, 35, 17, 0, 255]
abbrev dktX8_isFrame_2 : List UInt8 := dkwX8_isFrame_2 ++ dktX8_isFrame_3
def dkwX8_isFrame_1 : List UInt8 := [28, 153, 0, 67, 27, 42, 180, 0, 3, 180, 0, 58, 180, 0, 62, 112, 7, 96, 28, 96, 42, 180, 0, 3]
abbrev dktX8_isFrame_1 : List UInt8 := dkwX8_isFrame_1 ++ dktX8_isFrame_2
def dkwX8_isFrame_0 : List UInt8 := [27, 7, 96, 42, 180, 0, 3, 182, 0, 55, 161, 0, 5, 3, 172, 42, 180, 0, 28, 27, 5, 96, 46, 61]
abbrev dktX8_isFrame_0 : List UInt8 := dkwX8_isFrame_0 ++ dktX8_isFrame_1
theorem dksX8_isFrame_0 : cX8_isFrame.data.toList.drop 0 = dktX8_isFrame_0 := by decide +kernel
theorem dksX8_isFrame_1 : cX8_isFrame.data.toList.drop 24 = dktX8_isFrame_1 := dk_seg dksX8_isFrame_0 24 rfl rfl
theorem dksX8_isFrame_2 : cX8_isFrame.data.toList.drop 48 = dktX8_isFrame_2 := dk_seg dksX8_isFrame_1 24 rfl rfl
theorem dksX8_isFrame_3 : cX8_isFrame.data.toList.drop 72 = dktX8_isFrame_3 := dk_seg dksX8_isFrame_2 24 rfl rfl
theorem dksX8_isFrame_4 : cX8_isFrame.data.toList.drop 96 = dktX8_isFrame_4 := dk_seg dksX8_isFrame_3 24 rfl rfl
theorem dksX8_isFrame_5 : cX8_isFrame.data.toList.drop 120 = dktX8_isFrame_5 := dk_seg dksX8_isFrame_4 24 rfl rfl
theorem dksX8_isFrame_6 : cX8_isFrame.data.toList.drop 144 = dktX8_isFrame_6 := dk_seg dksX8_isFrame_5 24 rfl rfl
theorem dX8_isFrame_0 : decode cX8_isFrame 0 = .ok (.iload_n 1, 1) := dk_27 (dk_at dksX8_isFrame_0 0 rfl rfl)
theorem dX8_isFrame_1 : decode cX8_isFrame 1 = .ok (.iconst 4, 1) := dk_7 (dk_at dksX8_isFrame_0 1 rfl rfl)
theorem dX8_isFrame_2 : decode cX8_isFrame 2 = .ok (.iadd, 1) := dk_96 (dk_at dksX8_isFrame_0 2 rfl rfl)
theorem dX8_isFrame_3 : decode cX8_isFrame 3 = .ok (.aload_n 0, 1) := dk_42 (dk_at dksX8_isFrame_0 3 rfl rfl)
theorem dX8_isFrame_4 : decode cX8_isFrame 4 = .ok (.getfield 3, 3) := dk_180 0 3 (dk_at dksX8_isFrame_0 4 rfl rfl)
theorem dX8_isFrame_7 : decode cX8_isFrame 7 = .ok (.invokevirtual 55, 3) := dk_182 0 55 (dk_at dksX8_isFrame_0 7 rfl rfl)
theorem dX8_isFrame_10 : decode cX8_isFrame 10 = .ok (.if_icmp .lt 5, 3) := dk_161 0 5 (dk_at dksX8_isFrame_0 10 rfl rfl)
theorem dX8_isFrame_13 : decode cX8_isFrame 13 = .ok (.iconst 0, 1) := dk_3 (dk_at dksX8_isFrame_0 13 rfl rfl)
theorem dX8_isFrame_14 : decode cX8_isFrame 14 = .ok (.ireturn, 1) := dk_172 (dk_at dksX8_isFrame_0 14 rfl rfl)
theorem dX8_isFrame_15 : decode cX8_isFrame 15 = .ok (.aload_n 0, 1) := dk_42 (dk_at dksX8_isFrame_0 15 rfl rfl)
theorem dX8_isFrame_16 : decode cX8_isFrame 16 = .ok (.getfield 28, 3) := dk_180 0 28 (dk_at dksX8_isFrame_0 16 rfl rfl)
theorem dX8_isFrame_19 : decode cX8_isFrame 19 = .ok (.iload_n 1, 1) := dk_27 (dk_at dksX8_isFrame_0 19 rfl rfl)
theorem dX8_isFrame_20 : decode cX8_isFrame 20 = .ok (.iconst 2, 1) := dk_5 (dk_at dksX8_isFrame_0 20 rfl rfl)
theorem dX8_isFrame_21 : decode cX8_isFrame 21 = .ok (.iadd, 1) := dk_96 (dk_at dksX8_isFrame_0 21 rfl rfl)
theorem dX8_isFrame_22 : decode cX8_isFrame 22 = .ok (.iaload, 1) := dk_46 (dk_at dksX8_isFrame_0 22 rfl rfl)
theorem dX8_isFrame_23 : decode cX8_isFrame 23 = .ok (.istore_n 2, 1) := dk_61 (dk_at dksX8_isFrame_0 23 rfl rfl)
theorem dX8_isFrame_24 : decode cX8_isFrame 24 = .ok (.iload_n 2, 1) := dk_28 (dk_at dksX8_isFrame_1 0 rfl rfl)
theorem dX8_isFrame_25 : decode cX8_isFrame 25 = .ok (.ifCond .eq 67, 3) := dk_153 0 67 (dk_at dksX8_isFrame_1 1 rfl rfl)
theorem dX8_isFrame_28 : decode cX8_isFrame 28 = .ok (.iload_n 1, 1) := dk_27 (dk_at dksX8_isFrame_1 4 rfl rfl)
theorem dX8_isFrame_29 : decode cX8_isFrame 29 = .ok (.aload_n 0, 1) := dk_42 (dk_at dksX8_isFrame_1 5 rfl rfl)
theorem dX8_isFrame_30 : decode cX8_isFrame 30 = .ok (.getfield 3, 3) := dk_180 0 3 (dk_at dksX8_isFrame_1 6 rfl rfl)
theorem dX8_isFrame_33 : decode cX8_isFrame 33 = .ok (.getfield 58, 3) := dk_180 0 58 (dk_at dksX8_isFrame_1 9 rfl rfl)
theorem dX8_isFrame_36 : decode cX8_isFrame 36 = .ok (.getfield 62, 3) := dk_180 0 62 (dk_at dksX8_isFrame_1 12 rfl rfl)
theorem dX8_isFrame_39 : decode cX8_isFrame 39 = .ok (.irem, 1) := dk_112 (dk_at dksX8_isFrame_1 15 rfl rfl)
theorem dX8_isFrame_40 : decode cX8_isFrame 40 = .ok (.iconst 4, 1) := dk_7 (dk_at dksX8_isFrame_1 16 rfl rfl)
theorem dX8_isFrame_41 : decode cX8_isFrame 41 = .ok (.iadd, 1) := dk_96 (dk_at dksX8_isFrame_1 17 rfl rfl)
theorem dX8_isFrame_42 : decode cX8_isFrame 42 = .ok (.iload_n 2, 1) := dk_28 (dk_at dksX8_isFrame_1 18 rfl rfl)
theorem dX8_isFrame_43 : decode cX8_isFrame 43 = .ok (.iadd, 1) := dk_96 (dk_at dksX8_isFrame_1 19 rfl rfl)
theorem dX8_isFrame_44 : decode cX8_isFrame 44 = .ok (.aload_n 0, 1) := dk_42 (dk_at dksX8_isFrame_1 20 rfl rfl)
theorem dX8_isFrame_45 : decode cX8_isFrame 45 = .ok (.getfield 3, 3) := dk_180 0 3 (dk_at dksX8_isFrame_1 21 rfl rfl)
theorem dX8_isFrame_48 : decode cX8_isFrame 48 = .ok (.getfield 58, 3) := dk_180 0 58 (dk_at dksX8_isFrame_2 0 rfl rfl)
theorem dX8_isFrame_51 : decode cX8_isFrame 51 = .ok (.getfield 62, 3) := dk_180 0 62 (dk_at dksX8_isFrame_2 3 rfl rfl)
theorem dX8_isFrame_54 : decode cX8_isFrame 54 = .ok (.if_icmp .gt 38, 3) := dk_163 0 38 (dk_at dksX8_isFrame_2 6 rfl rfl)
theorem dX8_isFrame_57 : decode cX8_isFrame 57 = .ok (.aload_n 0, 1) := dk_42 (dk_at dksX8_isFrame_2 9 rfl rfl)
theorem dX8_isFrame_58 : decode cX8_isFrame 58 = .ok (.getfield 28, 3) := dk_180 0 28 (dk_at dksX8_isFrame_2 10 rfl rfl)
theorem dX8_isFrame_61 : decode cX8_isFrame 61 = .ok (.iload_n 1, 1) := dk_27 (dk_at dksX8_isFrame_2 13 rfl rfl)
theorem dX8_isFrame_62 : decode cX8_isFrame 62 = .ok (.iconst 3, 1) := dk_6 (dk_at dksX8_isFrame_2 14 rfl rfl)
theorem dX8_isFrame_63 : decode cX8_isFrame 63 = .ok (.iadd, 1) := dk_96 (dk_at dksX8_isFrame_2 15 rfl rfl)
theorem dX8_isFrame_64 : decode cX8_isFrame 64 = .ok (.iaload, 1) := dk_46 (dk_at dksX8_isFrame_2 16 rfl rfl)
theorem dX8_isFrame_65 : decode cX8_isFrame 65 = .ok (.aload_n 0, 1) := dk_42 (dk_at dksX8_isFrame_2 17 rfl rfl)
theorem dX8_isFrame_66 : decode cX8_isFrame 66 = .ok (.getfield 35, 3) := dk_180 0 35 (dk_at dksX8_isFrame_2 18 rfl rfl)
theorem dX8_isFrame_69 : decode cX8_isFrame 69 = .ok (.sipush 255, 3) := dk_17 0 255 (dk_at dksX8_isFrame_2 21 rfl rfl)
theorem dX8_isFrame_72 : decode cX8_isFrame 72 = .ok (.iand, 1) := dk_126 (dk_at dksX8_isFrame_3 0 rfl rfl)
theorem dX8_isFrame_73 : decode cX8_isFrame 73 = .ok (.if_icmp .ne 19, 3) := dk_160 0 19 (dk_at dksX8_isFrame_3 1 rfl rfl)
theorem dX8_isFrame_76 : decode cX8_isFrame 76 = .ok (.aload_n 0, 1) := dk_42 (dk_at dksX8_isFrame_3 4 rfl rfl)
theorem dX8_isFrame_77 : decode cX8_isFrame 77 = .ok (.getfield 28, 3) := dk_180 0 28 (dk_at dksX8_isFrame_3 5 rfl rfl)
theorem dX8_isFrame_80 : decode cX8_isFrame 80 = .ok (.iload_n 1, 1) := dk_27 (dk_at dksX8_isFrame_3 8 rfl rfl)
theorem dX8_isFrame_81 : decode cX8_isFrame 81 = .ok (.iconst 1, 1) := dk_4 (dk_at dksX8_isFrame_3 9 rfl rfl)
theorem dX8_isFrame_82 : decode cX8_isFrame 82 = .ok (.iadd, 1) := dk_96 (dk_at dksX8_isFrame_3 10 rfl rfl)
theorem dX8_isFrame_83 : decode cX8_isFrame 83 = .ok (.iaload, 1) := dk_46 (dk_at dksX8_isFrame_3 11 rfl rfl)
theorem dX8_isFrame_84 : decode cX8_isFrame 84 = .ok (.iconst 1, 1) := dk_4 (dk_at dksX8_isFrame_3 12 rfl rfl)
theorem dX8_isFrame_85 : decode cX8_isFrame 85 = .ok (.iconst 4, 1) := dk_7 (dk_at dksX8_isFrame_3 13 rfl rfl)
theorem dX8_isFrame_86 : decode cX8_isFrame 86 = .ok (.invokestatic 67, 3) := dk_184 0 67 (dk_at dksX8_isFrame_3 14 rfl rfl)
theorem dX8_isFrame_89 : decode cX8_isFrame 89 = .ok (.ifCond .ne 5, 3) := dk_154 0 5 (dk_at dksX8_isFrame_3 17 rfl rfl)
theorem dX8_isFrame_92 : decode cX8_isFrame 92 = .ok (.iconst 0, 1) := dk_3 (dk_at dksX8_isFrame_3 20 rfl rfl)
theorem dX8_isFrame_93 : decode cX8_isFrame 93 = .ok (.ireturn, 1) := dk_172 (dk_at dksX8_isFrame_3 21 rfl rfl)
theorem dX8_isFrame_94 : decode cX8_isFrame 94 = .ok (.bipush 7, 2) := dk_16 7 (dk_at dksX8_isFrame_3 22 rfl rfl)
theorem dX8_isFrame_96 : decode cX8_isFrame 96 = .ok (.istore_n 3, 1) := dk_62 (dk_at dksX8_isFrame_4 0 rfl rfl)
theorem dX8_isFrame_97 : decode cX8_isFrame 97 = .ok (.iload_n 1, 1) := dk_27 (dk_at dksX8_isFrame_4 1 rfl rfl)
theorem dX8_isFrame_98 : decode cX8_isFrame 98 = .ok (.iconst 1, 1) := dk_4 (dk_at dksX8_isFrame_4 2 rfl rfl)
theorem dX8_isFrame_99 : decode cX8_isFrame 99 = .ok (.iadd, 1) := dk_96 (dk_at dksX8_isFrame_4 3 rfl rfl)
theorem dX8_isFrame_100 : decode cX8_isFrame 100 = .ok (.istore 4, 2) := dk_54 4 (dk_at dksX8_isFrame_4 4 rfl rfl)
theorem dX8_isFrame_102 : decode cX8_isFrame 102 = .ok (.iload 4, 2) := dk_21 4 (dk_at dksX8_isFrame_4 6 rfl rfl)
theorem dX8_isFrame_104 : decode cX8_isFrame 104 = .ok (.iload_n 1, 1) := dk_27 (dk_at dksX8_isFrame_4 8 rfl rfl)
theorem dX8_isFrame_105 : decode cX8_isFrame 105 = .ok (.iconst 4, 1) := dk_7 (dk_at dksX8_isFrame_4 9 rfl rfl)
theorem dX8_isFrame_106 : decode cX8_isFrame 106 = .ok (.iadd, 1) := dk_96 (dk_at dksX8_isFrame_4 10 rfl rfl)
theorem dX8_isFrame_107 : decode cX8_isFrame 107 = .ok (.iload_n 2, 1) := dk_28 (dk_at dksX8_isFrame_4 11 rfl rfl)
theorem dX8_isFrame_108 : decode cX8_isFrame 108 = .ok (.iadd, 1) := dk_96 (dk_at dksX8_isFrame_4 12 rfl rfl)
theorem dX8_isFrame_109 : decode cX8_isFrame 109 = .ok (.if_icmp .ge 21, 3) := dk_162 0 21 (dk_at dksX8_isFrame_4 13 rfl rfl)
theorem dX8_isFrame_112 : decode cX8_isFrame 112 = .ok (.iload_n 3, 1) := dk_29 (dk_at dksX8_isFrame_4 16 rfl rfl)
theorem dX8_isFrame_113 : decode cX8_isFrame 113 = .ok (.aload_n 0, 1) := dk_42 (dk_at dksX8_isFrame_4 17 rfl rfl)
theorem dX8_isFrame_114 : decode cX8_isFrame 114 = .ok (.getfield 28, 3) := dk_180 0 28 (dk_at dksX8_isFrame_4 18 rfl rfl)
theorem dX8_isFrame_117 : decode cX8_isFrame 117 = .ok (.iload 4, 2) := dk_21 4 (dk_at dksX8_isFrame_4 21 rfl rfl)
theorem dX8_isFrame_119 : decode cX8_isFrame 119 = .ok (.iaload, 1) := dk_46 (dk_at dksX8_isFrame_4 23 rfl rfl)
theorem dX8_isFrame_120 : decode cX8_isFrame 120 = .ok (.invokestatic 71, 3) := dk_184 0 71 (dk_at dksX8_isFrame_5 0 rfl rfl)
theorem dX8_isFrame_123 : decode cX8_isFrame 123 = .ok (.istore_n 3, 1) := dk_62 (dk_at dksX8_isFrame_5 3 rfl rfl)
theorem dX8_isFrame_124 : decode cX8_isFrame 124 = .ok (.iinc 4 1, 3) := dk_132 4 1 (dk_at dksX8_isFrame_5 4 rfl rfl)
theorem dX8_isFrame_127 : decode cX8_isFrame 127 = .ok (.goto (-25), 3) := dk_167 255 231 (dk_at dksX8_isFrame_5 7 rfl rfl)
theorem dX8_isFrame_130 : decode cX8_isFrame 130 = .ok (.iload_n 3, 1) := dk_29 (dk_at dksX8_isFrame_5 10 rfl rfl)
theorem dX8_isFrame_131 : decode cX8_isFrame 131 = .ok (.aload_n 0, 1) := dk_42 (dk_at dksX8_isFrame_5 11 rfl rfl)
theorem dX8_isFrame_132 : decode cX8_isFrame 132 = .ok (.getfield 28, 3) := dk_180 0 28 (dk_at dksX8_isFrame_5 12 rfl rfl)
theorem dX8_isFrame_135 : decode cX8_isFrame 135 = .ok (.iload_n 1, 1) := dk_27 (dk_at dksX8_isFrame_5 15 rfl rfl)
theorem dX8_isFrame_136 : decode cX8_isFrame 136 = .ok (.iaload, 1) := dk_46 (dk_at dksX8_isFrame_5 16 rfl rfl)
theorem dX8_isFrame_137 : decode cX8_isFrame 137 = .ok (.if_icmp .ne 7, 3) := dk_160 0 7 (dk_at dksX8_isFrame_5 17 rfl rfl)
theorem dX8_isFrame_140 : decode cX8_isFrame 140 = .ok (.iconst 1, 1) := dk_4 (dk_at dksX8_isFrame_5 20 rfl rfl)
theorem dX8_isFrame_141 : decode cX8_isFrame 141 = .ok (.goto 4, 3) := dk_167 0 4 (dk_at dksX8_isFrame_5 21 rfl rfl)
theorem dX8_isFrame_144 : decode cX8_isFrame 144 = .ok (.iconst 0, 1) := dk_3 (dk_at dksX8_isFrame_6 0 rfl rfl)
theorem dX8_isFrame_145 : decode cX8_isFrame 145 = .ok (.ireturn, 1) := dk_172 (dk_at dksX8_isFrame_6 1 rfl rfl)
abbrev cX8_isEntry : ByteArray := prog_18_method_5_code
def yX8_isEntry : MethodName := ⟨RX8, "isEntry", "(I)Z"⟩
def dkwX8_isEntry_1 : List UInt8 := [120, 42, 180, 0, 25, 5, 46, 128, 17, 3, 231, 163, 0, 7, 4, 167, 0, 4, 3, 172]
abbrev dktX8_isEntry_1 : List UInt8 := dkwX8_isEntry_1 ++ []
def dkwX8_isEntry_0 : List UInt8 := [27, 6, 161, 0, 40, 42, 180, 0, 25, 3, 46, 16, 16, 162, 0, 29, 42, 180, 0, 25, 4, 46, 16, 8]
abbrev dktX8_isEntry_0 : List UInt8 := dkwX8_isEntry_0 ++ dktX8_isEntry_1
theorem dksX8_isEntry_0 : cX8_isEntry.data.toList.drop 0 = dktX8_isEntry_0 := by decide +kernel
theorem dksX8_isEntry_1 : cX8_isEntry.data.toList.drop 24 = dktX8_isEntry_1 := dk_seg dksX8_isEntry_0 24 rfl rfl
theorem dX8_isEntry_0 : decode cX8_isEntry 0 = .ok (.iload_n 1, 1) := dk_27 (dk_at dksX8_isEntry_0 0 rfl rfl)
theorem dX8_isEntry_1 : decode cX8_isEntry 1 = .ok (.iconst 3, 1) := dk_6 (dk_at dksX8_isEntry_0 1 rfl rfl)
theorem dX8_isEntry_2 : decode cX8_isEntry 2 = .ok (.if_icmp .lt 40, 3) := dk_161 0 40 (dk_at dksX8_isEntry_0 2 rfl rfl)
theorem dX8_isEntry_5 : decode cX8_isEntry 5 = .ok (.aload_n 0, 1) := dk_42 (dk_at dksX8_isEntry_0 5 rfl rfl)
theorem dX8_isEntry_6 : decode cX8_isEntry 6 = .ok (.getfield 25, 3) := dk_180 0 25 (dk_at dksX8_isEntry_0 6 rfl rfl)
theorem dX8_isEntry_9 : decode cX8_isEntry 9 = .ok (.iconst 0, 1) := dk_3 (dk_at dksX8_isEntry_0 9 rfl rfl)
theorem dX8_isEntry_10 : decode cX8_isEntry 10 = .ok (.iaload, 1) := dk_46 (dk_at dksX8_isEntry_0 10 rfl rfl)
theorem dX8_isEntry_11 : decode cX8_isEntry 11 = .ok (.bipush 16, 2) := dk_16 16 (dk_at dksX8_isEntry_0 11 rfl rfl)
theorem dX8_isEntry_13 : decode cX8_isEntry 13 = .ok (.if_icmp .ge 29, 3) := dk_162 0 29 (dk_at dksX8_isEntry_0 13 rfl rfl)
theorem dX8_isEntry_16 : decode cX8_isEntry 16 = .ok (.aload_n 0, 1) := dk_42 (dk_at dksX8_isEntry_0 16 rfl rfl)
theorem dX8_isEntry_17 : decode cX8_isEntry 17 = .ok (.getfield 25, 3) := dk_180 0 25 (dk_at dksX8_isEntry_0 17 rfl rfl)
theorem dX8_isEntry_20 : decode cX8_isEntry 20 = .ok (.iconst 1, 1) := dk_4 (dk_at dksX8_isEntry_0 20 rfl rfl)
theorem dX8_isEntry_21 : decode cX8_isEntry 21 = .ok (.iaload, 1) := dk_46 (dk_at dksX8_isEntry_0 21 rfl rfl)
theorem dX8_isEntry_22 : decode cX8_isEntry 22 = .ok (.bipush 8, 2) := dk_16 8 (dk_at dksX8_isEntry_0 22 rfl rfl)
theorem dX8_isEntry_24 : decode cX8_isEntry 24 = .ok (.ishl, 1) := dk_120 (dk_at dksX8_isEntry_1 0 rfl rfl)
theorem dX8_isEntry_25 : decode cX8_isEntry 25 = .ok (.aload_n 0, 1) := dk_42 (dk_at dksX8_isEntry_1 1 rfl rfl)
theorem dX8_isEntry_26 : decode cX8_isEntry 26 = .ok (.getfield 25, 3) := dk_180 0 25 (dk_at dksX8_isEntry_1 2 rfl rfl)
theorem dX8_isEntry_29 : decode cX8_isEntry 29 = .ok (.iconst 2, 1) := dk_5 (dk_at dksX8_isEntry_1 5 rfl rfl)
theorem dX8_isEntry_30 : decode cX8_isEntry 30 = .ok (.iaload, 1) := dk_46 (dk_at dksX8_isEntry_1 6 rfl rfl)
theorem dX8_isEntry_31 : decode cX8_isEntry 31 = .ok (.ior, 1) := dk_128 (dk_at dksX8_isEntry_1 7 rfl rfl)
theorem dX8_isEntry_32 : decode cX8_isEntry 32 = .ok (.sipush 999, 3) := dk_17 3 231 (dk_at dksX8_isEntry_1 8 rfl rfl)
theorem dX8_isEntry_35 : decode cX8_isEntry 35 = .ok (.if_icmp .gt 7, 3) := dk_163 0 7 (dk_at dksX8_isEntry_1 11 rfl rfl)
theorem dX8_isEntry_38 : decode cX8_isEntry 38 = .ok (.iconst 1, 1) := dk_4 (dk_at dksX8_isEntry_1 14 rfl rfl)
theorem dX8_isEntry_39 : decode cX8_isEntry 39 = .ok (.goto 4, 3) := dk_167 0 4 (dk_at dksX8_isEntry_1 15 rfl rfl)
theorem dX8_isEntry_42 : decode cX8_isEntry 42 = .ok (.iconst 0, 1) := dk_3 (dk_at dksX8_isEntry_1 18 rfl rfl)
theorem dX8_isEntry_43 : decode cX8_isEntry 43 = .ok (.ireturn, 1) := dk_172 (dk_at dksX8_isEntry_1 19 rfl rfl)
abbrev cX8_isMore : ByteArray := prog_18_method_6_code
def yX8_isMore : MethodName := ⟨RX8, "isMore", "()Z"⟩
def dkwX8_isMore_1 : List UInt8 := [153, 0, 5, 4, 172, 132, 1, 1, 167, 255, 232, 3, 172]
abbrev dktX8_isMore_1 : List UInt8 := dkwX8_isMore_1 ++ []
def dkwX8_isMore_0 : List UInt8 := [42, 180, 0, 52, 4, 96, 60, 27, 42, 180, 0, 3, 182, 0, 55, 162, 0, 19, 42, 27, 182, 0, 79]
abbrev dktX8_isMore_0 : List UInt8 := dkwX8_isMore_0 ++ dktX8_isMore_1
theorem dksX8_isMore_0 : cX8_isMore.data.toList.drop 0 = dktX8_isMore_0 := by decide +kernel
theorem dksX8_isMore_1 : cX8_isMore.data.toList.drop 23 = dktX8_isMore_1 := dk_seg dksX8_isMore_0 23 rfl rfl
theorem dX8_isMore_0 : decode cX8_isMore 0 = .ok (.aload_n 0, 1) := dk_42 (dk_at dksX8_isMore_0 0 rfl rfl)
theorem dX8_isMore_1 : decode cX8_isMore 1 = .ok (.getfield 52, 3) := dk_180 0 52 (dk_at dksX8_isMore_0 1 rfl rfl)
theorem dX8_isMore_4 : decode cX8_isMore 4 = .ok (.iconst 1, 1) := dk_4 (dk_at dksX8_isMore_0 4 rfl rfl)
theorem dX8_isMore_5 : decode cX8_isMore 5 = .ok (.iadd, 1) := dk_96 (dk_at dksX8_isMore_0 5 rfl rfl)
theorem dX8_isMore_6 : decode cX8_isMore 6 = .ok (.istore_n 1, 1) := dk_60 (dk_at dksX8_isMore_0 6 rfl rfl)
theorem dX8_isMore_7 : decode cX8_isMore 7 = .ok (.iload_n 1, 1) := dk_27 (dk_at dksX8_isMore_0 7 rfl rfl)
theorem dX8_isMore_8 : decode cX8_isMore 8 = .ok (.aload_n 0, 1) := dk_42 (dk_at dksX8_isMore_0 8 rfl rfl)
theorem dX8_isMore_9 : decode cX8_isMore 9 = .ok (.getfield 3, 3) := dk_180 0 3 (dk_at dksX8_isMore_0 9 rfl rfl)
theorem dX8_isMore_12 : decode cX8_isMore 12 = .ok (.invokevirtual 55, 3) := dk_182 0 55 (dk_at dksX8_isMore_0 12 rfl rfl)
theorem dX8_isMore_15 : decode cX8_isMore 15 = .ok (.if_icmp .ge 19, 3) := dk_162 0 19 (dk_at dksX8_isMore_0 15 rfl rfl)
theorem dX8_isMore_18 : decode cX8_isMore 18 = .ok (.aload_n 0, 1) := dk_42 (dk_at dksX8_isMore_0 18 rfl rfl)
theorem dX8_isMore_19 : decode cX8_isMore 19 = .ok (.iload_n 1, 1) := dk_27 (dk_at dksX8_isMore_0 19 rfl rfl)
theorem dX8_isMore_20 : decode cX8_isMore 20 = .ok (.invokevirtual 79, 3) := dk_182 0 79 (dk_at dksX8_isMore_0 20 rfl rfl)
theorem dX8_isMore_23 : decode cX8_isMore 23 = .ok (.ifCond .eq 5, 3) := dk_153 0 5 (dk_at dksX8_isMore_1 0 rfl rfl)
theorem dX8_isMore_26 : decode cX8_isMore 26 = .ok (.iconst 1, 1) := dk_4 (dk_at dksX8_isMore_1 3 rfl rfl)
theorem dX8_isMore_27 : decode cX8_isMore 27 = .ok (.ireturn, 1) := dk_172 (dk_at dksX8_isMore_1 4 rfl rfl)
theorem dX8_isMore_28 : decode cX8_isMore 28 = .ok (.iinc 1 1, 3) := dk_132 1 1 (dk_at dksX8_isMore_1 5 rfl rfl)
theorem dX8_isMore_31 : decode cX8_isMore 31 = .ok (.goto (-24), 3) := dk_167 255 232 (dk_at dksX8_isMore_1 8 rfl rfl)
theorem dX8_isMore_34 : decode cX8_isMore 34 = .ok (.iconst 0, 1) := dk_3 (dk_at dksX8_isMore_1 11 rfl rfl)
theorem dX8_isMore_35 : decode cX8_isMore 35 = .ok (.ireturn, 1) := dk_172 (dk_at dksX8_isMore_1 12 rfl rfl)
theorem q202 : (Jvm.Cond.initialized "GroupJournal$Reading") ∈ lw_all := lw_g (lw_at lw_m1 15 rfl) rfl
theorem q331 : (Jvm.Cond.fieldLinkNest "GroupJournal$Reading" (62 : Nat) "GroupJournal$Journal" "bytes" "I" "GroupJournal") ∈ lw_tbl := lw_at lw_m1 144 rfl
theorem q530 : (Jvm.Cond.instantiable "GroupJournal$Reading" (11 : Nat)) ∈ lw_all := lw_g (lw_at lw_m2 103 rfl) rfl
theorem q532 : (Jvm.Cond.instanceMethod ({ cls := "GroupJournal$Reading", name := "<init>", desc := "(LGroupJournal;)V" } : Jvm.MethodName)) ∈ lw_all := lw_g (lw_at lw_m2 105 rfl) rfl
theorem q533 : (Jvm.Cond.code ({ cls := "GroupJournal$Reading", name := "<init>", desc := "(LGroupJournal;)V" } : Jvm.MethodName) prog_18_method_1_code (2 : Nat) (Option.none : Option Jvm.ClassFile.FieldType)) ∈ lw_all := lw_g (lw_at lw_m2 106 rfl) rfl
theorem q534 : (Jvm.Cond.methodLink "GroupJournal$Reading" (9 : Nat) ({ cls := "java/lang/Object", name := "<init>", desc := "()V" } : Jvm.MethodName)) ∈ lw_all := lw_g (lw_at lw_m2 107 rfl) rfl
theorem q535 : (Jvm.Cond.fieldLink "GroupJournal$Reading" (15 : Nat) "GroupJournal$Reading" "frameAt" "[I") ∈ lw_all := lw_g (lw_at lw_m2 108 rfl) rfl
theorem q537 : (Jvm.Cond.fieldLink "GroupJournal$Reading" (19 : Nat) "GroupJournal$Reading" "entryKey" "[I") ∈ lw_all := lw_g (lw_at lw_m2 110 rfl) rfl
theorem q539 : (Jvm.Cond.fieldLink "GroupJournal$Reading" (22 : Nat) "GroupJournal$Reading" "entryValue" "[I") ∈ lw_all := lw_g (lw_at lw_m2 112 rfl) rfl
theorem q541 : (Jvm.Cond.fieldLink "GroupJournal$Reading" (25 : Nat) "GroupJournal$Reading" "payload" "[I") ∈ lw_all := lw_g (lw_at lw_m2 114 rfl) rfl
theorem q542 : (Jvm.Cond.fieldLink "GroupJournal$Reading" (28 : Nat) "GroupJournal$Reading" "disk" "[I") ∈ lw_all := lw_g (lw_at lw_m2 115 rfl) rfl
theorem q543 : (Jvm.Cond.fieldLink "GroupJournal$Reading" (35 : Nat) "GroupJournal$Reading" "serial" "I") ∈ lw_all := lw_g (lw_at lw_m2 116 rfl) rfl
theorem q545 : (Jvm.Cond.fieldLink "GroupJournal$Reading" (39 : Nat) "GroupJournal$Reading" "frames" "I") ∈ lw_all := lw_g (lw_at lw_m2 118 rfl) rfl
theorem q547 : (Jvm.Cond.fieldLink "GroupJournal$Reading" (42 : Nat) "GroupJournal$Reading" "records" "I") ∈ lw_all := lw_g (lw_at lw_m2 120 rfl) rfl
theorem q549 : (Jvm.Cond.fieldLink "GroupJournal$Reading" (45 : Nat) "GroupJournal$Reading" "end" "I") ∈ lw_all := lw_g (lw_at lw_m2 122 rfl) rfl
theorem q551 : (Jvm.Cond.fieldLink "GroupJournal$Reading" (52 : Nat) "GroupJournal$Reading" "bad" "I") ∈ lw_all := lw_g (lw_at lw_m2 124 rfl) rfl
theorem q552 : (Jvm.Cond.fieldLink "GroupJournal$Reading" (3 : Nat) "GroupJournal$Reading" "this$0" "LGroupJournal;") ∈ lw_all := lw_g (lw_at lw_m2 125 rfl) rfl
theorem q553 : (Jvm.Cond.laysFinal "GroupJournal$Reading" "GroupJournal$Reading" "frameAt" "[I") ∈ lw_all := lw_g (lw_at lw_m2 126 rfl) rfl
theorem q554 : (Jvm.Cond.soleField "GroupJournal$Reading" "frameAt") ∈ lw_all := lw_g (lw_at lw_m2 127 rfl) rfl
theorem q555 : (Jvm.Cond.laysFinal "GroupJournal$Reading" "GroupJournal$Reading" "entryKey" "[I") ∈ lw_all := lw_g (lw_at lw_m2 128 rfl) rfl
theorem q556 : (Jvm.Cond.soleField "GroupJournal$Reading" "entryKey") ∈ lw_all := lw_g (lw_at lw_m2 129 rfl) rfl
theorem q557 : (Jvm.Cond.laysFinal "GroupJournal$Reading" "GroupJournal$Reading" "entryValue" "[I") ∈ lw_all := lw_g (lw_at lw_m2 130 rfl) rfl
theorem q558 : (Jvm.Cond.soleField "GroupJournal$Reading" "entryValue") ∈ lw_all := lw_g (lw_at lw_m2 131 rfl) rfl
theorem q559 : (Jvm.Cond.laysFinal "GroupJournal$Reading" "GroupJournal$Reading" "payload" "[I") ∈ lw_all := lw_g (lw_at lw_m2 132 rfl) rfl
theorem q560 : (Jvm.Cond.soleField "GroupJournal$Reading" "payload") ∈ lw_all := lw_g (lw_at lw_m2 133 rfl) rfl
theorem q561 : (Jvm.Cond.lays "GroupJournal$Reading" "GroupJournal$Reading" "disk" "[I") ∈ lw_all := lw_g (lw_at lw_m2 134 rfl) rfl
theorem q562 : (Jvm.Cond.soleField "GroupJournal$Reading" "disk") ∈ lw_all := lw_g (lw_at lw_m2 135 rfl) rfl
theorem q563 : (Jvm.Cond.lays "GroupJournal$Reading" "GroupJournal$Reading" "serial" "I") ∈ lw_all := lw_g (lw_at lw_m2 136 rfl) rfl
theorem q564 : (Jvm.Cond.soleField "GroupJournal$Reading" "serial") ∈ lw_all := lw_g (lw_at lw_m2 137 rfl) rfl
theorem q565 : (Jvm.Cond.lays "GroupJournal$Reading" "GroupJournal$Reading" "frames" "I") ∈ lw_all := lw_g (lw_at lw_m2 138 rfl) rfl
theorem q566 : (Jvm.Cond.soleField "GroupJournal$Reading" "frames") ∈ lw_all := lw_g (lw_at lw_m2 139 rfl) rfl
theorem q567 : (Jvm.Cond.lays "GroupJournal$Reading" "GroupJournal$Reading" "records" "I") ∈ lw_all := lw_g (lw_at lw_m2 140 rfl) rfl
theorem q568 : (Jvm.Cond.soleField "GroupJournal$Reading" "records") ∈ lw_all := lw_g (lw_at lw_m2 141 rfl) rfl
theorem q569 : (Jvm.Cond.lays "GroupJournal$Reading" "GroupJournal$Reading" "end" "I") ∈ lw_all := lw_g (lw_at lw_m2 142 rfl) rfl
theorem q570 : (Jvm.Cond.soleField "GroupJournal$Reading" "end") ∈ lw_all := lw_g (lw_at lw_m2 143 rfl) rfl
theorem q571 : (Jvm.Cond.lays "GroupJournal$Reading" "GroupJournal$Reading" "bad" "I") ∈ lw_all := lw_g (lw_at lw_m2 144 rfl) rfl
theorem q572 : (Jvm.Cond.soleField "GroupJournal$Reading" "bad") ∈ lw_all := lw_g (lw_at lw_m2 145 rfl) rfl
theorem q573 : (Jvm.Cond.laysFinal "GroupJournal$Reading" "GroupJournal$Reading" "this$0" "LGroupJournal;") ∈ lw_all := lw_g (lw_at lw_m2 146 rfl) rfl
theorem q574 : (Jvm.Cond.soleField "GroupJournal$Reading" "this$0") ∈ lw_all := lw_g (lw_at lw_m2 147 rfl) rfl
theorem q575 : (Jvm.Cond.superclass "GroupJournal$Reading" "java/lang/Object") ∈ lw_all := lw_g (lw_at lw_m2 148 rfl) rfl
theorem q850 : (Jvm.Cond.fieldLinkNest "GroupJournal$Reading" (58 : Nat) "GroupJournal" "journal" "LGroupJournal$Journal;" "GroupJournal") ∈ lw_tbl := lw_at lw_m3 183 rfl
theorem q1292 : (Jvm.Cond.selects "GroupJournal$Reading" ({ cls := "java/lang/Object", name := "getClass", desc := "()Ljava/lang/Class;" } : Jvm.MethodName) ({ cls := "java/lang/Object", name := "getClass", desc := "()Ljava/lang/Class;" } : Jvm.MethodName)) ∈ lw_all := lw_g (lw_at lw_m5 145 rfl) rfl
theorem q1674 : (Jvm.Cond.selects "GroupJournal$Reading" ({ cls := "java/lang/Object", name := "hashCode", desc := "()I" } : Jvm.MethodName) ({ cls := "java/lang/Object", name := "hashCode", desc := "()I" } : Jvm.MethodName)) ∈ lw_all := lw_g (lw_at lw_m7 47 rfl) rfl
theorem q1723 : (Jvm.Cond.selects "GroupJournal$Reading" ({ cls := "java/lang/Object", name := "equals", desc := "(Ljava/lang/Object;)Z" } : Jvm.MethodName) ({ cls := "java/lang/Object", name := "equals", desc := "(Ljava/lang/Object;)Z" } : Jvm.MethodName)) ∈ lw_all := lw_g (lw_at lw_m7 96 rfl) rfl
theorem q2201 : (Jvm.Cond.instanceMethod ({ cls := "GroupJournal$Reading", name := "of", desc := "([I)LGroupJournal$Reading;" } : Jvm.MethodName)) ∈ lw_all := lw_g (lw_at lw_m9 94 rfl) rfl
theorem q2202 : (Jvm.Cond.selects "GroupJournal$Reading" ({ cls := "GroupJournal$Reading", name := "of", desc := "([I)LGroupJournal$Reading;" } : Jvm.MethodName) ({ cls := "GroupJournal$Reading", name := "of", desc := "([I)LGroupJournal$Reading;" } : Jvm.MethodName)) ∈ lw_all := lw_g (lw_at lw_m9 95 rfl) rfl
theorem q2203 : (Jvm.Cond.code ({ cls := "GroupJournal$Reading", name := "of", desc := "([I)LGroupJournal$Reading;" } : Jvm.MethodName) prog_18_method_2_code (2 : Nat) (Option.some (Jvm.ClassFile.FieldType.object "GroupJournal$Reading"))) ∈ lw_all := lw_g (lw_at lw_m9 96 rfl) rfl
theorem q2204 : (Jvm.Cond.methodLinkNest "GroupJournal$Reading" (31 : Nat) ({ cls := "GroupJournal", name := "serialOf", desc := "([I)I" } : Jvm.MethodName) "GroupJournal") ∈ lw_tbl := lw_at lw_m9 97 rfl
theorem q2205 : (Jvm.Cond.methodLink "GroupJournal$Reading" (48 : Nat) ({ cls := "GroupJournal$Reading", name := "reads", desc := "()I" } : Jvm.MethodName)) ∈ lw_all := lw_g (lw_at lw_m9 98 rfl) rfl
theorem q2206 : (Jvm.Cond.privateMethod ({ cls := "GroupJournal$Reading", name := "reads", desc := "()I" } : Jvm.MethodName)) ∈ lw_tbl := lw_at lw_m9 99 rfl
theorem q2207 : (Jvm.Cond.instanceMethod ({ cls := "GroupJournal$Reading", name := "reads", desc := "()I" } : Jvm.MethodName)) ∈ lw_all := lw_g (lw_at lw_m9 100 rfl) rfl
theorem q2208 : (Jvm.Cond.code ({ cls := "GroupJournal$Reading", name := "reads", desc := "()I" } : Jvm.MethodName) prog_18_method_4_code (6 : Nat) (Option.some Jvm.ClassFile.FieldType.int)) ∈ lw_all := lw_g (lw_at lw_m9 101 rfl) rfl
theorem q2209 : (Jvm.Cond.methodLinkNest "GroupJournal$Reading" (75 : Nat) ({ cls := "GroupJournal", name := "frameFrom", desc := "(I)I" } : Jvm.MethodName) "GroupJournal") ∈ lw_tbl := lw_at lw_m9 102 rfl
theorem q2210 : (Jvm.Cond.methodLinkNest "GroupJournal$Reading" (55 : Nat) ({ cls := "GroupJournal", name := "length", desc := "()I" } : Jvm.MethodName) "GroupJournal") ∈ lw_tbl := lw_at lw_m9 103 rfl
theorem q2211 : (Jvm.Cond.methodLink "GroupJournal$Reading" (79 : Nat) ({ cls := "GroupJournal$Reading", name := "isFrame", desc := "(I)Z" } : Jvm.MethodName)) ∈ lw_all := lw_g (lw_at lw_m9 104 rfl) rfl
theorem q2212 : (Jvm.Cond.privateMethod ({ cls := "GroupJournal$Reading", name := "isFrame", desc := "(I)Z" } : Jvm.MethodName)) ∈ lw_tbl := lw_at lw_m9 105 rfl
theorem q2213 : (Jvm.Cond.instanceMethod ({ cls := "GroupJournal$Reading", name := "isFrame", desc := "(I)Z" } : Jvm.MethodName)) ∈ lw_all := lw_g (lw_at lw_m9 106 rfl) rfl
theorem q2214 : (Jvm.Cond.code ({ cls := "GroupJournal$Reading", name := "isFrame", desc := "(I)Z" } : Jvm.MethodName) prog_18_method_3_code (5 : Nat) (Option.some Jvm.ClassFile.FieldType.boolean)) ∈ lw_all := lw_g (lw_at lw_m9 107 rfl) rfl
theorem q2215 : (Jvm.Cond.methodLinkNest "GroupJournal$Reading" (67 : Nat) ({ cls := "GroupJournal", name := "is", desc := "(III)Z" } : Jvm.MethodName) "GroupJournal") ∈ lw_tbl := lw_at lw_m9 108 rfl
theorem q2216 : (Jvm.Cond.methodLinkNest "GroupJournal$Reading" (71 : Nat) ({ cls := "GroupJournal", name := "checked", desc := "(II)I" } : Jvm.MethodName) "GroupJournal") ∈ lw_tbl := lw_at lw_m9 109 rfl
theorem q2217 : (Jvm.Cond.methodLink "GroupJournal$Reading" (83 : Nat) ({ cls := "GroupJournal$Reading", name := "isEntry", desc := "(I)Z" } : Jvm.MethodName)) ∈ lw_all := lw_g (lw_at lw_m9 110 rfl) rfl
theorem q2218 : (Jvm.Cond.privateMethod ({ cls := "GroupJournal$Reading", name := "isEntry", desc := "(I)Z" } : Jvm.MethodName)) ∈ lw_tbl := lw_at lw_m9 111 rfl
theorem q2219 : (Jvm.Cond.instanceMethod ({ cls := "GroupJournal$Reading", name := "isEntry", desc := "(I)Z" } : Jvm.MethodName)) ∈ lw_all := lw_g (lw_at lw_m9 112 rfl) rfl
theorem q2220 : (Jvm.Cond.code ({ cls := "GroupJournal$Reading", name := "isEntry", desc := "(I)Z" } : Jvm.MethodName) prog_18_method_5_code (2 : Nat) (Option.some Jvm.ClassFile.FieldType.boolean)) ∈ lw_all := lw_g (lw_at lw_m9 113 rfl) rfl
theorem q2910 : (Jvm.Cond.instanceMethod ({ cls := "GroupJournal$Reading", name := "isMore", desc := "()Z" } : Jvm.MethodName)) ∈ lw_all := lw_g (lw_at lw_m12 83 rfl) rfl
theorem q2911 : (Jvm.Cond.selects "GroupJournal$Reading" ({ cls := "GroupJournal$Reading", name := "isMore", desc := "()Z" } : Jvm.MethodName) ({ cls := "GroupJournal$Reading", name := "isMore", desc := "()Z" } : Jvm.MethodName)) ∈ lw_all := lw_g (lw_at lw_m12 84 rfl) rfl
theorem q2912 : (Jvm.Cond.code ({ cls := "GroupJournal$Reading", name := "isMore", desc := "()Z" } : Jvm.MethodName) prog_18_method_6_code (2 : Nat) (Option.some Jvm.ClassFile.FieldType.boolean)) ∈ lw_all := lw_g (lw_at lw_m12 85 rfl) rfl
theorem q4169 : (Jvm.Cond.castable "GroupJournal$Reading" "java/lang/Object") ∈ lw_tbl := lw_at lw_m17 142 rfl
theorem in_X8 : ∀ w ∈ wsX80, w ∈ lw_all := lw_in wsX80 [553, 555, 557, 559, 561, 563, 565, 567, 569, 571, 573] (by decide +kernel) (by decide +kernel)

/-! GroupJournal$Recovery -/
set_option maxRecDepth 100000
def RX9 : String := "GroupJournal$Recovery"
def TX9 : u_T := fun k => match k with
  | 0 => ("GroupJournal$Recovery", "disk", "[[I", true)
  | 1 => ("GroupJournal$Recovery", "last", "[I", true)
  | 2 => ("GroupJournal$Recovery", "values", "[I", true)
  | 3 => ("GroupJournal$Recovery", "segment", "I", false)
  | 4 => ("GroupJournal$Recovery", "end", "I", false)
  | 5 => ("GroupJournal$Recovery", "serial", "I", false)
  | 6 => ("GroupJournal$Recovery", "next", "I", false)
  | 7 => ("GroupJournal$Recovery", "isDamaged", "Z", false)
  | _ => ("GroupJournal$Recovery", "this$0", "LGroupJournal;", true)
def tyX9 : Nat → FieldType := fun k => match k with
  | 0 => .array (.array .int)
  | 1 => .array .int
  | 2 => .array .int
  | 3 => .int
  | 4 => .int
  | 5 => .int
  | 6 => .int
  | 7 => .boolean
  | _ => .object "GroupJournal"
abbrev wsX90 : List Cond := u_ws RX9 TX9 9
theorem nmX9 : ∀ a, a < 9 → ∀ b, b < 9 → a ≠ b → (TX9 a).2.1 ≠ (TX9 b).2.1 := by decide +kernel
theorem tyX9_ok : ∀ k, k < 9 → parseFieldDescriptor (TX9 k).2.2.1 = some (tyX9 k) := by decide +kernel
abbrev cX9_init : ByteArray := prog_19_method_1_code
def yX9_init : MethodName := ⟨RX9, "<init>", "(LGroupJournal;)V"⟩
def dkwX9_init_1 : List UInt8 := [188, 10, 181, 0, 20, 42, 16, 16, 188, 10, 181, 0, 24, 177]
abbrev dktX9_init_1 : List UInt8 := dkwX9_init_1 ++ []
def dkwX9_init_0 : List UInt8 := [42, 43, 181, 0, 3, 42, 183, 0, 9, 42, 7, 17, 0, 128, 197, 0, 15, 2, 181, 0, 17, 42, 7]
abbrev dktX9_init_0 : List UInt8 := dkwX9_init_0 ++ dktX9_init_1
theorem dksX9_init_0 : cX9_init.data.toList.drop 0 = dktX9_init_0 := by decide +kernel
theorem dksX9_init_1 : cX9_init.data.toList.drop 23 = dktX9_init_1 := dk_seg dksX9_init_0 23 rfl rfl
theorem dX9_init_0 : decode cX9_init 0 = .ok (.aload_n 0, 1) := dk_42 (dk_at dksX9_init_0 0 rfl rfl)
theorem dX9_init_1 : decode cX9_init 1 = .ok (.aload_n 1, 1) := dk_43 (dk_at dksX9_init_0 1 rfl rfl)
theorem dX9_init_2 : decode cX9_init 2 = .ok (.putfield 3, 3) := dk_181 0 3 (dk_at dksX9_init_0 2 rfl rfl)
theorem dX9_init_5 : decode cX9_init 5 = .ok (.aload_n 0, 1) := dk_42 (dk_at dksX9_init_0 5 rfl rfl)
theorem dX9_init_6 : decode cX9_init 6 = .ok (.invokespecial 9, 3) := dk_183 0 9 (dk_at dksX9_init_0 6 rfl rfl)
theorem dX9_init_9 : decode cX9_init 9 = .ok (.aload_n 0, 1) := dk_42 (dk_at dksX9_init_0 9 rfl rfl)
theorem dX9_init_10 : decode cX9_init 10 = .ok (.iconst 4, 1) := dk_7 (dk_at dksX9_init_0 10 rfl rfl)
theorem dX9_init_11 : decode cX9_init 11 = .ok (.sipush 128, 3) := dk_17 0 128 (dk_at dksX9_init_0 11 rfl rfl)
theorem dX9_init_14 : decode cX9_init 14 = .ok (.multianewarray 15 2, 4) := by decide +kernel
theorem dX9_init_18 : decode cX9_init 18 = .ok (.putfield 17, 3) := dk_181 0 17 (dk_at dksX9_init_0 18 rfl rfl)
theorem dX9_init_21 : decode cX9_init 21 = .ok (.aload_n 0, 1) := dk_42 (dk_at dksX9_init_0 21 rfl rfl)
theorem dX9_init_22 : decode cX9_init 22 = .ok (.iconst 4, 1) := dk_7 (dk_at dksX9_init_0 22 rfl rfl)
theorem dX9_init_23 : decode cX9_init 23 = .ok (.newarray .int, 2) := dk_188_10 (dk_at dksX9_init_1 0 rfl rfl)
theorem dX9_init_25 : decode cX9_init 25 = .ok (.putfield 20, 3) := dk_181 0 20 (dk_at dksX9_init_1 2 rfl rfl)
theorem dX9_init_28 : decode cX9_init 28 = .ok (.aload_n 0, 1) := dk_42 (dk_at dksX9_init_1 5 rfl rfl)
theorem dX9_init_29 : decode cX9_init 29 = .ok (.bipush 16, 2) := dk_16 16 (dk_at dksX9_init_1 6 rfl rfl)
theorem dX9_init_31 : decode cX9_init 31 = .ok (.newarray .int, 2) := dk_188_10 (dk_at dksX9_init_1 8 rfl rfl)
theorem dX9_init_33 : decode cX9_init 33 = .ok (.putfield 24, 3) := dk_181 0 24 (dk_at dksX9_init_1 10 rfl rfl)
theorem dX9_init_36 : decode cX9_init 36 = .ok (.return_, 1) := dk_177 (dk_at dksX9_init_1 13 rfl rfl)
abbrev cX9_takes : ByteArray := prog_19_method_2_code
def yX9_takes : MethodName := ⟨RX9, "takes", "(LGroupJournal$State;I)LGroupJournal$Recovery;"⟩
def dkwX9_takes_4 : List UInt8 := [43, 180, 0, 47, 29, 46, 79, 132, 3, 1, 167, 255, 216, 42, 176]
abbrev dktX9_takes_4 : List UInt8 := dkwX9_takes_4 ++ []
def dkwX9_takes_3 : List UInt8 := [180, 0, 17, 43, 180, 0, 44, 29, 46, 17, 0, 128, 108, 50, 43, 180, 0, 44, 29, 46, 17, 0, 128, 112]
abbrev dktX9_takes_3 : List UInt8 := dkwX9_takes_3 ++ dktX9_takes_4
def dkwX9_takes_2 : List UInt8 := [21, 4, 46, 79, 132, 4, 1, 167, 255, 223, 132, 3, 1, 167, 255, 200, 3, 62, 29, 28, 162, 0, 41, 42]
abbrev dktX9_takes_2 : List UInt8 := dkwX9_takes_2 ++ dktX9_takes_3
def dkwX9_takes_1 : List UInt8 := [180, 0, 3, 182, 0, 37, 162, 0, 27, 42, 180, 0, 17, 29, 50, 21, 4, 43, 180, 0, 41, 29, 50]
abbrev dktX9_takes_1 : List UInt8 := dkwX9_takes_1 ++ dktX9_takes_2
def dkwX9_takes_0 : List UInt8 := [3, 62, 29, 42, 180, 0, 3, 180, 0, 27, 180, 0, 31, 162, 0, 48, 3, 54, 4, 21, 4, 42]
abbrev dktX9_takes_0 : List UInt8 := dkwX9_takes_0 ++ dktX9_takes_1
theorem dksX9_takes_0 : cX9_takes.data.toList.drop 0 = dktX9_takes_0 := by decide +kernel
theorem dksX9_takes_1 : cX9_takes.data.toList.drop 22 = dktX9_takes_1 := dk_seg dksX9_takes_0 22 rfl rfl
theorem dksX9_takes_2 : cX9_takes.data.toList.drop 45 = dktX9_takes_2 := dk_seg dksX9_takes_1 23 rfl rfl
theorem dksX9_takes_3 : cX9_takes.data.toList.drop 69 = dktX9_takes_3 := dk_seg dksX9_takes_2 24 rfl rfl
theorem dksX9_takes_4 : cX9_takes.data.toList.drop 93 = dktX9_takes_4 := dk_seg dksX9_takes_3 24 rfl rfl
theorem dX9_takes_0 : decode cX9_takes 0 = .ok (.iconst 0, 1) := dk_3 (dk_at dksX9_takes_0 0 rfl rfl)
theorem dX9_takes_1 : decode cX9_takes 1 = .ok (.istore_n 3, 1) := dk_62 (dk_at dksX9_takes_0 1 rfl rfl)
theorem dX9_takes_2 : decode cX9_takes 2 = .ok (.iload_n 3, 1) := dk_29 (dk_at dksX9_takes_0 2 rfl rfl)
theorem dX9_takes_3 : decode cX9_takes 3 = .ok (.aload_n 0, 1) := dk_42 (dk_at dksX9_takes_0 3 rfl rfl)
theorem dX9_takes_4 : decode cX9_takes 4 = .ok (.getfield 3, 3) := dk_180 0 3 (dk_at dksX9_takes_0 4 rfl rfl)
theorem dX9_takes_7 : decode cX9_takes 7 = .ok (.getfield 27, 3) := dk_180 0 27 (dk_at dksX9_takes_0 7 rfl rfl)
theorem dX9_takes_10 : decode cX9_takes 10 = .ok (.getfield 31, 3) := dk_180 0 31 (dk_at dksX9_takes_0 10 rfl rfl)
theorem dX9_takes_13 : decode cX9_takes 13 = .ok (.if_icmp .ge 48, 3) := dk_162 0 48 (dk_at dksX9_takes_0 13 rfl rfl)
theorem dX9_takes_16 : decode cX9_takes 16 = .ok (.iconst 0, 1) := dk_3 (dk_at dksX9_takes_0 16 rfl rfl)
theorem dX9_takes_17 : decode cX9_takes 17 = .ok (.istore 4, 2) := dk_54 4 (dk_at dksX9_takes_0 17 rfl rfl)
theorem dX9_takes_19 : decode cX9_takes 19 = .ok (.iload 4, 2) := dk_21 4 (dk_at dksX9_takes_0 19 rfl rfl)
theorem dX9_takes_21 : decode cX9_takes 21 = .ok (.aload_n 0, 1) := dk_42 (dk_at dksX9_takes_0 21 rfl rfl)
theorem dX9_takes_22 : decode cX9_takes 22 = .ok (.getfield 3, 3) := dk_180 0 3 (dk_at dksX9_takes_1 0 rfl rfl)
theorem dX9_takes_25 : decode cX9_takes 25 = .ok (.invokevirtual 37, 3) := dk_182 0 37 (dk_at dksX9_takes_1 3 rfl rfl)
theorem dX9_takes_28 : decode cX9_takes 28 = .ok (.if_icmp .ge 27, 3) := dk_162 0 27 (dk_at dksX9_takes_1 6 rfl rfl)
theorem dX9_takes_31 : decode cX9_takes 31 = .ok (.aload_n 0, 1) := dk_42 (dk_at dksX9_takes_1 9 rfl rfl)
theorem dX9_takes_32 : decode cX9_takes 32 = .ok (.getfield 17, 3) := dk_180 0 17 (dk_at dksX9_takes_1 10 rfl rfl)
theorem dX9_takes_35 : decode cX9_takes 35 = .ok (.iload_n 3, 1) := dk_29 (dk_at dksX9_takes_1 13 rfl rfl)
theorem dX9_takes_36 : decode cX9_takes 36 = .ok (.aaload, 1) := dk_50 (dk_at dksX9_takes_1 14 rfl rfl)
theorem dX9_takes_37 : decode cX9_takes 37 = .ok (.iload 4, 2) := dk_21 4 (dk_at dksX9_takes_1 15 rfl rfl)
theorem dX9_takes_39 : decode cX9_takes 39 = .ok (.aload_n 1, 1) := dk_43 (dk_at dksX9_takes_1 17 rfl rfl)
theorem dX9_takes_40 : decode cX9_takes 40 = .ok (.getfield 41, 3) := dk_180 0 41 (dk_at dksX9_takes_1 18 rfl rfl)
theorem dX9_takes_43 : decode cX9_takes 43 = .ok (.iload_n 3, 1) := dk_29 (dk_at dksX9_takes_1 21 rfl rfl)
theorem dX9_takes_44 : decode cX9_takes 44 = .ok (.aaload, 1) := dk_50 (dk_at dksX9_takes_1 22 rfl rfl)
theorem dX9_takes_45 : decode cX9_takes 45 = .ok (.iload 4, 2) := dk_21 4 (dk_at dksX9_takes_2 0 rfl rfl)
theorem dX9_takes_47 : decode cX9_takes 47 = .ok (.iaload, 1) := dk_46 (dk_at dksX9_takes_2 2 rfl rfl)
theorem dX9_takes_48 : decode cX9_takes 48 = .ok (.iastore, 1) := dk_79 (dk_at dksX9_takes_2 3 rfl rfl)
theorem dX9_takes_49 : decode cX9_takes 49 = .ok (.iinc 4 1, 3) := dk_132 4 1 (dk_at dksX9_takes_2 4 rfl rfl)
theorem dX9_takes_52 : decode cX9_takes 52 = .ok (.goto (-33), 3) := dk_167 255 223 (dk_at dksX9_takes_2 7 rfl rfl)
theorem dX9_takes_55 : decode cX9_takes 55 = .ok (.iinc 3 1, 3) := dk_132 3 1 (dk_at dksX9_takes_2 10 rfl rfl)
theorem dX9_takes_58 : decode cX9_takes 58 = .ok (.goto (-56), 3) := dk_167 255 200 (dk_at dksX9_takes_2 13 rfl rfl)
theorem dX9_takes_61 : decode cX9_takes 61 = .ok (.iconst 0, 1) := dk_3 (dk_at dksX9_takes_2 16 rfl rfl)
theorem dX9_takes_62 : decode cX9_takes 62 = .ok (.istore_n 3, 1) := dk_62 (dk_at dksX9_takes_2 17 rfl rfl)
theorem dX9_takes_63 : decode cX9_takes 63 = .ok (.iload_n 3, 1) := dk_29 (dk_at dksX9_takes_2 18 rfl rfl)
theorem dX9_takes_64 : decode cX9_takes 64 = .ok (.iload_n 2, 1) := dk_28 (dk_at dksX9_takes_2 19 rfl rfl)
theorem dX9_takes_65 : decode cX9_takes 65 = .ok (.if_icmp .ge 41, 3) := dk_162 0 41 (dk_at dksX9_takes_2 20 rfl rfl)
theorem dX9_takes_68 : decode cX9_takes 68 = .ok (.aload_n 0, 1) := dk_42 (dk_at dksX9_takes_2 23 rfl rfl)
theorem dX9_takes_69 : decode cX9_takes 69 = .ok (.getfield 17, 3) := dk_180 0 17 (dk_at dksX9_takes_3 0 rfl rfl)
theorem dX9_takes_72 : decode cX9_takes 72 = .ok (.aload_n 1, 1) := dk_43 (dk_at dksX9_takes_3 3 rfl rfl)
theorem dX9_takes_73 : decode cX9_takes 73 = .ok (.getfield 44, 3) := dk_180 0 44 (dk_at dksX9_takes_3 4 rfl rfl)
theorem dX9_takes_76 : decode cX9_takes 76 = .ok (.iload_n 3, 1) := dk_29 (dk_at dksX9_takes_3 7 rfl rfl)
theorem dX9_takes_77 : decode cX9_takes 77 = .ok (.iaload, 1) := dk_46 (dk_at dksX9_takes_3 8 rfl rfl)
theorem dX9_takes_78 : decode cX9_takes 78 = .ok (.sipush 128, 3) := dk_17 0 128 (dk_at dksX9_takes_3 9 rfl rfl)
theorem dX9_takes_81 : decode cX9_takes 81 = .ok (.idiv, 1) := dk_108 (dk_at dksX9_takes_3 12 rfl rfl)
theorem dX9_takes_82 : decode cX9_takes 82 = .ok (.aaload, 1) := dk_50 (dk_at dksX9_takes_3 13 rfl rfl)
theorem dX9_takes_83 : decode cX9_takes 83 = .ok (.aload_n 1, 1) := dk_43 (dk_at dksX9_takes_3 14 rfl rfl)
theorem dX9_takes_84 : decode cX9_takes 84 = .ok (.getfield 44, 3) := dk_180 0 44 (dk_at dksX9_takes_3 15 rfl rfl)
theorem dX9_takes_87 : decode cX9_takes 87 = .ok (.iload_n 3, 1) := dk_29 (dk_at dksX9_takes_3 18 rfl rfl)
theorem dX9_takes_88 : decode cX9_takes 88 = .ok (.iaload, 1) := dk_46 (dk_at dksX9_takes_3 19 rfl rfl)
theorem dX9_takes_89 : decode cX9_takes 89 = .ok (.sipush 128, 3) := dk_17 0 128 (dk_at dksX9_takes_3 20 rfl rfl)
theorem dX9_takes_92 : decode cX9_takes 92 = .ok (.irem, 1) := dk_112 (dk_at dksX9_takes_3 23 rfl rfl)
theorem dX9_takes_93 : decode cX9_takes 93 = .ok (.aload_n 1, 1) := dk_43 (dk_at dksX9_takes_4 0 rfl rfl)
theorem dX9_takes_94 : decode cX9_takes 94 = .ok (.getfield 47, 3) := dk_180 0 47 (dk_at dksX9_takes_4 1 rfl rfl)
theorem dX9_takes_97 : decode cX9_takes 97 = .ok (.iload_n 3, 1) := dk_29 (dk_at dksX9_takes_4 4 rfl rfl)
theorem dX9_takes_98 : decode cX9_takes 98 = .ok (.iaload, 1) := dk_46 (dk_at dksX9_takes_4 5 rfl rfl)
theorem dX9_takes_99 : decode cX9_takes 99 = .ok (.iastore, 1) := dk_79 (dk_at dksX9_takes_4 6 rfl rfl)
theorem dX9_takes_100 : decode cX9_takes 100 = .ok (.iinc 3 1, 3) := dk_132 3 1 (dk_at dksX9_takes_4 7 rfl rfl)
theorem dX9_takes_103 : decode cX9_takes 103 = .ok (.goto (-40), 3) := dk_167 255 216 (dk_at dksX9_takes_4 10 rfl rfl)
theorem dX9_takes_106 : decode cX9_takes 106 = .ok (.aload_n 0, 1) := dk_42 (dk_at dksX9_takes_4 13 rfl rfl)
theorem dX9_takes_107 : decode cX9_takes 107 = .ok (.areturn, 1) := dk_176 (dk_at dksX9_takes_4 14 rfl rfl)
abbrev cX9_reads : ByteArray := prog_19_method_4_code
def yX9_reads : MethodName := ⟨RX9, "reads", "(LGroupJournal$State;)LGroupJournal$Recovery;"⟩
def dkwX9_reads_7 : List UInt8 := [182, 0, 69, 167, 0, 8, 42, 29, 181, 0, 62, 42, 176]
abbrev dktX9_reads_7 : List UInt8 := dkwX9_reads_7 ++ []
def dkwX9_reads_6 : List UInt8 := [153, 0, 7, 4, 167, 0, 4, 3, 181, 0, 65, 167, 255, 168, 29, 43, 180, 0, 59, 162, 0, 11, 42, 43]
abbrev dktX9_reads_6 : List UInt8 := dkwX9_reads_6 ++ dktX9_reads_7
def dkwX9_reads_5 : List UInt8 := [61, 28, 2, 160, 0, 32, 42, 42, 25, 4, 180, 0, 106, 182, 0, 111, 154, 0, 11, 25, 4, 182, 0, 115]
abbrev dktX9_reads_5 : List UInt8 := dkwX9_reads_5 ++ dktX9_reads_6
def dkwX9_reads_4 : List UInt8 := [180, 0, 59, 182, 0, 99, 29, 25, 4, 180, 0, 103, 96, 62, 42, 25, 4, 180, 0, 106, 29, 182, 0, 107]
abbrev dktX9_reads_4 : List UInt8 := dkwX9_reads_4 ++ dktX9_reads_5
def dkwX9_reads_3 : List UInt8 := [180, 0, 3, 180, 0, 89, 42, 180, 0, 17, 28, 50, 182, 0, 93, 58, 4, 42, 25, 4, 28, 29, 43]
abbrev dktX9_reads_3 : List UInt8 := dkwX9_reads_3 ++ dktX9_reads_4
def dkwX9_reads_2 : List UInt8 := [2, 160, 0, 5, 42, 176, 42, 180, 0, 17, 28, 50, 184, 0, 85, 62, 28, 2, 159, 0, 89, 42]
abbrev dktX9_reads_2 : List UInt8 := dkwX9_reads_2 ++ dktX9_reads_3
def dkwX9_reads_1 : List UInt8 := [180, 0, 73, 28, 182, 0, 77, 79, 132, 2, 1, 167, 255, 229, 42, 43, 180, 0, 59, 182, 0, 81, 61, 28]
abbrev dktX9_reads_1 : List UInt8 := dkwX9_reads_1 ++ dktX9_reads_2
def dkwX9_reads_0 : List UInt8 := [42, 43, 182, 0, 69, 3, 61, 28, 16, 16, 162, 0, 27, 42, 180, 0, 24, 28, 42, 180, 0, 3, 43]
abbrev dktX9_reads_0 : List UInt8 := dkwX9_reads_0 ++ dktX9_reads_1
theorem dksX9_reads_0 : cX9_reads.data.toList.drop 0 = dktX9_reads_0 := by decide +kernel
theorem dksX9_reads_1 : cX9_reads.data.toList.drop 23 = dktX9_reads_1 := dk_seg dksX9_reads_0 23 rfl rfl
theorem dksX9_reads_2 : cX9_reads.data.toList.drop 47 = dktX9_reads_2 := dk_seg dksX9_reads_1 24 rfl rfl
theorem dksX9_reads_3 : cX9_reads.data.toList.drop 69 = dktX9_reads_3 := dk_seg dksX9_reads_2 22 rfl rfl
theorem dksX9_reads_4 : cX9_reads.data.toList.drop 92 = dktX9_reads_4 := dk_seg dksX9_reads_3 23 rfl rfl
theorem dksX9_reads_5 : cX9_reads.data.toList.drop 116 = dktX9_reads_5 := dk_seg dksX9_reads_4 24 rfl rfl
theorem dksX9_reads_6 : cX9_reads.data.toList.drop 140 = dktX9_reads_6 := dk_seg dksX9_reads_5 24 rfl rfl
theorem dksX9_reads_7 : cX9_reads.data.toList.drop 164 = dktX9_reads_7 := dk_seg dksX9_reads_6 24 rfl rfl
theorem dX9_reads_0 : decode cX9_reads 0 = .ok (.aload_n 0, 1) := dk_42 (dk_at dksX9_reads_0 0 rfl rfl)
theorem dX9_reads_1 : decode cX9_reads 1 = .ok (.aload_n 1, 1) := dk_43 (dk_at dksX9_reads_0 1 rfl rfl)
theorem dX9_reads_2 : decode cX9_reads 2 = .ok (.invokevirtual 69, 3) := dk_182 0 69 (dk_at dksX9_reads_0 2 rfl rfl)
theorem dX9_reads_5 : decode cX9_reads 5 = .ok (.iconst 0, 1) := dk_3 (dk_at dksX9_reads_0 5 rfl rfl)
theorem dX9_reads_6 : decode cX9_reads 6 = .ok (.istore_n 2, 1) := dk_61 (dk_at dksX9_reads_0 6 rfl rfl)
theorem dX9_reads_7 : decode cX9_reads 7 = .ok (.iload_n 2, 1) := dk_28 (dk_at dksX9_reads_0 7 rfl rfl)
theorem dX9_reads_8 : decode cX9_reads 8 = .ok (.bipush 16, 2) := dk_16 16 (dk_at dksX9_reads_0 8 rfl rfl)
theorem dX9_reads_10 : decode cX9_reads 10 = .ok (.if_icmp .ge 27, 3) := dk_162 0 27 (dk_at dksX9_reads_0 10 rfl rfl)
theorem dX9_reads_13 : decode cX9_reads 13 = .ok (.aload_n 0, 1) := dk_42 (dk_at dksX9_reads_0 13 rfl rfl)
theorem dX9_reads_14 : decode cX9_reads 14 = .ok (.getfield 24, 3) := dk_180 0 24 (dk_at dksX9_reads_0 14 rfl rfl)
theorem dX9_reads_17 : decode cX9_reads 17 = .ok (.iload_n 2, 1) := dk_28 (dk_at dksX9_reads_0 17 rfl rfl)
theorem dX9_reads_18 : decode cX9_reads 18 = .ok (.aload_n 0, 1) := dk_42 (dk_at dksX9_reads_0 18 rfl rfl)
theorem dX9_reads_19 : decode cX9_reads 19 = .ok (.getfield 3, 3) := dk_180 0 3 (dk_at dksX9_reads_0 19 rfl rfl)
theorem dX9_reads_22 : decode cX9_reads 22 = .ok (.aload_n 1, 1) := dk_43 (dk_at dksX9_reads_0 22 rfl rfl)
theorem dX9_reads_23 : decode cX9_reads 23 = .ok (.getfield 73, 3) := dk_180 0 73 (dk_at dksX9_reads_1 0 rfl rfl)
theorem dX9_reads_26 : decode cX9_reads 26 = .ok (.iload_n 2, 1) := dk_28 (dk_at dksX9_reads_1 3 rfl rfl)
theorem dX9_reads_27 : decode cX9_reads 27 = .ok (.invokevirtual 77, 3) := dk_182 0 77 (dk_at dksX9_reads_1 4 rfl rfl)
theorem dX9_reads_30 : decode cX9_reads 30 = .ok (.iastore, 1) := dk_79 (dk_at dksX9_reads_1 7 rfl rfl)
theorem dX9_reads_31 : decode cX9_reads 31 = .ok (.iinc 2 1, 3) := dk_132 2 1 (dk_at dksX9_reads_1 8 rfl rfl)
theorem dX9_reads_34 : decode cX9_reads 34 = .ok (.goto (-27), 3) := dk_167 255 229 (dk_at dksX9_reads_1 11 rfl rfl)
theorem dX9_reads_37 : decode cX9_reads 37 = .ok (.aload_n 0, 1) := dk_42 (dk_at dksX9_reads_1 14 rfl rfl)
theorem dX9_reads_38 : decode cX9_reads 38 = .ok (.aload_n 1, 1) := dk_43 (dk_at dksX9_reads_1 15 rfl rfl)
theorem dX9_reads_39 : decode cX9_reads 39 = .ok (.getfield 59, 3) := dk_180 0 59 (dk_at dksX9_reads_1 16 rfl rfl)
theorem dX9_reads_42 : decode cX9_reads 42 = .ok (.invokevirtual 81, 3) := dk_182 0 81 (dk_at dksX9_reads_1 19 rfl rfl)
theorem dX9_reads_45 : decode cX9_reads 45 = .ok (.istore_n 2, 1) := dk_61 (dk_at dksX9_reads_1 22 rfl rfl)
theorem dX9_reads_46 : decode cX9_reads 46 = .ok (.iload_n 2, 1) := dk_28 (dk_at dksX9_reads_1 23 rfl rfl)
theorem dX9_reads_47 : decode cX9_reads 47 = .ok (.iconst (-1), 1) := dk_2 (dk_at dksX9_reads_2 0 rfl rfl)
theorem dX9_reads_48 : decode cX9_reads 48 = .ok (.if_icmp .ne 5, 3) := dk_160 0 5 (dk_at dksX9_reads_2 1 rfl rfl)
theorem dX9_reads_51 : decode cX9_reads 51 = .ok (.aload_n 0, 1) := dk_42 (dk_at dksX9_reads_2 4 rfl rfl)
theorem dX9_reads_52 : decode cX9_reads 52 = .ok (.areturn, 1) := dk_176 (dk_at dksX9_reads_2 5 rfl rfl)
theorem dX9_reads_53 : decode cX9_reads 53 = .ok (.aload_n 0, 1) := dk_42 (dk_at dksX9_reads_2 6 rfl rfl)
theorem dX9_reads_54 : decode cX9_reads 54 = .ok (.getfield 17, 3) := dk_180 0 17 (dk_at dksX9_reads_2 7 rfl rfl)
theorem dX9_reads_57 : decode cX9_reads 57 = .ok (.iload_n 2, 1) := dk_28 (dk_at dksX9_reads_2 10 rfl rfl)
theorem dX9_reads_58 : decode cX9_reads 58 = .ok (.aaload, 1) := dk_50 (dk_at dksX9_reads_2 11 rfl rfl)
theorem dX9_reads_59 : decode cX9_reads 59 = .ok (.invokestatic 85, 3) := dk_184 0 85 (dk_at dksX9_reads_2 12 rfl rfl)
theorem dX9_reads_62 : decode cX9_reads 62 = .ok (.istore_n 3, 1) := dk_62 (dk_at dksX9_reads_2 15 rfl rfl)
theorem dX9_reads_63 : decode cX9_reads 63 = .ok (.iload_n 2, 1) := dk_28 (dk_at dksX9_reads_2 16 rfl rfl)
theorem dX9_reads_64 : decode cX9_reads 64 = .ok (.iconst (-1), 1) := dk_2 (dk_at dksX9_reads_2 17 rfl rfl)
theorem dX9_reads_65 : decode cX9_reads 65 = .ok (.if_icmp .eq 89, 3) := dk_159 0 89 (dk_at dksX9_reads_2 18 rfl rfl)
theorem dX9_reads_68 : decode cX9_reads 68 = .ok (.aload_n 0, 1) := dk_42 (dk_at dksX9_reads_2 21 rfl rfl)
theorem dX9_reads_69 : decode cX9_reads 69 = .ok (.getfield 3, 3) := dk_180 0 3 (dk_at dksX9_reads_3 0 rfl rfl)
theorem dX9_reads_72 : decode cX9_reads 72 = .ok (.getfield 89, 3) := dk_180 0 89 (dk_at dksX9_reads_3 3 rfl rfl)
theorem dX9_reads_75 : decode cX9_reads 75 = .ok (.aload_n 0, 1) := dk_42 (dk_at dksX9_reads_3 6 rfl rfl)
theorem dX9_reads_76 : decode cX9_reads 76 = .ok (.getfield 17, 3) := dk_180 0 17 (dk_at dksX9_reads_3 7 rfl rfl)
theorem dX9_reads_79 : decode cX9_reads 79 = .ok (.iload_n 2, 1) := dk_28 (dk_at dksX9_reads_3 10 rfl rfl)
theorem dX9_reads_80 : decode cX9_reads 80 = .ok (.aaload, 1) := dk_50 (dk_at dksX9_reads_3 11 rfl rfl)
theorem dX9_reads_81 : decode cX9_reads 81 = .ok (.invokevirtual 93, 3) := dk_182 0 93 (dk_at dksX9_reads_3 12 rfl rfl)
theorem dX9_reads_84 : decode cX9_reads 84 = .ok (.astore 4, 2) := dk_58 4 (dk_at dksX9_reads_3 15 rfl rfl)
theorem dX9_reads_86 : decode cX9_reads 86 = .ok (.aload_n 0, 1) := dk_42 (dk_at dksX9_reads_3 17 rfl rfl)
theorem dX9_reads_87 : decode cX9_reads 87 = .ok (.aload 4, 2) := dk_25 4 (dk_at dksX9_reads_3 18 rfl rfl)
theorem dX9_reads_89 : decode cX9_reads 89 = .ok (.iload_n 2, 1) := dk_28 (dk_at dksX9_reads_3 20 rfl rfl)
theorem dX9_reads_90 : decode cX9_reads 90 = .ok (.iload_n 3, 1) := dk_29 (dk_at dksX9_reads_3 21 rfl rfl)
theorem dX9_reads_91 : decode cX9_reads 91 = .ok (.aload_n 1, 1) := dk_43 (dk_at dksX9_reads_3 22 rfl rfl)
theorem dX9_reads_92 : decode cX9_reads 92 = .ok (.getfield 59, 3) := dk_180 0 59 (dk_at dksX9_reads_4 0 rfl rfl)
theorem dX9_reads_95 : decode cX9_reads 95 = .ok (.invokevirtual 99, 3) := dk_182 0 99 (dk_at dksX9_reads_4 3 rfl rfl)
theorem dX9_reads_98 : decode cX9_reads 98 = .ok (.iload_n 3, 1) := dk_29 (dk_at dksX9_reads_4 6 rfl rfl)
theorem dX9_reads_99 : decode cX9_reads 99 = .ok (.aload 4, 2) := dk_25 4 (dk_at dksX9_reads_4 7 rfl rfl)
theorem dX9_reads_101 : decode cX9_reads 101 = .ok (.getfield 103, 3) := dk_180 0 103 (dk_at dksX9_reads_4 9 rfl rfl)
theorem dX9_reads_104 : decode cX9_reads 104 = .ok (.iadd, 1) := dk_96 (dk_at dksX9_reads_4 12 rfl rfl)
theorem dX9_reads_105 : decode cX9_reads 105 = .ok (.istore_n 3, 1) := dk_62 (dk_at dksX9_reads_4 13 rfl rfl)
theorem dX9_reads_106 : decode cX9_reads 106 = .ok (.aload_n 0, 1) := dk_42 (dk_at dksX9_reads_4 14 rfl rfl)
theorem dX9_reads_107 : decode cX9_reads 107 = .ok (.aload 4, 2) := dk_25 4 (dk_at dksX9_reads_4 15 rfl rfl)
theorem dX9_reads_109 : decode cX9_reads 109 = .ok (.getfield 106, 3) := dk_180 0 106 (dk_at dksX9_reads_4 17 rfl rfl)
theorem dX9_reads_112 : decode cX9_reads 112 = .ok (.iload_n 3, 1) := dk_29 (dk_at dksX9_reads_4 20 rfl rfl)
theorem dX9_reads_113 : decode cX9_reads 113 = .ok (.invokevirtual 107, 3) := dk_182 0 107 (dk_at dksX9_reads_4 21 rfl rfl)
theorem dX9_reads_116 : decode cX9_reads 116 = .ok (.istore_n 2, 1) := dk_61 (dk_at dksX9_reads_5 0 rfl rfl)
theorem dX9_reads_117 : decode cX9_reads 117 = .ok (.iload_n 2, 1) := dk_28 (dk_at dksX9_reads_5 1 rfl rfl)
theorem dX9_reads_118 : decode cX9_reads 118 = .ok (.iconst (-1), 1) := dk_2 (dk_at dksX9_reads_5 2 rfl rfl)
theorem dX9_reads_119 : decode cX9_reads 119 = .ok (.if_icmp .ne 32, 3) := dk_160 0 32 (dk_at dksX9_reads_5 3 rfl rfl)
theorem dX9_reads_122 : decode cX9_reads 122 = .ok (.aload_n 0, 1) := dk_42 (dk_at dksX9_reads_5 6 rfl rfl)
theorem dX9_reads_123 : decode cX9_reads 123 = .ok (.aload_n 0, 1) := dk_42 (dk_at dksX9_reads_5 7 rfl rfl)
theorem dX9_reads_124 : decode cX9_reads 124 = .ok (.aload 4, 2) := dk_25 4 (dk_at dksX9_reads_5 8 rfl rfl)
theorem dX9_reads_126 : decode cX9_reads 126 = .ok (.getfield 106, 3) := dk_180 0 106 (dk_at dksX9_reads_5 10 rfl rfl)
theorem dX9_reads_129 : decode cX9_reads 129 = .ok (.invokevirtual 111, 3) := dk_182 0 111 (dk_at dksX9_reads_5 13 rfl rfl)
theorem dX9_reads_132 : decode cX9_reads 132 = .ok (.ifCond .ne 11, 3) := dk_154 0 11 (dk_at dksX9_reads_5 16 rfl rfl)
theorem dX9_reads_135 : decode cX9_reads 135 = .ok (.aload 4, 2) := dk_25 4 (dk_at dksX9_reads_5 19 rfl rfl)
theorem dX9_reads_137 : decode cX9_reads 137 = .ok (.invokevirtual 115, 3) := dk_182 0 115 (dk_at dksX9_reads_5 21 rfl rfl)
theorem dX9_reads_140 : decode cX9_reads 140 = .ok (.ifCond .eq 7, 3) := dk_153 0 7 (dk_at dksX9_reads_6 0 rfl rfl)
theorem dX9_reads_143 : decode cX9_reads 143 = .ok (.iconst 1, 1) := dk_4 (dk_at dksX9_reads_6 3 rfl rfl)
theorem dX9_reads_144 : decode cX9_reads 144 = .ok (.goto 4, 3) := dk_167 0 4 (dk_at dksX9_reads_6 4 rfl rfl)
theorem dX9_reads_147 : decode cX9_reads 147 = .ok (.iconst 0, 1) := dk_3 (dk_at dksX9_reads_6 7 rfl rfl)
theorem dX9_reads_148 : decode cX9_reads 148 = .ok (.putfield 65, 3) := dk_181 0 65 (dk_at dksX9_reads_6 8 rfl rfl)
theorem dX9_reads_151 : decode cX9_reads 151 = .ok (.goto (-88), 3) := dk_167 255 168 (dk_at dksX9_reads_6 11 rfl rfl)
theorem dX9_reads_154 : decode cX9_reads 154 = .ok (.iload_n 3, 1) := dk_29 (dk_at dksX9_reads_6 14 rfl rfl)
theorem dX9_reads_155 : decode cX9_reads 155 = .ok (.aload_n 1, 1) := dk_43 (dk_at dksX9_reads_6 15 rfl rfl)
theorem dX9_reads_156 : decode cX9_reads 156 = .ok (.getfield 59, 3) := dk_180 0 59 (dk_at dksX9_reads_6 16 rfl rfl)
theorem dX9_reads_159 : decode cX9_reads 159 = .ok (.if_icmp .ge 11, 3) := dk_162 0 11 (dk_at dksX9_reads_6 19 rfl rfl)
theorem dX9_reads_162 : decode cX9_reads 162 = .ok (.aload_n 0, 1) := dk_42 (dk_at dksX9_reads_6 22 rfl rfl)
theorem dX9_reads_163 : decode cX9_reads 163 = .ok (.aload_n 1, 1) := dk_43 (dk_at dksX9_reads_6 23 rfl rfl)
theorem dX9_reads_164 : decode cX9_reads 164 = .ok (.invokevirtual 69, 3) := dk_182 0 69 (dk_at dksX9_reads_7 0 rfl rfl)
theorem dX9_reads_167 : decode cX9_reads 167 = .ok (.goto 8, 3) := dk_167 0 8 (dk_at dksX9_reads_7 3 rfl rfl)
theorem dX9_reads_170 : decode cX9_reads 170 = .ok (.aload_n 0, 1) := dk_42 (dk_at dksX9_reads_7 6 rfl rfl)
theorem dX9_reads_171 : decode cX9_reads 171 = .ok (.iload_n 3, 1) := dk_29 (dk_at dksX9_reads_7 7 rfl rfl)
theorem dX9_reads_172 : decode cX9_reads 172 = .ok (.putfield 62, 3) := dk_181 0 62 (dk_at dksX9_reads_7 8 rfl rfl)
theorem dX9_reads_175 : decode cX9_reads 175 = .ok (.aload_n 0, 1) := dk_42 (dk_at dksX9_reads_7 11 rfl rfl)
theorem dX9_reads_176 : decode cX9_reads 176 = .ok (.areturn, 1) := dk_176 (dk_at dksX9_reads_7 12 rfl rfl)
abbrev cX9_nothing : ByteArray := prog_19_method_3_code
def yX9_nothing : MethodName := ⟨RX9, "nothing", "(LGroupJournal$State;)V"⟩
def dkwX9_nothing_2 : List UInt8 := [177]
abbrev dktX9_nothing_2 : List UInt8 := dkwX9_nothing_2 ++ []
def dkwX9_nothing_1 : List UInt8 := [4, 181, 0, 65, 3, 61, 28, 7, 162, 0, 16, 42, 180, 0, 20, 28, 2, 79, 132, 2, 1, 167, 255, 241]
abbrev dktX9_nothing_1 : List UInt8 := dkwX9_nothing_1 ++ dktX9_nothing_2
def dkwX9_nothing_0 : List UInt8 := [42, 2, 181, 0, 50, 42, 8, 181, 0, 53, 42, 3, 181, 0, 56, 42, 43, 180, 0, 59, 181, 0, 62, 42]
abbrev dktX9_nothing_0 : List UInt8 := dkwX9_nothing_0 ++ dktX9_nothing_1
theorem dksX9_nothing_0 : cX9_nothing.data.toList.drop 0 = dktX9_nothing_0 := by decide +kernel
theorem dksX9_nothing_1 : cX9_nothing.data.toList.drop 24 = dktX9_nothing_1 := dk_seg dksX9_nothing_0 24 rfl rfl
theorem dksX9_nothing_2 : cX9_nothing.data.toList.drop 48 = dktX9_nothing_2 := dk_seg dksX9_nothing_1 24 rfl rfl
theorem dX9_nothing_0 : decode cX9_nothing 0 = .ok (.aload_n 0, 1) := dk_42 (dk_at dksX9_nothing_0 0 rfl rfl)
theorem dX9_nothing_1 : decode cX9_nothing 1 = .ok (.iconst (-1), 1) := dk_2 (dk_at dksX9_nothing_0 1 rfl rfl)
theorem dX9_nothing_2 : decode cX9_nothing 2 = .ok (.putfield 50, 3) := dk_181 0 50 (dk_at dksX9_nothing_0 2 rfl rfl)
theorem dX9_nothing_5 : decode cX9_nothing 5 = .ok (.aload_n 0, 1) := dk_42 (dk_at dksX9_nothing_0 5 rfl rfl)
theorem dX9_nothing_6 : decode cX9_nothing 6 = .ok (.iconst 5, 1) := dk_8 (dk_at dksX9_nothing_0 6 rfl rfl)
theorem dX9_nothing_7 : decode cX9_nothing 7 = .ok (.putfield 53, 3) := dk_181 0 53 (dk_at dksX9_nothing_0 7 rfl rfl)
theorem dX9_nothing_10 : decode cX9_nothing 10 = .ok (.aload_n 0, 1) := dk_42 (dk_at dksX9_nothing_0 10 rfl rfl)
theorem dX9_nothing_11 : decode cX9_nothing 11 = .ok (.iconst 0, 1) := dk_3 (dk_at dksX9_nothing_0 11 rfl rfl)
theorem dX9_nothing_12 : decode cX9_nothing 12 = .ok (.putfield 56, 3) := dk_181 0 56 (dk_at dksX9_nothing_0 12 rfl rfl)
theorem dX9_nothing_15 : decode cX9_nothing 15 = .ok (.aload_n 0, 1) := dk_42 (dk_at dksX9_nothing_0 15 rfl rfl)
theorem dX9_nothing_16 : decode cX9_nothing 16 = .ok (.aload_n 1, 1) := dk_43 (dk_at dksX9_nothing_0 16 rfl rfl)
theorem dX9_nothing_17 : decode cX9_nothing 17 = .ok (.getfield 59, 3) := dk_180 0 59 (dk_at dksX9_nothing_0 17 rfl rfl)
theorem dX9_nothing_20 : decode cX9_nothing 20 = .ok (.putfield 62, 3) := dk_181 0 62 (dk_at dksX9_nothing_0 20 rfl rfl)
theorem dX9_nothing_23 : decode cX9_nothing 23 = .ok (.aload_n 0, 1) := dk_42 (dk_at dksX9_nothing_0 23 rfl rfl)
theorem dX9_nothing_24 : decode cX9_nothing 24 = .ok (.iconst 1, 1) := dk_4 (dk_at dksX9_nothing_1 0 rfl rfl)
theorem dX9_nothing_25 : decode cX9_nothing 25 = .ok (.putfield 65, 3) := dk_181 0 65 (dk_at dksX9_nothing_1 1 rfl rfl)
theorem dX9_nothing_28 : decode cX9_nothing 28 = .ok (.iconst 0, 1) := dk_3 (dk_at dksX9_nothing_1 4 rfl rfl)
theorem dX9_nothing_29 : decode cX9_nothing 29 = .ok (.istore_n 2, 1) := dk_61 (dk_at dksX9_nothing_1 5 rfl rfl)
theorem dX9_nothing_30 : decode cX9_nothing 30 = .ok (.iload_n 2, 1) := dk_28 (dk_at dksX9_nothing_1 6 rfl rfl)
theorem dX9_nothing_31 : decode cX9_nothing 31 = .ok (.iconst 4, 1) := dk_7 (dk_at dksX9_nothing_1 7 rfl rfl)
theorem dX9_nothing_32 : decode cX9_nothing 32 = .ok (.if_icmp .ge 16, 3) := dk_162 0 16 (dk_at dksX9_nothing_1 8 rfl rfl)
theorem dX9_nothing_35 : decode cX9_nothing 35 = .ok (.aload_n 0, 1) := dk_42 (dk_at dksX9_nothing_1 11 rfl rfl)
theorem dX9_nothing_36 : decode cX9_nothing 36 = .ok (.getfield 20, 3) := dk_180 0 20 (dk_at dksX9_nothing_1 12 rfl rfl)
theorem dX9_nothing_39 : decode cX9_nothing 39 = .ok (.iload_n 2, 1) := dk_28 (dk_at dksX9_nothing_1 15 rfl rfl)
theorem dX9_nothing_40 : decode cX9_nothing 40 = .ok (.iconst (-1), 1) := dk_2 (dk_at dksX9_nothing_1 16 rfl rfl)
theorem dX9_nothing_41 : decode cX9_nothing 41 = .ok (.iastore, 1) := dk_79 (dk_at dksX9_nothing_1 17 rfl rfl)
theorem dX9_nothing_42 : decode cX9_nothing 42 = .ok (.iinc 2 1, 3) := dk_132 2 1 (dk_at dksX9_nothing_1 18 rfl rfl)
theorem dX9_nothing_45 : decode cX9_nothing 45 = .ok (.goto (-15), 3) := dk_167 255 241 (dk_at dksX9_nothing_1 21 rfl rfl)
theorem dX9_nothing_48 : decode cX9_nothing 48 = .ok (.return_, 1) := dk_177 (dk_at dksX9_nothing_2 0 rfl rfl)
abbrev cX9_firstFor : ByteArray := prog_19_method_5_code
def yX9_firstFor : MethodName := ⟨RX9, "firstFor", "(I)I"⟩
def dkwX9_firstFor_3 : List UInt8 := [132, 3, 1, 167, 255, 186, 28, 172]
abbrev dktX9_firstFor_3 : List UInt8 := dkwX9_firstFor_3 ++ []
def dkwX9_firstFor_2 : List UInt8 := [42, 180, 0, 17, 29, 50, 184, 0, 123, 42, 180, 0, 17, 28, 50, 184, 0, 123, 164, 0, 5, 29, 61]
abbrev dktX9_firstFor_2 : List UInt8 := dkwX9_firstFor_2 ++ dktX9_firstFor_3
def dkwX9_firstFor_1 : List UInt8 := [184, 0, 119, 153, 0, 44, 42, 180, 0, 17, 29, 50, 184, 0, 85, 27, 163, 0, 31, 28, 2, 159, 0, 24]
abbrev dktX9_firstFor_1 : List UInt8 := dkwX9_firstFor_1 ++ dktX9_firstFor_2
def dkwX9_firstFor_0 : List UInt8 := [2, 61, 3, 62, 29, 42, 180, 0, 3, 180, 0, 27, 180, 0, 31, 162, 0, 62, 42, 180, 0, 17, 29, 50]
abbrev dktX9_firstFor_0 : List UInt8 := dkwX9_firstFor_0 ++ dktX9_firstFor_1
theorem dksX9_firstFor_0 : cX9_firstFor.data.toList.drop 0 = dktX9_firstFor_0 := by decide +kernel
theorem dksX9_firstFor_1 : cX9_firstFor.data.toList.drop 24 = dktX9_firstFor_1 := dk_seg dksX9_firstFor_0 24 rfl rfl
theorem dksX9_firstFor_2 : cX9_firstFor.data.toList.drop 48 = dktX9_firstFor_2 := dk_seg dksX9_firstFor_1 24 rfl rfl
theorem dksX9_firstFor_3 : cX9_firstFor.data.toList.drop 71 = dktX9_firstFor_3 := dk_seg dksX9_firstFor_2 23 rfl rfl
theorem dX9_firstFor_0 : decode cX9_firstFor 0 = .ok (.iconst (-1), 1) := dk_2 (dk_at dksX9_firstFor_0 0 rfl rfl)
theorem dX9_firstFor_1 : decode cX9_firstFor 1 = .ok (.istore_n 2, 1) := dk_61 (dk_at dksX9_firstFor_0 1 rfl rfl)
theorem dX9_firstFor_2 : decode cX9_firstFor 2 = .ok (.iconst 0, 1) := dk_3 (dk_at dksX9_firstFor_0 2 rfl rfl)
theorem dX9_firstFor_3 : decode cX9_firstFor 3 = .ok (.istore_n 3, 1) := dk_62 (dk_at dksX9_firstFor_0 3 rfl rfl)
theorem dX9_firstFor_4 : decode cX9_firstFor 4 = .ok (.iload_n 3, 1) := dk_29 (dk_at dksX9_firstFor_0 4 rfl rfl)
theorem dX9_firstFor_5 : decode cX9_firstFor 5 = .ok (.aload_n 0, 1) := dk_42 (dk_at dksX9_firstFor_0 5 rfl rfl)
theorem dX9_firstFor_6 : decode cX9_firstFor 6 = .ok (.getfield 3, 3) := dk_180 0 3 (dk_at dksX9_firstFor_0 6 rfl rfl)
theorem dX9_firstFor_9 : decode cX9_firstFor 9 = .ok (.getfield 27, 3) := dk_180 0 27 (dk_at dksX9_firstFor_0 9 rfl rfl)
theorem dX9_firstFor_12 : decode cX9_firstFor 12 = .ok (.getfield 31, 3) := dk_180 0 31 (dk_at dksX9_firstFor_0 12 rfl rfl)
theorem dX9_firstFor_15 : decode cX9_firstFor 15 = .ok (.if_icmp .ge 62, 3) := dk_162 0 62 (dk_at dksX9_firstFor_0 15 rfl rfl)
theorem dX9_firstFor_18 : decode cX9_firstFor 18 = .ok (.aload_n 0, 1) := dk_42 (dk_at dksX9_firstFor_0 18 rfl rfl)
theorem dX9_firstFor_19 : decode cX9_firstFor 19 = .ok (.getfield 17, 3) := dk_180 0 17 (dk_at dksX9_firstFor_0 19 rfl rfl)
theorem dX9_firstFor_22 : decode cX9_firstFor 22 = .ok (.iload_n 3, 1) := dk_29 (dk_at dksX9_firstFor_0 22 rfl rfl)
theorem dX9_firstFor_23 : decode cX9_firstFor 23 = .ok (.aaload, 1) := dk_50 (dk_at dksX9_firstFor_0 23 rfl rfl)
theorem dX9_firstFor_24 : decode cX9_firstFor 24 = .ok (.invokestatic 119, 3) := dk_184 0 119 (dk_at dksX9_firstFor_1 0 rfl rfl)
theorem dX9_firstFor_27 : decode cX9_firstFor 27 = .ok (.ifCond .eq 44, 3) := dk_153 0 44 (dk_at dksX9_firstFor_1 3 rfl rfl)
theorem dX9_firstFor_30 : decode cX9_firstFor 30 = .ok (.aload_n 0, 1) := dk_42 (dk_at dksX9_firstFor_1 6 rfl rfl)
theorem dX9_firstFor_31 : decode cX9_firstFor 31 = .ok (.getfield 17, 3) := dk_180 0 17 (dk_at dksX9_firstFor_1 7 rfl rfl)
theorem dX9_firstFor_34 : decode cX9_firstFor 34 = .ok (.iload_n 3, 1) := dk_29 (dk_at dksX9_firstFor_1 10 rfl rfl)
theorem dX9_firstFor_35 : decode cX9_firstFor 35 = .ok (.aaload, 1) := dk_50 (dk_at dksX9_firstFor_1 11 rfl rfl)
theorem dX9_firstFor_36 : decode cX9_firstFor 36 = .ok (.invokestatic 85, 3) := dk_184 0 85 (dk_at dksX9_firstFor_1 12 rfl rfl)
theorem dX9_firstFor_39 : decode cX9_firstFor 39 = .ok (.iload_n 1, 1) := dk_27 (dk_at dksX9_firstFor_1 15 rfl rfl)
theorem dX9_firstFor_40 : decode cX9_firstFor 40 = .ok (.if_icmp .gt 31, 3) := dk_163 0 31 (dk_at dksX9_firstFor_1 16 rfl rfl)
theorem dX9_firstFor_43 : decode cX9_firstFor 43 = .ok (.iload_n 2, 1) := dk_28 (dk_at dksX9_firstFor_1 19 rfl rfl)
theorem dX9_firstFor_44 : decode cX9_firstFor 44 = .ok (.iconst (-1), 1) := dk_2 (dk_at dksX9_firstFor_1 20 rfl rfl)
theorem dX9_firstFor_45 : decode cX9_firstFor 45 = .ok (.if_icmp .eq 24, 3) := dk_159 0 24 (dk_at dksX9_firstFor_1 21 rfl rfl)
theorem dX9_firstFor_48 : decode cX9_firstFor 48 = .ok (.aload_n 0, 1) := dk_42 (dk_at dksX9_firstFor_2 0 rfl rfl)
theorem dX9_firstFor_49 : decode cX9_firstFor 49 = .ok (.getfield 17, 3) := dk_180 0 17 (dk_at dksX9_firstFor_2 1 rfl rfl)
theorem dX9_firstFor_52 : decode cX9_firstFor 52 = .ok (.iload_n 3, 1) := dk_29 (dk_at dksX9_firstFor_2 4 rfl rfl)
theorem dX9_firstFor_53 : decode cX9_firstFor 53 = .ok (.aaload, 1) := dk_50 (dk_at dksX9_firstFor_2 5 rfl rfl)
theorem dX9_firstFor_54 : decode cX9_firstFor 54 = .ok (.invokestatic 123, 3) := dk_184 0 123 (dk_at dksX9_firstFor_2 6 rfl rfl)
theorem dX9_firstFor_57 : decode cX9_firstFor 57 = .ok (.aload_n 0, 1) := dk_42 (dk_at dksX9_firstFor_2 9 rfl rfl)
theorem dX9_firstFor_58 : decode cX9_firstFor 58 = .ok (.getfield 17, 3) := dk_180 0 17 (dk_at dksX9_firstFor_2 10 rfl rfl)
theorem dX9_firstFor_61 : decode cX9_firstFor 61 = .ok (.iload_n 2, 1) := dk_28 (dk_at dksX9_firstFor_2 13 rfl rfl)
theorem dX9_firstFor_62 : decode cX9_firstFor 62 = .ok (.aaload, 1) := dk_50 (dk_at dksX9_firstFor_2 14 rfl rfl)
theorem dX9_firstFor_63 : decode cX9_firstFor 63 = .ok (.invokestatic 123, 3) := dk_184 0 123 (dk_at dksX9_firstFor_2 15 rfl rfl)
theorem dX9_firstFor_66 : decode cX9_firstFor 66 = .ok (.if_icmp .le 5, 3) := dk_164 0 5 (dk_at dksX9_firstFor_2 18 rfl rfl)
theorem dX9_firstFor_69 : decode cX9_firstFor 69 = .ok (.iload_n 3, 1) := dk_29 (dk_at dksX9_firstFor_2 21 rfl rfl)
theorem dX9_firstFor_70 : decode cX9_firstFor 70 = .ok (.istore_n 2, 1) := dk_61 (dk_at dksX9_firstFor_2 22 rfl rfl)
theorem dX9_firstFor_71 : decode cX9_firstFor 71 = .ok (.iinc 3 1, 3) := dk_132 3 1 (dk_at dksX9_firstFor_3 0 rfl rfl)
theorem dX9_firstFor_74 : decode cX9_firstFor 74 = .ok (.goto (-70), 3) := dk_167 255 186 (dk_at dksX9_firstFor_3 3 rfl rfl)
theorem dX9_firstFor_77 : decode cX9_firstFor 77 = .ok (.iload_n 2, 1) := dk_28 (dk_at dksX9_firstFor_3 6 rfl rfl)
theorem dX9_firstFor_78 : decode cX9_firstFor 78 = .ok (.ireturn, 1) := dk_172 (dk_at dksX9_firstFor_3 7 rfl rfl)
abbrev cX9_replays : ByteArray := prog_19_method_6_code
def yX9_replays : MethodName := ⟨RX9, "replays", "(LGroupJournal$Reading;III)V"⟩
def dkwX9_replays_3 : List UInt8 := [132, 5, 1, 167, 255, 206, 177]
abbrev dktX9_replays_3 : List UInt8 := dkwX9_replays_3 ++ []
def dkwX9_replays_2 : List UInt8 := [180, 0, 127, 21, 5, 46, 43, 180, 0, 130, 21, 5, 46, 79, 42, 180, 0, 20, 28, 29, 21, 5, 96, 79]
abbrev dktX9_replays_2 : List UInt8 := dkwX9_replays_2 ++ dktX9_replays_3
def dkwX9_replays_1 : List UInt8 := [21, 5, 43, 180, 0, 103, 162, 0, 47, 29, 21, 5, 96, 21, 4, 161, 0, 22, 42, 180, 0, 24, 43]
abbrev dktX9_replays_1 : List UInt8 := dkwX9_replays_1 ++ dktX9_replays_2
def dkwX9_replays_0 : List UInt8 := [42, 28, 181, 0, 50, 42, 43, 180, 0, 126, 181, 0, 53, 42, 43, 180, 0, 106, 181, 0, 56, 3, 54, 5]
abbrev dktX9_replays_0 : List UInt8 := dkwX9_replays_0 ++ dktX9_replays_1
theorem dksX9_replays_0 : cX9_replays.data.toList.drop 0 = dktX9_replays_0 := by decide +kernel
theorem dksX9_replays_1 : cX9_replays.data.toList.drop 24 = dktX9_replays_1 := dk_seg dksX9_replays_0 24 rfl rfl
theorem dksX9_replays_2 : cX9_replays.data.toList.drop 47 = dktX9_replays_2 := dk_seg dksX9_replays_1 23 rfl rfl
theorem dksX9_replays_3 : cX9_replays.data.toList.drop 71 = dktX9_replays_3 := dk_seg dksX9_replays_2 24 rfl rfl
theorem dX9_replays_0 : decode cX9_replays 0 = .ok (.aload_n 0, 1) := dk_42 (dk_at dksX9_replays_0 0 rfl rfl)
theorem dX9_replays_1 : decode cX9_replays 1 = .ok (.iload_n 2, 1) := dk_28 (dk_at dksX9_replays_0 1 rfl rfl)
theorem dX9_replays_2 : decode cX9_replays 2 = .ok (.putfield 50, 3) := dk_181 0 50 (dk_at dksX9_replays_0 2 rfl rfl)
theorem dX9_replays_5 : decode cX9_replays 5 = .ok (.aload_n 0, 1) := dk_42 (dk_at dksX9_replays_0 5 rfl rfl)
theorem dX9_replays_6 : decode cX9_replays 6 = .ok (.aload_n 1, 1) := dk_43 (dk_at dksX9_replays_0 6 rfl rfl)
theorem dX9_replays_7 : decode cX9_replays 7 = .ok (.getfield 126, 3) := dk_180 0 126 (dk_at dksX9_replays_0 7 rfl rfl)
theorem dX9_replays_10 : decode cX9_replays 10 = .ok (.putfield 53, 3) := dk_181 0 53 (dk_at dksX9_replays_0 10 rfl rfl)
theorem dX9_replays_13 : decode cX9_replays 13 = .ok (.aload_n 0, 1) := dk_42 (dk_at dksX9_replays_0 13 rfl rfl)
theorem dX9_replays_14 : decode cX9_replays 14 = .ok (.aload_n 1, 1) := dk_43 (dk_at dksX9_replays_0 14 rfl rfl)
theorem dX9_replays_15 : decode cX9_replays 15 = .ok (.getfield 106, 3) := dk_180 0 106 (dk_at dksX9_replays_0 15 rfl rfl)
theorem dX9_replays_18 : decode cX9_replays 18 = .ok (.putfield 56, 3) := dk_181 0 56 (dk_at dksX9_replays_0 18 rfl rfl)
theorem dX9_replays_21 : decode cX9_replays 21 = .ok (.iconst 0, 1) := dk_3 (dk_at dksX9_replays_0 21 rfl rfl)
theorem dX9_replays_22 : decode cX9_replays 22 = .ok (.istore 5, 2) := dk_54 5 (dk_at dksX9_replays_0 22 rfl rfl)
theorem dX9_replays_24 : decode cX9_replays 24 = .ok (.iload 5, 2) := dk_21 5 (dk_at dksX9_replays_1 0 rfl rfl)
theorem dX9_replays_26 : decode cX9_replays 26 = .ok (.aload_n 1, 1) := dk_43 (dk_at dksX9_replays_1 2 rfl rfl)
theorem dX9_replays_27 : decode cX9_replays 27 = .ok (.getfield 103, 3) := dk_180 0 103 (dk_at dksX9_replays_1 3 rfl rfl)
theorem dX9_replays_30 : decode cX9_replays 30 = .ok (.if_icmp .ge 47, 3) := dk_162 0 47 (dk_at dksX9_replays_1 6 rfl rfl)
theorem dX9_replays_33 : decode cX9_replays 33 = .ok (.iload_n 3, 1) := dk_29 (dk_at dksX9_replays_1 9 rfl rfl)
theorem dX9_replays_34 : decode cX9_replays 34 = .ok (.iload 5, 2) := dk_21 5 (dk_at dksX9_replays_1 10 rfl rfl)
theorem dX9_replays_36 : decode cX9_replays 36 = .ok (.iadd, 1) := dk_96 (dk_at dksX9_replays_1 12 rfl rfl)
theorem dX9_replays_37 : decode cX9_replays 37 = .ok (.iload 4, 2) := dk_21 4 (dk_at dksX9_replays_1 13 rfl rfl)
theorem dX9_replays_39 : decode cX9_replays 39 = .ok (.if_icmp .lt 22, 3) := dk_161 0 22 (dk_at dksX9_replays_1 15 rfl rfl)
theorem dX9_replays_42 : decode cX9_replays 42 = .ok (.aload_n 0, 1) := dk_42 (dk_at dksX9_replays_1 18 rfl rfl)
theorem dX9_replays_43 : decode cX9_replays 43 = .ok (.getfield 24, 3) := dk_180 0 24 (dk_at dksX9_replays_1 19 rfl rfl)
theorem dX9_replays_46 : decode cX9_replays 46 = .ok (.aload_n 1, 1) := dk_43 (dk_at dksX9_replays_1 22 rfl rfl)
theorem dX9_replays_47 : decode cX9_replays 47 = .ok (.getfield 127, 3) := dk_180 0 127 (dk_at dksX9_replays_2 0 rfl rfl)
theorem dX9_replays_50 : decode cX9_replays 50 = .ok (.iload 5, 2) := dk_21 5 (dk_at dksX9_replays_2 3 rfl rfl)
theorem dX9_replays_52 : decode cX9_replays 52 = .ok (.iaload, 1) := dk_46 (dk_at dksX9_replays_2 5 rfl rfl)
theorem dX9_replays_53 : decode cX9_replays 53 = .ok (.aload_n 1, 1) := dk_43 (dk_at dksX9_replays_2 6 rfl rfl)
theorem dX9_replays_54 : decode cX9_replays 54 = .ok (.getfield 130, 3) := dk_180 0 130 (dk_at dksX9_replays_2 7 rfl rfl)
theorem dX9_replays_57 : decode cX9_replays 57 = .ok (.iload 5, 2) := dk_21 5 (dk_at dksX9_replays_2 10 rfl rfl)
theorem dX9_replays_59 : decode cX9_replays 59 = .ok (.iaload, 1) := dk_46 (dk_at dksX9_replays_2 12 rfl rfl)
theorem dX9_replays_60 : decode cX9_replays 60 = .ok (.iastore, 1) := dk_79 (dk_at dksX9_replays_2 13 rfl rfl)
theorem dX9_replays_61 : decode cX9_replays 61 = .ok (.aload_n 0, 1) := dk_42 (dk_at dksX9_replays_2 14 rfl rfl)
theorem dX9_replays_62 : decode cX9_replays 62 = .ok (.getfield 20, 3) := dk_180 0 20 (dk_at dksX9_replays_2 15 rfl rfl)
theorem dX9_replays_65 : decode cX9_replays 65 = .ok (.iload_n 2, 1) := dk_28 (dk_at dksX9_replays_2 18 rfl rfl)
theorem dX9_replays_66 : decode cX9_replays 66 = .ok (.iload_n 3, 1) := dk_29 (dk_at dksX9_replays_2 19 rfl rfl)
theorem dX9_replays_67 : decode cX9_replays 67 = .ok (.iload 5, 2) := dk_21 5 (dk_at dksX9_replays_2 20 rfl rfl)
theorem dX9_replays_69 : decode cX9_replays 69 = .ok (.iadd, 1) := dk_96 (dk_at dksX9_replays_2 22 rfl rfl)
theorem dX9_replays_70 : decode cX9_replays 70 = .ok (.iastore, 1) := dk_79 (dk_at dksX9_replays_2 23 rfl rfl)
theorem dX9_replays_71 : decode cX9_replays 71 = .ok (.iinc 5 1, 3) := dk_132 5 1 (dk_at dksX9_replays_3 0 rfl rfl)
theorem dX9_replays_74 : decode cX9_replays 74 = .ok (.goto (-50), 3) := dk_167 255 206 (dk_at dksX9_replays_3 3 rfl rfl)
theorem dX9_replays_77 : decode cX9_replays 77 = .ok (.return_, 1) := dk_177 (dk_at dksX9_replays_3 6 rfl rfl)
abbrev cX9_following : ByteArray := prog_19_method_7_code
def yX9_following : MethodName := ⟨RX9, "following", "(II)I"⟩
def dkwX9_following_4 : List UInt8 := [167, 255, 167, 29, 172]
abbrev dktX9_following_4 : List UInt8 := dkwX9_following_4 ++ []
def dkwX9_following_3 : List UInt8 := [50, 184, 0, 123, 42, 180, 0, 17, 29, 50, 184, 0, 123, 164, 0, 6, 21, 4, 62, 132, 4, 1]
abbrev dktX9_following_3 : List UInt8 := dkwX9_following_3 ++ dktX9_following_4
def dkwX9_following_2 : List UInt8 := [180, 0, 17, 21, 4, 50, 184, 0, 85, 28, 160, 0, 33, 29, 2, 159, 0, 25, 42, 180, 0, 17, 21, 4]
abbrev dktX9_following_2 : List UInt8 := dkwX9_following_2 ++ dktX9_following_3
def dkwX9_following_1 : List UInt8 := [21, 4, 50, 184, 0, 119, 153, 0, 61, 42, 180, 0, 17, 21, 4, 50, 184, 0, 123, 27, 164, 0, 47, 42]
abbrev dktX9_following_1 : List UInt8 := dkwX9_following_1 ++ dktX9_following_2
def dkwX9_following_0 : List UInt8 := [2, 62, 3, 54, 4, 21, 4, 42, 180, 0, 3, 180, 0, 27, 180, 0, 31, 162, 0, 80, 42, 180, 0, 17]
abbrev dktX9_following_0 : List UInt8 := dkwX9_following_0 ++ dktX9_following_1
theorem dksX9_following_0 : cX9_following.data.toList.drop 0 = dktX9_following_0 := by decide +kernel
theorem dksX9_following_1 : cX9_following.data.toList.drop 24 = dktX9_following_1 := dk_seg dksX9_following_0 24 rfl rfl
theorem dksX9_following_2 : cX9_following.data.toList.drop 48 = dktX9_following_2 := dk_seg dksX9_following_1 24 rfl rfl
theorem dksX9_following_3 : cX9_following.data.toList.drop 72 = dktX9_following_3 := dk_seg dksX9_following_2 24 rfl rfl
theorem dksX9_following_4 : cX9_following.data.toList.drop 94 = dktX9_following_4 := dk_seg dksX9_following_3 22 rfl rfl
theorem dX9_following_0 : decode cX9_following 0 = .ok (.iconst (-1), 1) := dk_2 (dk_at dksX9_following_0 0 rfl rfl)
theorem dX9_following_1 : decode cX9_following 1 = .ok (.istore_n 3, 1) := dk_62 (dk_at dksX9_following_0 1 rfl rfl)
theorem dX9_following_2 : decode cX9_following 2 = .ok (.iconst 0, 1) := dk_3 (dk_at dksX9_following_0 2 rfl rfl)
theorem dX9_following_3 : decode cX9_following 3 = .ok (.istore 4, 2) := dk_54 4 (dk_at dksX9_following_0 3 rfl rfl)
theorem dX9_following_5 : decode cX9_following 5 = .ok (.iload 4, 2) := dk_21 4 (dk_at dksX9_following_0 5 rfl rfl)
theorem dX9_following_7 : decode cX9_following 7 = .ok (.aload_n 0, 1) := dk_42 (dk_at dksX9_following_0 7 rfl rfl)
theorem dX9_following_8 : decode cX9_following 8 = .ok (.getfield 3, 3) := dk_180 0 3 (dk_at dksX9_following_0 8 rfl rfl)
theorem dX9_following_11 : decode cX9_following 11 = .ok (.getfield 27, 3) := dk_180 0 27 (dk_at dksX9_following_0 11 rfl rfl)
theorem dX9_following_14 : decode cX9_following 14 = .ok (.getfield 31, 3) := dk_180 0 31 (dk_at dksX9_following_0 14 rfl rfl)
theorem dX9_following_17 : decode cX9_following 17 = .ok (.if_icmp .ge 80, 3) := dk_162 0 80 (dk_at dksX9_following_0 17 rfl rfl)
theorem dX9_following_20 : decode cX9_following 20 = .ok (.aload_n 0, 1) := dk_42 (dk_at dksX9_following_0 20 rfl rfl)
theorem dX9_following_21 : decode cX9_following 21 = .ok (.getfield 17, 3) := dk_180 0 17 (dk_at dksX9_following_0 21 rfl rfl)
theorem dX9_following_24 : decode cX9_following 24 = .ok (.iload 4, 2) := dk_21 4 (dk_at dksX9_following_1 0 rfl rfl)
theorem dX9_following_26 : decode cX9_following 26 = .ok (.aaload, 1) := dk_50 (dk_at dksX9_following_1 2 rfl rfl)
theorem dX9_following_27 : decode cX9_following 27 = .ok (.invokestatic 119, 3) := dk_184 0 119 (dk_at dksX9_following_1 3 rfl rfl)
theorem dX9_following_30 : decode cX9_following 30 = .ok (.ifCond .eq 61, 3) := dk_153 0 61 (dk_at dksX9_following_1 6 rfl rfl)
theorem dX9_following_33 : decode cX9_following 33 = .ok (.aload_n 0, 1) := dk_42 (dk_at dksX9_following_1 9 rfl rfl)
theorem dX9_following_34 : decode cX9_following 34 = .ok (.getfield 17, 3) := dk_180 0 17 (dk_at dksX9_following_1 10 rfl rfl)
theorem dX9_following_37 : decode cX9_following 37 = .ok (.iload 4, 2) := dk_21 4 (dk_at dksX9_following_1 13 rfl rfl)
theorem dX9_following_39 : decode cX9_following 39 = .ok (.aaload, 1) := dk_50 (dk_at dksX9_following_1 15 rfl rfl)
theorem dX9_following_40 : decode cX9_following 40 = .ok (.invokestatic 123, 3) := dk_184 0 123 (dk_at dksX9_following_1 16 rfl rfl)
theorem dX9_following_43 : decode cX9_following 43 = .ok (.iload_n 1, 1) := dk_27 (dk_at dksX9_following_1 19 rfl rfl)
theorem dX9_following_44 : decode cX9_following 44 = .ok (.if_icmp .le 47, 3) := dk_164 0 47 (dk_at dksX9_following_1 20 rfl rfl)
theorem dX9_following_47 : decode cX9_following 47 = .ok (.aload_n 0, 1) := dk_42 (dk_at dksX9_following_1 23 rfl rfl)
theorem dX9_following_48 : decode cX9_following 48 = .ok (.getfield 17, 3) := dk_180 0 17 (dk_at dksX9_following_2 0 rfl rfl)
theorem dX9_following_51 : decode cX9_following 51 = .ok (.iload 4, 2) := dk_21 4 (dk_at dksX9_following_2 3 rfl rfl)
theorem dX9_following_53 : decode cX9_following 53 = .ok (.aaload, 1) := dk_50 (dk_at dksX9_following_2 5 rfl rfl)
theorem dX9_following_54 : decode cX9_following 54 = .ok (.invokestatic 85, 3) := dk_184 0 85 (dk_at dksX9_following_2 6 rfl rfl)
theorem dX9_following_57 : decode cX9_following 57 = .ok (.iload_n 2, 1) := dk_28 (dk_at dksX9_following_2 9 rfl rfl)
theorem dX9_following_58 : decode cX9_following 58 = .ok (.if_icmp .ne 33, 3) := dk_160 0 33 (dk_at dksX9_following_2 10 rfl rfl)
theorem dX9_following_61 : decode cX9_following 61 = .ok (.iload_n 3, 1) := dk_29 (dk_at dksX9_following_2 13 rfl rfl)
theorem dX9_following_62 : decode cX9_following 62 = .ok (.iconst (-1), 1) := dk_2 (dk_at dksX9_following_2 14 rfl rfl)
theorem dX9_following_63 : decode cX9_following 63 = .ok (.if_icmp .eq 25, 3) := dk_159 0 25 (dk_at dksX9_following_2 15 rfl rfl)
theorem dX9_following_66 : decode cX9_following 66 = .ok (.aload_n 0, 1) := dk_42 (dk_at dksX9_following_2 18 rfl rfl)
theorem dX9_following_67 : decode cX9_following 67 = .ok (.getfield 17, 3) := dk_180 0 17 (dk_at dksX9_following_2 19 rfl rfl)
theorem dX9_following_70 : decode cX9_following 70 = .ok (.iload 4, 2) := dk_21 4 (dk_at dksX9_following_2 22 rfl rfl)
theorem dX9_following_72 : decode cX9_following 72 = .ok (.aaload, 1) := dk_50 (dk_at dksX9_following_3 0 rfl rfl)
theorem dX9_following_73 : decode cX9_following 73 = .ok (.invokestatic 123, 3) := dk_184 0 123 (dk_at dksX9_following_3 1 rfl rfl)
theorem dX9_following_76 : decode cX9_following 76 = .ok (.aload_n 0, 1) := dk_42 (dk_at dksX9_following_3 4 rfl rfl)
theorem dX9_following_77 : decode cX9_following 77 = .ok (.getfield 17, 3) := dk_180 0 17 (dk_at dksX9_following_3 5 rfl rfl)
theorem dX9_following_80 : decode cX9_following 80 = .ok (.iload_n 3, 1) := dk_29 (dk_at dksX9_following_3 8 rfl rfl)
theorem dX9_following_81 : decode cX9_following 81 = .ok (.aaload, 1) := dk_50 (dk_at dksX9_following_3 9 rfl rfl)
theorem dX9_following_82 : decode cX9_following 82 = .ok (.invokestatic 123, 3) := dk_184 0 123 (dk_at dksX9_following_3 10 rfl rfl)
theorem dX9_following_85 : decode cX9_following 85 = .ok (.if_icmp .le 6, 3) := dk_164 0 6 (dk_at dksX9_following_3 13 rfl rfl)
theorem dX9_following_88 : decode cX9_following 88 = .ok (.iload 4, 2) := dk_21 4 (dk_at dksX9_following_3 16 rfl rfl)
theorem dX9_following_90 : decode cX9_following 90 = .ok (.istore_n 3, 1) := dk_62 (dk_at dksX9_following_3 18 rfl rfl)
theorem dX9_following_91 : decode cX9_following 91 = .ok (.iinc 4 1, 3) := dk_132 4 1 (dk_at dksX9_following_3 19 rfl rfl)
theorem dX9_following_94 : decode cX9_following 94 = .ok (.goto (-89), 3) := dk_167 255 167 (dk_at dksX9_following_4 0 rfl rfl)
theorem dX9_following_97 : decode cX9_following 97 = .ok (.iload_n 3, 1) := dk_29 (dk_at dksX9_following_4 3 rfl rfl)
theorem dX9_following_98 : decode cX9_following 98 = .ok (.ireturn, 1) := dk_172 (dk_at dksX9_following_4 4 rfl rfl)
abbrev cX9_isGreater : ByteArray := prog_19_method_8_code
def yX9_isGreater : MethodName := ⟨RX9, "isGreater", "(I)Z"⟩
def dkwX9_isGreater_2 : List UInt8 := [167, 255, 212, 3, 172]
abbrev dktX9_isGreater_2 : List UInt8 := dkwX9_isGreater_2 ++ []
def dkwX9_isGreater_1 : List UInt8 := [184, 0, 119, 153, 0, 18, 42, 180, 0, 17, 28, 50, 184, 0, 123, 27, 164, 0, 5, 4, 172, 132, 2, 1]
abbrev dktX9_isGreater_1 : List UInt8 := dkwX9_isGreater_1 ++ dktX9_isGreater_2
def dkwX9_isGreater_0 : List UInt8 := [3, 61, 28, 42, 180, 0, 3, 180, 0, 27, 180, 0, 31, 162, 0, 36, 42, 180, 0, 17, 28, 50]
abbrev dktX9_isGreater_0 : List UInt8 := dkwX9_isGreater_0 ++ dktX9_isGreater_1
theorem dksX9_isGreater_0 : cX9_isGreater.data.toList.drop 0 = dktX9_isGreater_0 := by decide +kernel
theorem dksX9_isGreater_1 : cX9_isGreater.data.toList.drop 22 = dktX9_isGreater_1 := dk_seg dksX9_isGreater_0 22 rfl rfl
theorem dksX9_isGreater_2 : cX9_isGreater.data.toList.drop 46 = dktX9_isGreater_2 := dk_seg dksX9_isGreater_1 24 rfl rfl
theorem dX9_isGreater_0 : decode cX9_isGreater 0 = .ok (.iconst 0, 1) := dk_3 (dk_at dksX9_isGreater_0 0 rfl rfl)
theorem dX9_isGreater_1 : decode cX9_isGreater 1 = .ok (.istore_n 2, 1) := dk_61 (dk_at dksX9_isGreater_0 1 rfl rfl)
theorem dX9_isGreater_2 : decode cX9_isGreater 2 = .ok (.iload_n 2, 1) := dk_28 (dk_at dksX9_isGreater_0 2 rfl rfl)
theorem dX9_isGreater_3 : decode cX9_isGreater 3 = .ok (.aload_n 0, 1) := dk_42 (dk_at dksX9_isGreater_0 3 rfl rfl)
theorem dX9_isGreater_4 : decode cX9_isGreater 4 = .ok (.getfield 3, 3) := dk_180 0 3 (dk_at dksX9_isGreater_0 4 rfl rfl)
theorem dX9_isGreater_7 : decode cX9_isGreater 7 = .ok (.getfield 27, 3) := dk_180 0 27 (dk_at dksX9_isGreater_0 7 rfl rfl)
theorem dX9_isGreater_10 : decode cX9_isGreater 10 = .ok (.getfield 31, 3) := dk_180 0 31 (dk_at dksX9_isGreater_0 10 rfl rfl)
theorem dX9_isGreater_13 : decode cX9_isGreater 13 = .ok (.if_icmp .ge 36, 3) := dk_162 0 36 (dk_at dksX9_isGreater_0 13 rfl rfl)
theorem dX9_isGreater_16 : decode cX9_isGreater 16 = .ok (.aload_n 0, 1) := dk_42 (dk_at dksX9_isGreater_0 16 rfl rfl)
theorem dX9_isGreater_17 : decode cX9_isGreater 17 = .ok (.getfield 17, 3) := dk_180 0 17 (dk_at dksX9_isGreater_0 17 rfl rfl)
theorem dX9_isGreater_20 : decode cX9_isGreater 20 = .ok (.iload_n 2, 1) := dk_28 (dk_at dksX9_isGreater_0 20 rfl rfl)
theorem dX9_isGreater_21 : decode cX9_isGreater 21 = .ok (.aaload, 1) := dk_50 (dk_at dksX9_isGreater_0 21 rfl rfl)
theorem dX9_isGreater_22 : decode cX9_isGreater 22 = .ok (.invokestatic 119, 3) := dk_184 0 119 (dk_at dksX9_isGreater_1 0 rfl rfl)
theorem dX9_isGreater_25 : decode cX9_isGreater 25 = .ok (.ifCond .eq 18, 3) := dk_153 0 18 (dk_at dksX9_isGreater_1 3 rfl rfl)
theorem dX9_isGreater_28 : decode cX9_isGreater 28 = .ok (.aload_n 0, 1) := dk_42 (dk_at dksX9_isGreater_1 6 rfl rfl)
theorem dX9_isGreater_29 : decode cX9_isGreater 29 = .ok (.getfield 17, 3) := dk_180 0 17 (dk_at dksX9_isGreater_1 7 rfl rfl)
theorem dX9_isGreater_32 : decode cX9_isGreater 32 = .ok (.iload_n 2, 1) := dk_28 (dk_at dksX9_isGreater_1 10 rfl rfl)
theorem dX9_isGreater_33 : decode cX9_isGreater 33 = .ok (.aaload, 1) := dk_50 (dk_at dksX9_isGreater_1 11 rfl rfl)
theorem dX9_isGreater_34 : decode cX9_isGreater 34 = .ok (.invokestatic 123, 3) := dk_184 0 123 (dk_at dksX9_isGreater_1 12 rfl rfl)
theorem dX9_isGreater_37 : decode cX9_isGreater 37 = .ok (.iload_n 1, 1) := dk_27 (dk_at dksX9_isGreater_1 15 rfl rfl)
theorem dX9_isGreater_38 : decode cX9_isGreater 38 = .ok (.if_icmp .le 5, 3) := dk_164 0 5 (dk_at dksX9_isGreater_1 16 rfl rfl)
theorem dX9_isGreater_41 : decode cX9_isGreater 41 = .ok (.iconst 1, 1) := dk_4 (dk_at dksX9_isGreater_1 19 rfl rfl)
theorem dX9_isGreater_42 : decode cX9_isGreater 42 = .ok (.ireturn, 1) := dk_172 (dk_at dksX9_isGreater_1 20 rfl rfl)
theorem dX9_isGreater_43 : decode cX9_isGreater 43 = .ok (.iinc 2 1, 3) := dk_132 2 1 (dk_at dksX9_isGreater_1 21 rfl rfl)
theorem dX9_isGreater_46 : decode cX9_isGreater 46 = .ok (.goto (-44), 3) := dk_167 255 212 (dk_at dksX9_isGreater_2 0 rfl rfl)
theorem dX9_isGreater_49 : decode cX9_isGreater 49 = .ok (.iconst 0, 1) := dk_3 (dk_at dksX9_isGreater_2 3 rfl rfl)
theorem dX9_isGreater_50 : decode cX9_isGreater 50 = .ok (.ireturn, 1) := dk_172 (dk_at dksX9_isGreater_2 4 rfl rfl)
abbrev cX9_valued : ByteArray := prog_19_method_9_code
def yX9_valued : MethodName := ⟨RX9, "valued", "()I"⟩
def dkwX9_valued_1 : List UInt8 := [54, 5, 27, 21, 5, 2, 160, 0, 7, 3, 167, 0, 4, 4, 96, 60, 132, 4, 1, 167, 255, 227, 27, 172]
abbrev dktX9_valued_1 : List UInt8 := dkwX9_valued_1 ++ []
def dkwX9_valued_0 : List UInt8 := [3, 60, 42, 180, 0, 24, 77, 44, 190, 62, 3, 54, 4, 21, 4, 29, 162, 0, 29, 44, 21, 4, 46]
abbrev dktX9_valued_0 : List UInt8 := dkwX9_valued_0 ++ dktX9_valued_1
theorem dksX9_valued_0 : cX9_valued.data.toList.drop 0 = dktX9_valued_0 := by decide +kernel
theorem dksX9_valued_1 : cX9_valued.data.toList.drop 23 = dktX9_valued_1 := dk_seg dksX9_valued_0 23 rfl rfl
theorem dX9_valued_0 : decode cX9_valued 0 = .ok (.iconst 0, 1) := dk_3 (dk_at dksX9_valued_0 0 rfl rfl)
theorem dX9_valued_1 : decode cX9_valued 1 = .ok (.istore_n 1, 1) := dk_60 (dk_at dksX9_valued_0 1 rfl rfl)
theorem dX9_valued_2 : decode cX9_valued 2 = .ok (.aload_n 0, 1) := dk_42 (dk_at dksX9_valued_0 2 rfl rfl)
theorem dX9_valued_3 : decode cX9_valued 3 = .ok (.getfield 24, 3) := dk_180 0 24 (dk_at dksX9_valued_0 3 rfl rfl)
theorem dX9_valued_6 : decode cX9_valued 6 = .ok (.astore_n 2, 1) := dk_77 (dk_at dksX9_valued_0 6 rfl rfl)
theorem dX9_valued_7 : decode cX9_valued 7 = .ok (.aload_n 2, 1) := dk_44 (dk_at dksX9_valued_0 7 rfl rfl)
theorem dX9_valued_8 : decode cX9_valued 8 = .ok (.arraylength, 1) := dk_190 (dk_at dksX9_valued_0 8 rfl rfl)
theorem dX9_valued_9 : decode cX9_valued 9 = .ok (.istore_n 3, 1) := dk_62 (dk_at dksX9_valued_0 9 rfl rfl)
theorem dX9_valued_10 : decode cX9_valued 10 = .ok (.iconst 0, 1) := dk_3 (dk_at dksX9_valued_0 10 rfl rfl)
theorem dX9_valued_11 : decode cX9_valued 11 = .ok (.istore 4, 2) := dk_54 4 (dk_at dksX9_valued_0 11 rfl rfl)
theorem dX9_valued_13 : decode cX9_valued 13 = .ok (.iload 4, 2) := dk_21 4 (dk_at dksX9_valued_0 13 rfl rfl)
theorem dX9_valued_15 : decode cX9_valued 15 = .ok (.iload_n 3, 1) := dk_29 (dk_at dksX9_valued_0 15 rfl rfl)
theorem dX9_valued_16 : decode cX9_valued 16 = .ok (.if_icmp .ge 29, 3) := dk_162 0 29 (dk_at dksX9_valued_0 16 rfl rfl)
theorem dX9_valued_19 : decode cX9_valued 19 = .ok (.aload_n 2, 1) := dk_44 (dk_at dksX9_valued_0 19 rfl rfl)
theorem dX9_valued_20 : decode cX9_valued 20 = .ok (.iload 4, 2) := dk_21 4 (dk_at dksX9_valued_0 20 rfl rfl)
theorem dX9_valued_22 : decode cX9_valued 22 = .ok (.iaload, 1) := dk_46 (dk_at dksX9_valued_0 22 rfl rfl)
theorem dX9_valued_23 : decode cX9_valued 23 = .ok (.istore 5, 2) := dk_54 5 (dk_at dksX9_valued_1 0 rfl rfl)
theorem dX9_valued_25 : decode cX9_valued 25 = .ok (.iload_n 1, 1) := dk_27 (dk_at dksX9_valued_1 2 rfl rfl)
theorem dX9_valued_26 : decode cX9_valued 26 = .ok (.iload 5, 2) := dk_21 5 (dk_at dksX9_valued_1 3 rfl rfl)
theorem dX9_valued_28 : decode cX9_valued 28 = .ok (.iconst (-1), 1) := dk_2 (dk_at dksX9_valued_1 5 rfl rfl)
theorem dX9_valued_29 : decode cX9_valued 29 = .ok (.if_icmp .ne 7, 3) := dk_160 0 7 (dk_at dksX9_valued_1 6 rfl rfl)
theorem dX9_valued_32 : decode cX9_valued 32 = .ok (.iconst 0, 1) := dk_3 (dk_at dksX9_valued_1 9 rfl rfl)
theorem dX9_valued_33 : decode cX9_valued 33 = .ok (.goto 4, 3) := dk_167 0 4 (dk_at dksX9_valued_1 10 rfl rfl)
theorem dX9_valued_36 : decode cX9_valued 36 = .ok (.iconst 1, 1) := dk_4 (dk_at dksX9_valued_1 13 rfl rfl)
theorem dX9_valued_37 : decode cX9_valued 37 = .ok (.iadd, 1) := dk_96 (dk_at dksX9_valued_1 14 rfl rfl)
theorem dX9_valued_38 : decode cX9_valued 38 = .ok (.istore_n 1, 1) := dk_60 (dk_at dksX9_valued_1 15 rfl rfl)
theorem dX9_valued_39 : decode cX9_valued 39 = .ok (.iinc 4 1, 3) := dk_132 4 1 (dk_at dksX9_valued_1 16 rfl rfl)
theorem dX9_valued_42 : decode cX9_valued 42 = .ok (.goto (-29), 3) := dk_167 255 227 (dk_at dksX9_valued_1 19 rfl rfl)
theorem dX9_valued_45 : decode cX9_valued 45 = .ok (.iload_n 1, 1) := dk_27 (dk_at dksX9_valued_1 22 rfl rfl)
theorem dX9_valued_46 : decode cX9_valued 46 = .ok (.ireturn, 1) := dk_172 (dk_at dksX9_valued_1 23 rfl rfl)
theorem q203 : (Jvm.Cond.initialized "GroupJournal$Recovery") ∈ lw_all := lw_g (lw_at lw_m1 16 rfl) rfl
theorem q324 : (Jvm.Cond.fieldLinkNest "GroupJournal$Recovery" (31 : Nat) "GroupJournal$Journal" "segments" "I" "GroupJournal") ∈ lw_tbl := lw_at lw_m1 137 rfl
theorem q538 : (Jvm.Cond.fieldLinkNest "GroupJournal$Recovery" (127 : Nat) "GroupJournal$Reading" "entryKey" "[I" "GroupJournal") ∈ lw_tbl := lw_at lw_m2 111 rfl
theorem q540 : (Jvm.Cond.fieldLinkNest "GroupJournal$Recovery" (130 : Nat) "GroupJournal$Reading" "entryValue" "[I" "GroupJournal") ∈ lw_tbl := lw_at lw_m2 113 rfl
theorem q544 : (Jvm.Cond.fieldLinkNest "GroupJournal$Recovery" (106 : Nat) "GroupJournal$Reading" "serial" "I" "GroupJournal") ∈ lw_tbl := lw_at lw_m2 117 rfl
theorem q548 : (Jvm.Cond.fieldLinkNest "GroupJournal$Recovery" (103 : Nat) "GroupJournal$Reading" "records" "I" "GroupJournal") ∈ lw_tbl := lw_at lw_m2 121 rfl
theorem q550 : (Jvm.Cond.fieldLinkNest "GroupJournal$Recovery" (126 : Nat) "GroupJournal$Reading" "end" "I" "GroupJournal") ∈ lw_tbl := lw_at lw_m2 123 rfl
theorem q577 : (Jvm.Cond.instantiable "GroupJournal$Recovery" (9 : Nat)) ∈ lw_all := lw_g (lw_at lw_m2 150 rfl) rfl
theorem q579 : (Jvm.Cond.instanceMethod ({ cls := "GroupJournal$Recovery", name := "<init>", desc := "(LGroupJournal;)V" } : Jvm.MethodName)) ∈ lw_all := lw_g (lw_at lw_m2 152 rfl) rfl
theorem q580 : (Jvm.Cond.code ({ cls := "GroupJournal$Recovery", name := "<init>", desc := "(LGroupJournal;)V" } : Jvm.MethodName) prog_19_method_1_code (2 : Nat) (Option.none : Option Jvm.ClassFile.FieldType)) ∈ lw_all := lw_g (lw_at lw_m2 153 rfl) rfl
theorem q581 : (Jvm.Cond.methodLink "GroupJournal$Recovery" (9 : Nat) ({ cls := "java/lang/Object", name := "<init>", desc := "()V" } : Jvm.MethodName)) ∈ lw_all := lw_g (lw_at lw_m2 154 rfl) rfl
theorem q582 : (Jvm.Cond.classLink "GroupJournal$Recovery" (15 : Nat) "[[I") ∈ lw_all := lw_g (lw_at lw_m2 155 rfl) rfl
theorem q584 : (Jvm.Cond.fieldLink "GroupJournal$Recovery" (17 : Nat) "GroupJournal$Recovery" "disk" "[[I") ∈ lw_all := lw_g (lw_at lw_m2 157 rfl) rfl
theorem q586 : (Jvm.Cond.fieldLink "GroupJournal$Recovery" (20 : Nat) "GroupJournal$Recovery" "last" "[I") ∈ lw_all := lw_g (lw_at lw_m2 159 rfl) rfl
theorem q588 : (Jvm.Cond.fieldLink "GroupJournal$Recovery" (24 : Nat) "GroupJournal$Recovery" "values" "[I") ∈ lw_all := lw_g (lw_at lw_m2 161 rfl) rfl
theorem q591 : (Jvm.Cond.fieldLink "GroupJournal$Recovery" (50 : Nat) "GroupJournal$Recovery" "segment" "I") ∈ lw_all := lw_g (lw_at lw_m2 164 rfl) rfl
theorem q594 : (Jvm.Cond.fieldLink "GroupJournal$Recovery" (53 : Nat) "GroupJournal$Recovery" "end" "I") ∈ lw_all := lw_g (lw_at lw_m2 167 rfl) rfl
theorem q597 : (Jvm.Cond.fieldLink "GroupJournal$Recovery" (56 : Nat) "GroupJournal$Recovery" "serial" "I") ∈ lw_all := lw_g (lw_at lw_m2 170 rfl) rfl
theorem q599 : (Jvm.Cond.fieldLink "GroupJournal$Recovery" (62 : Nat) "GroupJournal$Recovery" "next" "I") ∈ lw_all := lw_g (lw_at lw_m2 172 rfl) rfl
theorem q602 : (Jvm.Cond.fieldLink "GroupJournal$Recovery" (65 : Nat) "GroupJournal$Recovery" "isDamaged" "Z") ∈ lw_all := lw_g (lw_at lw_m2 175 rfl) rfl
theorem q605 : (Jvm.Cond.fieldLink "GroupJournal$Recovery" (3 : Nat) "GroupJournal$Recovery" "this$0" "LGroupJournal;") ∈ lw_all := lw_g (lw_at lw_m2 178 rfl) rfl
theorem q606 : (Jvm.Cond.laysFinal "GroupJournal$Recovery" "GroupJournal$Recovery" "disk" "[[I") ∈ lw_all := lw_g (lw_at lw_m2 179 rfl) rfl
theorem q607 : (Jvm.Cond.soleField "GroupJournal$Recovery" "disk") ∈ lw_all := lw_g (lw_at lw_m2 180 rfl) rfl
theorem q608 : (Jvm.Cond.laysFinal "GroupJournal$Recovery" "GroupJournal$Recovery" "last" "[I") ∈ lw_all := lw_g (lw_at lw_m2 181 rfl) rfl
theorem q609 : (Jvm.Cond.soleField "GroupJournal$Recovery" "last") ∈ lw_all := lw_g (lw_at lw_m2 182 rfl) rfl
theorem q610 : (Jvm.Cond.laysFinal "GroupJournal$Recovery" "GroupJournal$Recovery" "values" "[I") ∈ lw_all := lw_g (lw_at lw_m2 183 rfl) rfl
theorem q611 : (Jvm.Cond.soleField "GroupJournal$Recovery" "values") ∈ lw_all := lw_g (lw_at lw_m2 184 rfl) rfl
theorem q612 : (Jvm.Cond.lays "GroupJournal$Recovery" "GroupJournal$Recovery" "segment" "I") ∈ lw_all := lw_g (lw_at lw_m2 185 rfl) rfl
theorem q613 : (Jvm.Cond.soleField "GroupJournal$Recovery" "segment") ∈ lw_all := lw_g (lw_at lw_m2 186 rfl) rfl
theorem q614 : (Jvm.Cond.lays "GroupJournal$Recovery" "GroupJournal$Recovery" "end" "I") ∈ lw_all := lw_g (lw_at lw_m2 187 rfl) rfl
theorem q615 : (Jvm.Cond.soleField "GroupJournal$Recovery" "end") ∈ lw_all := lw_g (lw_at lw_m2 188 rfl) rfl
theorem q616 : (Jvm.Cond.lays "GroupJournal$Recovery" "GroupJournal$Recovery" "serial" "I") ∈ lw_all := lw_g (lw_at lw_m2 189 rfl) rfl
theorem q617 : (Jvm.Cond.soleField "GroupJournal$Recovery" "serial") ∈ lw_all := lw_g (lw_at lw_m2 190 rfl) rfl
theorem q618 : (Jvm.Cond.lays "GroupJournal$Recovery" "GroupJournal$Recovery" "next" "I") ∈ lw_all := lw_g (lw_at lw_m2 191 rfl) rfl
theorem q619 : (Jvm.Cond.soleField "GroupJournal$Recovery" "next") ∈ lw_all := lw_g (lw_at lw_m2 192 rfl) rfl
theorem q620 : (Jvm.Cond.lays "GroupJournal$Recovery" "GroupJournal$Recovery" "isDamaged" "Z") ∈ lw_all := lw_g (lw_at lw_m2 193 rfl) rfl
theorem q621 : (Jvm.Cond.soleField "GroupJournal$Recovery" "isDamaged") ∈ lw_all := lw_g (lw_at lw_m2 194 rfl) rfl
theorem q622 : (Jvm.Cond.laysFinal "GroupJournal$Recovery" "GroupJournal$Recovery" "this$0" "LGroupJournal;") ∈ lw_all := lw_g (lw_at lw_m2 195 rfl) rfl
theorem q623 : (Jvm.Cond.soleField "GroupJournal$Recovery" "this$0") ∈ lw_all := lw_g (lw_at lw_m2 196 rfl) rfl
theorem q624 : (Jvm.Cond.superclass "GroupJournal$Recovery" "java/lang/Object") ∈ lw_all := lw_g (lw_at lw_m2 197 rfl) rfl
theorem q747 : (Jvm.Cond.fieldLinkNest "GroupJournal$Recovery" (59 : Nat) "GroupJournal$State" "snap" "I" "GroupJournal") ∈ lw_tbl := lw_at lw_m3 80 rfl
theorem q766 : (Jvm.Cond.fieldLinkNest "GroupJournal$Recovery" (41 : Nat) "GroupJournal$State" "disk" "[[I" "GroupJournal") ∈ lw_tbl := lw_at lw_m3 99 rfl
theorem q771 : (Jvm.Cond.fieldLinkNest "GroupJournal$Recovery" (44 : Nat) "GroupJournal$State" "where" "[I" "GroupJournal") ∈ lw_tbl := lw_at lw_m3 104 rfl
theorem q773 : (Jvm.Cond.fieldLinkNest "GroupJournal$Recovery" (47 : Nat) "GroupJournal$State" "octets" "[I" "GroupJournal") ∈ lw_tbl := lw_at lw_m3 106 rfl
theorem q781 : (Jvm.Cond.fieldLinkNest "GroupJournal$Recovery" (73 : Nat) "GroupJournal$State" "snapTable" "Ljava/util/HashMap;" "GroupJournal") ∈ lw_tbl := lw_at lw_m3 114 rfl
theorem q849 : (Jvm.Cond.fieldLinkNest "GroupJournal$Recovery" (27 : Nat) "GroupJournal" "journal" "LGroupJournal$Journal;" "GroupJournal") ∈ lw_tbl := lw_at lw_m3 182 rfl
theorem q866 : (Jvm.Cond.fieldLinkNest "GroupJournal$Recovery" (89 : Nat) "GroupJournal" "reading" "LGroupJournal$Reading;" "GroupJournal") ∈ lw_tbl := lw_at lw_m3 199 rfl
theorem q1293 : (Jvm.Cond.selects "GroupJournal$Recovery" ({ cls := "java/lang/Object", name := "getClass", desc := "()Ljava/lang/Class;" } : Jvm.MethodName) ({ cls := "java/lang/Object", name := "getClass", desc := "()Ljava/lang/Class;" } : Jvm.MethodName)) ∈ lw_all := lw_g (lw_at lw_m5 146 rfl) rfl
theorem q1675 : (Jvm.Cond.selects "GroupJournal$Recovery" ({ cls := "java/lang/Object", name := "hashCode", desc := "()I" } : Jvm.MethodName) ({ cls := "java/lang/Object", name := "hashCode", desc := "()I" } : Jvm.MethodName)) ∈ lw_all := lw_g (lw_at lw_m7 48 rfl) rfl
theorem q1724 : (Jvm.Cond.selects "GroupJournal$Recovery" ({ cls := "java/lang/Object", name := "equals", desc := "(Ljava/lang/Object;)Z" } : Jvm.MethodName) ({ cls := "java/lang/Object", name := "equals", desc := "(Ljava/lang/Object;)Z" } : Jvm.MethodName)) ∈ lw_all := lw_g (lw_at lw_m7 97 rfl) rfl
theorem q2876 : (Jvm.Cond.instanceMethod ({ cls := "GroupJournal$Recovery", name := "takes", desc := "(LGroupJournal$State;I)LGroupJournal$Recovery;" } : Jvm.MethodName)) ∈ lw_all := lw_g (lw_at lw_m12 49 rfl) rfl
theorem q2877 : (Jvm.Cond.selects "GroupJournal$Recovery" ({ cls := "GroupJournal$Recovery", name := "takes", desc := "(LGroupJournal$State;I)LGroupJournal$Recovery;" } : Jvm.MethodName) ({ cls := "GroupJournal$Recovery", name := "takes", desc := "(LGroupJournal$State;I)LGroupJournal$Recovery;" } : Jvm.MethodName)) ∈ lw_all := lw_g (lw_at lw_m12 50 rfl) rfl
theorem q2878 : (Jvm.Cond.code ({ cls := "GroupJournal$Recovery", name := "takes", desc := "(LGroupJournal$State;I)LGroupJournal$Recovery;" } : Jvm.MethodName) prog_19_method_2_code (5 : Nat) (Option.some (Jvm.ClassFile.FieldType.object "GroupJournal$Recovery"))) ∈ lw_all := lw_g (lw_at lw_m12 51 rfl) rfl
theorem q2879 : (Jvm.Cond.methodLinkNest "GroupJournal$Recovery" (37 : Nat) ({ cls := "GroupJournal", name := "length", desc := "()I" } : Jvm.MethodName) "GroupJournal") ∈ lw_tbl := lw_at lw_m12 52 rfl
theorem q2881 : (Jvm.Cond.instanceMethod ({ cls := "GroupJournal$Recovery", name := "reads", desc := "(LGroupJournal$State;)LGroupJournal$Recovery;" } : Jvm.MethodName)) ∈ lw_all := lw_g (lw_at lw_m12 54 rfl) rfl
theorem q2882 : (Jvm.Cond.selects "GroupJournal$Recovery" ({ cls := "GroupJournal$Recovery", name := "reads", desc := "(LGroupJournal$State;)LGroupJournal$Recovery;" } : Jvm.MethodName) ({ cls := "GroupJournal$Recovery", name := "reads", desc := "(LGroupJournal$State;)LGroupJournal$Recovery;" } : Jvm.MethodName)) ∈ lw_all := lw_g (lw_at lw_m12 55 rfl) rfl
theorem q2883 : (Jvm.Cond.code ({ cls := "GroupJournal$Recovery", name := "reads", desc := "(LGroupJournal$State;)LGroupJournal$Recovery;" } : Jvm.MethodName) prog_19_method_4_code (5 : Nat) (Option.some (Jvm.ClassFile.FieldType.object "GroupJournal$Recovery"))) ∈ lw_all := lw_g (lw_at lw_m12 56 rfl) rfl
theorem q2884 : (Jvm.Cond.methodLink "GroupJournal$Recovery" (69 : Nat) ({ cls := "GroupJournal$Recovery", name := "nothing", desc := "(LGroupJournal$State;)V" } : Jvm.MethodName)) ∈ lw_all := lw_g (lw_at lw_m12 57 rfl) rfl
theorem q2885 : (Jvm.Cond.privateMethod ({ cls := "GroupJournal$Recovery", name := "nothing", desc := "(LGroupJournal$State;)V" } : Jvm.MethodName)) ∈ lw_tbl := lw_at lw_m12 58 rfl
theorem q2886 : (Jvm.Cond.instanceMethod ({ cls := "GroupJournal$Recovery", name := "nothing", desc := "(LGroupJournal$State;)V" } : Jvm.MethodName)) ∈ lw_all := lw_g (lw_at lw_m12 59 rfl) rfl
theorem q2887 : (Jvm.Cond.code ({ cls := "GroupJournal$Recovery", name := "nothing", desc := "(LGroupJournal$State;)V" } : Jvm.MethodName) prog_19_method_3_code (3 : Nat) (Option.none : Option Jvm.ClassFile.FieldType)) ∈ lw_all := lw_g (lw_at lw_m12 60 rfl) rfl
theorem q2888 : (Jvm.Cond.methodLinkNest "GroupJournal$Recovery" (77 : Nat) ({ cls := "GroupJournal", name := "valueIn", desc := "(Ljava/util/HashMap;I)I" } : Jvm.MethodName) "GroupJournal") ∈ lw_tbl := lw_at lw_m12 61 rfl
theorem q2889 : (Jvm.Cond.methodLink "GroupJournal$Recovery" (81 : Nat) ({ cls := "GroupJournal$Recovery", name := "firstFor", desc := "(I)I" } : Jvm.MethodName)) ∈ lw_all := lw_g (lw_at lw_m12 62 rfl) rfl
theorem q2890 : (Jvm.Cond.privateMethod ({ cls := "GroupJournal$Recovery", name := "firstFor", desc := "(I)I" } : Jvm.MethodName)) ∈ lw_tbl := lw_at lw_m12 63 rfl
theorem q2891 : (Jvm.Cond.instanceMethod ({ cls := "GroupJournal$Recovery", name := "firstFor", desc := "(I)I" } : Jvm.MethodName)) ∈ lw_all := lw_g (lw_at lw_m12 64 rfl) rfl
theorem q2892 : (Jvm.Cond.code ({ cls := "GroupJournal$Recovery", name := "firstFor", desc := "(I)I" } : Jvm.MethodName) prog_19_method_5_code (4 : Nat) (Option.some Jvm.ClassFile.FieldType.int)) ∈ lw_all := lw_g (lw_at lw_m12 65 rfl) rfl
theorem q2893 : (Jvm.Cond.methodLinkNest "GroupJournal$Recovery" (119 : Nat) ({ cls := "GroupJournal", name := "isHead", desc := "([I)Z" } : Jvm.MethodName) "GroupJournal") ∈ lw_tbl := lw_at lw_m12 66 rfl
theorem q2894 : (Jvm.Cond.methodLinkNest "GroupJournal$Recovery" (85 : Nat) ({ cls := "GroupJournal", name := "firstOf", desc := "([I)I" } : Jvm.MethodName) "GroupJournal") ∈ lw_tbl := lw_at lw_m12 67 rfl
theorem q2895 : (Jvm.Cond.methodLinkNest "GroupJournal$Recovery" (123 : Nat) ({ cls := "GroupJournal", name := "serialOf", desc := "([I)I" } : Jvm.MethodName) "GroupJournal") ∈ lw_tbl := lw_at lw_m12 68 rfl
theorem q2896 : (Jvm.Cond.methodLink "GroupJournal$Recovery" (93 : Nat) ({ cls := "GroupJournal$Reading", name := "of", desc := "([I)LGroupJournal$Reading;" } : Jvm.MethodName)) ∈ lw_all := lw_g (lw_at lw_m12 69 rfl) rfl
theorem q2897 : (Jvm.Cond.methodLink "GroupJournal$Recovery" (99 : Nat) ({ cls := "GroupJournal$Recovery", name := "replays", desc := "(LGroupJournal$Reading;III)V" } : Jvm.MethodName)) ∈ lw_all := lw_g (lw_at lw_m12 70 rfl) rfl
theorem q2898 : (Jvm.Cond.privateMethod ({ cls := "GroupJournal$Recovery", name := "replays", desc := "(LGroupJournal$Reading;III)V" } : Jvm.MethodName)) ∈ lw_tbl := lw_at lw_m12 71 rfl
theorem q2899 : (Jvm.Cond.instanceMethod ({ cls := "GroupJournal$Recovery", name := "replays", desc := "(LGroupJournal$Reading;III)V" } : Jvm.MethodName)) ∈ lw_all := lw_g (lw_at lw_m12 72 rfl) rfl
theorem q2900 : (Jvm.Cond.code ({ cls := "GroupJournal$Recovery", name := "replays", desc := "(LGroupJournal$Reading;III)V" } : Jvm.MethodName) prog_19_method_6_code (6 : Nat) (Option.none : Option Jvm.ClassFile.FieldType)) ∈ lw_all := lw_g (lw_at lw_m12 73 rfl) rfl
theorem q2901 : (Jvm.Cond.methodLink "GroupJournal$Recovery" (107 : Nat) ({ cls := "GroupJournal$Recovery", name := "following", desc := "(II)I" } : Jvm.MethodName)) ∈ lw_all := lw_g (lw_at lw_m12 74 rfl) rfl
theorem q2902 : (Jvm.Cond.privateMethod ({ cls := "GroupJournal$Recovery", name := "following", desc := "(II)I" } : Jvm.MethodName)) ∈ lw_tbl := lw_at lw_m12 75 rfl
theorem q2903 : (Jvm.Cond.instanceMethod ({ cls := "GroupJournal$Recovery", name := "following", desc := "(II)I" } : Jvm.MethodName)) ∈ lw_all := lw_g (lw_at lw_m12 76 rfl) rfl
theorem q2904 : (Jvm.Cond.code ({ cls := "GroupJournal$Recovery", name := "following", desc := "(II)I" } : Jvm.MethodName) prog_19_method_7_code (5 : Nat) (Option.some Jvm.ClassFile.FieldType.int)) ∈ lw_all := lw_g (lw_at lw_m12 77 rfl) rfl
theorem q2905 : (Jvm.Cond.methodLink "GroupJournal$Recovery" (111 : Nat) ({ cls := "GroupJournal$Recovery", name := "isGreater", desc := "(I)Z" } : Jvm.MethodName)) ∈ lw_all := lw_g (lw_at lw_m12 78 rfl) rfl
theorem q2906 : (Jvm.Cond.privateMethod ({ cls := "GroupJournal$Recovery", name := "isGreater", desc := "(I)Z" } : Jvm.MethodName)) ∈ lw_tbl := lw_at lw_m12 79 rfl
theorem q2907 : (Jvm.Cond.instanceMethod ({ cls := "GroupJournal$Recovery", name := "isGreater", desc := "(I)Z" } : Jvm.MethodName)) ∈ lw_all := lw_g (lw_at lw_m12 80 rfl) rfl
theorem q2908 : (Jvm.Cond.code ({ cls := "GroupJournal$Recovery", name := "isGreater", desc := "(I)Z" } : Jvm.MethodName) prog_19_method_8_code (3 : Nat) (Option.some Jvm.ClassFile.FieldType.boolean)) ∈ lw_all := lw_g (lw_at lw_m12 81 rfl) rfl
theorem q2909 : (Jvm.Cond.methodLink "GroupJournal$Recovery" (115 : Nat) ({ cls := "GroupJournal$Reading", name := "isMore", desc := "()Z" } : Jvm.MethodName)) ∈ lw_all := lw_g (lw_at lw_m12 82 rfl) rfl
theorem q2914 : (Jvm.Cond.instanceMethod ({ cls := "GroupJournal$Recovery", name := "valued", desc := "()I" } : Jvm.MethodName)) ∈ lw_all := lw_g (lw_at lw_m12 87 rfl) rfl
theorem q2915 : (Jvm.Cond.selects "GroupJournal$Recovery" ({ cls := "GroupJournal$Recovery", name := "valued", desc := "()I" } : Jvm.MethodName) ({ cls := "GroupJournal$Recovery", name := "valued", desc := "()I" } : Jvm.MethodName)) ∈ lw_all := lw_g (lw_at lw_m12 88 rfl) rfl
theorem q2916 : (Jvm.Cond.code ({ cls := "GroupJournal$Recovery", name := "valued", desc := "()I" } : Jvm.MethodName) prog_19_method_9_code (6 : Nat) (Option.some Jvm.ClassFile.FieldType.int)) ∈ lw_all := lw_g (lw_at lw_m12 89 rfl) rfl
theorem q4170 : (Jvm.Cond.castable "GroupJournal$Recovery" "java/lang/Object") ∈ lw_tbl := lw_at lw_m17 143 rfl
theorem in_X9 : ∀ w ∈ wsX90, w ∈ lw_all := lw_in wsX90 [606, 608, 610, 612, 614, 616, 618, 620, 622] (by decide +kernel) (by decide +kernel)

/-! GroupJournal$Entry -/
set_option maxRecDepth 100000
def RX12 : String := "GroupJournal$Entry"
def TX12 : u_T := fun k => match k with
  | 0 => ("GroupJournal$Entry", "number", "I", true)
  | 1 => ("GroupJournal$Entry", "key", "I", true)
  | 2 => ("GroupJournal$Entry", "value", "I", true)
  | 3 => ("GroupJournal$Entry", "size", "I", true)
  | 4 => ("GroupJournal$Entry", "tick", "I", true)
  | _ => ("GroupJournal$Entry", "told", "Ljava/lang/Integer;", true)
def tyX12 : Nat → FieldType := fun k => match k with
  | 0 => .int
  | 1 => .int
  | 2 => .int
  | 3 => .int
  | 4 => .int
  | _ => .object "java/lang/Integer"
abbrev wsX120 : List Cond := u_ws RX12 TX12 6
theorem nmX12 : ∀ a, a < 6 → ∀ b, b < 6 → a ≠ b → (TX12 a).2.1 ≠ (TX12 b).2.1 := by decide +kernel
theorem tyX12_ok : ∀ k, k < 6 → parseFieldDescriptor (TX12 k).2.2.1 = some (tyX12 k) := by decide +kernel
abbrev cX12_init : ByteArray := prog_5_method_1_code
def yX12_init : MethodName := ⟨RX12, "<init>", "(IIIII)V"⟩
def dkwX12_init_1 : List UInt8 := [181, 0, 19, 42, 21, 5, 181, 0, 22, 42, 29, 184, 0, 25, 181, 0, 31, 177]
abbrev dktX12_init_1 : List UInt8 := dkwX12_init_1 ++ []
def dkwX12_init_0 : List UInt8 := [42, 183, 0, 1, 42, 27, 181, 0, 7, 42, 28, 181, 0, 13, 42, 29, 181, 0, 16, 42, 21, 4]
abbrev dktX12_init_0 : List UInt8 := dkwX12_init_0 ++ dktX12_init_1
theorem dksX12_init_0 : cX12_init.data.toList.drop 0 = dktX12_init_0 := by decide +kernel
theorem dksX12_init_1 : cX12_init.data.toList.drop 22 = dktX12_init_1 := dk_seg dksX12_init_0 22 rfl rfl
theorem dX12_init_0 : decode cX12_init 0 = .ok (.aload_n 0, 1) := dk_42 (dk_at dksX12_init_0 0 rfl rfl)
theorem dX12_init_1 : decode cX12_init 1 = .ok (.invokespecial 1, 3) := dk_183 0 1 (dk_at dksX12_init_0 1 rfl rfl)
theorem dX12_init_4 : decode cX12_init 4 = .ok (.aload_n 0, 1) := dk_42 (dk_at dksX12_init_0 4 rfl rfl)
theorem dX12_init_5 : decode cX12_init 5 = .ok (.iload_n 1, 1) := dk_27 (dk_at dksX12_init_0 5 rfl rfl)
theorem dX12_init_6 : decode cX12_init 6 = .ok (.putfield 7, 3) := dk_181 0 7 (dk_at dksX12_init_0 6 rfl rfl)
theorem dX12_init_9 : decode cX12_init 9 = .ok (.aload_n 0, 1) := dk_42 (dk_at dksX12_init_0 9 rfl rfl)
theorem dX12_init_10 : decode cX12_init 10 = .ok (.iload_n 2, 1) := dk_28 (dk_at dksX12_init_0 10 rfl rfl)
theorem dX12_init_11 : decode cX12_init 11 = .ok (.putfield 13, 3) := dk_181 0 13 (dk_at dksX12_init_0 11 rfl rfl)
theorem dX12_init_14 : decode cX12_init 14 = .ok (.aload_n 0, 1) := dk_42 (dk_at dksX12_init_0 14 rfl rfl)
theorem dX12_init_15 : decode cX12_init 15 = .ok (.iload_n 3, 1) := dk_29 (dk_at dksX12_init_0 15 rfl rfl)
theorem dX12_init_16 : decode cX12_init 16 = .ok (.putfield 16, 3) := dk_181 0 16 (dk_at dksX12_init_0 16 rfl rfl)
theorem dX12_init_19 : decode cX12_init 19 = .ok (.aload_n 0, 1) := dk_42 (dk_at dksX12_init_0 19 rfl rfl)
theorem dX12_init_20 : decode cX12_init 20 = .ok (.iload 4, 2) := dk_21 4 (dk_at dksX12_init_0 20 rfl rfl)
theorem dX12_init_22 : decode cX12_init 22 = .ok (.putfield 19, 3) := dk_181 0 19 (dk_at dksX12_init_1 0 rfl rfl)
theorem dX12_init_25 : decode cX12_init 25 = .ok (.aload_n 0, 1) := dk_42 (dk_at dksX12_init_1 3 rfl rfl)
theorem dX12_init_26 : decode cX12_init 26 = .ok (.iload 5, 2) := dk_21 5 (dk_at dksX12_init_1 4 rfl rfl)
theorem dX12_init_28 : decode cX12_init 28 = .ok (.putfield 22, 3) := dk_181 0 22 (dk_at dksX12_init_1 6 rfl rfl)
theorem dX12_init_31 : decode cX12_init 31 = .ok (.aload_n 0, 1) := dk_42 (dk_at dksX12_init_1 9 rfl rfl)
theorem dX12_init_32 : decode cX12_init 32 = .ok (.iload_n 3, 1) := dk_29 (dk_at dksX12_init_1 10 rfl rfl)
theorem dX12_init_33 : decode cX12_init 33 = .ok (.invokestatic 25, 3) := dk_184 0 25 (dk_at dksX12_init_1 11 rfl rfl)
theorem dX12_init_36 : decode cX12_init 36 = .ok (.putfield 31, 3) := dk_181 0 31 (dk_at dksX12_init_1 14 rfl rfl)
theorem dX12_init_39 : decode cX12_init 39 = .ok (.return_, 1) := dk_177 (dk_at dksX12_init_1 17 rfl rfl)
abbrev cX12_payload : ByteArray := prog_5_method_2_code
def yX12_payload : MethodName := ⟨RX12, "payload", "()I"⟩
def dkwX12_payload_0 : List UInt8 := [6, 42, 180, 0, 19, 96, 172]
abbrev dktX12_payload_0 : List UInt8 := dkwX12_payload_0 ++ []
theorem dksX12_payload_0 : cX12_payload.data.toList.drop 0 = dktX12_payload_0 := by decide +kernel
theorem dX12_payload_0 : decode cX12_payload 0 = .ok (.iconst 3, 1) := dk_6 (dk_at dksX12_payload_0 0 rfl rfl)
theorem dX12_payload_1 : decode cX12_payload 1 = .ok (.aload_n 0, 1) := dk_42 (dk_at dksX12_payload_0 1 rfl rfl)
theorem dX12_payload_2 : decode cX12_payload 2 = .ok (.getfield 19, 3) := dk_180 0 19 (dk_at dksX12_payload_0 2 rfl rfl)
theorem dX12_payload_5 : decode cX12_payload 5 = .ok (.iadd, 1) := dk_96 (dk_at dksX12_payload_0 5 rfl rfl)
theorem dX12_payload_6 : decode cX12_payload 6 = .ok (.ireturn, 1) := dk_172 (dk_at dksX12_payload_0 6 rfl rfl)
abbrev cX12_octetAt : ByteArray := prog_5_method_3_code
def yX12_octetAt : MethodName := ⟨RX12, "octetAt", "(I)I"⟩
def dkwX12_octetAt_2 : List UInt8 := [16, 7, 27, 6, 100, 104, 96, 17, 0, 255, 126, 172]
abbrev dktX12_octetAt_2 : List UInt8 := dkwX12_octetAt_2 ++ []
def dkwX12_octetAt_1 : List UInt8 := [167, 0, 34, 27, 5, 160, 0, 14, 42, 180, 0, 16, 17, 0, 255, 126, 167, 0, 18, 42, 180, 0, 16]
abbrev dktX12_octetAt_1 : List UInt8 := dkwX12_octetAt_1 ++ dktX12_octetAt_2
def dkwX12_octetAt_0 : List UInt8 := [27, 154, 0, 10, 42, 180, 0, 13, 167, 0, 49, 27, 4, 160, 0, 13, 42, 180, 0, 16, 16, 8, 122]
abbrev dktX12_octetAt_0 : List UInt8 := dkwX12_octetAt_0 ++ dktX12_octetAt_1
theorem dksX12_octetAt_0 : cX12_octetAt.data.toList.drop 0 = dktX12_octetAt_0 := by decide +kernel
theorem dksX12_octetAt_1 : cX12_octetAt.data.toList.drop 23 = dktX12_octetAt_1 := dk_seg dksX12_octetAt_0 23 rfl rfl
theorem dksX12_octetAt_2 : cX12_octetAt.data.toList.drop 46 = dktX12_octetAt_2 := dk_seg dksX12_octetAt_1 23 rfl rfl
theorem dX12_octetAt_0 : decode cX12_octetAt 0 = .ok (.iload_n 1, 1) := dk_27 (dk_at dksX12_octetAt_0 0 rfl rfl)
theorem dX12_octetAt_1 : decode cX12_octetAt 1 = .ok (.ifCond .ne 10, 3) := dk_154 0 10 (dk_at dksX12_octetAt_0 1 rfl rfl)
theorem dX12_octetAt_4 : decode cX12_octetAt 4 = .ok (.aload_n 0, 1) := dk_42 (dk_at dksX12_octetAt_0 4 rfl rfl)
theorem dX12_octetAt_5 : decode cX12_octetAt 5 = .ok (.getfield 13, 3) := dk_180 0 13 (dk_at dksX12_octetAt_0 5 rfl rfl)
theorem dX12_octetAt_8 : decode cX12_octetAt 8 = .ok (.goto 49, 3) := dk_167 0 49 (dk_at dksX12_octetAt_0 8 rfl rfl)
theorem dX12_octetAt_11 : decode cX12_octetAt 11 = .ok (.iload_n 1, 1) := dk_27 (dk_at dksX12_octetAt_0 11 rfl rfl)
theorem dX12_octetAt_12 : decode cX12_octetAt 12 = .ok (.iconst 1, 1) := dk_4 (dk_at dksX12_octetAt_0 12 rfl rfl)
theorem dX12_octetAt_13 : decode cX12_octetAt 13 = .ok (.if_icmp .ne 13, 3) := dk_160 0 13 (dk_at dksX12_octetAt_0 13 rfl rfl)
theorem dX12_octetAt_16 : decode cX12_octetAt 16 = .ok (.aload_n 0, 1) := dk_42 (dk_at dksX12_octetAt_0 16 rfl rfl)
theorem dX12_octetAt_17 : decode cX12_octetAt 17 = .ok (.getfield 16, 3) := dk_180 0 16 (dk_at dksX12_octetAt_0 17 rfl rfl)
theorem dX12_octetAt_20 : decode cX12_octetAt 20 = .ok (.bipush 8, 2) := dk_16 8 (dk_at dksX12_octetAt_0 20 rfl rfl)
theorem dX12_octetAt_22 : decode cX12_octetAt 22 = .ok (.ishr, 1) := dk_122 (dk_at dksX12_octetAt_0 22 rfl rfl)
theorem dX12_octetAt_23 : decode cX12_octetAt 23 = .ok (.goto 34, 3) := dk_167 0 34 (dk_at dksX12_octetAt_1 0 rfl rfl)
theorem dX12_octetAt_26 : decode cX12_octetAt 26 = .ok (.iload_n 1, 1) := dk_27 (dk_at dksX12_octetAt_1 3 rfl rfl)
theorem dX12_octetAt_27 : decode cX12_octetAt 27 = .ok (.iconst 2, 1) := dk_5 (dk_at dksX12_octetAt_1 4 rfl rfl)
theorem dX12_octetAt_28 : decode cX12_octetAt 28 = .ok (.if_icmp .ne 14, 3) := dk_160 0 14 (dk_at dksX12_octetAt_1 5 rfl rfl)
theorem dX12_octetAt_31 : decode cX12_octetAt 31 = .ok (.aload_n 0, 1) := dk_42 (dk_at dksX12_octetAt_1 8 rfl rfl)
theorem dX12_octetAt_32 : decode cX12_octetAt 32 = .ok (.getfield 16, 3) := dk_180 0 16 (dk_at dksX12_octetAt_1 9 rfl rfl)
theorem dX12_octetAt_35 : decode cX12_octetAt 35 = .ok (.sipush 255, 3) := dk_17 0 255 (dk_at dksX12_octetAt_1 12 rfl rfl)
theorem dX12_octetAt_38 : decode cX12_octetAt 38 = .ok (.iand, 1) := dk_126 (dk_at dksX12_octetAt_1 15 rfl rfl)
theorem dX12_octetAt_39 : decode cX12_octetAt 39 = .ok (.goto 18, 3) := dk_167 0 18 (dk_at dksX12_octetAt_1 16 rfl rfl)
theorem dX12_octetAt_42 : decode cX12_octetAt 42 = .ok (.aload_n 0, 1) := dk_42 (dk_at dksX12_octetAt_1 19 rfl rfl)
theorem dX12_octetAt_43 : decode cX12_octetAt 43 = .ok (.getfield 16, 3) := dk_180 0 16 (dk_at dksX12_octetAt_1 20 rfl rfl)
theorem dX12_octetAt_46 : decode cX12_octetAt 46 = .ok (.bipush 7, 2) := dk_16 7 (dk_at dksX12_octetAt_2 0 rfl rfl)
theorem dX12_octetAt_48 : decode cX12_octetAt 48 = .ok (.iload_n 1, 1) := dk_27 (dk_at dksX12_octetAt_2 2 rfl rfl)
theorem dX12_octetAt_49 : decode cX12_octetAt 49 = .ok (.iconst 3, 1) := dk_6 (dk_at dksX12_octetAt_2 3 rfl rfl)
theorem dX12_octetAt_50 : decode cX12_octetAt 50 = .ok (.isub, 1) := dk_100 (dk_at dksX12_octetAt_2 4 rfl rfl)
theorem dX12_octetAt_51 : decode cX12_octetAt 51 = .ok (.imul, 1) := dk_104 (dk_at dksX12_octetAt_2 5 rfl rfl)
theorem dX12_octetAt_52 : decode cX12_octetAt 52 = .ok (.iadd, 1) := dk_96 (dk_at dksX12_octetAt_2 6 rfl rfl)
theorem dX12_octetAt_53 : decode cX12_octetAt 53 = .ok (.sipush 255, 3) := dk_17 0 255 (dk_at dksX12_octetAt_2 7 rfl rfl)
theorem dX12_octetAt_56 : decode cX12_octetAt 56 = .ok (.iand, 1) := dk_126 (dk_at dksX12_octetAt_2 10 rfl rfl)
theorem dX12_octetAt_57 : decode cX12_octetAt 57 = .ok (.ireturn, 1) := dk_172 (dk_at dksX12_octetAt_2 11 rfl rfl)
theorem q219 : (Jvm.Cond.initialized "GroupJournal$Entry") ∈ lw_all := lw_g (lw_at lw_m1 32 rfl) rfl
theorem q1181 : (Jvm.Cond.instantiable "GroupJournal$Entry" (6 : Nat)) ∈ lw_all := lw_g (lw_at lw_m5 34 rfl) rfl
theorem q1184 : (Jvm.Cond.instanceMethod ({ cls := "GroupJournal$Entry", name := "<init>", desc := "(IIIII)V" } : Jvm.MethodName)) ∈ lw_all := lw_g (lw_at lw_m5 37 rfl) rfl
theorem q1185 : (Jvm.Cond.code ({ cls := "GroupJournal$Entry", name := "<init>", desc := "(IIIII)V" } : Jvm.MethodName) prog_5_method_1_code (6 : Nat) (Option.none : Option Jvm.ClassFile.FieldType)) ∈ lw_all := lw_g (lw_at lw_m5 38 rfl) rfl
theorem q1186 : (Jvm.Cond.methodLink "GroupJournal$Entry" (1 : Nat) ({ cls := "java/lang/Object", name := "<init>", desc := "()V" } : Jvm.MethodName)) ∈ lw_all := lw_g (lw_at lw_m5 39 rfl) rfl
theorem q1187 : (Jvm.Cond.methodLink "GroupJournal$Entry" (25 : Nat) ({ cls := "java/lang/Integer", name := "valueOf", desc := "(I)Ljava/lang/Integer;" } : Jvm.MethodName)) ∈ lw_all := lw_g (lw_at lw_m5 40 rfl) rfl
theorem q1207 : (Jvm.Cond.fieldLink "GroupJournal$Entry" (7 : Nat) "GroupJournal$Entry" "number" "I") ∈ lw_all := lw_g (lw_at lw_m5 60 rfl) rfl
theorem q1211 : (Jvm.Cond.fieldLink "GroupJournal$Entry" (13 : Nat) "GroupJournal$Entry" "key" "I") ∈ lw_all := lw_g (lw_at lw_m5 64 rfl) rfl
theorem q1214 : (Jvm.Cond.fieldLink "GroupJournal$Entry" (16 : Nat) "GroupJournal$Entry" "value" "I") ∈ lw_all := lw_g (lw_at lw_m5 67 rfl) rfl
theorem q1216 : (Jvm.Cond.fieldLink "GroupJournal$Entry" (19 : Nat) "GroupJournal$Entry" "size" "I") ∈ lw_all := lw_g (lw_at lw_m5 69 rfl) rfl
theorem q1218 : (Jvm.Cond.fieldLink "GroupJournal$Entry" (22 : Nat) "GroupJournal$Entry" "tick" "I") ∈ lw_all := lw_g (lw_at lw_m5 71 rfl) rfl
theorem q1220 : (Jvm.Cond.fieldLink "GroupJournal$Entry" (31 : Nat) "GroupJournal$Entry" "told" "Ljava/lang/Integer;") ∈ lw_all := lw_g (lw_at lw_m5 73 rfl) rfl
theorem q1222 : (Jvm.Cond.laysFinal "GroupJournal$Entry" "GroupJournal$Entry" "number" "I") ∈ lw_all := lw_g (lw_at lw_m5 75 rfl) rfl
theorem q1223 : (Jvm.Cond.soleField "GroupJournal$Entry" "number") ∈ lw_all := lw_g (lw_at lw_m5 76 rfl) rfl
theorem q1224 : (Jvm.Cond.laysFinal "GroupJournal$Entry" "GroupJournal$Entry" "key" "I") ∈ lw_all := lw_g (lw_at lw_m5 77 rfl) rfl
theorem q1225 : (Jvm.Cond.soleField "GroupJournal$Entry" "key") ∈ lw_all := lw_g (lw_at lw_m5 78 rfl) rfl
theorem q1226 : (Jvm.Cond.laysFinal "GroupJournal$Entry" "GroupJournal$Entry" "value" "I") ∈ lw_all := lw_g (lw_at lw_m5 79 rfl) rfl
theorem q1227 : (Jvm.Cond.soleField "GroupJournal$Entry" "value") ∈ lw_all := lw_g (lw_at lw_m5 80 rfl) rfl
theorem q1228 : (Jvm.Cond.laysFinal "GroupJournal$Entry" "GroupJournal$Entry" "size" "I") ∈ lw_all := lw_g (lw_at lw_m5 81 rfl) rfl
theorem q1229 : (Jvm.Cond.soleField "GroupJournal$Entry" "size") ∈ lw_all := lw_g (lw_at lw_m5 82 rfl) rfl
theorem q1230 : (Jvm.Cond.laysFinal "GroupJournal$Entry" "GroupJournal$Entry" "tick" "I") ∈ lw_all := lw_g (lw_at lw_m5 83 rfl) rfl
theorem q1231 : (Jvm.Cond.soleField "GroupJournal$Entry" "tick") ∈ lw_all := lw_g (lw_at lw_m5 84 rfl) rfl
theorem q1232 : (Jvm.Cond.laysFinal "GroupJournal$Entry" "GroupJournal$Entry" "told" "Ljava/lang/Integer;") ∈ lw_all := lw_g (lw_at lw_m5 85 rfl) rfl
theorem q1233 : (Jvm.Cond.soleField "GroupJournal$Entry" "told") ∈ lw_all := lw_g (lw_at lw_m5 86 rfl) rfl
theorem q1234 : (Jvm.Cond.superclass "GroupJournal$Entry" "java/lang/Object") ∈ lw_all := lw_g (lw_at lw_m5 87 rfl) rfl
theorem q1279 : (Jvm.Cond.selects "GroupJournal$Entry" ({ cls := "java/lang/Object", name := "getClass", desc := "()Ljava/lang/Class;" } : Jvm.MethodName) ({ cls := "java/lang/Object", name := "getClass", desc := "()Ljava/lang/Class;" } : Jvm.MethodName)) ∈ lw_all := lw_g (lw_at lw_m5 132 rfl) rfl
theorem q1659 : (Jvm.Cond.selects "GroupJournal$Entry" ({ cls := "java/lang/Object", name := "hashCode", desc := "()I" } : Jvm.MethodName) ({ cls := "java/lang/Object", name := "hashCode", desc := "()I" } : Jvm.MethodName)) ∈ lw_all := lw_g (lw_at lw_m7 32 rfl) rfl
theorem q1707 : (Jvm.Cond.selects "GroupJournal$Entry" ({ cls := "java/lang/Object", name := "equals", desc := "(Ljava/lang/Object;)Z" } : Jvm.MethodName) ({ cls := "java/lang/Object", name := "equals", desc := "(Ljava/lang/Object;)Z" } : Jvm.MethodName)) ∈ lw_all := lw_g (lw_at lw_m7 80 rfl) rfl
theorem q2710 : (Jvm.Cond.instanceMethod ({ cls := "GroupJournal$Entry", name := "payload", desc := "()I" } : Jvm.MethodName)) ∈ lw_all := lw_g (lw_at lw_m11 123 rfl) rfl
theorem q2711 : (Jvm.Cond.selects "GroupJournal$Entry" ({ cls := "GroupJournal$Entry", name := "payload", desc := "()I" } : Jvm.MethodName) ({ cls := "GroupJournal$Entry", name := "payload", desc := "()I" } : Jvm.MethodName)) ∈ lw_all := lw_g (lw_at lw_m11 124 rfl) rfl
theorem q2712 : (Jvm.Cond.code ({ cls := "GroupJournal$Entry", name := "payload", desc := "()I" } : Jvm.MethodName) prog_5_method_2_code (1 : Nat) (Option.some Jvm.ClassFile.FieldType.int)) ∈ lw_all := lw_g (lw_at lw_m11 125 rfl) rfl
theorem q2838 : (Jvm.Cond.instanceMethod ({ cls := "GroupJournal$Entry", name := "octetAt", desc := "(I)I" } : Jvm.MethodName)) ∈ lw_all := lw_g (lw_at lw_m12 11 rfl) rfl
theorem q2839 : (Jvm.Cond.selects "GroupJournal$Entry" ({ cls := "GroupJournal$Entry", name := "octetAt", desc := "(I)I" } : Jvm.MethodName) ({ cls := "GroupJournal$Entry", name := "octetAt", desc := "(I)I" } : Jvm.MethodName)) ∈ lw_all := lw_g (lw_at lw_m12 12 rfl) rfl
theorem q2840 : (Jvm.Cond.code ({ cls := "GroupJournal$Entry", name := "octetAt", desc := "(I)I" } : Jvm.MethodName) prog_5_method_3_code (2 : Nat) (Option.some Jvm.ClassFile.FieldType.int)) ∈ lw_all := lw_g (lw_at lw_m12 13 rfl) rfl
theorem q4177 : (Jvm.Cond.castable "GroupJournal$Entry" "java/lang/Object") ∈ lw_tbl := lw_at lw_m17 150 rfl
theorem in_X12 : ∀ w ∈ wsX120, w ∈ lw_all := lw_in wsX120 [1222, 1224, 1226, 1228, 1230, 1232] (by decide +kernel) (by decide +kernel)

/-! GroupJournal$Test -/
set_option maxRecDepth 100000
def RX13 : String := "GroupJournal$Test"
abbrev cX13_init : ByteArray := prog_22_method_1_code
def yX13_init : MethodName := ⟨RX13, "<init>", "()V"⟩
theorem dX13_init_0 : decode cX13_init 0 = .ok (.aload_n 0, 1) := by decide +kernel
theorem dX13_init_1 : decode cX13_init 1 = .ok (.invokespecial 1, 3) := by decide +kernel
theorem dX13_init_4 : decode cX13_init 4 = .ok (.return_, 1) := by decide +kernel
theorem q224 : (Jvm.Cond.initialized "GroupJournal$Test") ∈ lw_all := lw_g (lw_at lw_m1 37 rfl) rfl
theorem q1339 : (Jvm.Cond.instanceMethod ({ cls := "GroupJournal$Test", name := "<init>", desc := "()V" } : Jvm.MethodName)) ∈ lw_all := lw_g (lw_at lw_m5 192 rfl) rfl
theorem q1340 : (Jvm.Cond.code ({ cls := "GroupJournal$Test", name := "<init>", desc := "()V" } : Jvm.MethodName) prog_22_method_1_code (1 : Nat) (Option.none : Option Jvm.ClassFile.FieldType)) ∈ lw_all := lw_g (lw_at lw_m5 193 rfl) rfl
theorem q1341 : (Jvm.Cond.methodLink "GroupJournal$Test" (1 : Nat) ({ cls := "java/lang/Object", name := "<init>", desc := "()V" } : Jvm.MethodName)) ∈ lw_all := lw_g (lw_at lw_m5 194 rfl) rfl
theorem q2720 : (Jvm.Cond.declares ({ cls := "GroupJournal$Test", name := "holds", desc := "(LGroupJournal$Moment;)Z" } : Jvm.MethodName)) ∈ lw_tbl := lw_at lw_m11 133 rfl
theorem q2721 : (Jvm.Cond.sameMethod "GroupJournal$Test" "GroupJournal$Test" "holds" "(LGroupJournal$Moment;)Z") ∈ lw_all := lw_g (lw_at lw_m11 134 rfl) rfl

/-! GroupJournal$Facts -/
set_option maxRecDepth 100000
def RX14 : String := "GroupJournal$Facts"
def TX14 : u_T := fun k => match k with
  | 0 => ("GroupJournal$Facts", "tests", "Ljava/util/List;", true)
  | _ => ("GroupJournal$Facts", "all", "Z", true)
def tyX14 : Nat → FieldType := fun k => match k with
  | 0 => .object "java/util/List"
  | _ => .boolean
abbrev wsX140 : List Cond := u_ws RX14 TX14 2
theorem nmX14 : ∀ a, a < 2 → ∀ b, b < 2 → a ≠ b → (TX14 a).2.1 ≠ (TX14 b).2.1 := by decide +kernel
theorem tyX14_ok : ∀ k, k < 2 → parseFieldDescriptor (TX14 k).2.2.1 = some (tyX14 k) := by decide +kernel
abbrev cX14_init : ByteArray := prog_6_method_1_code
def yX14_init : MethodName := ⟨RX14, "<init>", "(Z)V"⟩
def dkwX14_init_0 : List UInt8 := [42, 183, 0, 1, 42, 187, 0, 7, 89, 5, 183, 0, 9, 181, 0, 12, 42, 27, 181, 0, 18, 177]
abbrev dktX14_init_0 : List UInt8 := dkwX14_init_0 ++ []
theorem dksX14_init_0 : cX14_init.data.toList.drop 0 = dktX14_init_0 := by decide +kernel
theorem dX14_init_0 : decode cX14_init 0 = .ok (.aload_n 0, 1) := dk_42 (dk_at dksX14_init_0 0 rfl rfl)
theorem dX14_init_1 : decode cX14_init 1 = .ok (.invokespecial 1, 3) := dk_183 0 1 (dk_at dksX14_init_0 1 rfl rfl)
theorem dX14_init_4 : decode cX14_init 4 = .ok (.aload_n 0, 1) := dk_42 (dk_at dksX14_init_0 4 rfl rfl)
theorem dX14_init_5 : decode cX14_init 5 = .ok (.new 7, 3) := dk_187 0 7 (dk_at dksX14_init_0 5 rfl rfl)
theorem dX14_init_8 : decode cX14_init 8 = .ok (.dup, 1) := dk_89 (dk_at dksX14_init_0 8 rfl rfl)
theorem dX14_init_9 : decode cX14_init 9 = .ok (.iconst 2, 1) := dk_5 (dk_at dksX14_init_0 9 rfl rfl)
theorem dX14_init_10 : decode cX14_init 10 = .ok (.invokespecial 9, 3) := dk_183 0 9 (dk_at dksX14_init_0 10 rfl rfl)
theorem dX14_init_13 : decode cX14_init 13 = .ok (.putfield 12, 3) := dk_181 0 12 (dk_at dksX14_init_0 13 rfl rfl)
theorem dX14_init_16 : decode cX14_init 16 = .ok (.aload_n 0, 1) := dk_42 (dk_at dksX14_init_0 16 rfl rfl)
theorem dX14_init_17 : decode cX14_init 17 = .ok (.iload_n 1, 1) := dk_27 (dk_at dksX14_init_0 17 rfl rfl)
theorem dX14_init_18 : decode cX14_init 18 = .ok (.putfield 18, 3) := dk_181 0 18 (dk_at dksX14_init_0 18 rfl rfl)
theorem dX14_init_21 : decode cX14_init 21 = .ok (.return_, 1) := dk_177 (dk_at dksX14_init_0 21 rfl rfl)
abbrev cX14_holds : ByteArray := prog_6_method_2_code
def yX14_holds : MethodName := ⟨RX14, "holds", "(LGroupJournal$Moment;)Z"⟩
def dkwX14_holds_2 : List UInt8 := [154, 0, 7, 4, 167, 0, 4, 3, 172, 132, 2, 1, 167, 255, 203, 42, 180, 0, 18, 172]
abbrev dktX14_holds_2 : List UInt8 := dkwX14_holds_2 ++ []
def dkwX14_holds_1 : List UInt8 := [185, 0, 28, 2, 0, 192, 0, 2, 43, 182, 0, 32, 42, 180, 0, 18, 159, 0, 16, 42, 180, 0, 18]
abbrev dktX14_holds_1 : List UInt8 := dkwX14_holds_1 ++ dktX14_holds_2
def dkwX14_holds_0 : List UInt8 := [3, 61, 28, 42, 180, 0, 12, 185, 0, 22, 1, 0, 162, 0, 46, 42, 180, 0, 12, 28]
abbrev dktX14_holds_0 : List UInt8 := dkwX14_holds_0 ++ dktX14_holds_1
theorem dksX14_holds_0 : cX14_holds.data.toList.drop 0 = dktX14_holds_0 := by decide +kernel
theorem dksX14_holds_1 : cX14_holds.data.toList.drop 20 = dktX14_holds_1 := dk_seg dksX14_holds_0 20 rfl rfl
theorem dksX14_holds_2 : cX14_holds.data.toList.drop 43 = dktX14_holds_2 := dk_seg dksX14_holds_1 23 rfl rfl
theorem dX14_holds_0 : decode cX14_holds 0 = .ok (.iconst 0, 1) := dk_3 (dk_at dksX14_holds_0 0 rfl rfl)
theorem dX14_holds_1 : decode cX14_holds 1 = .ok (.istore_n 2, 1) := dk_61 (dk_at dksX14_holds_0 1 rfl rfl)
theorem dX14_holds_2 : decode cX14_holds 2 = .ok (.iload_n 2, 1) := dk_28 (dk_at dksX14_holds_0 2 rfl rfl)
theorem dX14_holds_3 : decode cX14_holds 3 = .ok (.aload_n 0, 1) := dk_42 (dk_at dksX14_holds_0 3 rfl rfl)
theorem dX14_holds_4 : decode cX14_holds 4 = .ok (.getfield 12, 3) := dk_180 0 12 (dk_at dksX14_holds_0 4 rfl rfl)
theorem dX14_holds_7 : decode cX14_holds 7 = .ok (.invokeinterface 22 1, 5) := by decide +kernel
theorem dX14_holds_12 : decode cX14_holds 12 = .ok (.if_icmp .ge 46, 3) := dk_162 0 46 (dk_at dksX14_holds_0 12 rfl rfl)
theorem dX14_holds_15 : decode cX14_holds 15 = .ok (.aload_n 0, 1) := dk_42 (dk_at dksX14_holds_0 15 rfl rfl)
theorem dX14_holds_16 : decode cX14_holds 16 = .ok (.getfield 12, 3) := dk_180 0 12 (dk_at dksX14_holds_0 16 rfl rfl)
theorem dX14_holds_19 : decode cX14_holds 19 = .ok (.iload_n 2, 1) := dk_28 (dk_at dksX14_holds_0 19 rfl rfl)
theorem dX14_holds_20 : decode cX14_holds 20 = .ok (.invokeinterface 28 2, 5) := by decide +kernel
theorem dX14_holds_25 : decode cX14_holds 25 = .ok (.checkcast 2, 3) := dk_192 0 2 (dk_at dksX14_holds_1 5 rfl rfl)
theorem dX14_holds_28 : decode cX14_holds 28 = .ok (.aload_n 1, 1) := dk_43 (dk_at dksX14_holds_1 8 rfl rfl)
theorem dX14_holds_29 : decode cX14_holds 29 = .ok (.invokevirtual 32, 3) := dk_182 0 32 (dk_at dksX14_holds_1 9 rfl rfl)
theorem dX14_holds_32 : decode cX14_holds 32 = .ok (.aload_n 0, 1) := dk_42 (dk_at dksX14_holds_1 12 rfl rfl)
theorem dX14_holds_33 : decode cX14_holds 33 = .ok (.getfield 18, 3) := dk_180 0 18 (dk_at dksX14_holds_1 13 rfl rfl)
theorem dX14_holds_36 : decode cX14_holds 36 = .ok (.if_icmp .eq 16, 3) := dk_159 0 16 (dk_at dksX14_holds_1 16 rfl rfl)
theorem dX14_holds_39 : decode cX14_holds 39 = .ok (.aload_n 0, 1) := dk_42 (dk_at dksX14_holds_1 19 rfl rfl)
theorem dX14_holds_40 : decode cX14_holds 40 = .ok (.getfield 18, 3) := dk_180 0 18 (dk_at dksX14_holds_1 20 rfl rfl)
theorem dX14_holds_43 : decode cX14_holds 43 = .ok (.ifCond .ne 7, 3) := dk_154 0 7 (dk_at dksX14_holds_2 0 rfl rfl)
theorem dX14_holds_46 : decode cX14_holds 46 = .ok (.iconst 1, 1) := dk_4 (dk_at dksX14_holds_2 3 rfl rfl)
theorem dX14_holds_47 : decode cX14_holds 47 = .ok (.goto 4, 3) := dk_167 0 4 (dk_at dksX14_holds_2 4 rfl rfl)
theorem dX14_holds_50 : decode cX14_holds 50 = .ok (.iconst 0, 1) := dk_3 (dk_at dksX14_holds_2 7 rfl rfl)
theorem dX14_holds_51 : decode cX14_holds 51 = .ok (.ireturn, 1) := dk_172 (dk_at dksX14_holds_2 8 rfl rfl)
theorem dX14_holds_52 : decode cX14_holds 52 = .ok (.iinc 2 1, 3) := dk_132 2 1 (dk_at dksX14_holds_2 9 rfl rfl)
theorem dX14_holds_55 : decode cX14_holds 55 = .ok (.goto (-53), 3) := dk_167 255 203 (dk_at dksX14_holds_2 12 rfl rfl)
theorem dX14_holds_58 : decode cX14_holds 58 = .ok (.aload_n 0, 1) := dk_42 (dk_at dksX14_holds_2 15 rfl rfl)
theorem dX14_holds_59 : decode cX14_holds 59 = .ok (.getfield 18, 3) := dk_180 0 18 (dk_at dksX14_holds_2 16 rfl rfl)
theorem dX14_holds_62 : decode cX14_holds 62 = .ok (.ireturn, 1) := dk_172 (dk_at dksX14_holds_2 19 rfl rfl)
theorem q225 : (Jvm.Cond.initialized "GroupJournal$Facts") ∈ lw_all := lw_g (lw_at lw_m1 38 rfl) rfl
theorem q1280 : (Jvm.Cond.selects "GroupJournal$Facts" ({ cls := "java/lang/Object", name := "getClass", desc := "()Ljava/lang/Class;" } : Jvm.MethodName) ({ cls := "java/lang/Object", name := "getClass", desc := "()Ljava/lang/Class;" } : Jvm.MethodName)) ∈ lw_all := lw_g (lw_at lw_m5 133 rfl) rfl
theorem q1334 : (Jvm.Cond.instantiable "GroupJournal$Facts" (2 : Nat)) ∈ lw_all := lw_g (lw_at lw_m5 187 rfl) rfl
theorem q1336 : (Jvm.Cond.instanceMethod ({ cls := "GroupJournal$Facts", name := "<init>", desc := "(Z)V" } : Jvm.MethodName)) ∈ lw_all := lw_g (lw_at lw_m5 189 rfl) rfl
theorem q1337 : (Jvm.Cond.code ({ cls := "GroupJournal$Facts", name := "<init>", desc := "(Z)V" } : Jvm.MethodName) prog_6_method_1_code (2 : Nat) (Option.none : Option Jvm.ClassFile.FieldType)) ∈ lw_all := lw_g (lw_at lw_m5 190 rfl) rfl
theorem q1338 : (Jvm.Cond.methodLinkNest "GroupJournal$Facts" (1 : Nat) ({ cls := "GroupJournal$Test", name := "<init>", desc := "()V" } : Jvm.MethodName) "GroupJournal") ∈ lw_tbl := lw_at lw_m5 191 rfl
theorem q1342 : (Jvm.Cond.classLink "GroupJournal$Facts" (7 : Nat) "java/util/ArrayList") ∈ lw_all := lw_g (lw_at lw_m5 195 rfl) rfl
theorem q1343 : (Jvm.Cond.methodLink "GroupJournal$Facts" (9 : Nat) ({ cls := "java/util/ArrayList", name := "<init>", desc := "(I)V" } : Jvm.MethodName)) ∈ lw_all := lw_g (lw_at lw_m5 196 rfl) rfl
theorem q1344 : (Jvm.Cond.fieldLink "GroupJournal$Facts" (12 : Nat) "GroupJournal$Facts" "tests" "Ljava/util/List;") ∈ lw_all := lw_g (lw_at lw_m5 197 rfl) rfl
theorem q1346 : (Jvm.Cond.fieldLink "GroupJournal$Facts" (18 : Nat) "GroupJournal$Facts" "all" "Z") ∈ lw_all := lw_g (lw_at lw_m5 199 rfl) rfl
theorem q1347 : (Jvm.Cond.laysFinal "GroupJournal$Facts" "GroupJournal$Facts" "tests" "Ljava/util/List;") ∈ lw_all := lw_g (lw_at lw_m5 200 rfl) rfl
theorem q1348 : (Jvm.Cond.soleField "GroupJournal$Facts" "tests") ∈ lw_all := lw_g (lw_at lw_m5 201 rfl) rfl
theorem q1349 : (Jvm.Cond.laysFinal "GroupJournal$Facts" "GroupJournal$Facts" "all" "Z") ∈ lw_all := lw_g (lw_at lw_m5 202 rfl) rfl
theorem q1350 : (Jvm.Cond.soleField "GroupJournal$Facts" "all") ∈ lw_all := lw_g (lw_at lw_m5 203 rfl) rfl
theorem q1351 : (Jvm.Cond.superclass "GroupJournal$Facts" "GroupJournal$Test") ∈ lw_all := lw_g (lw_at lw_m5 204 rfl) rfl
theorem q1660 : (Jvm.Cond.selects "GroupJournal$Facts" ({ cls := "java/lang/Object", name := "hashCode", desc := "()I" } : Jvm.MethodName) ({ cls := "java/lang/Object", name := "hashCode", desc := "()I" } : Jvm.MethodName)) ∈ lw_all := lw_g (lw_at lw_m7 33 rfl) rfl
theorem q1708 : (Jvm.Cond.selects "GroupJournal$Facts" ({ cls := "java/lang/Object", name := "equals", desc := "(Ljava/lang/Object;)Z" } : Jvm.MethodName) ({ cls := "java/lang/Object", name := "equals", desc := "(Ljava/lang/Object;)Z" } : Jvm.MethodName)) ∈ lw_all := lw_g (lw_at lw_m7 81 rfl) rfl
theorem q2725 : (Jvm.Cond.selects "GroupJournal$Facts" ({ cls := "GroupJournal$Test", name := "holds", desc := "(LGroupJournal$Moment;)Z" } : Jvm.MethodName) ({ cls := "GroupJournal$Facts", name := "holds", desc := "(LGroupJournal$Moment;)Z" } : Jvm.MethodName)) ∈ lw_all := lw_g (lw_at lw_m11 138 rfl) rfl
theorem q2726 : (Jvm.Cond.instanceMethod ({ cls := "GroupJournal$Facts", name := "holds", desc := "(LGroupJournal$Moment;)Z" } : Jvm.MethodName)) ∈ lw_all := lw_g (lw_at lw_m11 139 rfl) rfl
theorem q2727 : (Jvm.Cond.code ({ cls := "GroupJournal$Facts", name := "holds", desc := "(LGroupJournal$Moment;)Z" } : Jvm.MethodName) prog_6_method_2_code (3 : Nat) (Option.some Jvm.ClassFile.FieldType.boolean)) ∈ lw_all := lw_g (lw_at lw_m11 140 rfl) rfl
theorem q2728 : (Jvm.Cond.interfaceEntry "GroupJournal$Facts" (22 : Nat)) ∈ lw_tbl := lw_at lw_m11 141 rfl
theorem q2729 : (Jvm.Cond.methodLink "GroupJournal$Facts" (22 : Nat) ({ cls := "java/util/List", name := "size", desc := "()I" } : Jvm.MethodName)) ∈ lw_all := lw_g (lw_at lw_m11 142 rfl) rfl
theorem q2730 : (Jvm.Cond.interfaceEntry "GroupJournal$Facts" (28 : Nat)) ∈ lw_tbl := lw_at lw_m11 143 rfl
theorem q2731 : (Jvm.Cond.methodLink "GroupJournal$Facts" (28 : Nat) ({ cls := "java/util/List", name := "get", desc := "(I)Ljava/lang/Object;" } : Jvm.MethodName)) ∈ lw_all := lw_g (lw_at lw_m11 144 rfl) rfl
theorem q2732 : (Jvm.Cond.classLink "GroupJournal$Facts" (2 : Nat) "GroupJournal$Test") ∈ lw_all := lw_g (lw_at lw_m11 145 rfl) rfl
theorem q2733 : (Jvm.Cond.methodLink "GroupJournal$Facts" (32 : Nat) ({ cls := "GroupJournal$Test", name := "holds", desc := "(LGroupJournal$Moment;)Z" } : Jvm.MethodName)) ∈ lw_all := lw_g (lw_at lw_m11 146 rfl) rfl
theorem q4150 : (Jvm.Cond.castable "GroupJournal$Facts" "GroupJournal$Test") ∈ lw_tbl := lw_at lw_m17 123 rfl
theorem q4179 : (Jvm.Cond.castable "GroupJournal$Facts" "java/lang/Object") ∈ lw_tbl := lw_at lw_m17 152 rfl
theorem in_X14 : ∀ w ∈ wsX140, w ∈ lw_all := lw_in wsX140 [1347, 1349] (by decide +kernel) (by decide +kernel)

/-! GroupJournal$Not -/
set_option maxRecDepth 100000
def RX15 : String := "GroupJournal$Not"
def TX15 : u_T := fun k => match k with
  | _ => ("GroupJournal$Not", "test", "LGroupJournal$Test;", true)
def tyX15 : Nat → FieldType := fun k => match k with
  | _ => .object "GroupJournal$Test"
abbrev wsX150 : List Cond := u_ws RX15 TX15 1
theorem nmX15 : ∀ a, a < 1 → ∀ b, b < 1 → a ≠ b → (TX15 a).2.1 ≠ (TX15 b).2.1 := by decide +kernel
theorem tyX15_ok : ∀ k, k < 1 → parseFieldDescriptor (TX15 k).2.2.1 = some (tyX15 k) := by decide +kernel
abbrev cX15_init : ByteArray := prog_14_method_1_code
def yX15_init : MethodName := ⟨RX15, "<init>", "(LGroupJournal$Test;)V"⟩
def dkwX15_init_0 : List UInt8 := [42, 183, 0, 1, 42, 43, 181, 0, 7, 177]
abbrev dktX15_init_0 : List UInt8 := dkwX15_init_0 ++ []
theorem dksX15_init_0 : cX15_init.data.toList.drop 0 = dktX15_init_0 := by decide +kernel
theorem dX15_init_0 : decode cX15_init 0 = .ok (.aload_n 0, 1) := dk_42 (dk_at dksX15_init_0 0 rfl rfl)
theorem dX15_init_1 : decode cX15_init 1 = .ok (.invokespecial 1, 3) := dk_183 0 1 (dk_at dksX15_init_0 1 rfl rfl)
theorem dX15_init_4 : decode cX15_init 4 = .ok (.aload_n 0, 1) := dk_42 (dk_at dksX15_init_0 4 rfl rfl)
theorem dX15_init_5 : decode cX15_init 5 = .ok (.aload_n 1, 1) := dk_43 (dk_at dksX15_init_0 5 rfl rfl)
theorem dX15_init_6 : decode cX15_init 6 = .ok (.putfield 7, 3) := dk_181 0 7 (dk_at dksX15_init_0 6 rfl rfl)
theorem dX15_init_9 : decode cX15_init 9 = .ok (.return_, 1) := dk_177 (dk_at dksX15_init_0 9 rfl rfl)
abbrev cX15_holds : ByteArray := prog_14_method_2_code
def yX15_holds : MethodName := ⟨RX15, "holds", "(LGroupJournal$Moment;)Z"⟩
def dkwX15_holds_0 : List UInt8 := [42, 180, 0, 7, 43, 182, 0, 13, 154, 0, 7, 4, 167, 0, 4, 3, 172]
abbrev dktX15_holds_0 : List UInt8 := dkwX15_holds_0 ++ []
theorem dksX15_holds_0 : cX15_holds.data.toList.drop 0 = dktX15_holds_0 := by decide +kernel
theorem dX15_holds_0 : decode cX15_holds 0 = .ok (.aload_n 0, 1) := dk_42 (dk_at dksX15_holds_0 0 rfl rfl)
theorem dX15_holds_1 : decode cX15_holds 1 = .ok (.getfield 7, 3) := dk_180 0 7 (dk_at dksX15_holds_0 1 rfl rfl)
theorem dX15_holds_4 : decode cX15_holds 4 = .ok (.aload_n 1, 1) := dk_43 (dk_at dksX15_holds_0 4 rfl rfl)
theorem dX15_holds_5 : decode cX15_holds 5 = .ok (.invokevirtual 13, 3) := dk_182 0 13 (dk_at dksX15_holds_0 5 rfl rfl)
theorem dX15_holds_8 : decode cX15_holds 8 = .ok (.ifCond .ne 7, 3) := dk_154 0 7 (dk_at dksX15_holds_0 8 rfl rfl)
theorem dX15_holds_11 : decode cX15_holds 11 = .ok (.iconst 1, 1) := dk_4 (dk_at dksX15_holds_0 11 rfl rfl)
theorem dX15_holds_12 : decode cX15_holds 12 = .ok (.goto 4, 3) := dk_167 0 4 (dk_at dksX15_holds_0 12 rfl rfl)
theorem dX15_holds_15 : decode cX15_holds 15 = .ok (.iconst 0, 1) := dk_3 (dk_at dksX15_holds_0 15 rfl rfl)
theorem dX15_holds_16 : decode cX15_holds 16 = .ok (.ireturn, 1) := dk_172 (dk_at dksX15_holds_0 16 rfl rfl)
theorem q226 : (Jvm.Cond.initialized "GroupJournal$Not") ∈ lw_all := lw_g (lw_at lw_m1 39 rfl) rfl
theorem q1288 : (Jvm.Cond.selects "GroupJournal$Not" ({ cls := "java/lang/Object", name := "getClass", desc := "()Ljava/lang/Class;" } : Jvm.MethodName) ({ cls := "java/lang/Object", name := "getClass", desc := "()Ljava/lang/Class;" } : Jvm.MethodName)) ∈ lw_all := lw_g (lw_at lw_m5 141 rfl) rfl
theorem q1370 : (Jvm.Cond.instantiable "GroupJournal$Not" (1 : Nat)) ∈ lw_all := lw_g (lw_at lw_m5 223 rfl) rfl
theorem q1372 : (Jvm.Cond.instanceMethod ({ cls := "GroupJournal$Not", name := "<init>", desc := "(LGroupJournal$Test;)V" } : Jvm.MethodName)) ∈ lw_all := lw_g (lw_at lw_m5 225 rfl) rfl
theorem q1373 : (Jvm.Cond.code ({ cls := "GroupJournal$Not", name := "<init>", desc := "(LGroupJournal$Test;)V" } : Jvm.MethodName) prog_14_method_1_code (2 : Nat) (Option.none : Option Jvm.ClassFile.FieldType)) ∈ lw_all := lw_g (lw_at lw_m5 226 rfl) rfl
theorem q1374 : (Jvm.Cond.methodLinkNest "GroupJournal$Not" (1 : Nat) ({ cls := "GroupJournal$Test", name := "<init>", desc := "()V" } : Jvm.MethodName) "GroupJournal") ∈ lw_tbl := lw_at lw_m5 227 rfl
theorem q1375 : (Jvm.Cond.fieldLink "GroupJournal$Not" (7 : Nat) "GroupJournal$Not" "test" "LGroupJournal$Test;") ∈ lw_all := lw_g (lw_at lw_m5 228 rfl) rfl
theorem q1376 : (Jvm.Cond.laysFinal "GroupJournal$Not" "GroupJournal$Not" "test" "LGroupJournal$Test;") ∈ lw_all := lw_g (lw_at lw_m5 229 rfl) rfl
theorem q1377 : (Jvm.Cond.soleField "GroupJournal$Not" "test") ∈ lw_all := lw_g (lw_at lw_m5 230 rfl) rfl
theorem q1378 : (Jvm.Cond.superclass "GroupJournal$Not" "GroupJournal$Test") ∈ lw_all := lw_g (lw_at lw_m5 231 rfl) rfl
theorem q1670 : (Jvm.Cond.selects "GroupJournal$Not" ({ cls := "java/lang/Object", name := "hashCode", desc := "()I" } : Jvm.MethodName) ({ cls := "java/lang/Object", name := "hashCode", desc := "()I" } : Jvm.MethodName)) ∈ lw_all := lw_g (lw_at lw_m7 43 rfl) rfl
theorem q1719 : (Jvm.Cond.selects "GroupJournal$Not" ({ cls := "java/lang/Object", name := "equals", desc := "(Ljava/lang/Object;)Z" } : Jvm.MethodName) ({ cls := "java/lang/Object", name := "equals", desc := "(Ljava/lang/Object;)Z" } : Jvm.MethodName)) ∈ lw_all := lw_g (lw_at lw_m7 92 rfl) rfl
theorem q2734 : (Jvm.Cond.instanceMethod ({ cls := "GroupJournal$Not", name := "holds", desc := "(LGroupJournal$Moment;)Z" } : Jvm.MethodName)) ∈ lw_all := lw_g (lw_at lw_m11 147 rfl) rfl
theorem q2735 : (Jvm.Cond.code ({ cls := "GroupJournal$Not", name := "holds", desc := "(LGroupJournal$Moment;)Z" } : Jvm.MethodName) prog_14_method_2_code (2 : Nat) (Option.some Jvm.ClassFile.FieldType.boolean)) ∈ lw_all := lw_g (lw_at lw_m11 148 rfl) rfl
theorem q2736 : (Jvm.Cond.methodLink "GroupJournal$Not" (13 : Nat) ({ cls := "GroupJournal$Test", name := "holds", desc := "(LGroupJournal$Moment;)Z" } : Jvm.MethodName)) ∈ lw_all := lw_g (lw_at lw_m11 149 rfl) rfl
theorem q2800 : (Jvm.Cond.selects "GroupJournal$Not" ({ cls := "GroupJournal$Test", name := "holds", desc := "(LGroupJournal$Moment;)Z" } : Jvm.MethodName) ({ cls := "GroupJournal$Not", name := "holds", desc := "(LGroupJournal$Moment;)Z" } : Jvm.MethodName)) ∈ lw_all := lw_g (lw_at lw_m11 213 rfl) rfl
theorem q4151 : (Jvm.Cond.castable "GroupJournal$Not" "GroupJournal$Test") ∈ lw_tbl := lw_at lw_m17 124 rfl
theorem q4180 : (Jvm.Cond.castable "GroupJournal$Not" "java/lang/Object") ∈ lw_tbl := lw_at lw_m17 153 rfl
theorem in_X15 : ∀ w ∈ wsX150, w ∈ lw_all := lw_in wsX150 [1376] (by decide +kernel) (by decide +kernel)

/-! GroupJournal$All -/
set_option maxRecDepth 100000
def RX16 : String := "GroupJournal$All"
abbrev cX16_init : ByteArray := prog_2_method_1_code
def yX16_init : MethodName := ⟨RX16, "<init>", "()V"⟩
theorem dX16_init_0 : decode cX16_init 0 = .ok (.aload_n 0, 1) := by decide +kernel
theorem dX16_init_1 : decode cX16_init 1 = .ok (.invokespecial 1, 3) := by decide +kernel
theorem dX16_init_4 : decode cX16_init 4 = .ok (.return_, 1) := by decide +kernel
abbrev cX16_holds : ByteArray := prog_2_method_2_code
def yX16_holds : MethodName := ⟨RX16, "holds", "(LGroupJournal$Moment;)Z"⟩
theorem dX16_holds_0 : decode cX16_holds 0 = .ok (.iconst 1, 1) := by decide +kernel
theorem dX16_holds_1 : decode cX16_holds 1 = .ok (.ireturn, 1) := by decide +kernel
theorem q227 : (Jvm.Cond.initialized "GroupJournal$All") ∈ lw_all := lw_g (lw_at lw_m1 40 rfl) rfl
theorem q1276 : (Jvm.Cond.selects "GroupJournal$All" ({ cls := "java/lang/Object", name := "getClass", desc := "()Ljava/lang/Class;" } : Jvm.MethodName) ({ cls := "java/lang/Object", name := "getClass", desc := "()Ljava/lang/Class;" } : Jvm.MethodName)) ∈ lw_all := lw_g (lw_at lw_m5 129 rfl) rfl
theorem q1381 : (Jvm.Cond.instantiable "GroupJournal$All" (0 : Nat)) ∈ lw_all := lw_g (lw_at lw_m5 234 rfl) rfl
theorem q1383 : (Jvm.Cond.instanceMethod ({ cls := "GroupJournal$All", name := "<init>", desc := "()V" } : Jvm.MethodName)) ∈ lw_all := lw_g (lw_at lw_m5 236 rfl) rfl
theorem q1384 : (Jvm.Cond.code ({ cls := "GroupJournal$All", name := "<init>", desc := "()V" } : Jvm.MethodName) prog_2_method_1_code (1 : Nat) (Option.none : Option Jvm.ClassFile.FieldType)) ∈ lw_all := lw_g (lw_at lw_m5 237 rfl) rfl
theorem q1385 : (Jvm.Cond.methodLinkNest "GroupJournal$All" (1 : Nat) ({ cls := "GroupJournal$Test", name := "<init>", desc := "()V" } : Jvm.MethodName) "GroupJournal") ∈ lw_tbl := lw_at lw_m5 238 rfl
theorem q1386 : (Jvm.Cond.superclass "GroupJournal$All" "GroupJournal$Test") ∈ lw_all := lw_g (lw_at lw_m5 239 rfl) rfl
theorem q1656 : (Jvm.Cond.selects "GroupJournal$All" ({ cls := "java/lang/Object", name := "hashCode", desc := "()I" } : Jvm.MethodName) ({ cls := "java/lang/Object", name := "hashCode", desc := "()I" } : Jvm.MethodName)) ∈ lw_all := lw_g (lw_at lw_m7 29 rfl) rfl
theorem q1704 : (Jvm.Cond.selects "GroupJournal$All" ({ cls := "java/lang/Object", name := "equals", desc := "(Ljava/lang/Object;)Z" } : Jvm.MethodName) ({ cls := "java/lang/Object", name := "equals", desc := "(Ljava/lang/Object;)Z" } : Jvm.MethodName)) ∈ lw_all := lw_g (lw_at lw_m7 77 rfl) rfl
theorem q2722 : (Jvm.Cond.selects "GroupJournal$All" ({ cls := "GroupJournal$Test", name := "holds", desc := "(LGroupJournal$Moment;)Z" } : Jvm.MethodName) ({ cls := "GroupJournal$All", name := "holds", desc := "(LGroupJournal$Moment;)Z" } : Jvm.MethodName)) ∈ lw_all := lw_g (lw_at lw_m11 135 rfl) rfl
theorem q2723 : (Jvm.Cond.instanceMethod ({ cls := "GroupJournal$All", name := "holds", desc := "(LGroupJournal$Moment;)Z" } : Jvm.MethodName)) ∈ lw_all := lw_g (lw_at lw_m11 136 rfl) rfl
theorem q2724 : (Jvm.Cond.code ({ cls := "GroupJournal$All", name := "holds", desc := "(LGroupJournal$Moment;)Z" } : Jvm.MethodName) prog_2_method_2_code (2 : Nat) (Option.some Jvm.ClassFile.FieldType.boolean)) ∈ lw_all := lw_g (lw_at lw_m11 137 rfl) rfl
theorem q4149 : (Jvm.Cond.castable "GroupJournal$All" "GroupJournal$Test") ∈ lw_tbl := lw_at lw_m17 122 rfl
theorem q4181 : (Jvm.Cond.castable "GroupJournal$All" "java/lang/Object") ∈ lw_tbl := lw_at lw_m17 154 rfl

/-! GroupJournal$Value -/
set_option maxRecDepth 100000
def RX17 : String := "GroupJournal$Value"
abbrev cX17_init : ByteArray := prog_24_method_1_code
def yX17_init : MethodName := ⟨RX17, "<init>", "()V"⟩
theorem dX17_init_0 : decode cX17_init 0 = .ok (.aload_n 0, 1) := by decide +kernel
theorem dX17_init_1 : decode cX17_init 1 = .ok (.invokespecial 1, 3) := by decide +kernel
theorem dX17_init_4 : decode cX17_init 4 = .ok (.return_, 1) := by decide +kernel
theorem q228 : (Jvm.Cond.initialized "GroupJournal$Value") ∈ lw_all := lw_g (lw_at lw_m1 41 rfl) rfl
theorem q1397 : (Jvm.Cond.instanceMethod ({ cls := "GroupJournal$Value", name := "<init>", desc := "()V" } : Jvm.MethodName)) ∈ lw_all := lw_g (lw_at lw_m6 10 rfl) rfl
theorem q1398 : (Jvm.Cond.code ({ cls := "GroupJournal$Value", name := "<init>", desc := "()V" } : Jvm.MethodName) prog_24_method_1_code (1 : Nat) (Option.none : Option Jvm.ClassFile.FieldType)) ∈ lw_all := lw_g (lw_at lw_m6 11 rfl) rfl
theorem q1399 : (Jvm.Cond.methodLink "GroupJournal$Value" (1 : Nat) ({ cls := "java/lang/Object", name := "<init>", desc := "()V" } : Jvm.MethodName)) ∈ lw_all := lw_g (lw_at lw_m6 12 rfl) rfl
theorem q2740 : (Jvm.Cond.declares ({ cls := "GroupJournal$Value", name := "at", desc := "(LGroupJournal$Moment;)J" } : Jvm.MethodName)) ∈ lw_tbl := lw_at lw_m11 153 rfl
theorem q2741 : (Jvm.Cond.sameMethod "GroupJournal$Value" "GroupJournal$Value" "at" "(LGroupJournal$Moment;)J") ∈ lw_all := lw_g (lw_at lw_m11 154 rfl) rfl

/-! GroupJournal$Chain -/
set_option maxRecDepth 100000
def RX18 : String := "GroupJournal$Chain"
def TX18 : u_T := fun k => match k with
  | 0 => ("GroupJournal$Chain", "values", "Ljava/util/List;", true)
  | _ => ("GroupJournal$Chain", "signs", "Ljava/lang/StringBuilder;", true)
def tyX18 : Nat → FieldType := fun k => match k with
  | 0 => .object "java/util/List"
  | _ => .object "java/lang/StringBuilder"
abbrev wsX180 : List Cond := u_ws RX18 TX18 2
theorem nmX18 : ∀ a, a < 2 → ∀ b, b < 2 → a ≠ b → (TX18 a).2.1 ≠ (TX18 b).2.1 := by decide +kernel
theorem tyX18_ok : ∀ k, k < 2 → parseFieldDescriptor (TX18 k).2.2.1 = some (tyX18 k) := by decide +kernel
abbrev cX18_init : ByteArray := prog_4_method_1_code
def yX18_init : MethodName := ⟨RX18, "<init>", "()V"⟩
def dkwX18_init_1 : List UInt8 := [181, 0, 21, 177]
abbrev dktX18_init_1 : List UInt8 := dkwX18_init_1 ++ []
def dkwX18_init_0 : List UInt8 := [42, 183, 0, 1, 42, 187, 0, 7, 89, 5, 183, 0, 9, 181, 0, 12, 42, 187, 0, 18, 89, 183, 0, 20]
abbrev dktX18_init_0 : List UInt8 := dkwX18_init_0 ++ dktX18_init_1
theorem dksX18_init_0 : cX18_init.data.toList.drop 0 = dktX18_init_0 := by decide +kernel
theorem dksX18_init_1 : cX18_init.data.toList.drop 24 = dktX18_init_1 := dk_seg dksX18_init_0 24 rfl rfl
theorem dX18_init_0 : decode cX18_init 0 = .ok (.aload_n 0, 1) := dk_42 (dk_at dksX18_init_0 0 rfl rfl)
theorem dX18_init_1 : decode cX18_init 1 = .ok (.invokespecial 1, 3) := dk_183 0 1 (dk_at dksX18_init_0 1 rfl rfl)
theorem dX18_init_4 : decode cX18_init 4 = .ok (.aload_n 0, 1) := dk_42 (dk_at dksX18_init_0 4 rfl rfl)
theorem dX18_init_5 : decode cX18_init 5 = .ok (.new 7, 3) := dk_187 0 7 (dk_at dksX18_init_0 5 rfl rfl)
theorem dX18_init_8 : decode cX18_init 8 = .ok (.dup, 1) := dk_89 (dk_at dksX18_init_0 8 rfl rfl)
theorem dX18_init_9 : decode cX18_init 9 = .ok (.iconst 2, 1) := dk_5 (dk_at dksX18_init_0 9 rfl rfl)
theorem dX18_init_10 : decode cX18_init 10 = .ok (.invokespecial 9, 3) := dk_183 0 9 (dk_at dksX18_init_0 10 rfl rfl)
theorem dX18_init_13 : decode cX18_init 13 = .ok (.putfield 12, 3) := dk_181 0 12 (dk_at dksX18_init_0 13 rfl rfl)
theorem dX18_init_16 : decode cX18_init 16 = .ok (.aload_n 0, 1) := dk_42 (dk_at dksX18_init_0 16 rfl rfl)
theorem dX18_init_17 : decode cX18_init 17 = .ok (.new 18, 3) := dk_187 0 18 (dk_at dksX18_init_0 17 rfl rfl)
theorem dX18_init_20 : decode cX18_init 20 = .ok (.dup, 1) := dk_89 (dk_at dksX18_init_0 20 rfl rfl)
theorem dX18_init_21 : decode cX18_init 21 = .ok (.invokespecial 20, 3) := dk_183 0 20 (dk_at dksX18_init_0 21 rfl rfl)
theorem dX18_init_24 : decode cX18_init 24 = .ok (.putfield 21, 3) := dk_181 0 21 (dk_at dksX18_init_1 0 rfl rfl)
theorem dX18_init_27 : decode cX18_init 27 = .ok (.return_, 1) := dk_177 (dk_at dksX18_init_1 3 rfl rfl)
abbrev cX18_add : ByteArray := prog_4_method_2_code
def yX18_add : MethodName := ⟨RX18, "add", "(CLGroupJournal$Value;)V"⟩
def dkwX18_add_0 : List UInt8 := [42, 180, 0, 21, 27, 182, 0, 25, 87, 42, 180, 0, 12, 44, 185, 0, 29, 2, 0, 87, 177]
abbrev dktX18_add_0 : List UInt8 := dkwX18_add_0 ++ []
theorem dksX18_add_0 : cX18_add.data.toList.drop 0 = dktX18_add_0 := by decide +kernel
theorem dX18_add_0 : decode cX18_add 0 = .ok (.aload_n 0, 1) := dk_42 (dk_at dksX18_add_0 0 rfl rfl)
theorem dX18_add_1 : decode cX18_add 1 = .ok (.getfield 21, 3) := dk_180 0 21 (dk_at dksX18_add_0 1 rfl rfl)
theorem dX18_add_4 : decode cX18_add 4 = .ok (.iload_n 1, 1) := dk_27 (dk_at dksX18_add_0 4 rfl rfl)
theorem dX18_add_5 : decode cX18_add 5 = .ok (.invokevirtual 25, 3) := dk_182 0 25 (dk_at dksX18_add_0 5 rfl rfl)
theorem dX18_add_8 : decode cX18_add 8 = .ok (.pop, 1) := dk_87 (dk_at dksX18_add_0 8 rfl rfl)
theorem dX18_add_9 : decode cX18_add 9 = .ok (.aload_n 0, 1) := dk_42 (dk_at dksX18_add_0 9 rfl rfl)
theorem dX18_add_10 : decode cX18_add 10 = .ok (.getfield 12, 3) := dk_180 0 12 (dk_at dksX18_add_0 10 rfl rfl)
theorem dX18_add_13 : decode cX18_add 13 = .ok (.aload_n 2, 1) := dk_44 (dk_at dksX18_add_0 13 rfl rfl)
theorem dX18_add_14 : decode cX18_add 14 = .ok (.invokeinterface 29 2, 5) := by decide +kernel
theorem dX18_add_19 : decode cX18_add 19 = .ok (.pop, 1) := dk_87 (dk_at dksX18_add_0 19 rfl rfl)
theorem dX18_add_20 : decode cX18_add 20 = .ok (.return_, 1) := dk_177 (dk_at dksX18_add_0 20 rfl rfl)
abbrev cX18_at : ByteArray := prog_4_method_3_code
def yX18_at : MethodName := ⟨RX18, "at", "(LGroupJournal$Moment;)J"⟩
def dkwX18_at_3 : List UInt8 := [132, 4, 1, 167, 255, 204, 32, 173]
abbrev dktX18_at_3 : List UInt8 := dkwX18_at_3 ++ []
def dkwX18_at_2 : List UInt8 := [180, 0, 12, 21, 4, 185, 0, 35, 2, 0, 192, 0, 2, 43, 182, 0, 39, 184, 0, 51, 184, 0, 55, 65]
abbrev dktX18_at_2 : List UInt8 := dkwX18_at_2 ++ dktX18_at_3
def dkwX18_at_1 : List UInt8 := [180, 0, 12, 185, 0, 43, 1, 0, 162, 0, 44, 42, 180, 0, 21, 21, 4, 182, 0, 47, 32, 42]
abbrev dktX18_at_1 : List UInt8 := dkwX18_at_1 ++ dktX18_at_2
def dkwX18_at_0 : List UInt8 := [42, 180, 0, 12, 3, 185, 0, 35, 2, 0, 192, 0, 2, 43, 182, 0, 39, 65, 4, 54, 4, 21, 4, 42]
abbrev dktX18_at_0 : List UInt8 := dkwX18_at_0 ++ dktX18_at_1
theorem dksX18_at_0 : cX18_at.data.toList.drop 0 = dktX18_at_0 := by decide +kernel
theorem dksX18_at_1 : cX18_at.data.toList.drop 24 = dktX18_at_1 := dk_seg dksX18_at_0 24 rfl rfl
theorem dksX18_at_2 : cX18_at.data.toList.drop 46 = dktX18_at_2 := dk_seg dksX18_at_1 22 rfl rfl
theorem dksX18_at_3 : cX18_at.data.toList.drop 70 = dktX18_at_3 := dk_seg dksX18_at_2 24 rfl rfl
theorem dX18_at_0 : decode cX18_at 0 = .ok (.aload_n 0, 1) := dk_42 (dk_at dksX18_at_0 0 rfl rfl)
theorem dX18_at_1 : decode cX18_at 1 = .ok (.getfield 12, 3) := dk_180 0 12 (dk_at dksX18_at_0 1 rfl rfl)
theorem dX18_at_4 : decode cX18_at 4 = .ok (.iconst 0, 1) := dk_3 (dk_at dksX18_at_0 4 rfl rfl)
theorem dX18_at_5 : decode cX18_at 5 = .ok (.invokeinterface 35 2, 5) := by decide +kernel
theorem dX18_at_10 : decode cX18_at 10 = .ok (.checkcast 2, 3) := dk_192 0 2 (dk_at dksX18_at_0 10 rfl rfl)
theorem dX18_at_13 : decode cX18_at 13 = .ok (.aload_n 1, 1) := dk_43 (dk_at dksX18_at_0 13 rfl rfl)
theorem dX18_at_14 : decode cX18_at 14 = .ok (.invokevirtual 39, 3) := dk_182 0 39 (dk_at dksX18_at_0 14 rfl rfl)
theorem dX18_at_17 : decode cX18_at 17 = .ok (.lstore_n 2, 1) := dk_65 (dk_at dksX18_at_0 17 rfl rfl)
theorem dX18_at_18 : decode cX18_at 18 = .ok (.iconst 1, 1) := dk_4 (dk_at dksX18_at_0 18 rfl rfl)
theorem dX18_at_19 : decode cX18_at 19 = .ok (.istore 4, 2) := dk_54 4 (dk_at dksX18_at_0 19 rfl rfl)
theorem dX18_at_21 : decode cX18_at 21 = .ok (.iload 4, 2) := dk_21 4 (dk_at dksX18_at_0 21 rfl rfl)
theorem dX18_at_23 : decode cX18_at 23 = .ok (.aload_n 0, 1) := dk_42 (dk_at dksX18_at_0 23 rfl rfl)
theorem dX18_at_24 : decode cX18_at 24 = .ok (.getfield 12, 3) := dk_180 0 12 (dk_at dksX18_at_1 0 rfl rfl)
theorem dX18_at_27 : decode cX18_at 27 = .ok (.invokeinterface 43 1, 5) := by decide +kernel
theorem dX18_at_32 : decode cX18_at 32 = .ok (.if_icmp .ge 44, 3) := dk_162 0 44 (dk_at dksX18_at_1 8 rfl rfl)
theorem dX18_at_35 : decode cX18_at 35 = .ok (.aload_n 0, 1) := dk_42 (dk_at dksX18_at_1 11 rfl rfl)
theorem dX18_at_36 : decode cX18_at 36 = .ok (.getfield 21, 3) := dk_180 0 21 (dk_at dksX18_at_1 12 rfl rfl)
theorem dX18_at_39 : decode cX18_at 39 = .ok (.iload 4, 2) := dk_21 4 (dk_at dksX18_at_1 15 rfl rfl)
theorem dX18_at_41 : decode cX18_at 41 = .ok (.invokevirtual 47, 3) := dk_182 0 47 (dk_at dksX18_at_1 17 rfl rfl)
theorem dX18_at_44 : decode cX18_at 44 = .ok (.lload_n 2, 1) := dk_32 (dk_at dksX18_at_1 20 rfl rfl)
theorem dX18_at_45 : decode cX18_at 45 = .ok (.aload_n 0, 1) := dk_42 (dk_at dksX18_at_1 21 rfl rfl)
theorem dX18_at_46 : decode cX18_at 46 = .ok (.getfield 12, 3) := dk_180 0 12 (dk_at dksX18_at_2 0 rfl rfl)
theorem dX18_at_49 : decode cX18_at 49 = .ok (.iload 4, 2) := dk_21 4 (dk_at dksX18_at_2 3 rfl rfl)
theorem dX18_at_51 : decode cX18_at 51 = .ok (.invokeinterface 35 2, 5) := by decide +kernel
theorem dX18_at_56 : decode cX18_at 56 = .ok (.checkcast 2, 3) := dk_192 0 2 (dk_at dksX18_at_2 10 rfl rfl)
theorem dX18_at_59 : decode cX18_at 59 = .ok (.aload_n 1, 1) := dk_43 (dk_at dksX18_at_2 13 rfl rfl)
theorem dX18_at_60 : decode cX18_at 60 = .ok (.invokevirtual 39, 3) := dk_182 0 39 (dk_at dksX18_at_2 14 rfl rfl)
theorem dX18_at_63 : decode cX18_at 63 = .ok (.invokestatic 51, 3) := dk_184 0 51 (dk_at dksX18_at_2 17 rfl rfl)
theorem dX18_at_66 : decode cX18_at 66 = .ok (.invokestatic 55, 3) := dk_184 0 55 (dk_at dksX18_at_2 20 rfl rfl)
theorem dX18_at_69 : decode cX18_at 69 = .ok (.lstore_n 2, 1) := dk_65 (dk_at dksX18_at_2 23 rfl rfl)
theorem dX18_at_70 : decode cX18_at 70 = .ok (.iinc 4 1, 3) := dk_132 4 1 (dk_at dksX18_at_3 0 rfl rfl)
theorem dX18_at_73 : decode cX18_at 73 = .ok (.goto (-52), 3) := dk_167 255 204 (dk_at dksX18_at_3 3 rfl rfl)
theorem dX18_at_76 : decode cX18_at 76 = .ok (.lload_n 2, 1) := dk_32 (dk_at dksX18_at_3 6 rfl rfl)
theorem dX18_at_77 : decode cX18_at 77 = .ok (.lreturn, 1) := dk_173 (dk_at dksX18_at_3 7 rfl rfl)
abbrev cX18_two : ByteArray := prog_4_method_4_code
def yX18_two : MethodName := ⟨RX18, "two", "(CJJ)J"⟩
def dkwX18_two_3 : List UInt8 := [184, 0, 61, 173]
abbrev dktX18_two_3 : List UInt8 := dkwX18_two_3 ++ []
def dkwX18_two_2 : List UInt8 := [31, 33, 97, 173, 31, 33, 101, 173, 31, 33, 105, 173, 33, 9, 148, 154, 0, 7, 9, 167, 0, 8, 31, 33]
abbrev dktX18_two_2 : List UInt8 := dkwX18_two_2 ++ dktX18_two_3
def dkwX18_two_1 : List UInt8 := [170, 0, 0, 0, 0, 0, 43, 0, 0, 0, 42, 0, 0, 0, 45, 0, 0, 0, 39, 0, 0, 0, 31, 0, 0, 0, 43, 0, 0, 0, 35]
abbrev dktX18_two_1 : List UInt8 := dkwX18_two_1 ++ dktX18_two_2
def dkwX18_two_0 : List UInt8 := [26]
abbrev dktX18_two_0 : List UInt8 := dkwX18_two_0 ++ dktX18_two_1
theorem dksX18_two_0 : cX18_two.data.toList.drop 0 = dktX18_two_0 := by decide +kernel
theorem dksX18_two_1 : cX18_two.data.toList.drop 1 = dktX18_two_1 := dk_seg dksX18_two_0 1 rfl rfl
theorem dksX18_two_2 : cX18_two.data.toList.drop 32 = dktX18_two_2 := dk_seg dksX18_two_1 31 rfl rfl
theorem dksX18_two_3 : cX18_two.data.toList.drop 56 = dktX18_two_3 := dk_seg dksX18_two_2 24 rfl rfl
theorem dX18_two_0 : decode cX18_two 0 = .ok (.iload_n 0, 1) := dk_26 (dk_at dksX18_two_0 0 rfl rfl)
theorem dX18_two_1 : decode cX18_two 1 = .ok (.tableswitch 43 42 45 #[39, 31, 43, 35], 31) := by decide +kernel
theorem dX18_two_32 : decode cX18_two 32 = .ok (.lload_n 1, 1) := dk_31 (dk_at dksX18_two_2 0 rfl rfl)
theorem dX18_two_33 : decode cX18_two 33 = .ok (.lload_n 3, 1) := dk_33 (dk_at dksX18_two_2 1 rfl rfl)
theorem dX18_two_34 : decode cX18_two 34 = .ok (.ladd, 1) := dk_97 (dk_at dksX18_two_2 2 rfl rfl)
theorem dX18_two_35 : decode cX18_two 35 = .ok (.lreturn, 1) := dk_173 (dk_at dksX18_two_2 3 rfl rfl)
theorem dX18_two_36 : decode cX18_two 36 = .ok (.lload_n 1, 1) := dk_31 (dk_at dksX18_two_2 4 rfl rfl)
theorem dX18_two_37 : decode cX18_two 37 = .ok (.lload_n 3, 1) := dk_33 (dk_at dksX18_two_2 5 rfl rfl)
theorem dX18_two_38 : decode cX18_two 38 = .ok (.lsub, 1) := dk_101 (dk_at dksX18_two_2 6 rfl rfl)
theorem dX18_two_39 : decode cX18_two 39 = .ok (.lreturn, 1) := dk_173 (dk_at dksX18_two_2 7 rfl rfl)
theorem dX18_two_40 : decode cX18_two 40 = .ok (.lload_n 1, 1) := dk_31 (dk_at dksX18_two_2 8 rfl rfl)
theorem dX18_two_41 : decode cX18_two 41 = .ok (.lload_n 3, 1) := dk_33 (dk_at dksX18_two_2 9 rfl rfl)
theorem dX18_two_42 : decode cX18_two 42 = .ok (.lmul, 1) := dk_105 (dk_at dksX18_two_2 10 rfl rfl)
theorem dX18_two_43 : decode cX18_two 43 = .ok (.lreturn, 1) := dk_173 (dk_at dksX18_two_2 11 rfl rfl)
theorem dX18_two_44 : decode cX18_two 44 = .ok (.lload_n 3, 1) := dk_33 (dk_at dksX18_two_2 12 rfl rfl)
theorem dX18_two_45 : decode cX18_two 45 = .ok (.lconst 0, 1) := dk_9 (dk_at dksX18_two_2 13 rfl rfl)
theorem dX18_two_46 : decode cX18_two 46 = .ok (.lcmp, 1) := dk_148 (dk_at dksX18_two_2 14 rfl rfl)
theorem dX18_two_47 : decode cX18_two 47 = .ok (.ifCond .ne 7, 3) := dk_154 0 7 (dk_at dksX18_two_2 15 rfl rfl)
theorem dX18_two_50 : decode cX18_two 50 = .ok (.lconst 0, 1) := dk_9 (dk_at dksX18_two_2 18 rfl rfl)
theorem dX18_two_51 : decode cX18_two 51 = .ok (.goto 8, 3) := dk_167 0 8 (dk_at dksX18_two_2 19 rfl rfl)
theorem dX18_two_54 : decode cX18_two 54 = .ok (.lload_n 1, 1) := dk_31 (dk_at dksX18_two_2 22 rfl rfl)
theorem dX18_two_55 : decode cX18_two 55 = .ok (.lload_n 3, 1) := dk_33 (dk_at dksX18_two_2 23 rfl rfl)
theorem dX18_two_56 : decode cX18_two 56 = .ok (.invokestatic 61, 3) := dk_184 0 61 (dk_at dksX18_two_3 0 rfl rfl)
theorem dX18_two_59 : decode cX18_two 59 = .ok (.lreturn, 1) := dk_173 (dk_at dksX18_two_3 3 rfl rfl)
theorem q229 : (Jvm.Cond.initialized "GroupJournal$Chain") ∈ lw_all := lw_g (lw_at lw_m1 42 rfl) rfl
theorem q1278 : (Jvm.Cond.selects "GroupJournal$Chain" ({ cls := "java/lang/Object", name := "getClass", desc := "()Ljava/lang/Class;" } : Jvm.MethodName) ({ cls := "java/lang/Object", name := "getClass", desc := "()Ljava/lang/Class;" } : Jvm.MethodName)) ∈ lw_all := lw_g (lw_at lw_m5 131 rfl) rfl
theorem q1392 : (Jvm.Cond.instantiable "GroupJournal$Chain" (2 : Nat)) ∈ lw_all := lw_g (lw_at lw_m6 5 rfl) rfl
theorem q1394 : (Jvm.Cond.instanceMethod ({ cls := "GroupJournal$Chain", name := "<init>", desc := "()V" } : Jvm.MethodName)) ∈ lw_all := lw_g (lw_at lw_m6 7 rfl) rfl
theorem q1395 : (Jvm.Cond.code ({ cls := "GroupJournal$Chain", name := "<init>", desc := "()V" } : Jvm.MethodName) prog_4_method_1_code (1 : Nat) (Option.none : Option Jvm.ClassFile.FieldType)) ∈ lw_all := lw_g (lw_at lw_m6 8 rfl) rfl
theorem q1396 : (Jvm.Cond.methodLinkNest "GroupJournal$Chain" (1 : Nat) ({ cls := "GroupJournal$Value", name := "<init>", desc := "()V" } : Jvm.MethodName) "GroupJournal") ∈ lw_tbl := lw_at lw_m6 9 rfl
theorem q1400 : (Jvm.Cond.classLink "GroupJournal$Chain" (7 : Nat) "java/util/ArrayList") ∈ lw_all := lw_g (lw_at lw_m6 13 rfl) rfl
theorem q1401 : (Jvm.Cond.methodLink "GroupJournal$Chain" (9 : Nat) ({ cls := "java/util/ArrayList", name := "<init>", desc := "(I)V" } : Jvm.MethodName)) ∈ lw_all := lw_g (lw_at lw_m6 14 rfl) rfl
theorem q1402 : (Jvm.Cond.classLink "GroupJournal$Chain" (18 : Nat) "java/lang/StringBuilder") ∈ lw_all := lw_g (lw_at lw_m6 15 rfl) rfl
theorem q1404 : (Jvm.Cond.methodLink "GroupJournal$Chain" (20 : Nat) ({ cls := "java/lang/StringBuilder", name := "<init>", desc := "()V" } : Jvm.MethodName)) ∈ lw_all := lw_g (lw_at lw_m6 17 rfl) rfl
theorem q1425 : (Jvm.Cond.fieldLink "GroupJournal$Chain" (12 : Nat) "GroupJournal$Chain" "values" "Ljava/util/List;") ∈ lw_all := lw_g (lw_at lw_m6 38 rfl) rfl
theorem q1426 : (Jvm.Cond.fieldLink "GroupJournal$Chain" (21 : Nat) "GroupJournal$Chain" "signs" "Ljava/lang/StringBuilder;") ∈ lw_all := lw_g (lw_at lw_m6 39 rfl) rfl
theorem q1427 : (Jvm.Cond.laysFinal "GroupJournal$Chain" "GroupJournal$Chain" "values" "Ljava/util/List;") ∈ lw_all := lw_g (lw_at lw_m6 40 rfl) rfl
theorem q1428 : (Jvm.Cond.soleField "GroupJournal$Chain" "values") ∈ lw_all := lw_g (lw_at lw_m6 41 rfl) rfl
theorem q1429 : (Jvm.Cond.laysFinal "GroupJournal$Chain" "GroupJournal$Chain" "signs" "Ljava/lang/StringBuilder;") ∈ lw_all := lw_g (lw_at lw_m6 42 rfl) rfl
theorem q1430 : (Jvm.Cond.soleField "GroupJournal$Chain" "signs") ∈ lw_all := lw_g (lw_at lw_m6 43 rfl) rfl
theorem q1431 : (Jvm.Cond.superclass "GroupJournal$Chain" "GroupJournal$Value") ∈ lw_all := lw_g (lw_at lw_m6 44 rfl) rfl
theorem q1514 : (Jvm.Cond.instanceMethod ({ cls := "GroupJournal$Chain", name := "add", desc := "(CLGroupJournal$Value;)V" } : Jvm.MethodName)) ∈ lw_all := lw_g (lw_at lw_m6 127 rfl) rfl
theorem q1515 : (Jvm.Cond.selects "GroupJournal$Chain" ({ cls := "GroupJournal$Chain", name := "add", desc := "(CLGroupJournal$Value;)V" } : Jvm.MethodName) ({ cls := "GroupJournal$Chain", name := "add", desc := "(CLGroupJournal$Value;)V" } : Jvm.MethodName)) ∈ lw_all := lw_g (lw_at lw_m6 128 rfl) rfl
theorem q1516 : (Jvm.Cond.code ({ cls := "GroupJournal$Chain", name := "add", desc := "(CLGroupJournal$Value;)V" } : Jvm.MethodName) prog_4_method_2_code (3 : Nat) (Option.none : Option Jvm.ClassFile.FieldType)) ∈ lw_all := lw_g (lw_at lw_m6 129 rfl) rfl
theorem q1517 : (Jvm.Cond.methodLink "GroupJournal$Chain" (25 : Nat) ({ cls := "java/lang/StringBuilder", name := "append", desc := "(C)Ljava/lang/StringBuilder;" } : Jvm.MethodName)) ∈ lw_all := lw_g (lw_at lw_m6 130 rfl) rfl
theorem q1574 : (Jvm.Cond.interfaceEntry "GroupJournal$Chain" (29 : Nat)) ∈ lw_tbl := lw_at lw_m6 187 rfl
theorem q1575 : (Jvm.Cond.methodLink "GroupJournal$Chain" (29 : Nat) ({ cls := "java/util/List", name := "add", desc := "(Ljava/lang/Object;)Z" } : Jvm.MethodName)) ∈ lw_all := lw_g (lw_at lw_m6 188 rfl) rfl
theorem q1658 : (Jvm.Cond.selects "GroupJournal$Chain" ({ cls := "java/lang/Object", name := "hashCode", desc := "()I" } : Jvm.MethodName) ({ cls := "java/lang/Object", name := "hashCode", desc := "()I" } : Jvm.MethodName)) ∈ lw_all := lw_g (lw_at lw_m7 31 rfl) rfl
theorem q1706 : (Jvm.Cond.selects "GroupJournal$Chain" ({ cls := "java/lang/Object", name := "equals", desc := "(Ljava/lang/Object;)Z" } : Jvm.MethodName) ({ cls := "java/lang/Object", name := "equals", desc := "(Ljava/lang/Object;)Z" } : Jvm.MethodName)) ∈ lw_all := lw_g (lw_at lw_m7 79 rfl) rfl
theorem q2756 : (Jvm.Cond.selects "GroupJournal$Chain" ({ cls := "GroupJournal$Value", name := "at", desc := "(LGroupJournal$Moment;)J" } : Jvm.MethodName) ({ cls := "GroupJournal$Chain", name := "at", desc := "(LGroupJournal$Moment;)J" } : Jvm.MethodName)) ∈ lw_all := lw_g (lw_at lw_m11 169 rfl) rfl
theorem q2757 : (Jvm.Cond.instanceMethod ({ cls := "GroupJournal$Chain", name := "at", desc := "(LGroupJournal$Moment;)J" } : Jvm.MethodName)) ∈ lw_all := lw_g (lw_at lw_m11 170 rfl) rfl
theorem q2758 : (Jvm.Cond.code ({ cls := "GroupJournal$Chain", name := "at", desc := "(LGroupJournal$Moment;)J" } : Jvm.MethodName) prog_4_method_3_code (5 : Nat) (Option.some Jvm.ClassFile.FieldType.long)) ∈ lw_all := lw_g (lw_at lw_m11 171 rfl) rfl
theorem q2759 : (Jvm.Cond.interfaceEntry "GroupJournal$Chain" (35 : Nat)) ∈ lw_tbl := lw_at lw_m11 172 rfl
theorem q2760 : (Jvm.Cond.methodLink "GroupJournal$Chain" (35 : Nat) ({ cls := "java/util/List", name := "get", desc := "(I)Ljava/lang/Object;" } : Jvm.MethodName)) ∈ lw_all := lw_g (lw_at lw_m11 173 rfl) rfl
theorem q2761 : (Jvm.Cond.classLink "GroupJournal$Chain" (2 : Nat) "GroupJournal$Value") ∈ lw_all := lw_g (lw_at lw_m11 174 rfl) rfl
theorem q2762 : (Jvm.Cond.methodLink "GroupJournal$Chain" (39 : Nat) ({ cls := "GroupJournal$Value", name := "at", desc := "(LGroupJournal$Moment;)J" } : Jvm.MethodName)) ∈ lw_all := lw_g (lw_at lw_m11 175 rfl) rfl
theorem q2778 : (Jvm.Cond.interfaceEntry "GroupJournal$Chain" (43 : Nat)) ∈ lw_tbl := lw_at lw_m11 191 rfl
theorem q2779 : (Jvm.Cond.methodLink "GroupJournal$Chain" (43 : Nat) ({ cls := "java/util/List", name := "size", desc := "()I" } : Jvm.MethodName)) ∈ lw_all := lw_g (lw_at lw_m11 192 rfl) rfl
theorem q2780 : (Jvm.Cond.methodLink "GroupJournal$Chain" (47 : Nat) ({ cls := "java/lang/StringBuilder", name := "charAt", desc := "(I)C" } : Jvm.MethodName)) ∈ lw_all := lw_g (lw_at lw_m11 193 rfl) rfl
theorem q2790 : (Jvm.Cond.methodLink "GroupJournal$Chain" (51 : Nat) ({ cls := "GroupJournal$Chain", name := "two", desc := "(CJJ)J" } : Jvm.MethodName)) ∈ lw_all := lw_g (lw_at lw_m11 203 rfl) rfl
theorem q2791 : (Jvm.Cond.static ({ cls := "GroupJournal$Chain", name := "two", desc := "(CJJ)J" } : Jvm.MethodName)) ∈ lw_all := lw_g (lw_at lw_m11 204 rfl) rfl
theorem q2792 : (Jvm.Cond.code ({ cls := "GroupJournal$Chain", name := "two", desc := "(CJJ)J" } : Jvm.MethodName) prog_4_method_4_code (5 : Nat) (Option.some Jvm.ClassFile.FieldType.long)) ∈ lw_all := lw_g (lw_at lw_m11 205 rfl) rfl
theorem q2793 : (Jvm.Cond.methodLink "GroupJournal$Chain" (61 : Nat) ({ cls := "java/lang/Math", name := "floorDiv", desc := "(JJ)J" } : Jvm.MethodName)) ∈ lw_all := lw_g (lw_at lw_m11 206 rfl) rfl
theorem q2796 : (Jvm.Cond.methodLinkNest "GroupJournal$Chain" (55 : Nat) ({ cls := "GroupJournal", name := "held", desc := "(J)J" } : Jvm.MethodName) "GroupJournal") ∈ lw_tbl := lw_at lw_m11 209 rfl
theorem q4154 : (Jvm.Cond.castable "GroupJournal$Chain" "GroupJournal$Value") ∈ lw_tbl := lw_at lw_m17 127 rfl
theorem q4182 : (Jvm.Cond.castable "GroupJournal$Chain" "java/lang/Object") ∈ lw_tbl := lw_at lw_m17 155 rfl
theorem in_X18 : ∀ w ∈ wsX180, w ∈ lw_all := lw_in wsX180 [1427, 1429] (by decide +kernel) (by decide +kernel)

/-! GroupJournal$Pair -/
set_option maxRecDepth 100000
def RX19 : String := "GroupJournal$Pair"
def TX19 : u_T := fun k => match k with
  | 0 => ("GroupJournal$Pair", "most", "Z", true)
  | 1 => ("GroupJournal$Pair", "first", "LGroupJournal$Value;", true)
  | _ => ("GroupJournal$Pair", "second", "LGroupJournal$Value;", true)
def tyX19 : Nat → FieldType := fun k => match k with
  | 0 => .boolean
  | 1 => .object "GroupJournal$Value"
  | _ => .object "GroupJournal$Value"
abbrev wsX190 : List Cond := u_ws RX19 TX19 3
theorem nmX19 : ∀ a, a < 3 → ∀ b, b < 3 → a ≠ b → (TX19 a).2.1 ≠ (TX19 b).2.1 := by decide +kernel
theorem tyX19_ok : ∀ k, k < 3 → parseFieldDescriptor (TX19 k).2.2.1 = some (tyX19 k) := by decide +kernel
abbrev cX19_init : ByteArray := prog_15_method_1_code
def yX19_init : MethodName := ⟨RX19, "<init>", "(ZLGroupJournal$Value;LGroupJournal$Value;)V"⟩
def dkwX19_init_0 : List UInt8 := [42, 183, 0, 1, 42, 27, 181, 0, 7, 42, 44, 181, 0, 13, 42, 45, 181, 0, 17, 177]
abbrev dktX19_init_0 : List UInt8 := dkwX19_init_0 ++ []
theorem dksX19_init_0 : cX19_init.data.toList.drop 0 = dktX19_init_0 := by decide +kernel
theorem dX19_init_0 : decode cX19_init 0 = .ok (.aload_n 0, 1) := dk_42 (dk_at dksX19_init_0 0 rfl rfl)
theorem dX19_init_1 : decode cX19_init 1 = .ok (.invokespecial 1, 3) := dk_183 0 1 (dk_at dksX19_init_0 1 rfl rfl)
theorem dX19_init_4 : decode cX19_init 4 = .ok (.aload_n 0, 1) := dk_42 (dk_at dksX19_init_0 4 rfl rfl)
theorem dX19_init_5 : decode cX19_init 5 = .ok (.iload_n 1, 1) := dk_27 (dk_at dksX19_init_0 5 rfl rfl)
theorem dX19_init_6 : decode cX19_init 6 = .ok (.putfield 7, 3) := dk_181 0 7 (dk_at dksX19_init_0 6 rfl rfl)
theorem dX19_init_9 : decode cX19_init 9 = .ok (.aload_n 0, 1) := dk_42 (dk_at dksX19_init_0 9 rfl rfl)
theorem dX19_init_10 : decode cX19_init 10 = .ok (.aload_n 2, 1) := dk_44 (dk_at dksX19_init_0 10 rfl rfl)
theorem dX19_init_11 : decode cX19_init 11 = .ok (.putfield 13, 3) := dk_181 0 13 (dk_at dksX19_init_0 11 rfl rfl)
theorem dX19_init_14 : decode cX19_init 14 = .ok (.aload_n 0, 1) := dk_42 (dk_at dksX19_init_0 14 rfl rfl)
theorem dX19_init_15 : decode cX19_init 15 = .ok (.aload_n 3, 1) := dk_45 (dk_at dksX19_init_0 15 rfl rfl)
theorem dX19_init_16 : decode cX19_init 16 = .ok (.putfield 17, 3) := dk_181 0 17 (dk_at dksX19_init_0 16 rfl rfl)
theorem dX19_init_19 : decode cX19_init 19 = .ok (.return_, 1) := dk_177 (dk_at dksX19_init_0 19 rfl rfl)
abbrev cX19_at : ByteArray := prog_15_method_2_code
def yX19_at : MethodName := ⟨RX19, "at", "(LGroupJournal$Moment;)J"⟩
def dkwX19_at_1 : List UInt8 := [22, 4, 148, 158, 0, 7, 4, 167, 0, 4, 3, 160, 0, 7, 32, 167, 0, 5, 22, 4, 173]
abbrev dktX19_at_1 : List UInt8 := dkwX19_at_1 ++ []
def dkwX19_at_0 : List UInt8 := [42, 180, 0, 13, 43, 182, 0, 20, 65, 42, 180, 0, 17, 43, 182, 0, 20, 55, 4, 42, 180, 0, 7, 32]
abbrev dktX19_at_0 : List UInt8 := dkwX19_at_0 ++ dktX19_at_1
theorem dksX19_at_0 : cX19_at.data.toList.drop 0 = dktX19_at_0 := by decide +kernel
theorem dksX19_at_1 : cX19_at.data.toList.drop 24 = dktX19_at_1 := dk_seg dksX19_at_0 24 rfl rfl
theorem dX19_at_0 : decode cX19_at 0 = .ok (.aload_n 0, 1) := dk_42 (dk_at dksX19_at_0 0 rfl rfl)
theorem dX19_at_1 : decode cX19_at 1 = .ok (.getfield 13, 3) := dk_180 0 13 (dk_at dksX19_at_0 1 rfl rfl)
theorem dX19_at_4 : decode cX19_at 4 = .ok (.aload_n 1, 1) := dk_43 (dk_at dksX19_at_0 4 rfl rfl)
theorem dX19_at_5 : decode cX19_at 5 = .ok (.invokevirtual 20, 3) := dk_182 0 20 (dk_at dksX19_at_0 5 rfl rfl)
theorem dX19_at_8 : decode cX19_at 8 = .ok (.lstore_n 2, 1) := dk_65 (dk_at dksX19_at_0 8 rfl rfl)
theorem dX19_at_9 : decode cX19_at 9 = .ok (.aload_n 0, 1) := dk_42 (dk_at dksX19_at_0 9 rfl rfl)
theorem dX19_at_10 : decode cX19_at 10 = .ok (.getfield 17, 3) := dk_180 0 17 (dk_at dksX19_at_0 10 rfl rfl)
theorem dX19_at_13 : decode cX19_at 13 = .ok (.aload_n 1, 1) := dk_43 (dk_at dksX19_at_0 13 rfl rfl)
theorem dX19_at_14 : decode cX19_at 14 = .ok (.invokevirtual 20, 3) := dk_182 0 20 (dk_at dksX19_at_0 14 rfl rfl)
theorem dX19_at_17 : decode cX19_at 17 = .ok (.lstore 4, 2) := dk_55 4 (dk_at dksX19_at_0 17 rfl rfl)
theorem dX19_at_19 : decode cX19_at 19 = .ok (.aload_n 0, 1) := dk_42 (dk_at dksX19_at_0 19 rfl rfl)
theorem dX19_at_20 : decode cX19_at 20 = .ok (.getfield 7, 3) := dk_180 0 7 (dk_at dksX19_at_0 20 rfl rfl)
theorem dX19_at_23 : decode cX19_at 23 = .ok (.lload_n 2, 1) := dk_32 (dk_at dksX19_at_0 23 rfl rfl)
theorem dX19_at_24 : decode cX19_at 24 = .ok (.lload 4, 2) := dk_22 4 (dk_at dksX19_at_1 0 rfl rfl)
theorem dX19_at_26 : decode cX19_at 26 = .ok (.lcmp, 1) := dk_148 (dk_at dksX19_at_1 2 rfl rfl)
theorem dX19_at_27 : decode cX19_at 27 = .ok (.ifCond .le 7, 3) := dk_158 0 7 (dk_at dksX19_at_1 3 rfl rfl)
theorem dX19_at_30 : decode cX19_at 30 = .ok (.iconst 1, 1) := dk_4 (dk_at dksX19_at_1 6 rfl rfl)
theorem dX19_at_31 : decode cX19_at 31 = .ok (.goto 4, 3) := dk_167 0 4 (dk_at dksX19_at_1 7 rfl rfl)
theorem dX19_at_34 : decode cX19_at 34 = .ok (.iconst 0, 1) := dk_3 (dk_at dksX19_at_1 10 rfl rfl)
theorem dX19_at_35 : decode cX19_at 35 = .ok (.if_icmp .ne 7, 3) := dk_160 0 7 (dk_at dksX19_at_1 11 rfl rfl)
theorem dX19_at_38 : decode cX19_at 38 = .ok (.lload_n 2, 1) := dk_32 (dk_at dksX19_at_1 14 rfl rfl)
theorem dX19_at_39 : decode cX19_at 39 = .ok (.goto 5, 3) := dk_167 0 5 (dk_at dksX19_at_1 15 rfl rfl)
theorem dX19_at_42 : decode cX19_at 42 = .ok (.lload 4, 2) := dk_22 4 (dk_at dksX19_at_1 18 rfl rfl)
theorem dX19_at_44 : decode cX19_at 44 = .ok (.lreturn, 1) := dk_173 (dk_at dksX19_at_1 20 rfl rfl)
theorem q232 : (Jvm.Cond.initialized "GroupJournal$Pair") ∈ lw_all := lw_g (lw_at lw_m1 45 rfl) rfl
theorem q1289 : (Jvm.Cond.selects "GroupJournal$Pair" ({ cls := "java/lang/Object", name := "getClass", desc := "()Ljava/lang/Class;" } : Jvm.MethodName) ({ cls := "java/lang/Object", name := "getClass", desc := "()Ljava/lang/Class;" } : Jvm.MethodName)) ∈ lw_all := lw_g (lw_at lw_m5 142 rfl) rfl
theorem q1445 : (Jvm.Cond.instantiable "GroupJournal$Pair" (3 : Nat)) ∈ lw_all := lw_g (lw_at lw_m6 58 rfl) rfl
theorem q1447 : (Jvm.Cond.instanceMethod ({ cls := "GroupJournal$Pair", name := "<init>", desc := "(ZLGroupJournal$Value;LGroupJournal$Value;)V" } : Jvm.MethodName)) ∈ lw_all := lw_g (lw_at lw_m6 60 rfl) rfl
theorem q1448 : (Jvm.Cond.code ({ cls := "GroupJournal$Pair", name := "<init>", desc := "(ZLGroupJournal$Value;LGroupJournal$Value;)V" } : Jvm.MethodName) prog_15_method_1_code (4 : Nat) (Option.none : Option Jvm.ClassFile.FieldType)) ∈ lw_all := lw_g (lw_at lw_m6 61 rfl) rfl
theorem q1449 : (Jvm.Cond.methodLinkNest "GroupJournal$Pair" (1 : Nat) ({ cls := "GroupJournal$Value", name := "<init>", desc := "()V" } : Jvm.MethodName) "GroupJournal") ∈ lw_tbl := lw_at lw_m6 62 rfl
theorem q1450 : (Jvm.Cond.fieldLink "GroupJournal$Pair" (7 : Nat) "GroupJournal$Pair" "most" "Z") ∈ lw_all := lw_g (lw_at lw_m6 63 rfl) rfl
theorem q1451 : (Jvm.Cond.fieldLink "GroupJournal$Pair" (13 : Nat) "GroupJournal$Pair" "first" "LGroupJournal$Value;") ∈ lw_all := lw_g (lw_at lw_m6 64 rfl) rfl
theorem q1452 : (Jvm.Cond.fieldLink "GroupJournal$Pair" (17 : Nat) "GroupJournal$Pair" "second" "LGroupJournal$Value;") ∈ lw_all := lw_g (lw_at lw_m6 65 rfl) rfl
theorem q1453 : (Jvm.Cond.laysFinal "GroupJournal$Pair" "GroupJournal$Pair" "most" "Z") ∈ lw_all := lw_g (lw_at lw_m6 66 rfl) rfl
theorem q1454 : (Jvm.Cond.soleField "GroupJournal$Pair" "most") ∈ lw_all := lw_g (lw_at lw_m6 67 rfl) rfl
theorem q1455 : (Jvm.Cond.laysFinal "GroupJournal$Pair" "GroupJournal$Pair" "first" "LGroupJournal$Value;") ∈ lw_all := lw_g (lw_at lw_m6 68 rfl) rfl
theorem q1456 : (Jvm.Cond.soleField "GroupJournal$Pair" "first") ∈ lw_all := lw_g (lw_at lw_m6 69 rfl) rfl
theorem q1457 : (Jvm.Cond.laysFinal "GroupJournal$Pair" "GroupJournal$Pair" "second" "LGroupJournal$Value;") ∈ lw_all := lw_g (lw_at lw_m6 70 rfl) rfl
theorem q1458 : (Jvm.Cond.soleField "GroupJournal$Pair" "second") ∈ lw_all := lw_g (lw_at lw_m6 71 rfl) rfl
theorem q1459 : (Jvm.Cond.superclass "GroupJournal$Pair" "GroupJournal$Value") ∈ lw_all := lw_g (lw_at lw_m6 72 rfl) rfl
theorem q1671 : (Jvm.Cond.selects "GroupJournal$Pair" ({ cls := "java/lang/Object", name := "hashCode", desc := "()I" } : Jvm.MethodName) ({ cls := "java/lang/Object", name := "hashCode", desc := "()I" } : Jvm.MethodName)) ∈ lw_all := lw_g (lw_at lw_m7 44 rfl) rfl
theorem q1720 : (Jvm.Cond.selects "GroupJournal$Pair" ({ cls := "java/lang/Object", name := "equals", desc := "(Ljava/lang/Object;)Z" } : Jvm.MethodName) ({ cls := "java/lang/Object", name := "equals", desc := "(Ljava/lang/Object;)Z" } : Jvm.MethodName)) ∈ lw_all := lw_g (lw_at lw_m7 93 rfl) rfl
theorem q2768 : (Jvm.Cond.instanceMethod ({ cls := "GroupJournal$Pair", name := "at", desc := "(LGroupJournal$Moment;)J" } : Jvm.MethodName)) ∈ lw_all := lw_g (lw_at lw_m11 181 rfl) rfl
theorem q2769 : (Jvm.Cond.code ({ cls := "GroupJournal$Pair", name := "at", desc := "(LGroupJournal$Moment;)J" } : Jvm.MethodName) prog_15_method_2_code (6 : Nat) (Option.some Jvm.ClassFile.FieldType.long)) ∈ lw_all := lw_g (lw_at lw_m11 182 rfl) rfl
theorem q2770 : (Jvm.Cond.methodLink "GroupJournal$Pair" (20 : Nat) ({ cls := "GroupJournal$Value", name := "at", desc := "(LGroupJournal$Moment;)J" } : Jvm.MethodName)) ∈ lw_all := lw_g (lw_at lw_m11 183 rfl) rfl
theorem q2799 : (Jvm.Cond.selects "GroupJournal$Pair" ({ cls := "GroupJournal$Value", name := "at", desc := "(LGroupJournal$Moment;)J" } : Jvm.MethodName) ({ cls := "GroupJournal$Pair", name := "at", desc := "(LGroupJournal$Moment;)J" } : Jvm.MethodName)) ∈ lw_all := lw_g (lw_at lw_m11 212 rfl) rfl
theorem q4157 : (Jvm.Cond.castable "GroupJournal$Pair" "GroupJournal$Value") ∈ lw_tbl := lw_at lw_m17 130 rfl
theorem q4184 : (Jvm.Cond.castable "GroupJournal$Pair" "java/lang/Object") ∈ lw_tbl := lw_at lw_m17 157 rfl
theorem in_X19 : ∀ w ∈ wsX190, w ∈ lw_all := lw_in wsX190 [1453, 1455, 1457] (by decide +kernel) (by decide +kernel)

/-! GroupJournal$Fixed -/
set_option maxRecDepth 100000
def RX20 : String := "GroupJournal$Fixed"
def TX20 : u_T := fun k => match k with
  | _ => ("GroupJournal$Fixed", "value", "J", true)
def tyX20 : Nat → FieldType := fun k => match k with
  | _ => .long
abbrev wsX200 : List Cond := u_ws RX20 TX20 1
theorem nmX20 : ∀ a, a < 1 → ∀ b, b < 1 → a ≠ b → (TX20 a).2.1 ≠ (TX20 b).2.1 := by decide +kernel
theorem tyX20_ok : ∀ k, k < 1 → parseFieldDescriptor (TX20 k).2.2.1 = some (tyX20 k) := by decide +kernel
abbrev cX20_init : ByteArray := prog_8_method_1_code
def yX20_init : MethodName := ⟨RX20, "<init>", "(J)V"⟩
def dkwX20_init_0 : List UInt8 := [42, 183, 0, 1, 42, 31, 181, 0, 7, 177]
abbrev dktX20_init_0 : List UInt8 := dkwX20_init_0 ++ []
theorem dksX20_init_0 : cX20_init.data.toList.drop 0 = dktX20_init_0 := by decide +kernel
theorem dX20_init_0 : decode cX20_init 0 = .ok (.aload_n 0, 1) := dk_42 (dk_at dksX20_init_0 0 rfl rfl)
theorem dX20_init_1 : decode cX20_init 1 = .ok (.invokespecial 1, 3) := dk_183 0 1 (dk_at dksX20_init_0 1 rfl rfl)
theorem dX20_init_4 : decode cX20_init 4 = .ok (.aload_n 0, 1) := dk_42 (dk_at dksX20_init_0 4 rfl rfl)
theorem dX20_init_5 : decode cX20_init 5 = .ok (.lload_n 1, 1) := dk_31 (dk_at dksX20_init_0 5 rfl rfl)
theorem dX20_init_6 : decode cX20_init 6 = .ok (.putfield 7, 3) := dk_181 0 7 (dk_at dksX20_init_0 6 rfl rfl)
theorem dX20_init_9 : decode cX20_init 9 = .ok (.return_, 1) := dk_177 (dk_at dksX20_init_0 9 rfl rfl)
abbrev cX20_at : ByteArray := prog_8_method_2_code
def yX20_at : MethodName := ⟨RX20, "at", "(LGroupJournal$Moment;)J"⟩
theorem dX20_at_0 : decode cX20_at 0 = .ok (.aload_n 0, 1) := by decide +kernel
theorem dX20_at_1 : decode cX20_at 1 = .ok (.getfield 7, 3) := by decide +kernel
theorem dX20_at_4 : decode cX20_at 4 = .ok (.lreturn, 1) := by decide +kernel
theorem q233 : (Jvm.Cond.initialized "GroupJournal$Fixed") ∈ lw_all := lw_g (lw_at lw_m1 46 rfl) rfl
theorem q1282 : (Jvm.Cond.selects "GroupJournal$Fixed" ({ cls := "java/lang/Object", name := "getClass", desc := "()Ljava/lang/Class;" } : Jvm.MethodName) ({ cls := "java/lang/Object", name := "getClass", desc := "()Ljava/lang/Class;" } : Jvm.MethodName)) ∈ lw_all := lw_g (lw_at lw_m5 135 rfl) rfl
theorem q1461 : (Jvm.Cond.instantiable "GroupJournal$Fixed" (1 : Nat)) ∈ lw_all := lw_g (lw_at lw_m6 74 rfl) rfl
theorem q1463 : (Jvm.Cond.instanceMethod ({ cls := "GroupJournal$Fixed", name := "<init>", desc := "(J)V" } : Jvm.MethodName)) ∈ lw_all := lw_g (lw_at lw_m6 76 rfl) rfl
theorem q1464 : (Jvm.Cond.code ({ cls := "GroupJournal$Fixed", name := "<init>", desc := "(J)V" } : Jvm.MethodName) prog_8_method_1_code (3 : Nat) (Option.none : Option Jvm.ClassFile.FieldType)) ∈ lw_all := lw_g (lw_at lw_m6 77 rfl) rfl
theorem q1465 : (Jvm.Cond.methodLinkNest "GroupJournal$Fixed" (1 : Nat) ({ cls := "GroupJournal$Value", name := "<init>", desc := "()V" } : Jvm.MethodName) "GroupJournal") ∈ lw_tbl := lw_at lw_m6 78 rfl
theorem q1466 : (Jvm.Cond.fieldLink "GroupJournal$Fixed" (7 : Nat) "GroupJournal$Fixed" "value" "J") ∈ lw_all := lw_g (lw_at lw_m6 79 rfl) rfl
theorem q1467 : (Jvm.Cond.laysFinal "GroupJournal$Fixed" "GroupJournal$Fixed" "value" "J") ∈ lw_all := lw_g (lw_at lw_m6 80 rfl) rfl
theorem q1468 : (Jvm.Cond.soleField "GroupJournal$Fixed" "value") ∈ lw_all := lw_g (lw_at lw_m6 81 rfl) rfl
theorem q1469 : (Jvm.Cond.superclass "GroupJournal$Fixed" "GroupJournal$Value") ∈ lw_all := lw_g (lw_at lw_m6 82 rfl) rfl
theorem q1662 : (Jvm.Cond.selects "GroupJournal$Fixed" ({ cls := "java/lang/Object", name := "hashCode", desc := "()I" } : Jvm.MethodName) ({ cls := "java/lang/Object", name := "hashCode", desc := "()I" } : Jvm.MethodName)) ∈ lw_all := lw_g (lw_at lw_m7 35 rfl) rfl
theorem q1710 : (Jvm.Cond.selects "GroupJournal$Fixed" ({ cls := "java/lang/Object", name := "equals", desc := "(Ljava/lang/Object;)Z" } : Jvm.MethodName) ({ cls := "java/lang/Object", name := "equals", desc := "(Ljava/lang/Object;)Z" } : Jvm.MethodName)) ∈ lw_all := lw_g (lw_at lw_m7 83 rfl) rfl
theorem q2763 : (Jvm.Cond.instanceMethod ({ cls := "GroupJournal$Fixed", name := "at", desc := "(LGroupJournal$Moment;)J" } : Jvm.MethodName)) ∈ lw_all := lw_g (lw_at lw_m11 176 rfl) rfl
theorem q2764 : (Jvm.Cond.code ({ cls := "GroupJournal$Fixed", name := "at", desc := "(LGroupJournal$Moment;)J" } : Jvm.MethodName) prog_8_method_2_code (2 : Nat) (Option.some Jvm.ClassFile.FieldType.long)) ∈ lw_all := lw_g (lw_at lw_m11 177 rfl) rfl
theorem q2797 : (Jvm.Cond.selects "GroupJournal$Fixed" ({ cls := "GroupJournal$Value", name := "at", desc := "(LGroupJournal$Moment;)J" } : Jvm.MethodName) ({ cls := "GroupJournal$Fixed", name := "at", desc := "(LGroupJournal$Moment;)J" } : Jvm.MethodName)) ∈ lw_all := lw_g (lw_at lw_m11 210 rfl) rfl
theorem q4155 : (Jvm.Cond.castable "GroupJournal$Fixed" "GroupJournal$Value") ∈ lw_tbl := lw_at lw_m17 128 rfl
theorem q4185 : (Jvm.Cond.castable "GroupJournal$Fixed" "java/lang/Object") ∈ lw_tbl := lw_at lw_m17 158 rfl
theorem in_X20 : ∀ w ∈ wsX200, w ∈ lw_all := lw_in wsX200 [1467] (by decide +kernel) (by decide +kernel)

/-! GroupJournal$Asked -/
set_option maxRecDepth 100000
def RX21 : String := "GroupJournal$Asked"
def TX21 : u_T := fun k => match k with
  | _ => ("GroupJournal$Asked", "what", "I", true)
def tyX21 : Nat → FieldType := fun k => match k with
  | _ => .int
abbrev wsX210 : List Cond := u_ws RX21 TX21 1
theorem nmX21 : ∀ a, a < 1 → ∀ b, b < 1 → a ≠ b → (TX21 a).2.1 ≠ (TX21 b).2.1 := by decide +kernel
theorem tyX21_ok : ∀ k, k < 1 → parseFieldDescriptor (TX21 k).2.2.1 = some (tyX21 k) := by decide +kernel
abbrev cX21_init : ByteArray := prog_3_method_1_code
def yX21_init : MethodName := ⟨RX21, "<init>", "(I)V"⟩
def dkwX21_init_0 : List UInt8 := [42, 183, 0, 1, 42, 27, 181, 0, 7, 177]
abbrev dktX21_init_0 : List UInt8 := dkwX21_init_0 ++ []
theorem dksX21_init_0 : cX21_init.data.toList.drop 0 = dktX21_init_0 := by decide +kernel
theorem dX21_init_0 : decode cX21_init 0 = .ok (.aload_n 0, 1) := dk_42 (dk_at dksX21_init_0 0 rfl rfl)
theorem dX21_init_1 : decode cX21_init 1 = .ok (.invokespecial 1, 3) := dk_183 0 1 (dk_at dksX21_init_0 1 rfl rfl)
theorem dX21_init_4 : decode cX21_init 4 = .ok (.aload_n 0, 1) := dk_42 (dk_at dksX21_init_0 4 rfl rfl)
theorem dX21_init_5 : decode cX21_init 5 = .ok (.iload_n 1, 1) := dk_27 (dk_at dksX21_init_0 5 rfl rfl)
theorem dX21_init_6 : decode cX21_init 6 = .ok (.putfield 7, 3) := dk_181 0 7 (dk_at dksX21_init_0 6 rfl rfl)
theorem dX21_init_9 : decode cX21_init 9 = .ok (.return_, 1) := dk_177 (dk_at dksX21_init_0 9 rfl rfl)
abbrev cX21_at : ByteArray := prog_3_method_2_code
def yX21_at : MethodName := ⟨RX21, "at", "(LGroupJournal$Moment;)J"⟩
def dkwX21_at_0 : List UInt8 := [43, 180, 0, 13, 42, 180, 0, 7, 47, 184, 0, 19, 173]
abbrev dktX21_at_0 : List UInt8 := dkwX21_at_0 ++ []
theorem dksX21_at_0 : cX21_at.data.toList.drop 0 = dktX21_at_0 := by decide +kernel
theorem dX21_at_0 : decode cX21_at 0 = .ok (.aload_n 1, 1) := dk_43 (dk_at dksX21_at_0 0 rfl rfl)
theorem dX21_at_1 : decode cX21_at 1 = .ok (.getfield 13, 3) := dk_180 0 13 (dk_at dksX21_at_0 1 rfl rfl)
theorem dX21_at_4 : decode cX21_at 4 = .ok (.aload_n 0, 1) := dk_42 (dk_at dksX21_at_0 4 rfl rfl)
theorem dX21_at_5 : decode cX21_at 5 = .ok (.getfield 7, 3) := dk_180 0 7 (dk_at dksX21_at_0 5 rfl rfl)
theorem dX21_at_8 : decode cX21_at 8 = .ok (.laload, 1) := dk_47 (dk_at dksX21_at_0 8 rfl rfl)
theorem dX21_at_9 : decode cX21_at 9 = .ok (.invokestatic 19, 3) := dk_184 0 19 (dk_at dksX21_at_0 9 rfl rfl)
theorem dX21_at_12 : decode cX21_at 12 = .ok (.lreturn, 1) := dk_173 (dk_at dksX21_at_0 12 rfl rfl)
theorem q234 : (Jvm.Cond.initialized "GroupJournal$Asked") ∈ lw_all := lw_g (lw_at lw_m1 47 rfl) rfl
theorem q472 : (Jvm.Cond.fieldLinkNest "GroupJournal$Asked" (13 : Nat) "GroupJournal$Moment" "of" "[J" "GroupJournal") ∈ lw_tbl := lw_at lw_m2 45 rfl
theorem q1277 : (Jvm.Cond.selects "GroupJournal$Asked" ({ cls := "java/lang/Object", name := "getClass", desc := "()Ljava/lang/Class;" } : Jvm.MethodName) ({ cls := "java/lang/Object", name := "getClass", desc := "()Ljava/lang/Class;" } : Jvm.MethodName)) ∈ lw_all := lw_g (lw_at lw_m5 130 rfl) rfl
theorem q1480 : (Jvm.Cond.instantiable "GroupJournal$Asked" (1 : Nat)) ∈ lw_all := lw_g (lw_at lw_m6 93 rfl) rfl
theorem q1482 : (Jvm.Cond.instanceMethod ({ cls := "GroupJournal$Asked", name := "<init>", desc := "(I)V" } : Jvm.MethodName)) ∈ lw_all := lw_g (lw_at lw_m6 95 rfl) rfl
theorem q1483 : (Jvm.Cond.code ({ cls := "GroupJournal$Asked", name := "<init>", desc := "(I)V" } : Jvm.MethodName) prog_3_method_1_code (2 : Nat) (Option.none : Option Jvm.ClassFile.FieldType)) ∈ lw_all := lw_g (lw_at lw_m6 96 rfl) rfl
theorem q1484 : (Jvm.Cond.methodLinkNest "GroupJournal$Asked" (1 : Nat) ({ cls := "GroupJournal$Value", name := "<init>", desc := "()V" } : Jvm.MethodName) "GroupJournal") ∈ lw_tbl := lw_at lw_m6 97 rfl
theorem q1485 : (Jvm.Cond.fieldLink "GroupJournal$Asked" (7 : Nat) "GroupJournal$Asked" "what" "I") ∈ lw_all := lw_g (lw_at lw_m6 98 rfl) rfl
theorem q1486 : (Jvm.Cond.laysFinal "GroupJournal$Asked" "GroupJournal$Asked" "what" "I") ∈ lw_all := lw_g (lw_at lw_m6 99 rfl) rfl
theorem q1487 : (Jvm.Cond.soleField "GroupJournal$Asked" "what") ∈ lw_all := lw_g (lw_at lw_m6 100 rfl) rfl
theorem q1488 : (Jvm.Cond.superclass "GroupJournal$Asked" "GroupJournal$Value") ∈ lw_all := lw_g (lw_at lw_m6 101 rfl) rfl
theorem q1657 : (Jvm.Cond.selects "GroupJournal$Asked" ({ cls := "java/lang/Object", name := "hashCode", desc := "()I" } : Jvm.MethodName) ({ cls := "java/lang/Object", name := "hashCode", desc := "()I" } : Jvm.MethodName)) ∈ lw_all := lw_g (lw_at lw_m7 30 rfl) rfl
theorem q1705 : (Jvm.Cond.selects "GroupJournal$Asked" ({ cls := "java/lang/Object", name := "equals", desc := "(Ljava/lang/Object;)Z" } : Jvm.MethodName) ({ cls := "java/lang/Object", name := "equals", desc := "(Ljava/lang/Object;)Z" } : Jvm.MethodName)) ∈ lw_all := lw_g (lw_at lw_m7 78 rfl) rfl
theorem q2742 : (Jvm.Cond.selects "GroupJournal$Asked" ({ cls := "GroupJournal$Value", name := "at", desc := "(LGroupJournal$Moment;)J" } : Jvm.MethodName) ({ cls := "GroupJournal$Asked", name := "at", desc := "(LGroupJournal$Moment;)J" } : Jvm.MethodName)) ∈ lw_all := lw_g (lw_at lw_m11 155 rfl) rfl
theorem q2743 : (Jvm.Cond.instanceMethod ({ cls := "GroupJournal$Asked", name := "at", desc := "(LGroupJournal$Moment;)J" } : Jvm.MethodName)) ∈ lw_all := lw_g (lw_at lw_m11 156 rfl) rfl
theorem q2744 : (Jvm.Cond.code ({ cls := "GroupJournal$Asked", name := "at", desc := "(LGroupJournal$Moment;)J" } : Jvm.MethodName) prog_3_method_2_code (2 : Nat) (Option.some Jvm.ClassFile.FieldType.long)) ∈ lw_all := lw_g (lw_at lw_m11 157 rfl) rfl
theorem q2745 : (Jvm.Cond.methodLinkNest "GroupJournal$Asked" (19 : Nat) ({ cls := "GroupJournal", name := "held", desc := "(J)J" } : Jvm.MethodName) "GroupJournal") ∈ lw_tbl := lw_at lw_m11 158 rfl
theorem q4153 : (Jvm.Cond.castable "GroupJournal$Asked" "GroupJournal$Value") ∈ lw_tbl := lw_at lw_m17 126 rfl
theorem q4186 : (Jvm.Cond.castable "GroupJournal$Asked" "java/lang/Object") ∈ lw_tbl := lw_at lw_m17 159 rfl
theorem in_X21 : ∀ w ∈ wsX210, w ∈ lw_all := lw_in wsX210 [1486] (by decide +kernel) (by decide +kernel)

/-! GroupJournal$Looked -/
set_option maxRecDepth 100000
def RX22 : String := "GroupJournal$Looked"
def TX22 : u_T := fun k => match k with
  | 0 => ("GroupJournal$Looked", "what", "I", true)
  | 1 => ("GroupJournal$Looked", "of", "LGroupJournal$Value;", true)
  | _ => ("GroupJournal$Looked", "this$0", "LGroupJournal;", true)
def tyX22 : Nat → FieldType := fun k => match k with
  | 0 => .int
  | 1 => .object "GroupJournal$Value"
  | _ => .object "GroupJournal"
abbrev wsX220 : List Cond := u_ws RX22 TX22 3
theorem nmX22 : ∀ a, a < 3 → ∀ b, b < 3 → a ≠ b → (TX22 a).2.1 ≠ (TX22 b).2.1 := by decide +kernel
theorem tyX22_ok : ∀ k, k < 3 → parseFieldDescriptor (TX22 k).2.2.1 = some (tyX22 k) := by decide +kernel
abbrev cX22_init : ByteArray := prog_12_method_1_code
def yX22_init : MethodName := ⟨RX22, "<init>", "(LGroupJournal;ILGroupJournal$Value;)V"⟩
def dkwX22_init_0 : List UInt8 := [42, 43, 181, 0, 1, 42, 183, 0, 7, 42, 28, 181, 0, 13, 42, 45, 181, 0, 17, 177]
abbrev dktX22_init_0 : List UInt8 := dkwX22_init_0 ++ []
theorem dksX22_init_0 : cX22_init.data.toList.drop 0 = dktX22_init_0 := by decide +kernel
theorem dX22_init_0 : decode cX22_init 0 = .ok (.aload_n 0, 1) := dk_42 (dk_at dksX22_init_0 0 rfl rfl)
theorem dX22_init_1 : decode cX22_init 1 = .ok (.aload_n 1, 1) := dk_43 (dk_at dksX22_init_0 1 rfl rfl)
theorem dX22_init_2 : decode cX22_init 2 = .ok (.putfield 1, 3) := dk_181 0 1 (dk_at dksX22_init_0 2 rfl rfl)
theorem dX22_init_5 : decode cX22_init 5 = .ok (.aload_n 0, 1) := dk_42 (dk_at dksX22_init_0 5 rfl rfl)
theorem dX22_init_6 : decode cX22_init 6 = .ok (.invokespecial 7, 3) := dk_183 0 7 (dk_at dksX22_init_0 6 rfl rfl)
theorem dX22_init_9 : decode cX22_init 9 = .ok (.aload_n 0, 1) := dk_42 (dk_at dksX22_init_0 9 rfl rfl)
theorem dX22_init_10 : decode cX22_init 10 = .ok (.iload_n 2, 1) := dk_28 (dk_at dksX22_init_0 10 rfl rfl)
theorem dX22_init_11 : decode cX22_init 11 = .ok (.putfield 13, 3) := dk_181 0 13 (dk_at dksX22_init_0 11 rfl rfl)
theorem dX22_init_14 : decode cX22_init 14 = .ok (.aload_n 0, 1) := dk_42 (dk_at dksX22_init_0 14 rfl rfl)
theorem dX22_init_15 : decode cX22_init 15 = .ok (.aload_n 3, 1) := dk_45 (dk_at dksX22_init_0 15 rfl rfl)
theorem dX22_init_16 : decode cX22_init 16 = .ok (.putfield 17, 3) := dk_181 0 17 (dk_at dksX22_init_0 16 rfl rfl)
theorem dX22_init_19 : decode cX22_init 19 = .ok (.return_, 1) := dk_177 (dk_at dksX22_init_0 19 rfl rfl)
abbrev cX22_at : ByteArray := prog_12_method_2_code
def yX22_at : MethodName := ⟨RX22, "at", "(LGroupJournal$Moment;)J"⟩
def dkwX22_at_0 : List UInt8 := [42, 180, 0, 1, 42, 180, 0, 13, 42, 180, 0, 17, 43, 182, 0, 21, 182, 0, 25, 184, 0, 31, 173]
abbrev dktX22_at_0 : List UInt8 := dkwX22_at_0 ++ []
theorem dksX22_at_0 : cX22_at.data.toList.drop 0 = dktX22_at_0 := by decide +kernel
theorem dX22_at_0 : decode cX22_at 0 = .ok (.aload_n 0, 1) := dk_42 (dk_at dksX22_at_0 0 rfl rfl)
theorem dX22_at_1 : decode cX22_at 1 = .ok (.getfield 1, 3) := dk_180 0 1 (dk_at dksX22_at_0 1 rfl rfl)
theorem dX22_at_4 : decode cX22_at 4 = .ok (.aload_n 0, 1) := dk_42 (dk_at dksX22_at_0 4 rfl rfl)
theorem dX22_at_5 : decode cX22_at 5 = .ok (.getfield 13, 3) := dk_180 0 13 (dk_at dksX22_at_0 5 rfl rfl)
theorem dX22_at_8 : decode cX22_at 8 = .ok (.aload_n 0, 1) := dk_42 (dk_at dksX22_at_0 8 rfl rfl)
theorem dX22_at_9 : decode cX22_at 9 = .ok (.getfield 17, 3) := dk_180 0 17 (dk_at dksX22_at_0 9 rfl rfl)
theorem dX22_at_12 : decode cX22_at 12 = .ok (.aload_n 1, 1) := dk_43 (dk_at dksX22_at_0 12 rfl rfl)
theorem dX22_at_13 : decode cX22_at 13 = .ok (.invokevirtual 21, 3) := dk_182 0 21 (dk_at dksX22_at_0 13 rfl rfl)
theorem dX22_at_16 : decode cX22_at 16 = .ok (.invokevirtual 25, 3) := dk_182 0 25 (dk_at dksX22_at_0 16 rfl rfl)
theorem dX22_at_19 : decode cX22_at 19 = .ok (.invokestatic 31, 3) := dk_184 0 31 (dk_at dksX22_at_0 19 rfl rfl)
theorem dX22_at_22 : decode cX22_at 22 = .ok (.lreturn, 1) := dk_173 (dk_at dksX22_at_0 22 rfl rfl)
theorem q235 : (Jvm.Cond.initialized "GroupJournal$Looked") ∈ lw_all := lw_g (lw_at lw_m1 48 rfl) rfl
theorem q1286 : (Jvm.Cond.selects "GroupJournal$Looked" ({ cls := "java/lang/Object", name := "getClass", desc := "()Ljava/lang/Class;" } : Jvm.MethodName) ({ cls := "java/lang/Object", name := "getClass", desc := "()Ljava/lang/Class;" } : Jvm.MethodName)) ∈ lw_all := lw_g (lw_at lw_m5 139 rfl) rfl
theorem q1496 : (Jvm.Cond.instantiable "GroupJournal$Looked" (3 : Nat)) ∈ lw_all := lw_g (lw_at lw_m6 109 rfl) rfl
theorem q1498 : (Jvm.Cond.instanceMethod ({ cls := "GroupJournal$Looked", name := "<init>", desc := "(LGroupJournal;ILGroupJournal$Value;)V" } : Jvm.MethodName)) ∈ lw_all := lw_g (lw_at lw_m6 111 rfl) rfl
theorem q1499 : (Jvm.Cond.code ({ cls := "GroupJournal$Looked", name := "<init>", desc := "(LGroupJournal;ILGroupJournal$Value;)V" } : Jvm.MethodName) prog_12_method_1_code (4 : Nat) (Option.none : Option Jvm.ClassFile.FieldType)) ∈ lw_all := lw_g (lw_at lw_m6 112 rfl) rfl
theorem q1500 : (Jvm.Cond.methodLinkNest "GroupJournal$Looked" (7 : Nat) ({ cls := "GroupJournal$Value", name := "<init>", desc := "()V" } : Jvm.MethodName) "GroupJournal") ∈ lw_tbl := lw_at lw_m6 113 rfl
theorem q1501 : (Jvm.Cond.fieldLink "GroupJournal$Looked" (13 : Nat) "GroupJournal$Looked" "what" "I") ∈ lw_all := lw_g (lw_at lw_m6 114 rfl) rfl
theorem q1502 : (Jvm.Cond.fieldLink "GroupJournal$Looked" (17 : Nat) "GroupJournal$Looked" "of" "LGroupJournal$Value;") ∈ lw_all := lw_g (lw_at lw_m6 115 rfl) rfl
theorem q1503 : (Jvm.Cond.fieldLink "GroupJournal$Looked" (1 : Nat) "GroupJournal$Looked" "this$0" "LGroupJournal;") ∈ lw_all := lw_g (lw_at lw_m6 116 rfl) rfl
theorem q1504 : (Jvm.Cond.laysFinal "GroupJournal$Looked" "GroupJournal$Looked" "what" "I") ∈ lw_all := lw_g (lw_at lw_m6 117 rfl) rfl
theorem q1505 : (Jvm.Cond.soleField "GroupJournal$Looked" "what") ∈ lw_all := lw_g (lw_at lw_m6 118 rfl) rfl
theorem q1506 : (Jvm.Cond.laysFinal "GroupJournal$Looked" "GroupJournal$Looked" "of" "LGroupJournal$Value;") ∈ lw_all := lw_g (lw_at lw_m6 119 rfl) rfl
theorem q1507 : (Jvm.Cond.soleField "GroupJournal$Looked" "of") ∈ lw_all := lw_g (lw_at lw_m6 120 rfl) rfl
theorem q1508 : (Jvm.Cond.laysFinal "GroupJournal$Looked" "GroupJournal$Looked" "this$0" "LGroupJournal;") ∈ lw_all := lw_g (lw_at lw_m6 121 rfl) rfl
theorem q1509 : (Jvm.Cond.soleField "GroupJournal$Looked" "this$0") ∈ lw_all := lw_g (lw_at lw_m6 122 rfl) rfl
theorem q1510 : (Jvm.Cond.superclass "GroupJournal$Looked" "GroupJournal$Value") ∈ lw_all := lw_g (lw_at lw_m6 123 rfl) rfl
theorem q1668 : (Jvm.Cond.selects "GroupJournal$Looked" ({ cls := "java/lang/Object", name := "hashCode", desc := "()I" } : Jvm.MethodName) ({ cls := "java/lang/Object", name := "hashCode", desc := "()I" } : Jvm.MethodName)) ∈ lw_all := lw_g (lw_at lw_m7 41 rfl) rfl
theorem q1717 : (Jvm.Cond.selects "GroupJournal$Looked" ({ cls := "java/lang/Object", name := "equals", desc := "(Ljava/lang/Object;)Z" } : Jvm.MethodName) ({ cls := "java/lang/Object", name := "equals", desc := "(Ljava/lang/Object;)Z" } : Jvm.MethodName)) ∈ lw_all := lw_g (lw_at lw_m7 90 rfl) rfl
theorem q2765 : (Jvm.Cond.instanceMethod ({ cls := "GroupJournal$Looked", name := "at", desc := "(LGroupJournal$Moment;)J" } : Jvm.MethodName)) ∈ lw_all := lw_g (lw_at lw_m11 178 rfl) rfl
theorem q2766 : (Jvm.Cond.code ({ cls := "GroupJournal$Looked", name := "at", desc := "(LGroupJournal$Moment;)J" } : Jvm.MethodName) prog_12_method_2_code (2 : Nat) (Option.some Jvm.ClassFile.FieldType.long)) ∈ lw_all := lw_g (lw_at lw_m11 179 rfl) rfl
theorem q2767 : (Jvm.Cond.methodLink "GroupJournal$Looked" (21 : Nat) ({ cls := "GroupJournal$Value", name := "at", desc := "(LGroupJournal$Moment;)J" } : Jvm.MethodName)) ∈ lw_all := lw_g (lw_at lw_m11 180 rfl) rfl
theorem q2771 : (Jvm.Cond.methodLinkNest "GroupJournal$Looked" (25 : Nat) ({ cls := "GroupJournal", name := "looked", desc := "(IJ)J" } : Jvm.MethodName) "GroupJournal") ∈ lw_tbl := lw_at lw_m11 184 rfl
theorem q2777 : (Jvm.Cond.methodLinkNest "GroupJournal$Looked" (31 : Nat) ({ cls := "GroupJournal", name := "held", desc := "(J)J" } : Jvm.MethodName) "GroupJournal") ∈ lw_tbl := lw_at lw_m11 190 rfl
theorem q2798 : (Jvm.Cond.selects "GroupJournal$Looked" ({ cls := "GroupJournal$Value", name := "at", desc := "(LGroupJournal$Moment;)J" } : Jvm.MethodName) ({ cls := "GroupJournal$Looked", name := "at", desc := "(LGroupJournal$Moment;)J" } : Jvm.MethodName)) ∈ lw_all := lw_g (lw_at lw_m11 211 rfl) rfl
theorem q4156 : (Jvm.Cond.castable "GroupJournal$Looked" "GroupJournal$Value") ∈ lw_tbl := lw_at lw_m17 129 rfl
theorem q4187 : (Jvm.Cond.castable "GroupJournal$Looked" "java/lang/Object") ∈ lw_tbl := lw_at lw_m17 160 rfl
theorem in_X22 : ∀ w ∈ wsX220, w ∈ lw_all := lw_in wsX220 [1504, 1506, 1508] (by decide +kernel) (by decide +kernel)

/-! GroupJournal$Than -/
set_option maxRecDepth 100000
def RX23 : String := "GroupJournal$Than"
def TX23 : u_T := fun k => match k with
  | 0 => ("GroupJournal$Than", "a", "LGroupJournal$Value;", true)
  | 1 => ("GroupJournal$Than", "b", "LGroupJournal$Value;", true)
  | _ => ("GroupJournal$Than", "sign", "I", true)
def tyX23 : Nat → FieldType := fun k => match k with
  | 0 => .object "GroupJournal$Value"
  | 1 => .object "GroupJournal$Value"
  | _ => .int
abbrev wsX230 : List Cond := u_ws RX23 TX23 3
theorem nmX23 : ∀ a, a < 3 → ∀ b, b < 3 → a ≠ b → (TX23 a).2.1 ≠ (TX23 b).2.1 := by decide +kernel
theorem tyX23_ok : ∀ k, k < 3 → parseFieldDescriptor (TX23 k).2.2.1 = some (tyX23 k) := by decide +kernel
abbrev cX23_init : ByteArray := prog_23_method_1_code
def yX23_init : MethodName := ⟨RX23, "<init>", "(LGroupJournal$Value;ILGroupJournal$Value;)V"⟩
def dkwX23_init_0 : List UInt8 := [42, 183, 0, 1, 42, 43, 181, 0, 7, 42, 28, 181, 0, 13, 42, 45, 181, 0, 17, 177]
abbrev dktX23_init_0 : List UInt8 := dkwX23_init_0 ++ []
theorem dksX23_init_0 : cX23_init.data.toList.drop 0 = dktX23_init_0 := by decide +kernel
theorem dX23_init_0 : decode cX23_init 0 = .ok (.aload_n 0, 1) := dk_42 (dk_at dksX23_init_0 0 rfl rfl)
theorem dX23_init_1 : decode cX23_init 1 = .ok (.invokespecial 1, 3) := dk_183 0 1 (dk_at dksX23_init_0 1 rfl rfl)
theorem dX23_init_4 : decode cX23_init 4 = .ok (.aload_n 0, 1) := dk_42 (dk_at dksX23_init_0 4 rfl rfl)
theorem dX23_init_5 : decode cX23_init 5 = .ok (.aload_n 1, 1) := dk_43 (dk_at dksX23_init_0 5 rfl rfl)
theorem dX23_init_6 : decode cX23_init 6 = .ok (.putfield 7, 3) := dk_181 0 7 (dk_at dksX23_init_0 6 rfl rfl)
theorem dX23_init_9 : decode cX23_init 9 = .ok (.aload_n 0, 1) := dk_42 (dk_at dksX23_init_0 9 rfl rfl)
theorem dX23_init_10 : decode cX23_init 10 = .ok (.iload_n 2, 1) := dk_28 (dk_at dksX23_init_0 10 rfl rfl)
theorem dX23_init_11 : decode cX23_init 11 = .ok (.putfield 13, 3) := dk_181 0 13 (dk_at dksX23_init_0 11 rfl rfl)
theorem dX23_init_14 : decode cX23_init 14 = .ok (.aload_n 0, 1) := dk_42 (dk_at dksX23_init_0 14 rfl rfl)
theorem dX23_init_15 : decode cX23_init 15 = .ok (.aload_n 3, 1) := dk_45 (dk_at dksX23_init_0 15 rfl rfl)
theorem dX23_init_16 : decode cX23_init 16 = .ok (.putfield 17, 3) := dk_181 0 17 (dk_at dksX23_init_0 16 rfl rfl)
theorem dX23_init_19 : decode cX23_init 19 = .ok (.return_, 1) := dk_177 (dk_at dksX23_init_0 19 rfl rfl)
abbrev cX23_holds : ByteArray := prog_23_method_2_code
def yX23_holds : MethodName := ⟨RX23, "holds", "(LGroupJournal$Moment;)Z"⟩
def dkwX23_holds_3 : List UInt8 := [154, 0, 7, 4, 167, 0, 4, 3, 172]
abbrev dktX23_holds_3 : List UInt8 := dkwX23_holds_3 ++ []
def dkwX23_holds_2 : List UInt8 := [16, 62, 160, 0, 18, 32, 22, 4, 148, 158, 0, 7, 4, 167, 0, 19, 3, 167, 0, 15, 32, 22, 4, 148]
abbrev dktX23_holds_2 : List UInt8 := dkwX23_holds_2 ++ dktX23_holds_3
def dkwX23_holds_1 : List UInt8 := [16, 60, 160, 0, 18, 32, 22, 4, 148, 156, 0, 7, 4, 167, 0, 43, 3, 167, 0, 39, 42, 180, 0, 13]
abbrev dktX23_holds_1 : List UInt8 := dkwX23_holds_1 ++ dktX23_holds_2
def dkwX23_holds_0 : List UInt8 := [42, 180, 0, 7, 43, 182, 0, 20, 65, 42, 180, 0, 17, 43, 182, 0, 20, 55, 4, 42, 180, 0, 13]
abbrev dktX23_holds_0 : List UInt8 := dkwX23_holds_0 ++ dktX23_holds_1
theorem dksX23_holds_0 : cX23_holds.data.toList.drop 0 = dktX23_holds_0 := by decide +kernel
theorem dksX23_holds_1 : cX23_holds.data.toList.drop 23 = dktX23_holds_1 := dk_seg dksX23_holds_0 23 rfl rfl
theorem dksX23_holds_2 : cX23_holds.data.toList.drop 47 = dktX23_holds_2 := dk_seg dksX23_holds_1 24 rfl rfl
theorem dksX23_holds_3 : cX23_holds.data.toList.drop 71 = dktX23_holds_3 := dk_seg dksX23_holds_2 24 rfl rfl
theorem dX23_holds_0 : decode cX23_holds 0 = .ok (.aload_n 0, 1) := dk_42 (dk_at dksX23_holds_0 0 rfl rfl)
theorem dX23_holds_1 : decode cX23_holds 1 = .ok (.getfield 7, 3) := dk_180 0 7 (dk_at dksX23_holds_0 1 rfl rfl)
theorem dX23_holds_4 : decode cX23_holds 4 = .ok (.aload_n 1, 1) := dk_43 (dk_at dksX23_holds_0 4 rfl rfl)
theorem dX23_holds_5 : decode cX23_holds 5 = .ok (.invokevirtual 20, 3) := dk_182 0 20 (dk_at dksX23_holds_0 5 rfl rfl)
theorem dX23_holds_8 : decode cX23_holds 8 = .ok (.lstore_n 2, 1) := dk_65 (dk_at dksX23_holds_0 8 rfl rfl)
theorem dX23_holds_9 : decode cX23_holds 9 = .ok (.aload_n 0, 1) := dk_42 (dk_at dksX23_holds_0 9 rfl rfl)
theorem dX23_holds_10 : decode cX23_holds 10 = .ok (.getfield 17, 3) := dk_180 0 17 (dk_at dksX23_holds_0 10 rfl rfl)
theorem dX23_holds_13 : decode cX23_holds 13 = .ok (.aload_n 1, 1) := dk_43 (dk_at dksX23_holds_0 13 rfl rfl)
theorem dX23_holds_14 : decode cX23_holds 14 = .ok (.invokevirtual 20, 3) := dk_182 0 20 (dk_at dksX23_holds_0 14 rfl rfl)
theorem dX23_holds_17 : decode cX23_holds 17 = .ok (.lstore 4, 2) := dk_55 4 (dk_at dksX23_holds_0 17 rfl rfl)
theorem dX23_holds_19 : decode cX23_holds 19 = .ok (.aload_n 0, 1) := dk_42 (dk_at dksX23_holds_0 19 rfl rfl)
theorem dX23_holds_20 : decode cX23_holds 20 = .ok (.getfield 13, 3) := dk_180 0 13 (dk_at dksX23_holds_0 20 rfl rfl)
theorem dX23_holds_23 : decode cX23_holds 23 = .ok (.bipush 60, 2) := dk_16 60 (dk_at dksX23_holds_1 0 rfl rfl)
theorem dX23_holds_25 : decode cX23_holds 25 = .ok (.if_icmp .ne 18, 3) := dk_160 0 18 (dk_at dksX23_holds_1 2 rfl rfl)
theorem dX23_holds_28 : decode cX23_holds 28 = .ok (.lload_n 2, 1) := dk_32 (dk_at dksX23_holds_1 5 rfl rfl)
theorem dX23_holds_29 : decode cX23_holds 29 = .ok (.lload 4, 2) := dk_22 4 (dk_at dksX23_holds_1 6 rfl rfl)
theorem dX23_holds_31 : decode cX23_holds 31 = .ok (.lcmp, 1) := dk_148 (dk_at dksX23_holds_1 8 rfl rfl)
theorem dX23_holds_32 : decode cX23_holds 32 = .ok (.ifCond .ge 7, 3) := dk_156 0 7 (dk_at dksX23_holds_1 9 rfl rfl)
theorem dX23_holds_35 : decode cX23_holds 35 = .ok (.iconst 1, 1) := dk_4 (dk_at dksX23_holds_1 12 rfl rfl)
theorem dX23_holds_36 : decode cX23_holds 36 = .ok (.goto 43, 3) := dk_167 0 43 (dk_at dksX23_holds_1 13 rfl rfl)
theorem dX23_holds_39 : decode cX23_holds 39 = .ok (.iconst 0, 1) := dk_3 (dk_at dksX23_holds_1 16 rfl rfl)
theorem dX23_holds_40 : decode cX23_holds 40 = .ok (.goto 39, 3) := dk_167 0 39 (dk_at dksX23_holds_1 17 rfl rfl)
theorem dX23_holds_43 : decode cX23_holds 43 = .ok (.aload_n 0, 1) := dk_42 (dk_at dksX23_holds_1 20 rfl rfl)
theorem dX23_holds_44 : decode cX23_holds 44 = .ok (.getfield 13, 3) := dk_180 0 13 (dk_at dksX23_holds_1 21 rfl rfl)
theorem dX23_holds_47 : decode cX23_holds 47 = .ok (.bipush 62, 2) := dk_16 62 (dk_at dksX23_holds_2 0 rfl rfl)
theorem dX23_holds_49 : decode cX23_holds 49 = .ok (.if_icmp .ne 18, 3) := dk_160 0 18 (dk_at dksX23_holds_2 2 rfl rfl)
theorem dX23_holds_52 : decode cX23_holds 52 = .ok (.lload_n 2, 1) := dk_32 (dk_at dksX23_holds_2 5 rfl rfl)
theorem dX23_holds_53 : decode cX23_holds 53 = .ok (.lload 4, 2) := dk_22 4 (dk_at dksX23_holds_2 6 rfl rfl)
theorem dX23_holds_55 : decode cX23_holds 55 = .ok (.lcmp, 1) := dk_148 (dk_at dksX23_holds_2 8 rfl rfl)
theorem dX23_holds_56 : decode cX23_holds 56 = .ok (.ifCond .le 7, 3) := dk_158 0 7 (dk_at dksX23_holds_2 9 rfl rfl)
theorem dX23_holds_59 : decode cX23_holds 59 = .ok (.iconst 1, 1) := dk_4 (dk_at dksX23_holds_2 12 rfl rfl)
theorem dX23_holds_60 : decode cX23_holds 60 = .ok (.goto 19, 3) := dk_167 0 19 (dk_at dksX23_holds_2 13 rfl rfl)
theorem dX23_holds_63 : decode cX23_holds 63 = .ok (.iconst 0, 1) := dk_3 (dk_at dksX23_holds_2 16 rfl rfl)
theorem dX23_holds_64 : decode cX23_holds 64 = .ok (.goto 15, 3) := dk_167 0 15 (dk_at dksX23_holds_2 17 rfl rfl)
theorem dX23_holds_67 : decode cX23_holds 67 = .ok (.lload_n 2, 1) := dk_32 (dk_at dksX23_holds_2 20 rfl rfl)
theorem dX23_holds_68 : decode cX23_holds 68 = .ok (.lload 4, 2) := dk_22 4 (dk_at dksX23_holds_2 21 rfl rfl)
theorem dX23_holds_70 : decode cX23_holds 70 = .ok (.lcmp, 1) := dk_148 (dk_at dksX23_holds_2 23 rfl rfl)
theorem dX23_holds_71 : decode cX23_holds 71 = .ok (.ifCond .ne 7, 3) := dk_154 0 7 (dk_at dksX23_holds_3 0 rfl rfl)
theorem dX23_holds_74 : decode cX23_holds 74 = .ok (.iconst 1, 1) := dk_4 (dk_at dksX23_holds_3 3 rfl rfl)
theorem dX23_holds_75 : decode cX23_holds 75 = .ok (.goto 4, 3) := dk_167 0 4 (dk_at dksX23_holds_3 4 rfl rfl)
theorem dX23_holds_78 : decode cX23_holds 78 = .ok (.iconst 0, 1) := dk_3 (dk_at dksX23_holds_3 7 rfl rfl)
theorem dX23_holds_79 : decode cX23_holds 79 = .ok (.ireturn, 1) := dk_172 (dk_at dksX23_holds_3 8 rfl rfl)
theorem q236 : (Jvm.Cond.initialized "GroupJournal$Than") ∈ lw_all := lw_g (lw_at lw_m1 49 rfl) rfl
theorem q1296 : (Jvm.Cond.selects "GroupJournal$Than" ({ cls := "java/lang/Object", name := "getClass", desc := "()Ljava/lang/Class;" } : Jvm.MethodName) ({ cls := "java/lang/Object", name := "getClass", desc := "()Ljava/lang/Class;" } : Jvm.MethodName)) ∈ lw_all := lw_g (lw_at lw_m5 149 rfl) rfl
theorem q1581 : (Jvm.Cond.instantiable "GroupJournal$Than" (3 : Nat)) ∈ lw_all := lw_g (lw_at lw_m6 194 rfl) rfl
theorem q1583 : (Jvm.Cond.instanceMethod ({ cls := "GroupJournal$Than", name := "<init>", desc := "(LGroupJournal$Value;ILGroupJournal$Value;)V" } : Jvm.MethodName)) ∈ lw_all := lw_g (lw_at lw_m6 196 rfl) rfl
theorem q1584 : (Jvm.Cond.code ({ cls := "GroupJournal$Than", name := "<init>", desc := "(LGroupJournal$Value;ILGroupJournal$Value;)V" } : Jvm.MethodName) prog_23_method_1_code (4 : Nat) (Option.none : Option Jvm.ClassFile.FieldType)) ∈ lw_all := lw_g (lw_at lw_m6 197 rfl) rfl
theorem q1585 : (Jvm.Cond.methodLinkNest "GroupJournal$Than" (1 : Nat) ({ cls := "GroupJournal$Test", name := "<init>", desc := "()V" } : Jvm.MethodName) "GroupJournal") ∈ lw_tbl := lw_at lw_m6 198 rfl
theorem q1586 : (Jvm.Cond.fieldLink "GroupJournal$Than" (7 : Nat) "GroupJournal$Than" "a" "LGroupJournal$Value;") ∈ lw_all := lw_g (lw_at lw_m6 199 rfl) rfl
theorem q1587 : (Jvm.Cond.fieldLink "GroupJournal$Than" (17 : Nat) "GroupJournal$Than" "b" "LGroupJournal$Value;") ∈ lw_all := lw_g (lw_at lw_m6 200 rfl) rfl
theorem q1588 : (Jvm.Cond.fieldLink "GroupJournal$Than" (13 : Nat) "GroupJournal$Than" "sign" "I") ∈ lw_all := lw_g (lw_at lw_m6 201 rfl) rfl
theorem q1589 : (Jvm.Cond.laysFinal "GroupJournal$Than" "GroupJournal$Than" "a" "LGroupJournal$Value;") ∈ lw_all := lw_g (lw_at lw_m6 202 rfl) rfl
theorem q1590 : (Jvm.Cond.soleField "GroupJournal$Than" "a") ∈ lw_all := lw_g (lw_at lw_m6 203 rfl) rfl
theorem q1591 : (Jvm.Cond.laysFinal "GroupJournal$Than" "GroupJournal$Than" "b" "LGroupJournal$Value;") ∈ lw_all := lw_g (lw_at lw_m6 204 rfl) rfl
theorem q1592 : (Jvm.Cond.soleField "GroupJournal$Than" "b") ∈ lw_all := lw_g (lw_at lw_m6 205 rfl) rfl
theorem q1593 : (Jvm.Cond.laysFinal "GroupJournal$Than" "GroupJournal$Than" "sign" "I") ∈ lw_all := lw_g (lw_at lw_m6 206 rfl) rfl
theorem q1594 : (Jvm.Cond.soleField "GroupJournal$Than" "sign") ∈ lw_all := lw_g (lw_at lw_m6 207 rfl) rfl
theorem q1595 : (Jvm.Cond.superclass "GroupJournal$Than" "GroupJournal$Test") ∈ lw_all := lw_g (lw_at lw_m6 208 rfl) rfl
theorem q1680 : (Jvm.Cond.selects "GroupJournal$Than" ({ cls := "java/lang/Object", name := "hashCode", desc := "()I" } : Jvm.MethodName) ({ cls := "java/lang/Object", name := "hashCode", desc := "()I" } : Jvm.MethodName)) ∈ lw_all := lw_g (lw_at lw_m7 53 rfl) rfl
theorem q1730 : (Jvm.Cond.selects "GroupJournal$Than" ({ cls := "java/lang/Object", name := "equals", desc := "(Ljava/lang/Object;)Z" } : Jvm.MethodName) ({ cls := "java/lang/Object", name := "equals", desc := "(Ljava/lang/Object;)Z" } : Jvm.MethodName)) ∈ lw_all := lw_g (lw_at lw_m7 103 rfl) rfl
theorem q2737 : (Jvm.Cond.instanceMethod ({ cls := "GroupJournal$Than", name := "holds", desc := "(LGroupJournal$Moment;)Z" } : Jvm.MethodName)) ∈ lw_all := lw_g (lw_at lw_m11 150 rfl) rfl
theorem q2738 : (Jvm.Cond.code ({ cls := "GroupJournal$Than", name := "holds", desc := "(LGroupJournal$Moment;)Z" } : Jvm.MethodName) prog_23_method_2_code (6 : Nat) (Option.some Jvm.ClassFile.FieldType.boolean)) ∈ lw_all := lw_g (lw_at lw_m11 151 rfl) rfl
theorem q2739 : (Jvm.Cond.methodLink "GroupJournal$Than" (20 : Nat) ({ cls := "GroupJournal$Value", name := "at", desc := "(LGroupJournal$Moment;)J" } : Jvm.MethodName)) ∈ lw_all := lw_g (lw_at lw_m11 152 rfl) rfl
theorem q2801 : (Jvm.Cond.selects "GroupJournal$Than" ({ cls := "GroupJournal$Test", name := "holds", desc := "(LGroupJournal$Moment;)Z" } : Jvm.MethodName) ({ cls := "GroupJournal$Than", name := "holds", desc := "(LGroupJournal$Moment;)Z" } : Jvm.MethodName)) ∈ lw_all := lw_g (lw_at lw_m11 214 rfl) rfl
theorem q4152 : (Jvm.Cond.castable "GroupJournal$Than" "GroupJournal$Test") ∈ lw_tbl := lw_at lw_m17 125 rfl
theorem q4188 : (Jvm.Cond.castable "GroupJournal$Than" "java/lang/Object") ∈ lw_tbl := lw_at lw_m17 161 rfl
theorem in_X23 : ∀ w ∈ wsX230, w ∈ lw_all := lw_in wsX230 [1589, 1591, 1593] (by decide +kernel) (by decide +kernel)

/-! GroupJournal$Question -/
set_option maxRecDepth 100000
def RX24 : String := "GroupJournal$Question"
def TX24 : u_T := fun k => match k with
  | 0 => ("GroupJournal$Question", "what", "I", true)
  | 1 => ("GroupJournal$Question", "test", "LGroupJournal$Test;", true)
  | 2 => ("GroupJournal$Question", "sum", "LGroupJournal$Value;", true)
  | 3 => ("GroupJournal$Question", "found", "J", false)
  | _ => ("GroupJournal$Question", "has", "Z", false)
def tyX24 : Nat → FieldType := fun k => match k with
  | 0 => .int
  | 1 => .object "GroupJournal$Test"
  | 2 => .object "GroupJournal$Value"
  | 3 => .long
  | _ => .boolean
abbrev wsX240 : List Cond := u_ws RX24 TX24 5
theorem nmX24 : ∀ a, a < 5 → ∀ b, b < 5 → a ≠ b → (TX24 a).2.1 ≠ (TX24 b).2.1 := by decide +kernel
theorem tyX24_ok : ∀ k, k < 5 → parseFieldDescriptor (TX24 k).2.2.1 = some (tyX24 k) := by decide +kernel
abbrev cX24_init : ByteArray := prog_16_method_1_code
def yX24_init : MethodName := ⟨RX24, "<init>", "(ILGroupJournal$Test;LGroupJournal$Value;)V"⟩
def dkwX24_init_1 : List UInt8 := [181, 0, 25, 177]
abbrev dktX24_init_1 : List UInt8 := dkwX24_init_1 ++ []
def dkwX24_init_0 : List UInt8 := [42, 183, 0, 3, 42, 20, 0, 9, 181, 0, 11, 42, 27, 181, 0, 17, 42, 44, 181, 0, 21, 42, 45]
abbrev dktX24_init_0 : List UInt8 := dkwX24_init_0 ++ dktX24_init_1
theorem dksX24_init_0 : cX24_init.data.toList.drop 0 = dktX24_init_0 := by decide +kernel
theorem dksX24_init_1 : cX24_init.data.toList.drop 23 = dktX24_init_1 := dk_seg dksX24_init_0 23 rfl rfl
theorem dX24_init_0 : decode cX24_init 0 = .ok (.aload_n 0, 1) := dk_42 (dk_at dksX24_init_0 0 rfl rfl)
theorem dX24_init_1 : decode cX24_init 1 = .ok (.invokespecial 3, 3) := dk_183 0 3 (dk_at dksX24_init_0 1 rfl rfl)
theorem dX24_init_4 : decode cX24_init 4 = .ok (.aload_n 0, 1) := dk_42 (dk_at dksX24_init_0 4 rfl rfl)
theorem dX24_init_5 : decode cX24_init 5 = .ok (.ldc2_w 9, 3) := dk_20 0 9 (dk_at dksX24_init_0 5 rfl rfl)
theorem dX24_init_8 : decode cX24_init 8 = .ok (.putfield 11, 3) := dk_181 0 11 (dk_at dksX24_init_0 8 rfl rfl)
theorem dX24_init_11 : decode cX24_init 11 = .ok (.aload_n 0, 1) := dk_42 (dk_at dksX24_init_0 11 rfl rfl)
theorem dX24_init_12 : decode cX24_init 12 = .ok (.iload_n 1, 1) := dk_27 (dk_at dksX24_init_0 12 rfl rfl)
theorem dX24_init_13 : decode cX24_init 13 = .ok (.putfield 17, 3) := dk_181 0 17 (dk_at dksX24_init_0 13 rfl rfl)
theorem dX24_init_16 : decode cX24_init 16 = .ok (.aload_n 0, 1) := dk_42 (dk_at dksX24_init_0 16 rfl rfl)
theorem dX24_init_17 : decode cX24_init 17 = .ok (.aload_n 2, 1) := dk_44 (dk_at dksX24_init_0 17 rfl rfl)
theorem dX24_init_18 : decode cX24_init 18 = .ok (.putfield 21, 3) := dk_181 0 21 (dk_at dksX24_init_0 18 rfl rfl)
theorem dX24_init_21 : decode cX24_init 21 = .ok (.aload_n 0, 1) := dk_42 (dk_at dksX24_init_0 21 rfl rfl)
theorem dX24_init_22 : decode cX24_init 22 = .ok (.aload_n 3, 1) := dk_45 (dk_at dksX24_init_0 22 rfl rfl)
theorem dX24_init_23 : decode cX24_init 23 = .ok (.putfield 25, 3) := dk_181 0 25 (dk_at dksX24_init_1 0 rfl rfl)
theorem dX24_init_26 : decode cX24_init 26 = .ok (.return_, 1) := dk_177 (dk_at dksX24_init_1 3 rfl rfl)
abbrev cX24_meets : ByteArray := prog_16_method_2_code
def yX24_meets : MethodName := ⟨RX24, "meets", "(ILGroupJournal$Moment;)V"⟩
def dkwX24_meets_6 : List UInt8 := [181, 0, 11, 42, 4, 181, 0, 41, 177]
abbrev dktX24_meets_6 : List UInt8 := dkwX24_meets_6 ++ []
def dkwX24_meets_5 : List UInt8 := [7, 160, 0, 14, 42, 180, 0, 11, 33, 184, 0, 35, 167, 0, 11, 42, 180, 0, 11, 33, 184, 0, 51]
abbrev dktX24_meets_5 : List UInt8 := dkwX24_meets_5 ++ dktX24_meets_6
def dkwX24_meets_4 : List UInt8 := [167, 0, 47, 42, 180, 0, 17, 6, 160, 0, 12, 42, 180, 0, 11, 33, 97, 167, 0, 30, 42, 180, 0, 17]
abbrev dktX24_meets_4 : List UInt8 := dkwX24_meets_4 ++ dktX24_meets_5
def dkwX24_meets_3 : List UInt8 := [181, 0, 41, 177, 42, 180, 0, 25, 44, 182, 0, 45, 66, 42, 42, 180, 0, 41, 154, 0, 7, 33]
abbrev dktX24_meets_3 : List UInt8 := dkwX24_meets_3 ++ dktX24_meets_4
def dkwX24_meets_2 : List UInt8 := [154, 0, 17, 42, 180, 0, 41, 153, 0, 10, 42, 180, 0, 11, 167, 0, 5, 27, 133, 181, 0, 11, 42, 4]
abbrev dktX24_meets_2 : List UInt8 := dkwX24_meets_2 ++ dktX24_meets_3
def dkwX24_meets_1 : List UInt8 := [180, 0, 17, 5, 160, 0, 16, 9, 42, 180, 0, 11, 184, 0, 35, 10, 97, 167, 0, 26, 42, 180, 0, 17]
abbrev dktX24_meets_1 : List UInt8 := dkwX24_meets_1 ++ dktX24_meets_2
def dkwX24_meets_0 : List UInt8 := [42, 180, 0, 17, 6, 162, 0, 69, 42, 180, 0, 21, 44, 182, 0, 29, 154, 0, 4, 177, 42, 42]
abbrev dktX24_meets_0 : List UInt8 := dkwX24_meets_0 ++ dktX24_meets_1
theorem dksX24_meets_0 : cX24_meets.data.toList.drop 0 = dktX24_meets_0 := by decide +kernel
theorem dksX24_meets_1 : cX24_meets.data.toList.drop 22 = dktX24_meets_1 := dk_seg dksX24_meets_0 22 rfl rfl
theorem dksX24_meets_2 : cX24_meets.data.toList.drop 46 = dktX24_meets_2 := dk_seg dksX24_meets_1 24 rfl rfl
theorem dksX24_meets_3 : cX24_meets.data.toList.drop 70 = dktX24_meets_3 := dk_seg dksX24_meets_2 24 rfl rfl
theorem dksX24_meets_4 : cX24_meets.data.toList.drop 92 = dktX24_meets_4 := dk_seg dksX24_meets_3 22 rfl rfl
theorem dksX24_meets_5 : cX24_meets.data.toList.drop 116 = dktX24_meets_5 := dk_seg dksX24_meets_4 24 rfl rfl
theorem dksX24_meets_6 : cX24_meets.data.toList.drop 139 = dktX24_meets_6 := dk_seg dksX24_meets_5 23 rfl rfl
theorem dX24_meets_0 : decode cX24_meets 0 = .ok (.aload_n 0, 1) := dk_42 (dk_at dksX24_meets_0 0 rfl rfl)
theorem dX24_meets_1 : decode cX24_meets 1 = .ok (.getfield 17, 3) := dk_180 0 17 (dk_at dksX24_meets_0 1 rfl rfl)
theorem dX24_meets_4 : decode cX24_meets 4 = .ok (.iconst 3, 1) := dk_6 (dk_at dksX24_meets_0 4 rfl rfl)
theorem dX24_meets_5 : decode cX24_meets 5 = .ok (.if_icmp .ge 69, 3) := dk_162 0 69 (dk_at dksX24_meets_0 5 rfl rfl)
theorem dX24_meets_8 : decode cX24_meets 8 = .ok (.aload_n 0, 1) := dk_42 (dk_at dksX24_meets_0 8 rfl rfl)
theorem dX24_meets_9 : decode cX24_meets 9 = .ok (.getfield 21, 3) := dk_180 0 21 (dk_at dksX24_meets_0 9 rfl rfl)
theorem dX24_meets_12 : decode cX24_meets 12 = .ok (.aload_n 2, 1) := dk_44 (dk_at dksX24_meets_0 12 rfl rfl)
theorem dX24_meets_13 : decode cX24_meets 13 = .ok (.invokevirtual 29, 3) := dk_182 0 29 (dk_at dksX24_meets_0 13 rfl rfl)
theorem dX24_meets_16 : decode cX24_meets 16 = .ok (.ifCond .ne 4, 3) := dk_154 0 4 (dk_at dksX24_meets_0 16 rfl rfl)
theorem dX24_meets_19 : decode cX24_meets 19 = .ok (.return_, 1) := dk_177 (dk_at dksX24_meets_0 19 rfl rfl)
theorem dX24_meets_20 : decode cX24_meets 20 = .ok (.aload_n 0, 1) := dk_42 (dk_at dksX24_meets_0 20 rfl rfl)
theorem dX24_meets_21 : decode cX24_meets 21 = .ok (.aload_n 0, 1) := dk_42 (dk_at dksX24_meets_0 21 rfl rfl)
theorem dX24_meets_22 : decode cX24_meets 22 = .ok (.getfield 17, 3) := dk_180 0 17 (dk_at dksX24_meets_1 0 rfl rfl)
theorem dX24_meets_25 : decode cX24_meets 25 = .ok (.iconst 2, 1) := dk_5 (dk_at dksX24_meets_1 3 rfl rfl)
theorem dX24_meets_26 : decode cX24_meets 26 = .ok (.if_icmp .ne 16, 3) := dk_160 0 16 (dk_at dksX24_meets_1 4 rfl rfl)
theorem dX24_meets_29 : decode cX24_meets 29 = .ok (.lconst 0, 1) := dk_9 (dk_at dksX24_meets_1 7 rfl rfl)
theorem dX24_meets_30 : decode cX24_meets 30 = .ok (.aload_n 0, 1) := dk_42 (dk_at dksX24_meets_1 8 rfl rfl)
theorem dX24_meets_31 : decode cX24_meets 31 = .ok (.getfield 11, 3) := dk_180 0 11 (dk_at dksX24_meets_1 9 rfl rfl)
theorem dX24_meets_34 : decode cX24_meets 34 = .ok (.invokestatic 35, 3) := dk_184 0 35 (dk_at dksX24_meets_1 12 rfl rfl)
theorem dX24_meets_37 : decode cX24_meets 37 = .ok (.lconst 1, 1) := dk_10 (dk_at dksX24_meets_1 15 rfl rfl)
theorem dX24_meets_38 : decode cX24_meets 38 = .ok (.ladd, 1) := dk_97 (dk_at dksX24_meets_1 16 rfl rfl)
theorem dX24_meets_39 : decode cX24_meets 39 = .ok (.goto 26, 3) := dk_167 0 26 (dk_at dksX24_meets_1 17 rfl rfl)
theorem dX24_meets_42 : decode cX24_meets 42 = .ok (.aload_n 0, 1) := dk_42 (dk_at dksX24_meets_1 20 rfl rfl)
theorem dX24_meets_43 : decode cX24_meets 43 = .ok (.getfield 17, 3) := dk_180 0 17 (dk_at dksX24_meets_1 21 rfl rfl)
theorem dX24_meets_46 : decode cX24_meets 46 = .ok (.ifCond .ne 17, 3) := dk_154 0 17 (dk_at dksX24_meets_2 0 rfl rfl)
theorem dX24_meets_49 : decode cX24_meets 49 = .ok (.aload_n 0, 1) := dk_42 (dk_at dksX24_meets_2 3 rfl rfl)
theorem dX24_meets_50 : decode cX24_meets 50 = .ok (.getfield 41, 3) := dk_180 0 41 (dk_at dksX24_meets_2 4 rfl rfl)
theorem dX24_meets_53 : decode cX24_meets 53 = .ok (.ifCond .eq 10, 3) := dk_153 0 10 (dk_at dksX24_meets_2 7 rfl rfl)
theorem dX24_meets_56 : decode cX24_meets 56 = .ok (.aload_n 0, 1) := dk_42 (dk_at dksX24_meets_2 10 rfl rfl)
theorem dX24_meets_57 : decode cX24_meets 57 = .ok (.getfield 11, 3) := dk_180 0 11 (dk_at dksX24_meets_2 11 rfl rfl)
theorem dX24_meets_60 : decode cX24_meets 60 = .ok (.goto 5, 3) := dk_167 0 5 (dk_at dksX24_meets_2 14 rfl rfl)
theorem dX24_meets_63 : decode cX24_meets 63 = .ok (.iload_n 1, 1) := dk_27 (dk_at dksX24_meets_2 17 rfl rfl)
theorem dX24_meets_64 : decode cX24_meets 64 = .ok (.i2l, 1) := dk_133 (dk_at dksX24_meets_2 18 rfl rfl)
theorem dX24_meets_65 : decode cX24_meets 65 = .ok (.putfield 11, 3) := dk_181 0 11 (dk_at dksX24_meets_2 19 rfl rfl)
theorem dX24_meets_68 : decode cX24_meets 68 = .ok (.aload_n 0, 1) := dk_42 (dk_at dksX24_meets_2 22 rfl rfl)
theorem dX24_meets_69 : decode cX24_meets 69 = .ok (.iconst 1, 1) := dk_4 (dk_at dksX24_meets_2 23 rfl rfl)
theorem dX24_meets_70 : decode cX24_meets 70 = .ok (.putfield 41, 3) := dk_181 0 41 (dk_at dksX24_meets_3 0 rfl rfl)
theorem dX24_meets_73 : decode cX24_meets 73 = .ok (.return_, 1) := dk_177 (dk_at dksX24_meets_3 3 rfl rfl)
theorem dX24_meets_74 : decode cX24_meets 74 = .ok (.aload_n 0, 1) := dk_42 (dk_at dksX24_meets_3 4 rfl rfl)
theorem dX24_meets_75 : decode cX24_meets 75 = .ok (.getfield 25, 3) := dk_180 0 25 (dk_at dksX24_meets_3 5 rfl rfl)
theorem dX24_meets_78 : decode cX24_meets 78 = .ok (.aload_n 2, 1) := dk_44 (dk_at dksX24_meets_3 8 rfl rfl)
theorem dX24_meets_79 : decode cX24_meets 79 = .ok (.invokevirtual 45, 3) := dk_182 0 45 (dk_at dksX24_meets_3 9 rfl rfl)
theorem dX24_meets_82 : decode cX24_meets 82 = .ok (.lstore_n 3, 1) := dk_66 (dk_at dksX24_meets_3 12 rfl rfl)
theorem dX24_meets_83 : decode cX24_meets 83 = .ok (.aload_n 0, 1) := dk_42 (dk_at dksX24_meets_3 13 rfl rfl)
theorem dX24_meets_84 : decode cX24_meets 84 = .ok (.aload_n 0, 1) := dk_42 (dk_at dksX24_meets_3 14 rfl rfl)
theorem dX24_meets_85 : decode cX24_meets 85 = .ok (.getfield 41, 3) := dk_180 0 41 (dk_at dksX24_meets_3 15 rfl rfl)
theorem dX24_meets_88 : decode cX24_meets 88 = .ok (.ifCond .ne 7, 3) := dk_154 0 7 (dk_at dksX24_meets_3 18 rfl rfl)
theorem dX24_meets_91 : decode cX24_meets 91 = .ok (.lload_n 3, 1) := dk_33 (dk_at dksX24_meets_3 21 rfl rfl)
theorem dX24_meets_92 : decode cX24_meets 92 = .ok (.goto 47, 3) := dk_167 0 47 (dk_at dksX24_meets_4 0 rfl rfl)
theorem dX24_meets_95 : decode cX24_meets 95 = .ok (.aload_n 0, 1) := dk_42 (dk_at dksX24_meets_4 3 rfl rfl)
theorem dX24_meets_96 : decode cX24_meets 96 = .ok (.getfield 17, 3) := dk_180 0 17 (dk_at dksX24_meets_4 4 rfl rfl)
theorem dX24_meets_99 : decode cX24_meets 99 = .ok (.iconst 3, 1) := dk_6 (dk_at dksX24_meets_4 7 rfl rfl)
theorem dX24_meets_100 : decode cX24_meets 100 = .ok (.if_icmp .ne 12, 3) := dk_160 0 12 (dk_at dksX24_meets_4 8 rfl rfl)
theorem dX24_meets_103 : decode cX24_meets 103 = .ok (.aload_n 0, 1) := dk_42 (dk_at dksX24_meets_4 11 rfl rfl)
theorem dX24_meets_104 : decode cX24_meets 104 = .ok (.getfield 11, 3) := dk_180 0 11 (dk_at dksX24_meets_4 12 rfl rfl)
theorem dX24_meets_107 : decode cX24_meets 107 = .ok (.lload_n 3, 1) := dk_33 (dk_at dksX24_meets_4 15 rfl rfl)
theorem dX24_meets_108 : decode cX24_meets 108 = .ok (.ladd, 1) := dk_97 (dk_at dksX24_meets_4 16 rfl rfl)
theorem dX24_meets_109 : decode cX24_meets 109 = .ok (.goto 30, 3) := dk_167 0 30 (dk_at dksX24_meets_4 17 rfl rfl)
theorem dX24_meets_112 : decode cX24_meets 112 = .ok (.aload_n 0, 1) := dk_42 (dk_at dksX24_meets_4 20 rfl rfl)
theorem dX24_meets_113 : decode cX24_meets 113 = .ok (.getfield 17, 3) := dk_180 0 17 (dk_at dksX24_meets_4 21 rfl rfl)
theorem dX24_meets_116 : decode cX24_meets 116 = .ok (.iconst 4, 1) := dk_7 (dk_at dksX24_meets_5 0 rfl rfl)
theorem dX24_meets_117 : decode cX24_meets 117 = .ok (.if_icmp .ne 14, 3) := dk_160 0 14 (dk_at dksX24_meets_5 1 rfl rfl)
theorem dX24_meets_120 : decode cX24_meets 120 = .ok (.aload_n 0, 1) := dk_42 (dk_at dksX24_meets_5 4 rfl rfl)
theorem dX24_meets_121 : decode cX24_meets 121 = .ok (.getfield 11, 3) := dk_180 0 11 (dk_at dksX24_meets_5 5 rfl rfl)
theorem dX24_meets_124 : decode cX24_meets 124 = .ok (.lload_n 3, 1) := dk_33 (dk_at dksX24_meets_5 8 rfl rfl)
theorem dX24_meets_125 : decode cX24_meets 125 = .ok (.invokestatic 35, 3) := dk_184 0 35 (dk_at dksX24_meets_5 9 rfl rfl)
theorem dX24_meets_128 : decode cX24_meets 128 = .ok (.goto 11, 3) := dk_167 0 11 (dk_at dksX24_meets_5 12 rfl rfl)
theorem dX24_meets_131 : decode cX24_meets 131 = .ok (.aload_n 0, 1) := dk_42 (dk_at dksX24_meets_5 15 rfl rfl)
theorem dX24_meets_132 : decode cX24_meets 132 = .ok (.getfield 11, 3) := dk_180 0 11 (dk_at dksX24_meets_5 16 rfl rfl)
theorem dX24_meets_135 : decode cX24_meets 135 = .ok (.lload_n 3, 1) := dk_33 (dk_at dksX24_meets_5 19 rfl rfl)
theorem dX24_meets_136 : decode cX24_meets 136 = .ok (.invokestatic 51, 3) := dk_184 0 51 (dk_at dksX24_meets_5 20 rfl rfl)
theorem dX24_meets_139 : decode cX24_meets 139 = .ok (.putfield 11, 3) := dk_181 0 11 (dk_at dksX24_meets_6 0 rfl rfl)
theorem dX24_meets_142 : decode cX24_meets 142 = .ok (.aload_n 0, 1) := dk_42 (dk_at dksX24_meets_6 3 rfl rfl)
theorem dX24_meets_143 : decode cX24_meets 143 = .ok (.iconst 1, 1) := dk_4 (dk_at dksX24_meets_6 4 rfl rfl)
theorem dX24_meets_144 : decode cX24_meets 144 = .ok (.putfield 41, 3) := dk_181 0 41 (dk_at dksX24_meets_6 5 rfl rfl)
theorem dX24_meets_147 : decode cX24_meets 147 = .ok (.return_, 1) := dk_177 (dk_at dksX24_meets_6 8 rfl rfl)
abbrev cX24_answer : ByteArray := prog_16_method_3_code
def yX24_answer : MethodName := ⟨RX24, "answer", "()J"⟩
def dkwX24_answer_0 : List UInt8 := [42, 180, 0, 41, 154, 0, 11, 42, 180, 0, 17, 5, 162, 0, 10, 42, 180, 0, 11, 167, 0, 4, 9, 173]
abbrev dktX24_answer_0 : List UInt8 := dkwX24_answer_0 ++ []
theorem dksX24_answer_0 : cX24_answer.data.toList.drop 0 = dktX24_answer_0 := by decide +kernel
theorem dX24_answer_0 : decode cX24_answer 0 = .ok (.aload_n 0, 1) := dk_42 (dk_at dksX24_answer_0 0 rfl rfl)
theorem dX24_answer_1 : decode cX24_answer 1 = .ok (.getfield 41, 3) := dk_180 0 41 (dk_at dksX24_answer_0 1 rfl rfl)
theorem dX24_answer_4 : decode cX24_answer 4 = .ok (.ifCond .ne 11, 3) := dk_154 0 11 (dk_at dksX24_answer_0 4 rfl rfl)
theorem dX24_answer_7 : decode cX24_answer 7 = .ok (.aload_n 0, 1) := dk_42 (dk_at dksX24_answer_0 7 rfl rfl)
theorem dX24_answer_8 : decode cX24_answer 8 = .ok (.getfield 17, 3) := dk_180 0 17 (dk_at dksX24_answer_0 8 rfl rfl)
theorem dX24_answer_11 : decode cX24_answer 11 = .ok (.iconst 2, 1) := dk_5 (dk_at dksX24_answer_0 11 rfl rfl)
theorem dX24_answer_12 : decode cX24_answer 12 = .ok (.if_icmp .ge 10, 3) := dk_162 0 10 (dk_at dksX24_answer_0 12 rfl rfl)
theorem dX24_answer_15 : decode cX24_answer 15 = .ok (.aload_n 0, 1) := dk_42 (dk_at dksX24_answer_0 15 rfl rfl)
theorem dX24_answer_16 : decode cX24_answer 16 = .ok (.getfield 11, 3) := dk_180 0 11 (dk_at dksX24_answer_0 16 rfl rfl)
theorem dX24_answer_19 : decode cX24_answer 19 = .ok (.goto 4, 3) := dk_167 0 4 (dk_at dksX24_answer_0 19 rfl rfl)
theorem dX24_answer_22 : decode cX24_answer 22 = .ok (.lconst 0, 1) := dk_9 (dk_at dksX24_answer_0 22 rfl rfl)
theorem dX24_answer_23 : decode cX24_answer 23 = .ok (.lreturn, 1) := dk_173 (dk_at dksX24_answer_0 23 rfl rfl)
theorem q252 : (Jvm.Cond.initialized "GroupJournal$Question") ∈ lw_all := lw_g (lw_at lw_m1 65 rfl) rfl
theorem q1290 : (Jvm.Cond.selects "GroupJournal$Question" ({ cls := "java/lang/Object", name := "getClass", desc := "()Ljava/lang/Class;" } : Jvm.MethodName) ({ cls := "java/lang/Object", name := "getClass", desc := "()Ljava/lang/Class;" } : Jvm.MethodName)) ∈ lw_all := lw_g (lw_at lw_m5 143 rfl) rfl
theorem q1672 : (Jvm.Cond.selects "GroupJournal$Question" ({ cls := "java/lang/Object", name := "hashCode", desc := "()I" } : Jvm.MethodName) ({ cls := "java/lang/Object", name := "hashCode", desc := "()I" } : Jvm.MethodName)) ∈ lw_all := lw_g (lw_at lw_m7 45 rfl) rfl
theorem q1721 : (Jvm.Cond.selects "GroupJournal$Question" ({ cls := "java/lang/Object", name := "equals", desc := "(Ljava/lang/Object;)Z" } : Jvm.MethodName) ({ cls := "java/lang/Object", name := "equals", desc := "(Ljava/lang/Object;)Z" } : Jvm.MethodName)) ∈ lw_all := lw_g (lw_at lw_m7 94 rfl) rfl
theorem q3069 : (Jvm.Cond.instantiable "GroupJournal$Question" (5 : Nat)) ∈ lw_all := lw_g (lw_at lw_m13 2 rfl) rfl
theorem q3071 : (Jvm.Cond.instanceMethod ({ cls := "GroupJournal$Question", name := "<init>", desc := "(ILGroupJournal$Test;LGroupJournal$Value;)V" } : Jvm.MethodName)) ∈ lw_all := lw_g (lw_at lw_m13 4 rfl) rfl
theorem q3072 : (Jvm.Cond.code ({ cls := "GroupJournal$Question", name := "<init>", desc := "(ILGroupJournal$Test;LGroupJournal$Value;)V" } : Jvm.MethodName) prog_16_method_1_code (4 : Nat) (Option.none : Option Jvm.ClassFile.FieldType)) ∈ lw_all := lw_g (lw_at lw_m13 5 rfl) rfl
theorem q3073 : (Jvm.Cond.methodLink "GroupJournal$Question" (3 : Nat) ({ cls := "java/lang/Object", name := "<init>", desc := "()V" } : Jvm.MethodName)) ∈ lw_all := lw_g (lw_at lw_m13 6 rfl) rfl
theorem q3074 : (Jvm.Cond.constantLong "GroupJournal$Question" (9 : Nat) (-1 : Int64)) ∈ lw_all := lw_g (lw_at lw_m13 7 rfl) rfl
theorem q3075 : (Jvm.Cond.fieldLink "GroupJournal$Question" (17 : Nat) "GroupJournal$Question" "what" "I") ∈ lw_all := lw_g (lw_at lw_m13 8 rfl) rfl
theorem q3076 : (Jvm.Cond.fieldLink "GroupJournal$Question" (21 : Nat) "GroupJournal$Question" "test" "LGroupJournal$Test;") ∈ lw_all := lw_g (lw_at lw_m13 9 rfl) rfl
theorem q3077 : (Jvm.Cond.fieldLink "GroupJournal$Question" (25 : Nat) "GroupJournal$Question" "sum" "LGroupJournal$Value;") ∈ lw_all := lw_g (lw_at lw_m13 10 rfl) rfl
theorem q3078 : (Jvm.Cond.fieldLink "GroupJournal$Question" (11 : Nat) "GroupJournal$Question" "found" "J") ∈ lw_all := lw_g (lw_at lw_m13 11 rfl) rfl
theorem q3079 : (Jvm.Cond.fieldLink "GroupJournal$Question" (41 : Nat) "GroupJournal$Question" "has" "Z") ∈ lw_all := lw_g (lw_at lw_m13 12 rfl) rfl
theorem q3080 : (Jvm.Cond.laysFinal "GroupJournal$Question" "GroupJournal$Question" "what" "I") ∈ lw_all := lw_g (lw_at lw_m13 13 rfl) rfl
theorem q3081 : (Jvm.Cond.soleField "GroupJournal$Question" "what") ∈ lw_all := lw_g (lw_at lw_m13 14 rfl) rfl
theorem q3082 : (Jvm.Cond.laysFinal "GroupJournal$Question" "GroupJournal$Question" "test" "LGroupJournal$Test;") ∈ lw_all := lw_g (lw_at lw_m13 15 rfl) rfl
theorem q3083 : (Jvm.Cond.soleField "GroupJournal$Question" "test") ∈ lw_all := lw_g (lw_at lw_m13 16 rfl) rfl
theorem q3084 : (Jvm.Cond.laysFinal "GroupJournal$Question" "GroupJournal$Question" "sum" "LGroupJournal$Value;") ∈ lw_all := lw_g (lw_at lw_m13 17 rfl) rfl
theorem q3085 : (Jvm.Cond.soleField "GroupJournal$Question" "sum") ∈ lw_all := lw_g (lw_at lw_m13 18 rfl) rfl
theorem q3086 : (Jvm.Cond.lays "GroupJournal$Question" "GroupJournal$Question" "found" "J") ∈ lw_all := lw_g (lw_at lw_m13 19 rfl) rfl
theorem q3087 : (Jvm.Cond.soleField "GroupJournal$Question" "found") ∈ lw_all := lw_g (lw_at lw_m13 20 rfl) rfl
theorem q3088 : (Jvm.Cond.lays "GroupJournal$Question" "GroupJournal$Question" "has" "Z") ∈ lw_all := lw_g (lw_at lw_m13 21 rfl) rfl
theorem q3089 : (Jvm.Cond.soleField "GroupJournal$Question" "has") ∈ lw_all := lw_g (lw_at lw_m13 22 rfl) rfl
theorem q3090 : (Jvm.Cond.superclass "GroupJournal$Question" "java/lang/Object") ∈ lw_all := lw_g (lw_at lw_m13 23 rfl) rfl
theorem q3093 : (Jvm.Cond.instanceMethod ({ cls := "GroupJournal$Question", name := "meets", desc := "(ILGroupJournal$Moment;)V" } : Jvm.MethodName)) ∈ lw_all := lw_g (lw_at lw_m13 26 rfl) rfl
theorem q3094 : (Jvm.Cond.selects "GroupJournal$Question" ({ cls := "GroupJournal$Question", name := "meets", desc := "(ILGroupJournal$Moment;)V" } : Jvm.MethodName) ({ cls := "GroupJournal$Question", name := "meets", desc := "(ILGroupJournal$Moment;)V" } : Jvm.MethodName)) ∈ lw_all := lw_g (lw_at lw_m13 27 rfl) rfl
theorem q3095 : (Jvm.Cond.code ({ cls := "GroupJournal$Question", name := "meets", desc := "(ILGroupJournal$Moment;)V" } : Jvm.MethodName) prog_16_method_2_code (5 : Nat) (Option.none : Option Jvm.ClassFile.FieldType)) ∈ lw_all := lw_g (lw_at lw_m13 28 rfl) rfl
theorem q3096 : (Jvm.Cond.methodLink "GroupJournal$Question" (29 : Nat) ({ cls := "GroupJournal$Test", name := "holds", desc := "(LGroupJournal$Moment;)Z" } : Jvm.MethodName)) ∈ lw_all := lw_g (lw_at lw_m13 29 rfl) rfl
theorem q3097 : (Jvm.Cond.methodLink "GroupJournal$Question" (35 : Nat) ({ cls := "java/lang/Math", name := "max", desc := "(JJ)J" } : Jvm.MethodName)) ∈ lw_all := lw_g (lw_at lw_m13 30 rfl) rfl
theorem q3098 : (Jvm.Cond.methodLink "GroupJournal$Question" (45 : Nat) ({ cls := "GroupJournal$Value", name := "at", desc := "(LGroupJournal$Moment;)J" } : Jvm.MethodName)) ∈ lw_all := lw_g (lw_at lw_m13 31 rfl) rfl
theorem q3099 : (Jvm.Cond.methodLink "GroupJournal$Question" (51 : Nat) ({ cls := "java/lang/Math", name := "min", desc := "(JJ)J" } : Jvm.MethodName)) ∈ lw_all := lw_g (lw_at lw_m13 32 rfl) rfl
theorem q3101 : (Jvm.Cond.instanceMethod ({ cls := "GroupJournal$Question", name := "answer", desc := "()J" } : Jvm.MethodName)) ∈ lw_all := lw_g (lw_at lw_m13 34 rfl) rfl
theorem q3102 : (Jvm.Cond.selects "GroupJournal$Question" ({ cls := "GroupJournal$Question", name := "answer", desc := "()J" } : Jvm.MethodName) ({ cls := "GroupJournal$Question", name := "answer", desc := "()J" } : Jvm.MethodName)) ∈ lw_all := lw_g (lw_at lw_m13 35 rfl) rfl
theorem q3103 : (Jvm.Cond.code ({ cls := "GroupJournal$Question", name := "answer", desc := "()J" } : Jvm.MethodName) prog_16_method_3_code (1 : Nat) (Option.some Jvm.ClassFile.FieldType.long)) ∈ lw_all := lw_g (lw_at lw_m13 36 rfl) rfl
theorem q4198 : (Jvm.Cond.castable "GroupJournal$Question" "java/lang/Object") ∈ lw_tbl := lw_at lw_m17 171 rfl
theorem in_X24 : ∀ w ∈ wsX240, w ∈ lw_all := lw_in wsX240 [3080, 3082, 3084, 3086, 3088] (by decide +kernel) (by decide +kernel)

