/-! DECODE ROWS BY BYTES: one lemma an opcode; a method's code is cut into short pieces once, and a row reads its own piece alone. -/
set_option maxRecDepth 100000
/-- the code has just these bytes from pc on -/
def DkAt (code : ByteArray) (pc : Nat) (bs : List UInt8) : Prop := ∀ (j : Nat) (b : UInt8), bs[j]? = some b → code.data.toList[pc + j]? = some b
/-- the piece W has the bytes bs from its place j on -/
def dkIn (W : List UInt8) (j : Nat) (bs : List UInt8) : Bool := decide ((W.drop j).take bs.length = bs)
theorem dk_seg {l W T : List UInt8} {o o2 : Nat} (h : l.drop o = W ++ T) (n : Nat) (hn : W.length = n) (ho : o + n = o2) : l.drop o2 = T := by
  subst ho
  rw [← List.drop_drop, h, List.drop_left' hn]
theorem dk_at {code : ByteArray} {W T bs : List UInt8} {o pc : Nat} (h : code.data.toList.drop o = W ++ T) (j : Nat) (hp : o + j = pc) (hw : dkIn W j bs = true) : DkAt code pc bs := by
  subst hp
  intro i b e
  have h1 := of_decide_eq_true hw
  have h2 : i < bs.length := (List.getElem?_eq_some_iff.mp e).1
  have h3 : W[j + i]? = some b := by
    rw [← h1, List.getElem?_take, if_pos h2, List.getElem?_drop] at e
    exact e
  have h4 : j + i < W.length := (List.getElem?_eq_some_iff.mp h3).1
  have h5 : (code.data.toList.drop o)[j + i]? = some b := by
    rw [h, List.getElem?_append_left h4]
    exact h3
  rw [List.getElem?_drop, ← Nat.add_assoc] at h5
  exact h5
theorem dk_u1 {A : ByteArray} {p : Nat} {b : UInt8} (h : A.data.toList[p]? = some b) : (Reader.u1 : Reader DecodeError Nat) A p = .ok (b.toNat, p + 1) := by
  obtain ⟨h1, h2⟩ := List.getElem?_eq_some_iff.mp h
  have h3 : p < A.size := by simpa using h1
  have h4 : A[p]'h3 = b := h2
  have e : (Reader.u1 : Reader DecodeError Nat) A p = (if h : p < A.size then .ok (A[p].toNat, p + 1) else .error (HasTruncated.truncated p)) := by
    show (do if h : p < A.size then do set (p + 1); Pure.pure A[p].toNat else MonadExcept.throw (HasTruncated.truncated p) : Reader DecodeError Nat) A p = _
    by_cases hi : p < A.size
    · rw [dif_pos hi, dif_pos hi]; rfl
    · rw [dif_neg hi, dif_neg hi]; rfl
  rw [e, dif_pos h3, h4]
theorem dk_bind {α β : Type} {r : Reader DecodeError α} {f : α → Reader DecodeError β} {A : ByteArray} {p s : Nat} {a : α} (h : r A p = .ok (a, s)) : (r >>= f) A p = f a A s := by
  show (do let (a, s) ← r A p; f a A s : Except DecodeError (β × Nat)) = _
  rw [h]
  rfl
theorem dk_map {α β : Type} {r : Reader DecodeError α} {g : α → β} {A : ByteArray} {p s : Nat} {a : α} (h : r A p = .ok (a, s)) : (g <$> r) A p = .ok (g a, s) := by
  show (do let (a, s) ← r A p; .ok (g a, s) : Except DecodeError (β × Nat)) = _
  rw [h]
  rfl
theorem dk_u2 {A : ByteArray} {p : Nat} {a b : UInt8} (h : A.data.toList[p]? = some a) (h2 : A.data.toList[p + 1]? = some b) : (Reader.u2 : Reader DecodeError Nat) A p = .ok (a.toNat * 256 + b.toNat, p + 2) := by
  show (Reader.u1 >>= fun hi => Reader.u1 >>= fun lo => Pure.pure (hi * 256 + lo) : Reader DecodeError Nat) A p = _
  rw [dk_bind (dk_u1 h), dk_bind (dk_u1 h2)]
  rfl
theorem dk_of {code : ByteArray} {pc n : Nat} {i : Instr} (h : Decoder.instr pc code pc = .ok (i, pc + n)) : decode code pc = .ok (i, n) := by
  have e : decode code pc = (match Decoder.instr pc code pc with | .error x => .error x | .ok (j, s) => .ok (j, s - pc)) := by
    show (do let (j, s) ← Decoder.instr pc code pc; Pure.pure (j, s - pc) : Except DecodeError (Instr × Nat)) = _
    cases Decoder.instr pc code pc <;> rfl
  rw [e, h]
  show Except.ok (i, pc + n - pc) = _
  rw [Nat.add_sub_cancel_left]
theorem dk_1 {code : ByteArray} {pc : Nat} (h : DkAt code pc [1]) : decode code pc = .ok (.aconst_null, 1) := dk_of ((dk_bind (dk_u1 (h 0 _ rfl))).trans rfl)
theorem dk_2 {code : ByteArray} {pc : Nat} (h : DkAt code pc [2]) : decode code pc = .ok (.iconst (-1), 1) := dk_of ((dk_bind (dk_u1 (h 0 _ rfl))).trans rfl)
theorem dk_3 {code : ByteArray} {pc : Nat} (h : DkAt code pc [3]) : decode code pc = .ok (.iconst 0, 1) := dk_of ((dk_bind (dk_u1 (h 0 _ rfl))).trans rfl)
theorem dk_4 {code : ByteArray} {pc : Nat} (h : DkAt code pc [4]) : decode code pc = .ok (.iconst 1, 1) := dk_of ((dk_bind (dk_u1 (h 0 _ rfl))).trans rfl)
theorem dk_5 {code : ByteArray} {pc : Nat} (h : DkAt code pc [5]) : decode code pc = .ok (.iconst 2, 1) := dk_of ((dk_bind (dk_u1 (h 0 _ rfl))).trans rfl)
theorem dk_6 {code : ByteArray} {pc : Nat} (h : DkAt code pc [6]) : decode code pc = .ok (.iconst 3, 1) := dk_of ((dk_bind (dk_u1 (h 0 _ rfl))).trans rfl)
theorem dk_7 {code : ByteArray} {pc : Nat} (h : DkAt code pc [7]) : decode code pc = .ok (.iconst 4, 1) := dk_of ((dk_bind (dk_u1 (h 0 _ rfl))).trans rfl)
theorem dk_8 {code : ByteArray} {pc : Nat} (h : DkAt code pc [8]) : decode code pc = .ok (.iconst 5, 1) := dk_of ((dk_bind (dk_u1 (h 0 _ rfl))).trans rfl)
theorem dk_9 {code : ByteArray} {pc : Nat} (h : DkAt code pc [9]) : decode code pc = .ok (.lconst 0, 1) := dk_of ((dk_bind (dk_u1 (h 0 _ rfl))).trans rfl)
theorem dk_10 {code : ByteArray} {pc : Nat} (h : DkAt code pc [10]) : decode code pc = .ok (.lconst 1, 1) := dk_of ((dk_bind (dk_u1 (h 0 _ rfl))).trans rfl)
theorem dk_11 {code : ByteArray} {pc : Nat} (h : DkAt code pc [11]) : decode code pc = .ok (.fconst 0, 1) := dk_of ((dk_bind (dk_u1 (h 0 _ rfl))).trans rfl)
theorem dk_14 {code : ByteArray} {pc : Nat} (h : DkAt code pc [14]) : decode code pc = .ok (.dconst 0, 1) := dk_of ((dk_bind (dk_u1 (h 0 _ rfl))).trans rfl)
theorem dk_16 {code : ByteArray} {pc : Nat} (a : UInt8) (h : DkAt code pc [16, a]) : decode code pc = .ok (.bipush (Reader.signed 8 a.toNat), 2) := dk_of ((dk_bind (dk_u1 (h 0 _ rfl))).trans ((dk_bind (dk_map (dk_u1 (h 1 _ rfl)))).trans rfl))
theorem dk_17 {code : ByteArray} {pc : Nat} (a b : UInt8) (h : DkAt code pc [17, a, b]) : decode code pc = .ok (.sipush (Reader.signed 16 (a.toNat * 256 + b.toNat)), 3) := dk_of ((dk_bind (dk_u1 (h 0 _ rfl))).trans ((dk_bind (dk_map (dk_u2 (h 1 _ rfl) (h 2 _ rfl)))).trans rfl))
theorem dk_18 {code : ByteArray} {pc : Nat} (a : UInt8) (h : DkAt code pc [18, a]) : decode code pc = .ok (.ldc a.toNat, 2) := dk_of ((dk_bind (dk_u1 (h 0 _ rfl))).trans ((dk_bind (dk_u1 (h 1 _ rfl))).trans rfl))
theorem dk_19 {code : ByteArray} {pc : Nat} (a b : UInt8) (h : DkAt code pc [19, a, b]) : decode code pc = .ok (.ldc_w (a.toNat * 256 + b.toNat), 3) := dk_of ((dk_bind (dk_u1 (h 0 _ rfl))).trans ((dk_bind (dk_u2 (h 1 _ rfl) (h 2 _ rfl))).trans rfl))
theorem dk_20 {code : ByteArray} {pc : Nat} (a b : UInt8) (h : DkAt code pc [20, a, b]) : decode code pc = .ok (.ldc2_w (a.toNat * 256 + b.toNat), 3) := dk_of ((dk_bind (dk_u1 (h 0 _ rfl))).trans ((dk_bind (dk_u2 (h 1 _ rfl) (h 2 _ rfl))).trans rfl))
theorem dk_21 {code : ByteArray} {pc : Nat} (a : UInt8) (h : DkAt code pc [21, a]) : decode code pc = .ok (.iload a.toNat, 2) := dk_of ((dk_bind (dk_u1 (h 0 _ rfl))).trans ((dk_bind (dk_u1 (h 1 _ rfl))).trans rfl))
theorem dk_22 {code : ByteArray} {pc : Nat} (a : UInt8) (h : DkAt code pc [22, a]) : decode code pc = .ok (.lload a.toNat, 2) := dk_of ((dk_bind (dk_u1 (h 0 _ rfl))).trans ((dk_bind (dk_u1 (h 1 _ rfl))).trans rfl))
theorem dk_23 {code : ByteArray} {pc : Nat} (a : UInt8) (h : DkAt code pc [23, a]) : decode code pc = .ok (.fload a.toNat, 2) := dk_of ((dk_bind (dk_u1 (h 0 _ rfl))).trans ((dk_bind (dk_u1 (h 1 _ rfl))).trans rfl))
theorem dk_24 {code : ByteArray} {pc : Nat} (a : UInt8) (h : DkAt code pc [24, a]) : decode code pc = .ok (.dload a.toNat, 2) := dk_of ((dk_bind (dk_u1 (h 0 _ rfl))).trans ((dk_bind (dk_u1 (h 1 _ rfl))).trans rfl))
theorem dk_25 {code : ByteArray} {pc : Nat} (a : UInt8) (h : DkAt code pc [25, a]) : decode code pc = .ok (.aload a.toNat, 2) := dk_of ((dk_bind (dk_u1 (h 0 _ rfl))).trans ((dk_bind (dk_u1 (h 1 _ rfl))).trans rfl))
theorem dk_26 {code : ByteArray} {pc : Nat} (h : DkAt code pc [26]) : decode code pc = .ok (.iload_n 0, 1) := dk_of ((dk_bind (dk_u1 (h 0 _ rfl))).trans rfl)
theorem dk_27 {code : ByteArray} {pc : Nat} (h : DkAt code pc [27]) : decode code pc = .ok (.iload_n 1, 1) := dk_of ((dk_bind (dk_u1 (h 0 _ rfl))).trans rfl)
theorem dk_28 {code : ByteArray} {pc : Nat} (h : DkAt code pc [28]) : decode code pc = .ok (.iload_n 2, 1) := dk_of ((dk_bind (dk_u1 (h 0 _ rfl))).trans rfl)
theorem dk_29 {code : ByteArray} {pc : Nat} (h : DkAt code pc [29]) : decode code pc = .ok (.iload_n 3, 1) := dk_of ((dk_bind (dk_u1 (h 0 _ rfl))).trans rfl)
theorem dk_30 {code : ByteArray} {pc : Nat} (h : DkAt code pc [30]) : decode code pc = .ok (.lload_n 0, 1) := dk_of ((dk_bind (dk_u1 (h 0 _ rfl))).trans rfl)
theorem dk_31 {code : ByteArray} {pc : Nat} (h : DkAt code pc [31]) : decode code pc = .ok (.lload_n 1, 1) := dk_of ((dk_bind (dk_u1 (h 0 _ rfl))).trans rfl)
theorem dk_32 {code : ByteArray} {pc : Nat} (h : DkAt code pc [32]) : decode code pc = .ok (.lload_n 2, 1) := dk_of ((dk_bind (dk_u1 (h 0 _ rfl))).trans rfl)
theorem dk_33 {code : ByteArray} {pc : Nat} (h : DkAt code pc [33]) : decode code pc = .ok (.lload_n 3, 1) := dk_of ((dk_bind (dk_u1 (h 0 _ rfl))).trans rfl)
theorem dk_34 {code : ByteArray} {pc : Nat} (h : DkAt code pc [34]) : decode code pc = .ok (.fload_n 0, 1) := dk_of ((dk_bind (dk_u1 (h 0 _ rfl))).trans rfl)
theorem dk_35 {code : ByteArray} {pc : Nat} (h : DkAt code pc [35]) : decode code pc = .ok (.fload_n 1, 1) := dk_of ((dk_bind (dk_u1 (h 0 _ rfl))).trans rfl)
theorem dk_37 {code : ByteArray} {pc : Nat} (h : DkAt code pc [37]) : decode code pc = .ok (.fload_n 3, 1) := dk_of ((dk_bind (dk_u1 (h 0 _ rfl))).trans rfl)
theorem dk_38 {code : ByteArray} {pc : Nat} (h : DkAt code pc [38]) : decode code pc = .ok (.dload_n 0, 1) := dk_of ((dk_bind (dk_u1 (h 0 _ rfl))).trans rfl)
theorem dk_39 {code : ByteArray} {pc : Nat} (h : DkAt code pc [39]) : decode code pc = .ok (.dload_n 1, 1) := dk_of ((dk_bind (dk_u1 (h 0 _ rfl))).trans rfl)
theorem dk_40 {code : ByteArray} {pc : Nat} (h : DkAt code pc [40]) : decode code pc = .ok (.dload_n 2, 1) := dk_of ((dk_bind (dk_u1 (h 0 _ rfl))).trans rfl)
theorem dk_41 {code : ByteArray} {pc : Nat} (h : DkAt code pc [41]) : decode code pc = .ok (.dload_n 3, 1) := dk_of ((dk_bind (dk_u1 (h 0 _ rfl))).trans rfl)
theorem dk_42 {code : ByteArray} {pc : Nat} (h : DkAt code pc [42]) : decode code pc = .ok (.aload_n 0, 1) := dk_of ((dk_bind (dk_u1 (h 0 _ rfl))).trans rfl)
theorem dk_43 {code : ByteArray} {pc : Nat} (h : DkAt code pc [43]) : decode code pc = .ok (.aload_n 1, 1) := dk_of ((dk_bind (dk_u1 (h 0 _ rfl))).trans rfl)
theorem dk_44 {code : ByteArray} {pc : Nat} (h : DkAt code pc [44]) : decode code pc = .ok (.aload_n 2, 1) := dk_of ((dk_bind (dk_u1 (h 0 _ rfl))).trans rfl)
theorem dk_45 {code : ByteArray} {pc : Nat} (h : DkAt code pc [45]) : decode code pc = .ok (.aload_n 3, 1) := dk_of ((dk_bind (dk_u1 (h 0 _ rfl))).trans rfl)
theorem dk_46 {code : ByteArray} {pc : Nat} (h : DkAt code pc [46]) : decode code pc = .ok (.iaload, 1) := dk_of ((dk_bind (dk_u1 (h 0 _ rfl))).trans rfl)
theorem dk_47 {code : ByteArray} {pc : Nat} (h : DkAt code pc [47]) : decode code pc = .ok (.laload, 1) := dk_of ((dk_bind (dk_u1 (h 0 _ rfl))).trans rfl)
theorem dk_49 {code : ByteArray} {pc : Nat} (h : DkAt code pc [49]) : decode code pc = .ok (.daload, 1) := dk_of ((dk_bind (dk_u1 (h 0 _ rfl))).trans rfl)
theorem dk_50 {code : ByteArray} {pc : Nat} (h : DkAt code pc [50]) : decode code pc = .ok (.aaload, 1) := dk_of ((dk_bind (dk_u1 (h 0 _ rfl))).trans rfl)
theorem dk_51 {code : ByteArray} {pc : Nat} (h : DkAt code pc [51]) : decode code pc = .ok (.baload, 1) := dk_of ((dk_bind (dk_u1 (h 0 _ rfl))).trans rfl)
theorem dk_54 {code : ByteArray} {pc : Nat} (a : UInt8) (h : DkAt code pc [54, a]) : decode code pc = .ok (.istore a.toNat, 2) := dk_of ((dk_bind (dk_u1 (h 0 _ rfl))).trans ((dk_bind (dk_u1 (h 1 _ rfl))).trans rfl))
theorem dk_55 {code : ByteArray} {pc : Nat} (a : UInt8) (h : DkAt code pc [55, a]) : decode code pc = .ok (.lstore a.toNat, 2) := dk_of ((dk_bind (dk_u1 (h 0 _ rfl))).trans ((dk_bind (dk_u1 (h 1 _ rfl))).trans rfl))
theorem dk_56 {code : ByteArray} {pc : Nat} (a : UInt8) (h : DkAt code pc [56, a]) : decode code pc = .ok (.fstore a.toNat, 2) := dk_of ((dk_bind (dk_u1 (h 0 _ rfl))).trans ((dk_bind (dk_u1 (h 1 _ rfl))).trans rfl))
theorem dk_57 {code : ByteArray} {pc : Nat} (a : UInt8) (h : DkAt code pc [57, a]) : decode code pc = .ok (.dstore a.toNat, 2) := dk_of ((dk_bind (dk_u1 (h 0 _ rfl))).trans ((dk_bind (dk_u1 (h 1 _ rfl))).trans rfl))
theorem dk_58 {code : ByteArray} {pc : Nat} (a : UInt8) (h : DkAt code pc [58, a]) : decode code pc = .ok (.astore a.toNat, 2) := dk_of ((dk_bind (dk_u1 (h 0 _ rfl))).trans ((dk_bind (dk_u1 (h 1 _ rfl))).trans rfl))
theorem dk_59 {code : ByteArray} {pc : Nat} (h : DkAt code pc [59]) : decode code pc = .ok (.istore_n 0, 1) := dk_of ((dk_bind (dk_u1 (h 0 _ rfl))).trans rfl)
theorem dk_60 {code : ByteArray} {pc : Nat} (h : DkAt code pc [60]) : decode code pc = .ok (.istore_n 1, 1) := dk_of ((dk_bind (dk_u1 (h 0 _ rfl))).trans rfl)
theorem dk_61 {code : ByteArray} {pc : Nat} (h : DkAt code pc [61]) : decode code pc = .ok (.istore_n 2, 1) := dk_of ((dk_bind (dk_u1 (h 0 _ rfl))).trans rfl)
theorem dk_62 {code : ByteArray} {pc : Nat} (h : DkAt code pc [62]) : decode code pc = .ok (.istore_n 3, 1) := dk_of ((dk_bind (dk_u1 (h 0 _ rfl))).trans rfl)
theorem dk_63 {code : ByteArray} {pc : Nat} (h : DkAt code pc [63]) : decode code pc = .ok (.lstore_n 0, 1) := dk_of ((dk_bind (dk_u1 (h 0 _ rfl))).trans rfl)
theorem dk_64 {code : ByteArray} {pc : Nat} (h : DkAt code pc [64]) : decode code pc = .ok (.lstore_n 1, 1) := dk_of ((dk_bind (dk_u1 (h 0 _ rfl))).trans rfl)
theorem dk_65 {code : ByteArray} {pc : Nat} (h : DkAt code pc [65]) : decode code pc = .ok (.lstore_n 2, 1) := dk_of ((dk_bind (dk_u1 (h 0 _ rfl))).trans rfl)
theorem dk_66 {code : ByteArray} {pc : Nat} (h : DkAt code pc [66]) : decode code pc = .ok (.lstore_n 3, 1) := dk_of ((dk_bind (dk_u1 (h 0 _ rfl))).trans rfl)
theorem dk_70 {code : ByteArray} {pc : Nat} (h : DkAt code pc [70]) : decode code pc = .ok (.fstore_n 3, 1) := dk_of ((dk_bind (dk_u1 (h 0 _ rfl))).trans rfl)
theorem dk_74 {code : ByteArray} {pc : Nat} (h : DkAt code pc [74]) : decode code pc = .ok (.dstore_n 3, 1) := dk_of ((dk_bind (dk_u1 (h 0 _ rfl))).trans rfl)
theorem dk_76 {code : ByteArray} {pc : Nat} (h : DkAt code pc [76]) : decode code pc = .ok (.astore_n 1, 1) := dk_of ((dk_bind (dk_u1 (h 0 _ rfl))).trans rfl)
theorem dk_77 {code : ByteArray} {pc : Nat} (h : DkAt code pc [77]) : decode code pc = .ok (.astore_n 2, 1) := dk_of ((dk_bind (dk_u1 (h 0 _ rfl))).trans rfl)
theorem dk_78 {code : ByteArray} {pc : Nat} (h : DkAt code pc [78]) : decode code pc = .ok (.astore_n 3, 1) := dk_of ((dk_bind (dk_u1 (h 0 _ rfl))).trans rfl)
theorem dk_79 {code : ByteArray} {pc : Nat} (h : DkAt code pc [79]) : decode code pc = .ok (.iastore, 1) := dk_of ((dk_bind (dk_u1 (h 0 _ rfl))).trans rfl)
theorem dk_80 {code : ByteArray} {pc : Nat} (h : DkAt code pc [80]) : decode code pc = .ok (.lastore, 1) := dk_of ((dk_bind (dk_u1 (h 0 _ rfl))).trans rfl)
theorem dk_82 {code : ByteArray} {pc : Nat} (h : DkAt code pc [82]) : decode code pc = .ok (.dastore, 1) := dk_of ((dk_bind (dk_u1 (h 0 _ rfl))).trans rfl)
theorem dk_83 {code : ByteArray} {pc : Nat} (h : DkAt code pc [83]) : decode code pc = .ok (.aastore, 1) := dk_of ((dk_bind (dk_u1 (h 0 _ rfl))).trans rfl)
theorem dk_84 {code : ByteArray} {pc : Nat} (h : DkAt code pc [84]) : decode code pc = .ok (.bastore, 1) := dk_of ((dk_bind (dk_u1 (h 0 _ rfl))).trans rfl)
theorem dk_87 {code : ByteArray} {pc : Nat} (h : DkAt code pc [87]) : decode code pc = .ok (.pop, 1) := dk_of ((dk_bind (dk_u1 (h 0 _ rfl))).trans rfl)
theorem dk_89 {code : ByteArray} {pc : Nat} (h : DkAt code pc [89]) : decode code pc = .ok (.dup, 1) := dk_of ((dk_bind (dk_u1 (h 0 _ rfl))).trans rfl)
theorem dk_90 {code : ByteArray} {pc : Nat} (h : DkAt code pc [90]) : decode code pc = .ok (.dup_x1, 1) := dk_of ((dk_bind (dk_u1 (h 0 _ rfl))).trans rfl)
theorem dk_96 {code : ByteArray} {pc : Nat} (h : DkAt code pc [96]) : decode code pc = .ok (.iadd, 1) := dk_of ((dk_bind (dk_u1 (h 0 _ rfl))).trans rfl)
theorem dk_97 {code : ByteArray} {pc : Nat} (h : DkAt code pc [97]) : decode code pc = .ok (.ladd, 1) := dk_of ((dk_bind (dk_u1 (h 0 _ rfl))).trans rfl)
theorem dk_98 {code : ByteArray} {pc : Nat} (h : DkAt code pc [98]) : decode code pc = .ok (.fadd, 1) := dk_of ((dk_bind (dk_u1 (h 0 _ rfl))).trans rfl)
theorem dk_99 {code : ByteArray} {pc : Nat} (h : DkAt code pc [99]) : decode code pc = .ok (.dadd, 1) := dk_of ((dk_bind (dk_u1 (h 0 _ rfl))).trans rfl)
theorem dk_100 {code : ByteArray} {pc : Nat} (h : DkAt code pc [100]) : decode code pc = .ok (.isub, 1) := dk_of ((dk_bind (dk_u1 (h 0 _ rfl))).trans rfl)
theorem dk_101 {code : ByteArray} {pc : Nat} (h : DkAt code pc [101]) : decode code pc = .ok (.lsub, 1) := dk_of ((dk_bind (dk_u1 (h 0 _ rfl))).trans rfl)
theorem dk_104 {code : ByteArray} {pc : Nat} (h : DkAt code pc [104]) : decode code pc = .ok (.imul, 1) := dk_of ((dk_bind (dk_u1 (h 0 _ rfl))).trans rfl)
theorem dk_105 {code : ByteArray} {pc : Nat} (h : DkAt code pc [105]) : decode code pc = .ok (.lmul, 1) := dk_of ((dk_bind (dk_u1 (h 0 _ rfl))).trans rfl)
theorem dk_106 {code : ByteArray} {pc : Nat} (h : DkAt code pc [106]) : decode code pc = .ok (.fmul, 1) := dk_of ((dk_bind (dk_u1 (h 0 _ rfl))).trans rfl)
theorem dk_107 {code : ByteArray} {pc : Nat} (h : DkAt code pc [107]) : decode code pc = .ok (.dmul, 1) := dk_of ((dk_bind (dk_u1 (h 0 _ rfl))).trans rfl)
theorem dk_108 {code : ByteArray} {pc : Nat} (h : DkAt code pc [108]) : decode code pc = .ok (.idiv, 1) := dk_of ((dk_bind (dk_u1 (h 0 _ rfl))).trans rfl)
theorem dk_109 {code : ByteArray} {pc : Nat} (h : DkAt code pc [109]) : decode code pc = .ok (.ldiv, 1) := dk_of ((dk_bind (dk_u1 (h 0 _ rfl))).trans rfl)
theorem dk_113 {code : ByteArray} {pc : Nat} (h : DkAt code pc [113]) : decode code pc = .ok (.lrem, 1) := dk_of ((dk_bind (dk_u1 (h 0 _ rfl))).trans rfl)
theorem dk_116 {code : ByteArray} {pc : Nat} (h : DkAt code pc [116]) : decode code pc = .ok (.ineg, 1) := dk_of ((dk_bind (dk_u1 (h 0 _ rfl))).trans rfl)
theorem dk_117 {code : ByteArray} {pc : Nat} (h : DkAt code pc [117]) : decode code pc = .ok (.lneg, 1) := dk_of ((dk_bind (dk_u1 (h 0 _ rfl))).trans rfl)
theorem dk_120 {code : ByteArray} {pc : Nat} (h : DkAt code pc [120]) : decode code pc = .ok (.ishl, 1) := dk_of ((dk_bind (dk_u1 (h 0 _ rfl))).trans rfl)
theorem dk_121 {code : ByteArray} {pc : Nat} (h : DkAt code pc [121]) : decode code pc = .ok (.lshl, 1) := dk_of ((dk_bind (dk_u1 (h 0 _ rfl))).trans rfl)
theorem dk_122 {code : ByteArray} {pc : Nat} (h : DkAt code pc [122]) : decode code pc = .ok (.ishr, 1) := dk_of ((dk_bind (dk_u1 (h 0 _ rfl))).trans rfl)
theorem dk_123 {code : ByteArray} {pc : Nat} (h : DkAt code pc [123]) : decode code pc = .ok (.lshr, 1) := dk_of ((dk_bind (dk_u1 (h 0 _ rfl))).trans rfl)
theorem dk_124 {code : ByteArray} {pc : Nat} (h : DkAt code pc [124]) : decode code pc = .ok (.iushr, 1) := dk_of ((dk_bind (dk_u1 (h 0 _ rfl))).trans rfl)
theorem dk_125 {code : ByteArray} {pc : Nat} (h : DkAt code pc [125]) : decode code pc = .ok (.lushr, 1) := dk_of ((dk_bind (dk_u1 (h 0 _ rfl))).trans rfl)
theorem dk_126 {code : ByteArray} {pc : Nat} (h : DkAt code pc [126]) : decode code pc = .ok (.iand, 1) := dk_of ((dk_bind (dk_u1 (h 0 _ rfl))).trans rfl)
theorem dk_127 {code : ByteArray} {pc : Nat} (h : DkAt code pc [127]) : decode code pc = .ok (.land, 1) := dk_of ((dk_bind (dk_u1 (h 0 _ rfl))).trans rfl)
theorem dk_128 {code : ByteArray} {pc : Nat} (h : DkAt code pc [128]) : decode code pc = .ok (.ior, 1) := dk_of ((dk_bind (dk_u1 (h 0 _ rfl))).trans rfl)
theorem dk_129 {code : ByteArray} {pc : Nat} (h : DkAt code pc [129]) : decode code pc = .ok (.lor, 1) := dk_of ((dk_bind (dk_u1 (h 0 _ rfl))).trans rfl)
theorem dk_130 {code : ByteArray} {pc : Nat} (h : DkAt code pc [130]) : decode code pc = .ok (.ixor, 1) := dk_of ((dk_bind (dk_u1 (h 0 _ rfl))).trans rfl)
theorem dk_131 {code : ByteArray} {pc : Nat} (h : DkAt code pc [131]) : decode code pc = .ok (.lxor, 1) := dk_of ((dk_bind (dk_u1 (h 0 _ rfl))).trans rfl)
theorem dk_132 {code : ByteArray} {pc : Nat} (a b : UInt8) (h : DkAt code pc [132, a, b]) : decode code pc = .ok (.iinc a.toNat (Reader.signed 8 b.toNat), 3) := dk_of ((dk_bind (dk_u1 (h 0 _ rfl))).trans ((dk_bind (dk_u1 (h 1 _ rfl))).trans ((dk_bind (dk_map (dk_u1 (h 2 _ rfl)))).trans rfl)))
theorem dk_133 {code : ByteArray} {pc : Nat} (h : DkAt code pc [133]) : decode code pc = .ok (.i2l, 1) := dk_of ((dk_bind (dk_u1 (h 0 _ rfl))).trans rfl)
theorem dk_134 {code : ByteArray} {pc : Nat} (h : DkAt code pc [134]) : decode code pc = .ok (.i2f, 1) := dk_of ((dk_bind (dk_u1 (h 0 _ rfl))).trans rfl)
theorem dk_135 {code : ByteArray} {pc : Nat} (h : DkAt code pc [135]) : decode code pc = .ok (.i2d, 1) := dk_of ((dk_bind (dk_u1 (h 0 _ rfl))).trans rfl)
theorem dk_136 {code : ByteArray} {pc : Nat} (h : DkAt code pc [136]) : decode code pc = .ok (.l2i, 1) := dk_of ((dk_bind (dk_u1 (h 0 _ rfl))).trans rfl)
theorem dk_145 {code : ByteArray} {pc : Nat} (h : DkAt code pc [145]) : decode code pc = .ok (.i2b, 1) := dk_of ((dk_bind (dk_u1 (h 0 _ rfl))).trans rfl)
theorem dk_146 {code : ByteArray} {pc : Nat} (h : DkAt code pc [146]) : decode code pc = .ok (.i2c, 1) := dk_of ((dk_bind (dk_u1 (h 0 _ rfl))).trans rfl)
theorem dk_148 {code : ByteArray} {pc : Nat} (h : DkAt code pc [148]) : decode code pc = .ok (.lcmp, 1) := dk_of ((dk_bind (dk_u1 (h 0 _ rfl))).trans rfl)
theorem dk_149 {code : ByteArray} {pc : Nat} (h : DkAt code pc [149]) : decode code pc = .ok (.fcmp .l, 1) := dk_of ((dk_bind (dk_u1 (h 0 _ rfl))).trans rfl)
theorem dk_150 {code : ByteArray} {pc : Nat} (h : DkAt code pc [150]) : decode code pc = .ok (.fcmp .g, 1) := dk_of ((dk_bind (dk_u1 (h 0 _ rfl))).trans rfl)
theorem dk_151 {code : ByteArray} {pc : Nat} (h : DkAt code pc [151]) : decode code pc = .ok (.dcmp .l, 1) := dk_of ((dk_bind (dk_u1 (h 0 _ rfl))).trans rfl)
theorem dk_152 {code : ByteArray} {pc : Nat} (h : DkAt code pc [152]) : decode code pc = .ok (.dcmp .g, 1) := dk_of ((dk_bind (dk_u1 (h 0 _ rfl))).trans rfl)
theorem dk_153 {code : ByteArray} {pc : Nat} (a b : UInt8) (h : DkAt code pc [153, a, b]) : decode code pc = .ok (.ifCond .eq (Reader.signed 16 (a.toNat * 256 + b.toNat)), 3) := dk_of ((dk_bind (dk_u1 (h 0 _ rfl))).trans ((dk_bind (dk_map (dk_u2 (h 1 _ rfl) (h 2 _ rfl)))).trans rfl))
theorem dk_154 {code : ByteArray} {pc : Nat} (a b : UInt8) (h : DkAt code pc [154, a, b]) : decode code pc = .ok (.ifCond .ne (Reader.signed 16 (a.toNat * 256 + b.toNat)), 3) := dk_of ((dk_bind (dk_u1 (h 0 _ rfl))).trans ((dk_bind (dk_map (dk_u2 (h 1 _ rfl) (h 2 _ rfl)))).trans rfl))
theorem dk_155 {code : ByteArray} {pc : Nat} (a b : UInt8) (h : DkAt code pc [155, a, b]) : decode code pc = .ok (.ifCond .lt (Reader.signed 16 (a.toNat * 256 + b.toNat)), 3) := dk_of ((dk_bind (dk_u1 (h 0 _ rfl))).trans ((dk_bind (dk_map (dk_u2 (h 1 _ rfl) (h 2 _ rfl)))).trans rfl))
theorem dk_156 {code : ByteArray} {pc : Nat} (a b : UInt8) (h : DkAt code pc [156, a, b]) : decode code pc = .ok (.ifCond .ge (Reader.signed 16 (a.toNat * 256 + b.toNat)), 3) := dk_of ((dk_bind (dk_u1 (h 0 _ rfl))).trans ((dk_bind (dk_map (dk_u2 (h 1 _ rfl) (h 2 _ rfl)))).trans rfl))
theorem dk_157 {code : ByteArray} {pc : Nat} (a b : UInt8) (h : DkAt code pc [157, a, b]) : decode code pc = .ok (.ifCond .gt (Reader.signed 16 (a.toNat * 256 + b.toNat)), 3) := dk_of ((dk_bind (dk_u1 (h 0 _ rfl))).trans ((dk_bind (dk_map (dk_u2 (h 1 _ rfl) (h 2 _ rfl)))).trans rfl))
theorem dk_158 {code : ByteArray} {pc : Nat} (a b : UInt8) (h : DkAt code pc [158, a, b]) : decode code pc = .ok (.ifCond .le (Reader.signed 16 (a.toNat * 256 + b.toNat)), 3) := dk_of ((dk_bind (dk_u1 (h 0 _ rfl))).trans ((dk_bind (dk_map (dk_u2 (h 1 _ rfl) (h 2 _ rfl)))).trans rfl))
theorem dk_159 {code : ByteArray} {pc : Nat} (a b : UInt8) (h : DkAt code pc [159, a, b]) : decode code pc = .ok (.if_icmp .eq (Reader.signed 16 (a.toNat * 256 + b.toNat)), 3) := dk_of ((dk_bind (dk_u1 (h 0 _ rfl))).trans ((dk_bind (dk_map (dk_u2 (h 1 _ rfl) (h 2 _ rfl)))).trans rfl))
theorem dk_160 {code : ByteArray} {pc : Nat} (a b : UInt8) (h : DkAt code pc [160, a, b]) : decode code pc = .ok (.if_icmp .ne (Reader.signed 16 (a.toNat * 256 + b.toNat)), 3) := dk_of ((dk_bind (dk_u1 (h 0 _ rfl))).trans ((dk_bind (dk_map (dk_u2 (h 1 _ rfl) (h 2 _ rfl)))).trans rfl))
theorem dk_161 {code : ByteArray} {pc : Nat} (a b : UInt8) (h : DkAt code pc [161, a, b]) : decode code pc = .ok (.if_icmp .lt (Reader.signed 16 (a.toNat * 256 + b.toNat)), 3) := dk_of ((dk_bind (dk_u1 (h 0 _ rfl))).trans ((dk_bind (dk_map (dk_u2 (h 1 _ rfl) (h 2 _ rfl)))).trans rfl))
theorem dk_162 {code : ByteArray} {pc : Nat} (a b : UInt8) (h : DkAt code pc [162, a, b]) : decode code pc = .ok (.if_icmp .ge (Reader.signed 16 (a.toNat * 256 + b.toNat)), 3) := dk_of ((dk_bind (dk_u1 (h 0 _ rfl))).trans ((dk_bind (dk_map (dk_u2 (h 1 _ rfl) (h 2 _ rfl)))).trans rfl))
theorem dk_163 {code : ByteArray} {pc : Nat} (a b : UInt8) (h : DkAt code pc [163, a, b]) : decode code pc = .ok (.if_icmp .gt (Reader.signed 16 (a.toNat * 256 + b.toNat)), 3) := dk_of ((dk_bind (dk_u1 (h 0 _ rfl))).trans ((dk_bind (dk_map (dk_u2 (h 1 _ rfl) (h 2 _ rfl)))).trans rfl))
theorem dk_164 {code : ByteArray} {pc : Nat} (a b : UInt8) (h : DkAt code pc [164, a, b]) : decode code pc = .ok (.if_icmp .le (Reader.signed 16 (a.toNat * 256 + b.toNat)), 3) := dk_of ((dk_bind (dk_u1 (h 0 _ rfl))).trans ((dk_bind (dk_map (dk_u2 (h 1 _ rfl) (h 2 _ rfl)))).trans rfl))
theorem dk_165 {code : ByteArray} {pc : Nat} (a b : UInt8) (h : DkAt code pc [165, a, b]) : decode code pc = .ok (.if_acmp .eq (Reader.signed 16 (a.toNat * 256 + b.toNat)), 3) := dk_of ((dk_bind (dk_u1 (h 0 _ rfl))).trans ((dk_bind (dk_map (dk_u2 (h 1 _ rfl) (h 2 _ rfl)))).trans rfl))
theorem dk_166 {code : ByteArray} {pc : Nat} (a b : UInt8) (h : DkAt code pc [166, a, b]) : decode code pc = .ok (.if_acmp .ne (Reader.signed 16 (a.toNat * 256 + b.toNat)), 3) := dk_of ((dk_bind (dk_u1 (h 0 _ rfl))).trans ((dk_bind (dk_map (dk_u2 (h 1 _ rfl) (h 2 _ rfl)))).trans rfl))
theorem dk_167 {code : ByteArray} {pc : Nat} (a b : UInt8) (h : DkAt code pc [167, a, b]) : decode code pc = .ok (.goto (Reader.signed 16 (a.toNat * 256 + b.toNat)), 3) := dk_of ((dk_bind (dk_u1 (h 0 _ rfl))).trans ((dk_bind (dk_map (dk_u2 (h 1 _ rfl) (h 2 _ rfl)))).trans rfl))
theorem dk_172 {code : ByteArray} {pc : Nat} (h : DkAt code pc [172]) : decode code pc = .ok (.ireturn, 1) := dk_of ((dk_bind (dk_u1 (h 0 _ rfl))).trans rfl)
theorem dk_173 {code : ByteArray} {pc : Nat} (h : DkAt code pc [173]) : decode code pc = .ok (.lreturn, 1) := dk_of ((dk_bind (dk_u1 (h 0 _ rfl))).trans rfl)
theorem dk_174 {code : ByteArray} {pc : Nat} (h : DkAt code pc [174]) : decode code pc = .ok (.freturn, 1) := dk_of ((dk_bind (dk_u1 (h 0 _ rfl))).trans rfl)
theorem dk_175 {code : ByteArray} {pc : Nat} (h : DkAt code pc [175]) : decode code pc = .ok (.dreturn, 1) := dk_of ((dk_bind (dk_u1 (h 0 _ rfl))).trans rfl)
theorem dk_176 {code : ByteArray} {pc : Nat} (h : DkAt code pc [176]) : decode code pc = .ok (.areturn, 1) := dk_of ((dk_bind (dk_u1 (h 0 _ rfl))).trans rfl)
theorem dk_177 {code : ByteArray} {pc : Nat} (h : DkAt code pc [177]) : decode code pc = .ok (.return_, 1) := dk_of ((dk_bind (dk_u1 (h 0 _ rfl))).trans rfl)
theorem dk_178 {code : ByteArray} {pc : Nat} (a b : UInt8) (h : DkAt code pc [178, a, b]) : decode code pc = .ok (.getstatic (a.toNat * 256 + b.toNat), 3) := dk_of ((dk_bind (dk_u1 (h 0 _ rfl))).trans ((dk_bind (dk_u2 (h 1 _ rfl) (h 2 _ rfl))).trans rfl))
theorem dk_180 {code : ByteArray} {pc : Nat} (a b : UInt8) (h : DkAt code pc [180, a, b]) : decode code pc = .ok (.getfield (a.toNat * 256 + b.toNat), 3) := dk_of ((dk_bind (dk_u1 (h 0 _ rfl))).trans ((dk_bind (dk_u2 (h 1 _ rfl) (h 2 _ rfl))).trans rfl))
theorem dk_181 {code : ByteArray} {pc : Nat} (a b : UInt8) (h : DkAt code pc [181, a, b]) : decode code pc = .ok (.putfield (a.toNat * 256 + b.toNat), 3) := dk_of ((dk_bind (dk_u1 (h 0 _ rfl))).trans ((dk_bind (dk_u2 (h 1 _ rfl) (h 2 _ rfl))).trans rfl))
theorem dk_182 {code : ByteArray} {pc : Nat} (a b : UInt8) (h : DkAt code pc [182, a, b]) : decode code pc = .ok (.invokevirtual (a.toNat * 256 + b.toNat), 3) := dk_of ((dk_bind (dk_u1 (h 0 _ rfl))).trans ((dk_bind (dk_u2 (h 1 _ rfl) (h 2 _ rfl))).trans rfl))
theorem dk_183 {code : ByteArray} {pc : Nat} (a b : UInt8) (h : DkAt code pc [183, a, b]) : decode code pc = .ok (.invokespecial (a.toNat * 256 + b.toNat), 3) := dk_of ((dk_bind (dk_u1 (h 0 _ rfl))).trans ((dk_bind (dk_u2 (h 1 _ rfl) (h 2 _ rfl))).trans rfl))
theorem dk_184 {code : ByteArray} {pc : Nat} (a b : UInt8) (h : DkAt code pc [184, a, b]) : decode code pc = .ok (.invokestatic (a.toNat * 256 + b.toNat), 3) := dk_of ((dk_bind (dk_u1 (h 0 _ rfl))).trans ((dk_bind (dk_u2 (h 1 _ rfl) (h 2 _ rfl))).trans rfl))
theorem dk_187 {code : ByteArray} {pc : Nat} (a b : UInt8) (h : DkAt code pc [187, a, b]) : decode code pc = .ok (.new (a.toNat * 256 + b.toNat), 3) := dk_of ((dk_bind (dk_u1 (h 0 _ rfl))).trans ((dk_bind (dk_u2 (h 1 _ rfl) (h 2 _ rfl))).trans rfl))
theorem dk_188_7 {code : ByteArray} {pc : Nat} (h : DkAt code pc [188, 7]) : decode code pc = .ok (.newarray .double, 2) := dk_of ((dk_bind (dk_u1 (h 0 _ rfl))).trans ((dk_bind (dk_u1 (h 1 _ rfl))).trans rfl))
theorem dk_188_8 {code : ByteArray} {pc : Nat} (h : DkAt code pc [188, 8]) : decode code pc = .ok (.newarray .byte, 2) := dk_of ((dk_bind (dk_u1 (h 0 _ rfl))).trans ((dk_bind (dk_u1 (h 1 _ rfl))).trans rfl))
theorem dk_188_10 {code : ByteArray} {pc : Nat} (h : DkAt code pc [188, 10]) : decode code pc = .ok (.newarray .int, 2) := dk_of ((dk_bind (dk_u1 (h 0 _ rfl))).trans ((dk_bind (dk_u1 (h 1 _ rfl))).trans rfl))
theorem dk_188_11 {code : ByteArray} {pc : Nat} (h : DkAt code pc [188, 11]) : decode code pc = .ok (.newarray .long, 2) := dk_of ((dk_bind (dk_u1 (h 0 _ rfl))).trans ((dk_bind (dk_u1 (h 1 _ rfl))).trans rfl))
theorem dk_189 {code : ByteArray} {pc : Nat} (a b : UInt8) (h : DkAt code pc [189, a, b]) : decode code pc = .ok (.anewarray (a.toNat * 256 + b.toNat), 3) := dk_of ((dk_bind (dk_u1 (h 0 _ rfl))).trans ((dk_bind (dk_u2 (h 1 _ rfl) (h 2 _ rfl))).trans rfl))
theorem dk_190 {code : ByteArray} {pc : Nat} (h : DkAt code pc [190]) : decode code pc = .ok (.arraylength, 1) := dk_of ((dk_bind (dk_u1 (h 0 _ rfl))).trans rfl)
theorem dk_191 {code : ByteArray} {pc : Nat} (h : DkAt code pc [191]) : decode code pc = .ok (.athrow, 1) := dk_of ((dk_bind (dk_u1 (h 0 _ rfl))).trans rfl)
theorem dk_192 {code : ByteArray} {pc : Nat} (a b : UInt8) (h : DkAt code pc [192, a, b]) : decode code pc = .ok (.checkcast (a.toNat * 256 + b.toNat), 3) := dk_of ((dk_bind (dk_u1 (h 0 _ rfl))).trans ((dk_bind (dk_u2 (h 1 _ rfl) (h 2 _ rfl))).trans rfl))
theorem dk_193 {code : ByteArray} {pc : Nat} (a b : UInt8) (h : DkAt code pc [193, a, b]) : decode code pc = .ok (.instanceof (a.toNat * 256 + b.toNat), 3) := dk_of ((dk_bind (dk_u1 (h 0 _ rfl))).trans ((dk_bind (dk_u2 (h 1 _ rfl) (h 2 _ rfl))).trans rfl))
theorem dk_198 {code : ByteArray} {pc : Nat} (a b : UInt8) (h : DkAt code pc [198, a, b]) : decode code pc = .ok (.ifnull (Reader.signed 16 (a.toNat * 256 + b.toNat)), 3) := dk_of ((dk_bind (dk_u1 (h 0 _ rfl))).trans ((dk_bind (dk_map (dk_u2 (h 1 _ rfl) (h 2 _ rfl)))).trans rfl))
theorem dk_199 {code : ByteArray} {pc : Nat} (a b : UInt8) (h : DkAt code pc [199, a, b]) : decode code pc = .ok (.ifnonnull (Reader.signed 16 (a.toNat * 256 + b.toNat)), 3) := dk_of ((dk_bind (dk_u1 (h 0 _ rfl))).trans ((dk_bind (dk_map (dk_u2 (h 1 _ rfl) (h 2 _ rfl)))).trans rfl))
/-! EdgefloatsLaw -/
set_option maxRecDepth 100000
def RX0 : String := "EdgefloatsLaw"
abbrev cX0_putWide : ByteArray := method_2_code
def yX0_putWide : MethodName := ⟨RX0, "putWide", "(LEdgefloats;IIILEdgefloatsLaw$Out;)I"⟩
def dkwX0_putWide_0 : List UInt8 := [25, 4, 42, 27, 28, 29, 182, 0, 7, 133, 181, 0, 13, 167, 0, 7, 58, 5, 4, 172, 3, 172]
abbrev dktX0_putWide_0 : List UInt8 := dkwX0_putWide_0 ++ []
theorem dksX0_putWide_0 : cX0_putWide.data.toList.drop 0 = dktX0_putWide_0 := by decide +kernel
theorem dX0_putWide_0 : decode cX0_putWide 0 = .ok (.aload 4, 2) := dk_25 4 (dk_at dksX0_putWide_0 0 rfl rfl)
theorem dX0_putWide_2 : decode cX0_putWide 2 = .ok (.aload_n 0, 1) := dk_42 (dk_at dksX0_putWide_0 2 rfl rfl)
theorem dX0_putWide_3 : decode cX0_putWide 3 = .ok (.iload_n 1, 1) := dk_27 (dk_at dksX0_putWide_0 3 rfl rfl)
theorem dX0_putWide_4 : decode cX0_putWide 4 = .ok (.iload_n 2, 1) := dk_28 (dk_at dksX0_putWide_0 4 rfl rfl)
theorem dX0_putWide_5 : decode cX0_putWide 5 = .ok (.iload_n 3, 1) := dk_29 (dk_at dksX0_putWide_0 5 rfl rfl)
theorem dX0_putWide_6 : decode cX0_putWide 6 = .ok (.invokevirtual 7, 3) := dk_182 0 7 (dk_at dksX0_putWide_0 6 rfl rfl)
theorem dX0_putWide_9 : decode cX0_putWide 9 = .ok (.i2l, 1) := dk_133 (dk_at dksX0_putWide_0 9 rfl rfl)
theorem dX0_putWide_10 : decode cX0_putWide 10 = .ok (.putfield 13, 3) := dk_181 0 13 (dk_at dksX0_putWide_0 10 rfl rfl)
theorem dX0_putWide_13 : decode cX0_putWide 13 = .ok (.goto 7, 3) := dk_167 0 7 (dk_at dksX0_putWide_0 13 rfl rfl)
theorem dX0_putWide_16 : decode cX0_putWide 16 = .ok (.astore 5, 2) := dk_58 5 (dk_at dksX0_putWide_0 16 rfl rfl)
theorem dX0_putWide_18 : decode cX0_putWide 18 = .ok (.iconst 1, 1) := dk_4 (dk_at dksX0_putWide_0 18 rfl rfl)
theorem dX0_putWide_19 : decode cX0_putWide 19 = .ok (.ireturn, 1) := dk_172 (dk_at dksX0_putWide_0 19 rfl rfl)
theorem dX0_putWide_20 : decode cX0_putWide 20 = .ok (.iconst 0, 1) := dk_3 (dk_at dksX0_putWide_0 20 rfl rfl)
theorem dX0_putWide_21 : decode cX0_putWide 21 = .ok (.ireturn, 1) := dk_172 (dk_at dksX0_putWide_0 21 rfl rfl)
abbrev cX0_wideQuarters : ByteArray := method_3_code
def yX0_wideQuarters : MethodName := ⟨RX0, "wideQuarters", "(LEdgefloats;IILEdgefloatsLaw$Out;)I"⟩
def dkwX0_wideQuarters_0 : List UInt8 := [45, 42, 27, 28, 182, 0, 21, 133, 181, 0, 13, 167, 0, 11, 58, 4, 4, 172, 58, 4, 5, 172, 3, 172]
abbrev dktX0_wideQuarters_0 : List UInt8 := dkwX0_wideQuarters_0 ++ []
theorem dksX0_wideQuarters_0 : cX0_wideQuarters.data.toList.drop 0 = dktX0_wideQuarters_0 := by decide +kernel
theorem dX0_wideQuarters_0 : decode cX0_wideQuarters 0 = .ok (.aload_n 3, 1) := dk_45 (dk_at dksX0_wideQuarters_0 0 rfl rfl)
theorem dX0_wideQuarters_1 : decode cX0_wideQuarters 1 = .ok (.aload_n 0, 1) := dk_42 (dk_at dksX0_wideQuarters_0 1 rfl rfl)
theorem dX0_wideQuarters_2 : decode cX0_wideQuarters 2 = .ok (.iload_n 1, 1) := dk_27 (dk_at dksX0_wideQuarters_0 2 rfl rfl)
theorem dX0_wideQuarters_3 : decode cX0_wideQuarters 3 = .ok (.iload_n 2, 1) := dk_28 (dk_at dksX0_wideQuarters_0 3 rfl rfl)
theorem dX0_wideQuarters_4 : decode cX0_wideQuarters 4 = .ok (.invokevirtual 21, 3) := dk_182 0 21 (dk_at dksX0_wideQuarters_0 4 rfl rfl)
theorem dX0_wideQuarters_7 : decode cX0_wideQuarters 7 = .ok (.i2l, 1) := dk_133 (dk_at dksX0_wideQuarters_0 7 rfl rfl)
theorem dX0_wideQuarters_8 : decode cX0_wideQuarters 8 = .ok (.putfield 13, 3) := dk_181 0 13 (dk_at dksX0_wideQuarters_0 8 rfl rfl)
theorem dX0_wideQuarters_11 : decode cX0_wideQuarters 11 = .ok (.goto 11, 3) := dk_167 0 11 (dk_at dksX0_wideQuarters_0 11 rfl rfl)
theorem dX0_wideQuarters_14 : decode cX0_wideQuarters 14 = .ok (.astore 4, 2) := dk_58 4 (dk_at dksX0_wideQuarters_0 14 rfl rfl)
theorem dX0_wideQuarters_16 : decode cX0_wideQuarters 16 = .ok (.iconst 1, 1) := dk_4 (dk_at dksX0_wideQuarters_0 16 rfl rfl)
theorem dX0_wideQuarters_17 : decode cX0_wideQuarters 17 = .ok (.ireturn, 1) := dk_172 (dk_at dksX0_wideQuarters_0 17 rfl rfl)
theorem dX0_wideQuarters_18 : decode cX0_wideQuarters 18 = .ok (.astore 4, 2) := dk_58 4 (dk_at dksX0_wideQuarters_0 18 rfl rfl)
theorem dX0_wideQuarters_20 : decode cX0_wideQuarters 20 = .ok (.iconst 2, 1) := dk_5 (dk_at dksX0_wideQuarters_0 20 rfl rfl)
theorem dX0_wideQuarters_21 : decode cX0_wideQuarters 21 = .ok (.ireturn, 1) := dk_172 (dk_at dksX0_wideQuarters_0 21 rfl rfl)
theorem dX0_wideQuarters_22 : decode cX0_wideQuarters 22 = .ok (.iconst 0, 1) := dk_3 (dk_at dksX0_wideQuarters_0 22 rfl rfl)
theorem dX0_wideQuarters_23 : decode cX0_wideQuarters 23 = .ok (.ireturn, 1) := dk_172 (dk_at dksX0_wideQuarters_0 23 rfl rfl)
abbrev cX0_wideKnown : ByteArray := method_4_code
def yX0_wideKnown : MethodName := ⟨RX0, "wideKnown", "(LEdgefloats;IILEdgefloatsLaw$Out;)I"⟩
def dkwX0_wideKnown_0 : List UInt8 := [45, 42, 27, 28, 182, 0, 27, 133, 181, 0, 13, 167, 0, 11, 58, 4, 4, 172, 58, 4, 5, 172, 3, 172]
abbrev dktX0_wideKnown_0 : List UInt8 := dkwX0_wideKnown_0 ++ []
theorem dksX0_wideKnown_0 : cX0_wideKnown.data.toList.drop 0 = dktX0_wideKnown_0 := by decide +kernel
theorem dX0_wideKnown_0 : decode cX0_wideKnown 0 = .ok (.aload_n 3, 1) := dk_45 (dk_at dksX0_wideKnown_0 0 rfl rfl)
theorem dX0_wideKnown_1 : decode cX0_wideKnown 1 = .ok (.aload_n 0, 1) := dk_42 (dk_at dksX0_wideKnown_0 1 rfl rfl)
theorem dX0_wideKnown_2 : decode cX0_wideKnown 2 = .ok (.iload_n 1, 1) := dk_27 (dk_at dksX0_wideKnown_0 2 rfl rfl)
theorem dX0_wideKnown_3 : decode cX0_wideKnown 3 = .ok (.iload_n 2, 1) := dk_28 (dk_at dksX0_wideKnown_0 3 rfl rfl)
theorem dX0_wideKnown_4 : decode cX0_wideKnown 4 = .ok (.invokevirtual 27, 3) := dk_182 0 27 (dk_at dksX0_wideKnown_0 4 rfl rfl)
theorem dX0_wideKnown_7 : decode cX0_wideKnown 7 = .ok (.i2l, 1) := dk_133 (dk_at dksX0_wideKnown_0 7 rfl rfl)
theorem dX0_wideKnown_8 : decode cX0_wideKnown 8 = .ok (.putfield 13, 3) := dk_181 0 13 (dk_at dksX0_wideKnown_0 8 rfl rfl)
theorem dX0_wideKnown_11 : decode cX0_wideKnown 11 = .ok (.goto 11, 3) := dk_167 0 11 (dk_at dksX0_wideKnown_0 11 rfl rfl)
theorem dX0_wideKnown_14 : decode cX0_wideKnown 14 = .ok (.astore 4, 2) := dk_58 4 (dk_at dksX0_wideKnown_0 14 rfl rfl)
theorem dX0_wideKnown_16 : decode cX0_wideKnown 16 = .ok (.iconst 1, 1) := dk_4 (dk_at dksX0_wideKnown_0 16 rfl rfl)
theorem dX0_wideKnown_17 : decode cX0_wideKnown 17 = .ok (.ireturn, 1) := dk_172 (dk_at dksX0_wideKnown_0 17 rfl rfl)
theorem dX0_wideKnown_18 : decode cX0_wideKnown 18 = .ok (.astore 4, 2) := dk_58 4 (dk_at dksX0_wideKnown_0 18 rfl rfl)
theorem dX0_wideKnown_20 : decode cX0_wideKnown 20 = .ok (.iconst 2, 1) := dk_5 (dk_at dksX0_wideKnown_0 20 rfl rfl)
theorem dX0_wideKnown_21 : decode cX0_wideKnown 21 = .ok (.ireturn, 1) := dk_172 (dk_at dksX0_wideKnown_0 21 rfl rfl)
theorem dX0_wideKnown_22 : decode cX0_wideKnown 22 = .ok (.iconst 0, 1) := dk_3 (dk_at dksX0_wideKnown_0 22 rfl rfl)
theorem dX0_wideKnown_23 : decode cX0_wideKnown 23 = .ok (.ireturn, 1) := dk_172 (dk_at dksX0_wideKnown_0 23 rfl rfl)
abbrev cX0_wideCopy : ByteArray := method_5_code
def yX0_wideCopy : MethodName := ⟨RX0, "wideCopy", "(LEdgefloats;IILEdgefloatsLaw$Out;)I"⟩
def dkwX0_wideCopy_0 : List UInt8 := [45, 42, 27, 28, 182, 0, 30, 133, 181, 0, 13, 167, 0, 7, 58, 4, 4, 172, 3, 172]
abbrev dktX0_wideCopy_0 : List UInt8 := dkwX0_wideCopy_0 ++ []
theorem dksX0_wideCopy_0 : cX0_wideCopy.data.toList.drop 0 = dktX0_wideCopy_0 := by decide +kernel
theorem dX0_wideCopy_0 : decode cX0_wideCopy 0 = .ok (.aload_n 3, 1) := dk_45 (dk_at dksX0_wideCopy_0 0 rfl rfl)
theorem dX0_wideCopy_1 : decode cX0_wideCopy 1 = .ok (.aload_n 0, 1) := dk_42 (dk_at dksX0_wideCopy_0 1 rfl rfl)
theorem dX0_wideCopy_2 : decode cX0_wideCopy 2 = .ok (.iload_n 1, 1) := dk_27 (dk_at dksX0_wideCopy_0 2 rfl rfl)
theorem dX0_wideCopy_3 : decode cX0_wideCopy 3 = .ok (.iload_n 2, 1) := dk_28 (dk_at dksX0_wideCopy_0 3 rfl rfl)
theorem dX0_wideCopy_4 : decode cX0_wideCopy 4 = .ok (.invokevirtual 30, 3) := dk_182 0 30 (dk_at dksX0_wideCopy_0 4 rfl rfl)
theorem dX0_wideCopy_7 : decode cX0_wideCopy 7 = .ok (.i2l, 1) := dk_133 (dk_at dksX0_wideCopy_0 7 rfl rfl)
theorem dX0_wideCopy_8 : decode cX0_wideCopy 8 = .ok (.putfield 13, 3) := dk_181 0 13 (dk_at dksX0_wideCopy_0 8 rfl rfl)
theorem dX0_wideCopy_11 : decode cX0_wideCopy 11 = .ok (.goto 7, 3) := dk_167 0 7 (dk_at dksX0_wideCopy_0 11 rfl rfl)
theorem dX0_wideCopy_14 : decode cX0_wideCopy 14 = .ok (.astore 4, 2) := dk_58 4 (dk_at dksX0_wideCopy_0 14 rfl rfl)
theorem dX0_wideCopy_16 : decode cX0_wideCopy 16 = .ok (.iconst 1, 1) := dk_4 (dk_at dksX0_wideCopy_0 16 rfl rfl)
theorem dX0_wideCopy_17 : decode cX0_wideCopy 17 = .ok (.ireturn, 1) := dk_172 (dk_at dksX0_wideCopy_0 17 rfl rfl)
theorem dX0_wideCopy_18 : decode cX0_wideCopy 18 = .ok (.iconst 0, 1) := dk_3 (dk_at dksX0_wideCopy_0 18 rfl rfl)
theorem dX0_wideCopy_19 : decode cX0_wideCopy 19 = .ok (.ireturn, 1) := dk_172 (dk_at dksX0_wideCopy_0 19 rfl rfl)
abbrev cX0_wideSwap : ByteArray := method_6_code
def yX0_wideSwap : MethodName := ⟨RX0, "wideSwap", "(LEdgefloats;IILEdgefloatsLaw$Out;)I"⟩
def dkwX0_wideSwap_0 : List UInt8 := [45, 42, 27, 28, 182, 0, 33, 133, 181, 0, 13, 167, 0, 7, 58, 4, 4, 172, 3, 172]
abbrev dktX0_wideSwap_0 : List UInt8 := dkwX0_wideSwap_0 ++ []
theorem dksX0_wideSwap_0 : cX0_wideSwap.data.toList.drop 0 = dktX0_wideSwap_0 := by decide +kernel
theorem dX0_wideSwap_0 : decode cX0_wideSwap 0 = .ok (.aload_n 3, 1) := dk_45 (dk_at dksX0_wideSwap_0 0 rfl rfl)
theorem dX0_wideSwap_1 : decode cX0_wideSwap 1 = .ok (.aload_n 0, 1) := dk_42 (dk_at dksX0_wideSwap_0 1 rfl rfl)
theorem dX0_wideSwap_2 : decode cX0_wideSwap 2 = .ok (.iload_n 1, 1) := dk_27 (dk_at dksX0_wideSwap_0 2 rfl rfl)
theorem dX0_wideSwap_3 : decode cX0_wideSwap 3 = .ok (.iload_n 2, 1) := dk_28 (dk_at dksX0_wideSwap_0 3 rfl rfl)
theorem dX0_wideSwap_4 : decode cX0_wideSwap 4 = .ok (.invokevirtual 33, 3) := dk_182 0 33 (dk_at dksX0_wideSwap_0 4 rfl rfl)
theorem dX0_wideSwap_7 : decode cX0_wideSwap 7 = .ok (.i2l, 1) := dk_133 (dk_at dksX0_wideSwap_0 7 rfl rfl)
theorem dX0_wideSwap_8 : decode cX0_wideSwap 8 = .ok (.putfield 13, 3) := dk_181 0 13 (dk_at dksX0_wideSwap_0 8 rfl rfl)
theorem dX0_wideSwap_11 : decode cX0_wideSwap 11 = .ok (.goto 7, 3) := dk_167 0 7 (dk_at dksX0_wideSwap_0 11 rfl rfl)
theorem dX0_wideSwap_14 : decode cX0_wideSwap 14 = .ok (.astore 4, 2) := dk_58 4 (dk_at dksX0_wideSwap_0 14 rfl rfl)
theorem dX0_wideSwap_16 : decode cX0_wideSwap 16 = .ok (.iconst 1, 1) := dk_4 (dk_at dksX0_wideSwap_0 16 rfl rfl)
theorem dX0_wideSwap_17 : decode cX0_wideSwap 17 = .ok (.ireturn, 1) := dk_172 (dk_at dksX0_wideSwap_0 17 rfl rfl)
theorem dX0_wideSwap_18 : decode cX0_wideSwap 18 = .ok (.iconst 0, 1) := dk_3 (dk_at dksX0_wideSwap_0 18 rfl rfl)
theorem dX0_wideSwap_19 : decode cX0_wideSwap 19 = .ok (.ireturn, 1) := dk_172 (dk_at dksX0_wideSwap_0 19 rfl rfl)
abbrev cX0_wideMax : ByteArray := method_7_code
def yX0_wideMax : MethodName := ⟨RX0, "wideMax", "(LEdgefloats;IIILEdgefloatsLaw$Out;)I"⟩
def dkwX0_wideMax_0 : List UInt8 := [25, 4, 42, 27, 28, 29, 182, 0, 36, 133, 181, 0, 13, 167, 0, 7, 58, 5, 4, 172, 3, 172]
abbrev dktX0_wideMax_0 : List UInt8 := dkwX0_wideMax_0 ++ []
theorem dksX0_wideMax_0 : cX0_wideMax.data.toList.drop 0 = dktX0_wideMax_0 := by decide +kernel
theorem dX0_wideMax_0 : decode cX0_wideMax 0 = .ok (.aload 4, 2) := dk_25 4 (dk_at dksX0_wideMax_0 0 rfl rfl)
theorem dX0_wideMax_2 : decode cX0_wideMax 2 = .ok (.aload_n 0, 1) := dk_42 (dk_at dksX0_wideMax_0 2 rfl rfl)
theorem dX0_wideMax_3 : decode cX0_wideMax 3 = .ok (.iload_n 1, 1) := dk_27 (dk_at dksX0_wideMax_0 3 rfl rfl)
theorem dX0_wideMax_4 : decode cX0_wideMax 4 = .ok (.iload_n 2, 1) := dk_28 (dk_at dksX0_wideMax_0 4 rfl rfl)
theorem dX0_wideMax_5 : decode cX0_wideMax 5 = .ok (.iload_n 3, 1) := dk_29 (dk_at dksX0_wideMax_0 5 rfl rfl)
theorem dX0_wideMax_6 : decode cX0_wideMax 6 = .ok (.invokevirtual 36, 3) := dk_182 0 36 (dk_at dksX0_wideMax_0 6 rfl rfl)
theorem dX0_wideMax_9 : decode cX0_wideMax 9 = .ok (.i2l, 1) := dk_133 (dk_at dksX0_wideMax_0 9 rfl rfl)
theorem dX0_wideMax_10 : decode cX0_wideMax 10 = .ok (.putfield 13, 3) := dk_181 0 13 (dk_at dksX0_wideMax_0 10 rfl rfl)
theorem dX0_wideMax_13 : decode cX0_wideMax 13 = .ok (.goto 7, 3) := dk_167 0 7 (dk_at dksX0_wideMax_0 13 rfl rfl)
theorem dX0_wideMax_16 : decode cX0_wideMax 16 = .ok (.astore 5, 2) := dk_58 5 (dk_at dksX0_wideMax_0 16 rfl rfl)
theorem dX0_wideMax_18 : decode cX0_wideMax 18 = .ok (.iconst 1, 1) := dk_4 (dk_at dksX0_wideMax_0 18 rfl rfl)
theorem dX0_wideMax_19 : decode cX0_wideMax 19 = .ok (.ireturn, 1) := dk_172 (dk_at dksX0_wideMax_0 19 rfl rfl)
theorem dX0_wideMax_20 : decode cX0_wideMax 20 = .ok (.iconst 0, 1) := dk_3 (dk_at dksX0_wideMax_0 20 rfl rfl)
theorem dX0_wideMax_21 : decode cX0_wideMax 21 = .ok (.ireturn, 1) := dk_172 (dk_at dksX0_wideMax_0 21 rfl rfl)
abbrev cX0_wideMin : ByteArray := method_8_code
def yX0_wideMin : MethodName := ⟨RX0, "wideMin", "(LEdgefloats;IIILEdgefloatsLaw$Out;)I"⟩
def dkwX0_wideMin_0 : List UInt8 := [25, 4, 42, 27, 28, 29, 182, 0, 39, 133, 181, 0, 13, 167, 0, 7, 58, 5, 4, 172, 3, 172]
abbrev dktX0_wideMin_0 : List UInt8 := dkwX0_wideMin_0 ++ []
theorem dksX0_wideMin_0 : cX0_wideMin.data.toList.drop 0 = dktX0_wideMin_0 := by decide +kernel
theorem dX0_wideMin_0 : decode cX0_wideMin 0 = .ok (.aload 4, 2) := dk_25 4 (dk_at dksX0_wideMin_0 0 rfl rfl)
theorem dX0_wideMin_2 : decode cX0_wideMin 2 = .ok (.aload_n 0, 1) := dk_42 (dk_at dksX0_wideMin_0 2 rfl rfl)
theorem dX0_wideMin_3 : decode cX0_wideMin 3 = .ok (.iload_n 1, 1) := dk_27 (dk_at dksX0_wideMin_0 3 rfl rfl)
theorem dX0_wideMin_4 : decode cX0_wideMin 4 = .ok (.iload_n 2, 1) := dk_28 (dk_at dksX0_wideMin_0 4 rfl rfl)
theorem dX0_wideMin_5 : decode cX0_wideMin 5 = .ok (.iload_n 3, 1) := dk_29 (dk_at dksX0_wideMin_0 5 rfl rfl)
theorem dX0_wideMin_6 : decode cX0_wideMin 6 = .ok (.invokevirtual 39, 3) := dk_182 0 39 (dk_at dksX0_wideMin_0 6 rfl rfl)
theorem dX0_wideMin_9 : decode cX0_wideMin 9 = .ok (.i2l, 1) := dk_133 (dk_at dksX0_wideMin_0 9 rfl rfl)
theorem dX0_wideMin_10 : decode cX0_wideMin 10 = .ok (.putfield 13, 3) := dk_181 0 13 (dk_at dksX0_wideMin_0 10 rfl rfl)
theorem dX0_wideMin_13 : decode cX0_wideMin 13 = .ok (.goto 7, 3) := dk_167 0 7 (dk_at dksX0_wideMin_0 13 rfl rfl)
theorem dX0_wideMin_16 : decode cX0_wideMin 16 = .ok (.astore 5, 2) := dk_58 5 (dk_at dksX0_wideMin_0 16 rfl rfl)
theorem dX0_wideMin_18 : decode cX0_wideMin 18 = .ok (.iconst 1, 1) := dk_4 (dk_at dksX0_wideMin_0 18 rfl rfl)
theorem dX0_wideMin_19 : decode cX0_wideMin 19 = .ok (.ireturn, 1) := dk_172 (dk_at dksX0_wideMin_0 19 rfl rfl)
theorem dX0_wideMin_20 : decode cX0_wideMin 20 = .ok (.iconst 0, 1) := dk_3 (dk_at dksX0_wideMin_0 20 rfl rfl)
theorem dX0_wideMin_21 : decode cX0_wideMin 21 = .ok (.ireturn, 1) := dk_172 (dk_at dksX0_wideMin_0 21 rfl rfl)
abbrev cX0_wideSum : ByteArray := method_9_code
def yX0_wideSum : MethodName := ⟨RX0, "wideSum", "(LEdgefloats;IIILEdgefloatsLaw$Out;)I"⟩
def dkwX0_wideSum_0 : List UInt8 := [25, 4, 42, 27, 28, 29, 182, 0, 42, 133, 181, 0, 13, 167, 0, 7, 58, 5, 4, 172, 3, 172]
abbrev dktX0_wideSum_0 : List UInt8 := dkwX0_wideSum_0 ++ []
theorem dksX0_wideSum_0 : cX0_wideSum.data.toList.drop 0 = dktX0_wideSum_0 := by decide +kernel
theorem dX0_wideSum_0 : decode cX0_wideSum 0 = .ok (.aload 4, 2) := dk_25 4 (dk_at dksX0_wideSum_0 0 rfl rfl)
theorem dX0_wideSum_2 : decode cX0_wideSum 2 = .ok (.aload_n 0, 1) := dk_42 (dk_at dksX0_wideSum_0 2 rfl rfl)
theorem dX0_wideSum_3 : decode cX0_wideSum 3 = .ok (.iload_n 1, 1) := dk_27 (dk_at dksX0_wideSum_0 3 rfl rfl)
theorem dX0_wideSum_4 : decode cX0_wideSum 4 = .ok (.iload_n 2, 1) := dk_28 (dk_at dksX0_wideSum_0 4 rfl rfl)
theorem dX0_wideSum_5 : decode cX0_wideSum 5 = .ok (.iload_n 3, 1) := dk_29 (dk_at dksX0_wideSum_0 5 rfl rfl)
theorem dX0_wideSum_6 : decode cX0_wideSum 6 = .ok (.invokevirtual 42, 3) := dk_182 0 42 (dk_at dksX0_wideSum_0 6 rfl rfl)
theorem dX0_wideSum_9 : decode cX0_wideSum 9 = .ok (.i2l, 1) := dk_133 (dk_at dksX0_wideSum_0 9 rfl rfl)
theorem dX0_wideSum_10 : decode cX0_wideSum 10 = .ok (.putfield 13, 3) := dk_181 0 13 (dk_at dksX0_wideSum_0 10 rfl rfl)
theorem dX0_wideSum_13 : decode cX0_wideSum 13 = .ok (.goto 7, 3) := dk_167 0 7 (dk_at dksX0_wideSum_0 13 rfl rfl)
theorem dX0_wideSum_16 : decode cX0_wideSum 16 = .ok (.astore 5, 2) := dk_58 5 (dk_at dksX0_wideSum_0 16 rfl rfl)
theorem dX0_wideSum_18 : decode cX0_wideSum 18 = .ok (.iconst 1, 1) := dk_4 (dk_at dksX0_wideSum_0 18 rfl rfl)
theorem dX0_wideSum_19 : decode cX0_wideSum 19 = .ok (.ireturn, 1) := dk_172 (dk_at dksX0_wideSum_0 19 rfl rfl)
theorem dX0_wideSum_20 : decode cX0_wideSum 20 = .ok (.iconst 0, 1) := dk_3 (dk_at dksX0_wideSum_0 20 rfl rfl)
theorem dX0_wideSum_21 : decode cX0_wideSum 21 = .ok (.ireturn, 1) := dk_172 (dk_at dksX0_wideSum_0 21 rfl rfl)
abbrev cX0_wideSort : ByteArray := method_10_code
def yX0_wideSort : MethodName := ⟨RX0, "wideSort", "(LEdgefloats;ILEdgefloatsLaw$Out;)I"⟩
def dkwX0_wideSort_0 : List UInt8 := [44, 42, 27, 182, 0, 45, 133, 181, 0, 13, 167, 0, 6, 78, 4, 172, 3, 172]
abbrev dktX0_wideSort_0 : List UInt8 := dkwX0_wideSort_0 ++ []
theorem dksX0_wideSort_0 : cX0_wideSort.data.toList.drop 0 = dktX0_wideSort_0 := by decide +kernel
theorem dX0_wideSort_0 : decode cX0_wideSort 0 = .ok (.aload_n 2, 1) := dk_44 (dk_at dksX0_wideSort_0 0 rfl rfl)
theorem dX0_wideSort_1 : decode cX0_wideSort 1 = .ok (.aload_n 0, 1) := dk_42 (dk_at dksX0_wideSort_0 1 rfl rfl)
theorem dX0_wideSort_2 : decode cX0_wideSort 2 = .ok (.iload_n 1, 1) := dk_27 (dk_at dksX0_wideSort_0 2 rfl rfl)
theorem dX0_wideSort_3 : decode cX0_wideSort 3 = .ok (.invokevirtual 45, 3) := dk_182 0 45 (dk_at dksX0_wideSort_0 3 rfl rfl)
theorem dX0_wideSort_6 : decode cX0_wideSort 6 = .ok (.i2l, 1) := dk_133 (dk_at dksX0_wideSort_0 6 rfl rfl)
theorem dX0_wideSort_7 : decode cX0_wideSort 7 = .ok (.putfield 13, 3) := dk_181 0 13 (dk_at dksX0_wideSort_0 7 rfl rfl)
theorem dX0_wideSort_10 : decode cX0_wideSort 10 = .ok (.goto 6, 3) := dk_167 0 6 (dk_at dksX0_wideSort_0 10 rfl rfl)
theorem dX0_wideSort_13 : decode cX0_wideSort 13 = .ok (.astore_n 3, 1) := dk_78 (dk_at dksX0_wideSort_0 13 rfl rfl)
theorem dX0_wideSort_14 : decode cX0_wideSort 14 = .ok (.iconst 1, 1) := dk_4 (dk_at dksX0_wideSort_0 14 rfl rfl)
theorem dX0_wideSort_15 : decode cX0_wideSort 15 = .ok (.ireturn, 1) := dk_172 (dk_at dksX0_wideSort_0 15 rfl rfl)
theorem dX0_wideSort_16 : decode cX0_wideSort 16 = .ok (.iconst 0, 1) := dk_3 (dk_at dksX0_wideSort_0 16 rfl rfl)
theorem dX0_wideSort_17 : decode cX0_wideSort 17 = .ok (.ireturn, 1) := dk_172 (dk_at dksX0_wideSort_0 17 rfl rfl)
abbrev cX0_wideEnd : ByteArray := method_11_code
def yX0_wideEnd : MethodName := ⟨RX0, "wideEnd", "(LEdgefloats;ZILEdgefloatsLaw$Out;)I"⟩
def dkwX0_wideEnd_0 : List UInt8 := [45, 42, 27, 28, 182, 0, 49, 133, 181, 0, 13, 167, 0, 7, 58, 4, 4, 172, 3, 172]
abbrev dktX0_wideEnd_0 : List UInt8 := dkwX0_wideEnd_0 ++ []
theorem dksX0_wideEnd_0 : cX0_wideEnd.data.toList.drop 0 = dktX0_wideEnd_0 := by decide +kernel
theorem dX0_wideEnd_0 : decode cX0_wideEnd 0 = .ok (.aload_n 3, 1) := dk_45 (dk_at dksX0_wideEnd_0 0 rfl rfl)
theorem dX0_wideEnd_1 : decode cX0_wideEnd 1 = .ok (.aload_n 0, 1) := dk_42 (dk_at dksX0_wideEnd_0 1 rfl rfl)
theorem dX0_wideEnd_2 : decode cX0_wideEnd 2 = .ok (.iload_n 1, 1) := dk_27 (dk_at dksX0_wideEnd_0 2 rfl rfl)
theorem dX0_wideEnd_3 : decode cX0_wideEnd 3 = .ok (.iload_n 2, 1) := dk_28 (dk_at dksX0_wideEnd_0 3 rfl rfl)
theorem dX0_wideEnd_4 : decode cX0_wideEnd 4 = .ok (.invokevirtual 49, 3) := dk_182 0 49 (dk_at dksX0_wideEnd_0 4 rfl rfl)
theorem dX0_wideEnd_7 : decode cX0_wideEnd 7 = .ok (.i2l, 1) := dk_133 (dk_at dksX0_wideEnd_0 7 rfl rfl)
theorem dX0_wideEnd_8 : decode cX0_wideEnd 8 = .ok (.putfield 13, 3) := dk_181 0 13 (dk_at dksX0_wideEnd_0 8 rfl rfl)
theorem dX0_wideEnd_11 : decode cX0_wideEnd 11 = .ok (.goto 7, 3) := dk_167 0 7 (dk_at dksX0_wideEnd_0 11 rfl rfl)
theorem dX0_wideEnd_14 : decode cX0_wideEnd 14 = .ok (.astore 4, 2) := dk_58 4 (dk_at dksX0_wideEnd_0 14 rfl rfl)
theorem dX0_wideEnd_16 : decode cX0_wideEnd 16 = .ok (.iconst 1, 1) := dk_4 (dk_at dksX0_wideEnd_0 16 rfl rfl)
theorem dX0_wideEnd_17 : decode cX0_wideEnd 17 = .ok (.ireturn, 1) := dk_172 (dk_at dksX0_wideEnd_0 17 rfl rfl)
theorem dX0_wideEnd_18 : decode cX0_wideEnd 18 = .ok (.iconst 0, 1) := dk_3 (dk_at dksX0_wideEnd_0 18 rfl rfl)
theorem dX0_wideEnd_19 : decode cX0_wideEnd 19 = .ok (.ireturn, 1) := dk_172 (dk_at dksX0_wideEnd_0 19 rfl rfl)
abbrev cX0_upper : ByteArray := method_12_code
def yX0_upper : MethodName := ⟨RX0, "upper", "(LEdgefloats;ILEdgefloatsLaw$Out;)I"⟩
def dkwX0_upper_0 : List UInt8 := [44, 42, 27, 182, 0, 53, 133, 181, 0, 13, 167, 0, 6, 78, 4, 172, 3, 172]
abbrev dktX0_upper_0 : List UInt8 := dkwX0_upper_0 ++ []
theorem dksX0_upper_0 : cX0_upper.data.toList.drop 0 = dktX0_upper_0 := by decide +kernel
theorem dX0_upper_0 : decode cX0_upper 0 = .ok (.aload_n 2, 1) := dk_44 (dk_at dksX0_upper_0 0 rfl rfl)
theorem dX0_upper_1 : decode cX0_upper 1 = .ok (.aload_n 0, 1) := dk_42 (dk_at dksX0_upper_0 1 rfl rfl)
theorem dX0_upper_2 : decode cX0_upper 2 = .ok (.iload_n 1, 1) := dk_27 (dk_at dksX0_upper_0 2 rfl rfl)
theorem dX0_upper_3 : decode cX0_upper 3 = .ok (.invokevirtual 53, 3) := dk_182 0 53 (dk_at dksX0_upper_0 3 rfl rfl)
theorem dX0_upper_6 : decode cX0_upper 6 = .ok (.i2l, 1) := dk_133 (dk_at dksX0_upper_0 6 rfl rfl)
theorem dX0_upper_7 : decode cX0_upper 7 = .ok (.putfield 13, 3) := dk_181 0 13 (dk_at dksX0_upper_0 7 rfl rfl)
theorem dX0_upper_10 : decode cX0_upper 10 = .ok (.goto 6, 3) := dk_167 0 6 (dk_at dksX0_upper_0 10 rfl rfl)
theorem dX0_upper_13 : decode cX0_upper 13 = .ok (.astore_n 3, 1) := dk_78 (dk_at dksX0_upper_0 13 rfl rfl)
theorem dX0_upper_14 : decode cX0_upper 14 = .ok (.iconst 1, 1) := dk_4 (dk_at dksX0_upper_0 14 rfl rfl)
theorem dX0_upper_15 : decode cX0_upper 15 = .ok (.ireturn, 1) := dk_172 (dk_at dksX0_upper_0 15 rfl rfl)
theorem dX0_upper_16 : decode cX0_upper 16 = .ok (.iconst 0, 1) := dk_3 (dk_at dksX0_upper_0 16 rfl rfl)
theorem dX0_upper_17 : decode cX0_upper 17 = .ok (.ireturn, 1) := dk_172 (dk_at dksX0_upper_0 17 rfl rfl)
abbrev cX0_lower : ByteArray := method_13_code
def yX0_lower : MethodName := ⟨RX0, "lower", "(LEdgefloats;ILEdgefloatsLaw$Out;)I"⟩
def dkwX0_lower_0 : List UInt8 := [44, 42, 27, 182, 0, 56, 133, 181, 0, 13, 167, 0, 6, 78, 4, 172, 3, 172]
abbrev dktX0_lower_0 : List UInt8 := dkwX0_lower_0 ++ []
theorem dksX0_lower_0 : cX0_lower.data.toList.drop 0 = dktX0_lower_0 := by decide +kernel
theorem dX0_lower_0 : decode cX0_lower 0 = .ok (.aload_n 2, 1) := dk_44 (dk_at dksX0_lower_0 0 rfl rfl)
theorem dX0_lower_1 : decode cX0_lower 1 = .ok (.aload_n 0, 1) := dk_42 (dk_at dksX0_lower_0 1 rfl rfl)
theorem dX0_lower_2 : decode cX0_lower 2 = .ok (.iload_n 1, 1) := dk_27 (dk_at dksX0_lower_0 2 rfl rfl)
theorem dX0_lower_3 : decode cX0_lower 3 = .ok (.invokevirtual 56, 3) := dk_182 0 56 (dk_at dksX0_lower_0 3 rfl rfl)
theorem dX0_lower_6 : decode cX0_lower 6 = .ok (.i2l, 1) := dk_133 (dk_at dksX0_lower_0 6 rfl rfl)
theorem dX0_lower_7 : decode cX0_lower 7 = .ok (.putfield 13, 3) := dk_181 0 13 (dk_at dksX0_lower_0 7 rfl rfl)
theorem dX0_lower_10 : decode cX0_lower 10 = .ok (.goto 6, 3) := dk_167 0 6 (dk_at dksX0_lower_0 10 rfl rfl)
theorem dX0_lower_13 : decode cX0_lower 13 = .ok (.astore_n 3, 1) := dk_78 (dk_at dksX0_lower_0 13 rfl rfl)
theorem dX0_lower_14 : decode cX0_lower 14 = .ok (.iconst 1, 1) := dk_4 (dk_at dksX0_lower_0 14 rfl rfl)
theorem dX0_lower_15 : decode cX0_lower 15 = .ok (.ireturn, 1) := dk_172 (dk_at dksX0_lower_0 15 rfl rfl)
theorem dX0_lower_16 : decode cX0_lower 16 = .ok (.iconst 0, 1) := dk_3 (dk_at dksX0_lower_0 16 rfl rfl)
theorem dX0_lower_17 : decode cX0_lower 17 = .ok (.ireturn, 1) := dk_172 (dk_at dksX0_lower_0 17 rfl rfl)
abbrev cX0_wideText : ByteArray := method_14_code
def yX0_wideText : MethodName := ⟨RX0, "wideText", "(LEdgefloats;ILEdgefloatsLaw$Out;)I"⟩
def dkwX0_wideText_0 : List UInt8 := [44, 42, 27, 182, 0, 59, 181, 0, 63, 167, 0, 6, 78, 4, 172, 3, 172]
abbrev dktX0_wideText_0 : List UInt8 := dkwX0_wideText_0 ++ []
theorem dksX0_wideText_0 : cX0_wideText.data.toList.drop 0 = dktX0_wideText_0 := by decide +kernel
theorem dX0_wideText_0 : decode cX0_wideText 0 = .ok (.aload_n 2, 1) := dk_44 (dk_at dksX0_wideText_0 0 rfl rfl)
theorem dX0_wideText_1 : decode cX0_wideText 1 = .ok (.aload_n 0, 1) := dk_42 (dk_at dksX0_wideText_0 1 rfl rfl)
theorem dX0_wideText_2 : decode cX0_wideText 2 = .ok (.iload_n 1, 1) := dk_27 (dk_at dksX0_wideText_0 2 rfl rfl)
theorem dX0_wideText_3 : decode cX0_wideText 3 = .ok (.invokevirtual 59, 3) := dk_182 0 59 (dk_at dksX0_wideText_0 3 rfl rfl)
theorem dX0_wideText_6 : decode cX0_wideText 6 = .ok (.putfield 63, 3) := dk_181 0 63 (dk_at dksX0_wideText_0 6 rfl rfl)
theorem dX0_wideText_9 : decode cX0_wideText 9 = .ok (.goto 6, 3) := dk_167 0 6 (dk_at dksX0_wideText_0 9 rfl rfl)
theorem dX0_wideText_12 : decode cX0_wideText 12 = .ok (.astore_n 3, 1) := dk_78 (dk_at dksX0_wideText_0 12 rfl rfl)
theorem dX0_wideText_13 : decode cX0_wideText 13 = .ok (.iconst 1, 1) := dk_4 (dk_at dksX0_wideText_0 13 rfl rfl)
theorem dX0_wideText_14 : decode cX0_wideText 14 = .ok (.ireturn, 1) := dk_172 (dk_at dksX0_wideText_0 14 rfl rfl)
theorem dX0_wideText_15 : decode cX0_wideText 15 = .ok (.iconst 0, 1) := dk_3 (dk_at dksX0_wideText_0 15 rfl rfl)
theorem dX0_wideText_16 : decode cX0_wideText 16 = .ok (.ireturn, 1) := dk_172 (dk_at dksX0_wideText_0 16 rfl rfl)
abbrev cX0_wideOrder : ByteArray := method_15_code
def yX0_wideOrder : MethodName := ⟨RX0, "wideOrder", "(LEdgefloats;IIILEdgefloatsLaw$Out;)I"⟩
def dkwX0_wideOrder_1 : List UInt8 := [3, 172]
abbrev dktX0_wideOrder_1 : List UInt8 := dkwX0_wideOrder_1 ++ []
def dkwX0_wideOrder_0 : List UInt8 := [25, 4, 42, 27, 28, 29, 182, 0, 67, 133, 181, 0, 13, 167, 0, 11, 58, 5, 4, 172, 58, 5, 5, 172]
abbrev dktX0_wideOrder_0 : List UInt8 := dkwX0_wideOrder_0 ++ dktX0_wideOrder_1
theorem dksX0_wideOrder_0 : cX0_wideOrder.data.toList.drop 0 = dktX0_wideOrder_0 := by decide +kernel
theorem dksX0_wideOrder_1 : cX0_wideOrder.data.toList.drop 24 = dktX0_wideOrder_1 := dk_seg dksX0_wideOrder_0 24 rfl rfl
theorem dX0_wideOrder_0 : decode cX0_wideOrder 0 = .ok (.aload 4, 2) := dk_25 4 (dk_at dksX0_wideOrder_0 0 rfl rfl)
theorem dX0_wideOrder_2 : decode cX0_wideOrder 2 = .ok (.aload_n 0, 1) := dk_42 (dk_at dksX0_wideOrder_0 2 rfl rfl)
theorem dX0_wideOrder_3 : decode cX0_wideOrder 3 = .ok (.iload_n 1, 1) := dk_27 (dk_at dksX0_wideOrder_0 3 rfl rfl)
theorem dX0_wideOrder_4 : decode cX0_wideOrder 4 = .ok (.iload_n 2, 1) := dk_28 (dk_at dksX0_wideOrder_0 4 rfl rfl)
theorem dX0_wideOrder_5 : decode cX0_wideOrder 5 = .ok (.iload_n 3, 1) := dk_29 (dk_at dksX0_wideOrder_0 5 rfl rfl)
theorem dX0_wideOrder_6 : decode cX0_wideOrder 6 = .ok (.invokevirtual 67, 3) := dk_182 0 67 (dk_at dksX0_wideOrder_0 6 rfl rfl)
theorem dX0_wideOrder_9 : decode cX0_wideOrder 9 = .ok (.i2l, 1) := dk_133 (dk_at dksX0_wideOrder_0 9 rfl rfl)
theorem dX0_wideOrder_10 : decode cX0_wideOrder 10 = .ok (.putfield 13, 3) := dk_181 0 13 (dk_at dksX0_wideOrder_0 10 rfl rfl)
theorem dX0_wideOrder_13 : decode cX0_wideOrder 13 = .ok (.goto 11, 3) := dk_167 0 11 (dk_at dksX0_wideOrder_0 13 rfl rfl)
theorem dX0_wideOrder_16 : decode cX0_wideOrder 16 = .ok (.astore 5, 2) := dk_58 5 (dk_at dksX0_wideOrder_0 16 rfl rfl)
theorem dX0_wideOrder_18 : decode cX0_wideOrder 18 = .ok (.iconst 1, 1) := dk_4 (dk_at dksX0_wideOrder_0 18 rfl rfl)
theorem dX0_wideOrder_19 : decode cX0_wideOrder 19 = .ok (.ireturn, 1) := dk_172 (dk_at dksX0_wideOrder_0 19 rfl rfl)
theorem dX0_wideOrder_20 : decode cX0_wideOrder 20 = .ok (.astore 5, 2) := dk_58 5 (dk_at dksX0_wideOrder_0 20 rfl rfl)
theorem dX0_wideOrder_22 : decode cX0_wideOrder 22 = .ok (.iconst 2, 1) := dk_5 (dk_at dksX0_wideOrder_0 22 rfl rfl)
theorem dX0_wideOrder_23 : decode cX0_wideOrder 23 = .ok (.ireturn, 1) := dk_172 (dk_at dksX0_wideOrder_0 23 rfl rfl)
theorem dX0_wideOrder_24 : decode cX0_wideOrder 24 = .ok (.iconst 0, 1) := dk_3 (dk_at dksX0_wideOrder_1 0 rfl rfl)
theorem dX0_wideOrder_25 : decode cX0_wideOrder 25 = .ok (.ireturn, 1) := dk_172 (dk_at dksX0_wideOrder_1 1 rfl rfl)
abbrev cX0_wideSame : ByteArray := method_16_code
def yX0_wideSame : MethodName := ⟨RX0, "wideSame", "(LEdgefloats;IIILEdgefloatsLaw$Out;)I"⟩
def dkwX0_wideSame_1 : List UInt8 := [58, 5, 4, 172, 58, 5, 5, 172, 3, 172]
abbrev dktX0_wideSame_1 : List UInt8 := dkwX0_wideSame_1 ++ []
def dkwX0_wideSame_0 : List UInt8 := [25, 4, 42, 27, 28, 29, 182, 0, 70, 153, 0, 7, 10, 167, 0, 4, 9, 181, 0, 13, 167, 0, 11]
abbrev dktX0_wideSame_0 : List UInt8 := dkwX0_wideSame_0 ++ dktX0_wideSame_1
theorem dksX0_wideSame_0 : cX0_wideSame.data.toList.drop 0 = dktX0_wideSame_0 := by decide +kernel
theorem dksX0_wideSame_1 : cX0_wideSame.data.toList.drop 23 = dktX0_wideSame_1 := dk_seg dksX0_wideSame_0 23 rfl rfl
theorem dX0_wideSame_0 : decode cX0_wideSame 0 = .ok (.aload 4, 2) := dk_25 4 (dk_at dksX0_wideSame_0 0 rfl rfl)
theorem dX0_wideSame_2 : decode cX0_wideSame 2 = .ok (.aload_n 0, 1) := dk_42 (dk_at dksX0_wideSame_0 2 rfl rfl)
theorem dX0_wideSame_3 : decode cX0_wideSame 3 = .ok (.iload_n 1, 1) := dk_27 (dk_at dksX0_wideSame_0 3 rfl rfl)
theorem dX0_wideSame_4 : decode cX0_wideSame 4 = .ok (.iload_n 2, 1) := dk_28 (dk_at dksX0_wideSame_0 4 rfl rfl)
theorem dX0_wideSame_5 : decode cX0_wideSame 5 = .ok (.iload_n 3, 1) := dk_29 (dk_at dksX0_wideSame_0 5 rfl rfl)
theorem dX0_wideSame_6 : decode cX0_wideSame 6 = .ok (.invokevirtual 70, 3) := dk_182 0 70 (dk_at dksX0_wideSame_0 6 rfl rfl)
theorem dX0_wideSame_9 : decode cX0_wideSame 9 = .ok (.ifCond .eq 7, 3) := dk_153 0 7 (dk_at dksX0_wideSame_0 9 rfl rfl)
theorem dX0_wideSame_12 : decode cX0_wideSame 12 = .ok (.lconst 1, 1) := dk_10 (dk_at dksX0_wideSame_0 12 rfl rfl)
theorem dX0_wideSame_13 : decode cX0_wideSame 13 = .ok (.goto 4, 3) := dk_167 0 4 (dk_at dksX0_wideSame_0 13 rfl rfl)
theorem dX0_wideSame_16 : decode cX0_wideSame 16 = .ok (.lconst 0, 1) := dk_9 (dk_at dksX0_wideSame_0 16 rfl rfl)
theorem dX0_wideSame_17 : decode cX0_wideSame 17 = .ok (.putfield 13, 3) := dk_181 0 13 (dk_at dksX0_wideSame_0 17 rfl rfl)
theorem dX0_wideSame_20 : decode cX0_wideSame 20 = .ok (.goto 11, 3) := dk_167 0 11 (dk_at dksX0_wideSame_0 20 rfl rfl)
theorem dX0_wideSame_23 : decode cX0_wideSame 23 = .ok (.astore 5, 2) := dk_58 5 (dk_at dksX0_wideSame_1 0 rfl rfl)
theorem dX0_wideSame_25 : decode cX0_wideSame 25 = .ok (.iconst 1, 1) := dk_4 (dk_at dksX0_wideSame_1 2 rfl rfl)
theorem dX0_wideSame_26 : decode cX0_wideSame 26 = .ok (.ireturn, 1) := dk_172 (dk_at dksX0_wideSame_1 3 rfl rfl)
theorem dX0_wideSame_27 : decode cX0_wideSame 27 = .ok (.astore 5, 2) := dk_58 5 (dk_at dksX0_wideSame_1 4 rfl rfl)
theorem dX0_wideSame_29 : decode cX0_wideSame 29 = .ok (.iconst 2, 1) := dk_5 (dk_at dksX0_wideSame_1 6 rfl rfl)
theorem dX0_wideSame_30 : decode cX0_wideSame 30 = .ok (.ireturn, 1) := dk_172 (dk_at dksX0_wideSame_1 7 rfl rfl)
theorem dX0_wideSame_31 : decode cX0_wideSame 31 = .ok (.iconst 0, 1) := dk_3 (dk_at dksX0_wideSame_1 8 rfl rfl)
theorem dX0_wideSame_32 : decode cX0_wideSame 32 = .ok (.ireturn, 1) := dk_172 (dk_at dksX0_wideSame_1 9 rfl rfl)
abbrev cX0_wideOther : ByteArray := method_17_code
def yX0_wideOther : MethodName := ⟨RX0, "wideOther", "(LEdgefloats;IILEdgefloatsLaw$Out;)I"⟩
def dkwX0_wideOther_1 : List UInt8 := [172, 58, 4, 5, 172, 3, 172]
abbrev dktX0_wideOther_1 : List UInt8 := dkwX0_wideOther_1 ++ []
def dkwX0_wideOther_0 : List UInt8 := [45, 42, 27, 28, 182, 0, 74, 153, 0, 7, 10, 167, 0, 4, 9, 181, 0, 13, 167, 0, 11, 58, 4, 4]
abbrev dktX0_wideOther_0 : List UInt8 := dkwX0_wideOther_0 ++ dktX0_wideOther_1
theorem dksX0_wideOther_0 : cX0_wideOther.data.toList.drop 0 = dktX0_wideOther_0 := by decide +kernel
theorem dksX0_wideOther_1 : cX0_wideOther.data.toList.drop 24 = dktX0_wideOther_1 := dk_seg dksX0_wideOther_0 24 rfl rfl
theorem dX0_wideOther_0 : decode cX0_wideOther 0 = .ok (.aload_n 3, 1) := dk_45 (dk_at dksX0_wideOther_0 0 rfl rfl)
theorem dX0_wideOther_1 : decode cX0_wideOther 1 = .ok (.aload_n 0, 1) := dk_42 (dk_at dksX0_wideOther_0 1 rfl rfl)
theorem dX0_wideOther_2 : decode cX0_wideOther 2 = .ok (.iload_n 1, 1) := dk_27 (dk_at dksX0_wideOther_0 2 rfl rfl)
theorem dX0_wideOther_3 : decode cX0_wideOther 3 = .ok (.iload_n 2, 1) := dk_28 (dk_at dksX0_wideOther_0 3 rfl rfl)
theorem dX0_wideOther_4 : decode cX0_wideOther 4 = .ok (.invokevirtual 74, 3) := dk_182 0 74 (dk_at dksX0_wideOther_0 4 rfl rfl)
theorem dX0_wideOther_7 : decode cX0_wideOther 7 = .ok (.ifCond .eq 7, 3) := dk_153 0 7 (dk_at dksX0_wideOther_0 7 rfl rfl)
theorem dX0_wideOther_10 : decode cX0_wideOther 10 = .ok (.lconst 1, 1) := dk_10 (dk_at dksX0_wideOther_0 10 rfl rfl)
theorem dX0_wideOther_11 : decode cX0_wideOther 11 = .ok (.goto 4, 3) := dk_167 0 4 (dk_at dksX0_wideOther_0 11 rfl rfl)
theorem dX0_wideOther_14 : decode cX0_wideOther 14 = .ok (.lconst 0, 1) := dk_9 (dk_at dksX0_wideOther_0 14 rfl rfl)
theorem dX0_wideOther_15 : decode cX0_wideOther 15 = .ok (.putfield 13, 3) := dk_181 0 13 (dk_at dksX0_wideOther_0 15 rfl rfl)
theorem dX0_wideOther_18 : decode cX0_wideOther 18 = .ok (.goto 11, 3) := dk_167 0 11 (dk_at dksX0_wideOther_0 18 rfl rfl)
theorem dX0_wideOther_21 : decode cX0_wideOther 21 = .ok (.astore 4, 2) := dk_58 4 (dk_at dksX0_wideOther_0 21 rfl rfl)
theorem dX0_wideOther_23 : decode cX0_wideOther 23 = .ok (.iconst 1, 1) := dk_4 (dk_at dksX0_wideOther_0 23 rfl rfl)
theorem dX0_wideOther_24 : decode cX0_wideOther 24 = .ok (.ireturn, 1) := dk_172 (dk_at dksX0_wideOther_1 0 rfl rfl)
theorem dX0_wideOther_25 : decode cX0_wideOther 25 = .ok (.astore 4, 2) := dk_58 4 (dk_at dksX0_wideOther_1 1 rfl rfl)
theorem dX0_wideOther_27 : decode cX0_wideOther 27 = .ok (.iconst 2, 1) := dk_5 (dk_at dksX0_wideOther_1 3 rfl rfl)
theorem dX0_wideOther_28 : decode cX0_wideOther 28 = .ok (.ireturn, 1) := dk_172 (dk_at dksX0_wideOther_1 4 rfl rfl)
theorem dX0_wideOther_29 : decode cX0_wideOther 29 = .ok (.iconst 0, 1) := dk_3 (dk_at dksX0_wideOther_1 5 rfl rfl)
theorem dX0_wideOther_30 : decode cX0_wideOther 30 = .ok (.ireturn, 1) := dk_172 (dk_at dksX0_wideOther_1 6 rfl rfl)
abbrev cX0_wideLike : ByteArray := method_18_code
def yX0_wideLike : MethodName := ⟨RX0, "wideLike", "(LEdgefloats;IILEdgefloatsLaw$Out;)I"⟩
def dkwX0_wideLike_1 : List UInt8 := [172, 3, 172]
abbrev dktX0_wideLike_1 : List UInt8 := dkwX0_wideLike_1 ++ []
def dkwX0_wideLike_0 : List UInt8 := [45, 42, 27, 28, 182, 0, 78, 153, 0, 7, 10, 167, 0, 4, 9, 181, 0, 13, 167, 0, 7, 58, 4, 4]
abbrev dktX0_wideLike_0 : List UInt8 := dkwX0_wideLike_0 ++ dktX0_wideLike_1
theorem dksX0_wideLike_0 : cX0_wideLike.data.toList.drop 0 = dktX0_wideLike_0 := by decide +kernel
theorem dksX0_wideLike_1 : cX0_wideLike.data.toList.drop 24 = dktX0_wideLike_1 := dk_seg dksX0_wideLike_0 24 rfl rfl
theorem dX0_wideLike_0 : decode cX0_wideLike 0 = .ok (.aload_n 3, 1) := dk_45 (dk_at dksX0_wideLike_0 0 rfl rfl)
theorem dX0_wideLike_1 : decode cX0_wideLike 1 = .ok (.aload_n 0, 1) := dk_42 (dk_at dksX0_wideLike_0 1 rfl rfl)
theorem dX0_wideLike_2 : decode cX0_wideLike 2 = .ok (.iload_n 1, 1) := dk_27 (dk_at dksX0_wideLike_0 2 rfl rfl)
theorem dX0_wideLike_3 : decode cX0_wideLike 3 = .ok (.iload_n 2, 1) := dk_28 (dk_at dksX0_wideLike_0 3 rfl rfl)
theorem dX0_wideLike_4 : decode cX0_wideLike 4 = .ok (.invokevirtual 78, 3) := dk_182 0 78 (dk_at dksX0_wideLike_0 4 rfl rfl)
theorem dX0_wideLike_7 : decode cX0_wideLike 7 = .ok (.ifCond .eq 7, 3) := dk_153 0 7 (dk_at dksX0_wideLike_0 7 rfl rfl)
theorem dX0_wideLike_10 : decode cX0_wideLike 10 = .ok (.lconst 1, 1) := dk_10 (dk_at dksX0_wideLike_0 10 rfl rfl)
theorem dX0_wideLike_11 : decode cX0_wideLike 11 = .ok (.goto 4, 3) := dk_167 0 4 (dk_at dksX0_wideLike_0 11 rfl rfl)
theorem dX0_wideLike_14 : decode cX0_wideLike 14 = .ok (.lconst 0, 1) := dk_9 (dk_at dksX0_wideLike_0 14 rfl rfl)
theorem dX0_wideLike_15 : decode cX0_wideLike 15 = .ok (.putfield 13, 3) := dk_181 0 13 (dk_at dksX0_wideLike_0 15 rfl rfl)
theorem dX0_wideLike_18 : decode cX0_wideLike 18 = .ok (.goto 7, 3) := dk_167 0 7 (dk_at dksX0_wideLike_0 18 rfl rfl)
theorem dX0_wideLike_21 : decode cX0_wideLike 21 = .ok (.astore 4, 2) := dk_58 4 (dk_at dksX0_wideLike_0 21 rfl rfl)
theorem dX0_wideLike_23 : decode cX0_wideLike 23 = .ok (.iconst 1, 1) := dk_4 (dk_at dksX0_wideLike_0 23 rfl rfl)
theorem dX0_wideLike_24 : decode cX0_wideLike 24 = .ok (.ireturn, 1) := dk_172 (dk_at dksX0_wideLike_1 0 rfl rfl)
theorem dX0_wideLike_25 : decode cX0_wideLike 25 = .ok (.iconst 0, 1) := dk_3 (dk_at dksX0_wideLike_1 1 rfl rfl)
theorem dX0_wideLike_26 : decode cX0_wideLike 26 = .ok (.ireturn, 1) := dk_172 (dk_at dksX0_wideLike_1 2 rfl rfl)
abbrev cX0_wideBelow : ByteArray := method_19_code
def yX0_wideBelow : MethodName := ⟨RX0, "wideBelow", "(LEdgefloats;IIZLEdgefloatsLaw$Out;)I"⟩
def dkwX0_wideBelow_1 : List UInt8 := [58, 5, 4, 172, 3, 172]
abbrev dktX0_wideBelow_1 : List UInt8 := dkwX0_wideBelow_1 ++ []
def dkwX0_wideBelow_0 : List UInt8 := [25, 4, 42, 27, 28, 29, 182, 0, 81, 153, 0, 7, 10, 167, 0, 4, 9, 181, 0, 13, 167, 0, 7]
abbrev dktX0_wideBelow_0 : List UInt8 := dkwX0_wideBelow_0 ++ dktX0_wideBelow_1
theorem dksX0_wideBelow_0 : cX0_wideBelow.data.toList.drop 0 = dktX0_wideBelow_0 := by decide +kernel
theorem dksX0_wideBelow_1 : cX0_wideBelow.data.toList.drop 23 = dktX0_wideBelow_1 := dk_seg dksX0_wideBelow_0 23 rfl rfl
theorem dX0_wideBelow_0 : decode cX0_wideBelow 0 = .ok (.aload 4, 2) := dk_25 4 (dk_at dksX0_wideBelow_0 0 rfl rfl)
theorem dX0_wideBelow_2 : decode cX0_wideBelow 2 = .ok (.aload_n 0, 1) := dk_42 (dk_at dksX0_wideBelow_0 2 rfl rfl)
theorem dX0_wideBelow_3 : decode cX0_wideBelow 3 = .ok (.iload_n 1, 1) := dk_27 (dk_at dksX0_wideBelow_0 3 rfl rfl)
theorem dX0_wideBelow_4 : decode cX0_wideBelow 4 = .ok (.iload_n 2, 1) := dk_28 (dk_at dksX0_wideBelow_0 4 rfl rfl)
theorem dX0_wideBelow_5 : decode cX0_wideBelow 5 = .ok (.iload_n 3, 1) := dk_29 (dk_at dksX0_wideBelow_0 5 rfl rfl)
theorem dX0_wideBelow_6 : decode cX0_wideBelow 6 = .ok (.invokevirtual 81, 3) := dk_182 0 81 (dk_at dksX0_wideBelow_0 6 rfl rfl)
theorem dX0_wideBelow_9 : decode cX0_wideBelow 9 = .ok (.ifCond .eq 7, 3) := dk_153 0 7 (dk_at dksX0_wideBelow_0 9 rfl rfl)
theorem dX0_wideBelow_12 : decode cX0_wideBelow 12 = .ok (.lconst 1, 1) := dk_10 (dk_at dksX0_wideBelow_0 12 rfl rfl)
theorem dX0_wideBelow_13 : decode cX0_wideBelow 13 = .ok (.goto 4, 3) := dk_167 0 4 (dk_at dksX0_wideBelow_0 13 rfl rfl)
theorem dX0_wideBelow_16 : decode cX0_wideBelow 16 = .ok (.lconst 0, 1) := dk_9 (dk_at dksX0_wideBelow_0 16 rfl rfl)
theorem dX0_wideBelow_17 : decode cX0_wideBelow 17 = .ok (.putfield 13, 3) := dk_181 0 13 (dk_at dksX0_wideBelow_0 17 rfl rfl)
theorem dX0_wideBelow_20 : decode cX0_wideBelow 20 = .ok (.goto 7, 3) := dk_167 0 7 (dk_at dksX0_wideBelow_0 20 rfl rfl)
theorem dX0_wideBelow_23 : decode cX0_wideBelow 23 = .ok (.astore 5, 2) := dk_58 5 (dk_at dksX0_wideBelow_1 0 rfl rfl)
theorem dX0_wideBelow_25 : decode cX0_wideBelow 25 = .ok (.iconst 1, 1) := dk_4 (dk_at dksX0_wideBelow_1 2 rfl rfl)
theorem dX0_wideBelow_26 : decode cX0_wideBelow 26 = .ok (.ireturn, 1) := dk_172 (dk_at dksX0_wideBelow_1 3 rfl rfl)
theorem dX0_wideBelow_27 : decode cX0_wideBelow 27 = .ok (.iconst 0, 1) := dk_3 (dk_at dksX0_wideBelow_1 4 rfl rfl)
theorem dX0_wideBelow_28 : decode cX0_wideBelow 28 = .ok (.ireturn, 1) := dk_172 (dk_at dksX0_wideBelow_1 5 rfl rfl)
abbrev cX0_wideHash : ByteArray := method_20_code
def yX0_wideHash : MethodName := ⟨RX0, "wideHash", "(LEdgefloats;IILEdgefloatsLaw$Out;)I"⟩
def dkwX0_wideHash_0 : List UInt8 := [45, 42, 27, 28, 182, 0, 85, 133, 181, 0, 13, 167, 0, 11, 58, 4, 4, 172, 58, 4, 5, 172, 3, 172]
abbrev dktX0_wideHash_0 : List UInt8 := dkwX0_wideHash_0 ++ []
theorem dksX0_wideHash_0 : cX0_wideHash.data.toList.drop 0 = dktX0_wideHash_0 := by decide +kernel
theorem dX0_wideHash_0 : decode cX0_wideHash 0 = .ok (.aload_n 3, 1) := dk_45 (dk_at dksX0_wideHash_0 0 rfl rfl)
theorem dX0_wideHash_1 : decode cX0_wideHash 1 = .ok (.aload_n 0, 1) := dk_42 (dk_at dksX0_wideHash_0 1 rfl rfl)
theorem dX0_wideHash_2 : decode cX0_wideHash 2 = .ok (.iload_n 1, 1) := dk_27 (dk_at dksX0_wideHash_0 2 rfl rfl)
theorem dX0_wideHash_3 : decode cX0_wideHash 3 = .ok (.iload_n 2, 1) := dk_28 (dk_at dksX0_wideHash_0 3 rfl rfl)
theorem dX0_wideHash_4 : decode cX0_wideHash 4 = .ok (.invokevirtual 85, 3) := dk_182 0 85 (dk_at dksX0_wideHash_0 4 rfl rfl)
theorem dX0_wideHash_7 : decode cX0_wideHash 7 = .ok (.i2l, 1) := dk_133 (dk_at dksX0_wideHash_0 7 rfl rfl)
theorem dX0_wideHash_8 : decode cX0_wideHash 8 = .ok (.putfield 13, 3) := dk_181 0 13 (dk_at dksX0_wideHash_0 8 rfl rfl)
theorem dX0_wideHash_11 : decode cX0_wideHash 11 = .ok (.goto 11, 3) := dk_167 0 11 (dk_at dksX0_wideHash_0 11 rfl rfl)
theorem dX0_wideHash_14 : decode cX0_wideHash 14 = .ok (.astore 4, 2) := dk_58 4 (dk_at dksX0_wideHash_0 14 rfl rfl)
theorem dX0_wideHash_16 : decode cX0_wideHash 16 = .ok (.iconst 1, 1) := dk_4 (dk_at dksX0_wideHash_0 16 rfl rfl)
theorem dX0_wideHash_17 : decode cX0_wideHash 17 = .ok (.ireturn, 1) := dk_172 (dk_at dksX0_wideHash_0 17 rfl rfl)
theorem dX0_wideHash_18 : decode cX0_wideHash 18 = .ok (.astore 4, 2) := dk_58 4 (dk_at dksX0_wideHash_0 18 rfl rfl)
theorem dX0_wideHash_20 : decode cX0_wideHash 20 = .ok (.iconst 2, 1) := dk_5 (dk_at dksX0_wideHash_0 20 rfl rfl)
theorem dX0_wideHash_21 : decode cX0_wideHash 21 = .ok (.ireturn, 1) := dk_172 (dk_at dksX0_wideHash_0 21 rfl rfl)
theorem dX0_wideHash_22 : decode cX0_wideHash 22 = .ok (.iconst 0, 1) := dk_3 (dk_at dksX0_wideHash_0 22 rfl rfl)
theorem dX0_wideHash_23 : decode cX0_wideHash 23 = .ok (.ireturn, 1) := dk_172 (dk_at dksX0_wideHash_0 23 rfl rfl)
abbrev cX0_wideEndless : ByteArray := method_21_code
def yX0_wideEndless : MethodName := ⟨RX0, "wideEndless", "(LEdgefloats;IILEdgefloatsLaw$Out;)I"⟩
def dkwX0_wideEndless_1 : List UInt8 := [172, 58, 4, 5, 172, 3, 172]
abbrev dktX0_wideEndless_1 : List UInt8 := dkwX0_wideEndless_1 ++ []
def dkwX0_wideEndless_0 : List UInt8 := [45, 42, 27, 28, 182, 0, 88, 153, 0, 7, 10, 167, 0, 4, 9, 181, 0, 13, 167, 0, 11, 58, 4, 4]
abbrev dktX0_wideEndless_0 : List UInt8 := dkwX0_wideEndless_0 ++ dktX0_wideEndless_1
theorem dksX0_wideEndless_0 : cX0_wideEndless.data.toList.drop 0 = dktX0_wideEndless_0 := by decide +kernel
theorem dksX0_wideEndless_1 : cX0_wideEndless.data.toList.drop 24 = dktX0_wideEndless_1 := dk_seg dksX0_wideEndless_0 24 rfl rfl
theorem dX0_wideEndless_0 : decode cX0_wideEndless 0 = .ok (.aload_n 3, 1) := dk_45 (dk_at dksX0_wideEndless_0 0 rfl rfl)
theorem dX0_wideEndless_1 : decode cX0_wideEndless 1 = .ok (.aload_n 0, 1) := dk_42 (dk_at dksX0_wideEndless_0 1 rfl rfl)
theorem dX0_wideEndless_2 : decode cX0_wideEndless 2 = .ok (.iload_n 1, 1) := dk_27 (dk_at dksX0_wideEndless_0 2 rfl rfl)
theorem dX0_wideEndless_3 : decode cX0_wideEndless 3 = .ok (.iload_n 2, 1) := dk_28 (dk_at dksX0_wideEndless_0 3 rfl rfl)
theorem dX0_wideEndless_4 : decode cX0_wideEndless 4 = .ok (.invokevirtual 88, 3) := dk_182 0 88 (dk_at dksX0_wideEndless_0 4 rfl rfl)
theorem dX0_wideEndless_7 : decode cX0_wideEndless 7 = .ok (.ifCond .eq 7, 3) := dk_153 0 7 (dk_at dksX0_wideEndless_0 7 rfl rfl)
theorem dX0_wideEndless_10 : decode cX0_wideEndless 10 = .ok (.lconst 1, 1) := dk_10 (dk_at dksX0_wideEndless_0 10 rfl rfl)
theorem dX0_wideEndless_11 : decode cX0_wideEndless 11 = .ok (.goto 4, 3) := dk_167 0 4 (dk_at dksX0_wideEndless_0 11 rfl rfl)
theorem dX0_wideEndless_14 : decode cX0_wideEndless 14 = .ok (.lconst 0, 1) := dk_9 (dk_at dksX0_wideEndless_0 14 rfl rfl)
theorem dX0_wideEndless_15 : decode cX0_wideEndless 15 = .ok (.putfield 13, 3) := dk_181 0 13 (dk_at dksX0_wideEndless_0 15 rfl rfl)
theorem dX0_wideEndless_18 : decode cX0_wideEndless 18 = .ok (.goto 11, 3) := dk_167 0 11 (dk_at dksX0_wideEndless_0 18 rfl rfl)
theorem dX0_wideEndless_21 : decode cX0_wideEndless 21 = .ok (.astore 4, 2) := dk_58 4 (dk_at dksX0_wideEndless_0 21 rfl rfl)
theorem dX0_wideEndless_23 : decode cX0_wideEndless 23 = .ok (.iconst 1, 1) := dk_4 (dk_at dksX0_wideEndless_0 23 rfl rfl)
theorem dX0_wideEndless_24 : decode cX0_wideEndless 24 = .ok (.ireturn, 1) := dk_172 (dk_at dksX0_wideEndless_1 0 rfl rfl)
theorem dX0_wideEndless_25 : decode cX0_wideEndless 25 = .ok (.astore 4, 2) := dk_58 4 (dk_at dksX0_wideEndless_1 1 rfl rfl)
theorem dX0_wideEndless_27 : decode cX0_wideEndless 27 = .ok (.iconst 2, 1) := dk_5 (dk_at dksX0_wideEndless_1 3 rfl rfl)
theorem dX0_wideEndless_28 : decode cX0_wideEndless 28 = .ok (.ireturn, 1) := dk_172 (dk_at dksX0_wideEndless_1 4 rfl rfl)
theorem dX0_wideEndless_29 : decode cX0_wideEndless 29 = .ok (.iconst 0, 1) := dk_3 (dk_at dksX0_wideEndless_1 5 rfl rfl)
theorem dX0_wideEndless_30 : decode cX0_wideEndless 30 = .ok (.ireturn, 1) := dk_172 (dk_at dksX0_wideEndless_1 6 rfl rfl)
abbrev cX0_wideCount : ByteArray := method_22_code
def yX0_wideCount : MethodName := ⟨RX0, "wideCount", "(LEdgefloats;ILEdgefloatsLaw$Out;)I"⟩
def dkwX0_wideCount_0 : List UInt8 := [44, 42, 27, 182, 0, 91, 133, 181, 0, 13, 167, 0, 6, 78, 4, 172, 3, 172]
abbrev dktX0_wideCount_0 : List UInt8 := dkwX0_wideCount_0 ++ []
theorem dksX0_wideCount_0 : cX0_wideCount.data.toList.drop 0 = dktX0_wideCount_0 := by decide +kernel
theorem dX0_wideCount_0 : decode cX0_wideCount 0 = .ok (.aload_n 2, 1) := dk_44 (dk_at dksX0_wideCount_0 0 rfl rfl)
theorem dX0_wideCount_1 : decode cX0_wideCount 1 = .ok (.aload_n 0, 1) := dk_42 (dk_at dksX0_wideCount_0 1 rfl rfl)
theorem dX0_wideCount_2 : decode cX0_wideCount 2 = .ok (.iload_n 1, 1) := dk_27 (dk_at dksX0_wideCount_0 2 rfl rfl)
theorem dX0_wideCount_3 : decode cX0_wideCount 3 = .ok (.invokevirtual 91, 3) := dk_182 0 91 (dk_at dksX0_wideCount_0 3 rfl rfl)
theorem dX0_wideCount_6 : decode cX0_wideCount 6 = .ok (.i2l, 1) := dk_133 (dk_at dksX0_wideCount_0 6 rfl rfl)
theorem dX0_wideCount_7 : decode cX0_wideCount 7 = .ok (.putfield 13, 3) := dk_181 0 13 (dk_at dksX0_wideCount_0 7 rfl rfl)
theorem dX0_wideCount_10 : decode cX0_wideCount 10 = .ok (.goto 6, 3) := dk_167 0 6 (dk_at dksX0_wideCount_0 10 rfl rfl)
theorem dX0_wideCount_13 : decode cX0_wideCount 13 = .ok (.astore_n 3, 1) := dk_78 (dk_at dksX0_wideCount_0 13 rfl rfl)
theorem dX0_wideCount_14 : decode cX0_wideCount 14 = .ok (.iconst 1, 1) := dk_4 (dk_at dksX0_wideCount_0 14 rfl rfl)
theorem dX0_wideCount_15 : decode cX0_wideCount 15 = .ok (.ireturn, 1) := dk_172 (dk_at dksX0_wideCount_0 15 rfl rfl)
theorem dX0_wideCount_16 : decode cX0_wideCount 16 = .ok (.iconst 0, 1) := dk_3 (dk_at dksX0_wideCount_0 16 rfl rfl)
theorem dX0_wideCount_17 : decode cX0_wideCount 17 = .ok (.ireturn, 1) := dk_172 (dk_at dksX0_wideCount_0 17 rfl rfl)
abbrev cX0_wideFind : ByteArray := method_23_code
def yX0_wideFind : MethodName := ⟨RX0, "wideFind", "(LEdgefloats;IZLEdgefloatsLaw$Out;)I"⟩
def dkwX0_wideFind_0 : List UInt8 := [45, 42, 27, 28, 182, 0, 94, 133, 181, 0, 13, 167, 0, 7, 58, 4, 4, 172, 3, 172]
abbrev dktX0_wideFind_0 : List UInt8 := dkwX0_wideFind_0 ++ []
theorem dksX0_wideFind_0 : cX0_wideFind.data.toList.drop 0 = dktX0_wideFind_0 := by decide +kernel
theorem dX0_wideFind_0 : decode cX0_wideFind 0 = .ok (.aload_n 3, 1) := dk_45 (dk_at dksX0_wideFind_0 0 rfl rfl)
theorem dX0_wideFind_1 : decode cX0_wideFind 1 = .ok (.aload_n 0, 1) := dk_42 (dk_at dksX0_wideFind_0 1 rfl rfl)
theorem dX0_wideFind_2 : decode cX0_wideFind 2 = .ok (.iload_n 1, 1) := dk_27 (dk_at dksX0_wideFind_0 2 rfl rfl)
theorem dX0_wideFind_3 : decode cX0_wideFind 3 = .ok (.iload_n 2, 1) := dk_28 (dk_at dksX0_wideFind_0 3 rfl rfl)
theorem dX0_wideFind_4 : decode cX0_wideFind 4 = .ok (.invokevirtual 94, 3) := dk_182 0 94 (dk_at dksX0_wideFind_0 4 rfl rfl)
theorem dX0_wideFind_7 : decode cX0_wideFind 7 = .ok (.i2l, 1) := dk_133 (dk_at dksX0_wideFind_0 7 rfl rfl)
theorem dX0_wideFind_8 : decode cX0_wideFind 8 = .ok (.putfield 13, 3) := dk_181 0 13 (dk_at dksX0_wideFind_0 8 rfl rfl)
theorem dX0_wideFind_11 : decode cX0_wideFind 11 = .ok (.goto 7, 3) := dk_167 0 7 (dk_at dksX0_wideFind_0 11 rfl rfl)
theorem dX0_wideFind_14 : decode cX0_wideFind 14 = .ok (.astore 4, 2) := dk_58 4 (dk_at dksX0_wideFind_0 14 rfl rfl)
theorem dX0_wideFind_16 : decode cX0_wideFind 16 = .ok (.iconst 1, 1) := dk_4 (dk_at dksX0_wideFind_0 16 rfl rfl)
theorem dX0_wideFind_17 : decode cX0_wideFind 17 = .ok (.ireturn, 1) := dk_172 (dk_at dksX0_wideFind_0 17 rfl rfl)
theorem dX0_wideFind_18 : decode cX0_wideFind 18 = .ok (.iconst 0, 1) := dk_3 (dk_at dksX0_wideFind_0 18 rfl rfl)
theorem dX0_wideFind_19 : decode cX0_wideFind 19 = .ok (.ireturn, 1) := dk_172 (dk_at dksX0_wideFind_0 19 rfl rfl)
abbrev cX0_wideHas : ByteArray := method_24_code
def yX0_wideHas : MethodName := ⟨RX0, "wideHas", "(LEdgefloats;ILEdgefloatsLaw$Out;)I"⟩
def dkwX0_wideHas_1 : List UInt8 := [172]
abbrev dktX0_wideHas_1 : List UInt8 := dkwX0_wideHas_1 ++ []
def dkwX0_wideHas_0 : List UInt8 := [44, 42, 27, 182, 0, 98, 153, 0, 7, 10, 167, 0, 4, 9, 181, 0, 13, 167, 0, 6, 78, 4, 172, 3]
abbrev dktX0_wideHas_0 : List UInt8 := dkwX0_wideHas_0 ++ dktX0_wideHas_1
theorem dksX0_wideHas_0 : cX0_wideHas.data.toList.drop 0 = dktX0_wideHas_0 := by decide +kernel
theorem dksX0_wideHas_1 : cX0_wideHas.data.toList.drop 24 = dktX0_wideHas_1 := dk_seg dksX0_wideHas_0 24 rfl rfl
theorem dX0_wideHas_0 : decode cX0_wideHas 0 = .ok (.aload_n 2, 1) := dk_44 (dk_at dksX0_wideHas_0 0 rfl rfl)
theorem dX0_wideHas_1 : decode cX0_wideHas 1 = .ok (.aload_n 0, 1) := dk_42 (dk_at dksX0_wideHas_0 1 rfl rfl)
theorem dX0_wideHas_2 : decode cX0_wideHas 2 = .ok (.iload_n 1, 1) := dk_27 (dk_at dksX0_wideHas_0 2 rfl rfl)
theorem dX0_wideHas_3 : decode cX0_wideHas 3 = .ok (.invokevirtual 98, 3) := dk_182 0 98 (dk_at dksX0_wideHas_0 3 rfl rfl)
theorem dX0_wideHas_6 : decode cX0_wideHas 6 = .ok (.ifCond .eq 7, 3) := dk_153 0 7 (dk_at dksX0_wideHas_0 6 rfl rfl)
theorem dX0_wideHas_9 : decode cX0_wideHas 9 = .ok (.lconst 1, 1) := dk_10 (dk_at dksX0_wideHas_0 9 rfl rfl)
theorem dX0_wideHas_10 : decode cX0_wideHas 10 = .ok (.goto 4, 3) := dk_167 0 4 (dk_at dksX0_wideHas_0 10 rfl rfl)
theorem dX0_wideHas_13 : decode cX0_wideHas 13 = .ok (.lconst 0, 1) := dk_9 (dk_at dksX0_wideHas_0 13 rfl rfl)
theorem dX0_wideHas_14 : decode cX0_wideHas 14 = .ok (.putfield 13, 3) := dk_181 0 13 (dk_at dksX0_wideHas_0 14 rfl rfl)
theorem dX0_wideHas_17 : decode cX0_wideHas 17 = .ok (.goto 6, 3) := dk_167 0 6 (dk_at dksX0_wideHas_0 17 rfl rfl)
theorem dX0_wideHas_20 : decode cX0_wideHas 20 = .ok (.astore_n 3, 1) := dk_78 (dk_at dksX0_wideHas_0 20 rfl rfl)
theorem dX0_wideHas_21 : decode cX0_wideHas 21 = .ok (.iconst 1, 1) := dk_4 (dk_at dksX0_wideHas_0 21 rfl rfl)
theorem dX0_wideHas_22 : decode cX0_wideHas 22 = .ok (.ireturn, 1) := dk_172 (dk_at dksX0_wideHas_0 22 rfl rfl)
theorem dX0_wideHas_23 : decode cX0_wideHas 23 = .ok (.iconst 0, 1) := dk_3 (dk_at dksX0_wideHas_0 23 rfl rfl)
theorem dX0_wideHas_24 : decode cX0_wideHas 24 = .ok (.ireturn, 1) := dk_172 (dk_at dksX0_wideHas_1 0 rfl rfl)
abbrev cX0_putNarrow : ByteArray := method_25_code
def yX0_putNarrow : MethodName := ⟨RX0, "putNarrow", "(LEdgefloats;IILEdgefloatsLaw$Out;)I"⟩
def dkwX0_putNarrow_0 : List UInt8 := [45, 42, 27, 28, 182, 0, 102, 133, 181, 0, 13, 167, 0, 7, 58, 4, 4, 172, 3, 172]
abbrev dktX0_putNarrow_0 : List UInt8 := dkwX0_putNarrow_0 ++ []
theorem dksX0_putNarrow_0 : cX0_putNarrow.data.toList.drop 0 = dktX0_putNarrow_0 := by decide +kernel
theorem dX0_putNarrow_0 : decode cX0_putNarrow 0 = .ok (.aload_n 3, 1) := dk_45 (dk_at dksX0_putNarrow_0 0 rfl rfl)
theorem dX0_putNarrow_1 : decode cX0_putNarrow 1 = .ok (.aload_n 0, 1) := dk_42 (dk_at dksX0_putNarrow_0 1 rfl rfl)
theorem dX0_putNarrow_2 : decode cX0_putNarrow 2 = .ok (.iload_n 1, 1) := dk_27 (dk_at dksX0_putNarrow_0 2 rfl rfl)
theorem dX0_putNarrow_3 : decode cX0_putNarrow 3 = .ok (.iload_n 2, 1) := dk_28 (dk_at dksX0_putNarrow_0 3 rfl rfl)
theorem dX0_putNarrow_4 : decode cX0_putNarrow 4 = .ok (.invokevirtual 102, 3) := dk_182 0 102 (dk_at dksX0_putNarrow_0 4 rfl rfl)
theorem dX0_putNarrow_7 : decode cX0_putNarrow 7 = .ok (.i2l, 1) := dk_133 (dk_at dksX0_putNarrow_0 7 rfl rfl)
theorem dX0_putNarrow_8 : decode cX0_putNarrow 8 = .ok (.putfield 13, 3) := dk_181 0 13 (dk_at dksX0_putNarrow_0 8 rfl rfl)
theorem dX0_putNarrow_11 : decode cX0_putNarrow 11 = .ok (.goto 7, 3) := dk_167 0 7 (dk_at dksX0_putNarrow_0 11 rfl rfl)
theorem dX0_putNarrow_14 : decode cX0_putNarrow 14 = .ok (.astore 4, 2) := dk_58 4 (dk_at dksX0_putNarrow_0 14 rfl rfl)
theorem dX0_putNarrow_16 : decode cX0_putNarrow 16 = .ok (.iconst 1, 1) := dk_4 (dk_at dksX0_putNarrow_0 16 rfl rfl)
theorem dX0_putNarrow_17 : decode cX0_putNarrow 17 = .ok (.ireturn, 1) := dk_172 (dk_at dksX0_putNarrow_0 17 rfl rfl)
theorem dX0_putNarrow_18 : decode cX0_putNarrow 18 = .ok (.iconst 0, 1) := dk_3 (dk_at dksX0_putNarrow_0 18 rfl rfl)
theorem dX0_putNarrow_19 : decode cX0_putNarrow 19 = .ok (.ireturn, 1) := dk_172 (dk_at dksX0_putNarrow_0 19 rfl rfl)
abbrev cX0_narrowQuarters : ByteArray := method_26_code
def yX0_narrowQuarters : MethodName := ⟨RX0, "narrowQuarters", "(LEdgefloats;IILEdgefloatsLaw$Out;)I"⟩
def dkwX0_narrowQuarters_0 : List UInt8 := [45, 42, 27, 28, 182, 0, 105, 133, 181, 0, 13, 167, 0, 11, 58, 4, 4, 172, 58, 4, 5, 172, 3, 172]
abbrev dktX0_narrowQuarters_0 : List UInt8 := dkwX0_narrowQuarters_0 ++ []
theorem dksX0_narrowQuarters_0 : cX0_narrowQuarters.data.toList.drop 0 = dktX0_narrowQuarters_0 := by decide +kernel
theorem dX0_narrowQuarters_0 : decode cX0_narrowQuarters 0 = .ok (.aload_n 3, 1) := dk_45 (dk_at dksX0_narrowQuarters_0 0 rfl rfl)
theorem dX0_narrowQuarters_1 : decode cX0_narrowQuarters 1 = .ok (.aload_n 0, 1) := dk_42 (dk_at dksX0_narrowQuarters_0 1 rfl rfl)
theorem dX0_narrowQuarters_2 : decode cX0_narrowQuarters 2 = .ok (.iload_n 1, 1) := dk_27 (dk_at dksX0_narrowQuarters_0 2 rfl rfl)
theorem dX0_narrowQuarters_3 : decode cX0_narrowQuarters 3 = .ok (.iload_n 2, 1) := dk_28 (dk_at dksX0_narrowQuarters_0 3 rfl rfl)
theorem dX0_narrowQuarters_4 : decode cX0_narrowQuarters 4 = .ok (.invokevirtual 105, 3) := dk_182 0 105 (dk_at dksX0_narrowQuarters_0 4 rfl rfl)
theorem dX0_narrowQuarters_7 : decode cX0_narrowQuarters 7 = .ok (.i2l, 1) := dk_133 (dk_at dksX0_narrowQuarters_0 7 rfl rfl)
theorem dX0_narrowQuarters_8 : decode cX0_narrowQuarters 8 = .ok (.putfield 13, 3) := dk_181 0 13 (dk_at dksX0_narrowQuarters_0 8 rfl rfl)
theorem dX0_narrowQuarters_11 : decode cX0_narrowQuarters 11 = .ok (.goto 11, 3) := dk_167 0 11 (dk_at dksX0_narrowQuarters_0 11 rfl rfl)
theorem dX0_narrowQuarters_14 : decode cX0_narrowQuarters 14 = .ok (.astore 4, 2) := dk_58 4 (dk_at dksX0_narrowQuarters_0 14 rfl rfl)
theorem dX0_narrowQuarters_16 : decode cX0_narrowQuarters 16 = .ok (.iconst 1, 1) := dk_4 (dk_at dksX0_narrowQuarters_0 16 rfl rfl)
theorem dX0_narrowQuarters_17 : decode cX0_narrowQuarters 17 = .ok (.ireturn, 1) := dk_172 (dk_at dksX0_narrowQuarters_0 17 rfl rfl)
theorem dX0_narrowQuarters_18 : decode cX0_narrowQuarters 18 = .ok (.astore 4, 2) := dk_58 4 (dk_at dksX0_narrowQuarters_0 18 rfl rfl)
theorem dX0_narrowQuarters_20 : decode cX0_narrowQuarters 20 = .ok (.iconst 2, 1) := dk_5 (dk_at dksX0_narrowQuarters_0 20 rfl rfl)
theorem dX0_narrowQuarters_21 : decode cX0_narrowQuarters 21 = .ok (.ireturn, 1) := dk_172 (dk_at dksX0_narrowQuarters_0 21 rfl rfl)
theorem dX0_narrowQuarters_22 : decode cX0_narrowQuarters 22 = .ok (.iconst 0, 1) := dk_3 (dk_at dksX0_narrowQuarters_0 22 rfl rfl)
theorem dX0_narrowQuarters_23 : decode cX0_narrowQuarters 23 = .ok (.ireturn, 1) := dk_172 (dk_at dksX0_narrowQuarters_0 23 rfl rfl)
abbrev cX0_narrowKnown : ByteArray := method_27_code
def yX0_narrowKnown : MethodName := ⟨RX0, "narrowKnown", "(LEdgefloats;IILEdgefloatsLaw$Out;)I"⟩
def dkwX0_narrowKnown_0 : List UInt8 := [45, 42, 27, 28, 182, 0, 108, 133, 181, 0, 13, 167, 0, 11, 58, 4, 4, 172, 58, 4, 5, 172, 3, 172]
abbrev dktX0_narrowKnown_0 : List UInt8 := dkwX0_narrowKnown_0 ++ []
theorem dksX0_narrowKnown_0 : cX0_narrowKnown.data.toList.drop 0 = dktX0_narrowKnown_0 := by decide +kernel
theorem dX0_narrowKnown_0 : decode cX0_narrowKnown 0 = .ok (.aload_n 3, 1) := dk_45 (dk_at dksX0_narrowKnown_0 0 rfl rfl)
theorem dX0_narrowKnown_1 : decode cX0_narrowKnown 1 = .ok (.aload_n 0, 1) := dk_42 (dk_at dksX0_narrowKnown_0 1 rfl rfl)
theorem dX0_narrowKnown_2 : decode cX0_narrowKnown 2 = .ok (.iload_n 1, 1) := dk_27 (dk_at dksX0_narrowKnown_0 2 rfl rfl)
theorem dX0_narrowKnown_3 : decode cX0_narrowKnown 3 = .ok (.iload_n 2, 1) := dk_28 (dk_at dksX0_narrowKnown_0 3 rfl rfl)
theorem dX0_narrowKnown_4 : decode cX0_narrowKnown 4 = .ok (.invokevirtual 108, 3) := dk_182 0 108 (dk_at dksX0_narrowKnown_0 4 rfl rfl)
theorem dX0_narrowKnown_7 : decode cX0_narrowKnown 7 = .ok (.i2l, 1) := dk_133 (dk_at dksX0_narrowKnown_0 7 rfl rfl)
theorem dX0_narrowKnown_8 : decode cX0_narrowKnown 8 = .ok (.putfield 13, 3) := dk_181 0 13 (dk_at dksX0_narrowKnown_0 8 rfl rfl)
theorem dX0_narrowKnown_11 : decode cX0_narrowKnown 11 = .ok (.goto 11, 3) := dk_167 0 11 (dk_at dksX0_narrowKnown_0 11 rfl rfl)
theorem dX0_narrowKnown_14 : decode cX0_narrowKnown 14 = .ok (.astore 4, 2) := dk_58 4 (dk_at dksX0_narrowKnown_0 14 rfl rfl)
theorem dX0_narrowKnown_16 : decode cX0_narrowKnown 16 = .ok (.iconst 1, 1) := dk_4 (dk_at dksX0_narrowKnown_0 16 rfl rfl)
theorem dX0_narrowKnown_17 : decode cX0_narrowKnown 17 = .ok (.ireturn, 1) := dk_172 (dk_at dksX0_narrowKnown_0 17 rfl rfl)
theorem dX0_narrowKnown_18 : decode cX0_narrowKnown 18 = .ok (.astore 4, 2) := dk_58 4 (dk_at dksX0_narrowKnown_0 18 rfl rfl)
theorem dX0_narrowKnown_20 : decode cX0_narrowKnown 20 = .ok (.iconst 2, 1) := dk_5 (dk_at dksX0_narrowKnown_0 20 rfl rfl)
theorem dX0_narrowKnown_21 : decode cX0_narrowKnown 21 = .ok (.ireturn, 1) := dk_172 (dk_at dksX0_narrowKnown_0 21 rfl rfl)
theorem dX0_narrowKnown_22 : decode cX0_narrowKnown 22 = .ok (.iconst 0, 1) := dk_3 (dk_at dksX0_narrowKnown_0 22 rfl rfl)
theorem dX0_narrowKnown_23 : decode cX0_narrowKnown 23 = .ok (.ireturn, 1) := dk_172 (dk_at dksX0_narrowKnown_0 23 rfl rfl)
abbrev cX0_narrowCopy : ByteArray := method_28_code
def yX0_narrowCopy : MethodName := ⟨RX0, "narrowCopy", "(LEdgefloats;IILEdgefloatsLaw$Out;)I"⟩
def dkwX0_narrowCopy_0 : List UInt8 := [45, 42, 27, 28, 182, 0, 111, 133, 181, 0, 13, 167, 0, 7, 58, 4, 4, 172, 3, 172]
abbrev dktX0_narrowCopy_0 : List UInt8 := dkwX0_narrowCopy_0 ++ []
theorem dksX0_narrowCopy_0 : cX0_narrowCopy.data.toList.drop 0 = dktX0_narrowCopy_0 := by decide +kernel
theorem dX0_narrowCopy_0 : decode cX0_narrowCopy 0 = .ok (.aload_n 3, 1) := dk_45 (dk_at dksX0_narrowCopy_0 0 rfl rfl)
theorem dX0_narrowCopy_1 : decode cX0_narrowCopy 1 = .ok (.aload_n 0, 1) := dk_42 (dk_at dksX0_narrowCopy_0 1 rfl rfl)
theorem dX0_narrowCopy_2 : decode cX0_narrowCopy 2 = .ok (.iload_n 1, 1) := dk_27 (dk_at dksX0_narrowCopy_0 2 rfl rfl)
theorem dX0_narrowCopy_3 : decode cX0_narrowCopy 3 = .ok (.iload_n 2, 1) := dk_28 (dk_at dksX0_narrowCopy_0 3 rfl rfl)
theorem dX0_narrowCopy_4 : decode cX0_narrowCopy 4 = .ok (.invokevirtual 111, 3) := dk_182 0 111 (dk_at dksX0_narrowCopy_0 4 rfl rfl)
theorem dX0_narrowCopy_7 : decode cX0_narrowCopy 7 = .ok (.i2l, 1) := dk_133 (dk_at dksX0_narrowCopy_0 7 rfl rfl)
theorem dX0_narrowCopy_8 : decode cX0_narrowCopy 8 = .ok (.putfield 13, 3) := dk_181 0 13 (dk_at dksX0_narrowCopy_0 8 rfl rfl)
theorem dX0_narrowCopy_11 : decode cX0_narrowCopy 11 = .ok (.goto 7, 3) := dk_167 0 7 (dk_at dksX0_narrowCopy_0 11 rfl rfl)
theorem dX0_narrowCopy_14 : decode cX0_narrowCopy 14 = .ok (.astore 4, 2) := dk_58 4 (dk_at dksX0_narrowCopy_0 14 rfl rfl)
theorem dX0_narrowCopy_16 : decode cX0_narrowCopy 16 = .ok (.iconst 1, 1) := dk_4 (dk_at dksX0_narrowCopy_0 16 rfl rfl)
theorem dX0_narrowCopy_17 : decode cX0_narrowCopy 17 = .ok (.ireturn, 1) := dk_172 (dk_at dksX0_narrowCopy_0 17 rfl rfl)
theorem dX0_narrowCopy_18 : decode cX0_narrowCopy 18 = .ok (.iconst 0, 1) := dk_3 (dk_at dksX0_narrowCopy_0 18 rfl rfl)
theorem dX0_narrowCopy_19 : decode cX0_narrowCopy 19 = .ok (.ireturn, 1) := dk_172 (dk_at dksX0_narrowCopy_0 19 rfl rfl)
abbrev cX0_narrowSwap : ByteArray := method_29_code
def yX0_narrowSwap : MethodName := ⟨RX0, "narrowSwap", "(LEdgefloats;IILEdgefloatsLaw$Out;)I"⟩
def dkwX0_narrowSwap_0 : List UInt8 := [45, 42, 27, 28, 182, 0, 114, 133, 181, 0, 13, 167, 0, 7, 58, 4, 4, 172, 3, 172]
abbrev dktX0_narrowSwap_0 : List UInt8 := dkwX0_narrowSwap_0 ++ []
theorem dksX0_narrowSwap_0 : cX0_narrowSwap.data.toList.drop 0 = dktX0_narrowSwap_0 := by decide +kernel
theorem dX0_narrowSwap_0 : decode cX0_narrowSwap 0 = .ok (.aload_n 3, 1) := dk_45 (dk_at dksX0_narrowSwap_0 0 rfl rfl)
theorem dX0_narrowSwap_1 : decode cX0_narrowSwap 1 = .ok (.aload_n 0, 1) := dk_42 (dk_at dksX0_narrowSwap_0 1 rfl rfl)
theorem dX0_narrowSwap_2 : decode cX0_narrowSwap 2 = .ok (.iload_n 1, 1) := dk_27 (dk_at dksX0_narrowSwap_0 2 rfl rfl)
theorem dX0_narrowSwap_3 : decode cX0_narrowSwap 3 = .ok (.iload_n 2, 1) := dk_28 (dk_at dksX0_narrowSwap_0 3 rfl rfl)
theorem dX0_narrowSwap_4 : decode cX0_narrowSwap 4 = .ok (.invokevirtual 114, 3) := dk_182 0 114 (dk_at dksX0_narrowSwap_0 4 rfl rfl)
theorem dX0_narrowSwap_7 : decode cX0_narrowSwap 7 = .ok (.i2l, 1) := dk_133 (dk_at dksX0_narrowSwap_0 7 rfl rfl)
theorem dX0_narrowSwap_8 : decode cX0_narrowSwap 8 = .ok (.putfield 13, 3) := dk_181 0 13 (dk_at dksX0_narrowSwap_0 8 rfl rfl)
theorem dX0_narrowSwap_11 : decode cX0_narrowSwap 11 = .ok (.goto 7, 3) := dk_167 0 7 (dk_at dksX0_narrowSwap_0 11 rfl rfl)
theorem dX0_narrowSwap_14 : decode cX0_narrowSwap 14 = .ok (.astore 4, 2) := dk_58 4 (dk_at dksX0_narrowSwap_0 14 rfl rfl)
theorem dX0_narrowSwap_16 : decode cX0_narrowSwap 16 = .ok (.iconst 1, 1) := dk_4 (dk_at dksX0_narrowSwap_0 16 rfl rfl)
theorem dX0_narrowSwap_17 : decode cX0_narrowSwap 17 = .ok (.ireturn, 1) := dk_172 (dk_at dksX0_narrowSwap_0 17 rfl rfl)
theorem dX0_narrowSwap_18 : decode cX0_narrowSwap 18 = .ok (.iconst 0, 1) := dk_3 (dk_at dksX0_narrowSwap_0 18 rfl rfl)
theorem dX0_narrowSwap_19 : decode cX0_narrowSwap 19 = .ok (.ireturn, 1) := dk_172 (dk_at dksX0_narrowSwap_0 19 rfl rfl)
abbrev cX0_narrowMax : ByteArray := method_30_code
def yX0_narrowMax : MethodName := ⟨RX0, "narrowMax", "(LEdgefloats;IIILEdgefloatsLaw$Out;)I"⟩
def dkwX0_narrowMax_0 : List UInt8 := [25, 4, 42, 27, 28, 29, 182, 0, 117, 133, 181, 0, 13, 167, 0, 7, 58, 5, 4, 172, 3, 172]
abbrev dktX0_narrowMax_0 : List UInt8 := dkwX0_narrowMax_0 ++ []
theorem dksX0_narrowMax_0 : cX0_narrowMax.data.toList.drop 0 = dktX0_narrowMax_0 := by decide +kernel
theorem dX0_narrowMax_0 : decode cX0_narrowMax 0 = .ok (.aload 4, 2) := dk_25 4 (dk_at dksX0_narrowMax_0 0 rfl rfl)
theorem dX0_narrowMax_2 : decode cX0_narrowMax 2 = .ok (.aload_n 0, 1) := dk_42 (dk_at dksX0_narrowMax_0 2 rfl rfl)
theorem dX0_narrowMax_3 : decode cX0_narrowMax 3 = .ok (.iload_n 1, 1) := dk_27 (dk_at dksX0_narrowMax_0 3 rfl rfl)
theorem dX0_narrowMax_4 : decode cX0_narrowMax 4 = .ok (.iload_n 2, 1) := dk_28 (dk_at dksX0_narrowMax_0 4 rfl rfl)
theorem dX0_narrowMax_5 : decode cX0_narrowMax 5 = .ok (.iload_n 3, 1) := dk_29 (dk_at dksX0_narrowMax_0 5 rfl rfl)
theorem dX0_narrowMax_6 : decode cX0_narrowMax 6 = .ok (.invokevirtual 117, 3) := dk_182 0 117 (dk_at dksX0_narrowMax_0 6 rfl rfl)
theorem dX0_narrowMax_9 : decode cX0_narrowMax 9 = .ok (.i2l, 1) := dk_133 (dk_at dksX0_narrowMax_0 9 rfl rfl)
theorem dX0_narrowMax_10 : decode cX0_narrowMax 10 = .ok (.putfield 13, 3) := dk_181 0 13 (dk_at dksX0_narrowMax_0 10 rfl rfl)
theorem dX0_narrowMax_13 : decode cX0_narrowMax 13 = .ok (.goto 7, 3) := dk_167 0 7 (dk_at dksX0_narrowMax_0 13 rfl rfl)
theorem dX0_narrowMax_16 : decode cX0_narrowMax 16 = .ok (.astore 5, 2) := dk_58 5 (dk_at dksX0_narrowMax_0 16 rfl rfl)
theorem dX0_narrowMax_18 : decode cX0_narrowMax 18 = .ok (.iconst 1, 1) := dk_4 (dk_at dksX0_narrowMax_0 18 rfl rfl)
theorem dX0_narrowMax_19 : decode cX0_narrowMax 19 = .ok (.ireturn, 1) := dk_172 (dk_at dksX0_narrowMax_0 19 rfl rfl)
theorem dX0_narrowMax_20 : decode cX0_narrowMax 20 = .ok (.iconst 0, 1) := dk_3 (dk_at dksX0_narrowMax_0 20 rfl rfl)
theorem dX0_narrowMax_21 : decode cX0_narrowMax 21 = .ok (.ireturn, 1) := dk_172 (dk_at dksX0_narrowMax_0 21 rfl rfl)
abbrev cX0_narrowMin : ByteArray := method_31_code
def yX0_narrowMin : MethodName := ⟨RX0, "narrowMin", "(LEdgefloats;IIILEdgefloatsLaw$Out;)I"⟩
def dkwX0_narrowMin_0 : List UInt8 := [25, 4, 42, 27, 28, 29, 182, 0, 120, 133, 181, 0, 13, 167, 0, 7, 58, 5, 4, 172, 3, 172]
abbrev dktX0_narrowMin_0 : List UInt8 := dkwX0_narrowMin_0 ++ []
theorem dksX0_narrowMin_0 : cX0_narrowMin.data.toList.drop 0 = dktX0_narrowMin_0 := by decide +kernel
theorem dX0_narrowMin_0 : decode cX0_narrowMin 0 = .ok (.aload 4, 2) := dk_25 4 (dk_at dksX0_narrowMin_0 0 rfl rfl)
theorem dX0_narrowMin_2 : decode cX0_narrowMin 2 = .ok (.aload_n 0, 1) := dk_42 (dk_at dksX0_narrowMin_0 2 rfl rfl)
theorem dX0_narrowMin_3 : decode cX0_narrowMin 3 = .ok (.iload_n 1, 1) := dk_27 (dk_at dksX0_narrowMin_0 3 rfl rfl)
theorem dX0_narrowMin_4 : decode cX0_narrowMin 4 = .ok (.iload_n 2, 1) := dk_28 (dk_at dksX0_narrowMin_0 4 rfl rfl)
theorem dX0_narrowMin_5 : decode cX0_narrowMin 5 = .ok (.iload_n 3, 1) := dk_29 (dk_at dksX0_narrowMin_0 5 rfl rfl)
theorem dX0_narrowMin_6 : decode cX0_narrowMin 6 = .ok (.invokevirtual 120, 3) := dk_182 0 120 (dk_at dksX0_narrowMin_0 6 rfl rfl)
theorem dX0_narrowMin_9 : decode cX0_narrowMin 9 = .ok (.i2l, 1) := dk_133 (dk_at dksX0_narrowMin_0 9 rfl rfl)
theorem dX0_narrowMin_10 : decode cX0_narrowMin 10 = .ok (.putfield 13, 3) := dk_181 0 13 (dk_at dksX0_narrowMin_0 10 rfl rfl)
theorem dX0_narrowMin_13 : decode cX0_narrowMin 13 = .ok (.goto 7, 3) := dk_167 0 7 (dk_at dksX0_narrowMin_0 13 rfl rfl)
theorem dX0_narrowMin_16 : decode cX0_narrowMin 16 = .ok (.astore 5, 2) := dk_58 5 (dk_at dksX0_narrowMin_0 16 rfl rfl)
theorem dX0_narrowMin_18 : decode cX0_narrowMin 18 = .ok (.iconst 1, 1) := dk_4 (dk_at dksX0_narrowMin_0 18 rfl rfl)
theorem dX0_narrowMin_19 : decode cX0_narrowMin 19 = .ok (.ireturn, 1) := dk_172 (dk_at dksX0_narrowMin_0 19 rfl rfl)
theorem dX0_narrowMin_20 : decode cX0_narrowMin 20 = .ok (.iconst 0, 1) := dk_3 (dk_at dksX0_narrowMin_0 20 rfl rfl)
theorem dX0_narrowMin_21 : decode cX0_narrowMin 21 = .ok (.ireturn, 1) := dk_172 (dk_at dksX0_narrowMin_0 21 rfl rfl)
abbrev cX0_narrowSum : ByteArray := method_32_code
def yX0_narrowSum : MethodName := ⟨RX0, "narrowSum", "(LEdgefloats;IIILEdgefloatsLaw$Out;)I"⟩
def dkwX0_narrowSum_0 : List UInt8 := [25, 4, 42, 27, 28, 29, 182, 0, 123, 133, 181, 0, 13, 167, 0, 7, 58, 5, 4, 172, 3, 172]
abbrev dktX0_narrowSum_0 : List UInt8 := dkwX0_narrowSum_0 ++ []
theorem dksX0_narrowSum_0 : cX0_narrowSum.data.toList.drop 0 = dktX0_narrowSum_0 := by decide +kernel
theorem dX0_narrowSum_0 : decode cX0_narrowSum 0 = .ok (.aload 4, 2) := dk_25 4 (dk_at dksX0_narrowSum_0 0 rfl rfl)
theorem dX0_narrowSum_2 : decode cX0_narrowSum 2 = .ok (.aload_n 0, 1) := dk_42 (dk_at dksX0_narrowSum_0 2 rfl rfl)
theorem dX0_narrowSum_3 : decode cX0_narrowSum 3 = .ok (.iload_n 1, 1) := dk_27 (dk_at dksX0_narrowSum_0 3 rfl rfl)
theorem dX0_narrowSum_4 : decode cX0_narrowSum 4 = .ok (.iload_n 2, 1) := dk_28 (dk_at dksX0_narrowSum_0 4 rfl rfl)
theorem dX0_narrowSum_5 : decode cX0_narrowSum 5 = .ok (.iload_n 3, 1) := dk_29 (dk_at dksX0_narrowSum_0 5 rfl rfl)
theorem dX0_narrowSum_6 : decode cX0_narrowSum 6 = .ok (.invokevirtual 123, 3) := dk_182 0 123 (dk_at dksX0_narrowSum_0 6 rfl rfl)
theorem dX0_narrowSum_9 : decode cX0_narrowSum 9 = .ok (.i2l, 1) := dk_133 (dk_at dksX0_narrowSum_0 9 rfl rfl)
theorem dX0_narrowSum_10 : decode cX0_narrowSum 10 = .ok (.putfield 13, 3) := dk_181 0 13 (dk_at dksX0_narrowSum_0 10 rfl rfl)
theorem dX0_narrowSum_13 : decode cX0_narrowSum 13 = .ok (.goto 7, 3) := dk_167 0 7 (dk_at dksX0_narrowSum_0 13 rfl rfl)
theorem dX0_narrowSum_16 : decode cX0_narrowSum 16 = .ok (.astore 5, 2) := dk_58 5 (dk_at dksX0_narrowSum_0 16 rfl rfl)
theorem dX0_narrowSum_18 : decode cX0_narrowSum 18 = .ok (.iconst 1, 1) := dk_4 (dk_at dksX0_narrowSum_0 18 rfl rfl)
theorem dX0_narrowSum_19 : decode cX0_narrowSum 19 = .ok (.ireturn, 1) := dk_172 (dk_at dksX0_narrowSum_0 19 rfl rfl)
theorem dX0_narrowSum_20 : decode cX0_narrowSum 20 = .ok (.iconst 0, 1) := dk_3 (dk_at dksX0_narrowSum_0 20 rfl rfl)
theorem dX0_narrowSum_21 : decode cX0_narrowSum 21 = .ok (.ireturn, 1) := dk_172 (dk_at dksX0_narrowSum_0 21 rfl rfl)
abbrev cX0_narrowSort : ByteArray := method_33_code
def yX0_narrowSort : MethodName := ⟨RX0, "narrowSort", "(LEdgefloats;ILEdgefloatsLaw$Out;)I"⟩
def dkwX0_narrowSort_0 : List UInt8 := [44, 42, 27, 182, 0, 126, 133, 181, 0, 13, 167, 0, 6, 78, 4, 172, 3, 172]
abbrev dktX0_narrowSort_0 : List UInt8 := dkwX0_narrowSort_0 ++ []
theorem dksX0_narrowSort_0 : cX0_narrowSort.data.toList.drop 0 = dktX0_narrowSort_0 := by decide +kernel
theorem dX0_narrowSort_0 : decode cX0_narrowSort 0 = .ok (.aload_n 2, 1) := dk_44 (dk_at dksX0_narrowSort_0 0 rfl rfl)
theorem dX0_narrowSort_1 : decode cX0_narrowSort 1 = .ok (.aload_n 0, 1) := dk_42 (dk_at dksX0_narrowSort_0 1 rfl rfl)
theorem dX0_narrowSort_2 : decode cX0_narrowSort 2 = .ok (.iload_n 1, 1) := dk_27 (dk_at dksX0_narrowSort_0 2 rfl rfl)
theorem dX0_narrowSort_3 : decode cX0_narrowSort 3 = .ok (.invokevirtual 126, 3) := dk_182 0 126 (dk_at dksX0_narrowSort_0 3 rfl rfl)
theorem dX0_narrowSort_6 : decode cX0_narrowSort 6 = .ok (.i2l, 1) := dk_133 (dk_at dksX0_narrowSort_0 6 rfl rfl)
theorem dX0_narrowSort_7 : decode cX0_narrowSort 7 = .ok (.putfield 13, 3) := dk_181 0 13 (dk_at dksX0_narrowSort_0 7 rfl rfl)
theorem dX0_narrowSort_10 : decode cX0_narrowSort 10 = .ok (.goto 6, 3) := dk_167 0 6 (dk_at dksX0_narrowSort_0 10 rfl rfl)
theorem dX0_narrowSort_13 : decode cX0_narrowSort 13 = .ok (.astore_n 3, 1) := dk_78 (dk_at dksX0_narrowSort_0 13 rfl rfl)
theorem dX0_narrowSort_14 : decode cX0_narrowSort 14 = .ok (.iconst 1, 1) := dk_4 (dk_at dksX0_narrowSort_0 14 rfl rfl)
theorem dX0_narrowSort_15 : decode cX0_narrowSort 15 = .ok (.ireturn, 1) := dk_172 (dk_at dksX0_narrowSort_0 15 rfl rfl)
theorem dX0_narrowSort_16 : decode cX0_narrowSort 16 = .ok (.iconst 0, 1) := dk_3 (dk_at dksX0_narrowSort_0 16 rfl rfl)
theorem dX0_narrowSort_17 : decode cX0_narrowSort 17 = .ok (.ireturn, 1) := dk_172 (dk_at dksX0_narrowSort_0 17 rfl rfl)
abbrev cX0_narrowEnd : ByteArray := method_34_code
def yX0_narrowEnd : MethodName := ⟨RX0, "narrowEnd", "(LEdgefloats;ZILEdgefloatsLaw$Out;)I"⟩
def dkwX0_narrowEnd_0 : List UInt8 := [45, 42, 27, 28, 182, 0, 129, 133, 181, 0, 13, 167, 0, 7, 58, 4, 4, 172, 3, 172]
abbrev dktX0_narrowEnd_0 : List UInt8 := dkwX0_narrowEnd_0 ++ []
theorem dksX0_narrowEnd_0 : cX0_narrowEnd.data.toList.drop 0 = dktX0_narrowEnd_0 := by decide +kernel
theorem dX0_narrowEnd_0 : decode cX0_narrowEnd 0 = .ok (.aload_n 3, 1) := dk_45 (dk_at dksX0_narrowEnd_0 0 rfl rfl)
theorem dX0_narrowEnd_1 : decode cX0_narrowEnd 1 = .ok (.aload_n 0, 1) := dk_42 (dk_at dksX0_narrowEnd_0 1 rfl rfl)
theorem dX0_narrowEnd_2 : decode cX0_narrowEnd 2 = .ok (.iload_n 1, 1) := dk_27 (dk_at dksX0_narrowEnd_0 2 rfl rfl)
theorem dX0_narrowEnd_3 : decode cX0_narrowEnd 3 = .ok (.iload_n 2, 1) := dk_28 (dk_at dksX0_narrowEnd_0 3 rfl rfl)
theorem dX0_narrowEnd_4 : decode cX0_narrowEnd 4 = .ok (.invokevirtual 129, 3) := dk_182 0 129 (dk_at dksX0_narrowEnd_0 4 rfl rfl)
theorem dX0_narrowEnd_7 : decode cX0_narrowEnd 7 = .ok (.i2l, 1) := dk_133 (dk_at dksX0_narrowEnd_0 7 rfl rfl)
theorem dX0_narrowEnd_8 : decode cX0_narrowEnd 8 = .ok (.putfield 13, 3) := dk_181 0 13 (dk_at dksX0_narrowEnd_0 8 rfl rfl)
theorem dX0_narrowEnd_11 : decode cX0_narrowEnd 11 = .ok (.goto 7, 3) := dk_167 0 7 (dk_at dksX0_narrowEnd_0 11 rfl rfl)
theorem dX0_narrowEnd_14 : decode cX0_narrowEnd 14 = .ok (.astore 4, 2) := dk_58 4 (dk_at dksX0_narrowEnd_0 14 rfl rfl)
theorem dX0_narrowEnd_16 : decode cX0_narrowEnd 16 = .ok (.iconst 1, 1) := dk_4 (dk_at dksX0_narrowEnd_0 16 rfl rfl)
theorem dX0_narrowEnd_17 : decode cX0_narrowEnd 17 = .ok (.ireturn, 1) := dk_172 (dk_at dksX0_narrowEnd_0 17 rfl rfl)
theorem dX0_narrowEnd_18 : decode cX0_narrowEnd 18 = .ok (.iconst 0, 1) := dk_3 (dk_at dksX0_narrowEnd_0 18 rfl rfl)
theorem dX0_narrowEnd_19 : decode cX0_narrowEnd 19 = .ok (.ireturn, 1) := dk_172 (dk_at dksX0_narrowEnd_0 19 rfl rfl)
abbrev cX0_digits : ByteArray := method_35_code
def yX0_digits : MethodName := ⟨RX0, "digits", "(LEdgefloats;ILEdgefloatsLaw$Out;)I"⟩
def dkwX0_digits_0 : List UInt8 := [44, 42, 27, 182, 0, 132, 133, 181, 0, 13, 167, 0, 6, 78, 4, 172, 3, 172]
abbrev dktX0_digits_0 : List UInt8 := dkwX0_digits_0 ++ []
theorem dksX0_digits_0 : cX0_digits.data.toList.drop 0 = dktX0_digits_0 := by decide +kernel
theorem dX0_digits_0 : decode cX0_digits 0 = .ok (.aload_n 2, 1) := dk_44 (dk_at dksX0_digits_0 0 rfl rfl)
theorem dX0_digits_1 : decode cX0_digits 1 = .ok (.aload_n 0, 1) := dk_42 (dk_at dksX0_digits_0 1 rfl rfl)
theorem dX0_digits_2 : decode cX0_digits 2 = .ok (.iload_n 1, 1) := dk_27 (dk_at dksX0_digits_0 2 rfl rfl)
theorem dX0_digits_3 : decode cX0_digits 3 = .ok (.invokevirtual 132, 3) := dk_182 0 132 (dk_at dksX0_digits_0 3 rfl rfl)
theorem dX0_digits_6 : decode cX0_digits 6 = .ok (.i2l, 1) := dk_133 (dk_at dksX0_digits_0 6 rfl rfl)
theorem dX0_digits_7 : decode cX0_digits 7 = .ok (.putfield 13, 3) := dk_181 0 13 (dk_at dksX0_digits_0 7 rfl rfl)
theorem dX0_digits_10 : decode cX0_digits 10 = .ok (.goto 6, 3) := dk_167 0 6 (dk_at dksX0_digits_0 10 rfl rfl)
theorem dX0_digits_13 : decode cX0_digits 13 = .ok (.astore_n 3, 1) := dk_78 (dk_at dksX0_digits_0 13 rfl rfl)
theorem dX0_digits_14 : decode cX0_digits 14 = .ok (.iconst 1, 1) := dk_4 (dk_at dksX0_digits_0 14 rfl rfl)
theorem dX0_digits_15 : decode cX0_digits 15 = .ok (.ireturn, 1) := dk_172 (dk_at dksX0_digits_0 15 rfl rfl)
theorem dX0_digits_16 : decode cX0_digits 16 = .ok (.iconst 0, 1) := dk_3 (dk_at dksX0_digits_0 16 rfl rfl)
theorem dX0_digits_17 : decode cX0_digits 17 = .ok (.ireturn, 1) := dk_172 (dk_at dksX0_digits_0 17 rfl rfl)
abbrev cX0_narrowText : ByteArray := method_36_code
def yX0_narrowText : MethodName := ⟨RX0, "narrowText", "(LEdgefloats;ILEdgefloatsLaw$Out;)I"⟩
def dkwX0_narrowText_0 : List UInt8 := [44, 42, 27, 182, 0, 135, 181, 0, 63, 167, 0, 6, 78, 4, 172, 3, 172]
abbrev dktX0_narrowText_0 : List UInt8 := dkwX0_narrowText_0 ++ []
theorem dksX0_narrowText_0 : cX0_narrowText.data.toList.drop 0 = dktX0_narrowText_0 := by decide +kernel
theorem dX0_narrowText_0 : decode cX0_narrowText 0 = .ok (.aload_n 2, 1) := dk_44 (dk_at dksX0_narrowText_0 0 rfl rfl)
theorem dX0_narrowText_1 : decode cX0_narrowText 1 = .ok (.aload_n 0, 1) := dk_42 (dk_at dksX0_narrowText_0 1 rfl rfl)
theorem dX0_narrowText_2 : decode cX0_narrowText 2 = .ok (.iload_n 1, 1) := dk_27 (dk_at dksX0_narrowText_0 2 rfl rfl)
theorem dX0_narrowText_3 : decode cX0_narrowText 3 = .ok (.invokevirtual 135, 3) := dk_182 0 135 (dk_at dksX0_narrowText_0 3 rfl rfl)
theorem dX0_narrowText_6 : decode cX0_narrowText 6 = .ok (.putfield 63, 3) := dk_181 0 63 (dk_at dksX0_narrowText_0 6 rfl rfl)
theorem dX0_narrowText_9 : decode cX0_narrowText 9 = .ok (.goto 6, 3) := dk_167 0 6 (dk_at dksX0_narrowText_0 9 rfl rfl)
theorem dX0_narrowText_12 : decode cX0_narrowText 12 = .ok (.astore_n 3, 1) := dk_78 (dk_at dksX0_narrowText_0 12 rfl rfl)
theorem dX0_narrowText_13 : decode cX0_narrowText 13 = .ok (.iconst 1, 1) := dk_4 (dk_at dksX0_narrowText_0 13 rfl rfl)
theorem dX0_narrowText_14 : decode cX0_narrowText 14 = .ok (.ireturn, 1) := dk_172 (dk_at dksX0_narrowText_0 14 rfl rfl)
theorem dX0_narrowText_15 : decode cX0_narrowText 15 = .ok (.iconst 0, 1) := dk_3 (dk_at dksX0_narrowText_0 15 rfl rfl)
theorem dX0_narrowText_16 : decode cX0_narrowText 16 = .ok (.ireturn, 1) := dk_172 (dk_at dksX0_narrowText_0 16 rfl rfl)
abbrev cX0_narrowOrder : ByteArray := method_37_code
def yX0_narrowOrder : MethodName := ⟨RX0, "narrowOrder", "(LEdgefloats;IIILEdgefloatsLaw$Out;)I"⟩
def dkwX0_narrowOrder_1 : List UInt8 := [3, 172]
abbrev dktX0_narrowOrder_1 : List UInt8 := dkwX0_narrowOrder_1 ++ []
def dkwX0_narrowOrder_0 : List UInt8 := [25, 4, 42, 27, 28, 29, 182, 0, 138, 133, 181, 0, 13, 167, 0, 11, 58, 5, 4, 172, 58, 5, 5, 172]
abbrev dktX0_narrowOrder_0 : List UInt8 := dkwX0_narrowOrder_0 ++ dktX0_narrowOrder_1
theorem dksX0_narrowOrder_0 : cX0_narrowOrder.data.toList.drop 0 = dktX0_narrowOrder_0 := by decide +kernel
theorem dksX0_narrowOrder_1 : cX0_narrowOrder.data.toList.drop 24 = dktX0_narrowOrder_1 := dk_seg dksX0_narrowOrder_0 24 rfl rfl
theorem dX0_narrowOrder_0 : decode cX0_narrowOrder 0 = .ok (.aload 4, 2) := dk_25 4 (dk_at dksX0_narrowOrder_0 0 rfl rfl)
theorem dX0_narrowOrder_2 : decode cX0_narrowOrder 2 = .ok (.aload_n 0, 1) := dk_42 (dk_at dksX0_narrowOrder_0 2 rfl rfl)
theorem dX0_narrowOrder_3 : decode cX0_narrowOrder 3 = .ok (.iload_n 1, 1) := dk_27 (dk_at dksX0_narrowOrder_0 3 rfl rfl)
theorem dX0_narrowOrder_4 : decode cX0_narrowOrder 4 = .ok (.iload_n 2, 1) := dk_28 (dk_at dksX0_narrowOrder_0 4 rfl rfl)
theorem dX0_narrowOrder_5 : decode cX0_narrowOrder 5 = .ok (.iload_n 3, 1) := dk_29 (dk_at dksX0_narrowOrder_0 5 rfl rfl)
theorem dX0_narrowOrder_6 : decode cX0_narrowOrder 6 = .ok (.invokevirtual 138, 3) := dk_182 0 138 (dk_at dksX0_narrowOrder_0 6 rfl rfl)
theorem dX0_narrowOrder_9 : decode cX0_narrowOrder 9 = .ok (.i2l, 1) := dk_133 (dk_at dksX0_narrowOrder_0 9 rfl rfl)
theorem dX0_narrowOrder_10 : decode cX0_narrowOrder 10 = .ok (.putfield 13, 3) := dk_181 0 13 (dk_at dksX0_narrowOrder_0 10 rfl rfl)
theorem dX0_narrowOrder_13 : decode cX0_narrowOrder 13 = .ok (.goto 11, 3) := dk_167 0 11 (dk_at dksX0_narrowOrder_0 13 rfl rfl)
theorem dX0_narrowOrder_16 : decode cX0_narrowOrder 16 = .ok (.astore 5, 2) := dk_58 5 (dk_at dksX0_narrowOrder_0 16 rfl rfl)
theorem dX0_narrowOrder_18 : decode cX0_narrowOrder 18 = .ok (.iconst 1, 1) := dk_4 (dk_at dksX0_narrowOrder_0 18 rfl rfl)
theorem dX0_narrowOrder_19 : decode cX0_narrowOrder 19 = .ok (.ireturn, 1) := dk_172 (dk_at dksX0_narrowOrder_0 19 rfl rfl)
theorem dX0_narrowOrder_20 : decode cX0_narrowOrder 20 = .ok (.astore 5, 2) := dk_58 5 (dk_at dksX0_narrowOrder_0 20 rfl rfl)
theorem dX0_narrowOrder_22 : decode cX0_narrowOrder 22 = .ok (.iconst 2, 1) := dk_5 (dk_at dksX0_narrowOrder_0 22 rfl rfl)
theorem dX0_narrowOrder_23 : decode cX0_narrowOrder 23 = .ok (.ireturn, 1) := dk_172 (dk_at dksX0_narrowOrder_0 23 rfl rfl)
theorem dX0_narrowOrder_24 : decode cX0_narrowOrder 24 = .ok (.iconst 0, 1) := dk_3 (dk_at dksX0_narrowOrder_1 0 rfl rfl)
theorem dX0_narrowOrder_25 : decode cX0_narrowOrder 25 = .ok (.ireturn, 1) := dk_172 (dk_at dksX0_narrowOrder_1 1 rfl rfl)
abbrev cX0_narrowSame : ByteArray := method_38_code
def yX0_narrowSame : MethodName := ⟨RX0, "narrowSame", "(LEdgefloats;IIILEdgefloatsLaw$Out;)I"⟩
def dkwX0_narrowSame_1 : List UInt8 := [58, 5, 4, 172, 58, 5, 5, 172, 3, 172]
abbrev dktX0_narrowSame_1 : List UInt8 := dkwX0_narrowSame_1 ++ []
def dkwX0_narrowSame_0 : List UInt8 := [25, 4, 42, 27, 28, 29, 182, 0, 141, 153, 0, 7, 10, 167, 0, 4, 9, 181, 0, 13, 167, 0, 11]
abbrev dktX0_narrowSame_0 : List UInt8 := dkwX0_narrowSame_0 ++ dktX0_narrowSame_1
theorem dksX0_narrowSame_0 : cX0_narrowSame.data.toList.drop 0 = dktX0_narrowSame_0 := by decide +kernel
theorem dksX0_narrowSame_1 : cX0_narrowSame.data.toList.drop 23 = dktX0_narrowSame_1 := dk_seg dksX0_narrowSame_0 23 rfl rfl
theorem dX0_narrowSame_0 : decode cX0_narrowSame 0 = .ok (.aload 4, 2) := dk_25 4 (dk_at dksX0_narrowSame_0 0 rfl rfl)
theorem dX0_narrowSame_2 : decode cX0_narrowSame 2 = .ok (.aload_n 0, 1) := dk_42 (dk_at dksX0_narrowSame_0 2 rfl rfl)
theorem dX0_narrowSame_3 : decode cX0_narrowSame 3 = .ok (.iload_n 1, 1) := dk_27 (dk_at dksX0_narrowSame_0 3 rfl rfl)
theorem dX0_narrowSame_4 : decode cX0_narrowSame 4 = .ok (.iload_n 2, 1) := dk_28 (dk_at dksX0_narrowSame_0 4 rfl rfl)
theorem dX0_narrowSame_5 : decode cX0_narrowSame 5 = .ok (.iload_n 3, 1) := dk_29 (dk_at dksX0_narrowSame_0 5 rfl rfl)
theorem dX0_narrowSame_6 : decode cX0_narrowSame 6 = .ok (.invokevirtual 141, 3) := dk_182 0 141 (dk_at dksX0_narrowSame_0 6 rfl rfl)
theorem dX0_narrowSame_9 : decode cX0_narrowSame 9 = .ok (.ifCond .eq 7, 3) := dk_153 0 7 (dk_at dksX0_narrowSame_0 9 rfl rfl)
theorem dX0_narrowSame_12 : decode cX0_narrowSame 12 = .ok (.lconst 1, 1) := dk_10 (dk_at dksX0_narrowSame_0 12 rfl rfl)
theorem dX0_narrowSame_13 : decode cX0_narrowSame 13 = .ok (.goto 4, 3) := dk_167 0 4 (dk_at dksX0_narrowSame_0 13 rfl rfl)
theorem dX0_narrowSame_16 : decode cX0_narrowSame 16 = .ok (.lconst 0, 1) := dk_9 (dk_at dksX0_narrowSame_0 16 rfl rfl)
theorem dX0_narrowSame_17 : decode cX0_narrowSame 17 = .ok (.putfield 13, 3) := dk_181 0 13 (dk_at dksX0_narrowSame_0 17 rfl rfl)
theorem dX0_narrowSame_20 : decode cX0_narrowSame 20 = .ok (.goto 11, 3) := dk_167 0 11 (dk_at dksX0_narrowSame_0 20 rfl rfl)
theorem dX0_narrowSame_23 : decode cX0_narrowSame 23 = .ok (.astore 5, 2) := dk_58 5 (dk_at dksX0_narrowSame_1 0 rfl rfl)
theorem dX0_narrowSame_25 : decode cX0_narrowSame 25 = .ok (.iconst 1, 1) := dk_4 (dk_at dksX0_narrowSame_1 2 rfl rfl)
theorem dX0_narrowSame_26 : decode cX0_narrowSame 26 = .ok (.ireturn, 1) := dk_172 (dk_at dksX0_narrowSame_1 3 rfl rfl)
theorem dX0_narrowSame_27 : decode cX0_narrowSame 27 = .ok (.astore 5, 2) := dk_58 5 (dk_at dksX0_narrowSame_1 4 rfl rfl)
theorem dX0_narrowSame_29 : decode cX0_narrowSame 29 = .ok (.iconst 2, 1) := dk_5 (dk_at dksX0_narrowSame_1 6 rfl rfl)
theorem dX0_narrowSame_30 : decode cX0_narrowSame 30 = .ok (.ireturn, 1) := dk_172 (dk_at dksX0_narrowSame_1 7 rfl rfl)
theorem dX0_narrowSame_31 : decode cX0_narrowSame 31 = .ok (.iconst 0, 1) := dk_3 (dk_at dksX0_narrowSame_1 8 rfl rfl)
theorem dX0_narrowSame_32 : decode cX0_narrowSame 32 = .ok (.ireturn, 1) := dk_172 (dk_at dksX0_narrowSame_1 9 rfl rfl)
abbrev cX0_narrowOther : ByteArray := method_39_code
def yX0_narrowOther : MethodName := ⟨RX0, "narrowOther", "(LEdgefloats;IILEdgefloatsLaw$Out;)I"⟩
def dkwX0_narrowOther_1 : List UInt8 := [172, 58, 4, 5, 172, 3, 172]
abbrev dktX0_narrowOther_1 : List UInt8 := dkwX0_narrowOther_1 ++ []
def dkwX0_narrowOther_0 : List UInt8 := [45, 42, 27, 28, 182, 0, 144, 153, 0, 7, 10, 167, 0, 4, 9, 181, 0, 13, 167, 0, 11, 58, 4, 4]
abbrev dktX0_narrowOther_0 : List UInt8 := dkwX0_narrowOther_0 ++ dktX0_narrowOther_1
theorem dksX0_narrowOther_0 : cX0_narrowOther.data.toList.drop 0 = dktX0_narrowOther_0 := by decide +kernel
theorem dksX0_narrowOther_1 : cX0_narrowOther.data.toList.drop 24 = dktX0_narrowOther_1 := dk_seg dksX0_narrowOther_0 24 rfl rfl
theorem dX0_narrowOther_0 : decode cX0_narrowOther 0 = .ok (.aload_n 3, 1) := dk_45 (dk_at dksX0_narrowOther_0 0 rfl rfl)
theorem dX0_narrowOther_1 : decode cX0_narrowOther 1 = .ok (.aload_n 0, 1) := dk_42 (dk_at dksX0_narrowOther_0 1 rfl rfl)
theorem dX0_narrowOther_2 : decode cX0_narrowOther 2 = .ok (.iload_n 1, 1) := dk_27 (dk_at dksX0_narrowOther_0 2 rfl rfl)
theorem dX0_narrowOther_3 : decode cX0_narrowOther 3 = .ok (.iload_n 2, 1) := dk_28 (dk_at dksX0_narrowOther_0 3 rfl rfl)
theorem dX0_narrowOther_4 : decode cX0_narrowOther 4 = .ok (.invokevirtual 144, 3) := dk_182 0 144 (dk_at dksX0_narrowOther_0 4 rfl rfl)
theorem dX0_narrowOther_7 : decode cX0_narrowOther 7 = .ok (.ifCond .eq 7, 3) := dk_153 0 7 (dk_at dksX0_narrowOther_0 7 rfl rfl)
theorem dX0_narrowOther_10 : decode cX0_narrowOther 10 = .ok (.lconst 1, 1) := dk_10 (dk_at dksX0_narrowOther_0 10 rfl rfl)
theorem dX0_narrowOther_11 : decode cX0_narrowOther 11 = .ok (.goto 4, 3) := dk_167 0 4 (dk_at dksX0_narrowOther_0 11 rfl rfl)
theorem dX0_narrowOther_14 : decode cX0_narrowOther 14 = .ok (.lconst 0, 1) := dk_9 (dk_at dksX0_narrowOther_0 14 rfl rfl)
theorem dX0_narrowOther_15 : decode cX0_narrowOther 15 = .ok (.putfield 13, 3) := dk_181 0 13 (dk_at dksX0_narrowOther_0 15 rfl rfl)
theorem dX0_narrowOther_18 : decode cX0_narrowOther 18 = .ok (.goto 11, 3) := dk_167 0 11 (dk_at dksX0_narrowOther_0 18 rfl rfl)
theorem dX0_narrowOther_21 : decode cX0_narrowOther 21 = .ok (.astore 4, 2) := dk_58 4 (dk_at dksX0_narrowOther_0 21 rfl rfl)
theorem dX0_narrowOther_23 : decode cX0_narrowOther 23 = .ok (.iconst 1, 1) := dk_4 (dk_at dksX0_narrowOther_0 23 rfl rfl)
theorem dX0_narrowOther_24 : decode cX0_narrowOther 24 = .ok (.ireturn, 1) := dk_172 (dk_at dksX0_narrowOther_1 0 rfl rfl)
theorem dX0_narrowOther_25 : decode cX0_narrowOther 25 = .ok (.astore 4, 2) := dk_58 4 (dk_at dksX0_narrowOther_1 1 rfl rfl)
theorem dX0_narrowOther_27 : decode cX0_narrowOther 27 = .ok (.iconst 2, 1) := dk_5 (dk_at dksX0_narrowOther_1 3 rfl rfl)
theorem dX0_narrowOther_28 : decode cX0_narrowOther 28 = .ok (.ireturn, 1) := dk_172 (dk_at dksX0_narrowOther_1 4 rfl rfl)
theorem dX0_narrowOther_29 : decode cX0_narrowOther 29 = .ok (.iconst 0, 1) := dk_3 (dk_at dksX0_narrowOther_1 5 rfl rfl)
theorem dX0_narrowOther_30 : decode cX0_narrowOther 30 = .ok (.ireturn, 1) := dk_172 (dk_at dksX0_narrowOther_1 6 rfl rfl)
abbrev cX0_narrowLike : ByteArray := method_40_code
def yX0_narrowLike : MethodName := ⟨RX0, "narrowLike", "(LEdgefloats;IILEdgefloatsLaw$Out;)I"⟩
def dkwX0_narrowLike_1 : List UInt8 := [172, 3, 172]
abbrev dktX0_narrowLike_1 : List UInt8 := dkwX0_narrowLike_1 ++ []
def dkwX0_narrowLike_0 : List UInt8 := [45, 42, 27, 28, 182, 0, 147, 153, 0, 7, 10, 167, 0, 4, 9, 181, 0, 13, 167, 0, 7, 58, 4, 4]
abbrev dktX0_narrowLike_0 : List UInt8 := dkwX0_narrowLike_0 ++ dktX0_narrowLike_1
theorem dksX0_narrowLike_0 : cX0_narrowLike.data.toList.drop 0 = dktX0_narrowLike_0 := by decide +kernel
theorem dksX0_narrowLike_1 : cX0_narrowLike.data.toList.drop 24 = dktX0_narrowLike_1 := dk_seg dksX0_narrowLike_0 24 rfl rfl
theorem dX0_narrowLike_0 : decode cX0_narrowLike 0 = .ok (.aload_n 3, 1) := dk_45 (dk_at dksX0_narrowLike_0 0 rfl rfl)
theorem dX0_narrowLike_1 : decode cX0_narrowLike 1 = .ok (.aload_n 0, 1) := dk_42 (dk_at dksX0_narrowLike_0 1 rfl rfl)
theorem dX0_narrowLike_2 : decode cX0_narrowLike 2 = .ok (.iload_n 1, 1) := dk_27 (dk_at dksX0_narrowLike_0 2 rfl rfl)
theorem dX0_narrowLike_3 : decode cX0_narrowLike 3 = .ok (.iload_n 2, 1) := dk_28 (dk_at dksX0_narrowLike_0 3 rfl rfl)
theorem dX0_narrowLike_4 : decode cX0_narrowLike 4 = .ok (.invokevirtual 147, 3) := dk_182 0 147 (dk_at dksX0_narrowLike_0 4 rfl rfl)
theorem dX0_narrowLike_7 : decode cX0_narrowLike 7 = .ok (.ifCond .eq 7, 3) := dk_153 0 7 (dk_at dksX0_narrowLike_0 7 rfl rfl)
theorem dX0_narrowLike_10 : decode cX0_narrowLike 10 = .ok (.lconst 1, 1) := dk_10 (dk_at dksX0_narrowLike_0 10 rfl rfl)
theorem dX0_narrowLike_11 : decode cX0_narrowLike 11 = .ok (.goto 4, 3) := dk_167 0 4 (dk_at dksX0_narrowLike_0 11 rfl rfl)
theorem dX0_narrowLike_14 : decode cX0_narrowLike 14 = .ok (.lconst 0, 1) := dk_9 (dk_at dksX0_narrowLike_0 14 rfl rfl)
theorem dX0_narrowLike_15 : decode cX0_narrowLike 15 = .ok (.putfield 13, 3) := dk_181 0 13 (dk_at dksX0_narrowLike_0 15 rfl rfl)
theorem dX0_narrowLike_18 : decode cX0_narrowLike 18 = .ok (.goto 7, 3) := dk_167 0 7 (dk_at dksX0_narrowLike_0 18 rfl rfl)
theorem dX0_narrowLike_21 : decode cX0_narrowLike 21 = .ok (.astore 4, 2) := dk_58 4 (dk_at dksX0_narrowLike_0 21 rfl rfl)
theorem dX0_narrowLike_23 : decode cX0_narrowLike 23 = .ok (.iconst 1, 1) := dk_4 (dk_at dksX0_narrowLike_0 23 rfl rfl)
theorem dX0_narrowLike_24 : decode cX0_narrowLike 24 = .ok (.ireturn, 1) := dk_172 (dk_at dksX0_narrowLike_1 0 rfl rfl)
theorem dX0_narrowLike_25 : decode cX0_narrowLike 25 = .ok (.iconst 0, 1) := dk_3 (dk_at dksX0_narrowLike_1 1 rfl rfl)
theorem dX0_narrowLike_26 : decode cX0_narrowLike 26 = .ok (.ireturn, 1) := dk_172 (dk_at dksX0_narrowLike_1 2 rfl rfl)
abbrev cX0_narrowBelow : ByteArray := method_41_code
def yX0_narrowBelow : MethodName := ⟨RX0, "narrowBelow", "(LEdgefloats;IIZLEdgefloatsLaw$Out;)I"⟩
def dkwX0_narrowBelow_1 : List UInt8 := [58, 5, 4, 172, 3, 172]
abbrev dktX0_narrowBelow_1 : List UInt8 := dkwX0_narrowBelow_1 ++ []
def dkwX0_narrowBelow_0 : List UInt8 := [25, 4, 42, 27, 28, 29, 182, 0, 150, 153, 0, 7, 10, 167, 0, 4, 9, 181, 0, 13, 167, 0, 7]
abbrev dktX0_narrowBelow_0 : List UInt8 := dkwX0_narrowBelow_0 ++ dktX0_narrowBelow_1
theorem dksX0_narrowBelow_0 : cX0_narrowBelow.data.toList.drop 0 = dktX0_narrowBelow_0 := by decide +kernel
theorem dksX0_narrowBelow_1 : cX0_narrowBelow.data.toList.drop 23 = dktX0_narrowBelow_1 := dk_seg dksX0_narrowBelow_0 23 rfl rfl
theorem dX0_narrowBelow_0 : decode cX0_narrowBelow 0 = .ok (.aload 4, 2) := dk_25 4 (dk_at dksX0_narrowBelow_0 0 rfl rfl)
theorem dX0_narrowBelow_2 : decode cX0_narrowBelow 2 = .ok (.aload_n 0, 1) := dk_42 (dk_at dksX0_narrowBelow_0 2 rfl rfl)
theorem dX0_narrowBelow_3 : decode cX0_narrowBelow 3 = .ok (.iload_n 1, 1) := dk_27 (dk_at dksX0_narrowBelow_0 3 rfl rfl)
theorem dX0_narrowBelow_4 : decode cX0_narrowBelow 4 = .ok (.iload_n 2, 1) := dk_28 (dk_at dksX0_narrowBelow_0 4 rfl rfl)
theorem dX0_narrowBelow_5 : decode cX0_narrowBelow 5 = .ok (.iload_n 3, 1) := dk_29 (dk_at dksX0_narrowBelow_0 5 rfl rfl)
theorem dX0_narrowBelow_6 : decode cX0_narrowBelow 6 = .ok (.invokevirtual 150, 3) := dk_182 0 150 (dk_at dksX0_narrowBelow_0 6 rfl rfl)
theorem dX0_narrowBelow_9 : decode cX0_narrowBelow 9 = .ok (.ifCond .eq 7, 3) := dk_153 0 7 (dk_at dksX0_narrowBelow_0 9 rfl rfl)
theorem dX0_narrowBelow_12 : decode cX0_narrowBelow 12 = .ok (.lconst 1, 1) := dk_10 (dk_at dksX0_narrowBelow_0 12 rfl rfl)
theorem dX0_narrowBelow_13 : decode cX0_narrowBelow 13 = .ok (.goto 4, 3) := dk_167 0 4 (dk_at dksX0_narrowBelow_0 13 rfl rfl)
theorem dX0_narrowBelow_16 : decode cX0_narrowBelow 16 = .ok (.lconst 0, 1) := dk_9 (dk_at dksX0_narrowBelow_0 16 rfl rfl)
theorem dX0_narrowBelow_17 : decode cX0_narrowBelow 17 = .ok (.putfield 13, 3) := dk_181 0 13 (dk_at dksX0_narrowBelow_0 17 rfl rfl)
theorem dX0_narrowBelow_20 : decode cX0_narrowBelow 20 = .ok (.goto 7, 3) := dk_167 0 7 (dk_at dksX0_narrowBelow_0 20 rfl rfl)
theorem dX0_narrowBelow_23 : decode cX0_narrowBelow 23 = .ok (.astore 5, 2) := dk_58 5 (dk_at dksX0_narrowBelow_1 0 rfl rfl)
theorem dX0_narrowBelow_25 : decode cX0_narrowBelow 25 = .ok (.iconst 1, 1) := dk_4 (dk_at dksX0_narrowBelow_1 2 rfl rfl)
theorem dX0_narrowBelow_26 : decode cX0_narrowBelow 26 = .ok (.ireturn, 1) := dk_172 (dk_at dksX0_narrowBelow_1 3 rfl rfl)
theorem dX0_narrowBelow_27 : decode cX0_narrowBelow 27 = .ok (.iconst 0, 1) := dk_3 (dk_at dksX0_narrowBelow_1 4 rfl rfl)
theorem dX0_narrowBelow_28 : decode cX0_narrowBelow 28 = .ok (.ireturn, 1) := dk_172 (dk_at dksX0_narrowBelow_1 5 rfl rfl)
abbrev cX0_narrowHash : ByteArray := method_42_code
def yX0_narrowHash : MethodName := ⟨RX0, "narrowHash", "(LEdgefloats;IILEdgefloatsLaw$Out;)I"⟩
def dkwX0_narrowHash_0 : List UInt8 := [45, 42, 27, 28, 182, 0, 153, 133, 181, 0, 13, 167, 0, 11, 58, 4, 4, 172, 58, 4, 5, 172, 3, 172]
abbrev dktX0_narrowHash_0 : List UInt8 := dkwX0_narrowHash_0 ++ []
theorem dksX0_narrowHash_0 : cX0_narrowHash.data.toList.drop 0 = dktX0_narrowHash_0 := by decide +kernel
theorem dX0_narrowHash_0 : decode cX0_narrowHash 0 = .ok (.aload_n 3, 1) := dk_45 (dk_at dksX0_narrowHash_0 0 rfl rfl)
theorem dX0_narrowHash_1 : decode cX0_narrowHash 1 = .ok (.aload_n 0, 1) := dk_42 (dk_at dksX0_narrowHash_0 1 rfl rfl)
theorem dX0_narrowHash_2 : decode cX0_narrowHash 2 = .ok (.iload_n 1, 1) := dk_27 (dk_at dksX0_narrowHash_0 2 rfl rfl)
theorem dX0_narrowHash_3 : decode cX0_narrowHash 3 = .ok (.iload_n 2, 1) := dk_28 (dk_at dksX0_narrowHash_0 3 rfl rfl)
theorem dX0_narrowHash_4 : decode cX0_narrowHash 4 = .ok (.invokevirtual 153, 3) := dk_182 0 153 (dk_at dksX0_narrowHash_0 4 rfl rfl)
theorem dX0_narrowHash_7 : decode cX0_narrowHash 7 = .ok (.i2l, 1) := dk_133 (dk_at dksX0_narrowHash_0 7 rfl rfl)
theorem dX0_narrowHash_8 : decode cX0_narrowHash 8 = .ok (.putfield 13, 3) := dk_181 0 13 (dk_at dksX0_narrowHash_0 8 rfl rfl)
theorem dX0_narrowHash_11 : decode cX0_narrowHash 11 = .ok (.goto 11, 3) := dk_167 0 11 (dk_at dksX0_narrowHash_0 11 rfl rfl)
theorem dX0_narrowHash_14 : decode cX0_narrowHash 14 = .ok (.astore 4, 2) := dk_58 4 (dk_at dksX0_narrowHash_0 14 rfl rfl)
theorem dX0_narrowHash_16 : decode cX0_narrowHash 16 = .ok (.iconst 1, 1) := dk_4 (dk_at dksX0_narrowHash_0 16 rfl rfl)
theorem dX0_narrowHash_17 : decode cX0_narrowHash 17 = .ok (.ireturn, 1) := dk_172 (dk_at dksX0_narrowHash_0 17 rfl rfl)
theorem dX0_narrowHash_18 : decode cX0_narrowHash 18 = .ok (.astore 4, 2) := dk_58 4 (dk_at dksX0_narrowHash_0 18 rfl rfl)
theorem dX0_narrowHash_20 : decode cX0_narrowHash 20 = .ok (.iconst 2, 1) := dk_5 (dk_at dksX0_narrowHash_0 20 rfl rfl)
theorem dX0_narrowHash_21 : decode cX0_narrowHash 21 = .ok (.ireturn, 1) := dk_172 (dk_at dksX0_narrowHash_0 21 rfl rfl)
theorem dX0_narrowHash_22 : decode cX0_narrowHash 22 = .ok (.iconst 0, 1) := dk_3 (dk_at dksX0_narrowHash_0 22 rfl rfl)
theorem dX0_narrowHash_23 : decode cX0_narrowHash 23 = .ok (.ireturn, 1) := dk_172 (dk_at dksX0_narrowHash_0 23 rfl rfl)
abbrev cX0_narrowEndless : ByteArray := method_43_code
def yX0_narrowEndless : MethodName := ⟨RX0, "narrowEndless", "(LEdgefloats;IILEdgefloatsLaw$Out;)I"⟩
def dkwX0_narrowEndless_1 : List UInt8 := [172, 58, 4, 5, 172, 3, 172]
abbrev dktX0_narrowEndless_1 : List UInt8 := dkwX0_narrowEndless_1 ++ []
def dkwX0_narrowEndless_0 : List UInt8 := [45, 42, 27, 28, 182, 0, 156, 153, 0, 7, 10, 167, 0, 4, 9, 181, 0, 13, 167, 0, 11, 58, 4, 4]
abbrev dktX0_narrowEndless_0 : List UInt8 := dkwX0_narrowEndless_0 ++ dktX0_narrowEndless_1
theorem dksX0_narrowEndless_0 : cX0_narrowEndless.data.toList.drop 0 = dktX0_narrowEndless_0 := by decide +kernel
theorem dksX0_narrowEndless_1 : cX0_narrowEndless.data.toList.drop 24 = dktX0_narrowEndless_1 := dk_seg dksX0_narrowEndless_0 24 rfl rfl
theorem dX0_narrowEndless_0 : decode cX0_narrowEndless 0 = .ok (.aload_n 3, 1) := dk_45 (dk_at dksX0_narrowEndless_0 0 rfl rfl)
theorem dX0_narrowEndless_1 : decode cX0_narrowEndless 1 = .ok (.aload_n 0, 1) := dk_42 (dk_at dksX0_narrowEndless_0 1 rfl rfl)
theorem dX0_narrowEndless_2 : decode cX0_narrowEndless 2 = .ok (.iload_n 1, 1) := dk_27 (dk_at dksX0_narrowEndless_0 2 rfl rfl)
theorem dX0_narrowEndless_3 : decode cX0_narrowEndless 3 = .ok (.iload_n 2, 1) := dk_28 (dk_at dksX0_narrowEndless_0 3 rfl rfl)
theorem dX0_narrowEndless_4 : decode cX0_narrowEndless 4 = .ok (.invokevirtual 156, 3) := dk_182 0 156 (dk_at dksX0_narrowEndless_0 4 rfl rfl)
theorem dX0_narrowEndless_7 : decode cX0_narrowEndless 7 = .ok (.ifCond .eq 7, 3) := dk_153 0 7 (dk_at dksX0_narrowEndless_0 7 rfl rfl)
theorem dX0_narrowEndless_10 : decode cX0_narrowEndless 10 = .ok (.lconst 1, 1) := dk_10 (dk_at dksX0_narrowEndless_0 10 rfl rfl)
theorem dX0_narrowEndless_11 : decode cX0_narrowEndless 11 = .ok (.goto 4, 3) := dk_167 0 4 (dk_at dksX0_narrowEndless_0 11 rfl rfl)
theorem dX0_narrowEndless_14 : decode cX0_narrowEndless 14 = .ok (.lconst 0, 1) := dk_9 (dk_at dksX0_narrowEndless_0 14 rfl rfl)
theorem dX0_narrowEndless_15 : decode cX0_narrowEndless 15 = .ok (.putfield 13, 3) := dk_181 0 13 (dk_at dksX0_narrowEndless_0 15 rfl rfl)
theorem dX0_narrowEndless_18 : decode cX0_narrowEndless 18 = .ok (.goto 11, 3) := dk_167 0 11 (dk_at dksX0_narrowEndless_0 18 rfl rfl)
theorem dX0_narrowEndless_21 : decode cX0_narrowEndless 21 = .ok (.astore 4, 2) := dk_58 4 (dk_at dksX0_narrowEndless_0 21 rfl rfl)
theorem dX0_narrowEndless_23 : decode cX0_narrowEndless 23 = .ok (.iconst 1, 1) := dk_4 (dk_at dksX0_narrowEndless_0 23 rfl rfl)
theorem dX0_narrowEndless_24 : decode cX0_narrowEndless 24 = .ok (.ireturn, 1) := dk_172 (dk_at dksX0_narrowEndless_1 0 rfl rfl)
theorem dX0_narrowEndless_25 : decode cX0_narrowEndless 25 = .ok (.astore 4, 2) := dk_58 4 (dk_at dksX0_narrowEndless_1 1 rfl rfl)
theorem dX0_narrowEndless_27 : decode cX0_narrowEndless 27 = .ok (.iconst 2, 1) := dk_5 (dk_at dksX0_narrowEndless_1 3 rfl rfl)
theorem dX0_narrowEndless_28 : decode cX0_narrowEndless 28 = .ok (.ireturn, 1) := dk_172 (dk_at dksX0_narrowEndless_1 4 rfl rfl)
theorem dX0_narrowEndless_29 : decode cX0_narrowEndless 29 = .ok (.iconst 0, 1) := dk_3 (dk_at dksX0_narrowEndless_1 5 rfl rfl)
theorem dX0_narrowEndless_30 : decode cX0_narrowEndless 30 = .ok (.ireturn, 1) := dk_172 (dk_at dksX0_narrowEndless_1 6 rfl rfl)
abbrev cX0_narrowCount : ByteArray := method_44_code
def yX0_narrowCount : MethodName := ⟨RX0, "narrowCount", "(LEdgefloats;ILEdgefloatsLaw$Out;)I"⟩
def dkwX0_narrowCount_0 : List UInt8 := [44, 42, 27, 182, 0, 159, 133, 181, 0, 13, 167, 0, 6, 78, 4, 172, 3, 172]
abbrev dktX0_narrowCount_0 : List UInt8 := dkwX0_narrowCount_0 ++ []
theorem dksX0_narrowCount_0 : cX0_narrowCount.data.toList.drop 0 = dktX0_narrowCount_0 := by decide +kernel
theorem dX0_narrowCount_0 : decode cX0_narrowCount 0 = .ok (.aload_n 2, 1) := dk_44 (dk_at dksX0_narrowCount_0 0 rfl rfl)
theorem dX0_narrowCount_1 : decode cX0_narrowCount 1 = .ok (.aload_n 0, 1) := dk_42 (dk_at dksX0_narrowCount_0 1 rfl rfl)
theorem dX0_narrowCount_2 : decode cX0_narrowCount 2 = .ok (.iload_n 1, 1) := dk_27 (dk_at dksX0_narrowCount_0 2 rfl rfl)
theorem dX0_narrowCount_3 : decode cX0_narrowCount 3 = .ok (.invokevirtual 159, 3) := dk_182 0 159 (dk_at dksX0_narrowCount_0 3 rfl rfl)
theorem dX0_narrowCount_6 : decode cX0_narrowCount 6 = .ok (.i2l, 1) := dk_133 (dk_at dksX0_narrowCount_0 6 rfl rfl)
theorem dX0_narrowCount_7 : decode cX0_narrowCount 7 = .ok (.putfield 13, 3) := dk_181 0 13 (dk_at dksX0_narrowCount_0 7 rfl rfl)
theorem dX0_narrowCount_10 : decode cX0_narrowCount 10 = .ok (.goto 6, 3) := dk_167 0 6 (dk_at dksX0_narrowCount_0 10 rfl rfl)
theorem dX0_narrowCount_13 : decode cX0_narrowCount 13 = .ok (.astore_n 3, 1) := dk_78 (dk_at dksX0_narrowCount_0 13 rfl rfl)
theorem dX0_narrowCount_14 : decode cX0_narrowCount 14 = .ok (.iconst 1, 1) := dk_4 (dk_at dksX0_narrowCount_0 14 rfl rfl)
theorem dX0_narrowCount_15 : decode cX0_narrowCount 15 = .ok (.ireturn, 1) := dk_172 (dk_at dksX0_narrowCount_0 15 rfl rfl)
theorem dX0_narrowCount_16 : decode cX0_narrowCount 16 = .ok (.iconst 0, 1) := dk_3 (dk_at dksX0_narrowCount_0 16 rfl rfl)
theorem dX0_narrowCount_17 : decode cX0_narrowCount 17 = .ok (.ireturn, 1) := dk_172 (dk_at dksX0_narrowCount_0 17 rfl rfl)
abbrev cX0_narrowFind : ByteArray := method_45_code
def yX0_narrowFind : MethodName := ⟨RX0, "narrowFind", "(LEdgefloats;IZLEdgefloatsLaw$Out;)I"⟩
def dkwX0_narrowFind_0 : List UInt8 := [45, 42, 27, 28, 182, 0, 162, 133, 181, 0, 13, 167, 0, 7, 58, 4, 4, 172, 3, 172]
abbrev dktX0_narrowFind_0 : List UInt8 := dkwX0_narrowFind_0 ++ []
theorem dksX0_narrowFind_0 : cX0_narrowFind.data.toList.drop 0 = dktX0_narrowFind_0 := by decide +kernel
theorem dX0_narrowFind_0 : decode cX0_narrowFind 0 = .ok (.aload_n 3, 1) := dk_45 (dk_at dksX0_narrowFind_0 0 rfl rfl)
theorem dX0_narrowFind_1 : decode cX0_narrowFind 1 = .ok (.aload_n 0, 1) := dk_42 (dk_at dksX0_narrowFind_0 1 rfl rfl)
theorem dX0_narrowFind_2 : decode cX0_narrowFind 2 = .ok (.iload_n 1, 1) := dk_27 (dk_at dksX0_narrowFind_0 2 rfl rfl)
theorem dX0_narrowFind_3 : decode cX0_narrowFind 3 = .ok (.iload_n 2, 1) := dk_28 (dk_at dksX0_narrowFind_0 3 rfl rfl)
theorem dX0_narrowFind_4 : decode cX0_narrowFind 4 = .ok (.invokevirtual 162, 3) := dk_182 0 162 (dk_at dksX0_narrowFind_0 4 rfl rfl)
theorem dX0_narrowFind_7 : decode cX0_narrowFind 7 = .ok (.i2l, 1) := dk_133 (dk_at dksX0_narrowFind_0 7 rfl rfl)
theorem dX0_narrowFind_8 : decode cX0_narrowFind 8 = .ok (.putfield 13, 3) := dk_181 0 13 (dk_at dksX0_narrowFind_0 8 rfl rfl)
theorem dX0_narrowFind_11 : decode cX0_narrowFind 11 = .ok (.goto 7, 3) := dk_167 0 7 (dk_at dksX0_narrowFind_0 11 rfl rfl)
theorem dX0_narrowFind_14 : decode cX0_narrowFind 14 = .ok (.astore 4, 2) := dk_58 4 (dk_at dksX0_narrowFind_0 14 rfl rfl)
theorem dX0_narrowFind_16 : decode cX0_narrowFind 16 = .ok (.iconst 1, 1) := dk_4 (dk_at dksX0_narrowFind_0 16 rfl rfl)
theorem dX0_narrowFind_17 : decode cX0_narrowFind 17 = .ok (.ireturn, 1) := dk_172 (dk_at dksX0_narrowFind_0 17 rfl rfl)
theorem dX0_narrowFind_18 : decode cX0_narrowFind 18 = .ok (.iconst 0, 1) := dk_3 (dk_at dksX0_narrowFind_0 18 rfl rfl)
theorem dX0_narrowFind_19 : decode cX0_narrowFind 19 = .ok (.ireturn, 1) := dk_172 (dk_at dksX0_narrowFind_0 19 rfl rfl)
abbrev cX0_narrowHas : ByteArray := method_46_code
def yX0_narrowHas : MethodName := ⟨RX0, "narrowHas", "(LEdgefloats;ILEdgefloatsLaw$Out;)I"⟩
def dkwX0_narrowHas_1 : List UInt8 := [172]
abbrev dktX0_narrowHas_1 : List UInt8 := dkwX0_narrowHas_1 ++ []
def dkwX0_narrowHas_0 : List UInt8 := [44, 42, 27, 182, 0, 165, 153, 0, 7, 10, 167, 0, 4, 9, 181, 0, 13, 167, 0, 6, 78, 4, 172, 3]
abbrev dktX0_narrowHas_0 : List UInt8 := dkwX0_narrowHas_0 ++ dktX0_narrowHas_1
theorem dksX0_narrowHas_0 : cX0_narrowHas.data.toList.drop 0 = dktX0_narrowHas_0 := by decide +kernel
theorem dksX0_narrowHas_1 : cX0_narrowHas.data.toList.drop 24 = dktX0_narrowHas_1 := dk_seg dksX0_narrowHas_0 24 rfl rfl
theorem dX0_narrowHas_0 : decode cX0_narrowHas 0 = .ok (.aload_n 2, 1) := dk_44 (dk_at dksX0_narrowHas_0 0 rfl rfl)
theorem dX0_narrowHas_1 : decode cX0_narrowHas 1 = .ok (.aload_n 0, 1) := dk_42 (dk_at dksX0_narrowHas_0 1 rfl rfl)
theorem dX0_narrowHas_2 : decode cX0_narrowHas 2 = .ok (.iload_n 1, 1) := dk_27 (dk_at dksX0_narrowHas_0 2 rfl rfl)
theorem dX0_narrowHas_3 : decode cX0_narrowHas 3 = .ok (.invokevirtual 165, 3) := dk_182 0 165 (dk_at dksX0_narrowHas_0 3 rfl rfl)
theorem dX0_narrowHas_6 : decode cX0_narrowHas 6 = .ok (.ifCond .eq 7, 3) := dk_153 0 7 (dk_at dksX0_narrowHas_0 6 rfl rfl)
theorem dX0_narrowHas_9 : decode cX0_narrowHas 9 = .ok (.lconst 1, 1) := dk_10 (dk_at dksX0_narrowHas_0 9 rfl rfl)
theorem dX0_narrowHas_10 : decode cX0_narrowHas 10 = .ok (.goto 4, 3) := dk_167 0 4 (dk_at dksX0_narrowHas_0 10 rfl rfl)
theorem dX0_narrowHas_13 : decode cX0_narrowHas 13 = .ok (.lconst 0, 1) := dk_9 (dk_at dksX0_narrowHas_0 13 rfl rfl)
theorem dX0_narrowHas_14 : decode cX0_narrowHas 14 = .ok (.putfield 13, 3) := dk_181 0 13 (dk_at dksX0_narrowHas_0 14 rfl rfl)
theorem dX0_narrowHas_17 : decode cX0_narrowHas 17 = .ok (.goto 6, 3) := dk_167 0 6 (dk_at dksX0_narrowHas_0 17 rfl rfl)
theorem dX0_narrowHas_20 : decode cX0_narrowHas 20 = .ok (.astore_n 3, 1) := dk_78 (dk_at dksX0_narrowHas_0 20 rfl rfl)
theorem dX0_narrowHas_21 : decode cX0_narrowHas 21 = .ok (.iconst 1, 1) := dk_4 (dk_at dksX0_narrowHas_0 21 rfl rfl)
theorem dX0_narrowHas_22 : decode cX0_narrowHas 22 = .ok (.ireturn, 1) := dk_172 (dk_at dksX0_narrowHas_0 22 rfl rfl)
theorem dX0_narrowHas_23 : decode cX0_narrowHas 23 = .ok (.iconst 0, 1) := dk_3 (dk_at dksX0_narrowHas_0 23 rfl rfl)
theorem dX0_narrowHas_24 : decode cX0_narrowHas 24 = .ok (.ireturn, 1) := dk_172 (dk_at dksX0_narrowHas_1 0 rfl rfl)
abbrev cX0_house : ByteArray := method_47_code
def yX0_house : MethodName := ⟨RX0, "house", "(LEdgefloats;ILEdgefloatsLaw$Out;)I"⟩
def dkwX0_house_0 : List UInt8 := [44, 42, 27, 182, 0, 168, 133, 181, 0, 13, 167, 0, 6, 78, 4, 172, 3, 172]
abbrev dktX0_house_0 : List UInt8 := dkwX0_house_0 ++ []
theorem dksX0_house_0 : cX0_house.data.toList.drop 0 = dktX0_house_0 := by decide +kernel
theorem dX0_house_0 : decode cX0_house 0 = .ok (.aload_n 2, 1) := dk_44 (dk_at dksX0_house_0 0 rfl rfl)
theorem dX0_house_1 : decode cX0_house 1 = .ok (.aload_n 0, 1) := dk_42 (dk_at dksX0_house_0 1 rfl rfl)
theorem dX0_house_2 : decode cX0_house 2 = .ok (.iload_n 1, 1) := dk_27 (dk_at dksX0_house_0 2 rfl rfl)
theorem dX0_house_3 : decode cX0_house 3 = .ok (.invokevirtual 168, 3) := dk_182 0 168 (dk_at dksX0_house_0 3 rfl rfl)
theorem dX0_house_6 : decode cX0_house 6 = .ok (.i2l, 1) := dk_133 (dk_at dksX0_house_0 6 rfl rfl)
theorem dX0_house_7 : decode cX0_house 7 = .ok (.putfield 13, 3) := dk_181 0 13 (dk_at dksX0_house_0 7 rfl rfl)
theorem dX0_house_10 : decode cX0_house 10 = .ok (.goto 6, 3) := dk_167 0 6 (dk_at dksX0_house_0 10 rfl rfl)
theorem dX0_house_13 : decode cX0_house 13 = .ok (.astore_n 3, 1) := dk_78 (dk_at dksX0_house_0 13 rfl rfl)
theorem dX0_house_14 : decode cX0_house 14 = .ok (.iconst 1, 1) := dk_4 (dk_at dksX0_house_0 14 rfl rfl)
theorem dX0_house_15 : decode cX0_house 15 = .ok (.ireturn, 1) := dk_172 (dk_at dksX0_house_0 15 rfl rfl)
theorem dX0_house_16 : decode cX0_house 16 = .ok (.iconst 0, 1) := dk_3 (dk_at dksX0_house_0 16 rfl rfl)
theorem dX0_house_17 : decode cX0_house 17 = .ok (.ireturn, 1) := dk_172 (dk_at dksX0_house_0 17 rfl rfl)
theorem q33 : (Jvm.Cond.initialized "EdgefloatsLaw") ∈ lw_all := lw_g (lw_at lw_m1 0 rfl) rfl
theorem q64 : (Jvm.Cond.classLink "EdgefloatsLaw" (8 : Nat) "Edgefloats") ∈ lw_all := lw_g (lw_at lw_m1 31 rfl) rfl
theorem q66 : (Jvm.Cond.methodLink "EdgefloatsLaw" (171 : Nat) ({ cls := "Edgefloats", name := "<init>", desc := "()V" } : Jvm.MethodName)) ∈ lw_all := lw_g (lw_at lw_m1 33 rfl) rfl
theorem q124 : (Jvm.Cond.methodLink "EdgefloatsLaw" (332 : Nat) ({ cls := "Edgefloats", name := "knock", desc := "()I" } : Jvm.MethodName)) ∈ lw_all := lw_g (lw_at lw_m1 91 rfl) rfl
theorem q128 : (Jvm.Cond.methodLink "EdgefloatsLaw" (336 : Nat) ({ cls := "Edgefloats", name := "isSound", desc := "()Z" } : Jvm.MethodName)) ∈ lw_all := lw_g (lw_at lw_m1 95 rfl) rfl
theorem q646 : (Jvm.Cond.methodLink "EdgefloatsLaw" (341 : Nat) ({ cls := "Edgefloats", name := "digest", desc := "()J" } : Jvm.MethodName)) ∈ lw_all := lw_g (lw_at lw_m3 133 rfl) rfl
theorem q702 : (Jvm.Cond.classLink "EdgefloatsLaw" (14 : Nat) "EdgefloatsLaw$Out") ∈ lw_all := lw_g (lw_at lw_m3 189 rfl) rfl
theorem q704 : (Jvm.Cond.methodLinkNest "EdgefloatsLaw" (175 : Nat) ({ cls := "EdgefloatsLaw$Out", name := "<init>", desc := "()V" } : Jvm.MethodName) "EdgefloatsLaw") ∈ lw_tbl := lw_at lw_m3 191 rfl
theorem q708 : (Jvm.Cond.fieldLinkNest "EdgefloatsLaw" (13 : Nat) "EdgefloatsLaw$Out" "n" "J" "EdgefloatsLaw") ∈ lw_tbl := lw_at lw_m3 195 rfl
theorem q709 : (Jvm.Cond.fieldLinkNest "EdgefloatsLaw" (63 : Nat) "EdgefloatsLaw$Out" "s" "Ljava/lang/String;" "EdgefloatsLaw") ∈ lw_tbl := lw_at lw_m3 196 rfl
theorem q715 : (Jvm.Cond.methodLink "EdgefloatsLaw" (176 : Nat) ({ cls := "EdgefloatsLaw", name := "putWide", desc := "(LEdgefloats;IIILEdgefloatsLaw$Out;)I" } : Jvm.MethodName)) ∈ lw_all := lw_g (lw_at lw_m3 202 rfl) rfl
theorem q716 : (Jvm.Cond.static ({ cls := "EdgefloatsLaw", name := "putWide", desc := "(LEdgefloats;IIILEdgefloatsLaw$Out;)I" } : Jvm.MethodName)) ∈ lw_all := lw_g (lw_at lw_m3 203 rfl) rfl
theorem q717 : (Jvm.Cond.codeWith ({ cls := "EdgefloatsLaw", name := "putWide", desc := "(LEdgefloats;IIILEdgefloatsLaw$Out;)I" } : Jvm.MethodName) method_2_code (6 : Nat) (Option.some Jvm.ClassFile.FieldType.int) [((0 : Nat), (13 : Nat), (16 : Nat), (19 : Nat))]) ∈ lw_all := lw_g (lw_at lw_m3 204 rfl) rfl
theorem q718 : (Jvm.Cond.classLink "EdgefloatsLaw" (19 : Nat) "java/lang/IndexOutOfBoundsException") ∈ lw_all := lw_g (lw_at lw_m3 205 rfl) rfl
theorem q751 : (Jvm.Cond.methodLink "EdgefloatsLaw" (7 : Nat) ({ cls := "Edgefloats", name := "putWide", desc := "(III)I" } : Jvm.MethodName)) ∈ lw_all := lw_g (lw_at lw_m3 238 rfl) rfl
theorem q767 : (Jvm.Cond.methodLink "EdgefloatsLaw" (186 : Nat) ({ cls := "EdgefloatsLaw", name := "wideQuarters", desc := "(LEdgefloats;IILEdgefloatsLaw$Out;)I" } : Jvm.MethodName)) ∈ lw_all := lw_g (lw_at lw_m4 14 rfl) rfl
theorem q768 : (Jvm.Cond.static ({ cls := "EdgefloatsLaw", name := "wideQuarters", desc := "(LEdgefloats;IILEdgefloatsLaw$Out;)I" } : Jvm.MethodName)) ∈ lw_all := lw_g (lw_at lw_m4 15 rfl) rfl
theorem q769 : (Jvm.Cond.codeWith ({ cls := "EdgefloatsLaw", name := "wideQuarters", desc := "(LEdgefloats;IILEdgefloatsLaw$Out;)I" } : Jvm.MethodName) method_3_code (5 : Nat) (Option.some Jvm.ClassFile.FieldType.int) [((0 : Nat), (11 : Nat), (14 : Nat), (19 : Nat)), ((0 : Nat), (11 : Nat), (18 : Nat), (25 : Nat))]) ∈ lw_all := lw_g (lw_at lw_m4 16 rfl) rfl
theorem q770 : (Jvm.Cond.classLink "EdgefloatsLaw" (25 : Nat) "java/lang/IllegalArgumentException") ∈ lw_all := lw_g (lw_at lw_m4 17 rfl) rfl
theorem q771 : (Jvm.Cond.methodLink "EdgefloatsLaw" (21 : Nat) ({ cls := "Edgefloats", name := "wideQuarters", desc := "(II)I" } : Jvm.MethodName)) ∈ lw_all := lw_g (lw_at lw_m4 18 rfl) rfl
theorem q778 : (Jvm.Cond.methodLink "EdgefloatsLaw" (190 : Nat) ({ cls := "EdgefloatsLaw", name := "wideKnown", desc := "(LEdgefloats;IILEdgefloatsLaw$Out;)I" } : Jvm.MethodName)) ∈ lw_all := lw_g (lw_at lw_m4 25 rfl) rfl
theorem q779 : (Jvm.Cond.static ({ cls := "EdgefloatsLaw", name := "wideKnown", desc := "(LEdgefloats;IILEdgefloatsLaw$Out;)I" } : Jvm.MethodName)) ∈ lw_all := lw_g (lw_at lw_m4 26 rfl) rfl
theorem q780 : (Jvm.Cond.codeWith ({ cls := "EdgefloatsLaw", name := "wideKnown", desc := "(LEdgefloats;IILEdgefloatsLaw$Out;)I" } : Jvm.MethodName) method_4_code (5 : Nat) (Option.some Jvm.ClassFile.FieldType.int) [((0 : Nat), (11 : Nat), (14 : Nat), (19 : Nat)), ((0 : Nat), (11 : Nat), (18 : Nat), (25 : Nat))]) ∈ lw_all := lw_g (lw_at lw_m4 27 rfl) rfl
theorem q781 : (Jvm.Cond.methodLink "EdgefloatsLaw" (27 : Nat) ({ cls := "Edgefloats", name := "wideKnown", desc := "(II)I" } : Jvm.MethodName)) ∈ lw_all := lw_g (lw_at lw_m4 28 rfl) rfl
theorem q794 : (Jvm.Cond.methodLink "EdgefloatsLaw" (193 : Nat) ({ cls := "EdgefloatsLaw", name := "wideCopy", desc := "(LEdgefloats;IILEdgefloatsLaw$Out;)I" } : Jvm.MethodName)) ∈ lw_all := lw_g (lw_at lw_m4 41 rfl) rfl
theorem q795 : (Jvm.Cond.static ({ cls := "EdgefloatsLaw", name := "wideCopy", desc := "(LEdgefloats;IILEdgefloatsLaw$Out;)I" } : Jvm.MethodName)) ∈ lw_all := lw_g (lw_at lw_m4 42 rfl) rfl
theorem q796 : (Jvm.Cond.codeWith ({ cls := "EdgefloatsLaw", name := "wideCopy", desc := "(LEdgefloats;IILEdgefloatsLaw$Out;)I" } : Jvm.MethodName) method_5_code (5 : Nat) (Option.some Jvm.ClassFile.FieldType.int) [((0 : Nat), (11 : Nat), (14 : Nat), (19 : Nat))]) ∈ lw_all := lw_g (lw_at lw_m4 43 rfl) rfl
theorem q797 : (Jvm.Cond.methodLink "EdgefloatsLaw" (30 : Nat) ({ cls := "Edgefloats", name := "wideCopy", desc := "(II)I" } : Jvm.MethodName)) ∈ lw_all := lw_g (lw_at lw_m4 44 rfl) rfl
theorem q801 : (Jvm.Cond.methodLink "EdgefloatsLaw" (196 : Nat) ({ cls := "EdgefloatsLaw", name := "wideSwap", desc := "(LEdgefloats;IILEdgefloatsLaw$Out;)I" } : Jvm.MethodName)) ∈ lw_all := lw_g (lw_at lw_m4 48 rfl) rfl
theorem q802 : (Jvm.Cond.static ({ cls := "EdgefloatsLaw", name := "wideSwap", desc := "(LEdgefloats;IILEdgefloatsLaw$Out;)I" } : Jvm.MethodName)) ∈ lw_all := lw_g (lw_at lw_m4 49 rfl) rfl
theorem q803 : (Jvm.Cond.codeWith ({ cls := "EdgefloatsLaw", name := "wideSwap", desc := "(LEdgefloats;IILEdgefloatsLaw$Out;)I" } : Jvm.MethodName) method_6_code (5 : Nat) (Option.some Jvm.ClassFile.FieldType.int) [((0 : Nat), (11 : Nat), (14 : Nat), (19 : Nat))]) ∈ lw_all := lw_g (lw_at lw_m4 50 rfl) rfl
theorem q804 : (Jvm.Cond.methodLink "EdgefloatsLaw" (33 : Nat) ({ cls := "Edgefloats", name := "wideSwap", desc := "(II)I" } : Jvm.MethodName)) ∈ lw_all := lw_g (lw_at lw_m4 51 rfl) rfl
theorem q808 : (Jvm.Cond.methodLink "EdgefloatsLaw" (199 : Nat) ({ cls := "EdgefloatsLaw", name := "wideMax", desc := "(LEdgefloats;IIILEdgefloatsLaw$Out;)I" } : Jvm.MethodName)) ∈ lw_all := lw_g (lw_at lw_m4 55 rfl) rfl
theorem q809 : (Jvm.Cond.static ({ cls := "EdgefloatsLaw", name := "wideMax", desc := "(LEdgefloats;IIILEdgefloatsLaw$Out;)I" } : Jvm.MethodName)) ∈ lw_all := lw_g (lw_at lw_m4 56 rfl) rfl
theorem q810 : (Jvm.Cond.codeWith ({ cls := "EdgefloatsLaw", name := "wideMax", desc := "(LEdgefloats;IIILEdgefloatsLaw$Out;)I" } : Jvm.MethodName) method_7_code (6 : Nat) (Option.some Jvm.ClassFile.FieldType.int) [((0 : Nat), (13 : Nat), (16 : Nat), (19 : Nat))]) ∈ lw_all := lw_g (lw_at lw_m4 57 rfl) rfl
theorem q811 : (Jvm.Cond.methodLink "EdgefloatsLaw" (36 : Nat) ({ cls := "Edgefloats", name := "wideMax", desc := "(III)I" } : Jvm.MethodName)) ∈ lw_all := lw_g (lw_at lw_m4 58 rfl) rfl
theorem q815 : (Jvm.Cond.methodLink "EdgefloatsLaw" (202 : Nat) ({ cls := "EdgefloatsLaw", name := "wideMin", desc := "(LEdgefloats;IIILEdgefloatsLaw$Out;)I" } : Jvm.MethodName)) ∈ lw_all := lw_g (lw_at lw_m4 62 rfl) rfl
theorem q816 : (Jvm.Cond.static ({ cls := "EdgefloatsLaw", name := "wideMin", desc := "(LEdgefloats;IIILEdgefloatsLaw$Out;)I" } : Jvm.MethodName)) ∈ lw_all := lw_g (lw_at lw_m4 63 rfl) rfl
theorem q817 : (Jvm.Cond.codeWith ({ cls := "EdgefloatsLaw", name := "wideMin", desc := "(LEdgefloats;IIILEdgefloatsLaw$Out;)I" } : Jvm.MethodName) method_8_code (6 : Nat) (Option.some Jvm.ClassFile.FieldType.int) [((0 : Nat), (13 : Nat), (16 : Nat), (19 : Nat))]) ∈ lw_all := lw_g (lw_at lw_m4 64 rfl) rfl
theorem q818 : (Jvm.Cond.methodLink "EdgefloatsLaw" (39 : Nat) ({ cls := "Edgefloats", name := "wideMin", desc := "(III)I" } : Jvm.MethodName)) ∈ lw_all := lw_g (lw_at lw_m4 65 rfl) rfl
theorem q822 : (Jvm.Cond.methodLink "EdgefloatsLaw" (205 : Nat) ({ cls := "EdgefloatsLaw", name := "wideSum", desc := "(LEdgefloats;IIILEdgefloatsLaw$Out;)I" } : Jvm.MethodName)) ∈ lw_all := lw_g (lw_at lw_m4 69 rfl) rfl
theorem q823 : (Jvm.Cond.static ({ cls := "EdgefloatsLaw", name := "wideSum", desc := "(LEdgefloats;IIILEdgefloatsLaw$Out;)I" } : Jvm.MethodName)) ∈ lw_all := lw_g (lw_at lw_m4 70 rfl) rfl
theorem q824 : (Jvm.Cond.codeWith ({ cls := "EdgefloatsLaw", name := "wideSum", desc := "(LEdgefloats;IIILEdgefloatsLaw$Out;)I" } : Jvm.MethodName) method_9_code (6 : Nat) (Option.some Jvm.ClassFile.FieldType.int) [((0 : Nat), (13 : Nat), (16 : Nat), (19 : Nat))]) ∈ lw_all := lw_g (lw_at lw_m4 71 rfl) rfl
theorem q825 : (Jvm.Cond.methodLink "EdgefloatsLaw" (42 : Nat) ({ cls := "Edgefloats", name := "wideSum", desc := "(III)I" } : Jvm.MethodName)) ∈ lw_all := lw_g (lw_at lw_m4 72 rfl) rfl
theorem q851 : (Jvm.Cond.methodLink "EdgefloatsLaw" (208 : Nat) ({ cls := "EdgefloatsLaw", name := "wideSort", desc := "(LEdgefloats;ILEdgefloatsLaw$Out;)I" } : Jvm.MethodName)) ∈ lw_all := lw_g (lw_at lw_m4 98 rfl) rfl
theorem q852 : (Jvm.Cond.static ({ cls := "EdgefloatsLaw", name := "wideSort", desc := "(LEdgefloats;ILEdgefloatsLaw$Out;)I" } : Jvm.MethodName)) ∈ lw_all := lw_g (lw_at lw_m4 99 rfl) rfl
theorem q853 : (Jvm.Cond.codeWith ({ cls := "EdgefloatsLaw", name := "wideSort", desc := "(LEdgefloats;ILEdgefloatsLaw$Out;)I" } : Jvm.MethodName) method_10_code (4 : Nat) (Option.some Jvm.ClassFile.FieldType.int) [((0 : Nat), (10 : Nat), (13 : Nat), (25 : Nat))]) ∈ lw_all := lw_g (lw_at lw_m4 100 rfl) rfl
theorem q854 : (Jvm.Cond.methodLink "EdgefloatsLaw" (45 : Nat) ({ cls := "Edgefloats", name := "wideSort", desc := "(I)I" } : Jvm.MethodName)) ∈ lw_all := lw_g (lw_at lw_m4 101 rfl) rfl
theorem q909 : (Jvm.Cond.methodLink "EdgefloatsLaw" (212 : Nat) ({ cls := "EdgefloatsLaw", name := "wideEnd", desc := "(LEdgefloats;ZILEdgefloatsLaw$Out;)I" } : Jvm.MethodName)) ∈ lw_all := lw_g (lw_at lw_m4 156 rfl) rfl
theorem q910 : (Jvm.Cond.static ({ cls := "EdgefloatsLaw", name := "wideEnd", desc := "(LEdgefloats;ZILEdgefloatsLaw$Out;)I" } : Jvm.MethodName)) ∈ lw_all := lw_g (lw_at lw_m4 157 rfl) rfl
theorem q911 : (Jvm.Cond.codeWith ({ cls := "EdgefloatsLaw", name := "wideEnd", desc := "(LEdgefloats;ZILEdgefloatsLaw$Out;)I" } : Jvm.MethodName) method_11_code (5 : Nat) (Option.some Jvm.ClassFile.FieldType.int) [((0 : Nat), (11 : Nat), (14 : Nat), (19 : Nat))]) ∈ lw_all := lw_g (lw_at lw_m4 158 rfl) rfl
theorem q912 : (Jvm.Cond.methodLink "EdgefloatsLaw" (49 : Nat) ({ cls := "Edgefloats", name := "wideEnd", desc := "(ZI)I" } : Jvm.MethodName)) ∈ lw_all := lw_g (lw_at lw_m4 159 rfl) rfl
theorem q916 : (Jvm.Cond.methodLink "EdgefloatsLaw" (216 : Nat) ({ cls := "EdgefloatsLaw", name := "upper", desc := "(LEdgefloats;ILEdgefloatsLaw$Out;)I" } : Jvm.MethodName)) ∈ lw_all := lw_g (lw_at lw_m4 163 rfl) rfl
theorem q917 : (Jvm.Cond.static ({ cls := "EdgefloatsLaw", name := "upper", desc := "(LEdgefloats;ILEdgefloatsLaw$Out;)I" } : Jvm.MethodName)) ∈ lw_all := lw_g (lw_at lw_m4 164 rfl) rfl
theorem q918 : (Jvm.Cond.codeWith ({ cls := "EdgefloatsLaw", name := "upper", desc := "(LEdgefloats;ILEdgefloatsLaw$Out;)I" } : Jvm.MethodName) method_12_code (4 : Nat) (Option.some Jvm.ClassFile.FieldType.int) [((0 : Nat), (10 : Nat), (13 : Nat), (19 : Nat))]) ∈ lw_all := lw_g (lw_at lw_m4 165 rfl) rfl
theorem q919 : (Jvm.Cond.methodLink "EdgefloatsLaw" (53 : Nat) ({ cls := "Edgefloats", name := "upper", desc := "(I)I" } : Jvm.MethodName)) ∈ lw_all := lw_g (lw_at lw_m4 166 rfl) rfl
theorem q920 : (Jvm.Cond.methodLink "EdgefloatsLaw" (219 : Nat) ({ cls := "EdgefloatsLaw", name := "lower", desc := "(LEdgefloats;ILEdgefloatsLaw$Out;)I" } : Jvm.MethodName)) ∈ lw_all := lw_g (lw_at lw_m4 167 rfl) rfl
theorem q921 : (Jvm.Cond.static ({ cls := "EdgefloatsLaw", name := "lower", desc := "(LEdgefloats;ILEdgefloatsLaw$Out;)I" } : Jvm.MethodName)) ∈ lw_all := lw_g (lw_at lw_m4 168 rfl) rfl
theorem q922 : (Jvm.Cond.codeWith ({ cls := "EdgefloatsLaw", name := "lower", desc := "(LEdgefloats;ILEdgefloatsLaw$Out;)I" } : Jvm.MethodName) method_13_code (4 : Nat) (Option.some Jvm.ClassFile.FieldType.int) [((0 : Nat), (10 : Nat), (13 : Nat), (19 : Nat))]) ∈ lw_all := lw_g (lw_at lw_m4 169 rfl) rfl
theorem q923 : (Jvm.Cond.methodLink "EdgefloatsLaw" (56 : Nat) ({ cls := "Edgefloats", name := "lower", desc := "(I)I" } : Jvm.MethodName)) ∈ lw_all := lw_g (lw_at lw_m4 170 rfl) rfl
theorem q924 : (Jvm.Cond.methodLink "EdgefloatsLaw" (222 : Nat) ({ cls := "EdgefloatsLaw", name := "wideText", desc := "(LEdgefloats;ILEdgefloatsLaw$Out;)I" } : Jvm.MethodName)) ∈ lw_all := lw_g (lw_at lw_m4 171 rfl) rfl
theorem q925 : (Jvm.Cond.static ({ cls := "EdgefloatsLaw", name := "wideText", desc := "(LEdgefloats;ILEdgefloatsLaw$Out;)I" } : Jvm.MethodName)) ∈ lw_all := lw_g (lw_at lw_m4 172 rfl) rfl
theorem q926 : (Jvm.Cond.codeWith ({ cls := "EdgefloatsLaw", name := "wideText", desc := "(LEdgefloats;ILEdgefloatsLaw$Out;)I" } : Jvm.MethodName) method_14_code (4 : Nat) (Option.some Jvm.ClassFile.FieldType.int) [((0 : Nat), (9 : Nat), (12 : Nat), (19 : Nat))]) ∈ lw_all := lw_g (lw_at lw_m4 173 rfl) rfl
theorem q927 : (Jvm.Cond.methodLink "EdgefloatsLaw" (59 : Nat) ({ cls := "Edgefloats", name := "wideText", desc := "(I)Ljava/lang/String;" } : Jvm.MethodName)) ∈ lw_all := lw_g (lw_at lw_m4 174 rfl) rfl
theorem q1183 : (Jvm.Cond.methodLink "EdgefloatsLaw" (231 : Nat) ({ cls := "EdgefloatsLaw", name := "wideOrder", desc := "(LEdgefloats;IIILEdgefloatsLaw$Out;)I" } : Jvm.MethodName)) ∈ lw_all := lw_g (lw_at lw_m5 190 rfl) rfl
theorem q1184 : (Jvm.Cond.static ({ cls := "EdgefloatsLaw", name := "wideOrder", desc := "(LEdgefloats;IIILEdgefloatsLaw$Out;)I" } : Jvm.MethodName)) ∈ lw_all := lw_g (lw_at lw_m5 191 rfl) rfl
theorem q1185 : (Jvm.Cond.codeWith ({ cls := "EdgefloatsLaw", name := "wideOrder", desc := "(LEdgefloats;IIILEdgefloatsLaw$Out;)I" } : Jvm.MethodName) method_15_code (6 : Nat) (Option.some Jvm.ClassFile.FieldType.int) [((0 : Nat), (13 : Nat), (16 : Nat), (19 : Nat)), ((0 : Nat), (13 : Nat), (20 : Nat), (25 : Nat))]) ∈ lw_all := lw_g (lw_at lw_m5 192 rfl) rfl
theorem q1186 : (Jvm.Cond.methodLink "EdgefloatsLaw" (67 : Nat) ({ cls := "Edgefloats", name := "wideOrder", desc := "(III)I" } : Jvm.MethodName)) ∈ lw_all := lw_g (lw_at lw_m5 193 rfl) rfl
theorem q1187 : (Jvm.Cond.methodLink "EdgefloatsLaw" (234 : Nat) ({ cls := "EdgefloatsLaw", name := "wideSame", desc := "(LEdgefloats;IIILEdgefloatsLaw$Out;)I" } : Jvm.MethodName)) ∈ lw_all := lw_g (lw_at lw_m5 194 rfl) rfl
theorem q1188 : (Jvm.Cond.static ({ cls := "EdgefloatsLaw", name := "wideSame", desc := "(LEdgefloats;IIILEdgefloatsLaw$Out;)I" } : Jvm.MethodName)) ∈ lw_all := lw_g (lw_at lw_m5 195 rfl) rfl
theorem q1189 : (Jvm.Cond.codeWith ({ cls := "EdgefloatsLaw", name := "wideSame", desc := "(LEdgefloats;IIILEdgefloatsLaw$Out;)I" } : Jvm.MethodName) method_16_code (6 : Nat) (Option.some Jvm.ClassFile.FieldType.int) [((0 : Nat), (20 : Nat), (23 : Nat), (19 : Nat)), ((0 : Nat), (20 : Nat), (27 : Nat), (25 : Nat))]) ∈ lw_all := lw_g (lw_at lw_m5 196 rfl) rfl
theorem q1190 : (Jvm.Cond.methodLink "EdgefloatsLaw" (70 : Nat) ({ cls := "Edgefloats", name := "wideSame", desc := "(III)Z" } : Jvm.MethodName)) ∈ lw_all := lw_g (lw_at lw_m5 197 rfl) rfl
theorem q1227 : (Jvm.Cond.methodLink "EdgefloatsLaw" (237 : Nat) ({ cls := "EdgefloatsLaw", name := "wideOther", desc := "(LEdgefloats;IILEdgefloatsLaw$Out;)I" } : Jvm.MethodName)) ∈ lw_all := lw_g (lw_at lw_m5 234 rfl) rfl
theorem q1228 : (Jvm.Cond.static ({ cls := "EdgefloatsLaw", name := "wideOther", desc := "(LEdgefloats;IILEdgefloatsLaw$Out;)I" } : Jvm.MethodName)) ∈ lw_all := lw_g (lw_at lw_m5 235 rfl) rfl
theorem q1229 : (Jvm.Cond.codeWith ({ cls := "EdgefloatsLaw", name := "wideOther", desc := "(LEdgefloats;IILEdgefloatsLaw$Out;)I" } : Jvm.MethodName) method_17_code (5 : Nat) (Option.some Jvm.ClassFile.FieldType.int) [((0 : Nat), (18 : Nat), (21 : Nat), (19 : Nat)), ((0 : Nat), (18 : Nat), (25 : Nat), (25 : Nat))]) ∈ lw_all := lw_g (lw_at lw_m5 236 rfl) rfl
theorem q1230 : (Jvm.Cond.methodLink "EdgefloatsLaw" (74 : Nat) ({ cls := "Edgefloats", name := "wideOther", desc := "(II)Z" } : Jvm.MethodName)) ∈ lw_all := lw_g (lw_at lw_m5 237 rfl) rfl
theorem q1252 : (Jvm.Cond.methodLink "EdgefloatsLaw" (240 : Nat) ({ cls := "EdgefloatsLaw", name := "wideLike", desc := "(LEdgefloats;IILEdgefloatsLaw$Out;)I" } : Jvm.MethodName)) ∈ lw_all := lw_g (lw_at lw_m6 19 rfl) rfl
theorem q1253 : (Jvm.Cond.static ({ cls := "EdgefloatsLaw", name := "wideLike", desc := "(LEdgefloats;IILEdgefloatsLaw$Out;)I" } : Jvm.MethodName)) ∈ lw_all := lw_g (lw_at lw_m6 20 rfl) rfl
theorem q1254 : (Jvm.Cond.codeWith ({ cls := "EdgefloatsLaw", name := "wideLike", desc := "(LEdgefloats;IILEdgefloatsLaw$Out;)I" } : Jvm.MethodName) method_18_code (5 : Nat) (Option.some Jvm.ClassFile.FieldType.int) [((0 : Nat), (18 : Nat), (21 : Nat), (19 : Nat))]) ∈ lw_all := lw_g (lw_at lw_m6 21 rfl) rfl
theorem q1255 : (Jvm.Cond.methodLink "EdgefloatsLaw" (78 : Nat) ({ cls := "Edgefloats", name := "wideLike", desc := "(II)Z" } : Jvm.MethodName)) ∈ lw_all := lw_g (lw_at lw_m6 22 rfl) rfl
theorem q1256 : (Jvm.Cond.methodLink "EdgefloatsLaw" (243 : Nat) ({ cls := "EdgefloatsLaw", name := "wideBelow", desc := "(LEdgefloats;IIZLEdgefloatsLaw$Out;)I" } : Jvm.MethodName)) ∈ lw_all := lw_g (lw_at lw_m6 23 rfl) rfl
theorem q1257 : (Jvm.Cond.static ({ cls := "EdgefloatsLaw", name := "wideBelow", desc := "(LEdgefloats;IIZLEdgefloatsLaw$Out;)I" } : Jvm.MethodName)) ∈ lw_all := lw_g (lw_at lw_m6 24 rfl) rfl
theorem q1258 : (Jvm.Cond.codeWith ({ cls := "EdgefloatsLaw", name := "wideBelow", desc := "(LEdgefloats;IIZLEdgefloatsLaw$Out;)I" } : Jvm.MethodName) method_19_code (6 : Nat) (Option.some Jvm.ClassFile.FieldType.int) [((0 : Nat), (20 : Nat), (23 : Nat), (19 : Nat))]) ∈ lw_all := lw_g (lw_at lw_m6 25 rfl) rfl
theorem q1259 : (Jvm.Cond.methodLink "EdgefloatsLaw" (81 : Nat) ({ cls := "Edgefloats", name := "wideBelow", desc := "(IIZ)Z" } : Jvm.MethodName)) ∈ lw_all := lw_g (lw_at lw_m6 26 rfl) rfl
theorem q1260 : (Jvm.Cond.methodLink "EdgefloatsLaw" (247 : Nat) ({ cls := "EdgefloatsLaw", name := "wideHash", desc := "(LEdgefloats;IILEdgefloatsLaw$Out;)I" } : Jvm.MethodName)) ∈ lw_all := lw_g (lw_at lw_m6 27 rfl) rfl
theorem q1261 : (Jvm.Cond.static ({ cls := "EdgefloatsLaw", name := "wideHash", desc := "(LEdgefloats;IILEdgefloatsLaw$Out;)I" } : Jvm.MethodName)) ∈ lw_all := lw_g (lw_at lw_m6 28 rfl) rfl
theorem q1262 : (Jvm.Cond.codeWith ({ cls := "EdgefloatsLaw", name := "wideHash", desc := "(LEdgefloats;IILEdgefloatsLaw$Out;)I" } : Jvm.MethodName) method_20_code (5 : Nat) (Option.some Jvm.ClassFile.FieldType.int) [((0 : Nat), (11 : Nat), (14 : Nat), (19 : Nat)), ((0 : Nat), (11 : Nat), (18 : Nat), (25 : Nat))]) ∈ lw_all := lw_g (lw_at lw_m6 29 rfl) rfl
theorem q1263 : (Jvm.Cond.methodLink "EdgefloatsLaw" (85 : Nat) ({ cls := "Edgefloats", name := "wideHash", desc := "(II)I" } : Jvm.MethodName)) ∈ lw_all := lw_g (lw_at lw_m6 30 rfl) rfl
theorem q1264 : (Jvm.Cond.methodLink "EdgefloatsLaw" (250 : Nat) ({ cls := "EdgefloatsLaw", name := "wideEndless", desc := "(LEdgefloats;IILEdgefloatsLaw$Out;)I" } : Jvm.MethodName)) ∈ lw_all := lw_g (lw_at lw_m6 31 rfl) rfl
theorem q1265 : (Jvm.Cond.static ({ cls := "EdgefloatsLaw", name := "wideEndless", desc := "(LEdgefloats;IILEdgefloatsLaw$Out;)I" } : Jvm.MethodName)) ∈ lw_all := lw_g (lw_at lw_m6 32 rfl) rfl
theorem q1266 : (Jvm.Cond.codeWith ({ cls := "EdgefloatsLaw", name := "wideEndless", desc := "(LEdgefloats;IILEdgefloatsLaw$Out;)I" } : Jvm.MethodName) method_21_code (5 : Nat) (Option.some Jvm.ClassFile.FieldType.int) [((0 : Nat), (18 : Nat), (21 : Nat), (19 : Nat)), ((0 : Nat), (18 : Nat), (25 : Nat), (25 : Nat))]) ∈ lw_all := lw_g (lw_at lw_m6 33 rfl) rfl
theorem q1267 : (Jvm.Cond.methodLink "EdgefloatsLaw" (88 : Nat) ({ cls := "Edgefloats", name := "wideEndless", desc := "(II)Z" } : Jvm.MethodName)) ∈ lw_all := lw_g (lw_at lw_m6 34 rfl) rfl
theorem q1275 : (Jvm.Cond.methodLink "EdgefloatsLaw" (253 : Nat) ({ cls := "EdgefloatsLaw", name := "wideCount", desc := "(LEdgefloats;ILEdgefloatsLaw$Out;)I" } : Jvm.MethodName)) ∈ lw_all := lw_g (lw_at lw_m6 42 rfl) rfl
theorem q1276 : (Jvm.Cond.static ({ cls := "EdgefloatsLaw", name := "wideCount", desc := "(LEdgefloats;ILEdgefloatsLaw$Out;)I" } : Jvm.MethodName)) ∈ lw_all := lw_g (lw_at lw_m6 43 rfl) rfl
theorem q1277 : (Jvm.Cond.codeWith ({ cls := "EdgefloatsLaw", name := "wideCount", desc := "(LEdgefloats;ILEdgefloatsLaw$Out;)I" } : Jvm.MethodName) method_22_code (4 : Nat) (Option.some Jvm.ClassFile.FieldType.int) [((0 : Nat), (10 : Nat), (13 : Nat), (19 : Nat))]) ∈ lw_all := lw_g (lw_at lw_m6 44 rfl) rfl
theorem q1278 : (Jvm.Cond.methodLink "EdgefloatsLaw" (91 : Nat) ({ cls := "Edgefloats", name := "wideCount", desc := "(I)I" } : Jvm.MethodName)) ∈ lw_all := lw_g (lw_at lw_m6 45 rfl) rfl
theorem q1279 : (Jvm.Cond.methodLink "EdgefloatsLaw" (256 : Nat) ({ cls := "EdgefloatsLaw", name := "wideFind", desc := "(LEdgefloats;IZLEdgefloatsLaw$Out;)I" } : Jvm.MethodName)) ∈ lw_all := lw_g (lw_at lw_m6 46 rfl) rfl
theorem q1280 : (Jvm.Cond.static ({ cls := "EdgefloatsLaw", name := "wideFind", desc := "(LEdgefloats;IZLEdgefloatsLaw$Out;)I" } : Jvm.MethodName)) ∈ lw_all := lw_g (lw_at lw_m6 47 rfl) rfl
theorem q1281 : (Jvm.Cond.codeWith ({ cls := "EdgefloatsLaw", name := "wideFind", desc := "(LEdgefloats;IZLEdgefloatsLaw$Out;)I" } : Jvm.MethodName) method_23_code (5 : Nat) (Option.some Jvm.ClassFile.FieldType.int) [((0 : Nat), (11 : Nat), (14 : Nat), (19 : Nat))]) ∈ lw_all := lw_g (lw_at lw_m6 48 rfl) rfl
theorem q1282 : (Jvm.Cond.methodLink "EdgefloatsLaw" (94 : Nat) ({ cls := "Edgefloats", name := "wideFind", desc := "(IZ)I" } : Jvm.MethodName)) ∈ lw_all := lw_g (lw_at lw_m6 49 rfl) rfl
theorem q1283 : (Jvm.Cond.methodLink "EdgefloatsLaw" (260 : Nat) ({ cls := "EdgefloatsLaw", name := "wideHas", desc := "(LEdgefloats;ILEdgefloatsLaw$Out;)I" } : Jvm.MethodName)) ∈ lw_all := lw_g (lw_at lw_m6 50 rfl) rfl
theorem q1284 : (Jvm.Cond.static ({ cls := "EdgefloatsLaw", name := "wideHas", desc := "(LEdgefloats;ILEdgefloatsLaw$Out;)I" } : Jvm.MethodName)) ∈ lw_all := lw_g (lw_at lw_m6 51 rfl) rfl
theorem q1285 : (Jvm.Cond.codeWith ({ cls := "EdgefloatsLaw", name := "wideHas", desc := "(LEdgefloats;ILEdgefloatsLaw$Out;)I" } : Jvm.MethodName) method_24_code (4 : Nat) (Option.some Jvm.ClassFile.FieldType.int) [((0 : Nat), (17 : Nat), (20 : Nat), (25 : Nat))]) ∈ lw_all := lw_g (lw_at lw_m6 52 rfl) rfl
theorem q1286 : (Jvm.Cond.methodLink "EdgefloatsLaw" (98 : Nat) ({ cls := "Edgefloats", name := "wideHas", desc := "(I)Z" } : Jvm.MethodName)) ∈ lw_all := lw_g (lw_at lw_m6 53 rfl) rfl
theorem q1290 : (Jvm.Cond.methodLink "EdgefloatsLaw" (263 : Nat) ({ cls := "EdgefloatsLaw", name := "putNarrow", desc := "(LEdgefloats;IILEdgefloatsLaw$Out;)I" } : Jvm.MethodName)) ∈ lw_all := lw_g (lw_at lw_m6 57 rfl) rfl
theorem q1291 : (Jvm.Cond.static ({ cls := "EdgefloatsLaw", name := "putNarrow", desc := "(LEdgefloats;IILEdgefloatsLaw$Out;)I" } : Jvm.MethodName)) ∈ lw_all := lw_g (lw_at lw_m6 58 rfl) rfl
theorem q1292 : (Jvm.Cond.codeWith ({ cls := "EdgefloatsLaw", name := "putNarrow", desc := "(LEdgefloats;IILEdgefloatsLaw$Out;)I" } : Jvm.MethodName) method_25_code (5 : Nat) (Option.some Jvm.ClassFile.FieldType.int) [((0 : Nat), (11 : Nat), (14 : Nat), (19 : Nat))]) ∈ lw_all := lw_g (lw_at lw_m6 59 rfl) rfl
theorem q1293 : (Jvm.Cond.methodLink "EdgefloatsLaw" (102 : Nat) ({ cls := "Edgefloats", name := "putNarrow", desc := "(II)I" } : Jvm.MethodName)) ∈ lw_all := lw_g (lw_at lw_m6 60 rfl) rfl
theorem q1304 : (Jvm.Cond.methodLink "EdgefloatsLaw" (266 : Nat) ({ cls := "EdgefloatsLaw", name := "narrowQuarters", desc := "(LEdgefloats;IILEdgefloatsLaw$Out;)I" } : Jvm.MethodName)) ∈ lw_all := lw_g (lw_at lw_m6 71 rfl) rfl
theorem q1305 : (Jvm.Cond.static ({ cls := "EdgefloatsLaw", name := "narrowQuarters", desc := "(LEdgefloats;IILEdgefloatsLaw$Out;)I" } : Jvm.MethodName)) ∈ lw_all := lw_g (lw_at lw_m6 72 rfl) rfl
theorem q1306 : (Jvm.Cond.codeWith ({ cls := "EdgefloatsLaw", name := "narrowQuarters", desc := "(LEdgefloats;IILEdgefloatsLaw$Out;)I" } : Jvm.MethodName) method_26_code (5 : Nat) (Option.some Jvm.ClassFile.FieldType.int) [((0 : Nat), (11 : Nat), (14 : Nat), (19 : Nat)), ((0 : Nat), (11 : Nat), (18 : Nat), (25 : Nat))]) ∈ lw_all := lw_g (lw_at lw_m6 73 rfl) rfl
theorem q1307 : (Jvm.Cond.methodLink "EdgefloatsLaw" (105 : Nat) ({ cls := "Edgefloats", name := "narrowQuarters", desc := "(II)I" } : Jvm.MethodName)) ∈ lw_all := lw_g (lw_at lw_m6 74 rfl) rfl
theorem q1313 : (Jvm.Cond.methodLink "EdgefloatsLaw" (269 : Nat) ({ cls := "EdgefloatsLaw", name := "narrowKnown", desc := "(LEdgefloats;IILEdgefloatsLaw$Out;)I" } : Jvm.MethodName)) ∈ lw_all := lw_g (lw_at lw_m6 80 rfl) rfl
theorem q1314 : (Jvm.Cond.static ({ cls := "EdgefloatsLaw", name := "narrowKnown", desc := "(LEdgefloats;IILEdgefloatsLaw$Out;)I" } : Jvm.MethodName)) ∈ lw_all := lw_g (lw_at lw_m6 81 rfl) rfl
theorem q1315 : (Jvm.Cond.codeWith ({ cls := "EdgefloatsLaw", name := "narrowKnown", desc := "(LEdgefloats;IILEdgefloatsLaw$Out;)I" } : Jvm.MethodName) method_27_code (5 : Nat) (Option.some Jvm.ClassFile.FieldType.int) [((0 : Nat), (11 : Nat), (14 : Nat), (19 : Nat)), ((0 : Nat), (11 : Nat), (18 : Nat), (25 : Nat))]) ∈ lw_all := lw_g (lw_at lw_m6 82 rfl) rfl
theorem q1316 : (Jvm.Cond.methodLink "EdgefloatsLaw" (108 : Nat) ({ cls := "Edgefloats", name := "narrowKnown", desc := "(II)I" } : Jvm.MethodName)) ∈ lw_all := lw_g (lw_at lw_m6 83 rfl) rfl
theorem q1329 : (Jvm.Cond.methodLink "EdgefloatsLaw" (272 : Nat) ({ cls := "EdgefloatsLaw", name := "narrowCopy", desc := "(LEdgefloats;IILEdgefloatsLaw$Out;)I" } : Jvm.MethodName)) ∈ lw_all := lw_g (lw_at lw_m6 96 rfl) rfl
theorem q1330 : (Jvm.Cond.static ({ cls := "EdgefloatsLaw", name := "narrowCopy", desc := "(LEdgefloats;IILEdgefloatsLaw$Out;)I" } : Jvm.MethodName)) ∈ lw_all := lw_g (lw_at lw_m6 97 rfl) rfl
theorem q1331 : (Jvm.Cond.codeWith ({ cls := "EdgefloatsLaw", name := "narrowCopy", desc := "(LEdgefloats;IILEdgefloatsLaw$Out;)I" } : Jvm.MethodName) method_28_code (5 : Nat) (Option.some Jvm.ClassFile.FieldType.int) [((0 : Nat), (11 : Nat), (14 : Nat), (19 : Nat))]) ∈ lw_all := lw_g (lw_at lw_m6 98 rfl) rfl
theorem q1332 : (Jvm.Cond.methodLink "EdgefloatsLaw" (111 : Nat) ({ cls := "Edgefloats", name := "narrowCopy", desc := "(II)I" } : Jvm.MethodName)) ∈ lw_all := lw_g (lw_at lw_m6 99 rfl) rfl
theorem q1336 : (Jvm.Cond.methodLink "EdgefloatsLaw" (275 : Nat) ({ cls := "EdgefloatsLaw", name := "narrowSwap", desc := "(LEdgefloats;IILEdgefloatsLaw$Out;)I" } : Jvm.MethodName)) ∈ lw_all := lw_g (lw_at lw_m6 103 rfl) rfl
theorem q1337 : (Jvm.Cond.static ({ cls := "EdgefloatsLaw", name := "narrowSwap", desc := "(LEdgefloats;IILEdgefloatsLaw$Out;)I" } : Jvm.MethodName)) ∈ lw_all := lw_g (lw_at lw_m6 104 rfl) rfl
theorem q1338 : (Jvm.Cond.codeWith ({ cls := "EdgefloatsLaw", name := "narrowSwap", desc := "(LEdgefloats;IILEdgefloatsLaw$Out;)I" } : Jvm.MethodName) method_29_code (5 : Nat) (Option.some Jvm.ClassFile.FieldType.int) [((0 : Nat), (11 : Nat), (14 : Nat), (19 : Nat))]) ∈ lw_all := lw_g (lw_at lw_m6 105 rfl) rfl
theorem q1339 : (Jvm.Cond.methodLink "EdgefloatsLaw" (114 : Nat) ({ cls := "Edgefloats", name := "narrowSwap", desc := "(II)I" } : Jvm.MethodName)) ∈ lw_all := lw_g (lw_at lw_m6 106 rfl) rfl
theorem q1343 : (Jvm.Cond.methodLink "EdgefloatsLaw" (278 : Nat) ({ cls := "EdgefloatsLaw", name := "narrowMax", desc := "(LEdgefloats;IIILEdgefloatsLaw$Out;)I" } : Jvm.MethodName)) ∈ lw_all := lw_g (lw_at lw_m6 110 rfl) rfl
theorem q1344 : (Jvm.Cond.static ({ cls := "EdgefloatsLaw", name := "narrowMax", desc := "(LEdgefloats;IIILEdgefloatsLaw$Out;)I" } : Jvm.MethodName)) ∈ lw_all := lw_g (lw_at lw_m6 111 rfl) rfl
theorem q1345 : (Jvm.Cond.codeWith ({ cls := "EdgefloatsLaw", name := "narrowMax", desc := "(LEdgefloats;IIILEdgefloatsLaw$Out;)I" } : Jvm.MethodName) method_30_code (6 : Nat) (Option.some Jvm.ClassFile.FieldType.int) [((0 : Nat), (13 : Nat), (16 : Nat), (19 : Nat))]) ∈ lw_all := lw_g (lw_at lw_m6 112 rfl) rfl
theorem q1346 : (Jvm.Cond.methodLink "EdgefloatsLaw" (117 : Nat) ({ cls := "Edgefloats", name := "narrowMax", desc := "(III)I" } : Jvm.MethodName)) ∈ lw_all := lw_g (lw_at lw_m6 113 rfl) rfl
theorem q1350 : (Jvm.Cond.methodLink "EdgefloatsLaw" (281 : Nat) ({ cls := "EdgefloatsLaw", name := "narrowMin", desc := "(LEdgefloats;IIILEdgefloatsLaw$Out;)I" } : Jvm.MethodName)) ∈ lw_all := lw_g (lw_at lw_m6 117 rfl) rfl
theorem q1351 : (Jvm.Cond.static ({ cls := "EdgefloatsLaw", name := "narrowMin", desc := "(LEdgefloats;IIILEdgefloatsLaw$Out;)I" } : Jvm.MethodName)) ∈ lw_all := lw_g (lw_at lw_m6 118 rfl) rfl
theorem q1352 : (Jvm.Cond.codeWith ({ cls := "EdgefloatsLaw", name := "narrowMin", desc := "(LEdgefloats;IIILEdgefloatsLaw$Out;)I" } : Jvm.MethodName) method_31_code (6 : Nat) (Option.some Jvm.ClassFile.FieldType.int) [((0 : Nat), (13 : Nat), (16 : Nat), (19 : Nat))]) ∈ lw_all := lw_g (lw_at lw_m6 119 rfl) rfl
theorem q1353 : (Jvm.Cond.methodLink "EdgefloatsLaw" (120 : Nat) ({ cls := "Edgefloats", name := "narrowMin", desc := "(III)I" } : Jvm.MethodName)) ∈ lw_all := lw_g (lw_at lw_m6 120 rfl) rfl
theorem q1357 : (Jvm.Cond.methodLink "EdgefloatsLaw" (284 : Nat) ({ cls := "EdgefloatsLaw", name := "narrowSum", desc := "(LEdgefloats;IIILEdgefloatsLaw$Out;)I" } : Jvm.MethodName)) ∈ lw_all := lw_g (lw_at lw_m6 124 rfl) rfl
theorem q1358 : (Jvm.Cond.static ({ cls := "EdgefloatsLaw", name := "narrowSum", desc := "(LEdgefloats;IIILEdgefloatsLaw$Out;)I" } : Jvm.MethodName)) ∈ lw_all := lw_g (lw_at lw_m6 125 rfl) rfl
theorem q1359 : (Jvm.Cond.codeWith ({ cls := "EdgefloatsLaw", name := "narrowSum", desc := "(LEdgefloats;IIILEdgefloatsLaw$Out;)I" } : Jvm.MethodName) method_32_code (6 : Nat) (Option.some Jvm.ClassFile.FieldType.int) [((0 : Nat), (13 : Nat), (16 : Nat), (19 : Nat))]) ∈ lw_all := lw_g (lw_at lw_m6 126 rfl) rfl
theorem q1360 : (Jvm.Cond.methodLink "EdgefloatsLaw" (123 : Nat) ({ cls := "Edgefloats", name := "narrowSum", desc := "(III)I" } : Jvm.MethodName)) ∈ lw_all := lw_g (lw_at lw_m6 127 rfl) rfl
theorem q1386 : (Jvm.Cond.methodLink "EdgefloatsLaw" (287 : Nat) ({ cls := "EdgefloatsLaw", name := "narrowSort", desc := "(LEdgefloats;ILEdgefloatsLaw$Out;)I" } : Jvm.MethodName)) ∈ lw_all := lw_g (lw_at lw_m6 153 rfl) rfl
theorem q1387 : (Jvm.Cond.static ({ cls := "EdgefloatsLaw", name := "narrowSort", desc := "(LEdgefloats;ILEdgefloatsLaw$Out;)I" } : Jvm.MethodName)) ∈ lw_all := lw_g (lw_at lw_m6 154 rfl) rfl
theorem q1388 : (Jvm.Cond.codeWith ({ cls := "EdgefloatsLaw", name := "narrowSort", desc := "(LEdgefloats;ILEdgefloatsLaw$Out;)I" } : Jvm.MethodName) method_33_code (4 : Nat) (Option.some Jvm.ClassFile.FieldType.int) [((0 : Nat), (10 : Nat), (13 : Nat), (25 : Nat))]) ∈ lw_all := lw_g (lw_at lw_m6 155 rfl) rfl
theorem q1389 : (Jvm.Cond.methodLink "EdgefloatsLaw" (126 : Nat) ({ cls := "Edgefloats", name := "narrowSort", desc := "(I)I" } : Jvm.MethodName)) ∈ lw_all := lw_g (lw_at lw_m6 156 rfl) rfl
theorem q1399 : (Jvm.Cond.methodLink "EdgefloatsLaw" (290 : Nat) ({ cls := "EdgefloatsLaw", name := "narrowEnd", desc := "(LEdgefloats;ZILEdgefloatsLaw$Out;)I" } : Jvm.MethodName)) ∈ lw_all := lw_g (lw_at lw_m6 166 rfl) rfl
theorem q1400 : (Jvm.Cond.static ({ cls := "EdgefloatsLaw", name := "narrowEnd", desc := "(LEdgefloats;ZILEdgefloatsLaw$Out;)I" } : Jvm.MethodName)) ∈ lw_all := lw_g (lw_at lw_m6 167 rfl) rfl
theorem q1401 : (Jvm.Cond.codeWith ({ cls := "EdgefloatsLaw", name := "narrowEnd", desc := "(LEdgefloats;ZILEdgefloatsLaw$Out;)I" } : Jvm.MethodName) method_34_code (5 : Nat) (Option.some Jvm.ClassFile.FieldType.int) [((0 : Nat), (11 : Nat), (14 : Nat), (19 : Nat))]) ∈ lw_all := lw_g (lw_at lw_m6 168 rfl) rfl
theorem q1402 : (Jvm.Cond.methodLink "EdgefloatsLaw" (129 : Nat) ({ cls := "Edgefloats", name := "narrowEnd", desc := "(ZI)I" } : Jvm.MethodName)) ∈ lw_all := lw_g (lw_at lw_m6 169 rfl) rfl
theorem q1406 : (Jvm.Cond.methodLink "EdgefloatsLaw" (293 : Nat) ({ cls := "EdgefloatsLaw", name := "digits", desc := "(LEdgefloats;ILEdgefloatsLaw$Out;)I" } : Jvm.MethodName)) ∈ lw_all := lw_g (lw_at lw_m6 173 rfl) rfl
theorem q1407 : (Jvm.Cond.static ({ cls := "EdgefloatsLaw", name := "digits", desc := "(LEdgefloats;ILEdgefloatsLaw$Out;)I" } : Jvm.MethodName)) ∈ lw_all := lw_g (lw_at lw_m6 174 rfl) rfl
theorem q1408 : (Jvm.Cond.codeWith ({ cls := "EdgefloatsLaw", name := "digits", desc := "(LEdgefloats;ILEdgefloatsLaw$Out;)I" } : Jvm.MethodName) method_35_code (4 : Nat) (Option.some Jvm.ClassFile.FieldType.int) [((0 : Nat), (10 : Nat), (13 : Nat), (19 : Nat))]) ∈ lw_all := lw_g (lw_at lw_m6 175 rfl) rfl
theorem q1409 : (Jvm.Cond.methodLink "EdgefloatsLaw" (132 : Nat) ({ cls := "Edgefloats", name := "digits", desc := "(I)I" } : Jvm.MethodName)) ∈ lw_all := lw_g (lw_at lw_m6 176 rfl) rfl
theorem q1410 : (Jvm.Cond.methodLink "EdgefloatsLaw" (296 : Nat) ({ cls := "EdgefloatsLaw", name := "narrowText", desc := "(LEdgefloats;ILEdgefloatsLaw$Out;)I" } : Jvm.MethodName)) ∈ lw_all := lw_g (lw_at lw_m6 177 rfl) rfl
theorem q1411 : (Jvm.Cond.static ({ cls := "EdgefloatsLaw", name := "narrowText", desc := "(LEdgefloats;ILEdgefloatsLaw$Out;)I" } : Jvm.MethodName)) ∈ lw_all := lw_g (lw_at lw_m6 178 rfl) rfl
theorem q1412 : (Jvm.Cond.codeWith ({ cls := "EdgefloatsLaw", name := "narrowText", desc := "(LEdgefloats;ILEdgefloatsLaw$Out;)I" } : Jvm.MethodName) method_36_code (4 : Nat) (Option.some Jvm.ClassFile.FieldType.int) [((0 : Nat), (9 : Nat), (12 : Nat), (19 : Nat))]) ∈ lw_all := lw_g (lw_at lw_m6 179 rfl) rfl
theorem q1413 : (Jvm.Cond.methodLink "EdgefloatsLaw" (135 : Nat) ({ cls := "Edgefloats", name := "narrowText", desc := "(I)Ljava/lang/String;" } : Jvm.MethodName)) ∈ lw_all := lw_g (lw_at lw_m6 180 rfl) rfl
theorem q1417 : (Jvm.Cond.methodLink "EdgefloatsLaw" (299 : Nat) ({ cls := "EdgefloatsLaw", name := "narrowOrder", desc := "(LEdgefloats;IIILEdgefloatsLaw$Out;)I" } : Jvm.MethodName)) ∈ lw_all := lw_g (lw_at lw_m6 184 rfl) rfl
theorem q1418 : (Jvm.Cond.static ({ cls := "EdgefloatsLaw", name := "narrowOrder", desc := "(LEdgefloats;IIILEdgefloatsLaw$Out;)I" } : Jvm.MethodName)) ∈ lw_all := lw_g (lw_at lw_m6 185 rfl) rfl
theorem q1419 : (Jvm.Cond.codeWith ({ cls := "EdgefloatsLaw", name := "narrowOrder", desc := "(LEdgefloats;IIILEdgefloatsLaw$Out;)I" } : Jvm.MethodName) method_37_code (6 : Nat) (Option.some Jvm.ClassFile.FieldType.int) [((0 : Nat), (13 : Nat), (16 : Nat), (19 : Nat)), ((0 : Nat), (13 : Nat), (20 : Nat), (25 : Nat))]) ∈ lw_all := lw_g (lw_at lw_m6 186 rfl) rfl
theorem q1420 : (Jvm.Cond.methodLink "EdgefloatsLaw" (138 : Nat) ({ cls := "Edgefloats", name := "narrowOrder", desc := "(III)I" } : Jvm.MethodName)) ∈ lw_all := lw_g (lw_at lw_m6 187 rfl) rfl
theorem q1421 : (Jvm.Cond.methodLink "EdgefloatsLaw" (302 : Nat) ({ cls := "EdgefloatsLaw", name := "narrowSame", desc := "(LEdgefloats;IIILEdgefloatsLaw$Out;)I" } : Jvm.MethodName)) ∈ lw_all := lw_g (lw_at lw_m6 188 rfl) rfl
theorem q1422 : (Jvm.Cond.static ({ cls := "EdgefloatsLaw", name := "narrowSame", desc := "(LEdgefloats;IIILEdgefloatsLaw$Out;)I" } : Jvm.MethodName)) ∈ lw_all := lw_g (lw_at lw_m6 189 rfl) rfl
theorem q1423 : (Jvm.Cond.codeWith ({ cls := "EdgefloatsLaw", name := "narrowSame", desc := "(LEdgefloats;IIILEdgefloatsLaw$Out;)I" } : Jvm.MethodName) method_38_code (6 : Nat) (Option.some Jvm.ClassFile.FieldType.int) [((0 : Nat), (20 : Nat), (23 : Nat), (19 : Nat)), ((0 : Nat), (20 : Nat), (27 : Nat), (25 : Nat))]) ∈ lw_all := lw_g (lw_at lw_m6 190 rfl) rfl
theorem q1424 : (Jvm.Cond.methodLink "EdgefloatsLaw" (141 : Nat) ({ cls := "Edgefloats", name := "narrowSame", desc := "(III)Z" } : Jvm.MethodName)) ∈ lw_all := lw_g (lw_at lw_m6 191 rfl) rfl
theorem q1428 : (Jvm.Cond.methodLink "EdgefloatsLaw" (305 : Nat) ({ cls := "EdgefloatsLaw", name := "narrowOther", desc := "(LEdgefloats;IILEdgefloatsLaw$Out;)I" } : Jvm.MethodName)) ∈ lw_all := lw_g (lw_at lw_m6 195 rfl) rfl
theorem q1429 : (Jvm.Cond.static ({ cls := "EdgefloatsLaw", name := "narrowOther", desc := "(LEdgefloats;IILEdgefloatsLaw$Out;)I" } : Jvm.MethodName)) ∈ lw_all := lw_g (lw_at lw_m6 196 rfl) rfl
theorem q1430 : (Jvm.Cond.codeWith ({ cls := "EdgefloatsLaw", name := "narrowOther", desc := "(LEdgefloats;IILEdgefloatsLaw$Out;)I" } : Jvm.MethodName) method_39_code (5 : Nat) (Option.some Jvm.ClassFile.FieldType.int) [((0 : Nat), (18 : Nat), (21 : Nat), (19 : Nat)), ((0 : Nat), (18 : Nat), (25 : Nat), (25 : Nat))]) ∈ lw_all := lw_g (lw_at lw_m6 197 rfl) rfl
theorem q1431 : (Jvm.Cond.methodLink "EdgefloatsLaw" (144 : Nat) ({ cls := "Edgefloats", name := "narrowOther", desc := "(II)Z" } : Jvm.MethodName)) ∈ lw_all := lw_g (lw_at lw_m6 198 rfl) rfl
theorem q1435 : (Jvm.Cond.methodLink "EdgefloatsLaw" (308 : Nat) ({ cls := "EdgefloatsLaw", name := "narrowLike", desc := "(LEdgefloats;IILEdgefloatsLaw$Out;)I" } : Jvm.MethodName)) ∈ lw_all := lw_g (lw_at lw_m6 202 rfl) rfl
theorem q1436 : (Jvm.Cond.static ({ cls := "EdgefloatsLaw", name := "narrowLike", desc := "(LEdgefloats;IILEdgefloatsLaw$Out;)I" } : Jvm.MethodName)) ∈ lw_all := lw_g (lw_at lw_m6 203 rfl) rfl
theorem q1437 : (Jvm.Cond.codeWith ({ cls := "EdgefloatsLaw", name := "narrowLike", desc := "(LEdgefloats;IILEdgefloatsLaw$Out;)I" } : Jvm.MethodName) method_40_code (5 : Nat) (Option.some Jvm.ClassFile.FieldType.int) [((0 : Nat), (18 : Nat), (21 : Nat), (19 : Nat))]) ∈ lw_all := lw_g (lw_at lw_m6 204 rfl) rfl
theorem q1438 : (Jvm.Cond.methodLink "EdgefloatsLaw" (147 : Nat) ({ cls := "Edgefloats", name := "narrowLike", desc := "(II)Z" } : Jvm.MethodName)) ∈ lw_all := lw_g (lw_at lw_m6 205 rfl) rfl
theorem q1439 : (Jvm.Cond.methodLink "EdgefloatsLaw" (311 : Nat) ({ cls := "EdgefloatsLaw", name := "narrowBelow", desc := "(LEdgefloats;IIZLEdgefloatsLaw$Out;)I" } : Jvm.MethodName)) ∈ lw_all := lw_g (lw_at lw_m6 206 rfl) rfl
theorem q1440 : (Jvm.Cond.static ({ cls := "EdgefloatsLaw", name := "narrowBelow", desc := "(LEdgefloats;IIZLEdgefloatsLaw$Out;)I" } : Jvm.MethodName)) ∈ lw_all := lw_g (lw_at lw_m6 207 rfl) rfl
theorem q1441 : (Jvm.Cond.codeWith ({ cls := "EdgefloatsLaw", name := "narrowBelow", desc := "(LEdgefloats;IIZLEdgefloatsLaw$Out;)I" } : Jvm.MethodName) method_41_code (6 : Nat) (Option.some Jvm.ClassFile.FieldType.int) [((0 : Nat), (20 : Nat), (23 : Nat), (19 : Nat))]) ∈ lw_all := lw_g (lw_at lw_m6 208 rfl) rfl
theorem q1442 : (Jvm.Cond.methodLink "EdgefloatsLaw" (150 : Nat) ({ cls := "Edgefloats", name := "narrowBelow", desc := "(IIZ)Z" } : Jvm.MethodName)) ∈ lw_all := lw_g (lw_at lw_m6 209 rfl) rfl
theorem q1443 : (Jvm.Cond.methodLink "EdgefloatsLaw" (314 : Nat) ({ cls := "EdgefloatsLaw", name := "narrowHash", desc := "(LEdgefloats;IILEdgefloatsLaw$Out;)I" } : Jvm.MethodName)) ∈ lw_all := lw_g (lw_at lw_m6 210 rfl) rfl
theorem q1444 : (Jvm.Cond.static ({ cls := "EdgefloatsLaw", name := "narrowHash", desc := "(LEdgefloats;IILEdgefloatsLaw$Out;)I" } : Jvm.MethodName)) ∈ lw_all := lw_g (lw_at lw_m6 211 rfl) rfl
theorem q1445 : (Jvm.Cond.codeWith ({ cls := "EdgefloatsLaw", name := "narrowHash", desc := "(LEdgefloats;IILEdgefloatsLaw$Out;)I" } : Jvm.MethodName) method_42_code (5 : Nat) (Option.some Jvm.ClassFile.FieldType.int) [((0 : Nat), (11 : Nat), (14 : Nat), (19 : Nat)), ((0 : Nat), (11 : Nat), (18 : Nat), (25 : Nat))]) ∈ lw_all := lw_g (lw_at lw_m6 212 rfl) rfl
theorem q1446 : (Jvm.Cond.methodLink "EdgefloatsLaw" (153 : Nat) ({ cls := "Edgefloats", name := "narrowHash", desc := "(II)I" } : Jvm.MethodName)) ∈ lw_all := lw_g (lw_at lw_m6 213 rfl) rfl
theorem q1447 : (Jvm.Cond.methodLink "EdgefloatsLaw" (317 : Nat) ({ cls := "EdgefloatsLaw", name := "narrowEndless", desc := "(LEdgefloats;IILEdgefloatsLaw$Out;)I" } : Jvm.MethodName)) ∈ lw_all := lw_g (lw_at lw_m6 214 rfl) rfl
theorem q1448 : (Jvm.Cond.static ({ cls := "EdgefloatsLaw", name := "narrowEndless", desc := "(LEdgefloats;IILEdgefloatsLaw$Out;)I" } : Jvm.MethodName)) ∈ lw_all := lw_g (lw_at lw_m6 215 rfl) rfl
theorem q1449 : (Jvm.Cond.codeWith ({ cls := "EdgefloatsLaw", name := "narrowEndless", desc := "(LEdgefloats;IILEdgefloatsLaw$Out;)I" } : Jvm.MethodName) method_43_code (5 : Nat) (Option.some Jvm.ClassFile.FieldType.int) [((0 : Nat), (18 : Nat), (21 : Nat), (19 : Nat)), ((0 : Nat), (18 : Nat), (25 : Nat), (25 : Nat))]) ∈ lw_all := lw_g (lw_at lw_m6 216 rfl) rfl
theorem q1450 : (Jvm.Cond.methodLink "EdgefloatsLaw" (156 : Nat) ({ cls := "Edgefloats", name := "narrowEndless", desc := "(II)Z" } : Jvm.MethodName)) ∈ lw_all := lw_g (lw_at lw_m6 217 rfl) rfl
theorem q1458 : (Jvm.Cond.methodLink "EdgefloatsLaw" (320 : Nat) ({ cls := "EdgefloatsLaw", name := "narrowCount", desc := "(LEdgefloats;ILEdgefloatsLaw$Out;)I" } : Jvm.MethodName)) ∈ lw_all := lw_g (lw_at lw_m6 225 rfl) rfl
theorem q1459 : (Jvm.Cond.static ({ cls := "EdgefloatsLaw", name := "narrowCount", desc := "(LEdgefloats;ILEdgefloatsLaw$Out;)I" } : Jvm.MethodName)) ∈ lw_all := lw_g (lw_at lw_m6 226 rfl) rfl
theorem q1460 : (Jvm.Cond.codeWith ({ cls := "EdgefloatsLaw", name := "narrowCount", desc := "(LEdgefloats;ILEdgefloatsLaw$Out;)I" } : Jvm.MethodName) method_44_code (4 : Nat) (Option.some Jvm.ClassFile.FieldType.int) [((0 : Nat), (10 : Nat), (13 : Nat), (19 : Nat))]) ∈ lw_all := lw_g (lw_at lw_m6 227 rfl) rfl
theorem q1461 : (Jvm.Cond.methodLink "EdgefloatsLaw" (159 : Nat) ({ cls := "Edgefloats", name := "narrowCount", desc := "(I)I" } : Jvm.MethodName)) ∈ lw_all := lw_g (lw_at lw_m6 228 rfl) rfl
theorem q1462 : (Jvm.Cond.methodLink "EdgefloatsLaw" (323 : Nat) ({ cls := "EdgefloatsLaw", name := "narrowFind", desc := "(LEdgefloats;IZLEdgefloatsLaw$Out;)I" } : Jvm.MethodName)) ∈ lw_all := lw_g (lw_at lw_m6 229 rfl) rfl
theorem q1463 : (Jvm.Cond.static ({ cls := "EdgefloatsLaw", name := "narrowFind", desc := "(LEdgefloats;IZLEdgefloatsLaw$Out;)I" } : Jvm.MethodName)) ∈ lw_all := lw_g (lw_at lw_m6 230 rfl) rfl
theorem q1464 : (Jvm.Cond.codeWith ({ cls := "EdgefloatsLaw", name := "narrowFind", desc := "(LEdgefloats;IZLEdgefloatsLaw$Out;)I" } : Jvm.MethodName) method_45_code (5 : Nat) (Option.some Jvm.ClassFile.FieldType.int) [((0 : Nat), (11 : Nat), (14 : Nat), (19 : Nat))]) ∈ lw_all := lw_g (lw_at lw_m6 231 rfl) rfl
theorem q1465 : (Jvm.Cond.methodLink "EdgefloatsLaw" (162 : Nat) ({ cls := "Edgefloats", name := "narrowFind", desc := "(IZ)I" } : Jvm.MethodName)) ∈ lw_all := lw_g (lw_at lw_m6 232 rfl) rfl
theorem q1466 : (Jvm.Cond.methodLink "EdgefloatsLaw" (326 : Nat) ({ cls := "EdgefloatsLaw", name := "narrowHas", desc := "(LEdgefloats;ILEdgefloatsLaw$Out;)I" } : Jvm.MethodName)) ∈ lw_all := lw_g (lw_at lw_m6 233 rfl) rfl
theorem q1467 : (Jvm.Cond.static ({ cls := "EdgefloatsLaw", name := "narrowHas", desc := "(LEdgefloats;ILEdgefloatsLaw$Out;)I" } : Jvm.MethodName)) ∈ lw_all := lw_g (lw_at lw_m6 234 rfl) rfl
theorem q1468 : (Jvm.Cond.codeWith ({ cls := "EdgefloatsLaw", name := "narrowHas", desc := "(LEdgefloats;ILEdgefloatsLaw$Out;)I" } : Jvm.MethodName) method_46_code (4 : Nat) (Option.some Jvm.ClassFile.FieldType.int) [((0 : Nat), (17 : Nat), (20 : Nat), (25 : Nat))]) ∈ lw_all := lw_g (lw_at lw_m6 235 rfl) rfl
theorem q1469 : (Jvm.Cond.methodLink "EdgefloatsLaw" (165 : Nat) ({ cls := "Edgefloats", name := "narrowHas", desc := "(I)Z" } : Jvm.MethodName)) ∈ lw_all := lw_g (lw_at lw_m6 236 rfl) rfl
theorem q1473 : (Jvm.Cond.methodLink "EdgefloatsLaw" (329 : Nat) ({ cls := "EdgefloatsLaw", name := "house", desc := "(LEdgefloats;ILEdgefloatsLaw$Out;)I" } : Jvm.MethodName)) ∈ lw_all := lw_g (lw_at lw_m7 0 rfl) rfl
theorem q1474 : (Jvm.Cond.static ({ cls := "EdgefloatsLaw", name := "house", desc := "(LEdgefloats;ILEdgefloatsLaw$Out;)I" } : Jvm.MethodName)) ∈ lw_all := lw_g (lw_at lw_m7 1 rfl) rfl
theorem q1475 : (Jvm.Cond.codeWith ({ cls := "EdgefloatsLaw", name := "house", desc := "(LEdgefloats;ILEdgefloatsLaw$Out;)I" } : Jvm.MethodName) method_47_code (4 : Nat) (Option.some Jvm.ClassFile.FieldType.int) [((0 : Nat), (10 : Nat), (13 : Nat), (25 : Nat))]) ∈ lw_all := lw_g (lw_at lw_m7 2 rfl) rfl
theorem q1476 : (Jvm.Cond.methodLink "EdgefloatsLaw" (168 : Nat) ({ cls := "Edgefloats", name := "house", desc := "(I)I" } : Jvm.MethodName)) ∈ lw_all := lw_g (lw_at lw_m7 3 rfl) rfl
theorem q1477 : (Jvm.Cond.classLink "EdgefloatsLaw" (172 : Nat) "EdgefloatsModel") ∈ lw_all := lw_g (lw_at lw_m7 4 rfl) rfl
theorem q1479 : (Jvm.Cond.methodLink "EdgefloatsLaw" (174 : Nat) ({ cls := "EdgefloatsModel", name := "<init>", desc := "()V" } : Jvm.MethodName)) ∈ lw_all := lw_g (lw_at lw_m7 6 rfl) rfl
theorem q1527 : (Jvm.Cond.methodLink "EdgefloatsLaw" (182 : Nat) ({ cls := "EdgefloatsModel", name := "thrown", desc := "()I" } : Jvm.MethodName)) ∈ lw_all := lw_g (lw_at lw_m7 54 rfl) rfl
theorem q1531 : (Jvm.Cond.methodLink "EdgefloatsLaw" (181 : Nat) ({ cls := "EdgefloatsModel", name := "putWide", desc := "(III)I" } : Jvm.MethodName)) ∈ lw_all := lw_g (lw_at lw_m7 58 rfl) rfl
theorem q1575 : (Jvm.Cond.methodLink "EdgefloatsLaw" (189 : Nat) ({ cls := "EdgefloatsModel", name := "wideQuarters", desc := "(II)I" } : Jvm.MethodName)) ∈ lw_all := lw_g (lw_at lw_m7 102 rfl) rfl
theorem q1589 : (Jvm.Cond.methodLink "EdgefloatsLaw" (192 : Nat) ({ cls := "EdgefloatsModel", name := "wideKnown", desc := "(II)I" } : Jvm.MethodName)) ∈ lw_all := lw_g (lw_at lw_m7 116 rfl) rfl
theorem q1601 : (Jvm.Cond.methodLink "EdgefloatsLaw" (195 : Nat) ({ cls := "EdgefloatsModel", name := "wideCopy", desc := "(II)I" } : Jvm.MethodName)) ∈ lw_all := lw_g (lw_at lw_m7 128 rfl) rfl
theorem q1612 : (Jvm.Cond.methodLink "EdgefloatsLaw" (198 : Nat) ({ cls := "EdgefloatsModel", name := "wideSwap", desc := "(II)I" } : Jvm.MethodName)) ∈ lw_all := lw_g (lw_at lw_m7 139 rfl) rfl
theorem q1625 : (Jvm.Cond.methodLink "EdgefloatsLaw" (201 : Nat) ({ cls := "EdgefloatsModel", name := "wideMax", desc := "(III)I" } : Jvm.MethodName)) ∈ lw_all := lw_g (lw_at lw_m7 152 rfl) rfl
theorem q1645 : (Jvm.Cond.methodLink "EdgefloatsLaw" (204 : Nat) ({ cls := "EdgefloatsModel", name := "wideMin", desc := "(III)I" } : Jvm.MethodName)) ∈ lw_all := lw_g (lw_at lw_m7 172 rfl) rfl
theorem q1649 : (Jvm.Cond.methodLink "EdgefloatsLaw" (207 : Nat) ({ cls := "EdgefloatsModel", name := "wideSum", desc := "(III)I" } : Jvm.MethodName)) ∈ lw_all := lw_g (lw_at lw_m7 176 rfl) rfl
theorem q1687 : (Jvm.Cond.methodLink "EdgefloatsLaw" (211 : Nat) ({ cls := "EdgefloatsModel", name := "wideSort", desc := "(I)I" } : Jvm.MethodName)) ∈ lw_all := lw_g (lw_at lw_m7 214 rfl) rfl
theorem q1700 : (Jvm.Cond.methodLink "EdgefloatsLaw" (215 : Nat) ({ cls := "EdgefloatsModel", name := "wideEnd", desc := "(ZI)I" } : Jvm.MethodName)) ∈ lw_all := lw_g (lw_at lw_m7 227 rfl) rfl
theorem q1712 : (Jvm.Cond.methodLink "EdgefloatsLaw" (218 : Nat) ({ cls := "EdgefloatsModel", name := "upper", desc := "(I)I" } : Jvm.MethodName)) ∈ lw_all := lw_g (lw_at lw_m7 239 rfl) rfl
theorem q1716 : (Jvm.Cond.methodLink "EdgefloatsLaw" (221 : Nat) ({ cls := "EdgefloatsModel", name := "lower", desc := "(I)I" } : Jvm.MethodName)) ∈ lw_all := lw_g (lw_at lw_m8 3 rfl) rfl
theorem q1720 : (Jvm.Cond.methodLink "EdgefloatsLaw" (224 : Nat) ({ cls := "EdgefloatsModel", name := "wideText", desc := "(I)Ljava/lang/String;" } : Jvm.MethodName)) ∈ lw_all := lw_g (lw_at lw_m8 7 rfl) rfl
theorem q1741 : (Jvm.Cond.methodLink "EdgefloatsLaw" (233 : Nat) ({ cls := "EdgefloatsModel", name := "wideOrder", desc := "(III)I" } : Jvm.MethodName)) ∈ lw_all := lw_g (lw_at lw_m8 28 rfl) rfl
theorem q1749 : (Jvm.Cond.methodLink "EdgefloatsLaw" (236 : Nat) ({ cls := "EdgefloatsModel", name := "wideSame", desc := "(III)Z" } : Jvm.MethodName)) ∈ lw_all := lw_g (lw_at lw_m8 36 rfl) rfl
theorem q1757 : (Jvm.Cond.methodLink "EdgefloatsLaw" (239 : Nat) ({ cls := "EdgefloatsModel", name := "wideOther", desc := "(II)Z" } : Jvm.MethodName)) ∈ lw_all := lw_g (lw_at lw_m8 44 rfl) rfl
theorem q1765 : (Jvm.Cond.methodLink "EdgefloatsLaw" (242 : Nat) ({ cls := "EdgefloatsModel", name := "wideLike", desc := "(II)Z" } : Jvm.MethodName)) ∈ lw_all := lw_g (lw_at lw_m8 52 rfl) rfl
theorem q1780 : (Jvm.Cond.methodLink "EdgefloatsLaw" (246 : Nat) ({ cls := "EdgefloatsModel", name := "wideBelow", desc := "(IIZ)Z" } : Jvm.MethodName)) ∈ lw_all := lw_g (lw_at lw_m8 67 rfl) rfl
theorem q1788 : (Jvm.Cond.methodLink "EdgefloatsLaw" (249 : Nat) ({ cls := "EdgefloatsModel", name := "wideHash", desc := "(II)I" } : Jvm.MethodName)) ∈ lw_all := lw_g (lw_at lw_m8 75 rfl) rfl
theorem q1796 : (Jvm.Cond.methodLink "EdgefloatsLaw" (252 : Nat) ({ cls := "EdgefloatsModel", name := "wideEndless", desc := "(II)Z" } : Jvm.MethodName)) ∈ lw_all := lw_g (lw_at lw_m8 83 rfl) rfl
theorem q1805 : (Jvm.Cond.methodLink "EdgefloatsLaw" (255 : Nat) ({ cls := "EdgefloatsModel", name := "wideCount", desc := "(I)I" } : Jvm.MethodName)) ∈ lw_all := lw_g (lw_at lw_m8 92 rfl) rfl
theorem q1814 : (Jvm.Cond.methodLink "EdgefloatsLaw" (259 : Nat) ({ cls := "EdgefloatsModel", name := "wideFind", desc := "(IZ)I" } : Jvm.MethodName)) ∈ lw_all := lw_g (lw_at lw_m8 101 rfl) rfl
theorem q1826 : (Jvm.Cond.methodLink "EdgefloatsLaw" (262 : Nat) ({ cls := "EdgefloatsModel", name := "wideHas", desc := "(I)Z" } : Jvm.MethodName)) ∈ lw_all := lw_g (lw_at lw_m8 113 rfl) rfl
theorem q1834 : (Jvm.Cond.methodLink "EdgefloatsLaw" (265 : Nat) ({ cls := "EdgefloatsModel", name := "putNarrow", desc := "(II)I" } : Jvm.MethodName)) ∈ lw_all := lw_g (lw_at lw_m8 121 rfl) rfl
theorem q1838 : (Jvm.Cond.methodLink "EdgefloatsLaw" (268 : Nat) ({ cls := "EdgefloatsModel", name := "narrowQuarters", desc := "(II)I" } : Jvm.MethodName)) ∈ lw_all := lw_g (lw_at lw_m8 125 rfl) rfl
theorem q1842 : (Jvm.Cond.methodLink "EdgefloatsLaw" (271 : Nat) ({ cls := "EdgefloatsModel", name := "narrowKnown", desc := "(II)I" } : Jvm.MethodName)) ∈ lw_all := lw_g (lw_at lw_m8 129 rfl) rfl
theorem q1846 : (Jvm.Cond.methodLink "EdgefloatsLaw" (274 : Nat) ({ cls := "EdgefloatsModel", name := "narrowCopy", desc := "(II)I" } : Jvm.MethodName)) ∈ lw_all := lw_g (lw_at lw_m8 133 rfl) rfl
theorem q1850 : (Jvm.Cond.methodLink "EdgefloatsLaw" (277 : Nat) ({ cls := "EdgefloatsModel", name := "narrowSwap", desc := "(II)I" } : Jvm.MethodName)) ∈ lw_all := lw_g (lw_at lw_m8 137 rfl) rfl
theorem q1854 : (Jvm.Cond.methodLink "EdgefloatsLaw" (280 : Nat) ({ cls := "EdgefloatsModel", name := "narrowMax", desc := "(III)I" } : Jvm.MethodName)) ∈ lw_all := lw_g (lw_at lw_m8 141 rfl) rfl
theorem q1858 : (Jvm.Cond.methodLink "EdgefloatsLaw" (283 : Nat) ({ cls := "EdgefloatsModel", name := "narrowMin", desc := "(III)I" } : Jvm.MethodName)) ∈ lw_all := lw_g (lw_at lw_m8 145 rfl) rfl
theorem q1862 : (Jvm.Cond.methodLink "EdgefloatsLaw" (286 : Nat) ({ cls := "EdgefloatsModel", name := "narrowSum", desc := "(III)I" } : Jvm.MethodName)) ∈ lw_all := lw_g (lw_at lw_m8 149 rfl) rfl
theorem q1866 : (Jvm.Cond.methodLink "EdgefloatsLaw" (289 : Nat) ({ cls := "EdgefloatsModel", name := "narrowSort", desc := "(I)I" } : Jvm.MethodName)) ∈ lw_all := lw_g (lw_at lw_m8 153 rfl) rfl
theorem q1870 : (Jvm.Cond.methodLink "EdgefloatsLaw" (292 : Nat) ({ cls := "EdgefloatsModel", name := "narrowEnd", desc := "(ZI)I" } : Jvm.MethodName)) ∈ lw_all := lw_g (lw_at lw_m8 157 rfl) rfl
theorem q1874 : (Jvm.Cond.methodLink "EdgefloatsLaw" (295 : Nat) ({ cls := "EdgefloatsModel", name := "digits", desc := "(I)I" } : Jvm.MethodName)) ∈ lw_all := lw_g (lw_at lw_m8 161 rfl) rfl
theorem q1878 : (Jvm.Cond.methodLink "EdgefloatsLaw" (298 : Nat) ({ cls := "EdgefloatsModel", name := "narrowText", desc := "(I)Ljava/lang/String;" } : Jvm.MethodName)) ∈ lw_all := lw_g (lw_at lw_m8 165 rfl) rfl
theorem q1882 : (Jvm.Cond.methodLink "EdgefloatsLaw" (301 : Nat) ({ cls := "EdgefloatsModel", name := "narrowOrder", desc := "(III)I" } : Jvm.MethodName)) ∈ lw_all := lw_g (lw_at lw_m8 169 rfl) rfl
theorem q1886 : (Jvm.Cond.methodLink "EdgefloatsLaw" (304 : Nat) ({ cls := "EdgefloatsModel", name := "narrowSame", desc := "(III)Z" } : Jvm.MethodName)) ∈ lw_all := lw_g (lw_at lw_m8 173 rfl) rfl
theorem q1890 : (Jvm.Cond.methodLink "EdgefloatsLaw" (307 : Nat) ({ cls := "EdgefloatsModel", name := "narrowOther", desc := "(II)Z" } : Jvm.MethodName)) ∈ lw_all := lw_g (lw_at lw_m8 177 rfl) rfl
theorem q1894 : (Jvm.Cond.methodLink "EdgefloatsLaw" (310 : Nat) ({ cls := "EdgefloatsModel", name := "narrowLike", desc := "(II)Z" } : Jvm.MethodName)) ∈ lw_all := lw_g (lw_at lw_m8 181 rfl) rfl
theorem q1898 : (Jvm.Cond.methodLink "EdgefloatsLaw" (313 : Nat) ({ cls := "EdgefloatsModel", name := "narrowBelow", desc := "(IIZ)Z" } : Jvm.MethodName)) ∈ lw_all := lw_g (lw_at lw_m8 185 rfl) rfl
theorem q1902 : (Jvm.Cond.methodLink "EdgefloatsLaw" (316 : Nat) ({ cls := "EdgefloatsModel", name := "narrowHash", desc := "(II)I" } : Jvm.MethodName)) ∈ lw_all := lw_g (lw_at lw_m8 189 rfl) rfl
theorem q1906 : (Jvm.Cond.methodLink "EdgefloatsLaw" (319 : Nat) ({ cls := "EdgefloatsModel", name := "narrowEndless", desc := "(II)Z" } : Jvm.MethodName)) ∈ lw_all := lw_g (lw_at lw_m8 193 rfl) rfl
theorem q1910 : (Jvm.Cond.methodLink "EdgefloatsLaw" (322 : Nat) ({ cls := "EdgefloatsModel", name := "narrowCount", desc := "(I)I" } : Jvm.MethodName)) ∈ lw_all := lw_g (lw_at lw_m8 197 rfl) rfl
theorem q1914 : (Jvm.Cond.methodLink "EdgefloatsLaw" (325 : Nat) ({ cls := "EdgefloatsModel", name := "narrowFind", desc := "(IZ)I" } : Jvm.MethodName)) ∈ lw_all := lw_g (lw_at lw_m8 201 rfl) rfl
theorem q1918 : (Jvm.Cond.methodLink "EdgefloatsLaw" (328 : Nat) ({ cls := "EdgefloatsModel", name := "narrowHas", desc := "(I)Z" } : Jvm.MethodName)) ∈ lw_all := lw_g (lw_at lw_m8 205 rfl) rfl
theorem q1922 : (Jvm.Cond.methodLink "EdgefloatsLaw" (331 : Nat) ({ cls := "EdgefloatsModel", name := "house", desc := "(I)I" } : Jvm.MethodName)) ∈ lw_all := lw_g (lw_at lw_m8 209 rfl) rfl
theorem q1930 : (Jvm.Cond.methodLink "EdgefloatsLaw" (335 : Nat) ({ cls := "EdgefloatsModel", name := "knock", desc := "()I" } : Jvm.MethodName)) ∈ lw_all := lw_g (lw_at lw_m8 217 rfl) rfl
theorem q1934 : (Jvm.Cond.methodLink "EdgefloatsLaw" (340 : Nat) ({ cls := "EdgefloatsModel", name := "isSound", desc := "()Z" } : Jvm.MethodName)) ∈ lw_all := lw_g (lw_at lw_m8 221 rfl) rfl
theorem q1938 : (Jvm.Cond.methodLink "EdgefloatsLaw" (345 : Nat) ({ cls := "EdgefloatsModel", name := "digest", desc := "()J" } : Jvm.MethodName)) ∈ lw_all := lw_g (lw_at lw_m8 225 rfl) rfl
theorem q1956 : (Jvm.Cond.methodLink "EdgefloatsLaw" (225 : Nat) ({ cls := "java/lang/String", name := "equals", desc := "(Ljava/lang/Object;)Z" } : Jvm.MethodName)) ∈ lw_all := lw_g (lw_at lw_m9 3 rfl) rfl
/-! Edgefloats -/
set_option maxRecDepth 100000
def RX1 : String := "Edgefloats"
def TX1 : u_T := fun k => match k with
  | 0 => ("Edgefloats", "wide", "[Ljava/lang/Double;", true)
  | 1 => ("Edgefloats", "narrow", "[Ljava/lang/Float;", true)
  | 2 => ("Edgefloats", "wideActs", "I", false)
  | 3 => ("Edgefloats", "narrowActs", "I", false)
  | 4 => ("Edgefloats", "refused", "I", false)
  | _ => ("Edgefloats", "knocked", "I", false)
def tyX1 : Nat → FieldType := fun k => match k with
  | 0 => .array (.object "java/lang/Double")
  | 1 => .array (.object "java/lang/Float")
  | 2 => .int
  | 3 => .int
  | 4 => .int
  | _ => .int
abbrev wsX10 : List Cond := u_ws RX1 TX1 6
theorem nmX1 : ∀ a, a < 6 → ∀ b, b < 6 → a ≠ b → (TX1 a).2.1 ≠ (TX1 b).2.1 := by decide +kernel
theorem tyX1_ok : ∀ k, k < 6 → parseFieldDescriptor (TX1 k).2.2.1 = some (tyX1 k) := by decide +kernel
abbrev cX1_init : ByteArray := prog_1_method_1_code
def yX1_init : MethodName := ⟨RX1, "<init>", "()V"⟩
def dkwX1_init_2 : List UInt8 := [184, 0, 29, 83, 132, 1, 1, 167, 255, 227, 177]
abbrev dktX1_init_2 : List UInt8 := dkwX1_init_2 ++ []
def dkwX1_init_1 : List UInt8 := [27, 16, 8, 162, 0, 29, 42, 180, 0, 15, 27, 14, 184, 0, 25, 83, 42, 180, 0, 21, 27, 11]
abbrev dktX1_init_1 : List UInt8 := dkwX1_init_1 ++ dktX1_init_2
def dkwX1_init_0 : List UInt8 := [42, 183, 0, 5, 42, 16, 8, 189, 0, 13, 181, 0, 15, 42, 16, 8, 189, 0, 19, 181, 0, 21, 3, 60]
abbrev dktX1_init_0 : List UInt8 := dkwX1_init_0 ++ dktX1_init_1
theorem dksX1_init_0 : cX1_init.data.toList.drop 0 = dktX1_init_0 := by decide +kernel
theorem dksX1_init_1 : cX1_init.data.toList.drop 24 = dktX1_init_1 := dk_seg dksX1_init_0 24 rfl rfl
theorem dksX1_init_2 : cX1_init.data.toList.drop 46 = dktX1_init_2 := dk_seg dksX1_init_1 22 rfl rfl
theorem dX1_init_0 : decode cX1_init 0 = .ok (.aload_n 0, 1) := dk_42 (dk_at dksX1_init_0 0 rfl rfl)
theorem dX1_init_1 : decode cX1_init 1 = .ok (.invokespecial 5, 3) := dk_183 0 5 (dk_at dksX1_init_0 1 rfl rfl)
theorem dX1_init_4 : decode cX1_init 4 = .ok (.aload_n 0, 1) := dk_42 (dk_at dksX1_init_0 4 rfl rfl)
theorem dX1_init_5 : decode cX1_init 5 = .ok (.bipush 8, 2) := dk_16 8 (dk_at dksX1_init_0 5 rfl rfl)
theorem dX1_init_7 : decode cX1_init 7 = .ok (.anewarray 13, 3) := dk_189 0 13 (dk_at dksX1_init_0 7 rfl rfl)
theorem dX1_init_10 : decode cX1_init 10 = .ok (.putfield 15, 3) := dk_181 0 15 (dk_at dksX1_init_0 10 rfl rfl)
theorem dX1_init_13 : decode cX1_init 13 = .ok (.aload_n 0, 1) := dk_42 (dk_at dksX1_init_0 13 rfl rfl)
theorem dX1_init_14 : decode cX1_init 14 = .ok (.bipush 8, 2) := dk_16 8 (dk_at dksX1_init_0 14 rfl rfl)
theorem dX1_init_16 : decode cX1_init 16 = .ok (.anewarray 19, 3) := dk_189 0 19 (dk_at dksX1_init_0 16 rfl rfl)
theorem dX1_init_19 : decode cX1_init 19 = .ok (.putfield 21, 3) := dk_181 0 21 (dk_at dksX1_init_0 19 rfl rfl)
theorem dX1_init_22 : decode cX1_init 22 = .ok (.iconst 0, 1) := dk_3 (dk_at dksX1_init_0 22 rfl rfl)
theorem dX1_init_23 : decode cX1_init 23 = .ok (.istore_n 1, 1) := dk_60 (dk_at dksX1_init_0 23 rfl rfl)
theorem dX1_init_24 : decode cX1_init 24 = .ok (.iload_n 1, 1) := dk_27 (dk_at dksX1_init_1 0 rfl rfl)
theorem dX1_init_25 : decode cX1_init 25 = .ok (.bipush 8, 2) := dk_16 8 (dk_at dksX1_init_1 1 rfl rfl)
theorem dX1_init_27 : decode cX1_init 27 = .ok (.if_icmp .ge 29, 3) := dk_162 0 29 (dk_at dksX1_init_1 3 rfl rfl)
theorem dX1_init_30 : decode cX1_init 30 = .ok (.aload_n 0, 1) := dk_42 (dk_at dksX1_init_1 6 rfl rfl)
theorem dX1_init_31 : decode cX1_init 31 = .ok (.getfield 15, 3) := dk_180 0 15 (dk_at dksX1_init_1 7 rfl rfl)
theorem dX1_init_34 : decode cX1_init 34 = .ok (.iload_n 1, 1) := dk_27 (dk_at dksX1_init_1 10 rfl rfl)
theorem dX1_init_35 : decode cX1_init 35 = .ok (.dconst 0, 1) := dk_14 (dk_at dksX1_init_1 11 rfl rfl)
theorem dX1_init_36 : decode cX1_init 36 = .ok (.invokestatic 25, 3) := dk_184 0 25 (dk_at dksX1_init_1 12 rfl rfl)
theorem dX1_init_39 : decode cX1_init 39 = .ok (.aastore, 1) := dk_83 (dk_at dksX1_init_1 15 rfl rfl)
theorem dX1_init_40 : decode cX1_init 40 = .ok (.aload_n 0, 1) := dk_42 (dk_at dksX1_init_1 16 rfl rfl)
theorem dX1_init_41 : decode cX1_init 41 = .ok (.getfield 21, 3) := dk_180 0 21 (dk_at dksX1_init_1 17 rfl rfl)
theorem dX1_init_44 : decode cX1_init 44 = .ok (.iload_n 1, 1) := dk_27 (dk_at dksX1_init_1 20 rfl rfl)
theorem dX1_init_45 : decode cX1_init 45 = .ok (.fconst 0, 1) := dk_11 (dk_at dksX1_init_1 21 rfl rfl)
theorem dX1_init_46 : decode cX1_init 46 = .ok (.invokestatic 29, 3) := dk_184 0 29 (dk_at dksX1_init_2 0 rfl rfl)
theorem dX1_init_49 : decode cX1_init 49 = .ok (.aastore, 1) := dk_83 (dk_at dksX1_init_2 3 rfl rfl)
theorem dX1_init_50 : decode cX1_init 50 = .ok (.iinc 1 1, 3) := dk_132 1 1 (dk_at dksX1_init_2 4 rfl rfl)
theorem dX1_init_53 : decode cX1_init 53 = .ok (.goto (-29), 3) := dk_167 255 227 (dk_at dksX1_init_2 7 rfl rfl)
theorem dX1_init_56 : decode cX1_init 56 = .ok (.return_, 1) := dk_177 (dk_at dksX1_init_2 10 rfl rfl)
abbrev cX1_knock : ByteArray := prog_1_method_74_code
def yX1_knock : MethodName := ⟨RX1, "knock", "()I"⟩
def dkwX1_knock_0 : List UInt8 := [42, 89, 180, 1, 74, 4, 96, 181, 1, 74, 42, 180, 1, 74, 172]
abbrev dktX1_knock_0 : List UInt8 := dkwX1_knock_0 ++ []
theorem dksX1_knock_0 : cX1_knock.data.toList.drop 0 = dktX1_knock_0 := by decide +kernel
theorem dX1_knock_0 : decode cX1_knock 0 = .ok (.aload_n 0, 1) := dk_42 (dk_at dksX1_knock_0 0 rfl rfl)
theorem dX1_knock_1 : decode cX1_knock 1 = .ok (.dup, 1) := dk_89 (dk_at dksX1_knock_0 1 rfl rfl)
theorem dX1_knock_2 : decode cX1_knock 2 = .ok (.getfield 330, 3) := dk_180 1 74 (dk_at dksX1_knock_0 2 rfl rfl)
theorem dX1_knock_5 : decode cX1_knock 5 = .ok (.iconst 1, 1) := dk_4 (dk_at dksX1_knock_0 5 rfl rfl)
theorem dX1_knock_6 : decode cX1_knock 6 = .ok (.iadd, 1) := dk_96 (dk_at dksX1_knock_0 6 rfl rfl)
theorem dX1_knock_7 : decode cX1_knock 7 = .ok (.putfield 330, 3) := dk_181 1 74 (dk_at dksX1_knock_0 7 rfl rfl)
theorem dX1_knock_10 : decode cX1_knock 10 = .ok (.aload_n 0, 1) := dk_42 (dk_at dksX1_knock_0 10 rfl rfl)
theorem dX1_knock_11 : decode cX1_knock 11 = .ok (.getfield 330, 3) := dk_180 1 74 (dk_at dksX1_knock_0 11 rfl rfl)
theorem dX1_knock_14 : decode cX1_knock 14 = .ok (.ireturn, 1) := dk_172 (dk_at dksX1_knock_0 14 rfl rfl)
abbrev cX1_isSound : ByteArray := prog_1_method_75_code
def yX1_isSound : MethodName := ⟨RX1, "isSound", "()Z"⟩
def dkwX1_isSound_6 : List UInt8 := [167, 255, 175, 132, 2, 1, 167, 255, 117, 27, 172]
abbrev dktX1_isSound_6 : List UInt8 := dkwX1_isSound_6 ++ []
def dkwX1_isSound_5 : List UInt8 := [182, 1, 86, 153, 0, 7, 4, 167, 0, 4, 3, 126, 60, 132, 4, 1, 167, 255, 216, 132, 3, 1]
abbrev dktX1_isSound_5 : List UInt8 := dkwX1_isSound_5 ++ dktX1_isSound_6
def dkwX1_isSound_4 : List UInt8 := [16, 8, 162, 0, 39, 27, 42, 28, 29, 21, 4, 182, 1, 83, 153, 0, 18, 42, 28, 29, 21, 4]
abbrev dktX1_isSound_4 : List UInt8 := dkwX1_isSound_4 ++ dktX1_isSound_5
def dkwX1_isSound_3 : List UInt8 := [153, 0, 16, 42, 28, 29, 182, 1, 80, 153, 0, 7, 4, 167, 0, 4, 3, 126, 60, 3, 54, 4, 21, 4]
abbrev dktX1_isSound_3 : List UInt8 := dkwX1_isSound_3 ++ dktX1_isSound_4
def dkwX1_isSound_2 : List UInt8 := [4, 167, 0, 4, 3, 126, 60, 3, 62, 29, 16, 8, 162, 0, 81, 27, 42, 28, 29, 182, 1, 77]
abbrev dktX1_isSound_2 : List UInt8 := dkwX1_isSound_2 ++ dktX1_isSound_3
def dkwX1_isSound_1 : List UInt8 := [184, 0, 115, 154, 0, 25, 42, 180, 0, 21, 28, 50, 182, 0, 211, 184, 0, 250, 184, 1, 14, 154, 0, 7]
abbrev dktX1_isSound_1 : List UInt8 := dkwX1_isSound_1 ++ dktX1_isSound_2
def dkwX1_isSound_0 : List UInt8 := [4, 60, 3, 61, 28, 16, 8, 162, 0, 139, 27, 42, 180, 0, 15, 28, 50, 182, 0, 95, 184, 0, 54]
abbrev dktX1_isSound_0 : List UInt8 := dkwX1_isSound_0 ++ dktX1_isSound_1
theorem dksX1_isSound_0 : cX1_isSound.data.toList.drop 0 = dktX1_isSound_0 := by decide +kernel
theorem dksX1_isSound_1 : cX1_isSound.data.toList.drop 23 = dktX1_isSound_1 := dk_seg dksX1_isSound_0 23 rfl rfl
theorem dksX1_isSound_2 : cX1_isSound.data.toList.drop 47 = dktX1_isSound_2 := dk_seg dksX1_isSound_1 24 rfl rfl
theorem dksX1_isSound_3 : cX1_isSound.data.toList.drop 69 = dktX1_isSound_3 := dk_seg dksX1_isSound_2 22 rfl rfl
theorem dksX1_isSound_4 : cX1_isSound.data.toList.drop 93 = dktX1_isSound_4 := dk_seg dksX1_isSound_3 24 rfl rfl
theorem dksX1_isSound_5 : cX1_isSound.data.toList.drop 115 = dktX1_isSound_5 := dk_seg dksX1_isSound_4 22 rfl rfl
theorem dksX1_isSound_6 : cX1_isSound.data.toList.drop 137 = dktX1_isSound_6 := dk_seg dksX1_isSound_5 22 rfl rfl
theorem dX1_isSound_0 : decode cX1_isSound 0 = .ok (.iconst 1, 1) := dk_4 (dk_at dksX1_isSound_0 0 rfl rfl)
theorem dX1_isSound_1 : decode cX1_isSound 1 = .ok (.istore_n 1, 1) := dk_60 (dk_at dksX1_isSound_0 1 rfl rfl)
theorem dX1_isSound_2 : decode cX1_isSound 2 = .ok (.iconst 0, 1) := dk_3 (dk_at dksX1_isSound_0 2 rfl rfl)
theorem dX1_isSound_3 : decode cX1_isSound 3 = .ok (.istore_n 2, 1) := dk_61 (dk_at dksX1_isSound_0 3 rfl rfl)
theorem dX1_isSound_4 : decode cX1_isSound 4 = .ok (.iload_n 2, 1) := dk_28 (dk_at dksX1_isSound_0 4 rfl rfl)
theorem dX1_isSound_5 : decode cX1_isSound 5 = .ok (.bipush 8, 2) := dk_16 8 (dk_at dksX1_isSound_0 5 rfl rfl)
theorem dX1_isSound_7 : decode cX1_isSound 7 = .ok (.if_icmp .ge 139, 3) := dk_162 0 139 (dk_at dksX1_isSound_0 7 rfl rfl)
theorem dX1_isSound_10 : decode cX1_isSound 10 = .ok (.iload_n 1, 1) := dk_27 (dk_at dksX1_isSound_0 10 rfl rfl)
theorem dX1_isSound_11 : decode cX1_isSound 11 = .ok (.aload_n 0, 1) := dk_42 (dk_at dksX1_isSound_0 11 rfl rfl)
theorem dX1_isSound_12 : decode cX1_isSound 12 = .ok (.getfield 15, 3) := dk_180 0 15 (dk_at dksX1_isSound_0 12 rfl rfl)
theorem dX1_isSound_15 : decode cX1_isSound 15 = .ok (.iload_n 2, 1) := dk_28 (dk_at dksX1_isSound_0 15 rfl rfl)
theorem dX1_isSound_16 : decode cX1_isSound 16 = .ok (.aaload, 1) := dk_50 (dk_at dksX1_isSound_0 16 rfl rfl)
theorem dX1_isSound_17 : decode cX1_isSound 17 = .ok (.invokevirtual 95, 3) := dk_182 0 95 (dk_at dksX1_isSound_0 17 rfl rfl)
theorem dX1_isSound_20 : decode cX1_isSound 20 = .ok (.invokestatic 54, 3) := dk_184 0 54 (dk_at dksX1_isSound_0 20 rfl rfl)
theorem dX1_isSound_23 : decode cX1_isSound 23 = .ok (.invokestatic 115, 3) := dk_184 0 115 (dk_at dksX1_isSound_1 0 rfl rfl)
theorem dX1_isSound_26 : decode cX1_isSound 26 = .ok (.ifCond .ne 25, 3) := dk_154 0 25 (dk_at dksX1_isSound_1 3 rfl rfl)
theorem dX1_isSound_29 : decode cX1_isSound 29 = .ok (.aload_n 0, 1) := dk_42 (dk_at dksX1_isSound_1 6 rfl rfl)
theorem dX1_isSound_30 : decode cX1_isSound 30 = .ok (.getfield 21, 3) := dk_180 0 21 (dk_at dksX1_isSound_1 7 rfl rfl)
theorem dX1_isSound_33 : decode cX1_isSound 33 = .ok (.iload_n 2, 1) := dk_28 (dk_at dksX1_isSound_1 10 rfl rfl)
theorem dX1_isSound_34 : decode cX1_isSound 34 = .ok (.aaload, 1) := dk_50 (dk_at dksX1_isSound_1 11 rfl rfl)
theorem dX1_isSound_35 : decode cX1_isSound 35 = .ok (.invokevirtual 211, 3) := dk_182 0 211 (dk_at dksX1_isSound_1 12 rfl rfl)
theorem dX1_isSound_38 : decode cX1_isSound 38 = .ok (.invokestatic 250, 3) := dk_184 0 250 (dk_at dksX1_isSound_1 15 rfl rfl)
theorem dX1_isSound_41 : decode cX1_isSound 41 = .ok (.invokestatic 270, 3) := dk_184 1 14 (dk_at dksX1_isSound_1 18 rfl rfl)
theorem dX1_isSound_44 : decode cX1_isSound 44 = .ok (.ifCond .ne 7, 3) := dk_154 0 7 (dk_at dksX1_isSound_1 21 rfl rfl)
theorem dX1_isSound_47 : decode cX1_isSound 47 = .ok (.iconst 1, 1) := dk_4 (dk_at dksX1_isSound_2 0 rfl rfl)
theorem dX1_isSound_48 : decode cX1_isSound 48 = .ok (.goto 4, 3) := dk_167 0 4 (dk_at dksX1_isSound_2 1 rfl rfl)
theorem dX1_isSound_51 : decode cX1_isSound 51 = .ok (.iconst 0, 1) := dk_3 (dk_at dksX1_isSound_2 4 rfl rfl)
theorem dX1_isSound_52 : decode cX1_isSound 52 = .ok (.iand, 1) := dk_126 (dk_at dksX1_isSound_2 5 rfl rfl)
theorem dX1_isSound_53 : decode cX1_isSound 53 = .ok (.istore_n 1, 1) := dk_60 (dk_at dksX1_isSound_2 6 rfl rfl)
theorem dX1_isSound_54 : decode cX1_isSound 54 = .ok (.iconst 0, 1) := dk_3 (dk_at dksX1_isSound_2 7 rfl rfl)
theorem dX1_isSound_55 : decode cX1_isSound 55 = .ok (.istore_n 3, 1) := dk_62 (dk_at dksX1_isSound_2 8 rfl rfl)
theorem dX1_isSound_56 : decode cX1_isSound 56 = .ok (.iload_n 3, 1) := dk_29 (dk_at dksX1_isSound_2 9 rfl rfl)
theorem dX1_isSound_57 : decode cX1_isSound 57 = .ok (.bipush 8, 2) := dk_16 8 (dk_at dksX1_isSound_2 10 rfl rfl)
theorem dX1_isSound_59 : decode cX1_isSound 59 = .ok (.if_icmp .ge 81, 3) := dk_162 0 81 (dk_at dksX1_isSound_2 12 rfl rfl)
theorem dX1_isSound_62 : decode cX1_isSound 62 = .ok (.iload_n 1, 1) := dk_27 (dk_at dksX1_isSound_2 15 rfl rfl)
theorem dX1_isSound_63 : decode cX1_isSound 63 = .ok (.aload_n 0, 1) := dk_42 (dk_at dksX1_isSound_2 16 rfl rfl)
theorem dX1_isSound_64 : decode cX1_isSound 64 = .ok (.iload_n 2, 1) := dk_28 (dk_at dksX1_isSound_2 17 rfl rfl)
theorem dX1_isSound_65 : decode cX1_isSound 65 = .ok (.iload_n 3, 1) := dk_29 (dk_at dksX1_isSound_2 18 rfl rfl)
theorem dX1_isSound_66 : decode cX1_isSound 66 = .ok (.invokevirtual 333, 3) := dk_182 1 77 (dk_at dksX1_isSound_2 19 rfl rfl)
theorem dX1_isSound_69 : decode cX1_isSound 69 = .ok (.ifCond .eq 16, 3) := dk_153 0 16 (dk_at dksX1_isSound_3 0 rfl rfl)
theorem dX1_isSound_72 : decode cX1_isSound 72 = .ok (.aload_n 0, 1) := dk_42 (dk_at dksX1_isSound_3 3 rfl rfl)
theorem dX1_isSound_73 : decode cX1_isSound 73 = .ok (.iload_n 2, 1) := dk_28 (dk_at dksX1_isSound_3 4 rfl rfl)
theorem dX1_isSound_74 : decode cX1_isSound 74 = .ok (.iload_n 3, 1) := dk_29 (dk_at dksX1_isSound_3 5 rfl rfl)
theorem dX1_isSound_75 : decode cX1_isSound 75 = .ok (.invokevirtual 336, 3) := dk_182 1 80 (dk_at dksX1_isSound_3 6 rfl rfl)
theorem dX1_isSound_78 : decode cX1_isSound 78 = .ok (.ifCond .eq 7, 3) := dk_153 0 7 (dk_at dksX1_isSound_3 9 rfl rfl)
theorem dX1_isSound_81 : decode cX1_isSound 81 = .ok (.iconst 1, 1) := dk_4 (dk_at dksX1_isSound_3 12 rfl rfl)
theorem dX1_isSound_82 : decode cX1_isSound 82 = .ok (.goto 4, 3) := dk_167 0 4 (dk_at dksX1_isSound_3 13 rfl rfl)
theorem dX1_isSound_85 : decode cX1_isSound 85 = .ok (.iconst 0, 1) := dk_3 (dk_at dksX1_isSound_3 16 rfl rfl)
theorem dX1_isSound_86 : decode cX1_isSound 86 = .ok (.iand, 1) := dk_126 (dk_at dksX1_isSound_3 17 rfl rfl)
theorem dX1_isSound_87 : decode cX1_isSound 87 = .ok (.istore_n 1, 1) := dk_60 (dk_at dksX1_isSound_3 18 rfl rfl)
theorem dX1_isSound_88 : decode cX1_isSound 88 = .ok (.iconst 0, 1) := dk_3 (dk_at dksX1_isSound_3 19 rfl rfl)
theorem dX1_isSound_89 : decode cX1_isSound 89 = .ok (.istore 4, 2) := dk_54 4 (dk_at dksX1_isSound_3 20 rfl rfl)
theorem dX1_isSound_91 : decode cX1_isSound 91 = .ok (.iload 4, 2) := dk_21 4 (dk_at dksX1_isSound_3 22 rfl rfl)
theorem dX1_isSound_93 : decode cX1_isSound 93 = .ok (.bipush 8, 2) := dk_16 8 (dk_at dksX1_isSound_4 0 rfl rfl)
theorem dX1_isSound_95 : decode cX1_isSound 95 = .ok (.if_icmp .ge 39, 3) := dk_162 0 39 (dk_at dksX1_isSound_4 2 rfl rfl)
theorem dX1_isSound_98 : decode cX1_isSound 98 = .ok (.iload_n 1, 1) := dk_27 (dk_at dksX1_isSound_4 5 rfl rfl)
theorem dX1_isSound_99 : decode cX1_isSound 99 = .ok (.aload_n 0, 1) := dk_42 (dk_at dksX1_isSound_4 6 rfl rfl)
theorem dX1_isSound_100 : decode cX1_isSound 100 = .ok (.iload_n 2, 1) := dk_28 (dk_at dksX1_isSound_4 7 rfl rfl)
theorem dX1_isSound_101 : decode cX1_isSound 101 = .ok (.iload_n 3, 1) := dk_29 (dk_at dksX1_isSound_4 8 rfl rfl)
theorem dX1_isSound_102 : decode cX1_isSound 102 = .ok (.iload 4, 2) := dk_21 4 (dk_at dksX1_isSound_4 9 rfl rfl)
theorem dX1_isSound_104 : decode cX1_isSound 104 = .ok (.invokevirtual 339, 3) := dk_182 1 83 (dk_at dksX1_isSound_4 11 rfl rfl)
theorem dX1_isSound_107 : decode cX1_isSound 107 = .ok (.ifCond .eq 18, 3) := dk_153 0 18 (dk_at dksX1_isSound_4 14 rfl rfl)
theorem dX1_isSound_110 : decode cX1_isSound 110 = .ok (.aload_n 0, 1) := dk_42 (dk_at dksX1_isSound_4 17 rfl rfl)
theorem dX1_isSound_111 : decode cX1_isSound 111 = .ok (.iload_n 2, 1) := dk_28 (dk_at dksX1_isSound_4 18 rfl rfl)
theorem dX1_isSound_112 : decode cX1_isSound 112 = .ok (.iload_n 3, 1) := dk_29 (dk_at dksX1_isSound_4 19 rfl rfl)
theorem dX1_isSound_113 : decode cX1_isSound 113 = .ok (.iload 4, 2) := dk_21 4 (dk_at dksX1_isSound_4 20 rfl rfl)
theorem dX1_isSound_115 : decode cX1_isSound 115 = .ok (.invokevirtual 342, 3) := dk_182 1 86 (dk_at dksX1_isSound_5 0 rfl rfl)
theorem dX1_isSound_118 : decode cX1_isSound 118 = .ok (.ifCond .eq 7, 3) := dk_153 0 7 (dk_at dksX1_isSound_5 3 rfl rfl)
theorem dX1_isSound_121 : decode cX1_isSound 121 = .ok (.iconst 1, 1) := dk_4 (dk_at dksX1_isSound_5 6 rfl rfl)
theorem dX1_isSound_122 : decode cX1_isSound 122 = .ok (.goto 4, 3) := dk_167 0 4 (dk_at dksX1_isSound_5 7 rfl rfl)
theorem dX1_isSound_125 : decode cX1_isSound 125 = .ok (.iconst 0, 1) := dk_3 (dk_at dksX1_isSound_5 10 rfl rfl)
theorem dX1_isSound_126 : decode cX1_isSound 126 = .ok (.iand, 1) := dk_126 (dk_at dksX1_isSound_5 11 rfl rfl)
theorem dX1_isSound_127 : decode cX1_isSound 127 = .ok (.istore_n 1, 1) := dk_60 (dk_at dksX1_isSound_5 12 rfl rfl)
theorem dX1_isSound_128 : decode cX1_isSound 128 = .ok (.iinc 4 1, 3) := dk_132 4 1 (dk_at dksX1_isSound_5 13 rfl rfl)
theorem dX1_isSound_131 : decode cX1_isSound 131 = .ok (.goto (-40), 3) := dk_167 255 216 (dk_at dksX1_isSound_5 16 rfl rfl)
theorem dX1_isSound_134 : decode cX1_isSound 134 = .ok (.iinc 3 1, 3) := dk_132 3 1 (dk_at dksX1_isSound_5 19 rfl rfl)
theorem dX1_isSound_137 : decode cX1_isSound 137 = .ok (.goto (-81), 3) := dk_167 255 175 (dk_at dksX1_isSound_6 0 rfl rfl)
theorem dX1_isSound_140 : decode cX1_isSound 140 = .ok (.iinc 2 1, 3) := dk_132 2 1 (dk_at dksX1_isSound_6 3 rfl rfl)
theorem dX1_isSound_143 : decode cX1_isSound 143 = .ok (.goto (-139), 3) := dk_167 255 117 (dk_at dksX1_isSound_6 6 rfl rfl)
theorem dX1_isSound_146 : decode cX1_isSound 146 = .ok (.iload_n 1, 1) := dk_27 (dk_at dksX1_isSound_6 9 rfl rfl)
theorem dX1_isSound_147 : decode cX1_isSound 147 = .ok (.ireturn, 1) := dk_172 (dk_at dksX1_isSound_6 10 rfl rfl)
abbrev cX1_digitsOf : ByteArray := prog_1_method_8_code
def yX1_digitsOf : MethodName := ⟨RX1, "digitsOf", "(D)J"⟩
theorem dX1_digitsOf_0 : decode cX1_digitsOf 0 = .ok (.dload_n 0, 1) := by decide +kernel
theorem dX1_digitsOf_1 : decode cX1_digitsOf 1 = .ok (.invokestatic 50, 3) := by decide +kernel
theorem dX1_digitsOf_4 : decode cX1_digitsOf 4 = .ok (.lreturn, 1) := by decide +kernel
abbrev cX1_isSpoiled : ByteArray := prog_1_method_7_code
def yX1_isSpoiled : MethodName := ⟨RX1, "isSpoiled", "(J)Z"⟩
def dkwX1_isSpoiled_0 : List UInt8 := [30, 20, 0, 46, 127, 20, 0, 48, 148, 158, 0, 7, 4, 167, 0, 4, 3, 172]
abbrev dktX1_isSpoiled_0 : List UInt8 := dkwX1_isSpoiled_0 ++ []
theorem dksX1_isSpoiled_0 : cX1_isSpoiled.data.toList.drop 0 = dktX1_isSpoiled_0 := by decide +kernel
theorem dX1_isSpoiled_0 : decode cX1_isSpoiled 0 = .ok (.lload_n 0, 1) := dk_30 (dk_at dksX1_isSpoiled_0 0 rfl rfl)
theorem dX1_isSpoiled_1 : decode cX1_isSpoiled 1 = .ok (.ldc2_w 46, 3) := dk_20 0 46 (dk_at dksX1_isSpoiled_0 1 rfl rfl)
theorem dX1_isSpoiled_4 : decode cX1_isSpoiled 4 = .ok (.land, 1) := dk_127 (dk_at dksX1_isSpoiled_0 4 rfl rfl)
theorem dX1_isSpoiled_5 : decode cX1_isSpoiled 5 = .ok (.ldc2_w 48, 3) := dk_20 0 48 (dk_at dksX1_isSpoiled_0 5 rfl rfl)
theorem dX1_isSpoiled_8 : decode cX1_isSpoiled 8 = .ok (.lcmp, 1) := dk_148 (dk_at dksX1_isSpoiled_0 8 rfl rfl)
theorem dX1_isSpoiled_9 : decode cX1_isSpoiled 9 = .ok (.ifCond .le 7, 3) := dk_158 0 7 (dk_at dksX1_isSpoiled_0 9 rfl rfl)
theorem dX1_isSpoiled_12 : decode cX1_isSpoiled 12 = .ok (.iconst 1, 1) := dk_4 (dk_at dksX1_isSpoiled_0 12 rfl rfl)
theorem dX1_isSpoiled_13 : decode cX1_isSpoiled 13 = .ok (.goto 4, 3) := dk_167 0 4 (dk_at dksX1_isSpoiled_0 13 rfl rfl)
theorem dX1_isSpoiled_16 : decode cX1_isSpoiled 16 = .ok (.iconst 0, 1) := dk_3 (dk_at dksX1_isSpoiled_0 16 rfl rfl)
theorem dX1_isSpoiled_17 : decode cX1_isSpoiled 17 = .ok (.ireturn, 1) := dk_172 (dk_at dksX1_isSpoiled_0 17 rfl rfl)
abbrev cX1_digitsOf_2 : ByteArray := prog_1_method_41_code
def yX1_digitsOf_2 : MethodName := ⟨RX1, "digitsOf", "(F)I"⟩
theorem dX1_digitsOf_2_0 : decode cX1_digitsOf_2 0 = .ok (.fload_n 0, 1) := by decide +kernel
theorem dX1_digitsOf_2_1 : decode cX1_digitsOf_2 1 = .ok (.invokestatic 246, 3) := by decide +kernel
theorem dX1_digitsOf_2_4 : decode cX1_digitsOf_2 4 = .ok (.ireturn, 1) := by decide +kernel
abbrev cX1_isSpoiled_2 : ByteArray := prog_1_method_40_code
def yX1_isSpoiled_2 : MethodName := ⟨RX1, "isSpoiled", "(I)Z"⟩
def dkwX1_isSpoiled_2_0 : List UInt8 := [26, 18, 244, 126, 18, 245, 164, 0, 7, 4, 167, 0, 4, 3, 172]
abbrev dktX1_isSpoiled_2_0 : List UInt8 := dkwX1_isSpoiled_2_0 ++ []
theorem dksX1_isSpoiled_2_0 : cX1_isSpoiled_2.data.toList.drop 0 = dktX1_isSpoiled_2_0 := by decide +kernel
theorem dX1_isSpoiled_2_0 : decode cX1_isSpoiled_2 0 = .ok (.iload_n 0, 1) := dk_26 (dk_at dksX1_isSpoiled_2_0 0 rfl rfl)
theorem dX1_isSpoiled_2_1 : decode cX1_isSpoiled_2 1 = .ok (.ldc 244, 2) := dk_18 244 (dk_at dksX1_isSpoiled_2_0 1 rfl rfl)
theorem dX1_isSpoiled_2_3 : decode cX1_isSpoiled_2 3 = .ok (.iand, 1) := dk_126 (dk_at dksX1_isSpoiled_2_0 3 rfl rfl)
theorem dX1_isSpoiled_2_4 : decode cX1_isSpoiled_2 4 = .ok (.ldc 245, 2) := dk_18 245 (dk_at dksX1_isSpoiled_2_0 4 rfl rfl)
theorem dX1_isSpoiled_2_6 : decode cX1_isSpoiled_2 6 = .ok (.if_icmp .le 7, 3) := dk_164 0 7 (dk_at dksX1_isSpoiled_2_0 6 rfl rfl)
theorem dX1_isSpoiled_2_9 : decode cX1_isSpoiled_2 9 = .ok (.iconst 1, 1) := dk_4 (dk_at dksX1_isSpoiled_2_0 9 rfl rfl)
theorem dX1_isSpoiled_2_10 : decode cX1_isSpoiled_2 10 = .ok (.goto 4, 3) := dk_167 0 4 (dk_at dksX1_isSpoiled_2_0 10 rfl rfl)
theorem dX1_isSpoiled_2_13 : decode cX1_isSpoiled_2 13 = .ok (.iconst 0, 1) := dk_3 (dk_at dksX1_isSpoiled_2_0 13 rfl rfl)
theorem dX1_isSpoiled_2_14 : decode cX1_isSpoiled_2 14 = .ok (.ireturn, 1) := dk_172 (dk_at dksX1_isSpoiled_2_0 14 rfl rfl)
abbrev cX1_isWidePair : ByteArray := prog_1_method_38_code
def yX1_isWidePair : MethodName := ⟨RX1, "isWidePair", "(II)Z"⟩
def dkwX1_isWidePair_11 : List UInt8 := [182, 0, 240, 153, 0, 8, 21, 6, 156, 0, 7, 4, 167, 0, 4, 3, 172]
abbrev dktX1_isWidePair_11 : List UInt8 := dkwX1_isWidePair_11 ++ []
def dkwX1_isWidePair_10 : List UInt8 := [182, 0, 87, 153, 0, 7, 4, 167, 0, 4, 3, 126, 54, 7, 21, 7, 153, 0, 22, 42, 27, 28, 3]
abbrev dktX1_isWidePair_10 : List UInt8 := dkwX1_isWidePair_10 ++ dktX1_isWidePair_11
def dkwX1_isWidePair_9 : List UInt8 := [167, 0, 4, 45, 182, 0, 87, 153, 0, 26, 25, 9, 21, 6, 156, 0, 7, 45, 167, 0, 5, 25, 4]
abbrev dktX1_isWidePair_9 : List UInt8 := dkwX1_isWidePair_9 ++ dktX1_isWidePair_10
def dkwX1_isWidePair_8 : List UInt8 := [25, 4, 182, 0, 95, 184, 0, 149, 184, 0, 25, 58, 9, 21, 7, 25, 8, 21, 6, 156, 0, 8, 25, 4]
abbrev dktX1_isWidePair_8 : List UInt8 := dkwX1_isWidePair_8 ++ dktX1_isWidePair_9
def dkwX1_isWidePair_7 : List UInt8 := [54, 7, 45, 182, 0, 95, 25, 4, 182, 0, 95, 184, 0, 145, 184, 0, 25, 58, 8, 45, 182, 0, 95]
abbrev dktX1_isWidePair_7 : List UInt8 := dkwX1_isWidePair_7 ++ dktX1_isWidePair_8
def dkwX1_isWidePair_6 : List UInt8 := [184, 0, 99, 154, 0, 18, 25, 4, 182, 0, 95, 184, 0, 99, 154, 0, 7, 4, 167, 0, 4, 3, 126]
abbrev dktX1_isWidePair_6 : List UInt8 := dkwX1_isWidePair_6 ++ dktX1_isWidePair_7
def dkwX1_isWidePair_5 : List UInt8 := [126, 54, 7, 21, 7, 42, 27, 28, 182, 0, 236, 153, 0, 29, 21, 5, 154, 0, 24, 45, 182, 0, 95]
abbrev dktX1_isWidePair_5 : List UInt8 := dkwX1_isWidePair_5 ++ dktX1_isWidePair_6
def dkwX1_isWidePair_4 : List UInt8 := [21, 7, 21, 5, 153, 0, 15, 45, 182, 0, 221, 25, 4, 182, 0, 221, 160, 0, 7, 4, 167, 0, 4, 3]
abbrev dktX1_isWidePair_4 : List UInt8 := dkwX1_isWidePair_4 ++ dktX1_isWidePair_5
def dkwX1_isWidePair_3 : List UInt8 := [3, 21, 5, 160, 0, 18, 45, 25, 4, 182, 0, 87, 21, 5, 160, 0, 7, 4, 167, 0, 4, 3, 54, 7]
abbrev dktX1_isWidePair_3 : List UInt8 := dkwX1_isWidePair_3 ++ dktX1_isWidePair_4
def dkwX1_isWidePair_2 : List UInt8 := [54, 6, 21, 6, 42, 28, 27, 4, 182, 0, 232, 116, 160, 0, 33, 21, 6, 154, 0, 7, 4, 167, 0, 4]
abbrev dktX1_isWidePair_2 : List UInt8 := dkwX1_isWidePair_2 ++ dktX1_isWidePair_3
def dkwX1_isWidePair_1 : List UInt8 := [182, 0, 95, 184, 0, 54, 148, 154, 0, 7, 4, 167, 0, 4, 3, 54, 5, 42, 27, 28, 3, 182, 0, 232]
abbrev dktX1_isWidePair_1 : List UInt8 := dkwX1_isWidePair_1 ++ dktX1_isWidePair_2
def dkwX1_isWidePair_0 : List UInt8 := [42, 180, 0, 15, 27, 50, 78, 42, 180, 0, 15, 28, 50, 58, 4, 45, 182, 0, 95, 184, 0, 54, 25, 4]
abbrev dktX1_isWidePair_0 : List UInt8 := dkwX1_isWidePair_0 ++ dktX1_isWidePair_1
theorem dksX1_isWidePair_0 : cX1_isWidePair.data.toList.drop 0 = dktX1_isWidePair_0 := by decide +kernel
theorem dksX1_isWidePair_1 : cX1_isWidePair.data.toList.drop 24 = dktX1_isWidePair_1 := dk_seg dksX1_isWidePair_0 24 rfl rfl
theorem dksX1_isWidePair_2 : cX1_isWidePair.data.toList.drop 48 = dktX1_isWidePair_2 := dk_seg dksX1_isWidePair_1 24 rfl rfl
theorem dksX1_isWidePair_3 : cX1_isWidePair.data.toList.drop 72 = dktX1_isWidePair_3 := dk_seg dksX1_isWidePair_2 24 rfl rfl
theorem dksX1_isWidePair_4 : cX1_isWidePair.data.toList.drop 96 = dktX1_isWidePair_4 := dk_seg dksX1_isWidePair_3 24 rfl rfl
theorem dksX1_isWidePair_5 : cX1_isWidePair.data.toList.drop 120 = dktX1_isWidePair_5 := dk_seg dksX1_isWidePair_4 24 rfl rfl
theorem dksX1_isWidePair_6 : cX1_isWidePair.data.toList.drop 143 = dktX1_isWidePair_6 := dk_seg dksX1_isWidePair_5 23 rfl rfl
theorem dksX1_isWidePair_7 : cX1_isWidePair.data.toList.drop 166 = dktX1_isWidePair_7 := dk_seg dksX1_isWidePair_6 23 rfl rfl
theorem dksX1_isWidePair_8 : cX1_isWidePair.data.toList.drop 189 = dktX1_isWidePair_8 := dk_seg dksX1_isWidePair_7 23 rfl rfl
theorem dksX1_isWidePair_9 : cX1_isWidePair.data.toList.drop 213 = dktX1_isWidePair_9 := dk_seg dksX1_isWidePair_8 24 rfl rfl
theorem dksX1_isWidePair_10 : cX1_isWidePair.data.toList.drop 236 = dktX1_isWidePair_10 := dk_seg dksX1_isWidePair_9 23 rfl rfl
theorem dksX1_isWidePair_11 : cX1_isWidePair.data.toList.drop 259 = dktX1_isWidePair_11 := dk_seg dksX1_isWidePair_10 23 rfl rfl
theorem dX1_isWidePair_0 : decode cX1_isWidePair 0 = .ok (.aload_n 0, 1) := dk_42 (dk_at dksX1_isWidePair_0 0 rfl rfl)
theorem dX1_isWidePair_1 : decode cX1_isWidePair 1 = .ok (.getfield 15, 3) := dk_180 0 15 (dk_at dksX1_isWidePair_0 1 rfl rfl)
theorem dX1_isWidePair_4 : decode cX1_isWidePair 4 = .ok (.iload_n 1, 1) := dk_27 (dk_at dksX1_isWidePair_0 4 rfl rfl)
theorem dX1_isWidePair_5 : decode cX1_isWidePair 5 = .ok (.aaload, 1) := dk_50 (dk_at dksX1_isWidePair_0 5 rfl rfl)
theorem dX1_isWidePair_6 : decode cX1_isWidePair 6 = .ok (.astore_n 3, 1) := dk_78 (dk_at dksX1_isWidePair_0 6 rfl rfl)
theorem dX1_isWidePair_7 : decode cX1_isWidePair 7 = .ok (.aload_n 0, 1) := dk_42 (dk_at dksX1_isWidePair_0 7 rfl rfl)
theorem dX1_isWidePair_8 : decode cX1_isWidePair 8 = .ok (.getfield 15, 3) := dk_180 0 15 (dk_at dksX1_isWidePair_0 8 rfl rfl)
theorem dX1_isWidePair_11 : decode cX1_isWidePair 11 = .ok (.iload_n 2, 1) := dk_28 (dk_at dksX1_isWidePair_0 11 rfl rfl)
theorem dX1_isWidePair_12 : decode cX1_isWidePair 12 = .ok (.aaload, 1) := dk_50 (dk_at dksX1_isWidePair_0 12 rfl rfl)
theorem dX1_isWidePair_13 : decode cX1_isWidePair 13 = .ok (.astore 4, 2) := dk_58 4 (dk_at dksX1_isWidePair_0 13 rfl rfl)
theorem dX1_isWidePair_15 : decode cX1_isWidePair 15 = .ok (.aload_n 3, 1) := dk_45 (dk_at dksX1_isWidePair_0 15 rfl rfl)
theorem dX1_isWidePair_16 : decode cX1_isWidePair 16 = .ok (.invokevirtual 95, 3) := dk_182 0 95 (dk_at dksX1_isWidePair_0 16 rfl rfl)
theorem dX1_isWidePair_19 : decode cX1_isWidePair 19 = .ok (.invokestatic 54, 3) := dk_184 0 54 (dk_at dksX1_isWidePair_0 19 rfl rfl)
theorem dX1_isWidePair_22 : decode cX1_isWidePair 22 = .ok (.aload 4, 2) := dk_25 4 (dk_at dksX1_isWidePair_0 22 rfl rfl)
theorem dX1_isWidePair_24 : decode cX1_isWidePair 24 = .ok (.invokevirtual 95, 3) := dk_182 0 95 (dk_at dksX1_isWidePair_1 0 rfl rfl)
theorem dX1_isWidePair_27 : decode cX1_isWidePair 27 = .ok (.invokestatic 54, 3) := dk_184 0 54 (dk_at dksX1_isWidePair_1 3 rfl rfl)
theorem dX1_isWidePair_30 : decode cX1_isWidePair 30 = .ok (.lcmp, 1) := dk_148 (dk_at dksX1_isWidePair_1 6 rfl rfl)
theorem dX1_isWidePair_31 : decode cX1_isWidePair 31 = .ok (.ifCond .ne 7, 3) := dk_154 0 7 (dk_at dksX1_isWidePair_1 7 rfl rfl)
theorem dX1_isWidePair_34 : decode cX1_isWidePair 34 = .ok (.iconst 1, 1) := dk_4 (dk_at dksX1_isWidePair_1 10 rfl rfl)
theorem dX1_isWidePair_35 : decode cX1_isWidePair 35 = .ok (.goto 4, 3) := dk_167 0 4 (dk_at dksX1_isWidePair_1 11 rfl rfl)
theorem dX1_isWidePair_38 : decode cX1_isWidePair 38 = .ok (.iconst 0, 1) := dk_3 (dk_at dksX1_isWidePair_1 14 rfl rfl)
theorem dX1_isWidePair_39 : decode cX1_isWidePair 39 = .ok (.istore 5, 2) := dk_54 5 (dk_at dksX1_isWidePair_1 15 rfl rfl)
theorem dX1_isWidePair_41 : decode cX1_isWidePair 41 = .ok (.aload_n 0, 1) := dk_42 (dk_at dksX1_isWidePair_1 17 rfl rfl)
theorem dX1_isWidePair_42 : decode cX1_isWidePair 42 = .ok (.iload_n 1, 1) := dk_27 (dk_at dksX1_isWidePair_1 18 rfl rfl)
theorem dX1_isWidePair_43 : decode cX1_isWidePair 43 = .ok (.iload_n 2, 1) := dk_28 (dk_at dksX1_isWidePair_1 19 rfl rfl)
theorem dX1_isWidePair_44 : decode cX1_isWidePair 44 = .ok (.iconst 0, 1) := dk_3 (dk_at dksX1_isWidePair_1 20 rfl rfl)
theorem dX1_isWidePair_45 : decode cX1_isWidePair 45 = .ok (.invokevirtual 232, 3) := dk_182 0 232 (dk_at dksX1_isWidePair_1 21 rfl rfl)
theorem dX1_isWidePair_48 : decode cX1_isWidePair 48 = .ok (.istore 6, 2) := dk_54 6 (dk_at dksX1_isWidePair_2 0 rfl rfl)
theorem dX1_isWidePair_50 : decode cX1_isWidePair 50 = .ok (.iload 6, 2) := dk_21 6 (dk_at dksX1_isWidePair_2 2 rfl rfl)
theorem dX1_isWidePair_52 : decode cX1_isWidePair 52 = .ok (.aload_n 0, 1) := dk_42 (dk_at dksX1_isWidePair_2 4 rfl rfl)
theorem dX1_isWidePair_53 : decode cX1_isWidePair 53 = .ok (.iload_n 2, 1) := dk_28 (dk_at dksX1_isWidePair_2 5 rfl rfl)
theorem dX1_isWidePair_54 : decode cX1_isWidePair 54 = .ok (.iload_n 1, 1) := dk_27 (dk_at dksX1_isWidePair_2 6 rfl rfl)
theorem dX1_isWidePair_55 : decode cX1_isWidePair 55 = .ok (.iconst 1, 1) := dk_4 (dk_at dksX1_isWidePair_2 7 rfl rfl)
theorem dX1_isWidePair_56 : decode cX1_isWidePair 56 = .ok (.invokevirtual 232, 3) := dk_182 0 232 (dk_at dksX1_isWidePair_2 8 rfl rfl)
theorem dX1_isWidePair_59 : decode cX1_isWidePair 59 = .ok (.ineg, 1) := dk_116 (dk_at dksX1_isWidePair_2 11 rfl rfl)
theorem dX1_isWidePair_60 : decode cX1_isWidePair 60 = .ok (.if_icmp .ne 33, 3) := dk_160 0 33 (dk_at dksX1_isWidePair_2 12 rfl rfl)
theorem dX1_isWidePair_63 : decode cX1_isWidePair 63 = .ok (.iload 6, 2) := dk_21 6 (dk_at dksX1_isWidePair_2 15 rfl rfl)
theorem dX1_isWidePair_65 : decode cX1_isWidePair 65 = .ok (.ifCond .ne 7, 3) := dk_154 0 7 (dk_at dksX1_isWidePair_2 17 rfl rfl)
theorem dX1_isWidePair_68 : decode cX1_isWidePair 68 = .ok (.iconst 1, 1) := dk_4 (dk_at dksX1_isWidePair_2 20 rfl rfl)
theorem dX1_isWidePair_69 : decode cX1_isWidePair 69 = .ok (.goto 4, 3) := dk_167 0 4 (dk_at dksX1_isWidePair_2 21 rfl rfl)
theorem dX1_isWidePair_72 : decode cX1_isWidePair 72 = .ok (.iconst 0, 1) := dk_3 (dk_at dksX1_isWidePair_3 0 rfl rfl)
theorem dX1_isWidePair_73 : decode cX1_isWidePair 73 = .ok (.iload 5, 2) := dk_21 5 (dk_at dksX1_isWidePair_3 1 rfl rfl)
theorem dX1_isWidePair_75 : decode cX1_isWidePair 75 = .ok (.if_icmp .ne 18, 3) := dk_160 0 18 (dk_at dksX1_isWidePair_3 3 rfl rfl)
theorem dX1_isWidePair_78 : decode cX1_isWidePair 78 = .ok (.aload_n 3, 1) := dk_45 (dk_at dksX1_isWidePair_3 6 rfl rfl)
theorem dX1_isWidePair_79 : decode cX1_isWidePair 79 = .ok (.aload 4, 2) := dk_25 4 (dk_at dksX1_isWidePair_3 7 rfl rfl)
theorem dX1_isWidePair_81 : decode cX1_isWidePair 81 = .ok (.invokevirtual 87, 3) := dk_182 0 87 (dk_at dksX1_isWidePair_3 9 rfl rfl)
theorem dX1_isWidePair_84 : decode cX1_isWidePair 84 = .ok (.iload 5, 2) := dk_21 5 (dk_at dksX1_isWidePair_3 12 rfl rfl)
theorem dX1_isWidePair_86 : decode cX1_isWidePair 86 = .ok (.if_icmp .ne 7, 3) := dk_160 0 7 (dk_at dksX1_isWidePair_3 14 rfl rfl)
theorem dX1_isWidePair_89 : decode cX1_isWidePair 89 = .ok (.iconst 1, 1) := dk_4 (dk_at dksX1_isWidePair_3 17 rfl rfl)
theorem dX1_isWidePair_90 : decode cX1_isWidePair 90 = .ok (.goto 4, 3) := dk_167 0 4 (dk_at dksX1_isWidePair_3 18 rfl rfl)
theorem dX1_isWidePair_93 : decode cX1_isWidePair 93 = .ok (.iconst 0, 1) := dk_3 (dk_at dksX1_isWidePair_3 21 rfl rfl)
theorem dX1_isWidePair_94 : decode cX1_isWidePair 94 = .ok (.istore 7, 2) := dk_54 7 (dk_at dksX1_isWidePair_3 22 rfl rfl)
theorem dX1_isWidePair_96 : decode cX1_isWidePair 96 = .ok (.iload 7, 2) := dk_21 7 (dk_at dksX1_isWidePair_4 0 rfl rfl)
theorem dX1_isWidePair_98 : decode cX1_isWidePair 98 = .ok (.iload 5, 2) := dk_21 5 (dk_at dksX1_isWidePair_4 2 rfl rfl)
theorem dX1_isWidePair_100 : decode cX1_isWidePair 100 = .ok (.ifCond .eq 15, 3) := dk_153 0 15 (dk_at dksX1_isWidePair_4 4 rfl rfl)
theorem dX1_isWidePair_103 : decode cX1_isWidePair 103 = .ok (.aload_n 3, 1) := dk_45 (dk_at dksX1_isWidePair_4 7 rfl rfl)
theorem dX1_isWidePair_104 : decode cX1_isWidePair 104 = .ok (.invokevirtual 221, 3) := dk_182 0 221 (dk_at dksX1_isWidePair_4 8 rfl rfl)
theorem dX1_isWidePair_107 : decode cX1_isWidePair 107 = .ok (.aload 4, 2) := dk_25 4 (dk_at dksX1_isWidePair_4 11 rfl rfl)
theorem dX1_isWidePair_109 : decode cX1_isWidePair 109 = .ok (.invokevirtual 221, 3) := dk_182 0 221 (dk_at dksX1_isWidePair_4 13 rfl rfl)
theorem dX1_isWidePair_112 : decode cX1_isWidePair 112 = .ok (.if_icmp .ne 7, 3) := dk_160 0 7 (dk_at dksX1_isWidePair_4 16 rfl rfl)
theorem dX1_isWidePair_115 : decode cX1_isWidePair 115 = .ok (.iconst 1, 1) := dk_4 (dk_at dksX1_isWidePair_4 19 rfl rfl)
theorem dX1_isWidePair_116 : decode cX1_isWidePair 116 = .ok (.goto 4, 3) := dk_167 0 4 (dk_at dksX1_isWidePair_4 20 rfl rfl)
theorem dX1_isWidePair_119 : decode cX1_isWidePair 119 = .ok (.iconst 0, 1) := dk_3 (dk_at dksX1_isWidePair_4 23 rfl rfl)
theorem dX1_isWidePair_120 : decode cX1_isWidePair 120 = .ok (.iand, 1) := dk_126 (dk_at dksX1_isWidePair_5 0 rfl rfl)
theorem dX1_isWidePair_121 : decode cX1_isWidePair 121 = .ok (.istore 7, 2) := dk_54 7 (dk_at dksX1_isWidePair_5 1 rfl rfl)
theorem dX1_isWidePair_123 : decode cX1_isWidePair 123 = .ok (.iload 7, 2) := dk_21 7 (dk_at dksX1_isWidePair_5 3 rfl rfl)
theorem dX1_isWidePair_125 : decode cX1_isWidePair 125 = .ok (.aload_n 0, 1) := dk_42 (dk_at dksX1_isWidePair_5 5 rfl rfl)
theorem dX1_isWidePair_126 : decode cX1_isWidePair 126 = .ok (.iload_n 1, 1) := dk_27 (dk_at dksX1_isWidePair_5 6 rfl rfl)
theorem dX1_isWidePair_127 : decode cX1_isWidePair 127 = .ok (.iload_n 2, 1) := dk_28 (dk_at dksX1_isWidePair_5 7 rfl rfl)
theorem dX1_isWidePair_128 : decode cX1_isWidePair 128 = .ok (.invokevirtual 236, 3) := dk_182 0 236 (dk_at dksX1_isWidePair_5 8 rfl rfl)
theorem dX1_isWidePair_131 : decode cX1_isWidePair 131 = .ok (.ifCond .eq 29, 3) := dk_153 0 29 (dk_at dksX1_isWidePair_5 11 rfl rfl)
theorem dX1_isWidePair_134 : decode cX1_isWidePair 134 = .ok (.iload 5, 2) := dk_21 5 (dk_at dksX1_isWidePair_5 14 rfl rfl)
theorem dX1_isWidePair_136 : decode cX1_isWidePair 136 = .ok (.ifCond .ne 24, 3) := dk_154 0 24 (dk_at dksX1_isWidePair_5 16 rfl rfl)
theorem dX1_isWidePair_139 : decode cX1_isWidePair 139 = .ok (.aload_n 3, 1) := dk_45 (dk_at dksX1_isWidePair_5 19 rfl rfl)
theorem dX1_isWidePair_140 : decode cX1_isWidePair 140 = .ok (.invokevirtual 95, 3) := dk_182 0 95 (dk_at dksX1_isWidePair_5 20 rfl rfl)
theorem dX1_isWidePair_143 : decode cX1_isWidePair 143 = .ok (.invokestatic 99, 3) := dk_184 0 99 (dk_at dksX1_isWidePair_6 0 rfl rfl)
theorem dX1_isWidePair_146 : decode cX1_isWidePair 146 = .ok (.ifCond .ne 18, 3) := dk_154 0 18 (dk_at dksX1_isWidePair_6 3 rfl rfl)
theorem dX1_isWidePair_149 : decode cX1_isWidePair 149 = .ok (.aload 4, 2) := dk_25 4 (dk_at dksX1_isWidePair_6 6 rfl rfl)
theorem dX1_isWidePair_151 : decode cX1_isWidePair 151 = .ok (.invokevirtual 95, 3) := dk_182 0 95 (dk_at dksX1_isWidePair_6 8 rfl rfl)
theorem dX1_isWidePair_154 : decode cX1_isWidePair 154 = .ok (.invokestatic 99, 3) := dk_184 0 99 (dk_at dksX1_isWidePair_6 11 rfl rfl)
theorem dX1_isWidePair_157 : decode cX1_isWidePair 157 = .ok (.ifCond .ne 7, 3) := dk_154 0 7 (dk_at dksX1_isWidePair_6 14 rfl rfl)
theorem dX1_isWidePair_160 : decode cX1_isWidePair 160 = .ok (.iconst 1, 1) := dk_4 (dk_at dksX1_isWidePair_6 17 rfl rfl)
theorem dX1_isWidePair_161 : decode cX1_isWidePair 161 = .ok (.goto 4, 3) := dk_167 0 4 (dk_at dksX1_isWidePair_6 18 rfl rfl)
theorem dX1_isWidePair_164 : decode cX1_isWidePair 164 = .ok (.iconst 0, 1) := dk_3 (dk_at dksX1_isWidePair_6 21 rfl rfl)
theorem dX1_isWidePair_165 : decode cX1_isWidePair 165 = .ok (.iand, 1) := dk_126 (dk_at dksX1_isWidePair_6 22 rfl rfl)
theorem dX1_isWidePair_166 : decode cX1_isWidePair 166 = .ok (.istore 7, 2) := dk_54 7 (dk_at dksX1_isWidePair_7 0 rfl rfl)
theorem dX1_isWidePair_168 : decode cX1_isWidePair 168 = .ok (.aload_n 3, 1) := dk_45 (dk_at dksX1_isWidePair_7 2 rfl rfl)
theorem dX1_isWidePair_169 : decode cX1_isWidePair 169 = .ok (.invokevirtual 95, 3) := dk_182 0 95 (dk_at dksX1_isWidePair_7 3 rfl rfl)
theorem dX1_isWidePair_172 : decode cX1_isWidePair 172 = .ok (.aload 4, 2) := dk_25 4 (dk_at dksX1_isWidePair_7 6 rfl rfl)
theorem dX1_isWidePair_174 : decode cX1_isWidePair 174 = .ok (.invokevirtual 95, 3) := dk_182 0 95 (dk_at dksX1_isWidePair_7 8 rfl rfl)
theorem dX1_isWidePair_177 : decode cX1_isWidePair 177 = .ok (.invokestatic 145, 3) := dk_184 0 145 (dk_at dksX1_isWidePair_7 11 rfl rfl)
theorem dX1_isWidePair_180 : decode cX1_isWidePair 180 = .ok (.invokestatic 25, 3) := dk_184 0 25 (dk_at dksX1_isWidePair_7 14 rfl rfl)
theorem dX1_isWidePair_183 : decode cX1_isWidePair 183 = .ok (.astore 8, 2) := dk_58 8 (dk_at dksX1_isWidePair_7 17 rfl rfl)
theorem dX1_isWidePair_185 : decode cX1_isWidePair 185 = .ok (.aload_n 3, 1) := dk_45 (dk_at dksX1_isWidePair_7 19 rfl rfl)
theorem dX1_isWidePair_186 : decode cX1_isWidePair 186 = .ok (.invokevirtual 95, 3) := dk_182 0 95 (dk_at dksX1_isWidePair_7 20 rfl rfl)
theorem dX1_isWidePair_189 : decode cX1_isWidePair 189 = .ok (.aload 4, 2) := dk_25 4 (dk_at dksX1_isWidePair_8 0 rfl rfl)
theorem dX1_isWidePair_191 : decode cX1_isWidePair 191 = .ok (.invokevirtual 95, 3) := dk_182 0 95 (dk_at dksX1_isWidePair_8 2 rfl rfl)
theorem dX1_isWidePair_194 : decode cX1_isWidePair 194 = .ok (.invokestatic 149, 3) := dk_184 0 149 (dk_at dksX1_isWidePair_8 5 rfl rfl)
theorem dX1_isWidePair_197 : decode cX1_isWidePair 197 = .ok (.invokestatic 25, 3) := dk_184 0 25 (dk_at dksX1_isWidePair_8 8 rfl rfl)
theorem dX1_isWidePair_200 : decode cX1_isWidePair 200 = .ok (.astore 9, 2) := dk_58 9 (dk_at dksX1_isWidePair_8 11 rfl rfl)
theorem dX1_isWidePair_202 : decode cX1_isWidePair 202 = .ok (.iload 7, 2) := dk_21 7 (dk_at dksX1_isWidePair_8 13 rfl rfl)
theorem dX1_isWidePair_204 : decode cX1_isWidePair 204 = .ok (.aload 8, 2) := dk_25 8 (dk_at dksX1_isWidePair_8 15 rfl rfl)
theorem dX1_isWidePair_206 : decode cX1_isWidePair 206 = .ok (.iload 6, 2) := dk_21 6 (dk_at dksX1_isWidePair_8 17 rfl rfl)
theorem dX1_isWidePair_208 : decode cX1_isWidePair 208 = .ok (.ifCond .ge 8, 3) := dk_156 0 8 (dk_at dksX1_isWidePair_8 19 rfl rfl)
theorem dX1_isWidePair_211 : decode cX1_isWidePair 211 = .ok (.aload 4, 2) := dk_25 4 (dk_at dksX1_isWidePair_8 22 rfl rfl)
theorem dX1_isWidePair_213 : decode cX1_isWidePair 213 = .ok (.goto 4, 3) := dk_167 0 4 (dk_at dksX1_isWidePair_9 0 rfl rfl)
theorem dX1_isWidePair_216 : decode cX1_isWidePair 216 = .ok (.aload_n 3, 1) := dk_45 (dk_at dksX1_isWidePair_9 3 rfl rfl)
theorem dX1_isWidePair_217 : decode cX1_isWidePair 217 = .ok (.invokevirtual 87, 3) := dk_182 0 87 (dk_at dksX1_isWidePair_9 4 rfl rfl)
theorem dX1_isWidePair_220 : decode cX1_isWidePair 220 = .ok (.ifCond .eq 26, 3) := dk_153 0 26 (dk_at dksX1_isWidePair_9 7 rfl rfl)
theorem dX1_isWidePair_223 : decode cX1_isWidePair 223 = .ok (.aload 9, 2) := dk_25 9 (dk_at dksX1_isWidePair_9 10 rfl rfl)
theorem dX1_isWidePair_225 : decode cX1_isWidePair 225 = .ok (.iload 6, 2) := dk_21 6 (dk_at dksX1_isWidePair_9 12 rfl rfl)
theorem dX1_isWidePair_227 : decode cX1_isWidePair 227 = .ok (.ifCond .ge 7, 3) := dk_156 0 7 (dk_at dksX1_isWidePair_9 14 rfl rfl)
theorem dX1_isWidePair_230 : decode cX1_isWidePair 230 = .ok (.aload_n 3, 1) := dk_45 (dk_at dksX1_isWidePair_9 17 rfl rfl)
theorem dX1_isWidePair_231 : decode cX1_isWidePair 231 = .ok (.goto 5, 3) := dk_167 0 5 (dk_at dksX1_isWidePair_9 18 rfl rfl)
theorem dX1_isWidePair_234 : decode cX1_isWidePair 234 = .ok (.aload 4, 2) := dk_25 4 (dk_at dksX1_isWidePair_9 21 rfl rfl)
theorem dX1_isWidePair_236 : decode cX1_isWidePair 236 = .ok (.invokevirtual 87, 3) := dk_182 0 87 (dk_at dksX1_isWidePair_10 0 rfl rfl)
theorem dX1_isWidePair_239 : decode cX1_isWidePair 239 = .ok (.ifCond .eq 7, 3) := dk_153 0 7 (dk_at dksX1_isWidePair_10 3 rfl rfl)
theorem dX1_isWidePair_242 : decode cX1_isWidePair 242 = .ok (.iconst 1, 1) := dk_4 (dk_at dksX1_isWidePair_10 6 rfl rfl)
theorem dX1_isWidePair_243 : decode cX1_isWidePair 243 = .ok (.goto 4, 3) := dk_167 0 4 (dk_at dksX1_isWidePair_10 7 rfl rfl)
theorem dX1_isWidePair_246 : decode cX1_isWidePair 246 = .ok (.iconst 0, 1) := dk_3 (dk_at dksX1_isWidePair_10 10 rfl rfl)
theorem dX1_isWidePair_247 : decode cX1_isWidePair 247 = .ok (.iand, 1) := dk_126 (dk_at dksX1_isWidePair_10 11 rfl rfl)
theorem dX1_isWidePair_248 : decode cX1_isWidePair 248 = .ok (.istore 7, 2) := dk_54 7 (dk_at dksX1_isWidePair_10 12 rfl rfl)
theorem dX1_isWidePair_250 : decode cX1_isWidePair 250 = .ok (.iload 7, 2) := dk_21 7 (dk_at dksX1_isWidePair_10 14 rfl rfl)
theorem dX1_isWidePair_252 : decode cX1_isWidePair 252 = .ok (.ifCond .eq 22, 3) := dk_153 0 22 (dk_at dksX1_isWidePair_10 16 rfl rfl)
theorem dX1_isWidePair_255 : decode cX1_isWidePair 255 = .ok (.aload_n 0, 1) := dk_42 (dk_at dksX1_isWidePair_10 19 rfl rfl)
theorem dX1_isWidePair_256 : decode cX1_isWidePair 256 = .ok (.iload_n 1, 1) := dk_27 (dk_at dksX1_isWidePair_10 20 rfl rfl)
theorem dX1_isWidePair_257 : decode cX1_isWidePair 257 = .ok (.iload_n 2, 1) := dk_28 (dk_at dksX1_isWidePair_10 21 rfl rfl)
theorem dX1_isWidePair_258 : decode cX1_isWidePair 258 = .ok (.iconst 0, 1) := dk_3 (dk_at dksX1_isWidePair_10 22 rfl rfl)
theorem dX1_isWidePair_259 : decode cX1_isWidePair 259 = .ok (.invokevirtual 240, 3) := dk_182 0 240 (dk_at dksX1_isWidePair_11 0 rfl rfl)
theorem dX1_isWidePair_262 : decode cX1_isWidePair 262 = .ok (.ifCond .eq 8, 3) := dk_153 0 8 (dk_at dksX1_isWidePair_11 3 rfl rfl)
theorem dX1_isWidePair_265 : decode cX1_isWidePair 265 = .ok (.iload 6, 2) := dk_21 6 (dk_at dksX1_isWidePair_11 6 rfl rfl)
theorem dX1_isWidePair_267 : decode cX1_isWidePair 267 = .ok (.ifCond .ge 7, 3) := dk_156 0 7 (dk_at dksX1_isWidePair_11 8 rfl rfl)
theorem dX1_isWidePair_270 : decode cX1_isWidePair 270 = .ok (.iconst 1, 1) := dk_4 (dk_at dksX1_isWidePair_11 11 rfl rfl)
theorem dX1_isWidePair_271 : decode cX1_isWidePair 271 = .ok (.goto 4, 3) := dk_167 0 4 (dk_at dksX1_isWidePair_11 12 rfl rfl)
theorem dX1_isWidePair_274 : decode cX1_isWidePair 274 = .ok (.iconst 0, 1) := dk_3 (dk_at dksX1_isWidePair_11 15 rfl rfl)
theorem dX1_isWidePair_275 : decode cX1_isWidePair 275 = .ok (.ireturn, 1) := dk_172 (dk_at dksX1_isWidePair_11 16 rfl rfl)
abbrev cX1_wideOrder : ByteArray := prog_1_method_28_code
def yX1_wideOrder : MethodName := ⟨RX1, "wideOrder", "(III)I"⟩
def dkwX1_wideOrder_3 : List UInt8 := [184, 0, 199, 172]
abbrev dktX1_wideOrder_3 : List UInt8 := dkwX1_wideOrder_3 ++ []
def dkwX1_wideOrder_2 : List UInt8 := [29, 4, 160, 0, 13, 25, 4, 25, 5, 182, 0, 190, 167, 0, 12, 25, 6, 25, 5, 185, 0, 194, 2, 0]
abbrev dktX1_wideOrder_2 : List UInt8 := dkwX1_wideOrder_2 ++ dktX1_wideOrder_3
def dkwX1_wideOrder_1 : List UInt8 := [25, 4, 58, 6, 29, 154, 0, 19, 25, 4, 182, 0, 95, 25, 5, 182, 0, 95, 184, 0, 159, 167, 0, 27]
abbrev dktX1_wideOrder_1 : List UInt8 := dkwX1_wideOrder_1 ++ dktX1_wideOrder_2
def dkwX1_wideOrder_0 : List UInt8 := [42, 27, 182, 0, 142, 58, 4, 42, 28, 182, 0, 142, 58, 5, 29, 3, 5, 184, 0, 32, 184, 0, 132]
abbrev dktX1_wideOrder_0 : List UInt8 := dkwX1_wideOrder_0 ++ dktX1_wideOrder_1
theorem dksX1_wideOrder_0 : cX1_wideOrder.data.toList.drop 0 = dktX1_wideOrder_0 := by decide +kernel
theorem dksX1_wideOrder_1 : cX1_wideOrder.data.toList.drop 23 = dktX1_wideOrder_1 := dk_seg dksX1_wideOrder_0 23 rfl rfl
theorem dksX1_wideOrder_2 : cX1_wideOrder.data.toList.drop 47 = dktX1_wideOrder_2 := dk_seg dksX1_wideOrder_1 24 rfl rfl
theorem dksX1_wideOrder_3 : cX1_wideOrder.data.toList.drop 71 = dktX1_wideOrder_3 := dk_seg dksX1_wideOrder_2 24 rfl rfl
theorem dX1_wideOrder_0 : decode cX1_wideOrder 0 = .ok (.aload_n 0, 1) := dk_42 (dk_at dksX1_wideOrder_0 0 rfl rfl)
theorem dX1_wideOrder_1 : decode cX1_wideOrder 1 = .ok (.iload_n 1, 1) := dk_27 (dk_at dksX1_wideOrder_0 1 rfl rfl)
theorem dX1_wideOrder_2 : decode cX1_wideOrder 2 = .ok (.invokevirtual 142, 3) := dk_182 0 142 (dk_at dksX1_wideOrder_0 2 rfl rfl)
theorem dX1_wideOrder_5 : decode cX1_wideOrder 5 = .ok (.astore 4, 2) := dk_58 4 (dk_at dksX1_wideOrder_0 5 rfl rfl)
theorem dX1_wideOrder_7 : decode cX1_wideOrder 7 = .ok (.aload_n 0, 1) := dk_42 (dk_at dksX1_wideOrder_0 7 rfl rfl)
theorem dX1_wideOrder_8 : decode cX1_wideOrder 8 = .ok (.iload_n 2, 1) := dk_28 (dk_at dksX1_wideOrder_0 8 rfl rfl)
theorem dX1_wideOrder_9 : decode cX1_wideOrder 9 = .ok (.invokevirtual 142, 3) := dk_182 0 142 (dk_at dksX1_wideOrder_0 9 rfl rfl)
theorem dX1_wideOrder_12 : decode cX1_wideOrder 12 = .ok (.astore 5, 2) := dk_58 5 (dk_at dksX1_wideOrder_0 12 rfl rfl)
theorem dX1_wideOrder_14 : decode cX1_wideOrder 14 = .ok (.iload_n 3, 1) := dk_29 (dk_at dksX1_wideOrder_0 14 rfl rfl)
theorem dX1_wideOrder_15 : decode cX1_wideOrder 15 = .ok (.iconst 0, 1) := dk_3 (dk_at dksX1_wideOrder_0 15 rfl rfl)
theorem dX1_wideOrder_16 : decode cX1_wideOrder 16 = .ok (.iconst 2, 1) := dk_5 (dk_at dksX1_wideOrder_0 16 rfl rfl)
theorem dX1_wideOrder_17 : decode cX1_wideOrder 17 = .ok (.invokestatic 32, 3) := dk_184 0 32 (dk_at dksX1_wideOrder_0 17 rfl rfl)
theorem dX1_wideOrder_20 : decode cX1_wideOrder 20 = .ok (.invokestatic 132, 3) := dk_184 0 132 (dk_at dksX1_wideOrder_0 20 rfl rfl)
theorem dX1_wideOrder_23 : decode cX1_wideOrder 23 = .ok (.aload 4, 2) := dk_25 4 (dk_at dksX1_wideOrder_1 0 rfl rfl)
theorem dX1_wideOrder_25 : decode cX1_wideOrder 25 = .ok (.astore 6, 2) := dk_58 6 (dk_at dksX1_wideOrder_1 2 rfl rfl)
theorem dX1_wideOrder_27 : decode cX1_wideOrder 27 = .ok (.iload_n 3, 1) := dk_29 (dk_at dksX1_wideOrder_1 4 rfl rfl)
theorem dX1_wideOrder_28 : decode cX1_wideOrder 28 = .ok (.ifCond .ne 19, 3) := dk_154 0 19 (dk_at dksX1_wideOrder_1 5 rfl rfl)
theorem dX1_wideOrder_31 : decode cX1_wideOrder 31 = .ok (.aload 4, 2) := dk_25 4 (dk_at dksX1_wideOrder_1 8 rfl rfl)
theorem dX1_wideOrder_33 : decode cX1_wideOrder 33 = .ok (.invokevirtual 95, 3) := dk_182 0 95 (dk_at dksX1_wideOrder_1 10 rfl rfl)
theorem dX1_wideOrder_36 : decode cX1_wideOrder 36 = .ok (.aload 5, 2) := dk_25 5 (dk_at dksX1_wideOrder_1 13 rfl rfl)
theorem dX1_wideOrder_38 : decode cX1_wideOrder 38 = .ok (.invokevirtual 95, 3) := dk_182 0 95 (dk_at dksX1_wideOrder_1 15 rfl rfl)
theorem dX1_wideOrder_41 : decode cX1_wideOrder 41 = .ok (.invokestatic 159, 3) := dk_184 0 159 (dk_at dksX1_wideOrder_1 18 rfl rfl)
theorem dX1_wideOrder_44 : decode cX1_wideOrder 44 = .ok (.goto 27, 3) := dk_167 0 27 (dk_at dksX1_wideOrder_1 21 rfl rfl)
theorem dX1_wideOrder_47 : decode cX1_wideOrder 47 = .ok (.iload_n 3, 1) := dk_29 (dk_at dksX1_wideOrder_2 0 rfl rfl)
theorem dX1_wideOrder_48 : decode cX1_wideOrder 48 = .ok (.iconst 1, 1) := dk_4 (dk_at dksX1_wideOrder_2 1 rfl rfl)
theorem dX1_wideOrder_49 : decode cX1_wideOrder 49 = .ok (.if_icmp .ne 13, 3) := dk_160 0 13 (dk_at dksX1_wideOrder_2 2 rfl rfl)
theorem dX1_wideOrder_52 : decode cX1_wideOrder 52 = .ok (.aload 4, 2) := dk_25 4 (dk_at dksX1_wideOrder_2 5 rfl rfl)
theorem dX1_wideOrder_54 : decode cX1_wideOrder 54 = .ok (.aload 5, 2) := dk_25 5 (dk_at dksX1_wideOrder_2 7 rfl rfl)
theorem dX1_wideOrder_56 : decode cX1_wideOrder 56 = .ok (.invokevirtual 190, 3) := dk_182 0 190 (dk_at dksX1_wideOrder_2 9 rfl rfl)
theorem dX1_wideOrder_59 : decode cX1_wideOrder 59 = .ok (.goto 12, 3) := dk_167 0 12 (dk_at dksX1_wideOrder_2 12 rfl rfl)
theorem dX1_wideOrder_62 : decode cX1_wideOrder 62 = .ok (.aload 6, 2) := dk_25 6 (dk_at dksX1_wideOrder_2 15 rfl rfl)
theorem dX1_wideOrder_64 : decode cX1_wideOrder 64 = .ok (.aload 5, 2) := dk_25 5 (dk_at dksX1_wideOrder_2 17 rfl rfl)
theorem dX1_wideOrder_66 : decode cX1_wideOrder 66 = .ok (.invokeinterface 194 2, 5) := by decide +kernel
theorem dX1_wideOrder_71 : decode cX1_wideOrder 71 = .ok (.invokestatic 199, 3) := dk_184 0 199 (dk_at dksX1_wideOrder_3 0 rfl rfl)
theorem dX1_wideOrder_74 : decode cX1_wideOrder 74 = .ok (.ireturn, 1) := dk_172 (dk_at dksX1_wideOrder_3 3 rfl rfl)
abbrev cX1_wideAt : ByteArray := prog_1_method_11_code
def yX1_wideAt : MethodName := ⟨RX1, "wideAt", "(I)Ljava/lang/Double;"⟩
def dkwX1_wideAt_0 : List UInt8 := [27, 184, 0, 80, 42, 180, 0, 15, 27, 50, 176]
abbrev dktX1_wideAt_0 : List UInt8 := dkwX1_wideAt_0 ++ []
theorem dksX1_wideAt_0 : cX1_wideAt.data.toList.drop 0 = dktX1_wideAt_0 := by decide +kernel
theorem dX1_wideAt_0 : decode cX1_wideAt 0 = .ok (.iload_n 1, 1) := dk_27 (dk_at dksX1_wideAt_0 0 rfl rfl)
theorem dX1_wideAt_1 : decode cX1_wideAt 1 = .ok (.invokestatic 80, 3) := dk_184 0 80 (dk_at dksX1_wideAt_0 1 rfl rfl)
theorem dX1_wideAt_4 : decode cX1_wideAt 4 = .ok (.aload_n 0, 1) := dk_42 (dk_at dksX1_wideAt_0 4 rfl rfl)
theorem dX1_wideAt_5 : decode cX1_wideAt 5 = .ok (.getfield 15, 3) := dk_180 0 15 (dk_at dksX1_wideAt_0 5 rfl rfl)
theorem dX1_wideAt_8 : decode cX1_wideAt 8 = .ok (.iload_n 1, 1) := dk_27 (dk_at dksX1_wideAt_0 8 rfl rfl)
theorem dX1_wideAt_9 : decode cX1_wideAt 9 = .ok (.aaload, 1) := dk_50 (dk_at dksX1_wideAt_0 9 rfl rfl)
theorem dX1_wideAt_10 : decode cX1_wideAt 10 = .ok (.areturn, 1) := dk_176 (dk_at dksX1_wideAt_0 10 rfl rfl)
abbrev cX1_mustBeCell : ByteArray := prog_1_method_3_code
def yX1_mustBeCell : MethodName := ⟨RX1, "mustBeCell", "(I)V"⟩
def dkwX1_mustBeCell_0 : List UInt8 := [26, 3, 16, 7, 184, 0, 32, 154, 0, 11, 187, 0, 36, 89, 183, 0, 38, 191, 177]
abbrev dktX1_mustBeCell_0 : List UInt8 := dkwX1_mustBeCell_0 ++ []
theorem dksX1_mustBeCell_0 : cX1_mustBeCell.data.toList.drop 0 = dktX1_mustBeCell_0 := by decide +kernel
theorem dX1_mustBeCell_0 : decode cX1_mustBeCell 0 = .ok (.iload_n 0, 1) := dk_26 (dk_at dksX1_mustBeCell_0 0 rfl rfl)
theorem dX1_mustBeCell_1 : decode cX1_mustBeCell 1 = .ok (.iconst 0, 1) := dk_3 (dk_at dksX1_mustBeCell_0 1 rfl rfl)
theorem dX1_mustBeCell_2 : decode cX1_mustBeCell 2 = .ok (.bipush 7, 2) := dk_16 7 (dk_at dksX1_mustBeCell_0 2 rfl rfl)
theorem dX1_mustBeCell_4 : decode cX1_mustBeCell 4 = .ok (.invokestatic 32, 3) := dk_184 0 32 (dk_at dksX1_mustBeCell_0 4 rfl rfl)
theorem dX1_mustBeCell_7 : decode cX1_mustBeCell 7 = .ok (.ifCond .ne 11, 3) := dk_154 0 11 (dk_at dksX1_mustBeCell_0 7 rfl rfl)
theorem dX1_mustBeCell_10 : decode cX1_mustBeCell 10 = .ok (.new 36, 3) := dk_187 0 36 (dk_at dksX1_mustBeCell_0 10 rfl rfl)
theorem dX1_mustBeCell_13 : decode cX1_mustBeCell 13 = .ok (.dup, 1) := dk_89 (dk_at dksX1_mustBeCell_0 13 rfl rfl)
theorem dX1_mustBeCell_14 : decode cX1_mustBeCell 14 = .ok (.invokespecial 38, 3) := dk_183 0 38 (dk_at dksX1_mustBeCell_0 14 rfl rfl)
theorem dX1_mustBeCell_17 : decode cX1_mustBeCell 17 = .ok (.athrow, 1) := dk_191 (dk_at dksX1_mustBeCell_0 17 rfl rfl)
theorem dX1_mustBeCell_18 : decode cX1_mustBeCell 18 = .ok (.return_, 1) := dk_177 (dk_at dksX1_mustBeCell_0 18 rfl rfl)
abbrev cX1_isIn : ByteArray := prog_1_method_2_code
def yX1_isIn : MethodName := ⟨RX1, "isIn", "(III)Z"⟩
def dkwX1_isIn_0 : List UInt8 := [26, 27, 161, 0, 12, 26, 28, 163, 0, 7, 4, 167, 0, 4, 3, 172]
abbrev dktX1_isIn_0 : List UInt8 := dkwX1_isIn_0 ++ []
theorem dksX1_isIn_0 : cX1_isIn.data.toList.drop 0 = dktX1_isIn_0 := by decide +kernel
theorem dX1_isIn_0 : decode cX1_isIn 0 = .ok (.iload_n 0, 1) := dk_26 (dk_at dksX1_isIn_0 0 rfl rfl)
theorem dX1_isIn_1 : decode cX1_isIn 1 = .ok (.iload_n 1, 1) := dk_27 (dk_at dksX1_isIn_0 1 rfl rfl)
theorem dX1_isIn_2 : decode cX1_isIn 2 = .ok (.if_icmp .lt 12, 3) := dk_161 0 12 (dk_at dksX1_isIn_0 2 rfl rfl)
theorem dX1_isIn_5 : decode cX1_isIn 5 = .ok (.iload_n 0, 1) := dk_26 (dk_at dksX1_isIn_0 5 rfl rfl)
theorem dX1_isIn_6 : decode cX1_isIn 6 = .ok (.iload_n 2, 1) := dk_28 (dk_at dksX1_isIn_0 6 rfl rfl)
theorem dX1_isIn_7 : decode cX1_isIn 7 = .ok (.if_icmp .gt 7, 3) := dk_163 0 7 (dk_at dksX1_isIn_0 7 rfl rfl)
theorem dX1_isIn_10 : decode cX1_isIn 10 = .ok (.iconst 1, 1) := dk_4 (dk_at dksX1_isIn_0 10 rfl rfl)
theorem dX1_isIn_11 : decode cX1_isIn 11 = .ok (.goto 4, 3) := dk_167 0 4 (dk_at dksX1_isIn_0 11 rfl rfl)
theorem dX1_isIn_14 : decode cX1_isIn 14 = .ok (.iconst 0, 1) := dk_3 (dk_at dksX1_isIn_0 14 rfl rfl)
theorem dX1_isIn_15 : decode cX1_isIn 15 = .ok (.ireturn, 1) := dk_172 (dk_at dksX1_isIn_0 15 rfl rfl)
abbrev cX1_mustFit : ByteArray := prog_1_method_4_code
def yX1_mustFit : MethodName := ⟨RX1, "mustFit", "(Z)V"⟩
def dkwX1_mustFit_0 : List UInt8 := [26, 154, 0, 11, 187, 0, 39, 89, 183, 0, 41, 191, 177]
abbrev dktX1_mustFit_0 : List UInt8 := dkwX1_mustFit_0 ++ []
theorem dksX1_mustFit_0 : cX1_mustFit.data.toList.drop 0 = dktX1_mustFit_0 := by decide +kernel
theorem dX1_mustFit_0 : decode cX1_mustFit 0 = .ok (.iload_n 0, 1) := dk_26 (dk_at dksX1_mustFit_0 0 rfl rfl)
theorem dX1_mustFit_1 : decode cX1_mustFit 1 = .ok (.ifCond .ne 11, 3) := dk_154 0 11 (dk_at dksX1_mustFit_0 1 rfl rfl)
theorem dX1_mustFit_4 : decode cX1_mustFit 4 = .ok (.new 39, 3) := dk_187 0 39 (dk_at dksX1_mustFit_0 4 rfl rfl)
theorem dX1_mustFit_7 : decode cX1_mustFit 7 = .ok (.dup, 1) := dk_89 (dk_at dksX1_mustFit_0 7 rfl rfl)
theorem dX1_mustFit_8 : decode cX1_mustFit 8 = .ok (.invokespecial 41, 3) := dk_183 0 41 (dk_at dksX1_mustFit_0 8 rfl rfl)
theorem dX1_mustFit_11 : decode cX1_mustFit 11 = .ok (.athrow, 1) := dk_191 (dk_at dksX1_mustFit_0 11 rfl rfl)
theorem dX1_mustFit_12 : decode cX1_mustFit 12 = .ok (.return_, 1) := dk_177 (dk_at dksX1_mustFit_0 12 rfl rfl)
abbrev cX1_wideLike : ByteArray := prog_1_method_31_code
def yX1_wideLike : MethodName := ⟨RX1, "wideLike", "(II)Z"⟩
def dkwX1_wideLike_1 : List UInt8 := [154, 0, 7, 4, 167, 0, 4, 3, 172]
abbrev dktX1_wideLike_1 : List UInt8 := dkwX1_wideLike_1 ++ []
def dkwX1_wideLike_0 : List UInt8 := [42, 27, 182, 0, 142, 182, 0, 95, 74, 42, 28, 182, 0, 142, 182, 0, 95, 57, 5, 41, 24, 5, 151]
abbrev dktX1_wideLike_0 : List UInt8 := dkwX1_wideLike_0 ++ dktX1_wideLike_1
theorem dksX1_wideLike_0 : cX1_wideLike.data.toList.drop 0 = dktX1_wideLike_0 := by decide +kernel
theorem dksX1_wideLike_1 : cX1_wideLike.data.toList.drop 23 = dktX1_wideLike_1 := dk_seg dksX1_wideLike_0 23 rfl rfl
theorem dX1_wideLike_0 : decode cX1_wideLike 0 = .ok (.aload_n 0, 1) := dk_42 (dk_at dksX1_wideLike_0 0 rfl rfl)
theorem dX1_wideLike_1 : decode cX1_wideLike 1 = .ok (.iload_n 1, 1) := dk_27 (dk_at dksX1_wideLike_0 1 rfl rfl)
theorem dX1_wideLike_2 : decode cX1_wideLike 2 = .ok (.invokevirtual 142, 3) := dk_182 0 142 (dk_at dksX1_wideLike_0 2 rfl rfl)
theorem dX1_wideLike_5 : decode cX1_wideLike 5 = .ok (.invokevirtual 95, 3) := dk_182 0 95 (dk_at dksX1_wideLike_0 5 rfl rfl)
theorem dX1_wideLike_8 : decode cX1_wideLike 8 = .ok (.dstore_n 3, 1) := dk_74 (dk_at dksX1_wideLike_0 8 rfl rfl)
theorem dX1_wideLike_9 : decode cX1_wideLike 9 = .ok (.aload_n 0, 1) := dk_42 (dk_at dksX1_wideLike_0 9 rfl rfl)
theorem dX1_wideLike_10 : decode cX1_wideLike 10 = .ok (.iload_n 2, 1) := dk_28 (dk_at dksX1_wideLike_0 10 rfl rfl)
theorem dX1_wideLike_11 : decode cX1_wideLike 11 = .ok (.invokevirtual 142, 3) := dk_182 0 142 (dk_at dksX1_wideLike_0 11 rfl rfl)
theorem dX1_wideLike_14 : decode cX1_wideLike 14 = .ok (.invokevirtual 95, 3) := dk_182 0 95 (dk_at dksX1_wideLike_0 14 rfl rfl)
theorem dX1_wideLike_17 : decode cX1_wideLike 17 = .ok (.dstore 5, 2) := dk_57 5 (dk_at dksX1_wideLike_0 17 rfl rfl)
theorem dX1_wideLike_19 : decode cX1_wideLike 19 = .ok (.dload_n 3, 1) := dk_41 (dk_at dksX1_wideLike_0 19 rfl rfl)
theorem dX1_wideLike_20 : decode cX1_wideLike 20 = .ok (.dload 5, 2) := dk_24 5 (dk_at dksX1_wideLike_0 20 rfl rfl)
theorem dX1_wideLike_22 : decode cX1_wideLike 22 = .ok (.dcmp .l, 1) := dk_151 (dk_at dksX1_wideLike_0 22 rfl rfl)
theorem dX1_wideLike_23 : decode cX1_wideLike 23 = .ok (.ifCond .ne 7, 3) := dk_154 0 7 (dk_at dksX1_wideLike_1 0 rfl rfl)
theorem dX1_wideLike_26 : decode cX1_wideLike 26 = .ok (.iconst 1, 1) := dk_4 (dk_at dksX1_wideLike_1 3 rfl rfl)
theorem dX1_wideLike_27 : decode cX1_wideLike 27 = .ok (.goto 4, 3) := dk_167 0 4 (dk_at dksX1_wideLike_1 4 rfl rfl)
theorem dX1_wideLike_30 : decode cX1_wideLike 30 = .ok (.iconst 0, 1) := dk_3 (dk_at dksX1_wideLike_1 7 rfl rfl)
theorem dX1_wideLike_31 : decode cX1_wideLike 31 = .ok (.ireturn, 1) := dk_172 (dk_at dksX1_wideLike_1 8 rfl rfl)
abbrev cX1_quartersOf : ByteArray := prog_1_method_9_code
def yX1_quartersOf : MethodName := ⟨RX1, "quartersOf", "(D)I"⟩
def dkwX1_quartersOf_4 : List UInt8 := [148, 156, 0, 9, 22, 8, 117, 167, 0, 5, 22, 8, 136, 172]
abbrev dktX1_quartersOf_4 : List UInt8 := dkwX1_quartersOf_4 ++ []
def dkwX1_quartersOf_3 : List UInt8 := [121, 22, 6, 148, 154, 0, 12, 22, 8, 20, 0, 66, 148, 158, 0, 6, 18, 61, 172, 38, 184, 0, 54, 9]
abbrev dktX1_quartersOf_3 : List UInt8 := dkwX1_quartersOf_3 ++ dktX1_quartersOf_4
def dkwX1_quartersOf_2 : List UInt8 := [20, 0, 62, 32, 20, 0, 64, 127, 129, 55, 6, 22, 6, 22, 4, 136, 123, 55, 8, 22, 8, 22, 4, 136]
abbrev dktX1_quartersOf_2 : List UInt8 := dkwX1_quartersOf_2 ++ dktX1_quartersOf_3
def dkwX1_quartersOf_1 : List UInt8 := [154, 0, 5, 3, 172, 22, 4, 9, 148, 155, 0, 12, 22, 4, 20, 0, 59, 148, 158, 0, 6, 18, 61, 172]
abbrev dktX1_quartersOf_1 : List UInt8 := dkwX1_quartersOf_1 ++ dktX1_quartersOf_2
def dkwX1_quartersOf_0 : List UInt8 := [38, 184, 0, 54, 20, 0, 46, 127, 65, 20, 0, 57, 32, 16, 52, 125, 101, 55, 4, 32, 9, 148]
abbrev dktX1_quartersOf_0 : List UInt8 := dkwX1_quartersOf_0 ++ dktX1_quartersOf_1
theorem dksX1_quartersOf_0 : cX1_quartersOf.data.toList.drop 0 = dktX1_quartersOf_0 := by decide +kernel
theorem dksX1_quartersOf_1 : cX1_quartersOf.data.toList.drop 22 = dktX1_quartersOf_1 := dk_seg dksX1_quartersOf_0 22 rfl rfl
theorem dksX1_quartersOf_2 : cX1_quartersOf.data.toList.drop 46 = dktX1_quartersOf_2 := dk_seg dksX1_quartersOf_1 24 rfl rfl
theorem dksX1_quartersOf_3 : cX1_quartersOf.data.toList.drop 70 = dktX1_quartersOf_3 := dk_seg dksX1_quartersOf_2 24 rfl rfl
theorem dksX1_quartersOf_4 : cX1_quartersOf.data.toList.drop 94 = dktX1_quartersOf_4 := dk_seg dksX1_quartersOf_3 24 rfl rfl
theorem dX1_quartersOf_0 : decode cX1_quartersOf 0 = .ok (.dload_n 0, 1) := dk_38 (dk_at dksX1_quartersOf_0 0 rfl rfl)
theorem dX1_quartersOf_1 : decode cX1_quartersOf 1 = .ok (.invokestatic 54, 3) := dk_184 0 54 (dk_at dksX1_quartersOf_0 1 rfl rfl)
theorem dX1_quartersOf_4 : decode cX1_quartersOf 4 = .ok (.ldc2_w 46, 3) := dk_20 0 46 (dk_at dksX1_quartersOf_0 4 rfl rfl)
theorem dX1_quartersOf_7 : decode cX1_quartersOf 7 = .ok (.land, 1) := dk_127 (dk_at dksX1_quartersOf_0 7 rfl rfl)
theorem dX1_quartersOf_8 : decode cX1_quartersOf 8 = .ok (.lstore_n 2, 1) := dk_65 (dk_at dksX1_quartersOf_0 8 rfl rfl)
theorem dX1_quartersOf_9 : decode cX1_quartersOf 9 = .ok (.ldc2_w 57, 3) := dk_20 0 57 (dk_at dksX1_quartersOf_0 9 rfl rfl)
theorem dX1_quartersOf_12 : decode cX1_quartersOf 12 = .ok (.lload_n 2, 1) := dk_32 (dk_at dksX1_quartersOf_0 12 rfl rfl)
theorem dX1_quartersOf_13 : decode cX1_quartersOf 13 = .ok (.bipush 52, 2) := dk_16 52 (dk_at dksX1_quartersOf_0 13 rfl rfl)
theorem dX1_quartersOf_15 : decode cX1_quartersOf 15 = .ok (.lushr, 1) := dk_125 (dk_at dksX1_quartersOf_0 15 rfl rfl)
theorem dX1_quartersOf_16 : decode cX1_quartersOf 16 = .ok (.lsub, 1) := dk_101 (dk_at dksX1_quartersOf_0 16 rfl rfl)
theorem dX1_quartersOf_17 : decode cX1_quartersOf 17 = .ok (.lstore 4, 2) := dk_55 4 (dk_at dksX1_quartersOf_0 17 rfl rfl)
theorem dX1_quartersOf_19 : decode cX1_quartersOf 19 = .ok (.lload_n 2, 1) := dk_32 (dk_at dksX1_quartersOf_0 19 rfl rfl)
theorem dX1_quartersOf_20 : decode cX1_quartersOf 20 = .ok (.lconst 0, 1) := dk_9 (dk_at dksX1_quartersOf_0 20 rfl rfl)
theorem dX1_quartersOf_21 : decode cX1_quartersOf 21 = .ok (.lcmp, 1) := dk_148 (dk_at dksX1_quartersOf_0 21 rfl rfl)
theorem dX1_quartersOf_22 : decode cX1_quartersOf 22 = .ok (.ifCond .ne 5, 3) := dk_154 0 5 (dk_at dksX1_quartersOf_1 0 rfl rfl)
theorem dX1_quartersOf_25 : decode cX1_quartersOf 25 = .ok (.iconst 0, 1) := dk_3 (dk_at dksX1_quartersOf_1 3 rfl rfl)
theorem dX1_quartersOf_26 : decode cX1_quartersOf 26 = .ok (.ireturn, 1) := dk_172 (dk_at dksX1_quartersOf_1 4 rfl rfl)
theorem dX1_quartersOf_27 : decode cX1_quartersOf 27 = .ok (.lload 4, 2) := dk_22 4 (dk_at dksX1_quartersOf_1 5 rfl rfl)
theorem dX1_quartersOf_29 : decode cX1_quartersOf 29 = .ok (.lconst 0, 1) := dk_9 (dk_at dksX1_quartersOf_1 7 rfl rfl)
theorem dX1_quartersOf_30 : decode cX1_quartersOf 30 = .ok (.lcmp, 1) := dk_148 (dk_at dksX1_quartersOf_1 8 rfl rfl)
theorem dX1_quartersOf_31 : decode cX1_quartersOf 31 = .ok (.ifCond .lt 12, 3) := dk_155 0 12 (dk_at dksX1_quartersOf_1 9 rfl rfl)
theorem dX1_quartersOf_34 : decode cX1_quartersOf 34 = .ok (.lload 4, 2) := dk_22 4 (dk_at dksX1_quartersOf_1 12 rfl rfl)
theorem dX1_quartersOf_36 : decode cX1_quartersOf 36 = .ok (.ldc2_w 59, 3) := dk_20 0 59 (dk_at dksX1_quartersOf_1 14 rfl rfl)
theorem dX1_quartersOf_39 : decode cX1_quartersOf 39 = .ok (.lcmp, 1) := dk_148 (dk_at dksX1_quartersOf_1 17 rfl rfl)
theorem dX1_quartersOf_40 : decode cX1_quartersOf 40 = .ok (.ifCond .le 6, 3) := dk_158 0 6 (dk_at dksX1_quartersOf_1 18 rfl rfl)
theorem dX1_quartersOf_43 : decode cX1_quartersOf 43 = .ok (.ldc 61, 2) := dk_18 61 (dk_at dksX1_quartersOf_1 21 rfl rfl)
theorem dX1_quartersOf_45 : decode cX1_quartersOf 45 = .ok (.ireturn, 1) := dk_172 (dk_at dksX1_quartersOf_1 23 rfl rfl)
theorem dX1_quartersOf_46 : decode cX1_quartersOf 46 = .ok (.ldc2_w 62, 3) := dk_20 0 62 (dk_at dksX1_quartersOf_2 0 rfl rfl)
theorem dX1_quartersOf_49 : decode cX1_quartersOf 49 = .ok (.lload_n 2, 1) := dk_32 (dk_at dksX1_quartersOf_2 3 rfl rfl)
theorem dX1_quartersOf_50 : decode cX1_quartersOf 50 = .ok (.ldc2_w 64, 3) := dk_20 0 64 (dk_at dksX1_quartersOf_2 4 rfl rfl)
theorem dX1_quartersOf_53 : decode cX1_quartersOf 53 = .ok (.land, 1) := dk_127 (dk_at dksX1_quartersOf_2 7 rfl rfl)
theorem dX1_quartersOf_54 : decode cX1_quartersOf 54 = .ok (.lor, 1) := dk_129 (dk_at dksX1_quartersOf_2 8 rfl rfl)
theorem dX1_quartersOf_55 : decode cX1_quartersOf 55 = .ok (.lstore 6, 2) := dk_55 6 (dk_at dksX1_quartersOf_2 9 rfl rfl)
theorem dX1_quartersOf_57 : decode cX1_quartersOf 57 = .ok (.lload 6, 2) := dk_22 6 (dk_at dksX1_quartersOf_2 11 rfl rfl)
theorem dX1_quartersOf_59 : decode cX1_quartersOf 59 = .ok (.lload 4, 2) := dk_22 4 (dk_at dksX1_quartersOf_2 13 rfl rfl)
theorem dX1_quartersOf_61 : decode cX1_quartersOf 61 = .ok (.l2i, 1) := dk_136 (dk_at dksX1_quartersOf_2 15 rfl rfl)
theorem dX1_quartersOf_62 : decode cX1_quartersOf 62 = .ok (.lshr, 1) := dk_123 (dk_at dksX1_quartersOf_2 16 rfl rfl)
theorem dX1_quartersOf_63 : decode cX1_quartersOf 63 = .ok (.lstore 8, 2) := dk_55 8 (dk_at dksX1_quartersOf_2 17 rfl rfl)
theorem dX1_quartersOf_65 : decode cX1_quartersOf 65 = .ok (.lload 8, 2) := dk_22 8 (dk_at dksX1_quartersOf_2 19 rfl rfl)
theorem dX1_quartersOf_67 : decode cX1_quartersOf 67 = .ok (.lload 4, 2) := dk_22 4 (dk_at dksX1_quartersOf_2 21 rfl rfl)
theorem dX1_quartersOf_69 : decode cX1_quartersOf 69 = .ok (.l2i, 1) := dk_136 (dk_at dksX1_quartersOf_2 23 rfl rfl)
theorem dX1_quartersOf_70 : decode cX1_quartersOf 70 = .ok (.lshl, 1) := dk_121 (dk_at dksX1_quartersOf_3 0 rfl rfl)
theorem dX1_quartersOf_71 : decode cX1_quartersOf 71 = .ok (.lload 6, 2) := dk_22 6 (dk_at dksX1_quartersOf_3 1 rfl rfl)
theorem dX1_quartersOf_73 : decode cX1_quartersOf 73 = .ok (.lcmp, 1) := dk_148 (dk_at dksX1_quartersOf_3 3 rfl rfl)
theorem dX1_quartersOf_74 : decode cX1_quartersOf 74 = .ok (.ifCond .ne 12, 3) := dk_154 0 12 (dk_at dksX1_quartersOf_3 4 rfl rfl)
theorem dX1_quartersOf_77 : decode cX1_quartersOf 77 = .ok (.lload 8, 2) := dk_22 8 (dk_at dksX1_quartersOf_3 7 rfl rfl)
theorem dX1_quartersOf_79 : decode cX1_quartersOf 79 = .ok (.ldc2_w 66, 3) := dk_20 0 66 (dk_at dksX1_quartersOf_3 9 rfl rfl)
theorem dX1_quartersOf_82 : decode cX1_quartersOf 82 = .ok (.lcmp, 1) := dk_148 (dk_at dksX1_quartersOf_3 12 rfl rfl)
theorem dX1_quartersOf_83 : decode cX1_quartersOf 83 = .ok (.ifCond .le 6, 3) := dk_158 0 6 (dk_at dksX1_quartersOf_3 13 rfl rfl)
theorem dX1_quartersOf_86 : decode cX1_quartersOf 86 = .ok (.ldc 61, 2) := dk_18 61 (dk_at dksX1_quartersOf_3 16 rfl rfl)
theorem dX1_quartersOf_88 : decode cX1_quartersOf 88 = .ok (.ireturn, 1) := dk_172 (dk_at dksX1_quartersOf_3 18 rfl rfl)
theorem dX1_quartersOf_89 : decode cX1_quartersOf 89 = .ok (.dload_n 0, 1) := dk_38 (dk_at dksX1_quartersOf_3 19 rfl rfl)
theorem dX1_quartersOf_90 : decode cX1_quartersOf 90 = .ok (.invokestatic 54, 3) := dk_184 0 54 (dk_at dksX1_quartersOf_3 20 rfl rfl)
theorem dX1_quartersOf_93 : decode cX1_quartersOf 93 = .ok (.lconst 0, 1) := dk_9 (dk_at dksX1_quartersOf_3 23 rfl rfl)
theorem dX1_quartersOf_94 : decode cX1_quartersOf 94 = .ok (.lcmp, 1) := dk_148 (dk_at dksX1_quartersOf_4 0 rfl rfl)
theorem dX1_quartersOf_95 : decode cX1_quartersOf 95 = .ok (.ifCond .ge 9, 3) := dk_156 0 9 (dk_at dksX1_quartersOf_4 1 rfl rfl)
theorem dX1_quartersOf_98 : decode cX1_quartersOf 98 = .ok (.lload 8, 2) := dk_22 8 (dk_at dksX1_quartersOf_4 4 rfl rfl)
theorem dX1_quartersOf_100 : decode cX1_quartersOf 100 = .ok (.lneg, 1) := dk_117 (dk_at dksX1_quartersOf_4 6 rfl rfl)
theorem dX1_quartersOf_101 : decode cX1_quartersOf 101 = .ok (.goto 5, 3) := dk_167 0 5 (dk_at dksX1_quartersOf_4 7 rfl rfl)
theorem dX1_quartersOf_104 : decode cX1_quartersOf 104 = .ok (.lload 8, 2) := dk_22 8 (dk_at dksX1_quartersOf_4 10 rfl rfl)
theorem dX1_quartersOf_106 : decode cX1_quartersOf 106 = .ok (.l2i, 1) := dk_136 (dk_at dksX1_quartersOf_4 12 rfl rfl)
theorem dX1_quartersOf_107 : decode cX1_quartersOf 107 = .ok (.ireturn, 1) := dk_172 (dk_at dksX1_quartersOf_4 13 rfl rfl)
abbrev cX1_wideBelow : ByteArray := prog_1_method_32_code
def yX1_wideBelow : MethodName := ⟨RX1, "wideBelow", "(IIZ)Z"⟩
def dkwX1_wideBelow_2 : List UInt8 := [4, 167, 0, 4, 3, 172]
abbrev dktX1_wideBelow_2 : List UInt8 := dkwX1_wideBelow_2 ++ []
def dkwX1_wideBelow_1 : List UInt8 := [24, 4, 24, 6, 152, 157, 0, 7, 4, 167, 0, 20, 3, 167, 0, 16, 24, 4, 24, 6, 152, 156, 0, 7]
abbrev dktX1_wideBelow_1 : List UInt8 := dkwX1_wideBelow_1 ++ dktX1_wideBelow_2
def dkwX1_wideBelow_0 : List UInt8 := [42, 27, 182, 0, 142, 182, 0, 95, 57, 4, 42, 28, 182, 0, 142, 182, 0, 95, 57, 6, 29, 153, 0, 19]
abbrev dktX1_wideBelow_0 : List UInt8 := dkwX1_wideBelow_0 ++ dktX1_wideBelow_1
theorem dksX1_wideBelow_0 : cX1_wideBelow.data.toList.drop 0 = dktX1_wideBelow_0 := by decide +kernel
theorem dksX1_wideBelow_1 : cX1_wideBelow.data.toList.drop 24 = dktX1_wideBelow_1 := dk_seg dksX1_wideBelow_0 24 rfl rfl
theorem dksX1_wideBelow_2 : cX1_wideBelow.data.toList.drop 48 = dktX1_wideBelow_2 := dk_seg dksX1_wideBelow_1 24 rfl rfl
theorem dX1_wideBelow_0 : decode cX1_wideBelow 0 = .ok (.aload_n 0, 1) := dk_42 (dk_at dksX1_wideBelow_0 0 rfl rfl)
theorem dX1_wideBelow_1 : decode cX1_wideBelow 1 = .ok (.iload_n 1, 1) := dk_27 (dk_at dksX1_wideBelow_0 1 rfl rfl)
theorem dX1_wideBelow_2 : decode cX1_wideBelow 2 = .ok (.invokevirtual 142, 3) := dk_182 0 142 (dk_at dksX1_wideBelow_0 2 rfl rfl)
theorem dX1_wideBelow_5 : decode cX1_wideBelow 5 = .ok (.invokevirtual 95, 3) := dk_182 0 95 (dk_at dksX1_wideBelow_0 5 rfl rfl)
theorem dX1_wideBelow_8 : decode cX1_wideBelow 8 = .ok (.dstore 4, 2) := dk_57 4 (dk_at dksX1_wideBelow_0 8 rfl rfl)
theorem dX1_wideBelow_10 : decode cX1_wideBelow 10 = .ok (.aload_n 0, 1) := dk_42 (dk_at dksX1_wideBelow_0 10 rfl rfl)
theorem dX1_wideBelow_11 : decode cX1_wideBelow 11 = .ok (.iload_n 2, 1) := dk_28 (dk_at dksX1_wideBelow_0 11 rfl rfl)
theorem dX1_wideBelow_12 : decode cX1_wideBelow 12 = .ok (.invokevirtual 142, 3) := dk_182 0 142 (dk_at dksX1_wideBelow_0 12 rfl rfl)
theorem dX1_wideBelow_15 : decode cX1_wideBelow 15 = .ok (.invokevirtual 95, 3) := dk_182 0 95 (dk_at dksX1_wideBelow_0 15 rfl rfl)
theorem dX1_wideBelow_18 : decode cX1_wideBelow 18 = .ok (.dstore 6, 2) := dk_57 6 (dk_at dksX1_wideBelow_0 18 rfl rfl)
theorem dX1_wideBelow_20 : decode cX1_wideBelow 20 = .ok (.iload_n 3, 1) := dk_29 (dk_at dksX1_wideBelow_0 20 rfl rfl)
theorem dX1_wideBelow_21 : decode cX1_wideBelow 21 = .ok (.ifCond .eq 19, 3) := dk_153 0 19 (dk_at dksX1_wideBelow_0 21 rfl rfl)
theorem dX1_wideBelow_24 : decode cX1_wideBelow 24 = .ok (.dload 4, 2) := dk_24 4 (dk_at dksX1_wideBelow_1 0 rfl rfl)
theorem dX1_wideBelow_26 : decode cX1_wideBelow 26 = .ok (.dload 6, 2) := dk_24 6 (dk_at dksX1_wideBelow_1 2 rfl rfl)
theorem dX1_wideBelow_28 : decode cX1_wideBelow 28 = .ok (.dcmp .g, 1) := dk_152 (dk_at dksX1_wideBelow_1 4 rfl rfl)
theorem dX1_wideBelow_29 : decode cX1_wideBelow 29 = .ok (.ifCond .gt 7, 3) := dk_157 0 7 (dk_at dksX1_wideBelow_1 5 rfl rfl)
theorem dX1_wideBelow_32 : decode cX1_wideBelow 32 = .ok (.iconst 1, 1) := dk_4 (dk_at dksX1_wideBelow_1 8 rfl rfl)
theorem dX1_wideBelow_33 : decode cX1_wideBelow 33 = .ok (.goto 20, 3) := dk_167 0 20 (dk_at dksX1_wideBelow_1 9 rfl rfl)
theorem dX1_wideBelow_36 : decode cX1_wideBelow 36 = .ok (.iconst 0, 1) := dk_3 (dk_at dksX1_wideBelow_1 12 rfl rfl)
theorem dX1_wideBelow_37 : decode cX1_wideBelow 37 = .ok (.goto 16, 3) := dk_167 0 16 (dk_at dksX1_wideBelow_1 13 rfl rfl)
theorem dX1_wideBelow_40 : decode cX1_wideBelow 40 = .ok (.dload 4, 2) := dk_24 4 (dk_at dksX1_wideBelow_1 16 rfl rfl)
theorem dX1_wideBelow_42 : decode cX1_wideBelow 42 = .ok (.dload 6, 2) := dk_24 6 (dk_at dksX1_wideBelow_1 18 rfl rfl)
theorem dX1_wideBelow_44 : decode cX1_wideBelow 44 = .ok (.dcmp .g, 1) := dk_152 (dk_at dksX1_wideBelow_1 20 rfl rfl)
theorem dX1_wideBelow_45 : decode cX1_wideBelow 45 = .ok (.ifCond .ge 7, 3) := dk_156 0 7 (dk_at dksX1_wideBelow_1 21 rfl rfl)
theorem dX1_wideBelow_48 : decode cX1_wideBelow 48 = .ok (.iconst 1, 1) := dk_4 (dk_at dksX1_wideBelow_2 0 rfl rfl)
theorem dX1_wideBelow_49 : decode cX1_wideBelow 49 = .ok (.goto 4, 3) := dk_167 0 4 (dk_at dksX1_wideBelow_2 1 rfl rfl)
theorem dX1_wideBelow_52 : decode cX1_wideBelow 52 = .ok (.iconst 0, 1) := dk_3 (dk_at dksX1_wideBelow_2 4 rfl rfl)
theorem dX1_wideBelow_53 : decode cX1_wideBelow 53 = .ok (.ireturn, 1) := dk_172 (dk_at dksX1_wideBelow_2 5 rfl rfl)
abbrev cX1_isNarrowPair : ByteArray := prog_1_method_71_code
def yX1_isNarrowPair : MethodName := ⟨RX1, "isNarrowPair", "(II)Z"⟩
def dkwX1_isNarrowPair_11 : List UInt8 := [182, 1, 71, 153, 0, 8, 21, 6, 156, 0, 7, 4, 167, 0, 4, 3, 172]
abbrev dktX1_isNarrowPair_11 : List UInt8 := dkwX1_isNarrowPair_11 ++ []
def dkwX1_isNarrowPair_10 : List UInt8 := [182, 1, 8, 153, 0, 7, 4, 167, 0, 4, 3, 126, 54, 7, 21, 7, 153, 0, 22, 42, 27, 28, 3]
abbrev dktX1_isNarrowPair_10 : List UInt8 := dkwX1_isNarrowPair_10 ++ dktX1_isNarrowPair_11
def dkwX1_isNarrowPair_9 : List UInt8 := [167, 0, 4, 45, 182, 1, 8, 153, 0, 26, 25, 9, 21, 6, 156, 0, 7, 45, 167, 0, 5, 25, 4]
abbrev dktX1_isNarrowPair_9 : List UInt8 := dkwX1_isNarrowPair_9 ++ dktX1_isNarrowPair_10
def dkwX1_isNarrowPair_8 : List UInt8 := [25, 4, 182, 0, 211, 184, 1, 37, 184, 0, 29, 58, 9, 21, 7, 25, 8, 21, 6, 156, 0, 8, 25, 4]
abbrev dktX1_isNarrowPair_8 : List UInt8 := dkwX1_isNarrowPair_8 ++ dktX1_isNarrowPair_9
def dkwX1_isNarrowPair_7 : List UInt8 := [54, 7, 45, 182, 0, 211, 25, 4, 182, 0, 211, 184, 1, 34, 184, 0, 29, 58, 8, 45, 182, 0, 211]
abbrev dktX1_isNarrowPair_7 : List UInt8 := dkwX1_isNarrowPair_7 ++ dktX1_isNarrowPair_8
def dkwX1_isNarrowPair_6 : List UInt8 := [184, 1, 9, 154, 0, 18, 25, 4, 182, 0, 211, 184, 1, 9, 154, 0, 7, 4, 167, 0, 4, 3, 126]
abbrev dktX1_isNarrowPair_6 : List UInt8 := dkwX1_isNarrowPair_6 ++ dktX1_isNarrowPair_7
def dkwX1_isNarrowPair_5 : List UInt8 := [126, 54, 7, 21, 7, 42, 27, 28, 182, 1, 68, 153, 0, 29, 21, 5, 154, 0, 24, 45, 182, 0, 211]
abbrev dktX1_isNarrowPair_5 : List UInt8 := dkwX1_isNarrowPair_5 ++ dktX1_isNarrowPair_6
def dkwX1_isNarrowPair_4 : List UInt8 := [21, 7, 21, 5, 153, 0, 15, 45, 182, 1, 57, 25, 4, 182, 1, 57, 160, 0, 7, 4, 167, 0, 4, 3]
abbrev dktX1_isNarrowPair_4 : List UInt8 := dkwX1_isNarrowPair_4 ++ dktX1_isNarrowPair_5
def dkwX1_isNarrowPair_3 : List UInt8 := [3, 21, 5, 160, 0, 18, 45, 25, 4, 182, 1, 8, 21, 5, 160, 0, 7, 4, 167, 0, 4, 3, 54, 7]
abbrev dktX1_isNarrowPair_3 : List UInt8 := dkwX1_isNarrowPair_3 ++ dktX1_isNarrowPair_4
def dkwX1_isNarrowPair_2 : List UInt8 := [54, 6, 21, 6, 42, 28, 27, 4, 182, 1, 65, 116, 160, 0, 33, 21, 6, 154, 0, 7, 4, 167, 0, 4]
abbrev dktX1_isNarrowPair_2 : List UInt8 := dkwX1_isNarrowPair_2 ++ dktX1_isNarrowPair_3
def dkwX1_isNarrowPair_1 : List UInt8 := [182, 0, 211, 184, 0, 250, 160, 0, 7, 4, 167, 0, 4, 3, 54, 5, 42, 27, 28, 3, 182, 1, 65]
abbrev dktX1_isNarrowPair_1 : List UInt8 := dkwX1_isNarrowPair_1 ++ dktX1_isNarrowPair_2
def dkwX1_isNarrowPair_0 : List UInt8 := [42, 180, 0, 21, 27, 50, 78, 42, 180, 0, 21, 28, 50, 58, 4, 45, 182, 0, 211, 184, 0, 250, 25, 4]
abbrev dktX1_isNarrowPair_0 : List UInt8 := dkwX1_isNarrowPair_0 ++ dktX1_isNarrowPair_1
theorem dksX1_isNarrowPair_0 : cX1_isNarrowPair.data.toList.drop 0 = dktX1_isNarrowPair_0 := by decide +kernel
theorem dksX1_isNarrowPair_1 : cX1_isNarrowPair.data.toList.drop 24 = dktX1_isNarrowPair_1 := dk_seg dksX1_isNarrowPair_0 24 rfl rfl
theorem dksX1_isNarrowPair_2 : cX1_isNarrowPair.data.toList.drop 47 = dktX1_isNarrowPair_2 := dk_seg dksX1_isNarrowPair_1 23 rfl rfl
theorem dksX1_isNarrowPair_3 : cX1_isNarrowPair.data.toList.drop 71 = dktX1_isNarrowPair_3 := dk_seg dksX1_isNarrowPair_2 24 rfl rfl
theorem dksX1_isNarrowPair_4 : cX1_isNarrowPair.data.toList.drop 95 = dktX1_isNarrowPair_4 := dk_seg dksX1_isNarrowPair_3 24 rfl rfl
theorem dksX1_isNarrowPair_5 : cX1_isNarrowPair.data.toList.drop 119 = dktX1_isNarrowPair_5 := dk_seg dksX1_isNarrowPair_4 24 rfl rfl
theorem dksX1_isNarrowPair_6 : cX1_isNarrowPair.data.toList.drop 142 = dktX1_isNarrowPair_6 := dk_seg dksX1_isNarrowPair_5 23 rfl rfl
theorem dksX1_isNarrowPair_7 : cX1_isNarrowPair.data.toList.drop 165 = dktX1_isNarrowPair_7 := dk_seg dksX1_isNarrowPair_6 23 rfl rfl
theorem dksX1_isNarrowPair_8 : cX1_isNarrowPair.data.toList.drop 188 = dktX1_isNarrowPair_8 := dk_seg dksX1_isNarrowPair_7 23 rfl rfl
theorem dksX1_isNarrowPair_9 : cX1_isNarrowPair.data.toList.drop 212 = dktX1_isNarrowPair_9 := dk_seg dksX1_isNarrowPair_8 24 rfl rfl
theorem dksX1_isNarrowPair_10 : cX1_isNarrowPair.data.toList.drop 235 = dktX1_isNarrowPair_10 := dk_seg dksX1_isNarrowPair_9 23 rfl rfl
theorem dksX1_isNarrowPair_11 : cX1_isNarrowPair.data.toList.drop 258 = dktX1_isNarrowPair_11 := dk_seg dksX1_isNarrowPair_10 23 rfl rfl
theorem dX1_isNarrowPair_0 : decode cX1_isNarrowPair 0 = .ok (.aload_n 0, 1) := dk_42 (dk_at dksX1_isNarrowPair_0 0 rfl rfl)
theorem dX1_isNarrowPair_1 : decode cX1_isNarrowPair 1 = .ok (.getfield 21, 3) := dk_180 0 21 (dk_at dksX1_isNarrowPair_0 1 rfl rfl)
theorem dX1_isNarrowPair_4 : decode cX1_isNarrowPair 4 = .ok (.iload_n 1, 1) := dk_27 (dk_at dksX1_isNarrowPair_0 4 rfl rfl)
theorem dX1_isNarrowPair_5 : decode cX1_isNarrowPair 5 = .ok (.aaload, 1) := dk_50 (dk_at dksX1_isNarrowPair_0 5 rfl rfl)
theorem dX1_isNarrowPair_6 : decode cX1_isNarrowPair 6 = .ok (.astore_n 3, 1) := dk_78 (dk_at dksX1_isNarrowPair_0 6 rfl rfl)
theorem dX1_isNarrowPair_7 : decode cX1_isNarrowPair 7 = .ok (.aload_n 0, 1) := dk_42 (dk_at dksX1_isNarrowPair_0 7 rfl rfl)
theorem dX1_isNarrowPair_8 : decode cX1_isNarrowPair 8 = .ok (.getfield 21, 3) := dk_180 0 21 (dk_at dksX1_isNarrowPair_0 8 rfl rfl)
theorem dX1_isNarrowPair_11 : decode cX1_isNarrowPair 11 = .ok (.iload_n 2, 1) := dk_28 (dk_at dksX1_isNarrowPair_0 11 rfl rfl)
theorem dX1_isNarrowPair_12 : decode cX1_isNarrowPair 12 = .ok (.aaload, 1) := dk_50 (dk_at dksX1_isNarrowPair_0 12 rfl rfl)
theorem dX1_isNarrowPair_13 : decode cX1_isNarrowPair 13 = .ok (.astore 4, 2) := dk_58 4 (dk_at dksX1_isNarrowPair_0 13 rfl rfl)
theorem dX1_isNarrowPair_15 : decode cX1_isNarrowPair 15 = .ok (.aload_n 3, 1) := dk_45 (dk_at dksX1_isNarrowPair_0 15 rfl rfl)
theorem dX1_isNarrowPair_16 : decode cX1_isNarrowPair 16 = .ok (.invokevirtual 211, 3) := dk_182 0 211 (dk_at dksX1_isNarrowPair_0 16 rfl rfl)
theorem dX1_isNarrowPair_19 : decode cX1_isNarrowPair 19 = .ok (.invokestatic 250, 3) := dk_184 0 250 (dk_at dksX1_isNarrowPair_0 19 rfl rfl)
theorem dX1_isNarrowPair_22 : decode cX1_isNarrowPair 22 = .ok (.aload 4, 2) := dk_25 4 (dk_at dksX1_isNarrowPair_0 22 rfl rfl)
theorem dX1_isNarrowPair_24 : decode cX1_isNarrowPair 24 = .ok (.invokevirtual 211, 3) := dk_182 0 211 (dk_at dksX1_isNarrowPair_1 0 rfl rfl)
theorem dX1_isNarrowPair_27 : decode cX1_isNarrowPair 27 = .ok (.invokestatic 250, 3) := dk_184 0 250 (dk_at dksX1_isNarrowPair_1 3 rfl rfl)
theorem dX1_isNarrowPair_30 : decode cX1_isNarrowPair 30 = .ok (.if_icmp .ne 7, 3) := dk_160 0 7 (dk_at dksX1_isNarrowPair_1 6 rfl rfl)
theorem dX1_isNarrowPair_33 : decode cX1_isNarrowPair 33 = .ok (.iconst 1, 1) := dk_4 (dk_at dksX1_isNarrowPair_1 9 rfl rfl)
theorem dX1_isNarrowPair_34 : decode cX1_isNarrowPair 34 = .ok (.goto 4, 3) := dk_167 0 4 (dk_at dksX1_isNarrowPair_1 10 rfl rfl)
theorem dX1_isNarrowPair_37 : decode cX1_isNarrowPair 37 = .ok (.iconst 0, 1) := dk_3 (dk_at dksX1_isNarrowPair_1 13 rfl rfl)
theorem dX1_isNarrowPair_38 : decode cX1_isNarrowPair 38 = .ok (.istore 5, 2) := dk_54 5 (dk_at dksX1_isNarrowPair_1 14 rfl rfl)
theorem dX1_isNarrowPair_40 : decode cX1_isNarrowPair 40 = .ok (.aload_n 0, 1) := dk_42 (dk_at dksX1_isNarrowPair_1 16 rfl rfl)
theorem dX1_isNarrowPair_41 : decode cX1_isNarrowPair 41 = .ok (.iload_n 1, 1) := dk_27 (dk_at dksX1_isNarrowPair_1 17 rfl rfl)
theorem dX1_isNarrowPair_42 : decode cX1_isNarrowPair 42 = .ok (.iload_n 2, 1) := dk_28 (dk_at dksX1_isNarrowPair_1 18 rfl rfl)
theorem dX1_isNarrowPair_43 : decode cX1_isNarrowPair 43 = .ok (.iconst 0, 1) := dk_3 (dk_at dksX1_isNarrowPair_1 19 rfl rfl)
theorem dX1_isNarrowPair_44 : decode cX1_isNarrowPair 44 = .ok (.invokevirtual 321, 3) := dk_182 1 65 (dk_at dksX1_isNarrowPair_1 20 rfl rfl)
theorem dX1_isNarrowPair_47 : decode cX1_isNarrowPair 47 = .ok (.istore 6, 2) := dk_54 6 (dk_at dksX1_isNarrowPair_2 0 rfl rfl)
theorem dX1_isNarrowPair_49 : decode cX1_isNarrowPair 49 = .ok (.iload 6, 2) := dk_21 6 (dk_at dksX1_isNarrowPair_2 2 rfl rfl)
theorem dX1_isNarrowPair_51 : decode cX1_isNarrowPair 51 = .ok (.aload_n 0, 1) := dk_42 (dk_at dksX1_isNarrowPair_2 4 rfl rfl)
theorem dX1_isNarrowPair_52 : decode cX1_isNarrowPair 52 = .ok (.iload_n 2, 1) := dk_28 (dk_at dksX1_isNarrowPair_2 5 rfl rfl)
theorem dX1_isNarrowPair_53 : decode cX1_isNarrowPair 53 = .ok (.iload_n 1, 1) := dk_27 (dk_at dksX1_isNarrowPair_2 6 rfl rfl)
theorem dX1_isNarrowPair_54 : decode cX1_isNarrowPair 54 = .ok (.iconst 1, 1) := dk_4 (dk_at dksX1_isNarrowPair_2 7 rfl rfl)
theorem dX1_isNarrowPair_55 : decode cX1_isNarrowPair 55 = .ok (.invokevirtual 321, 3) := dk_182 1 65 (dk_at dksX1_isNarrowPair_2 8 rfl rfl)
theorem dX1_isNarrowPair_58 : decode cX1_isNarrowPair 58 = .ok (.ineg, 1) := dk_116 (dk_at dksX1_isNarrowPair_2 11 rfl rfl)
theorem dX1_isNarrowPair_59 : decode cX1_isNarrowPair 59 = .ok (.if_icmp .ne 33, 3) := dk_160 0 33 (dk_at dksX1_isNarrowPair_2 12 rfl rfl)
theorem dX1_isNarrowPair_62 : decode cX1_isNarrowPair 62 = .ok (.iload 6, 2) := dk_21 6 (dk_at dksX1_isNarrowPair_2 15 rfl rfl)
theorem dX1_isNarrowPair_64 : decode cX1_isNarrowPair 64 = .ok (.ifCond .ne 7, 3) := dk_154 0 7 (dk_at dksX1_isNarrowPair_2 17 rfl rfl)
theorem dX1_isNarrowPair_67 : decode cX1_isNarrowPair 67 = .ok (.iconst 1, 1) := dk_4 (dk_at dksX1_isNarrowPair_2 20 rfl rfl)
theorem dX1_isNarrowPair_68 : decode cX1_isNarrowPair 68 = .ok (.goto 4, 3) := dk_167 0 4 (dk_at dksX1_isNarrowPair_2 21 rfl rfl)
theorem dX1_isNarrowPair_71 : decode cX1_isNarrowPair 71 = .ok (.iconst 0, 1) := dk_3 (dk_at dksX1_isNarrowPair_3 0 rfl rfl)
theorem dX1_isNarrowPair_72 : decode cX1_isNarrowPair 72 = .ok (.iload 5, 2) := dk_21 5 (dk_at dksX1_isNarrowPair_3 1 rfl rfl)
theorem dX1_isNarrowPair_74 : decode cX1_isNarrowPair 74 = .ok (.if_icmp .ne 18, 3) := dk_160 0 18 (dk_at dksX1_isNarrowPair_3 3 rfl rfl)
theorem dX1_isNarrowPair_77 : decode cX1_isNarrowPair 77 = .ok (.aload_n 3, 1) := dk_45 (dk_at dksX1_isNarrowPair_3 6 rfl rfl)
theorem dX1_isNarrowPair_78 : decode cX1_isNarrowPair 78 = .ok (.aload 4, 2) := dk_25 4 (dk_at dksX1_isNarrowPair_3 7 rfl rfl)
theorem dX1_isNarrowPair_80 : decode cX1_isNarrowPair 80 = .ok (.invokevirtual 264, 3) := dk_182 1 8 (dk_at dksX1_isNarrowPair_3 9 rfl rfl)
theorem dX1_isNarrowPair_83 : decode cX1_isNarrowPair 83 = .ok (.iload 5, 2) := dk_21 5 (dk_at dksX1_isNarrowPair_3 12 rfl rfl)
theorem dX1_isNarrowPair_85 : decode cX1_isNarrowPair 85 = .ok (.if_icmp .ne 7, 3) := dk_160 0 7 (dk_at dksX1_isNarrowPair_3 14 rfl rfl)
theorem dX1_isNarrowPair_88 : decode cX1_isNarrowPair 88 = .ok (.iconst 1, 1) := dk_4 (dk_at dksX1_isNarrowPair_3 17 rfl rfl)
theorem dX1_isNarrowPair_89 : decode cX1_isNarrowPair 89 = .ok (.goto 4, 3) := dk_167 0 4 (dk_at dksX1_isNarrowPair_3 18 rfl rfl)
theorem dX1_isNarrowPair_92 : decode cX1_isNarrowPair 92 = .ok (.iconst 0, 1) := dk_3 (dk_at dksX1_isNarrowPair_3 21 rfl rfl)
theorem dX1_isNarrowPair_93 : decode cX1_isNarrowPair 93 = .ok (.istore 7, 2) := dk_54 7 (dk_at dksX1_isNarrowPair_3 22 rfl rfl)
theorem dX1_isNarrowPair_95 : decode cX1_isNarrowPair 95 = .ok (.iload 7, 2) := dk_21 7 (dk_at dksX1_isNarrowPair_4 0 rfl rfl)
theorem dX1_isNarrowPair_97 : decode cX1_isNarrowPair 97 = .ok (.iload 5, 2) := dk_21 5 (dk_at dksX1_isNarrowPair_4 2 rfl rfl)
theorem dX1_isNarrowPair_99 : decode cX1_isNarrowPair 99 = .ok (.ifCond .eq 15, 3) := dk_153 0 15 (dk_at dksX1_isNarrowPair_4 4 rfl rfl)
theorem dX1_isNarrowPair_102 : decode cX1_isNarrowPair 102 = .ok (.aload_n 3, 1) := dk_45 (dk_at dksX1_isNarrowPair_4 7 rfl rfl)
theorem dX1_isNarrowPair_103 : decode cX1_isNarrowPair 103 = .ok (.invokevirtual 313, 3) := dk_182 1 57 (dk_at dksX1_isNarrowPair_4 8 rfl rfl)
theorem dX1_isNarrowPair_106 : decode cX1_isNarrowPair 106 = .ok (.aload 4, 2) := dk_25 4 (dk_at dksX1_isNarrowPair_4 11 rfl rfl)
theorem dX1_isNarrowPair_108 : decode cX1_isNarrowPair 108 = .ok (.invokevirtual 313, 3) := dk_182 1 57 (dk_at dksX1_isNarrowPair_4 13 rfl rfl)
theorem dX1_isNarrowPair_111 : decode cX1_isNarrowPair 111 = .ok (.if_icmp .ne 7, 3) := dk_160 0 7 (dk_at dksX1_isNarrowPair_4 16 rfl rfl)
theorem dX1_isNarrowPair_114 : decode cX1_isNarrowPair 114 = .ok (.iconst 1, 1) := dk_4 (dk_at dksX1_isNarrowPair_4 19 rfl rfl)
theorem dX1_isNarrowPair_115 : decode cX1_isNarrowPair 115 = .ok (.goto 4, 3) := dk_167 0 4 (dk_at dksX1_isNarrowPair_4 20 rfl rfl)
theorem dX1_isNarrowPair_118 : decode cX1_isNarrowPair 118 = .ok (.iconst 0, 1) := dk_3 (dk_at dksX1_isNarrowPair_4 23 rfl rfl)
theorem dX1_isNarrowPair_119 : decode cX1_isNarrowPair 119 = .ok (.iand, 1) := dk_126 (dk_at dksX1_isNarrowPair_5 0 rfl rfl)
theorem dX1_isNarrowPair_120 : decode cX1_isNarrowPair 120 = .ok (.istore 7, 2) := dk_54 7 (dk_at dksX1_isNarrowPair_5 1 rfl rfl)
theorem dX1_isNarrowPair_122 : decode cX1_isNarrowPair 122 = .ok (.iload 7, 2) := dk_21 7 (dk_at dksX1_isNarrowPair_5 3 rfl rfl)
theorem dX1_isNarrowPair_124 : decode cX1_isNarrowPair 124 = .ok (.aload_n 0, 1) := dk_42 (dk_at dksX1_isNarrowPair_5 5 rfl rfl)
theorem dX1_isNarrowPair_125 : decode cX1_isNarrowPair 125 = .ok (.iload_n 1, 1) := dk_27 (dk_at dksX1_isNarrowPair_5 6 rfl rfl)
theorem dX1_isNarrowPair_126 : decode cX1_isNarrowPair 126 = .ok (.iload_n 2, 1) := dk_28 (dk_at dksX1_isNarrowPair_5 7 rfl rfl)
theorem dX1_isNarrowPair_127 : decode cX1_isNarrowPair 127 = .ok (.invokevirtual 324, 3) := dk_182 1 68 (dk_at dksX1_isNarrowPair_5 8 rfl rfl)
theorem dX1_isNarrowPair_130 : decode cX1_isNarrowPair 130 = .ok (.ifCond .eq 29, 3) := dk_153 0 29 (dk_at dksX1_isNarrowPair_5 11 rfl rfl)
theorem dX1_isNarrowPair_133 : decode cX1_isNarrowPair 133 = .ok (.iload 5, 2) := dk_21 5 (dk_at dksX1_isNarrowPair_5 14 rfl rfl)
theorem dX1_isNarrowPair_135 : decode cX1_isNarrowPair 135 = .ok (.ifCond .ne 24, 3) := dk_154 0 24 (dk_at dksX1_isNarrowPair_5 16 rfl rfl)
theorem dX1_isNarrowPair_138 : decode cX1_isNarrowPair 138 = .ok (.aload_n 3, 1) := dk_45 (dk_at dksX1_isNarrowPair_5 19 rfl rfl)
theorem dX1_isNarrowPair_139 : decode cX1_isNarrowPair 139 = .ok (.invokevirtual 211, 3) := dk_182 0 211 (dk_at dksX1_isNarrowPair_5 20 rfl rfl)
theorem dX1_isNarrowPair_142 : decode cX1_isNarrowPair 142 = .ok (.invokestatic 265, 3) := dk_184 1 9 (dk_at dksX1_isNarrowPair_6 0 rfl rfl)
theorem dX1_isNarrowPair_145 : decode cX1_isNarrowPair 145 = .ok (.ifCond .ne 18, 3) := dk_154 0 18 (dk_at dksX1_isNarrowPair_6 3 rfl rfl)
theorem dX1_isNarrowPair_148 : decode cX1_isNarrowPair 148 = .ok (.aload 4, 2) := dk_25 4 (dk_at dksX1_isNarrowPair_6 6 rfl rfl)
theorem dX1_isNarrowPair_150 : decode cX1_isNarrowPair 150 = .ok (.invokevirtual 211, 3) := dk_182 0 211 (dk_at dksX1_isNarrowPair_6 8 rfl rfl)
theorem dX1_isNarrowPair_153 : decode cX1_isNarrowPair 153 = .ok (.invokestatic 265, 3) := dk_184 1 9 (dk_at dksX1_isNarrowPair_6 11 rfl rfl)
theorem dX1_isNarrowPair_156 : decode cX1_isNarrowPair 156 = .ok (.ifCond .ne 7, 3) := dk_154 0 7 (dk_at dksX1_isNarrowPair_6 14 rfl rfl)
theorem dX1_isNarrowPair_159 : decode cX1_isNarrowPair 159 = .ok (.iconst 1, 1) := dk_4 (dk_at dksX1_isNarrowPair_6 17 rfl rfl)
theorem dX1_isNarrowPair_160 : decode cX1_isNarrowPair 160 = .ok (.goto 4, 3) := dk_167 0 4 (dk_at dksX1_isNarrowPair_6 18 rfl rfl)
theorem dX1_isNarrowPair_163 : decode cX1_isNarrowPair 163 = .ok (.iconst 0, 1) := dk_3 (dk_at dksX1_isNarrowPair_6 21 rfl rfl)
theorem dX1_isNarrowPair_164 : decode cX1_isNarrowPair 164 = .ok (.iand, 1) := dk_126 (dk_at dksX1_isNarrowPair_6 22 rfl rfl)
theorem dX1_isNarrowPair_165 : decode cX1_isNarrowPair 165 = .ok (.istore 7, 2) := dk_54 7 (dk_at dksX1_isNarrowPair_7 0 rfl rfl)
theorem dX1_isNarrowPair_167 : decode cX1_isNarrowPair 167 = .ok (.aload_n 3, 1) := dk_45 (dk_at dksX1_isNarrowPair_7 2 rfl rfl)
theorem dX1_isNarrowPair_168 : decode cX1_isNarrowPair 168 = .ok (.invokevirtual 211, 3) := dk_182 0 211 (dk_at dksX1_isNarrowPair_7 3 rfl rfl)
theorem dX1_isNarrowPair_171 : decode cX1_isNarrowPair 171 = .ok (.aload 4, 2) := dk_25 4 (dk_at dksX1_isNarrowPair_7 6 rfl rfl)
theorem dX1_isNarrowPair_173 : decode cX1_isNarrowPair 173 = .ok (.invokevirtual 211, 3) := dk_182 0 211 (dk_at dksX1_isNarrowPair_7 8 rfl rfl)
theorem dX1_isNarrowPair_176 : decode cX1_isNarrowPair 176 = .ok (.invokestatic 290, 3) := dk_184 1 34 (dk_at dksX1_isNarrowPair_7 11 rfl rfl)
theorem dX1_isNarrowPair_179 : decode cX1_isNarrowPair 179 = .ok (.invokestatic 29, 3) := dk_184 0 29 (dk_at dksX1_isNarrowPair_7 14 rfl rfl)
theorem dX1_isNarrowPair_182 : decode cX1_isNarrowPair 182 = .ok (.astore 8, 2) := dk_58 8 (dk_at dksX1_isNarrowPair_7 17 rfl rfl)
theorem dX1_isNarrowPair_184 : decode cX1_isNarrowPair 184 = .ok (.aload_n 3, 1) := dk_45 (dk_at dksX1_isNarrowPair_7 19 rfl rfl)
theorem dX1_isNarrowPair_185 : decode cX1_isNarrowPair 185 = .ok (.invokevirtual 211, 3) := dk_182 0 211 (dk_at dksX1_isNarrowPair_7 20 rfl rfl)
theorem dX1_isNarrowPair_188 : decode cX1_isNarrowPair 188 = .ok (.aload 4, 2) := dk_25 4 (dk_at dksX1_isNarrowPair_8 0 rfl rfl)
theorem dX1_isNarrowPair_190 : decode cX1_isNarrowPair 190 = .ok (.invokevirtual 211, 3) := dk_182 0 211 (dk_at dksX1_isNarrowPair_8 2 rfl rfl)
theorem dX1_isNarrowPair_193 : decode cX1_isNarrowPair 193 = .ok (.invokestatic 293, 3) := dk_184 1 37 (dk_at dksX1_isNarrowPair_8 5 rfl rfl)
theorem dX1_isNarrowPair_196 : decode cX1_isNarrowPair 196 = .ok (.invokestatic 29, 3) := dk_184 0 29 (dk_at dksX1_isNarrowPair_8 8 rfl rfl)
theorem dX1_isNarrowPair_199 : decode cX1_isNarrowPair 199 = .ok (.astore 9, 2) := dk_58 9 (dk_at dksX1_isNarrowPair_8 11 rfl rfl)
theorem dX1_isNarrowPair_201 : decode cX1_isNarrowPair 201 = .ok (.iload 7, 2) := dk_21 7 (dk_at dksX1_isNarrowPair_8 13 rfl rfl)
theorem dX1_isNarrowPair_203 : decode cX1_isNarrowPair 203 = .ok (.aload 8, 2) := dk_25 8 (dk_at dksX1_isNarrowPair_8 15 rfl rfl)
theorem dX1_isNarrowPair_205 : decode cX1_isNarrowPair 205 = .ok (.iload 6, 2) := dk_21 6 (dk_at dksX1_isNarrowPair_8 17 rfl rfl)
theorem dX1_isNarrowPair_207 : decode cX1_isNarrowPair 207 = .ok (.ifCond .ge 8, 3) := dk_156 0 8 (dk_at dksX1_isNarrowPair_8 19 rfl rfl)
theorem dX1_isNarrowPair_210 : decode cX1_isNarrowPair 210 = .ok (.aload 4, 2) := dk_25 4 (dk_at dksX1_isNarrowPair_8 22 rfl rfl)
theorem dX1_isNarrowPair_212 : decode cX1_isNarrowPair 212 = .ok (.goto 4, 3) := dk_167 0 4 (dk_at dksX1_isNarrowPair_9 0 rfl rfl)
theorem dX1_isNarrowPair_215 : decode cX1_isNarrowPair 215 = .ok (.aload_n 3, 1) := dk_45 (dk_at dksX1_isNarrowPair_9 3 rfl rfl)
theorem dX1_isNarrowPair_216 : decode cX1_isNarrowPair 216 = .ok (.invokevirtual 264, 3) := dk_182 1 8 (dk_at dksX1_isNarrowPair_9 4 rfl rfl)
theorem dX1_isNarrowPair_219 : decode cX1_isNarrowPair 219 = .ok (.ifCond .eq 26, 3) := dk_153 0 26 (dk_at dksX1_isNarrowPair_9 7 rfl rfl)
theorem dX1_isNarrowPair_222 : decode cX1_isNarrowPair 222 = .ok (.aload 9, 2) := dk_25 9 (dk_at dksX1_isNarrowPair_9 10 rfl rfl)
theorem dX1_isNarrowPair_224 : decode cX1_isNarrowPair 224 = .ok (.iload 6, 2) := dk_21 6 (dk_at dksX1_isNarrowPair_9 12 rfl rfl)
theorem dX1_isNarrowPair_226 : decode cX1_isNarrowPair 226 = .ok (.ifCond .ge 7, 3) := dk_156 0 7 (dk_at dksX1_isNarrowPair_9 14 rfl rfl)
theorem dX1_isNarrowPair_229 : decode cX1_isNarrowPair 229 = .ok (.aload_n 3, 1) := dk_45 (dk_at dksX1_isNarrowPair_9 17 rfl rfl)
theorem dX1_isNarrowPair_230 : decode cX1_isNarrowPair 230 = .ok (.goto 5, 3) := dk_167 0 5 (dk_at dksX1_isNarrowPair_9 18 rfl rfl)
theorem dX1_isNarrowPair_233 : decode cX1_isNarrowPair 233 = .ok (.aload 4, 2) := dk_25 4 (dk_at dksX1_isNarrowPair_9 21 rfl rfl)
theorem dX1_isNarrowPair_235 : decode cX1_isNarrowPair 235 = .ok (.invokevirtual 264, 3) := dk_182 1 8 (dk_at dksX1_isNarrowPair_10 0 rfl rfl)
theorem dX1_isNarrowPair_238 : decode cX1_isNarrowPair 238 = .ok (.ifCond .eq 7, 3) := dk_153 0 7 (dk_at dksX1_isNarrowPair_10 3 rfl rfl)
theorem dX1_isNarrowPair_241 : decode cX1_isNarrowPair 241 = .ok (.iconst 1, 1) := dk_4 (dk_at dksX1_isNarrowPair_10 6 rfl rfl)
theorem dX1_isNarrowPair_242 : decode cX1_isNarrowPair 242 = .ok (.goto 4, 3) := dk_167 0 4 (dk_at dksX1_isNarrowPair_10 7 rfl rfl)
theorem dX1_isNarrowPair_245 : decode cX1_isNarrowPair 245 = .ok (.iconst 0, 1) := dk_3 (dk_at dksX1_isNarrowPair_10 10 rfl rfl)
theorem dX1_isNarrowPair_246 : decode cX1_isNarrowPair 246 = .ok (.iand, 1) := dk_126 (dk_at dksX1_isNarrowPair_10 11 rfl rfl)
theorem dX1_isNarrowPair_247 : decode cX1_isNarrowPair 247 = .ok (.istore 7, 2) := dk_54 7 (dk_at dksX1_isNarrowPair_10 12 rfl rfl)
theorem dX1_isNarrowPair_249 : decode cX1_isNarrowPair 249 = .ok (.iload 7, 2) := dk_21 7 (dk_at dksX1_isNarrowPair_10 14 rfl rfl)
theorem dX1_isNarrowPair_251 : decode cX1_isNarrowPair 251 = .ok (.ifCond .eq 22, 3) := dk_153 0 22 (dk_at dksX1_isNarrowPair_10 16 rfl rfl)
theorem dX1_isNarrowPair_254 : decode cX1_isNarrowPair 254 = .ok (.aload_n 0, 1) := dk_42 (dk_at dksX1_isNarrowPair_10 19 rfl rfl)
theorem dX1_isNarrowPair_255 : decode cX1_isNarrowPair 255 = .ok (.iload_n 1, 1) := dk_27 (dk_at dksX1_isNarrowPair_10 20 rfl rfl)
theorem dX1_isNarrowPair_256 : decode cX1_isNarrowPair 256 = .ok (.iload_n 2, 1) := dk_28 (dk_at dksX1_isNarrowPair_10 21 rfl rfl)
theorem dX1_isNarrowPair_257 : decode cX1_isNarrowPair 257 = .ok (.iconst 0, 1) := dk_3 (dk_at dksX1_isNarrowPair_10 22 rfl rfl)
theorem dX1_isNarrowPair_258 : decode cX1_isNarrowPair 258 = .ok (.invokevirtual 327, 3) := dk_182 1 71 (dk_at dksX1_isNarrowPair_11 0 rfl rfl)
theorem dX1_isNarrowPair_261 : decode cX1_isNarrowPair 261 = .ok (.ifCond .eq 8, 3) := dk_153 0 8 (dk_at dksX1_isNarrowPair_11 3 rfl rfl)
theorem dX1_isNarrowPair_264 : decode cX1_isNarrowPair 264 = .ok (.iload 6, 2) := dk_21 6 (dk_at dksX1_isNarrowPair_11 6 rfl rfl)
theorem dX1_isNarrowPair_266 : decode cX1_isNarrowPair 266 = .ok (.ifCond .ge 7, 3) := dk_156 0 7 (dk_at dksX1_isNarrowPair_11 8 rfl rfl)
theorem dX1_isNarrowPair_269 : decode cX1_isNarrowPair 269 = .ok (.iconst 1, 1) := dk_4 (dk_at dksX1_isNarrowPair_11 11 rfl rfl)
theorem dX1_isNarrowPair_270 : decode cX1_isNarrowPair 270 = .ok (.goto 4, 3) := dk_167 0 4 (dk_at dksX1_isNarrowPair_11 12 rfl rfl)
theorem dX1_isNarrowPair_273 : decode cX1_isNarrowPair 273 = .ok (.iconst 0, 1) := dk_3 (dk_at dksX1_isNarrowPair_11 15 rfl rfl)
theorem dX1_isNarrowPair_274 : decode cX1_isNarrowPair 274 = .ok (.ireturn, 1) := dk_172 (dk_at dksX1_isNarrowPair_11 16 rfl rfl)
abbrev cX1_narrowOrder : ByteArray := prog_1_method_61_code
def yX1_narrowOrder : MethodName := ⟨RX1, "narrowOrder", "(III)I"⟩
def dkwX1_narrowOrder_3 : List UInt8 := [184, 0, 199, 172]
abbrev dktX1_narrowOrder_3 : List UInt8 := dkwX1_narrowOrder_3 ++ []
def dkwX1_narrowOrder_2 : List UInt8 := [29, 4, 160, 0, 13, 25, 4, 25, 5, 182, 1, 54, 167, 0, 12, 25, 6, 25, 5, 185, 0, 194, 2, 0]
abbrev dktX1_narrowOrder_2 : List UInt8 := dkwX1_narrowOrder_2 ++ dktX1_narrowOrder_3
def dkwX1_narrowOrder_1 : List UInt8 := [25, 4, 58, 6, 29, 154, 0, 19, 25, 4, 182, 0, 211, 25, 5, 182, 0, 211, 184, 1, 51, 167, 0, 27]
abbrev dktX1_narrowOrder_1 : List UInt8 := dkwX1_narrowOrder_1 ++ dktX1_narrowOrder_2
def dkwX1_narrowOrder_0 : List UInt8 := [42, 27, 182, 1, 31, 58, 4, 42, 28, 182, 1, 31, 58, 5, 29, 3, 5, 184, 0, 32, 184, 0, 132]
abbrev dktX1_narrowOrder_0 : List UInt8 := dkwX1_narrowOrder_0 ++ dktX1_narrowOrder_1
theorem dksX1_narrowOrder_0 : cX1_narrowOrder.data.toList.drop 0 = dktX1_narrowOrder_0 := by decide +kernel
theorem dksX1_narrowOrder_1 : cX1_narrowOrder.data.toList.drop 23 = dktX1_narrowOrder_1 := dk_seg dksX1_narrowOrder_0 23 rfl rfl
theorem dksX1_narrowOrder_2 : cX1_narrowOrder.data.toList.drop 47 = dktX1_narrowOrder_2 := dk_seg dksX1_narrowOrder_1 24 rfl rfl
theorem dksX1_narrowOrder_3 : cX1_narrowOrder.data.toList.drop 71 = dktX1_narrowOrder_3 := dk_seg dksX1_narrowOrder_2 24 rfl rfl
theorem dX1_narrowOrder_0 : decode cX1_narrowOrder 0 = .ok (.aload_n 0, 1) := dk_42 (dk_at dksX1_narrowOrder_0 0 rfl rfl)
theorem dX1_narrowOrder_1 : decode cX1_narrowOrder 1 = .ok (.iload_n 1, 1) := dk_27 (dk_at dksX1_narrowOrder_0 1 rfl rfl)
theorem dX1_narrowOrder_2 : decode cX1_narrowOrder 2 = .ok (.invokevirtual 287, 3) := dk_182 1 31 (dk_at dksX1_narrowOrder_0 2 rfl rfl)
theorem dX1_narrowOrder_5 : decode cX1_narrowOrder 5 = .ok (.astore 4, 2) := dk_58 4 (dk_at dksX1_narrowOrder_0 5 rfl rfl)
theorem dX1_narrowOrder_7 : decode cX1_narrowOrder 7 = .ok (.aload_n 0, 1) := dk_42 (dk_at dksX1_narrowOrder_0 7 rfl rfl)
theorem dX1_narrowOrder_8 : decode cX1_narrowOrder 8 = .ok (.iload_n 2, 1) := dk_28 (dk_at dksX1_narrowOrder_0 8 rfl rfl)
theorem dX1_narrowOrder_9 : decode cX1_narrowOrder 9 = .ok (.invokevirtual 287, 3) := dk_182 1 31 (dk_at dksX1_narrowOrder_0 9 rfl rfl)
theorem dX1_narrowOrder_12 : decode cX1_narrowOrder 12 = .ok (.astore 5, 2) := dk_58 5 (dk_at dksX1_narrowOrder_0 12 rfl rfl)
theorem dX1_narrowOrder_14 : decode cX1_narrowOrder 14 = .ok (.iload_n 3, 1) := dk_29 (dk_at dksX1_narrowOrder_0 14 rfl rfl)
theorem dX1_narrowOrder_15 : decode cX1_narrowOrder 15 = .ok (.iconst 0, 1) := dk_3 (dk_at dksX1_narrowOrder_0 15 rfl rfl)
theorem dX1_narrowOrder_16 : decode cX1_narrowOrder 16 = .ok (.iconst 2, 1) := dk_5 (dk_at dksX1_narrowOrder_0 16 rfl rfl)
theorem dX1_narrowOrder_17 : decode cX1_narrowOrder 17 = .ok (.invokestatic 32, 3) := dk_184 0 32 (dk_at dksX1_narrowOrder_0 17 rfl rfl)
theorem dX1_narrowOrder_20 : decode cX1_narrowOrder 20 = .ok (.invokestatic 132, 3) := dk_184 0 132 (dk_at dksX1_narrowOrder_0 20 rfl rfl)
theorem dX1_narrowOrder_23 : decode cX1_narrowOrder 23 = .ok (.aload 4, 2) := dk_25 4 (dk_at dksX1_narrowOrder_1 0 rfl rfl)
theorem dX1_narrowOrder_25 : decode cX1_narrowOrder 25 = .ok (.astore 6, 2) := dk_58 6 (dk_at dksX1_narrowOrder_1 2 rfl rfl)
theorem dX1_narrowOrder_27 : decode cX1_narrowOrder 27 = .ok (.iload_n 3, 1) := dk_29 (dk_at dksX1_narrowOrder_1 4 rfl rfl)
theorem dX1_narrowOrder_28 : decode cX1_narrowOrder 28 = .ok (.ifCond .ne 19, 3) := dk_154 0 19 (dk_at dksX1_narrowOrder_1 5 rfl rfl)
theorem dX1_narrowOrder_31 : decode cX1_narrowOrder 31 = .ok (.aload 4, 2) := dk_25 4 (dk_at dksX1_narrowOrder_1 8 rfl rfl)
theorem dX1_narrowOrder_33 : decode cX1_narrowOrder 33 = .ok (.invokevirtual 211, 3) := dk_182 0 211 (dk_at dksX1_narrowOrder_1 10 rfl rfl)
theorem dX1_narrowOrder_36 : decode cX1_narrowOrder 36 = .ok (.aload 5, 2) := dk_25 5 (dk_at dksX1_narrowOrder_1 13 rfl rfl)
theorem dX1_narrowOrder_38 : decode cX1_narrowOrder 38 = .ok (.invokevirtual 211, 3) := dk_182 0 211 (dk_at dksX1_narrowOrder_1 15 rfl rfl)
theorem dX1_narrowOrder_41 : decode cX1_narrowOrder 41 = .ok (.invokestatic 307, 3) := dk_184 1 51 (dk_at dksX1_narrowOrder_1 18 rfl rfl)
theorem dX1_narrowOrder_44 : decode cX1_narrowOrder 44 = .ok (.goto 27, 3) := dk_167 0 27 (dk_at dksX1_narrowOrder_1 21 rfl rfl)
theorem dX1_narrowOrder_47 : decode cX1_narrowOrder 47 = .ok (.iload_n 3, 1) := dk_29 (dk_at dksX1_narrowOrder_2 0 rfl rfl)
theorem dX1_narrowOrder_48 : decode cX1_narrowOrder 48 = .ok (.iconst 1, 1) := dk_4 (dk_at dksX1_narrowOrder_2 1 rfl rfl)
theorem dX1_narrowOrder_49 : decode cX1_narrowOrder 49 = .ok (.if_icmp .ne 13, 3) := dk_160 0 13 (dk_at dksX1_narrowOrder_2 2 rfl rfl)
theorem dX1_narrowOrder_52 : decode cX1_narrowOrder 52 = .ok (.aload 4, 2) := dk_25 4 (dk_at dksX1_narrowOrder_2 5 rfl rfl)
theorem dX1_narrowOrder_54 : decode cX1_narrowOrder 54 = .ok (.aload 5, 2) := dk_25 5 (dk_at dksX1_narrowOrder_2 7 rfl rfl)
theorem dX1_narrowOrder_56 : decode cX1_narrowOrder 56 = .ok (.invokevirtual 310, 3) := dk_182 1 54 (dk_at dksX1_narrowOrder_2 9 rfl rfl)
theorem dX1_narrowOrder_59 : decode cX1_narrowOrder 59 = .ok (.goto 12, 3) := dk_167 0 12 (dk_at dksX1_narrowOrder_2 12 rfl rfl)
theorem dX1_narrowOrder_62 : decode cX1_narrowOrder 62 = .ok (.aload 6, 2) := dk_25 6 (dk_at dksX1_narrowOrder_2 15 rfl rfl)
theorem dX1_narrowOrder_64 : decode cX1_narrowOrder 64 = .ok (.aload 5, 2) := dk_25 5 (dk_at dksX1_narrowOrder_2 17 rfl rfl)
theorem dX1_narrowOrder_66 : decode cX1_narrowOrder 66 = .ok (.invokeinterface 194 2, 5) := by decide +kernel
theorem dX1_narrowOrder_71 : decode cX1_narrowOrder 71 = .ok (.invokestatic 199, 3) := dk_184 0 199 (dk_at dksX1_narrowOrder_3 0 rfl rfl)
theorem dX1_narrowOrder_74 : decode cX1_narrowOrder 74 = .ok (.ireturn, 1) := dk_172 (dk_at dksX1_narrowOrder_3 3 rfl rfl)
abbrev cX1_narrowAt : ByteArray := prog_1_method_44_code
def yX1_narrowAt : MethodName := ⟨RX1, "narrowAt", "(I)Ljava/lang/Float;"⟩
def dkwX1_narrowAt_0 : List UInt8 := [27, 184, 0, 80, 42, 180, 0, 21, 27, 50, 176]
abbrev dktX1_narrowAt_0 : List UInt8 := dkwX1_narrowAt_0 ++ []
theorem dksX1_narrowAt_0 : cX1_narrowAt.data.toList.drop 0 = dktX1_narrowAt_0 := by decide +kernel
theorem dX1_narrowAt_0 : decode cX1_narrowAt 0 = .ok (.iload_n 1, 1) := dk_27 (dk_at dksX1_narrowAt_0 0 rfl rfl)
theorem dX1_narrowAt_1 : decode cX1_narrowAt 1 = .ok (.invokestatic 80, 3) := dk_184 0 80 (dk_at dksX1_narrowAt_0 1 rfl rfl)
theorem dX1_narrowAt_4 : decode cX1_narrowAt 4 = .ok (.aload_n 0, 1) := dk_42 (dk_at dksX1_narrowAt_0 4 rfl rfl)
theorem dX1_narrowAt_5 : decode cX1_narrowAt 5 = .ok (.getfield 21, 3) := dk_180 0 21 (dk_at dksX1_narrowAt_0 5 rfl rfl)
theorem dX1_narrowAt_8 : decode cX1_narrowAt 8 = .ok (.iload_n 1, 1) := dk_27 (dk_at dksX1_narrowAt_0 8 rfl rfl)
theorem dX1_narrowAt_9 : decode cX1_narrowAt 9 = .ok (.aaload, 1) := dk_50 (dk_at dksX1_narrowAt_0 9 rfl rfl)
theorem dX1_narrowAt_10 : decode cX1_narrowAt 10 = .ok (.areturn, 1) := dk_176 (dk_at dksX1_narrowAt_0 10 rfl rfl)
abbrev cX1_narrowLike : ByteArray := prog_1_method_64_code
def yX1_narrowLike : MethodName := ⟨RX1, "narrowLike", "(II)Z"⟩
def dkwX1_narrowLike_1 : List UInt8 := [154, 0, 7, 4, 167, 0, 4, 3, 172]
abbrev dktX1_narrowLike_1 : List UInt8 := dkwX1_narrowLike_1 ++ []
def dkwX1_narrowLike_0 : List UInt8 := [42, 27, 182, 1, 31, 182, 0, 211, 70, 42, 28, 182, 1, 31, 182, 0, 211, 56, 4, 37, 23, 4, 149]
abbrev dktX1_narrowLike_0 : List UInt8 := dkwX1_narrowLike_0 ++ dktX1_narrowLike_1
theorem dksX1_narrowLike_0 : cX1_narrowLike.data.toList.drop 0 = dktX1_narrowLike_0 := by decide +kernel
theorem dksX1_narrowLike_1 : cX1_narrowLike.data.toList.drop 23 = dktX1_narrowLike_1 := dk_seg dksX1_narrowLike_0 23 rfl rfl
theorem dX1_narrowLike_0 : decode cX1_narrowLike 0 = .ok (.aload_n 0, 1) := dk_42 (dk_at dksX1_narrowLike_0 0 rfl rfl)
theorem dX1_narrowLike_1 : decode cX1_narrowLike 1 = .ok (.iload_n 1, 1) := dk_27 (dk_at dksX1_narrowLike_0 1 rfl rfl)
theorem dX1_narrowLike_2 : decode cX1_narrowLike 2 = .ok (.invokevirtual 287, 3) := dk_182 1 31 (dk_at dksX1_narrowLike_0 2 rfl rfl)
theorem dX1_narrowLike_5 : decode cX1_narrowLike 5 = .ok (.invokevirtual 211, 3) := dk_182 0 211 (dk_at dksX1_narrowLike_0 5 rfl rfl)
theorem dX1_narrowLike_8 : decode cX1_narrowLike 8 = .ok (.fstore_n 3, 1) := dk_70 (dk_at dksX1_narrowLike_0 8 rfl rfl)
theorem dX1_narrowLike_9 : decode cX1_narrowLike 9 = .ok (.aload_n 0, 1) := dk_42 (dk_at dksX1_narrowLike_0 9 rfl rfl)
theorem dX1_narrowLike_10 : decode cX1_narrowLike 10 = .ok (.iload_n 2, 1) := dk_28 (dk_at dksX1_narrowLike_0 10 rfl rfl)
theorem dX1_narrowLike_11 : decode cX1_narrowLike 11 = .ok (.invokevirtual 287, 3) := dk_182 1 31 (dk_at dksX1_narrowLike_0 11 rfl rfl)
theorem dX1_narrowLike_14 : decode cX1_narrowLike 14 = .ok (.invokevirtual 211, 3) := dk_182 0 211 (dk_at dksX1_narrowLike_0 14 rfl rfl)
theorem dX1_narrowLike_17 : decode cX1_narrowLike 17 = .ok (.fstore 4, 2) := dk_56 4 (dk_at dksX1_narrowLike_0 17 rfl rfl)
theorem dX1_narrowLike_19 : decode cX1_narrowLike 19 = .ok (.fload_n 3, 1) := dk_37 (dk_at dksX1_narrowLike_0 19 rfl rfl)
theorem dX1_narrowLike_20 : decode cX1_narrowLike 20 = .ok (.fload 4, 2) := dk_23 4 (dk_at dksX1_narrowLike_0 20 rfl rfl)
theorem dX1_narrowLike_22 : decode cX1_narrowLike 22 = .ok (.fcmp .l, 1) := dk_149 (dk_at dksX1_narrowLike_0 22 rfl rfl)
theorem dX1_narrowLike_23 : decode cX1_narrowLike 23 = .ok (.ifCond .ne 7, 3) := dk_154 0 7 (dk_at dksX1_narrowLike_1 0 rfl rfl)
theorem dX1_narrowLike_26 : decode cX1_narrowLike 26 = .ok (.iconst 1, 1) := dk_4 (dk_at dksX1_narrowLike_1 3 rfl rfl)
theorem dX1_narrowLike_27 : decode cX1_narrowLike 27 = .ok (.goto 4, 3) := dk_167 0 4 (dk_at dksX1_narrowLike_1 4 rfl rfl)
theorem dX1_narrowLike_30 : decode cX1_narrowLike 30 = .ok (.iconst 0, 1) := dk_3 (dk_at dksX1_narrowLike_1 7 rfl rfl)
theorem dX1_narrowLike_31 : decode cX1_narrowLike 31 = .ok (.ireturn, 1) := dk_172 (dk_at dksX1_narrowLike_1 8 rfl rfl)
abbrev cX1_quartersOf_2 : ByteArray := prog_1_method_42_code
def yX1_quartersOf_2 : MethodName := ⟨RX1, "quartersOf", "(F)I"⟩
def dkwX1_quartersOf_2_3 : List UInt8 := [156, 0, 9, 21, 4, 116, 167, 0, 5, 21, 4, 172]
abbrev dktX1_quartersOf_2_3 : List UInt8 := dkwX1_quartersOf_2_3 ++ []
def dkwX1_quartersOf_2_2 : List UInt8 := [54, 4, 21, 4, 28, 120, 29, 160, 0, 10, 21, 4, 18, 254, 164, 0, 6, 18, 61, 172, 34, 184, 0, 250]
abbrev dktX1_quartersOf_2_2 : List UInt8 := dkwX1_quartersOf_2_2 ++ dktX1_quartersOf_2_3
def dkwX1_quartersOf_2_1 : List UInt8 := [155, 0, 9, 28, 16, 23, 164, 0, 6, 18, 61, 172, 18, 252, 27, 18, 253, 126, 128, 62, 29, 28, 122]
abbrev dktX1_quartersOf_2_1 : List UInt8 := dkwX1_quartersOf_2_1 ++ dktX1_quartersOf_2_2
def dkwX1_quartersOf_2_0 : List UInt8 := [34, 184, 0, 250, 18, 244, 126, 60, 17, 0, 148, 27, 16, 23, 124, 100, 61, 27, 154, 0, 5, 3, 172, 28]
abbrev dktX1_quartersOf_2_0 : List UInt8 := dkwX1_quartersOf_2_0 ++ dktX1_quartersOf_2_1
theorem dksX1_quartersOf_2_0 : cX1_quartersOf_2.data.toList.drop 0 = dktX1_quartersOf_2_0 := by decide +kernel
theorem dksX1_quartersOf_2_1 : cX1_quartersOf_2.data.toList.drop 24 = dktX1_quartersOf_2_1 := dk_seg dksX1_quartersOf_2_0 24 rfl rfl
theorem dksX1_quartersOf_2_2 : cX1_quartersOf_2.data.toList.drop 47 = dktX1_quartersOf_2_2 := dk_seg dksX1_quartersOf_2_1 23 rfl rfl
theorem dksX1_quartersOf_2_3 : cX1_quartersOf_2.data.toList.drop 71 = dktX1_quartersOf_2_3 := dk_seg dksX1_quartersOf_2_2 24 rfl rfl
theorem dX1_quartersOf_2_0 : decode cX1_quartersOf_2 0 = .ok (.fload_n 0, 1) := dk_34 (dk_at dksX1_quartersOf_2_0 0 rfl rfl)
theorem dX1_quartersOf_2_1 : decode cX1_quartersOf_2 1 = .ok (.invokestatic 250, 3) := dk_184 0 250 (dk_at dksX1_quartersOf_2_0 1 rfl rfl)
theorem dX1_quartersOf_2_4 : decode cX1_quartersOf_2 4 = .ok (.ldc 244, 2) := dk_18 244 (dk_at dksX1_quartersOf_2_0 4 rfl rfl)
theorem dX1_quartersOf_2_6 : decode cX1_quartersOf_2 6 = .ok (.iand, 1) := dk_126 (dk_at dksX1_quartersOf_2_0 6 rfl rfl)
theorem dX1_quartersOf_2_7 : decode cX1_quartersOf_2 7 = .ok (.istore_n 1, 1) := dk_60 (dk_at dksX1_quartersOf_2_0 7 rfl rfl)
theorem dX1_quartersOf_2_8 : decode cX1_quartersOf_2 8 = .ok (.sipush 148, 3) := dk_17 0 148 (dk_at dksX1_quartersOf_2_0 8 rfl rfl)
theorem dX1_quartersOf_2_11 : decode cX1_quartersOf_2 11 = .ok (.iload_n 1, 1) := dk_27 (dk_at dksX1_quartersOf_2_0 11 rfl rfl)
theorem dX1_quartersOf_2_12 : decode cX1_quartersOf_2 12 = .ok (.bipush 23, 2) := dk_16 23 (dk_at dksX1_quartersOf_2_0 12 rfl rfl)
theorem dX1_quartersOf_2_14 : decode cX1_quartersOf_2 14 = .ok (.iushr, 1) := dk_124 (dk_at dksX1_quartersOf_2_0 14 rfl rfl)
theorem dX1_quartersOf_2_15 : decode cX1_quartersOf_2 15 = .ok (.isub, 1) := dk_100 (dk_at dksX1_quartersOf_2_0 15 rfl rfl)
theorem dX1_quartersOf_2_16 : decode cX1_quartersOf_2 16 = .ok (.istore_n 2, 1) := dk_61 (dk_at dksX1_quartersOf_2_0 16 rfl rfl)
theorem dX1_quartersOf_2_17 : decode cX1_quartersOf_2 17 = .ok (.iload_n 1, 1) := dk_27 (dk_at dksX1_quartersOf_2_0 17 rfl rfl)
theorem dX1_quartersOf_2_18 : decode cX1_quartersOf_2 18 = .ok (.ifCond .ne 5, 3) := dk_154 0 5 (dk_at dksX1_quartersOf_2_0 18 rfl rfl)
theorem dX1_quartersOf_2_21 : decode cX1_quartersOf_2 21 = .ok (.iconst 0, 1) := dk_3 (dk_at dksX1_quartersOf_2_0 21 rfl rfl)
theorem dX1_quartersOf_2_22 : decode cX1_quartersOf_2 22 = .ok (.ireturn, 1) := dk_172 (dk_at dksX1_quartersOf_2_0 22 rfl rfl)
theorem dX1_quartersOf_2_23 : decode cX1_quartersOf_2 23 = .ok (.iload_n 2, 1) := dk_28 (dk_at dksX1_quartersOf_2_0 23 rfl rfl)
theorem dX1_quartersOf_2_24 : decode cX1_quartersOf_2 24 = .ok (.ifCond .lt 9, 3) := dk_155 0 9 (dk_at dksX1_quartersOf_2_1 0 rfl rfl)
theorem dX1_quartersOf_2_27 : decode cX1_quartersOf_2 27 = .ok (.iload_n 2, 1) := dk_28 (dk_at dksX1_quartersOf_2_1 3 rfl rfl)
theorem dX1_quartersOf_2_28 : decode cX1_quartersOf_2 28 = .ok (.bipush 23, 2) := dk_16 23 (dk_at dksX1_quartersOf_2_1 4 rfl rfl)
theorem dX1_quartersOf_2_30 : decode cX1_quartersOf_2 30 = .ok (.if_icmp .le 6, 3) := dk_164 0 6 (dk_at dksX1_quartersOf_2_1 6 rfl rfl)
theorem dX1_quartersOf_2_33 : decode cX1_quartersOf_2 33 = .ok (.ldc 61, 2) := dk_18 61 (dk_at dksX1_quartersOf_2_1 9 rfl rfl)
theorem dX1_quartersOf_2_35 : decode cX1_quartersOf_2 35 = .ok (.ireturn, 1) := dk_172 (dk_at dksX1_quartersOf_2_1 11 rfl rfl)
theorem dX1_quartersOf_2_36 : decode cX1_quartersOf_2 36 = .ok (.ldc 252, 2) := dk_18 252 (dk_at dksX1_quartersOf_2_1 12 rfl rfl)
theorem dX1_quartersOf_2_38 : decode cX1_quartersOf_2 38 = .ok (.iload_n 1, 1) := dk_27 (dk_at dksX1_quartersOf_2_1 14 rfl rfl)
theorem dX1_quartersOf_2_39 : decode cX1_quartersOf_2 39 = .ok (.ldc 253, 2) := dk_18 253 (dk_at dksX1_quartersOf_2_1 15 rfl rfl)
theorem dX1_quartersOf_2_41 : decode cX1_quartersOf_2 41 = .ok (.iand, 1) := dk_126 (dk_at dksX1_quartersOf_2_1 17 rfl rfl)
theorem dX1_quartersOf_2_42 : decode cX1_quartersOf_2 42 = .ok (.ior, 1) := dk_128 (dk_at dksX1_quartersOf_2_1 18 rfl rfl)
theorem dX1_quartersOf_2_43 : decode cX1_quartersOf_2 43 = .ok (.istore_n 3, 1) := dk_62 (dk_at dksX1_quartersOf_2_1 19 rfl rfl)
theorem dX1_quartersOf_2_44 : decode cX1_quartersOf_2 44 = .ok (.iload_n 3, 1) := dk_29 (dk_at dksX1_quartersOf_2_1 20 rfl rfl)
theorem dX1_quartersOf_2_45 : decode cX1_quartersOf_2 45 = .ok (.iload_n 2, 1) := dk_28 (dk_at dksX1_quartersOf_2_1 21 rfl rfl)
theorem dX1_quartersOf_2_46 : decode cX1_quartersOf_2 46 = .ok (.ishr, 1) := dk_122 (dk_at dksX1_quartersOf_2_1 22 rfl rfl)
theorem dX1_quartersOf_2_47 : decode cX1_quartersOf_2 47 = .ok (.istore 4, 2) := dk_54 4 (dk_at dksX1_quartersOf_2_2 0 rfl rfl)
theorem dX1_quartersOf_2_49 : decode cX1_quartersOf_2 49 = .ok (.iload 4, 2) := dk_21 4 (dk_at dksX1_quartersOf_2_2 2 rfl rfl)
theorem dX1_quartersOf_2_51 : decode cX1_quartersOf_2 51 = .ok (.iload_n 2, 1) := dk_28 (dk_at dksX1_quartersOf_2_2 4 rfl rfl)
theorem dX1_quartersOf_2_52 : decode cX1_quartersOf_2 52 = .ok (.ishl, 1) := dk_120 (dk_at dksX1_quartersOf_2_2 5 rfl rfl)
theorem dX1_quartersOf_2_53 : decode cX1_quartersOf_2 53 = .ok (.iload_n 3, 1) := dk_29 (dk_at dksX1_quartersOf_2_2 6 rfl rfl)
theorem dX1_quartersOf_2_54 : decode cX1_quartersOf_2 54 = .ok (.if_icmp .ne 10, 3) := dk_160 0 10 (dk_at dksX1_quartersOf_2_2 7 rfl rfl)
theorem dX1_quartersOf_2_57 : decode cX1_quartersOf_2 57 = .ok (.iload 4, 2) := dk_21 4 (dk_at dksX1_quartersOf_2_2 10 rfl rfl)
theorem dX1_quartersOf_2_59 : decode cX1_quartersOf_2 59 = .ok (.ldc 254, 2) := dk_18 254 (dk_at dksX1_quartersOf_2_2 12 rfl rfl)
theorem dX1_quartersOf_2_61 : decode cX1_quartersOf_2 61 = .ok (.if_icmp .le 6, 3) := dk_164 0 6 (dk_at dksX1_quartersOf_2_2 14 rfl rfl)
theorem dX1_quartersOf_2_64 : decode cX1_quartersOf_2 64 = .ok (.ldc 61, 2) := dk_18 61 (dk_at dksX1_quartersOf_2_2 17 rfl rfl)
theorem dX1_quartersOf_2_66 : decode cX1_quartersOf_2 66 = .ok (.ireturn, 1) := dk_172 (dk_at dksX1_quartersOf_2_2 19 rfl rfl)
theorem dX1_quartersOf_2_67 : decode cX1_quartersOf_2 67 = .ok (.fload_n 0, 1) := dk_34 (dk_at dksX1_quartersOf_2_2 20 rfl rfl)
theorem dX1_quartersOf_2_68 : decode cX1_quartersOf_2 68 = .ok (.invokestatic 250, 3) := dk_184 0 250 (dk_at dksX1_quartersOf_2_2 21 rfl rfl)
theorem dX1_quartersOf_2_71 : decode cX1_quartersOf_2 71 = .ok (.ifCond .ge 9, 3) := dk_156 0 9 (dk_at dksX1_quartersOf_2_3 0 rfl rfl)
theorem dX1_quartersOf_2_74 : decode cX1_quartersOf_2 74 = .ok (.iload 4, 2) := dk_21 4 (dk_at dksX1_quartersOf_2_3 3 rfl rfl)
theorem dX1_quartersOf_2_76 : decode cX1_quartersOf_2 76 = .ok (.ineg, 1) := dk_116 (dk_at dksX1_quartersOf_2_3 5 rfl rfl)
theorem dX1_quartersOf_2_77 : decode cX1_quartersOf_2 77 = .ok (.goto 5, 3) := dk_167 0 5 (dk_at dksX1_quartersOf_2_3 6 rfl rfl)
theorem dX1_quartersOf_2_80 : decode cX1_quartersOf_2 80 = .ok (.iload 4, 2) := dk_21 4 (dk_at dksX1_quartersOf_2_3 9 rfl rfl)
theorem dX1_quartersOf_2_82 : decode cX1_quartersOf_2 82 = .ok (.ireturn, 1) := dk_172 (dk_at dksX1_quartersOf_2_3 11 rfl rfl)
abbrev cX1_narrowBelow : ByteArray := prog_1_method_65_code
def yX1_narrowBelow : MethodName := ⟨RX1, "narrowBelow", "(IIZ)Z"⟩
def dkwX1_narrowBelow_2 : List UInt8 := [4, 167, 0, 4, 3, 172]
abbrev dktX1_narrowBelow_2 : List UInt8 := dkwX1_narrowBelow_2 ++ []
def dkwX1_narrowBelow_1 : List UInt8 := [23, 4, 23, 5, 150, 157, 0, 7, 4, 167, 0, 20, 3, 167, 0, 16, 23, 4, 23, 5, 150, 156, 0, 7]
abbrev dktX1_narrowBelow_1 : List UInt8 := dkwX1_narrowBelow_1 ++ dktX1_narrowBelow_2
def dkwX1_narrowBelow_0 : List UInt8 := [42, 27, 182, 1, 31, 182, 0, 211, 56, 4, 42, 28, 182, 1, 31, 182, 0, 211, 56, 5, 29, 153, 0, 19]
abbrev dktX1_narrowBelow_0 : List UInt8 := dkwX1_narrowBelow_0 ++ dktX1_narrowBelow_1
theorem dksX1_narrowBelow_0 : cX1_narrowBelow.data.toList.drop 0 = dktX1_narrowBelow_0 := by decide +kernel
theorem dksX1_narrowBelow_1 : cX1_narrowBelow.data.toList.drop 24 = dktX1_narrowBelow_1 := dk_seg dksX1_narrowBelow_0 24 rfl rfl
theorem dksX1_narrowBelow_2 : cX1_narrowBelow.data.toList.drop 48 = dktX1_narrowBelow_2 := dk_seg dksX1_narrowBelow_1 24 rfl rfl
theorem dX1_narrowBelow_0 : decode cX1_narrowBelow 0 = .ok (.aload_n 0, 1) := dk_42 (dk_at dksX1_narrowBelow_0 0 rfl rfl)
theorem dX1_narrowBelow_1 : decode cX1_narrowBelow 1 = .ok (.iload_n 1, 1) := dk_27 (dk_at dksX1_narrowBelow_0 1 rfl rfl)
theorem dX1_narrowBelow_2 : decode cX1_narrowBelow 2 = .ok (.invokevirtual 287, 3) := dk_182 1 31 (dk_at dksX1_narrowBelow_0 2 rfl rfl)
theorem dX1_narrowBelow_5 : decode cX1_narrowBelow 5 = .ok (.invokevirtual 211, 3) := dk_182 0 211 (dk_at dksX1_narrowBelow_0 5 rfl rfl)
theorem dX1_narrowBelow_8 : decode cX1_narrowBelow 8 = .ok (.fstore 4, 2) := dk_56 4 (dk_at dksX1_narrowBelow_0 8 rfl rfl)
theorem dX1_narrowBelow_10 : decode cX1_narrowBelow 10 = .ok (.aload_n 0, 1) := dk_42 (dk_at dksX1_narrowBelow_0 10 rfl rfl)
theorem dX1_narrowBelow_11 : decode cX1_narrowBelow 11 = .ok (.iload_n 2, 1) := dk_28 (dk_at dksX1_narrowBelow_0 11 rfl rfl)
theorem dX1_narrowBelow_12 : decode cX1_narrowBelow 12 = .ok (.invokevirtual 287, 3) := dk_182 1 31 (dk_at dksX1_narrowBelow_0 12 rfl rfl)
theorem dX1_narrowBelow_15 : decode cX1_narrowBelow 15 = .ok (.invokevirtual 211, 3) := dk_182 0 211 (dk_at dksX1_narrowBelow_0 15 rfl rfl)
theorem dX1_narrowBelow_18 : decode cX1_narrowBelow 18 = .ok (.fstore 5, 2) := dk_56 5 (dk_at dksX1_narrowBelow_0 18 rfl rfl)
theorem dX1_narrowBelow_20 : decode cX1_narrowBelow 20 = .ok (.iload_n 3, 1) := dk_29 (dk_at dksX1_narrowBelow_0 20 rfl rfl)
theorem dX1_narrowBelow_21 : decode cX1_narrowBelow 21 = .ok (.ifCond .eq 19, 3) := dk_153 0 19 (dk_at dksX1_narrowBelow_0 21 rfl rfl)
theorem dX1_narrowBelow_24 : decode cX1_narrowBelow 24 = .ok (.fload 4, 2) := dk_23 4 (dk_at dksX1_narrowBelow_1 0 rfl rfl)
theorem dX1_narrowBelow_26 : decode cX1_narrowBelow 26 = .ok (.fload 5, 2) := dk_23 5 (dk_at dksX1_narrowBelow_1 2 rfl rfl)
theorem dX1_narrowBelow_28 : decode cX1_narrowBelow 28 = .ok (.fcmp .g, 1) := dk_150 (dk_at dksX1_narrowBelow_1 4 rfl rfl)
theorem dX1_narrowBelow_29 : decode cX1_narrowBelow 29 = .ok (.ifCond .gt 7, 3) := dk_157 0 7 (dk_at dksX1_narrowBelow_1 5 rfl rfl)
theorem dX1_narrowBelow_32 : decode cX1_narrowBelow 32 = .ok (.iconst 1, 1) := dk_4 (dk_at dksX1_narrowBelow_1 8 rfl rfl)
theorem dX1_narrowBelow_33 : decode cX1_narrowBelow 33 = .ok (.goto 20, 3) := dk_167 0 20 (dk_at dksX1_narrowBelow_1 9 rfl rfl)
theorem dX1_narrowBelow_36 : decode cX1_narrowBelow 36 = .ok (.iconst 0, 1) := dk_3 (dk_at dksX1_narrowBelow_1 12 rfl rfl)
theorem dX1_narrowBelow_37 : decode cX1_narrowBelow 37 = .ok (.goto 16, 3) := dk_167 0 16 (dk_at dksX1_narrowBelow_1 13 rfl rfl)
theorem dX1_narrowBelow_40 : decode cX1_narrowBelow 40 = .ok (.fload 4, 2) := dk_23 4 (dk_at dksX1_narrowBelow_1 16 rfl rfl)
theorem dX1_narrowBelow_42 : decode cX1_narrowBelow 42 = .ok (.fload 5, 2) := dk_23 5 (dk_at dksX1_narrowBelow_1 18 rfl rfl)
theorem dX1_narrowBelow_44 : decode cX1_narrowBelow 44 = .ok (.fcmp .g, 1) := dk_150 (dk_at dksX1_narrowBelow_1 20 rfl rfl)
theorem dX1_narrowBelow_45 : decode cX1_narrowBelow 45 = .ok (.ifCond .ge 7, 3) := dk_156 0 7 (dk_at dksX1_narrowBelow_1 21 rfl rfl)
theorem dX1_narrowBelow_48 : decode cX1_narrowBelow 48 = .ok (.iconst 1, 1) := dk_4 (dk_at dksX1_narrowBelow_2 0 rfl rfl)
theorem dX1_narrowBelow_49 : decode cX1_narrowBelow 49 = .ok (.goto 4, 3) := dk_167 0 4 (dk_at dksX1_narrowBelow_2 1 rfl rfl)
theorem dX1_narrowBelow_52 : decode cX1_narrowBelow 52 = .ok (.iconst 0, 1) := dk_3 (dk_at dksX1_narrowBelow_2 4 rfl rfl)
theorem dX1_narrowBelow_53 : decode cX1_narrowBelow 53 = .ok (.ireturn, 1) := dk_172 (dk_at dksX1_narrowBelow_2 5 rfl rfl)
abbrev cX1_isWideThree : ByteArray := prog_1_method_39_code
def yX1_isWideThree : MethodName := ⟨RX1, "isWideThree", "(III)Z"⟩
def dkwX1_isWideThree_1 : List UInt8 := [182, 0, 232, 156, 0, 7, 4, 167, 0, 4, 3, 172]
abbrev dktX1_isWideThree_1 : List UInt8 := dkwX1_isWideThree_1 ++ []
def dkwX1_isWideThree_0 : List UInt8 := [42, 27, 28, 3, 182, 0, 232, 156, 0, 23, 42, 28, 29, 3, 182, 0, 232, 156, 0, 13, 42, 27, 29, 3]
abbrev dktX1_isWideThree_0 : List UInt8 := dkwX1_isWideThree_0 ++ dktX1_isWideThree_1
theorem dksX1_isWideThree_0 : cX1_isWideThree.data.toList.drop 0 = dktX1_isWideThree_0 := by decide +kernel
theorem dksX1_isWideThree_1 : cX1_isWideThree.data.toList.drop 24 = dktX1_isWideThree_1 := dk_seg dksX1_isWideThree_0 24 rfl rfl
theorem dX1_isWideThree_0 : decode cX1_isWideThree 0 = .ok (.aload_n 0, 1) := dk_42 (dk_at dksX1_isWideThree_0 0 rfl rfl)
theorem dX1_isWideThree_1 : decode cX1_isWideThree 1 = .ok (.iload_n 1, 1) := dk_27 (dk_at dksX1_isWideThree_0 1 rfl rfl)
theorem dX1_isWideThree_2 : decode cX1_isWideThree 2 = .ok (.iload_n 2, 1) := dk_28 (dk_at dksX1_isWideThree_0 2 rfl rfl)
theorem dX1_isWideThree_3 : decode cX1_isWideThree 3 = .ok (.iconst 0, 1) := dk_3 (dk_at dksX1_isWideThree_0 3 rfl rfl)
theorem dX1_isWideThree_4 : decode cX1_isWideThree 4 = .ok (.invokevirtual 232, 3) := dk_182 0 232 (dk_at dksX1_isWideThree_0 4 rfl rfl)
theorem dX1_isWideThree_7 : decode cX1_isWideThree 7 = .ok (.ifCond .ge 23, 3) := dk_156 0 23 (dk_at dksX1_isWideThree_0 7 rfl rfl)
theorem dX1_isWideThree_10 : decode cX1_isWideThree 10 = .ok (.aload_n 0, 1) := dk_42 (dk_at dksX1_isWideThree_0 10 rfl rfl)
theorem dX1_isWideThree_11 : decode cX1_isWideThree 11 = .ok (.iload_n 2, 1) := dk_28 (dk_at dksX1_isWideThree_0 11 rfl rfl)
theorem dX1_isWideThree_12 : decode cX1_isWideThree 12 = .ok (.iload_n 3, 1) := dk_29 (dk_at dksX1_isWideThree_0 12 rfl rfl)
theorem dX1_isWideThree_13 : decode cX1_isWideThree 13 = .ok (.iconst 0, 1) := dk_3 (dk_at dksX1_isWideThree_0 13 rfl rfl)
theorem dX1_isWideThree_14 : decode cX1_isWideThree 14 = .ok (.invokevirtual 232, 3) := dk_182 0 232 (dk_at dksX1_isWideThree_0 14 rfl rfl)
theorem dX1_isWideThree_17 : decode cX1_isWideThree 17 = .ok (.ifCond .ge 13, 3) := dk_156 0 13 (dk_at dksX1_isWideThree_0 17 rfl rfl)
theorem dX1_isWideThree_20 : decode cX1_isWideThree 20 = .ok (.aload_n 0, 1) := dk_42 (dk_at dksX1_isWideThree_0 20 rfl rfl)
theorem dX1_isWideThree_21 : decode cX1_isWideThree 21 = .ok (.iload_n 1, 1) := dk_27 (dk_at dksX1_isWideThree_0 21 rfl rfl)
theorem dX1_isWideThree_22 : decode cX1_isWideThree 22 = .ok (.iload_n 3, 1) := dk_29 (dk_at dksX1_isWideThree_0 22 rfl rfl)
theorem dX1_isWideThree_23 : decode cX1_isWideThree 23 = .ok (.iconst 0, 1) := dk_3 (dk_at dksX1_isWideThree_0 23 rfl rfl)
theorem dX1_isWideThree_24 : decode cX1_isWideThree 24 = .ok (.invokevirtual 232, 3) := dk_182 0 232 (dk_at dksX1_isWideThree_1 0 rfl rfl)
theorem dX1_isWideThree_27 : decode cX1_isWideThree 27 = .ok (.ifCond .ge 7, 3) := dk_156 0 7 (dk_at dksX1_isWideThree_1 3 rfl rfl)
theorem dX1_isWideThree_30 : decode cX1_isWideThree 30 = .ok (.iconst 1, 1) := dk_4 (dk_at dksX1_isWideThree_1 6 rfl rfl)
theorem dX1_isWideThree_31 : decode cX1_isWideThree 31 = .ok (.goto 4, 3) := dk_167 0 4 (dk_at dksX1_isWideThree_1 7 rfl rfl)
theorem dX1_isWideThree_34 : decode cX1_isWideThree 34 = .ok (.iconst 0, 1) := dk_3 (dk_at dksX1_isWideThree_1 10 rfl rfl)
theorem dX1_isWideThree_35 : decode cX1_isWideThree 35 = .ok (.ireturn, 1) := dk_172 (dk_at dksX1_isWideThree_1 11 rfl rfl)
abbrev cX1_isNarrowThree : ByteArray := prog_1_method_72_code
def yX1_isNarrowThree : MethodName := ⟨RX1, "isNarrowThree", "(III)Z"⟩
def dkwX1_isNarrowThree_1 : List UInt8 := [182, 1, 65, 156, 0, 7, 4, 167, 0, 4, 3, 172]
abbrev dktX1_isNarrowThree_1 : List UInt8 := dkwX1_isNarrowThree_1 ++ []
def dkwX1_isNarrowThree_0 : List UInt8 := [42, 27, 28, 3, 182, 1, 65, 156, 0, 23, 42, 28, 29, 3, 182, 1, 65, 156, 0, 13, 42, 27, 29, 3]
abbrev dktX1_isNarrowThree_0 : List UInt8 := dkwX1_isNarrowThree_0 ++ dktX1_isNarrowThree_1
theorem dksX1_isNarrowThree_0 : cX1_isNarrowThree.data.toList.drop 0 = dktX1_isNarrowThree_0 := by decide +kernel
theorem dksX1_isNarrowThree_1 : cX1_isNarrowThree.data.toList.drop 24 = dktX1_isNarrowThree_1 := dk_seg dksX1_isNarrowThree_0 24 rfl rfl
theorem dX1_isNarrowThree_0 : decode cX1_isNarrowThree 0 = .ok (.aload_n 0, 1) := dk_42 (dk_at dksX1_isNarrowThree_0 0 rfl rfl)
theorem dX1_isNarrowThree_1 : decode cX1_isNarrowThree 1 = .ok (.iload_n 1, 1) := dk_27 (dk_at dksX1_isNarrowThree_0 1 rfl rfl)
theorem dX1_isNarrowThree_2 : decode cX1_isNarrowThree 2 = .ok (.iload_n 2, 1) := dk_28 (dk_at dksX1_isNarrowThree_0 2 rfl rfl)
theorem dX1_isNarrowThree_3 : decode cX1_isNarrowThree 3 = .ok (.iconst 0, 1) := dk_3 (dk_at dksX1_isNarrowThree_0 3 rfl rfl)
theorem dX1_isNarrowThree_4 : decode cX1_isNarrowThree 4 = .ok (.invokevirtual 321, 3) := dk_182 1 65 (dk_at dksX1_isNarrowThree_0 4 rfl rfl)
theorem dX1_isNarrowThree_7 : decode cX1_isNarrowThree 7 = .ok (.ifCond .ge 23, 3) := dk_156 0 23 (dk_at dksX1_isNarrowThree_0 7 rfl rfl)
theorem dX1_isNarrowThree_10 : decode cX1_isNarrowThree 10 = .ok (.aload_n 0, 1) := dk_42 (dk_at dksX1_isNarrowThree_0 10 rfl rfl)
theorem dX1_isNarrowThree_11 : decode cX1_isNarrowThree 11 = .ok (.iload_n 2, 1) := dk_28 (dk_at dksX1_isNarrowThree_0 11 rfl rfl)
theorem dX1_isNarrowThree_12 : decode cX1_isNarrowThree 12 = .ok (.iload_n 3, 1) := dk_29 (dk_at dksX1_isNarrowThree_0 12 rfl rfl)
theorem dX1_isNarrowThree_13 : decode cX1_isNarrowThree 13 = .ok (.iconst 0, 1) := dk_3 (dk_at dksX1_isNarrowThree_0 13 rfl rfl)
theorem dX1_isNarrowThree_14 : decode cX1_isNarrowThree 14 = .ok (.invokevirtual 321, 3) := dk_182 1 65 (dk_at dksX1_isNarrowThree_0 14 rfl rfl)
theorem dX1_isNarrowThree_17 : decode cX1_isNarrowThree 17 = .ok (.ifCond .ge 13, 3) := dk_156 0 13 (dk_at dksX1_isNarrowThree_0 17 rfl rfl)
theorem dX1_isNarrowThree_20 : decode cX1_isNarrowThree 20 = .ok (.aload_n 0, 1) := dk_42 (dk_at dksX1_isNarrowThree_0 20 rfl rfl)
theorem dX1_isNarrowThree_21 : decode cX1_isNarrowThree 21 = .ok (.iload_n 1, 1) := dk_27 (dk_at dksX1_isNarrowThree_0 21 rfl rfl)
theorem dX1_isNarrowThree_22 : decode cX1_isNarrowThree 22 = .ok (.iload_n 3, 1) := dk_29 (dk_at dksX1_isNarrowThree_0 22 rfl rfl)
theorem dX1_isNarrowThree_23 : decode cX1_isNarrowThree 23 = .ok (.iconst 0, 1) := dk_3 (dk_at dksX1_isNarrowThree_0 23 rfl rfl)
theorem dX1_isNarrowThree_24 : decode cX1_isNarrowThree 24 = .ok (.invokevirtual 321, 3) := dk_182 1 65 (dk_at dksX1_isNarrowThree_1 0 rfl rfl)
theorem dX1_isNarrowThree_27 : decode cX1_isNarrowThree 27 = .ok (.ifCond .ge 7, 3) := dk_156 0 7 (dk_at dksX1_isNarrowThree_1 3 rfl rfl)
theorem dX1_isNarrowThree_30 : decode cX1_isNarrowThree 30 = .ok (.iconst 1, 1) := dk_4 (dk_at dksX1_isNarrowThree_1 6 rfl rfl)
theorem dX1_isNarrowThree_31 : decode cX1_isNarrowThree 31 = .ok (.goto 4, 3) := dk_167 0 4 (dk_at dksX1_isNarrowThree_1 7 rfl rfl)
theorem dX1_isNarrowThree_34 : decode cX1_isNarrowThree 34 = .ok (.iconst 0, 1) := dk_3 (dk_at dksX1_isNarrowThree_1 10 rfl rfl)
theorem dX1_isNarrowThree_35 : decode cX1_isNarrowThree 35 = .ok (.ireturn, 1) := dk_172 (dk_at dksX1_isNarrowThree_1 11 rfl rfl)
abbrev cX1_digest : ByteArray := prog_1_method_77_code
def yX1_digest : MethodName := ⟨RX1, "digest", "()J"⟩
def dkwX1_digest_12 : List UInt8 := [132, 3, 1, 167, 255, 237, 31, 42, 182, 1, 129, 184, 0, 91, 133, 184, 1, 96, 173]
abbrev dktX1_digest_12 : List UInt8 := dkwX1_digest_12 ++ []
def dkwX1_digest_11 : List UInt8 := [132, 3, 1, 167, 255, 201, 3, 62, 29, 7, 162, 0, 20, 31, 42, 29, 182, 1, 126, 133, 184, 1, 96, 64]
abbrev dktX1_digest_11 : List UInt8 := dkwX1_digest_11 ++ dktX1_digest_12
def dkwX1_digest_10 : List UInt8 := [184, 1, 96, 42, 29, 21, 4, 182, 1, 68, 184, 0, 91, 133, 184, 1, 96, 64, 132, 4, 1, 167, 255, 218]
abbrev dktX1_digest_10 : List UInt8 := dkwX1_digest_10 ++ dktX1_digest_11
def dkwX1_digest_9 : List UInt8 := [29, 4, 96, 54, 4, 21, 4, 16, 8, 162, 0, 37, 31, 42, 29, 21, 4, 3, 182, 1, 65, 133]
abbrev dktX1_digest_9 : List UInt8 := dkwX1_digest_9 ++ dktX1_digest_10
def dkwX1_digest_8 : List UInt8 := [184, 1, 96, 64, 132, 4, 1, 167, 255, 218, 132, 3, 1, 167, 255, 201, 3, 62, 29, 16, 8, 162, 0, 55]
abbrev dktX1_digest_8 : List UInt8 := dkwX1_digest_8 ++ dktX1_digest_9
def dkwX1_digest_7 : List UInt8 := [42, 29, 21, 4, 3, 182, 0, 232, 133, 184, 1, 96, 42, 29, 21, 4, 182, 0, 236, 184, 0, 91, 133]
abbrev dktX1_digest_7 : List UInt8 := dkwX1_digest_7 ++ dktX1_digest_8
def dkwX1_digest_6 : List UInt8 := [167, 255, 195, 3, 62, 29, 16, 8, 162, 0, 55, 29, 4, 96, 54, 4, 21, 4, 16, 8, 162, 0, 37, 31]
abbrev dktX1_digest_6 : List UInt8 := dkwX1_digest_6 ++ dktX1_digest_7
def dkwX1_digest_5 : List UInt8 := [42, 29, 3, 182, 1, 123, 133, 184, 1, 96, 42, 29, 4, 182, 1, 123, 133, 184, 1, 96, 64, 132, 3, 1]
abbrev dktX1_digest_5 : List UInt8 := dkwX1_digest_5 ++ dktX1_digest_6
def dkwX1_digest_4 : List UInt8 := [184, 1, 96, 42, 29, 3, 182, 1, 117, 133, 184, 1, 96, 64, 31, 42, 29, 182, 1, 120, 133, 184, 1, 96]
abbrev dktX1_digest_4 : List UInt8 := dkwX1_digest_4 ++ dktX1_digest_5
def dkwX1_digest_3 : List UInt8 := [64, 132, 3, 1, 167, 255, 186, 3, 62, 29, 16, 8, 162, 0, 61, 31, 42, 29, 182, 1, 114, 133]
abbrev dktX1_digest_3 : List UInt8 := dkwX1_digest_3 ++ dktX1_digest_4
def dkwX1_digest_2 : List UInt8 := [133, 184, 1, 96, 42, 29, 3, 182, 1, 110, 133, 184, 1, 96, 42, 29, 4, 182, 1, 110, 133, 184, 1, 96]
abbrev dktX1_digest_2 : List UInt8 := dkwX1_digest_2 ++ dktX1_digest_3
def dkwX1_digest_1 : List UInt8 := [182, 1, 100, 133, 184, 1, 96, 42, 29, 3, 182, 1, 103, 133, 184, 1, 96, 64, 31, 42, 29, 182, 1, 107]
abbrev dktX1_digest_1 : List UInt8 := dkwX1_digest_1 ++ dktX1_digest_2
def dkwX1_digest_0 : List UInt8 := [20, 1, 91, 64, 3, 62, 29, 16, 8, 162, 0, 70, 31, 42, 29, 182, 1, 93, 133, 184, 1, 96, 42, 29]
abbrev dktX1_digest_0 : List UInt8 := dkwX1_digest_0 ++ dktX1_digest_1
theorem dksX1_digest_0 : cX1_digest.data.toList.drop 0 = dktX1_digest_0 := by decide +kernel
theorem dksX1_digest_1 : cX1_digest.data.toList.drop 24 = dktX1_digest_1 := dk_seg dksX1_digest_0 24 rfl rfl
theorem dksX1_digest_2 : cX1_digest.data.toList.drop 48 = dktX1_digest_2 := dk_seg dksX1_digest_1 24 rfl rfl
theorem dksX1_digest_3 : cX1_digest.data.toList.drop 72 = dktX1_digest_3 := dk_seg dksX1_digest_2 24 rfl rfl
theorem dksX1_digest_4 : cX1_digest.data.toList.drop 94 = dktX1_digest_4 := dk_seg dksX1_digest_3 22 rfl rfl
theorem dksX1_digest_5 : cX1_digest.data.toList.drop 118 = dktX1_digest_5 := dk_seg dksX1_digest_4 24 rfl rfl
theorem dksX1_digest_6 : cX1_digest.data.toList.drop 142 = dktX1_digest_6 := dk_seg dksX1_digest_5 24 rfl rfl
theorem dksX1_digest_7 : cX1_digest.data.toList.drop 166 = dktX1_digest_7 := dk_seg dksX1_digest_6 24 rfl rfl
theorem dksX1_digest_8 : cX1_digest.data.toList.drop 189 = dktX1_digest_8 := dk_seg dksX1_digest_7 23 rfl rfl
theorem dksX1_digest_9 : cX1_digest.data.toList.drop 213 = dktX1_digest_9 := dk_seg dksX1_digest_8 24 rfl rfl
theorem dksX1_digest_10 : cX1_digest.data.toList.drop 235 = dktX1_digest_10 := dk_seg dksX1_digest_9 22 rfl rfl
theorem dksX1_digest_11 : cX1_digest.data.toList.drop 259 = dktX1_digest_11 := dk_seg dksX1_digest_10 24 rfl rfl
theorem dksX1_digest_12 : cX1_digest.data.toList.drop 283 = dktX1_digest_12 := dk_seg dksX1_digest_11 24 rfl rfl
theorem dX1_digest_0 : decode cX1_digest 0 = .ok (.ldc2_w 347, 3) := dk_20 1 91 (dk_at dksX1_digest_0 0 rfl rfl)
theorem dX1_digest_3 : decode cX1_digest 3 = .ok (.lstore_n 1, 1) := dk_64 (dk_at dksX1_digest_0 3 rfl rfl)
theorem dX1_digest_4 : decode cX1_digest 4 = .ok (.iconst 0, 1) := dk_3 (dk_at dksX1_digest_0 4 rfl rfl)
theorem dX1_digest_5 : decode cX1_digest 5 = .ok (.istore_n 3, 1) := dk_62 (dk_at dksX1_digest_0 5 rfl rfl)
theorem dX1_digest_6 : decode cX1_digest 6 = .ok (.iload_n 3, 1) := dk_29 (dk_at dksX1_digest_0 6 rfl rfl)
theorem dX1_digest_7 : decode cX1_digest 7 = .ok (.bipush 8, 2) := dk_16 8 (dk_at dksX1_digest_0 7 rfl rfl)
theorem dX1_digest_9 : decode cX1_digest 9 = .ok (.if_icmp .ge 70, 3) := dk_162 0 70 (dk_at dksX1_digest_0 9 rfl rfl)
theorem dX1_digest_12 : decode cX1_digest 12 = .ok (.lload_n 1, 1) := dk_31 (dk_at dksX1_digest_0 12 rfl rfl)
theorem dX1_digest_13 : decode cX1_digest 13 = .ok (.aload_n 0, 1) := dk_42 (dk_at dksX1_digest_0 13 rfl rfl)
theorem dX1_digest_14 : decode cX1_digest 14 = .ok (.iload_n 3, 1) := dk_29 (dk_at dksX1_digest_0 14 rfl rfl)
theorem dX1_digest_15 : decode cX1_digest 15 = .ok (.invokevirtual 349, 3) := dk_182 1 93 (dk_at dksX1_digest_0 15 rfl rfl)
theorem dX1_digest_18 : decode cX1_digest 18 = .ok (.i2l, 1) := dk_133 (dk_at dksX1_digest_0 18 rfl rfl)
theorem dX1_digest_19 : decode cX1_digest 19 = .ok (.invokestatic 352, 3) := dk_184 1 96 (dk_at dksX1_digest_0 19 rfl rfl)
theorem dX1_digest_22 : decode cX1_digest 22 = .ok (.aload_n 0, 1) := dk_42 (dk_at dksX1_digest_0 22 rfl rfl)
theorem dX1_digest_23 : decode cX1_digest 23 = .ok (.iload_n 3, 1) := dk_29 (dk_at dksX1_digest_0 23 rfl rfl)
theorem dX1_digest_24 : decode cX1_digest 24 = .ok (.invokevirtual 356, 3) := dk_182 1 100 (dk_at dksX1_digest_1 0 rfl rfl)
theorem dX1_digest_27 : decode cX1_digest 27 = .ok (.i2l, 1) := dk_133 (dk_at dksX1_digest_1 3 rfl rfl)
theorem dX1_digest_28 : decode cX1_digest 28 = .ok (.invokestatic 352, 3) := dk_184 1 96 (dk_at dksX1_digest_1 4 rfl rfl)
theorem dX1_digest_31 : decode cX1_digest 31 = .ok (.aload_n 0, 1) := dk_42 (dk_at dksX1_digest_1 7 rfl rfl)
theorem dX1_digest_32 : decode cX1_digest 32 = .ok (.iload_n 3, 1) := dk_29 (dk_at dksX1_digest_1 8 rfl rfl)
theorem dX1_digest_33 : decode cX1_digest 33 = .ok (.iconst 0, 1) := dk_3 (dk_at dksX1_digest_1 9 rfl rfl)
theorem dX1_digest_34 : decode cX1_digest 34 = .ok (.invokevirtual 359, 3) := dk_182 1 103 (dk_at dksX1_digest_1 10 rfl rfl)
theorem dX1_digest_37 : decode cX1_digest 37 = .ok (.i2l, 1) := dk_133 (dk_at dksX1_digest_1 13 rfl rfl)
theorem dX1_digest_38 : decode cX1_digest 38 = .ok (.invokestatic 352, 3) := dk_184 1 96 (dk_at dksX1_digest_1 14 rfl rfl)
theorem dX1_digest_41 : decode cX1_digest 41 = .ok (.lstore_n 1, 1) := dk_64 (dk_at dksX1_digest_1 17 rfl rfl)
theorem dX1_digest_42 : decode cX1_digest 42 = .ok (.lload_n 1, 1) := dk_31 (dk_at dksX1_digest_1 18 rfl rfl)
theorem dX1_digest_43 : decode cX1_digest 43 = .ok (.aload_n 0, 1) := dk_42 (dk_at dksX1_digest_1 19 rfl rfl)
theorem dX1_digest_44 : decode cX1_digest 44 = .ok (.iload_n 3, 1) := dk_29 (dk_at dksX1_digest_1 20 rfl rfl)
theorem dX1_digest_45 : decode cX1_digest 45 = .ok (.invokevirtual 363, 3) := dk_182 1 107 (dk_at dksX1_digest_1 21 rfl rfl)
theorem dX1_digest_48 : decode cX1_digest 48 = .ok (.i2l, 1) := dk_133 (dk_at dksX1_digest_2 0 rfl rfl)
theorem dX1_digest_49 : decode cX1_digest 49 = .ok (.invokestatic 352, 3) := dk_184 1 96 (dk_at dksX1_digest_2 1 rfl rfl)
theorem dX1_digest_52 : decode cX1_digest 52 = .ok (.aload_n 0, 1) := dk_42 (dk_at dksX1_digest_2 4 rfl rfl)
theorem dX1_digest_53 : decode cX1_digest 53 = .ok (.iload_n 3, 1) := dk_29 (dk_at dksX1_digest_2 5 rfl rfl)
theorem dX1_digest_54 : decode cX1_digest 54 = .ok (.iconst 0, 1) := dk_3 (dk_at dksX1_digest_2 6 rfl rfl)
theorem dX1_digest_55 : decode cX1_digest 55 = .ok (.invokevirtual 366, 3) := dk_182 1 110 (dk_at dksX1_digest_2 7 rfl rfl)
theorem dX1_digest_58 : decode cX1_digest 58 = .ok (.i2l, 1) := dk_133 (dk_at dksX1_digest_2 10 rfl rfl)
theorem dX1_digest_59 : decode cX1_digest 59 = .ok (.invokestatic 352, 3) := dk_184 1 96 (dk_at dksX1_digest_2 11 rfl rfl)
theorem dX1_digest_62 : decode cX1_digest 62 = .ok (.aload_n 0, 1) := dk_42 (dk_at dksX1_digest_2 14 rfl rfl)
theorem dX1_digest_63 : decode cX1_digest 63 = .ok (.iload_n 3, 1) := dk_29 (dk_at dksX1_digest_2 15 rfl rfl)
theorem dX1_digest_64 : decode cX1_digest 64 = .ok (.iconst 1, 1) := dk_4 (dk_at dksX1_digest_2 16 rfl rfl)
theorem dX1_digest_65 : decode cX1_digest 65 = .ok (.invokevirtual 366, 3) := dk_182 1 110 (dk_at dksX1_digest_2 17 rfl rfl)
theorem dX1_digest_68 : decode cX1_digest 68 = .ok (.i2l, 1) := dk_133 (dk_at dksX1_digest_2 20 rfl rfl)
theorem dX1_digest_69 : decode cX1_digest 69 = .ok (.invokestatic 352, 3) := dk_184 1 96 (dk_at dksX1_digest_2 21 rfl rfl)
theorem dX1_digest_72 : decode cX1_digest 72 = .ok (.lstore_n 1, 1) := dk_64 (dk_at dksX1_digest_3 0 rfl rfl)
theorem dX1_digest_73 : decode cX1_digest 73 = .ok (.iinc 3 1, 3) := dk_132 3 1 (dk_at dksX1_digest_3 1 rfl rfl)
theorem dX1_digest_76 : decode cX1_digest 76 = .ok (.goto (-70), 3) := dk_167 255 186 (dk_at dksX1_digest_3 4 rfl rfl)
theorem dX1_digest_79 : decode cX1_digest 79 = .ok (.iconst 0, 1) := dk_3 (dk_at dksX1_digest_3 7 rfl rfl)
theorem dX1_digest_80 : decode cX1_digest 80 = .ok (.istore_n 3, 1) := dk_62 (dk_at dksX1_digest_3 8 rfl rfl)
theorem dX1_digest_81 : decode cX1_digest 81 = .ok (.iload_n 3, 1) := dk_29 (dk_at dksX1_digest_3 9 rfl rfl)
theorem dX1_digest_82 : decode cX1_digest 82 = .ok (.bipush 8, 2) := dk_16 8 (dk_at dksX1_digest_3 10 rfl rfl)
theorem dX1_digest_84 : decode cX1_digest 84 = .ok (.if_icmp .ge 61, 3) := dk_162 0 61 (dk_at dksX1_digest_3 12 rfl rfl)
theorem dX1_digest_87 : decode cX1_digest 87 = .ok (.lload_n 1, 1) := dk_31 (dk_at dksX1_digest_3 15 rfl rfl)
theorem dX1_digest_88 : decode cX1_digest 88 = .ok (.aload_n 0, 1) := dk_42 (dk_at dksX1_digest_3 16 rfl rfl)
theorem dX1_digest_89 : decode cX1_digest 89 = .ok (.iload_n 3, 1) := dk_29 (dk_at dksX1_digest_3 17 rfl rfl)
theorem dX1_digest_90 : decode cX1_digest 90 = .ok (.invokevirtual 370, 3) := dk_182 1 114 (dk_at dksX1_digest_3 18 rfl rfl)
theorem dX1_digest_93 : decode cX1_digest 93 = .ok (.i2l, 1) := dk_133 (dk_at dksX1_digest_3 21 rfl rfl)
theorem dX1_digest_94 : decode cX1_digest 94 = .ok (.invokestatic 352, 3) := dk_184 1 96 (dk_at dksX1_digest_4 0 rfl rfl)
theorem dX1_digest_97 : decode cX1_digest 97 = .ok (.aload_n 0, 1) := dk_42 (dk_at dksX1_digest_4 3 rfl rfl)
theorem dX1_digest_98 : decode cX1_digest 98 = .ok (.iload_n 3, 1) := dk_29 (dk_at dksX1_digest_4 4 rfl rfl)
theorem dX1_digest_99 : decode cX1_digest 99 = .ok (.iconst 0, 1) := dk_3 (dk_at dksX1_digest_4 5 rfl rfl)
theorem dX1_digest_100 : decode cX1_digest 100 = .ok (.invokevirtual 373, 3) := dk_182 1 117 (dk_at dksX1_digest_4 6 rfl rfl)
theorem dX1_digest_103 : decode cX1_digest 103 = .ok (.i2l, 1) := dk_133 (dk_at dksX1_digest_4 9 rfl rfl)
theorem dX1_digest_104 : decode cX1_digest 104 = .ok (.invokestatic 352, 3) := dk_184 1 96 (dk_at dksX1_digest_4 10 rfl rfl)
theorem dX1_digest_107 : decode cX1_digest 107 = .ok (.lstore_n 1, 1) := dk_64 (dk_at dksX1_digest_4 13 rfl rfl)
theorem dX1_digest_108 : decode cX1_digest 108 = .ok (.lload_n 1, 1) := dk_31 (dk_at dksX1_digest_4 14 rfl rfl)
theorem dX1_digest_109 : decode cX1_digest 109 = .ok (.aload_n 0, 1) := dk_42 (dk_at dksX1_digest_4 15 rfl rfl)
theorem dX1_digest_110 : decode cX1_digest 110 = .ok (.iload_n 3, 1) := dk_29 (dk_at dksX1_digest_4 16 rfl rfl)
theorem dX1_digest_111 : decode cX1_digest 111 = .ok (.invokevirtual 376, 3) := dk_182 1 120 (dk_at dksX1_digest_4 17 rfl rfl)
theorem dX1_digest_114 : decode cX1_digest 114 = .ok (.i2l, 1) := dk_133 (dk_at dksX1_digest_4 20 rfl rfl)
theorem dX1_digest_115 : decode cX1_digest 115 = .ok (.invokestatic 352, 3) := dk_184 1 96 (dk_at dksX1_digest_4 21 rfl rfl)
theorem dX1_digest_118 : decode cX1_digest 118 = .ok (.aload_n 0, 1) := dk_42 (dk_at dksX1_digest_5 0 rfl rfl)
theorem dX1_digest_119 : decode cX1_digest 119 = .ok (.iload_n 3, 1) := dk_29 (dk_at dksX1_digest_5 1 rfl rfl)
theorem dX1_digest_120 : decode cX1_digest 120 = .ok (.iconst 0, 1) := dk_3 (dk_at dksX1_digest_5 2 rfl rfl)
theorem dX1_digest_121 : decode cX1_digest 121 = .ok (.invokevirtual 379, 3) := dk_182 1 123 (dk_at dksX1_digest_5 3 rfl rfl)
theorem dX1_digest_124 : decode cX1_digest 124 = .ok (.i2l, 1) := dk_133 (dk_at dksX1_digest_5 6 rfl rfl)
theorem dX1_digest_125 : decode cX1_digest 125 = .ok (.invokestatic 352, 3) := dk_184 1 96 (dk_at dksX1_digest_5 7 rfl rfl)
theorem dX1_digest_128 : decode cX1_digest 128 = .ok (.aload_n 0, 1) := dk_42 (dk_at dksX1_digest_5 10 rfl rfl)
theorem dX1_digest_129 : decode cX1_digest 129 = .ok (.iload_n 3, 1) := dk_29 (dk_at dksX1_digest_5 11 rfl rfl)
theorem dX1_digest_130 : decode cX1_digest 130 = .ok (.iconst 1, 1) := dk_4 (dk_at dksX1_digest_5 12 rfl rfl)
theorem dX1_digest_131 : decode cX1_digest 131 = .ok (.invokevirtual 379, 3) := dk_182 1 123 (dk_at dksX1_digest_5 13 rfl rfl)
theorem dX1_digest_134 : decode cX1_digest 134 = .ok (.i2l, 1) := dk_133 (dk_at dksX1_digest_5 16 rfl rfl)
theorem dX1_digest_135 : decode cX1_digest 135 = .ok (.invokestatic 352, 3) := dk_184 1 96 (dk_at dksX1_digest_5 17 rfl rfl)
theorem dX1_digest_138 : decode cX1_digest 138 = .ok (.lstore_n 1, 1) := dk_64 (dk_at dksX1_digest_5 20 rfl rfl)
theorem dX1_digest_139 : decode cX1_digest 139 = .ok (.iinc 3 1, 3) := dk_132 3 1 (dk_at dksX1_digest_5 21 rfl rfl)
theorem dX1_digest_142 : decode cX1_digest 142 = .ok (.goto (-61), 3) := dk_167 255 195 (dk_at dksX1_digest_6 0 rfl rfl)
theorem dX1_digest_145 : decode cX1_digest 145 = .ok (.iconst 0, 1) := dk_3 (dk_at dksX1_digest_6 3 rfl rfl)
theorem dX1_digest_146 : decode cX1_digest 146 = .ok (.istore_n 3, 1) := dk_62 (dk_at dksX1_digest_6 4 rfl rfl)
theorem dX1_digest_147 : decode cX1_digest 147 = .ok (.iload_n 3, 1) := dk_29 (dk_at dksX1_digest_6 5 rfl rfl)
theorem dX1_digest_148 : decode cX1_digest 148 = .ok (.bipush 8, 2) := dk_16 8 (dk_at dksX1_digest_6 6 rfl rfl)
theorem dX1_digest_150 : decode cX1_digest 150 = .ok (.if_icmp .ge 55, 3) := dk_162 0 55 (dk_at dksX1_digest_6 8 rfl rfl)
theorem dX1_digest_153 : decode cX1_digest 153 = .ok (.iload_n 3, 1) := dk_29 (dk_at dksX1_digest_6 11 rfl rfl)
theorem dX1_digest_154 : decode cX1_digest 154 = .ok (.iconst 1, 1) := dk_4 (dk_at dksX1_digest_6 12 rfl rfl)
theorem dX1_digest_155 : decode cX1_digest 155 = .ok (.iadd, 1) := dk_96 (dk_at dksX1_digest_6 13 rfl rfl)
theorem dX1_digest_156 : decode cX1_digest 156 = .ok (.istore 4, 2) := dk_54 4 (dk_at dksX1_digest_6 14 rfl rfl)
theorem dX1_digest_158 : decode cX1_digest 158 = .ok (.iload 4, 2) := dk_21 4 (dk_at dksX1_digest_6 16 rfl rfl)
theorem dX1_digest_160 : decode cX1_digest 160 = .ok (.bipush 8, 2) := dk_16 8 (dk_at dksX1_digest_6 18 rfl rfl)
theorem dX1_digest_162 : decode cX1_digest 162 = .ok (.if_icmp .ge 37, 3) := dk_162 0 37 (dk_at dksX1_digest_6 20 rfl rfl)
theorem dX1_digest_165 : decode cX1_digest 165 = .ok (.lload_n 1, 1) := dk_31 (dk_at dksX1_digest_6 23 rfl rfl)
theorem dX1_digest_166 : decode cX1_digest 166 = .ok (.aload_n 0, 1) := dk_42 (dk_at dksX1_digest_7 0 rfl rfl)
theorem dX1_digest_167 : decode cX1_digest 167 = .ok (.iload_n 3, 1) := dk_29 (dk_at dksX1_digest_7 1 rfl rfl)
theorem dX1_digest_168 : decode cX1_digest 168 = .ok (.iload 4, 2) := dk_21 4 (dk_at dksX1_digest_7 2 rfl rfl)
theorem dX1_digest_170 : decode cX1_digest 170 = .ok (.iconst 0, 1) := dk_3 (dk_at dksX1_digest_7 4 rfl rfl)
theorem dX1_digest_171 : decode cX1_digest 171 = .ok (.invokevirtual 232, 3) := dk_182 0 232 (dk_at dksX1_digest_7 5 rfl rfl)
theorem dX1_digest_174 : decode cX1_digest 174 = .ok (.i2l, 1) := dk_133 (dk_at dksX1_digest_7 8 rfl rfl)
theorem dX1_digest_175 : decode cX1_digest 175 = .ok (.invokestatic 352, 3) := dk_184 1 96 (dk_at dksX1_digest_7 9 rfl rfl)
theorem dX1_digest_178 : decode cX1_digest 178 = .ok (.aload_n 0, 1) := dk_42 (dk_at dksX1_digest_7 12 rfl rfl)
theorem dX1_digest_179 : decode cX1_digest 179 = .ok (.iload_n 3, 1) := dk_29 (dk_at dksX1_digest_7 13 rfl rfl)
theorem dX1_digest_180 : decode cX1_digest 180 = .ok (.iload 4, 2) := dk_21 4 (dk_at dksX1_digest_7 14 rfl rfl)
theorem dX1_digest_182 : decode cX1_digest 182 = .ok (.invokevirtual 236, 3) := dk_182 0 236 (dk_at dksX1_digest_7 16 rfl rfl)
theorem dX1_digest_185 : decode cX1_digest 185 = .ok (.invokestatic 91, 3) := dk_184 0 91 (dk_at dksX1_digest_7 19 rfl rfl)
theorem dX1_digest_188 : decode cX1_digest 188 = .ok (.i2l, 1) := dk_133 (dk_at dksX1_digest_7 22 rfl rfl)
theorem dX1_digest_189 : decode cX1_digest 189 = .ok (.invokestatic 352, 3) := dk_184 1 96 (dk_at dksX1_digest_8 0 rfl rfl)
theorem dX1_digest_192 : decode cX1_digest 192 = .ok (.lstore_n 1, 1) := dk_64 (dk_at dksX1_digest_8 3 rfl rfl)
theorem dX1_digest_193 : decode cX1_digest 193 = .ok (.iinc 4 1, 3) := dk_132 4 1 (dk_at dksX1_digest_8 4 rfl rfl)
theorem dX1_digest_196 : decode cX1_digest 196 = .ok (.goto (-38), 3) := dk_167 255 218 (dk_at dksX1_digest_8 7 rfl rfl)
theorem dX1_digest_199 : decode cX1_digest 199 = .ok (.iinc 3 1, 3) := dk_132 3 1 (dk_at dksX1_digest_8 10 rfl rfl)
theorem dX1_digest_202 : decode cX1_digest 202 = .ok (.goto (-55), 3) := dk_167 255 201 (dk_at dksX1_digest_8 13 rfl rfl)
theorem dX1_digest_205 : decode cX1_digest 205 = .ok (.iconst 0, 1) := dk_3 (dk_at dksX1_digest_8 16 rfl rfl)
theorem dX1_digest_206 : decode cX1_digest 206 = .ok (.istore_n 3, 1) := dk_62 (dk_at dksX1_digest_8 17 rfl rfl)
theorem dX1_digest_207 : decode cX1_digest 207 = .ok (.iload_n 3, 1) := dk_29 (dk_at dksX1_digest_8 18 rfl rfl)
theorem dX1_digest_208 : decode cX1_digest 208 = .ok (.bipush 8, 2) := dk_16 8 (dk_at dksX1_digest_8 19 rfl rfl)
theorem dX1_digest_210 : decode cX1_digest 210 = .ok (.if_icmp .ge 55, 3) := dk_162 0 55 (dk_at dksX1_digest_8 21 rfl rfl)
theorem dX1_digest_213 : decode cX1_digest 213 = .ok (.iload_n 3, 1) := dk_29 (dk_at dksX1_digest_9 0 rfl rfl)
theorem dX1_digest_214 : decode cX1_digest 214 = .ok (.iconst 1, 1) := dk_4 (dk_at dksX1_digest_9 1 rfl rfl)
theorem dX1_digest_215 : decode cX1_digest 215 = .ok (.iadd, 1) := dk_96 (dk_at dksX1_digest_9 2 rfl rfl)
theorem dX1_digest_216 : decode cX1_digest 216 = .ok (.istore 4, 2) := dk_54 4 (dk_at dksX1_digest_9 3 rfl rfl)
theorem dX1_digest_218 : decode cX1_digest 218 = .ok (.iload 4, 2) := dk_21 4 (dk_at dksX1_digest_9 5 rfl rfl)
theorem dX1_digest_220 : decode cX1_digest 220 = .ok (.bipush 8, 2) := dk_16 8 (dk_at dksX1_digest_9 7 rfl rfl)
theorem dX1_digest_222 : decode cX1_digest 222 = .ok (.if_icmp .ge 37, 3) := dk_162 0 37 (dk_at dksX1_digest_9 9 rfl rfl)
theorem dX1_digest_225 : decode cX1_digest 225 = .ok (.lload_n 1, 1) := dk_31 (dk_at dksX1_digest_9 12 rfl rfl)
theorem dX1_digest_226 : decode cX1_digest 226 = .ok (.aload_n 0, 1) := dk_42 (dk_at dksX1_digest_9 13 rfl rfl)
theorem dX1_digest_227 : decode cX1_digest 227 = .ok (.iload_n 3, 1) := dk_29 (dk_at dksX1_digest_9 14 rfl rfl)
theorem dX1_digest_228 : decode cX1_digest 228 = .ok (.iload 4, 2) := dk_21 4 (dk_at dksX1_digest_9 15 rfl rfl)
theorem dX1_digest_230 : decode cX1_digest 230 = .ok (.iconst 0, 1) := dk_3 (dk_at dksX1_digest_9 17 rfl rfl)
theorem dX1_digest_231 : decode cX1_digest 231 = .ok (.invokevirtual 321, 3) := dk_182 1 65 (dk_at dksX1_digest_9 18 rfl rfl)
theorem dX1_digest_234 : decode cX1_digest 234 = .ok (.i2l, 1) := dk_133 (dk_at dksX1_digest_9 21 rfl rfl)
theorem dX1_digest_235 : decode cX1_digest 235 = .ok (.invokestatic 352, 3) := dk_184 1 96 (dk_at dksX1_digest_10 0 rfl rfl)
theorem dX1_digest_238 : decode cX1_digest 238 = .ok (.aload_n 0, 1) := dk_42 (dk_at dksX1_digest_10 3 rfl rfl)
theorem dX1_digest_239 : decode cX1_digest 239 = .ok (.iload_n 3, 1) := dk_29 (dk_at dksX1_digest_10 4 rfl rfl)
theorem dX1_digest_240 : decode cX1_digest 240 = .ok (.iload 4, 2) := dk_21 4 (dk_at dksX1_digest_10 5 rfl rfl)
theorem dX1_digest_242 : decode cX1_digest 242 = .ok (.invokevirtual 324, 3) := dk_182 1 68 (dk_at dksX1_digest_10 7 rfl rfl)
theorem dX1_digest_245 : decode cX1_digest 245 = .ok (.invokestatic 91, 3) := dk_184 0 91 (dk_at dksX1_digest_10 10 rfl rfl)
theorem dX1_digest_248 : decode cX1_digest 248 = .ok (.i2l, 1) := dk_133 (dk_at dksX1_digest_10 13 rfl rfl)
theorem dX1_digest_249 : decode cX1_digest 249 = .ok (.invokestatic 352, 3) := dk_184 1 96 (dk_at dksX1_digest_10 14 rfl rfl)
theorem dX1_digest_252 : decode cX1_digest 252 = .ok (.lstore_n 1, 1) := dk_64 (dk_at dksX1_digest_10 17 rfl rfl)
theorem dX1_digest_253 : decode cX1_digest 253 = .ok (.iinc 4 1, 3) := dk_132 4 1 (dk_at dksX1_digest_10 18 rfl rfl)
theorem dX1_digest_256 : decode cX1_digest 256 = .ok (.goto (-38), 3) := dk_167 255 218 (dk_at dksX1_digest_10 21 rfl rfl)
theorem dX1_digest_259 : decode cX1_digest 259 = .ok (.iinc 3 1, 3) := dk_132 3 1 (dk_at dksX1_digest_11 0 rfl rfl)
theorem dX1_digest_262 : decode cX1_digest 262 = .ok (.goto (-55), 3) := dk_167 255 201 (dk_at dksX1_digest_11 3 rfl rfl)
theorem dX1_digest_265 : decode cX1_digest 265 = .ok (.iconst 0, 1) := dk_3 (dk_at dksX1_digest_11 6 rfl rfl)
theorem dX1_digest_266 : decode cX1_digest 266 = .ok (.istore_n 3, 1) := dk_62 (dk_at dksX1_digest_11 7 rfl rfl)
theorem dX1_digest_267 : decode cX1_digest 267 = .ok (.iload_n 3, 1) := dk_29 (dk_at dksX1_digest_11 8 rfl rfl)
theorem dX1_digest_268 : decode cX1_digest 268 = .ok (.iconst 4, 1) := dk_7 (dk_at dksX1_digest_11 9 rfl rfl)
theorem dX1_digest_269 : decode cX1_digest 269 = .ok (.if_icmp .ge 20, 3) := dk_162 0 20 (dk_at dksX1_digest_11 10 rfl rfl)
theorem dX1_digest_272 : decode cX1_digest 272 = .ok (.lload_n 1, 1) := dk_31 (dk_at dksX1_digest_11 13 rfl rfl)
theorem dX1_digest_273 : decode cX1_digest 273 = .ok (.aload_n 0, 1) := dk_42 (dk_at dksX1_digest_11 14 rfl rfl)
theorem dX1_digest_274 : decode cX1_digest 274 = .ok (.iload_n 3, 1) := dk_29 (dk_at dksX1_digest_11 15 rfl rfl)
theorem dX1_digest_275 : decode cX1_digest 275 = .ok (.invokevirtual 382, 3) := dk_182 1 126 (dk_at dksX1_digest_11 16 rfl rfl)
theorem dX1_digest_278 : decode cX1_digest 278 = .ok (.i2l, 1) := dk_133 (dk_at dksX1_digest_11 19 rfl rfl)
theorem dX1_digest_279 : decode cX1_digest 279 = .ok (.invokestatic 352, 3) := dk_184 1 96 (dk_at dksX1_digest_11 20 rfl rfl)
theorem dX1_digest_282 : decode cX1_digest 282 = .ok (.lstore_n 1, 1) := dk_64 (dk_at dksX1_digest_11 23 rfl rfl)
theorem dX1_digest_283 : decode cX1_digest 283 = .ok (.iinc 3 1, 3) := dk_132 3 1 (dk_at dksX1_digest_12 0 rfl rfl)
theorem dX1_digest_286 : decode cX1_digest 286 = .ok (.goto (-19), 3) := dk_167 255 237 (dk_at dksX1_digest_12 3 rfl rfl)
theorem dX1_digest_289 : decode cX1_digest 289 = .ok (.lload_n 1, 1) := dk_31 (dk_at dksX1_digest_12 6 rfl rfl)
theorem dX1_digest_290 : decode cX1_digest 290 = .ok (.aload_n 0, 1) := dk_42 (dk_at dksX1_digest_12 7 rfl rfl)
theorem dX1_digest_291 : decode cX1_digest 291 = .ok (.invokevirtual 385, 3) := dk_182 1 129 (dk_at dksX1_digest_12 8 rfl rfl)
theorem dX1_digest_294 : decode cX1_digest 294 = .ok (.invokestatic 91, 3) := dk_184 0 91 (dk_at dksX1_digest_12 11 rfl rfl)
theorem dX1_digest_297 : decode cX1_digest 297 = .ok (.i2l, 1) := dk_133 (dk_at dksX1_digest_12 14 rfl rfl)
theorem dX1_digest_298 : decode cX1_digest 298 = .ok (.invokestatic 352, 3) := dk_184 1 96 (dk_at dksX1_digest_12 15 rfl rfl)
theorem dX1_digest_301 : decode cX1_digest 301 = .ok (.lreturn, 1) := dk_173 (dk_at dksX1_digest_12 18 rfl rfl)
abbrev cX1_upper : ByteArray := prog_1_method_25_code
def yX1_upper : MethodName := ⟨RX1, "upper", "(I)I"⟩
def dkwX1_upper_0 : List UInt8 := [42, 27, 182, 0, 142, 182, 0, 95, 184, 0, 54, 16, 32, 123, 136, 172]
abbrev dktX1_upper_0 : List UInt8 := dkwX1_upper_0 ++ []
theorem dksX1_upper_0 : cX1_upper.data.toList.drop 0 = dktX1_upper_0 := by decide +kernel
theorem dX1_upper_0 : decode cX1_upper 0 = .ok (.aload_n 0, 1) := dk_42 (dk_at dksX1_upper_0 0 rfl rfl)
theorem dX1_upper_1 : decode cX1_upper 1 = .ok (.iload_n 1, 1) := dk_27 (dk_at dksX1_upper_0 1 rfl rfl)
theorem dX1_upper_2 : decode cX1_upper 2 = .ok (.invokevirtual 142, 3) := dk_182 0 142 (dk_at dksX1_upper_0 2 rfl rfl)
theorem dX1_upper_5 : decode cX1_upper 5 = .ok (.invokevirtual 95, 3) := dk_182 0 95 (dk_at dksX1_upper_0 5 rfl rfl)
theorem dX1_upper_8 : decode cX1_upper 8 = .ok (.invokestatic 54, 3) := dk_184 0 54 (dk_at dksX1_upper_0 8 rfl rfl)
theorem dX1_upper_11 : decode cX1_upper 11 = .ok (.bipush 32, 2) := dk_16 32 (dk_at dksX1_upper_0 11 rfl rfl)
theorem dX1_upper_13 : decode cX1_upper 13 = .ok (.lshr, 1) := dk_123 (dk_at dksX1_upper_0 13 rfl rfl)
theorem dX1_upper_14 : decode cX1_upper 14 = .ok (.l2i, 1) := dk_136 (dk_at dksX1_upper_0 14 rfl rfl)
theorem dX1_upper_15 : decode cX1_upper 15 = .ok (.ireturn, 1) := dk_172 (dk_at dksX1_upper_0 15 rfl rfl)
abbrev cX1_add : ByteArray := prog_1_method_76_code
def yX1_add : MethodName := ⟨RX1, "add", "(JJ)J"⟩
def dkwX1_add_0 : List UInt8 := [20, 1, 89, 30, 105, 32, 97, 173]
abbrev dktX1_add_0 : List UInt8 := dkwX1_add_0 ++ []
theorem dksX1_add_0 : cX1_add.data.toList.drop 0 = dktX1_add_0 := by decide +kernel
theorem dX1_add_0 : decode cX1_add 0 = .ok (.ldc2_w 345, 3) := dk_20 1 89 (dk_at dksX1_add_0 0 rfl rfl)
theorem dX1_add_3 : decode cX1_add 3 = .ok (.lload_n 0, 1) := dk_30 (dk_at dksX1_add_0 3 rfl rfl)
theorem dX1_add_4 : decode cX1_add 4 = .ok (.lmul, 1) := dk_105 (dk_at dksX1_add_0 4 rfl rfl)
theorem dX1_add_5 : decode cX1_add 5 = .ok (.lload_n 2, 1) := dk_32 (dk_at dksX1_add_0 5 rfl rfl)
theorem dX1_add_6 : decode cX1_add 6 = .ok (.ladd, 1) := dk_97 (dk_at dksX1_add_0 6 rfl rfl)
theorem dX1_add_7 : decode cX1_add 7 = .ok (.lreturn, 1) := dk_173 (dk_at dksX1_add_0 7 rfl rfl)
abbrev cX1_lower : ByteArray := prog_1_method_26_code
def yX1_lower : MethodName := ⟨RX1, "lower", "(I)I"⟩
def dkwX1_lower_0 : List UInt8 := [42, 27, 182, 0, 142, 182, 0, 95, 184, 0, 54, 136, 172]
abbrev dktX1_lower_0 : List UInt8 := dkwX1_lower_0 ++ []
theorem dksX1_lower_0 : cX1_lower.data.toList.drop 0 = dktX1_lower_0 := by decide +kernel
theorem dX1_lower_0 : decode cX1_lower 0 = .ok (.aload_n 0, 1) := dk_42 (dk_at dksX1_lower_0 0 rfl rfl)
theorem dX1_lower_1 : decode cX1_lower 1 = .ok (.iload_n 1, 1) := dk_27 (dk_at dksX1_lower_0 1 rfl rfl)
theorem dX1_lower_2 : decode cX1_lower 2 = .ok (.invokevirtual 142, 3) := dk_182 0 142 (dk_at dksX1_lower_0 2 rfl rfl)
theorem dX1_lower_5 : decode cX1_lower 5 = .ok (.invokevirtual 95, 3) := dk_182 0 95 (dk_at dksX1_lower_0 5 rfl rfl)
theorem dX1_lower_8 : decode cX1_lower 8 = .ok (.invokestatic 54, 3) := dk_184 0 54 (dk_at dksX1_lower_0 8 rfl rfl)
theorem dX1_lower_11 : decode cX1_lower 11 = .ok (.l2i, 1) := dk_136 (dk_at dksX1_lower_0 11 rfl rfl)
theorem dX1_lower_12 : decode cX1_lower 12 = .ok (.ireturn, 1) := dk_172 (dk_at dksX1_lower_0 12 rfl rfl)
abbrev cX1_wideHash : ByteArray := prog_1_method_33_code
def yX1_wideHash : MethodName := ⟨RX1, "wideHash", "(II)I"⟩
def dkwX1_wideHash_1 : List UInt8 := [167, 0, 10, 45, 182, 0, 95, 184, 0, 224, 172]
abbrev dktX1_wideHash_1 : List UInt8 := dkwX1_wideHash_1 ++ []
def dkwX1_wideHash_0 : List UInt8 := [42, 27, 182, 0, 142, 78, 28, 3, 4, 184, 0, 32, 184, 0, 132, 28, 154, 0, 10, 45, 182, 0, 221]
abbrev dktX1_wideHash_0 : List UInt8 := dkwX1_wideHash_0 ++ dktX1_wideHash_1
theorem dksX1_wideHash_0 : cX1_wideHash.data.toList.drop 0 = dktX1_wideHash_0 := by decide +kernel
theorem dksX1_wideHash_1 : cX1_wideHash.data.toList.drop 23 = dktX1_wideHash_1 := dk_seg dksX1_wideHash_0 23 rfl rfl
theorem dX1_wideHash_0 : decode cX1_wideHash 0 = .ok (.aload_n 0, 1) := dk_42 (dk_at dksX1_wideHash_0 0 rfl rfl)
theorem dX1_wideHash_1 : decode cX1_wideHash 1 = .ok (.iload_n 1, 1) := dk_27 (dk_at dksX1_wideHash_0 1 rfl rfl)
theorem dX1_wideHash_2 : decode cX1_wideHash 2 = .ok (.invokevirtual 142, 3) := dk_182 0 142 (dk_at dksX1_wideHash_0 2 rfl rfl)
theorem dX1_wideHash_5 : decode cX1_wideHash 5 = .ok (.astore_n 3, 1) := dk_78 (dk_at dksX1_wideHash_0 5 rfl rfl)
theorem dX1_wideHash_6 : decode cX1_wideHash 6 = .ok (.iload_n 2, 1) := dk_28 (dk_at dksX1_wideHash_0 6 rfl rfl)
theorem dX1_wideHash_7 : decode cX1_wideHash 7 = .ok (.iconst 0, 1) := dk_3 (dk_at dksX1_wideHash_0 7 rfl rfl)
theorem dX1_wideHash_8 : decode cX1_wideHash 8 = .ok (.iconst 1, 1) := dk_4 (dk_at dksX1_wideHash_0 8 rfl rfl)
theorem dX1_wideHash_9 : decode cX1_wideHash 9 = .ok (.invokestatic 32, 3) := dk_184 0 32 (dk_at dksX1_wideHash_0 9 rfl rfl)
theorem dX1_wideHash_12 : decode cX1_wideHash 12 = .ok (.invokestatic 132, 3) := dk_184 0 132 (dk_at dksX1_wideHash_0 12 rfl rfl)
theorem dX1_wideHash_15 : decode cX1_wideHash 15 = .ok (.iload_n 2, 1) := dk_28 (dk_at dksX1_wideHash_0 15 rfl rfl)
theorem dX1_wideHash_16 : decode cX1_wideHash 16 = .ok (.ifCond .ne 10, 3) := dk_154 0 10 (dk_at dksX1_wideHash_0 16 rfl rfl)
theorem dX1_wideHash_19 : decode cX1_wideHash 19 = .ok (.aload_n 3, 1) := dk_45 (dk_at dksX1_wideHash_0 19 rfl rfl)
theorem dX1_wideHash_20 : decode cX1_wideHash 20 = .ok (.invokevirtual 221, 3) := dk_182 0 221 (dk_at dksX1_wideHash_0 20 rfl rfl)
theorem dX1_wideHash_23 : decode cX1_wideHash 23 = .ok (.goto 10, 3) := dk_167 0 10 (dk_at dksX1_wideHash_1 0 rfl rfl)
theorem dX1_wideHash_26 : decode cX1_wideHash 26 = .ok (.aload_n 3, 1) := dk_45 (dk_at dksX1_wideHash_1 3 rfl rfl)
theorem dX1_wideHash_27 : decode cX1_wideHash 27 = .ok (.invokevirtual 95, 3) := dk_182 0 95 (dk_at dksX1_wideHash_1 4 rfl rfl)
theorem dX1_wideHash_30 : decode cX1_wideHash 30 = .ok (.invokestatic 224, 3) := dk_184 0 224 (dk_at dksX1_wideHash_1 7 rfl rfl)
theorem dX1_wideHash_33 : decode cX1_wideHash 33 = .ok (.ireturn, 1) := dk_172 (dk_at dksX1_wideHash_1 10 rfl rfl)
abbrev cX1_wideCount : ByteArray := prog_1_method_35_code
def yX1_wideCount : MethodName := ⟨RX1, "wideCount", "(I)I"⟩
def dkwX1_wideCount_0 : List UInt8 := [42, 27, 182, 0, 142, 182, 0, 95, 184, 0, 99, 172]
abbrev dktX1_wideCount_0 : List UInt8 := dkwX1_wideCount_0 ++ []
theorem dksX1_wideCount_0 : cX1_wideCount.data.toList.drop 0 = dktX1_wideCount_0 := by decide +kernel
theorem dX1_wideCount_0 : decode cX1_wideCount 0 = .ok (.aload_n 0, 1) := dk_42 (dk_at dksX1_wideCount_0 0 rfl rfl)
theorem dX1_wideCount_1 : decode cX1_wideCount 1 = .ok (.iload_n 1, 1) := dk_27 (dk_at dksX1_wideCount_0 1 rfl rfl)
theorem dX1_wideCount_2 : decode cX1_wideCount 2 = .ok (.invokevirtual 142, 3) := dk_182 0 142 (dk_at dksX1_wideCount_0 2 rfl rfl)
theorem dX1_wideCount_5 : decode cX1_wideCount 5 = .ok (.invokevirtual 95, 3) := dk_182 0 95 (dk_at dksX1_wideCount_0 5 rfl rfl)
theorem dX1_wideCount_8 : decode cX1_wideCount 8 = .ok (.invokestatic 99, 3) := dk_184 0 99 (dk_at dksX1_wideCount_0 8 rfl rfl)
theorem dX1_wideCount_11 : decode cX1_wideCount 11 = .ok (.ireturn, 1) := dk_172 (dk_at dksX1_wideCount_0 11 rfl rfl)
abbrev cX1_wideFind : ByteArray := prog_1_method_36_code
def yX1_wideFind : MethodName := ⟨RX1, "wideFind", "(IZ)I"⟩
def dkwX1_wideFind_2 : List UInt8 := [167, 255, 228, 21, 4, 172]
abbrev dktX1_wideFind_2 : List UInt8 := dkwX1_wideFind_2 ++ []
def dkwX1_wideFind_1 : List UInt8 := [21, 4, 50, 182, 0, 87, 154, 0, 20, 21, 4, 28, 153, 0, 7, 2, 167, 0, 4, 4, 96, 54, 4]
abbrev dktX1_wideFind_1 : List UInt8 := dkwX1_wideFind_1 ++ dktX1_wideFind_2
def dkwX1_wideFind_0 : List UInt8 := [42, 27, 182, 0, 142, 78, 28, 153, 0, 8, 16, 7, 167, 0, 4, 3, 54, 4, 45, 42, 180, 0, 15]
abbrev dktX1_wideFind_0 : List UInt8 := dkwX1_wideFind_0 ++ dktX1_wideFind_1
theorem dksX1_wideFind_0 : cX1_wideFind.data.toList.drop 0 = dktX1_wideFind_0 := by decide +kernel
theorem dksX1_wideFind_1 : cX1_wideFind.data.toList.drop 23 = dktX1_wideFind_1 := dk_seg dksX1_wideFind_0 23 rfl rfl
theorem dksX1_wideFind_2 : cX1_wideFind.data.toList.drop 46 = dktX1_wideFind_2 := dk_seg dksX1_wideFind_1 23 rfl rfl
theorem dX1_wideFind_0 : decode cX1_wideFind 0 = .ok (.aload_n 0, 1) := dk_42 (dk_at dksX1_wideFind_0 0 rfl rfl)
theorem dX1_wideFind_1 : decode cX1_wideFind 1 = .ok (.iload_n 1, 1) := dk_27 (dk_at dksX1_wideFind_0 1 rfl rfl)
theorem dX1_wideFind_2 : decode cX1_wideFind 2 = .ok (.invokevirtual 142, 3) := dk_182 0 142 (dk_at dksX1_wideFind_0 2 rfl rfl)
theorem dX1_wideFind_5 : decode cX1_wideFind 5 = .ok (.astore_n 3, 1) := dk_78 (dk_at dksX1_wideFind_0 5 rfl rfl)
theorem dX1_wideFind_6 : decode cX1_wideFind 6 = .ok (.iload_n 2, 1) := dk_28 (dk_at dksX1_wideFind_0 6 rfl rfl)
theorem dX1_wideFind_7 : decode cX1_wideFind 7 = .ok (.ifCond .eq 8, 3) := dk_153 0 8 (dk_at dksX1_wideFind_0 7 rfl rfl)
theorem dX1_wideFind_10 : decode cX1_wideFind 10 = .ok (.bipush 7, 2) := dk_16 7 (dk_at dksX1_wideFind_0 10 rfl rfl)
theorem dX1_wideFind_12 : decode cX1_wideFind 12 = .ok (.goto 4, 3) := dk_167 0 4 (dk_at dksX1_wideFind_0 12 rfl rfl)
theorem dX1_wideFind_15 : decode cX1_wideFind 15 = .ok (.iconst 0, 1) := dk_3 (dk_at dksX1_wideFind_0 15 rfl rfl)
theorem dX1_wideFind_16 : decode cX1_wideFind 16 = .ok (.istore 4, 2) := dk_54 4 (dk_at dksX1_wideFind_0 16 rfl rfl)
theorem dX1_wideFind_18 : decode cX1_wideFind 18 = .ok (.aload_n 3, 1) := dk_45 (dk_at dksX1_wideFind_0 18 rfl rfl)
theorem dX1_wideFind_19 : decode cX1_wideFind 19 = .ok (.aload_n 0, 1) := dk_42 (dk_at dksX1_wideFind_0 19 rfl rfl)
theorem dX1_wideFind_20 : decode cX1_wideFind 20 = .ok (.getfield 15, 3) := dk_180 0 15 (dk_at dksX1_wideFind_0 20 rfl rfl)
theorem dX1_wideFind_23 : decode cX1_wideFind 23 = .ok (.iload 4, 2) := dk_21 4 (dk_at dksX1_wideFind_1 0 rfl rfl)
theorem dX1_wideFind_25 : decode cX1_wideFind 25 = .ok (.aaload, 1) := dk_50 (dk_at dksX1_wideFind_1 2 rfl rfl)
theorem dX1_wideFind_26 : decode cX1_wideFind 26 = .ok (.invokevirtual 87, 3) := dk_182 0 87 (dk_at dksX1_wideFind_1 3 rfl rfl)
theorem dX1_wideFind_29 : decode cX1_wideFind 29 = .ok (.ifCond .ne 20, 3) := dk_154 0 20 (dk_at dksX1_wideFind_1 6 rfl rfl)
theorem dX1_wideFind_32 : decode cX1_wideFind 32 = .ok (.iload 4, 2) := dk_21 4 (dk_at dksX1_wideFind_1 9 rfl rfl)
theorem dX1_wideFind_34 : decode cX1_wideFind 34 = .ok (.iload_n 2, 1) := dk_28 (dk_at dksX1_wideFind_1 11 rfl rfl)
theorem dX1_wideFind_35 : decode cX1_wideFind 35 = .ok (.ifCond .eq 7, 3) := dk_153 0 7 (dk_at dksX1_wideFind_1 12 rfl rfl)
theorem dX1_wideFind_38 : decode cX1_wideFind 38 = .ok (.iconst (-1), 1) := dk_2 (dk_at dksX1_wideFind_1 15 rfl rfl)
theorem dX1_wideFind_39 : decode cX1_wideFind 39 = .ok (.goto 4, 3) := dk_167 0 4 (dk_at dksX1_wideFind_1 16 rfl rfl)
theorem dX1_wideFind_42 : decode cX1_wideFind 42 = .ok (.iconst 1, 1) := dk_4 (dk_at dksX1_wideFind_1 19 rfl rfl)
theorem dX1_wideFind_43 : decode cX1_wideFind 43 = .ok (.iadd, 1) := dk_96 (dk_at dksX1_wideFind_1 20 rfl rfl)
theorem dX1_wideFind_44 : decode cX1_wideFind 44 = .ok (.istore 4, 2) := dk_54 4 (dk_at dksX1_wideFind_1 21 rfl rfl)
theorem dX1_wideFind_46 : decode cX1_wideFind 46 = .ok (.goto (-28), 3) := dk_167 255 228 (dk_at dksX1_wideFind_2 0 rfl rfl)
theorem dX1_wideFind_49 : decode cX1_wideFind 49 = .ok (.iload 4, 2) := dk_21 4 (dk_at dksX1_wideFind_2 3 rfl rfl)
theorem dX1_wideFind_51 : decode cX1_wideFind 51 = .ok (.ireturn, 1) := dk_172 (dk_at dksX1_wideFind_2 5 rfl rfl)
abbrev cX1_digits : ByteArray := prog_1_method_59_code
def yX1_digits : MethodName := ⟨RX1, "digits", "(I)I"⟩
def dkwX1_digits_0 : List UInt8 := [42, 27, 182, 1, 31, 182, 0, 211, 184, 0, 250, 172]
abbrev dktX1_digits_0 : List UInt8 := dkwX1_digits_0 ++ []
theorem dksX1_digits_0 : cX1_digits.data.toList.drop 0 = dktX1_digits_0 := by decide +kernel
theorem dX1_digits_0 : decode cX1_digits 0 = .ok (.aload_n 0, 1) := dk_42 (dk_at dksX1_digits_0 0 rfl rfl)
theorem dX1_digits_1 : decode cX1_digits 1 = .ok (.iload_n 1, 1) := dk_27 (dk_at dksX1_digits_0 1 rfl rfl)
theorem dX1_digits_2 : decode cX1_digits 2 = .ok (.invokevirtual 287, 3) := dk_182 1 31 (dk_at dksX1_digits_0 2 rfl rfl)
theorem dX1_digits_5 : decode cX1_digits 5 = .ok (.invokevirtual 211, 3) := dk_182 0 211 (dk_at dksX1_digits_0 5 rfl rfl)
theorem dX1_digits_8 : decode cX1_digits 8 = .ok (.invokestatic 250, 3) := dk_184 0 250 (dk_at dksX1_digits_0 8 rfl rfl)
theorem dX1_digits_11 : decode cX1_digits 11 = .ok (.ireturn, 1) := dk_172 (dk_at dksX1_digits_0 11 rfl rfl)
abbrev cX1_narrowHash : ByteArray := prog_1_method_66_code
def yX1_narrowHash : MethodName := ⟨RX1, "narrowHash", "(II)I"⟩
def dkwX1_narrowHash_1 : List UInt8 := [167, 0, 10, 45, 182, 0, 211, 184, 1, 58, 172]
abbrev dktX1_narrowHash_1 : List UInt8 := dkwX1_narrowHash_1 ++ []
def dkwX1_narrowHash_0 : List UInt8 := [42, 27, 182, 1, 31, 78, 28, 3, 4, 184, 0, 32, 184, 0, 132, 28, 154, 0, 10, 45, 182, 1, 57]
abbrev dktX1_narrowHash_0 : List UInt8 := dkwX1_narrowHash_0 ++ dktX1_narrowHash_1
theorem dksX1_narrowHash_0 : cX1_narrowHash.data.toList.drop 0 = dktX1_narrowHash_0 := by decide +kernel
theorem dksX1_narrowHash_1 : cX1_narrowHash.data.toList.drop 23 = dktX1_narrowHash_1 := dk_seg dksX1_narrowHash_0 23 rfl rfl
theorem dX1_narrowHash_0 : decode cX1_narrowHash 0 = .ok (.aload_n 0, 1) := dk_42 (dk_at dksX1_narrowHash_0 0 rfl rfl)
theorem dX1_narrowHash_1 : decode cX1_narrowHash 1 = .ok (.iload_n 1, 1) := dk_27 (dk_at dksX1_narrowHash_0 1 rfl rfl)
theorem dX1_narrowHash_2 : decode cX1_narrowHash 2 = .ok (.invokevirtual 287, 3) := dk_182 1 31 (dk_at dksX1_narrowHash_0 2 rfl rfl)
theorem dX1_narrowHash_5 : decode cX1_narrowHash 5 = .ok (.astore_n 3, 1) := dk_78 (dk_at dksX1_narrowHash_0 5 rfl rfl)
theorem dX1_narrowHash_6 : decode cX1_narrowHash 6 = .ok (.iload_n 2, 1) := dk_28 (dk_at dksX1_narrowHash_0 6 rfl rfl)
theorem dX1_narrowHash_7 : decode cX1_narrowHash 7 = .ok (.iconst 0, 1) := dk_3 (dk_at dksX1_narrowHash_0 7 rfl rfl)
theorem dX1_narrowHash_8 : decode cX1_narrowHash 8 = .ok (.iconst 1, 1) := dk_4 (dk_at dksX1_narrowHash_0 8 rfl rfl)
theorem dX1_narrowHash_9 : decode cX1_narrowHash 9 = .ok (.invokestatic 32, 3) := dk_184 0 32 (dk_at dksX1_narrowHash_0 9 rfl rfl)
theorem dX1_narrowHash_12 : decode cX1_narrowHash 12 = .ok (.invokestatic 132, 3) := dk_184 0 132 (dk_at dksX1_narrowHash_0 12 rfl rfl)
theorem dX1_narrowHash_15 : decode cX1_narrowHash 15 = .ok (.iload_n 2, 1) := dk_28 (dk_at dksX1_narrowHash_0 15 rfl rfl)
theorem dX1_narrowHash_16 : decode cX1_narrowHash 16 = .ok (.ifCond .ne 10, 3) := dk_154 0 10 (dk_at dksX1_narrowHash_0 16 rfl rfl)
theorem dX1_narrowHash_19 : decode cX1_narrowHash 19 = .ok (.aload_n 3, 1) := dk_45 (dk_at dksX1_narrowHash_0 19 rfl rfl)
theorem dX1_narrowHash_20 : decode cX1_narrowHash 20 = .ok (.invokevirtual 313, 3) := dk_182 1 57 (dk_at dksX1_narrowHash_0 20 rfl rfl)
theorem dX1_narrowHash_23 : decode cX1_narrowHash 23 = .ok (.goto 10, 3) := dk_167 0 10 (dk_at dksX1_narrowHash_1 0 rfl rfl)
theorem dX1_narrowHash_26 : decode cX1_narrowHash 26 = .ok (.aload_n 3, 1) := dk_45 (dk_at dksX1_narrowHash_1 3 rfl rfl)
theorem dX1_narrowHash_27 : decode cX1_narrowHash 27 = .ok (.invokevirtual 211, 3) := dk_182 0 211 (dk_at dksX1_narrowHash_1 4 rfl rfl)
theorem dX1_narrowHash_30 : decode cX1_narrowHash 30 = .ok (.invokestatic 314, 3) := dk_184 1 58 (dk_at dksX1_narrowHash_1 7 rfl rfl)
theorem dX1_narrowHash_33 : decode cX1_narrowHash 33 = .ok (.ireturn, 1) := dk_172 (dk_at dksX1_narrowHash_1 10 rfl rfl)
abbrev cX1_narrowCount : ByteArray := prog_1_method_68_code
def yX1_narrowCount : MethodName := ⟨RX1, "narrowCount", "(I)I"⟩
def dkwX1_narrowCount_0 : List UInt8 := [42, 27, 182, 1, 31, 182, 0, 211, 184, 1, 9, 172]
abbrev dktX1_narrowCount_0 : List UInt8 := dkwX1_narrowCount_0 ++ []
theorem dksX1_narrowCount_0 : cX1_narrowCount.data.toList.drop 0 = dktX1_narrowCount_0 := by decide +kernel
theorem dX1_narrowCount_0 : decode cX1_narrowCount 0 = .ok (.aload_n 0, 1) := dk_42 (dk_at dksX1_narrowCount_0 0 rfl rfl)
theorem dX1_narrowCount_1 : decode cX1_narrowCount 1 = .ok (.iload_n 1, 1) := dk_27 (dk_at dksX1_narrowCount_0 1 rfl rfl)
theorem dX1_narrowCount_2 : decode cX1_narrowCount 2 = .ok (.invokevirtual 287, 3) := dk_182 1 31 (dk_at dksX1_narrowCount_0 2 rfl rfl)
theorem dX1_narrowCount_5 : decode cX1_narrowCount 5 = .ok (.invokevirtual 211, 3) := dk_182 0 211 (dk_at dksX1_narrowCount_0 5 rfl rfl)
theorem dX1_narrowCount_8 : decode cX1_narrowCount 8 = .ok (.invokestatic 265, 3) := dk_184 1 9 (dk_at dksX1_narrowCount_0 8 rfl rfl)
theorem dX1_narrowCount_11 : decode cX1_narrowCount 11 = .ok (.ireturn, 1) := dk_172 (dk_at dksX1_narrowCount_0 11 rfl rfl)
abbrev cX1_narrowFind : ByteArray := prog_1_method_69_code
def yX1_narrowFind : MethodName := ⟨RX1, "narrowFind", "(IZ)I"⟩
def dkwX1_narrowFind_2 : List UInt8 := [167, 255, 228, 21, 4, 172]
abbrev dktX1_narrowFind_2 : List UInt8 := dkwX1_narrowFind_2 ++ []
def dkwX1_narrowFind_1 : List UInt8 := [21, 4, 50, 182, 1, 8, 154, 0, 20, 21, 4, 28, 153, 0, 7, 2, 167, 0, 4, 4, 96, 54, 4]
abbrev dktX1_narrowFind_1 : List UInt8 := dkwX1_narrowFind_1 ++ dktX1_narrowFind_2
def dkwX1_narrowFind_0 : List UInt8 := [42, 27, 182, 1, 31, 78, 28, 153, 0, 8, 16, 7, 167, 0, 4, 3, 54, 4, 45, 42, 180, 0, 21]
abbrev dktX1_narrowFind_0 : List UInt8 := dkwX1_narrowFind_0 ++ dktX1_narrowFind_1
theorem dksX1_narrowFind_0 : cX1_narrowFind.data.toList.drop 0 = dktX1_narrowFind_0 := by decide +kernel
theorem dksX1_narrowFind_1 : cX1_narrowFind.data.toList.drop 23 = dktX1_narrowFind_1 := dk_seg dksX1_narrowFind_0 23 rfl rfl
theorem dksX1_narrowFind_2 : cX1_narrowFind.data.toList.drop 46 = dktX1_narrowFind_2 := dk_seg dksX1_narrowFind_1 23 rfl rfl
theorem dX1_narrowFind_0 : decode cX1_narrowFind 0 = .ok (.aload_n 0, 1) := dk_42 (dk_at dksX1_narrowFind_0 0 rfl rfl)
theorem dX1_narrowFind_1 : decode cX1_narrowFind 1 = .ok (.iload_n 1, 1) := dk_27 (dk_at dksX1_narrowFind_0 1 rfl rfl)
theorem dX1_narrowFind_2 : decode cX1_narrowFind 2 = .ok (.invokevirtual 287, 3) := dk_182 1 31 (dk_at dksX1_narrowFind_0 2 rfl rfl)
theorem dX1_narrowFind_5 : decode cX1_narrowFind 5 = .ok (.astore_n 3, 1) := dk_78 (dk_at dksX1_narrowFind_0 5 rfl rfl)
theorem dX1_narrowFind_6 : decode cX1_narrowFind 6 = .ok (.iload_n 2, 1) := dk_28 (dk_at dksX1_narrowFind_0 6 rfl rfl)
theorem dX1_narrowFind_7 : decode cX1_narrowFind 7 = .ok (.ifCond .eq 8, 3) := dk_153 0 8 (dk_at dksX1_narrowFind_0 7 rfl rfl)
theorem dX1_narrowFind_10 : decode cX1_narrowFind 10 = .ok (.bipush 7, 2) := dk_16 7 (dk_at dksX1_narrowFind_0 10 rfl rfl)
theorem dX1_narrowFind_12 : decode cX1_narrowFind 12 = .ok (.goto 4, 3) := dk_167 0 4 (dk_at dksX1_narrowFind_0 12 rfl rfl)
theorem dX1_narrowFind_15 : decode cX1_narrowFind 15 = .ok (.iconst 0, 1) := dk_3 (dk_at dksX1_narrowFind_0 15 rfl rfl)
theorem dX1_narrowFind_16 : decode cX1_narrowFind 16 = .ok (.istore 4, 2) := dk_54 4 (dk_at dksX1_narrowFind_0 16 rfl rfl)
theorem dX1_narrowFind_18 : decode cX1_narrowFind 18 = .ok (.aload_n 3, 1) := dk_45 (dk_at dksX1_narrowFind_0 18 rfl rfl)
theorem dX1_narrowFind_19 : decode cX1_narrowFind 19 = .ok (.aload_n 0, 1) := dk_42 (dk_at dksX1_narrowFind_0 19 rfl rfl)
theorem dX1_narrowFind_20 : decode cX1_narrowFind 20 = .ok (.getfield 21, 3) := dk_180 0 21 (dk_at dksX1_narrowFind_0 20 rfl rfl)
theorem dX1_narrowFind_23 : decode cX1_narrowFind 23 = .ok (.iload 4, 2) := dk_21 4 (dk_at dksX1_narrowFind_1 0 rfl rfl)
theorem dX1_narrowFind_25 : decode cX1_narrowFind 25 = .ok (.aaload, 1) := dk_50 (dk_at dksX1_narrowFind_1 2 rfl rfl)
theorem dX1_narrowFind_26 : decode cX1_narrowFind 26 = .ok (.invokevirtual 264, 3) := dk_182 1 8 (dk_at dksX1_narrowFind_1 3 rfl rfl)
theorem dX1_narrowFind_29 : decode cX1_narrowFind 29 = .ok (.ifCond .ne 20, 3) := dk_154 0 20 (dk_at dksX1_narrowFind_1 6 rfl rfl)
theorem dX1_narrowFind_32 : decode cX1_narrowFind 32 = .ok (.iload 4, 2) := dk_21 4 (dk_at dksX1_narrowFind_1 9 rfl rfl)
theorem dX1_narrowFind_34 : decode cX1_narrowFind 34 = .ok (.iload_n 2, 1) := dk_28 (dk_at dksX1_narrowFind_1 11 rfl rfl)
theorem dX1_narrowFind_35 : decode cX1_narrowFind 35 = .ok (.ifCond .eq 7, 3) := dk_153 0 7 (dk_at dksX1_narrowFind_1 12 rfl rfl)
theorem dX1_narrowFind_38 : decode cX1_narrowFind 38 = .ok (.iconst (-1), 1) := dk_2 (dk_at dksX1_narrowFind_1 15 rfl rfl)
theorem dX1_narrowFind_39 : decode cX1_narrowFind 39 = .ok (.goto 4, 3) := dk_167 0 4 (dk_at dksX1_narrowFind_1 16 rfl rfl)
theorem dX1_narrowFind_42 : decode cX1_narrowFind 42 = .ok (.iconst 1, 1) := dk_4 (dk_at dksX1_narrowFind_1 19 rfl rfl)
theorem dX1_narrowFind_43 : decode cX1_narrowFind 43 = .ok (.iadd, 1) := dk_96 (dk_at dksX1_narrowFind_1 20 rfl rfl)
theorem dX1_narrowFind_44 : decode cX1_narrowFind 44 = .ok (.istore 4, 2) := dk_54 4 (dk_at dksX1_narrowFind_1 21 rfl rfl)
theorem dX1_narrowFind_46 : decode cX1_narrowFind 46 = .ok (.goto (-28), 3) := dk_167 255 228 (dk_at dksX1_narrowFind_2 0 rfl rfl)
theorem dX1_narrowFind_49 : decode cX1_narrowFind 49 = .ok (.iload 4, 2) := dk_21 4 (dk_at dksX1_narrowFind_2 3 rfl rfl)
theorem dX1_narrowFind_51 : decode cX1_narrowFind 51 = .ok (.ireturn, 1) := dk_172 (dk_at dksX1_narrowFind_2 5 rfl rfl)
abbrev cX1_bit : ByteArray := prog_1_method_5_code
def yX1_bit : MethodName := ⟨RX1, "bit", "(Z)I"⟩
def dkwX1_bit_0 : List UInt8 := [26, 153, 0, 7, 4, 167, 0, 4, 3, 172]
abbrev dktX1_bit_0 : List UInt8 := dkwX1_bit_0 ++ []
theorem dksX1_bit_0 : cX1_bit.data.toList.drop 0 = dktX1_bit_0 := by decide +kernel
theorem dX1_bit_0 : decode cX1_bit 0 = .ok (.iload_n 0, 1) := dk_26 (dk_at dksX1_bit_0 0 rfl rfl)
theorem dX1_bit_1 : decode cX1_bit 1 = .ok (.ifCond .eq 7, 3) := dk_153 0 7 (dk_at dksX1_bit_0 1 rfl rfl)
theorem dX1_bit_4 : decode cX1_bit 4 = .ok (.iconst 1, 1) := dk_4 (dk_at dksX1_bit_0 4 rfl rfl)
theorem dX1_bit_5 : decode cX1_bit 5 = .ok (.goto 4, 3) := dk_167 0 4 (dk_at dksX1_bit_0 5 rfl rfl)
theorem dX1_bit_8 : decode cX1_bit 8 = .ok (.iconst 0, 1) := dk_3 (dk_at dksX1_bit_0 8 rfl rfl)
theorem dX1_bit_9 : decode cX1_bit 9 = .ok (.ireturn, 1) := dk_172 (dk_at dksX1_bit_0 9 rfl rfl)
abbrev cX1_house : ByteArray := prog_1_method_73_code
def yX1_house : MethodName := ⟨RX1, "house", "(I)I"⟩
def dkwX1_house_1 : List UInt8 := [180, 1, 5, 79, 89, 5, 42, 180, 0, 42, 79, 89, 6, 42, 180, 1, 74, 79, 77, 44, 27, 46, 172]
abbrev dktX1_house_1 : List UInt8 := dkwX1_house_1 ++ []
def dkwX1_house_0 : List UInt8 := [27, 3, 6, 184, 0, 32, 184, 0, 132, 7, 188, 10, 89, 3, 42, 180, 0, 84, 79, 89, 4, 42]
abbrev dktX1_house_0 : List UInt8 := dkwX1_house_0 ++ dktX1_house_1
theorem dksX1_house_0 : cX1_house.data.toList.drop 0 = dktX1_house_0 := by decide +kernel
theorem dksX1_house_1 : cX1_house.data.toList.drop 22 = dktX1_house_1 := dk_seg dksX1_house_0 22 rfl rfl
theorem dX1_house_0 : decode cX1_house 0 = .ok (.iload_n 1, 1) := dk_27 (dk_at dksX1_house_0 0 rfl rfl)
theorem dX1_house_1 : decode cX1_house 1 = .ok (.iconst 0, 1) := dk_3 (dk_at dksX1_house_0 1 rfl rfl)
theorem dX1_house_2 : decode cX1_house 2 = .ok (.iconst 3, 1) := dk_6 (dk_at dksX1_house_0 2 rfl rfl)
theorem dX1_house_3 : decode cX1_house 3 = .ok (.invokestatic 32, 3) := dk_184 0 32 (dk_at dksX1_house_0 3 rfl rfl)
theorem dX1_house_6 : decode cX1_house 6 = .ok (.invokestatic 132, 3) := dk_184 0 132 (dk_at dksX1_house_0 6 rfl rfl)
theorem dX1_house_9 : decode cX1_house 9 = .ok (.iconst 4, 1) := dk_7 (dk_at dksX1_house_0 9 rfl rfl)
theorem dX1_house_10 : decode cX1_house 10 = .ok (.newarray .int, 2) := dk_188_10 (dk_at dksX1_house_0 10 rfl rfl)
theorem dX1_house_12 : decode cX1_house 12 = .ok (.dup, 1) := dk_89 (dk_at dksX1_house_0 12 rfl rfl)
theorem dX1_house_13 : decode cX1_house 13 = .ok (.iconst 0, 1) := dk_3 (dk_at dksX1_house_0 13 rfl rfl)
theorem dX1_house_14 : decode cX1_house 14 = .ok (.aload_n 0, 1) := dk_42 (dk_at dksX1_house_0 14 rfl rfl)
theorem dX1_house_15 : decode cX1_house 15 = .ok (.getfield 84, 3) := dk_180 0 84 (dk_at dksX1_house_0 15 rfl rfl)
theorem dX1_house_18 : decode cX1_house 18 = .ok (.iastore, 1) := dk_79 (dk_at dksX1_house_0 18 rfl rfl)
theorem dX1_house_19 : decode cX1_house 19 = .ok (.dup, 1) := dk_89 (dk_at dksX1_house_0 19 rfl rfl)
theorem dX1_house_20 : decode cX1_house 20 = .ok (.iconst 1, 1) := dk_4 (dk_at dksX1_house_0 20 rfl rfl)
theorem dX1_house_21 : decode cX1_house 21 = .ok (.aload_n 0, 1) := dk_42 (dk_at dksX1_house_0 21 rfl rfl)
theorem dX1_house_22 : decode cX1_house 22 = .ok (.getfield 261, 3) := dk_180 1 5 (dk_at dksX1_house_1 0 rfl rfl)
theorem dX1_house_25 : decode cX1_house 25 = .ok (.iastore, 1) := dk_79 (dk_at dksX1_house_1 3 rfl rfl)
theorem dX1_house_26 : decode cX1_house 26 = .ok (.dup, 1) := dk_89 (dk_at dksX1_house_1 4 rfl rfl)
theorem dX1_house_27 : decode cX1_house 27 = .ok (.iconst 2, 1) := dk_5 (dk_at dksX1_house_1 5 rfl rfl)
theorem dX1_house_28 : decode cX1_house 28 = .ok (.aload_n 0, 1) := dk_42 (dk_at dksX1_house_1 6 rfl rfl)
theorem dX1_house_29 : decode cX1_house 29 = .ok (.getfield 42, 3) := dk_180 0 42 (dk_at dksX1_house_1 7 rfl rfl)
theorem dX1_house_32 : decode cX1_house 32 = .ok (.iastore, 1) := dk_79 (dk_at dksX1_house_1 10 rfl rfl)
theorem dX1_house_33 : decode cX1_house 33 = .ok (.dup, 1) := dk_89 (dk_at dksX1_house_1 11 rfl rfl)
theorem dX1_house_34 : decode cX1_house 34 = .ok (.iconst 3, 1) := dk_6 (dk_at dksX1_house_1 12 rfl rfl)
theorem dX1_house_35 : decode cX1_house 35 = .ok (.aload_n 0, 1) := dk_42 (dk_at dksX1_house_1 13 rfl rfl)
theorem dX1_house_36 : decode cX1_house 36 = .ok (.getfield 330, 3) := dk_180 1 74 (dk_at dksX1_house_1 14 rfl rfl)
theorem dX1_house_39 : decode cX1_house 39 = .ok (.iastore, 1) := dk_79 (dk_at dksX1_house_1 17 rfl rfl)
theorem dX1_house_40 : decode cX1_house 40 = .ok (.astore_n 2, 1) := dk_77 (dk_at dksX1_house_1 18 rfl rfl)
theorem dX1_house_41 : decode cX1_house 41 = .ok (.aload_n 2, 1) := dk_44 (dk_at dksX1_house_1 19 rfl rfl)
theorem dX1_house_42 : decode cX1_house 42 = .ok (.iload_n 1, 1) := dk_27 (dk_at dksX1_house_1 20 rfl rfl)
theorem dX1_house_43 : decode cX1_house 43 = .ok (.iaload, 1) := dk_46 (dk_at dksX1_house_1 21 rfl rfl)
theorem dX1_house_44 : decode cX1_house 44 = .ok (.ireturn, 1) := dk_172 (dk_at dksX1_house_1 22 rfl rfl)
abbrev cX1_putWide : ByteArray := prog_1_method_14_code
def yX1_putWide : MethodName := ⟨RX1, "putWide", "(III)I"⟩
def dkwX1_putWide_1 : List UInt8 := [153, 0, 10, 42, 182, 0, 119, 167, 0, 16, 42, 27, 22, 4, 184, 0, 122, 184, 0, 25, 182, 0, 126, 172]
abbrev dktX1_putWide_1 : List UInt8 := dkwX1_putWide_1 ++ []
def dkwX1_putWide_0 : List UInt8 := [27, 184, 0, 80, 28, 133, 16, 32, 121, 29, 133, 20, 0, 113, 127, 129, 55, 4, 22, 4, 184, 0, 115]
abbrev dktX1_putWide_0 : List UInt8 := dkwX1_putWide_0 ++ dktX1_putWide_1
theorem dksX1_putWide_0 : cX1_putWide.data.toList.drop 0 = dktX1_putWide_0 := by decide +kernel
theorem dksX1_putWide_1 : cX1_putWide.data.toList.drop 23 = dktX1_putWide_1 := dk_seg dksX1_putWide_0 23 rfl rfl
theorem dX1_putWide_0 : decode cX1_putWide 0 = .ok (.iload_n 1, 1) := dk_27 (dk_at dksX1_putWide_0 0 rfl rfl)
theorem dX1_putWide_1 : decode cX1_putWide 1 = .ok (.invokestatic 80, 3) := dk_184 0 80 (dk_at dksX1_putWide_0 1 rfl rfl)
theorem dX1_putWide_4 : decode cX1_putWide 4 = .ok (.iload_n 2, 1) := dk_28 (dk_at dksX1_putWide_0 4 rfl rfl)
theorem dX1_putWide_5 : decode cX1_putWide 5 = .ok (.i2l, 1) := dk_133 (dk_at dksX1_putWide_0 5 rfl rfl)
theorem dX1_putWide_6 : decode cX1_putWide 6 = .ok (.bipush 32, 2) := dk_16 32 (dk_at dksX1_putWide_0 6 rfl rfl)
theorem dX1_putWide_8 : decode cX1_putWide 8 = .ok (.lshl, 1) := dk_121 (dk_at dksX1_putWide_0 8 rfl rfl)
theorem dX1_putWide_9 : decode cX1_putWide 9 = .ok (.iload_n 3, 1) := dk_29 (dk_at dksX1_putWide_0 9 rfl rfl)
theorem dX1_putWide_10 : decode cX1_putWide 10 = .ok (.i2l, 1) := dk_133 (dk_at dksX1_putWide_0 10 rfl rfl)
theorem dX1_putWide_11 : decode cX1_putWide 11 = .ok (.ldc2_w 113, 3) := dk_20 0 113 (dk_at dksX1_putWide_0 11 rfl rfl)
theorem dX1_putWide_14 : decode cX1_putWide 14 = .ok (.land, 1) := dk_127 (dk_at dksX1_putWide_0 14 rfl rfl)
theorem dX1_putWide_15 : decode cX1_putWide 15 = .ok (.lor, 1) := dk_129 (dk_at dksX1_putWide_0 15 rfl rfl)
theorem dX1_putWide_16 : decode cX1_putWide 16 = .ok (.lstore 4, 2) := dk_55 4 (dk_at dksX1_putWide_0 16 rfl rfl)
theorem dX1_putWide_18 : decode cX1_putWide 18 = .ok (.lload 4, 2) := dk_22 4 (dk_at dksX1_putWide_0 18 rfl rfl)
theorem dX1_putWide_20 : decode cX1_putWide 20 = .ok (.invokestatic 115, 3) := dk_184 0 115 (dk_at dksX1_putWide_0 20 rfl rfl)
theorem dX1_putWide_23 : decode cX1_putWide 23 = .ok (.ifCond .eq 10, 3) := dk_153 0 10 (dk_at dksX1_putWide_1 0 rfl rfl)
theorem dX1_putWide_26 : decode cX1_putWide 26 = .ok (.aload_n 0, 1) := dk_42 (dk_at dksX1_putWide_1 3 rfl rfl)
theorem dX1_putWide_27 : decode cX1_putWide 27 = .ok (.invokevirtual 119, 3) := dk_182 0 119 (dk_at dksX1_putWide_1 4 rfl rfl)
theorem dX1_putWide_30 : decode cX1_putWide 30 = .ok (.goto 16, 3) := dk_167 0 16 (dk_at dksX1_putWide_1 7 rfl rfl)
theorem dX1_putWide_33 : decode cX1_putWide 33 = .ok (.aload_n 0, 1) := dk_42 (dk_at dksX1_putWide_1 10 rfl rfl)
theorem dX1_putWide_34 : decode cX1_putWide 34 = .ok (.iload_n 1, 1) := dk_27 (dk_at dksX1_putWide_1 11 rfl rfl)
theorem dX1_putWide_35 : decode cX1_putWide 35 = .ok (.lload 4, 2) := dk_22 4 (dk_at dksX1_putWide_1 12 rfl rfl)
theorem dX1_putWide_37 : decode cX1_putWide 37 = .ok (.invokestatic 122, 3) := dk_184 0 122 (dk_at dksX1_putWide_1 14 rfl rfl)
theorem dX1_putWide_40 : decode cX1_putWide 40 = .ok (.invokestatic 25, 3) := dk_184 0 25 (dk_at dksX1_putWide_1 17 rfl rfl)
theorem dX1_putWide_43 : decode cX1_putWide 43 = .ok (.invokevirtual 126, 3) := dk_182 0 126 (dk_at dksX1_putWide_1 20 rfl rfl)
theorem dX1_putWide_46 : decode cX1_putWide 46 = .ok (.ireturn, 1) := dk_172 (dk_at dksX1_putWide_1 23 rfl rfl)
abbrev cX1_refused : ByteArray := prog_1_method_6_code
def yX1_refused : MethodName := ⟨RX1, "refused", "()I"⟩
def dkwX1_refused_0 : List UInt8 := [42, 89, 180, 0, 42, 4, 96, 181, 0, 42, 16, 247, 172]
abbrev dktX1_refused_0 : List UInt8 := dkwX1_refused_0 ++ []
theorem dksX1_refused_0 : cX1_refused.data.toList.drop 0 = dktX1_refused_0 := by decide +kernel
theorem dX1_refused_0 : decode cX1_refused 0 = .ok (.aload_n 0, 1) := dk_42 (dk_at dksX1_refused_0 0 rfl rfl)
theorem dX1_refused_1 : decode cX1_refused 1 = .ok (.dup, 1) := dk_89 (dk_at dksX1_refused_0 1 rfl rfl)
theorem dX1_refused_2 : decode cX1_refused 2 = .ok (.getfield 42, 3) := dk_180 0 42 (dk_at dksX1_refused_0 2 rfl rfl)
theorem dX1_refused_5 : decode cX1_refused 5 = .ok (.iconst 1, 1) := dk_4 (dk_at dksX1_refused_0 5 rfl rfl)
theorem dX1_refused_6 : decode cX1_refused 6 = .ok (.iadd, 1) := dk_96 (dk_at dksX1_refused_0 6 rfl rfl)
theorem dX1_refused_7 : decode cX1_refused 7 = .ok (.putfield 42, 3) := dk_181 0 42 (dk_at dksX1_refused_0 7 rfl rfl)
theorem dX1_refused_10 : decode cX1_refused 10 = .ok (.bipush (-9), 2) := dk_16 247 (dk_at dksX1_refused_0 10 rfl rfl)
theorem dX1_refused_12 : decode cX1_refused 12 = .ok (.ireturn, 1) := dk_172 (dk_at dksX1_refused_0 12 rfl rfl)
abbrev cX1_widePut : ByteArray := prog_1_method_12_code
def yX1_widePut : MethodName := ⟨RX1, "widePut", "(ILjava/lang/Double;)I"⟩
def dkwX1_widePut_1 : List UInt8 := [96, 181, 0, 84, 45, 44, 182, 0, 87, 154, 0, 7, 4, 167, 0, 4, 3, 184, 0, 91, 172]
abbrev dktX1_widePut_1 : List UInt8 := dkwX1_widePut_1 ++ []
def dkwX1_widePut_0 : List UInt8 := [27, 184, 0, 80, 42, 180, 0, 15, 27, 50, 78, 42, 180, 0, 15, 27, 44, 83, 42, 89, 180, 0, 84, 4]
abbrev dktX1_widePut_0 : List UInt8 := dkwX1_widePut_0 ++ dktX1_widePut_1
theorem dksX1_widePut_0 : cX1_widePut.data.toList.drop 0 = dktX1_widePut_0 := by decide +kernel
theorem dksX1_widePut_1 : cX1_widePut.data.toList.drop 24 = dktX1_widePut_1 := dk_seg dksX1_widePut_0 24 rfl rfl
theorem dX1_widePut_0 : decode cX1_widePut 0 = .ok (.iload_n 1, 1) := dk_27 (dk_at dksX1_widePut_0 0 rfl rfl)
theorem dX1_widePut_1 : decode cX1_widePut 1 = .ok (.invokestatic 80, 3) := dk_184 0 80 (dk_at dksX1_widePut_0 1 rfl rfl)
theorem dX1_widePut_4 : decode cX1_widePut 4 = .ok (.aload_n 0, 1) := dk_42 (dk_at dksX1_widePut_0 4 rfl rfl)
theorem dX1_widePut_5 : decode cX1_widePut 5 = .ok (.getfield 15, 3) := dk_180 0 15 (dk_at dksX1_widePut_0 5 rfl rfl)
theorem dX1_widePut_8 : decode cX1_widePut 8 = .ok (.iload_n 1, 1) := dk_27 (dk_at dksX1_widePut_0 8 rfl rfl)
theorem dX1_widePut_9 : decode cX1_widePut 9 = .ok (.aaload, 1) := dk_50 (dk_at dksX1_widePut_0 9 rfl rfl)
theorem dX1_widePut_10 : decode cX1_widePut 10 = .ok (.astore_n 3, 1) := dk_78 (dk_at dksX1_widePut_0 10 rfl rfl)
theorem dX1_widePut_11 : decode cX1_widePut 11 = .ok (.aload_n 0, 1) := dk_42 (dk_at dksX1_widePut_0 11 rfl rfl)
theorem dX1_widePut_12 : decode cX1_widePut 12 = .ok (.getfield 15, 3) := dk_180 0 15 (dk_at dksX1_widePut_0 12 rfl rfl)
theorem dX1_widePut_15 : decode cX1_widePut 15 = .ok (.iload_n 1, 1) := dk_27 (dk_at dksX1_widePut_0 15 rfl rfl)
theorem dX1_widePut_16 : decode cX1_widePut 16 = .ok (.aload_n 2, 1) := dk_44 (dk_at dksX1_widePut_0 16 rfl rfl)
theorem dX1_widePut_17 : decode cX1_widePut 17 = .ok (.aastore, 1) := dk_83 (dk_at dksX1_widePut_0 17 rfl rfl)
theorem dX1_widePut_18 : decode cX1_widePut 18 = .ok (.aload_n 0, 1) := dk_42 (dk_at dksX1_widePut_0 18 rfl rfl)
theorem dX1_widePut_19 : decode cX1_widePut 19 = .ok (.dup, 1) := dk_89 (dk_at dksX1_widePut_0 19 rfl rfl)
theorem dX1_widePut_20 : decode cX1_widePut 20 = .ok (.getfield 84, 3) := dk_180 0 84 (dk_at dksX1_widePut_0 20 rfl rfl)
theorem dX1_widePut_23 : decode cX1_widePut 23 = .ok (.iconst 1, 1) := dk_4 (dk_at dksX1_widePut_0 23 rfl rfl)
theorem dX1_widePut_24 : decode cX1_widePut 24 = .ok (.iadd, 1) := dk_96 (dk_at dksX1_widePut_1 0 rfl rfl)
theorem dX1_widePut_25 : decode cX1_widePut 25 = .ok (.putfield 84, 3) := dk_181 0 84 (dk_at dksX1_widePut_1 1 rfl rfl)
theorem dX1_widePut_28 : decode cX1_widePut 28 = .ok (.aload_n 3, 1) := dk_45 (dk_at dksX1_widePut_1 4 rfl rfl)
theorem dX1_widePut_29 : decode cX1_widePut 29 = .ok (.aload_n 2, 1) := dk_44 (dk_at dksX1_widePut_1 5 rfl rfl)
theorem dX1_widePut_30 : decode cX1_widePut 30 = .ok (.invokevirtual 87, 3) := dk_182 0 87 (dk_at dksX1_widePut_1 6 rfl rfl)
theorem dX1_widePut_33 : decode cX1_widePut 33 = .ok (.ifCond .ne 7, 3) := dk_154 0 7 (dk_at dksX1_widePut_1 9 rfl rfl)
theorem dX1_widePut_36 : decode cX1_widePut 36 = .ok (.iconst 1, 1) := dk_4 (dk_at dksX1_widePut_1 12 rfl rfl)
theorem dX1_widePut_37 : decode cX1_widePut 37 = .ok (.goto 4, 3) := dk_167 0 4 (dk_at dksX1_widePut_1 13 rfl rfl)
theorem dX1_widePut_40 : decode cX1_widePut 40 = .ok (.iconst 0, 1) := dk_3 (dk_at dksX1_widePut_1 16 rfl rfl)
theorem dX1_widePut_41 : decode cX1_widePut 41 = .ok (.invokestatic 91, 3) := dk_184 0 91 (dk_at dksX1_widePut_1 17 rfl rfl)
theorem dX1_widePut_44 : decode cX1_widePut 44 = .ok (.ireturn, 1) := dk_172 (dk_at dksX1_widePut_1 20 rfl rfl)
abbrev cX1_wideQuarters : ByteArray := prog_1_method_15_code
def yX1_wideQuarters : MethodName := ⟨RX1, "wideQuarters", "(II)I"⟩
def dkwX1_wideQuarters_1 : List UInt8 := [184, 0, 25, 182, 0, 126, 172]
abbrev dktX1_wideQuarters_1 : List UInt8 := dkwX1_wideQuarters_1 ++ []
def dkwX1_wideQuarters_0 : List UInt8 := [27, 184, 0, 80, 28, 18, 130, 18, 131, 184, 0, 32, 184, 0, 132, 42, 27, 28, 135, 20, 0, 136, 107]
abbrev dktX1_wideQuarters_0 : List UInt8 := dkwX1_wideQuarters_0 ++ dktX1_wideQuarters_1
theorem dksX1_wideQuarters_0 : cX1_wideQuarters.data.toList.drop 0 = dktX1_wideQuarters_0 := by decide +kernel
theorem dksX1_wideQuarters_1 : cX1_wideQuarters.data.toList.drop 23 = dktX1_wideQuarters_1 := dk_seg dksX1_wideQuarters_0 23 rfl rfl
theorem dX1_wideQuarters_0 : decode cX1_wideQuarters 0 = .ok (.iload_n 1, 1) := dk_27 (dk_at dksX1_wideQuarters_0 0 rfl rfl)
theorem dX1_wideQuarters_1 : decode cX1_wideQuarters 1 = .ok (.invokestatic 80, 3) := dk_184 0 80 (dk_at dksX1_wideQuarters_0 1 rfl rfl)
theorem dX1_wideQuarters_4 : decode cX1_wideQuarters 4 = .ok (.iload_n 2, 1) := dk_28 (dk_at dksX1_wideQuarters_0 4 rfl rfl)
theorem dX1_wideQuarters_5 : decode cX1_wideQuarters 5 = .ok (.ldc 130, 2) := dk_18 130 (dk_at dksX1_wideQuarters_0 5 rfl rfl)
theorem dX1_wideQuarters_7 : decode cX1_wideQuarters 7 = .ok (.ldc 131, 2) := dk_18 131 (dk_at dksX1_wideQuarters_0 7 rfl rfl)
theorem dX1_wideQuarters_9 : decode cX1_wideQuarters 9 = .ok (.invokestatic 32, 3) := dk_184 0 32 (dk_at dksX1_wideQuarters_0 9 rfl rfl)
theorem dX1_wideQuarters_12 : decode cX1_wideQuarters 12 = .ok (.invokestatic 132, 3) := dk_184 0 132 (dk_at dksX1_wideQuarters_0 12 rfl rfl)
theorem dX1_wideQuarters_15 : decode cX1_wideQuarters 15 = .ok (.aload_n 0, 1) := dk_42 (dk_at dksX1_wideQuarters_0 15 rfl rfl)
theorem dX1_wideQuarters_16 : decode cX1_wideQuarters 16 = .ok (.iload_n 1, 1) := dk_27 (dk_at dksX1_wideQuarters_0 16 rfl rfl)
theorem dX1_wideQuarters_17 : decode cX1_wideQuarters 17 = .ok (.iload_n 2, 1) := dk_28 (dk_at dksX1_wideQuarters_0 17 rfl rfl)
theorem dX1_wideQuarters_18 : decode cX1_wideQuarters 18 = .ok (.i2d, 1) := dk_135 (dk_at dksX1_wideQuarters_0 18 rfl rfl)
theorem dX1_wideQuarters_19 : decode cX1_wideQuarters 19 = .ok (.ldc2_w 136, 3) := dk_20 0 136 (dk_at dksX1_wideQuarters_0 19 rfl rfl)
theorem dX1_wideQuarters_22 : decode cX1_wideQuarters 22 = .ok (.dmul, 1) := dk_107 (dk_at dksX1_wideQuarters_0 22 rfl rfl)
theorem dX1_wideQuarters_23 : decode cX1_wideQuarters 23 = .ok (.invokestatic 25, 3) := dk_184 0 25 (dk_at dksX1_wideQuarters_1 0 rfl rfl)
theorem dX1_wideQuarters_26 : decode cX1_wideQuarters 26 = .ok (.invokevirtual 126, 3) := dk_182 0 126 (dk_at dksX1_wideQuarters_1 3 rfl rfl)
theorem dX1_wideQuarters_29 : decode cX1_wideQuarters 29 = .ok (.ireturn, 1) := dk_172 (dk_at dksX1_wideQuarters_1 6 rfl rfl)
abbrev cX1_wideKnown : ByteArray := prog_1_method_16_code
def yX1_wideKnown : MethodName := ⟨RX1, "wideKnown", "(II)I"⟩
def dkwX1_wideKnown_0 : List UInt8 := [27, 184, 0, 80, 28, 3, 16, 6, 184, 0, 32, 184, 0, 132, 42, 27, 28, 184, 0, 138, 182, 0, 126, 172]
abbrev dktX1_wideKnown_0 : List UInt8 := dkwX1_wideKnown_0 ++ []
theorem dksX1_wideKnown_0 : cX1_wideKnown.data.toList.drop 0 = dktX1_wideKnown_0 := by decide +kernel
theorem dX1_wideKnown_0 : decode cX1_wideKnown 0 = .ok (.iload_n 1, 1) := dk_27 (dk_at dksX1_wideKnown_0 0 rfl rfl)
theorem dX1_wideKnown_1 : decode cX1_wideKnown 1 = .ok (.invokestatic 80, 3) := dk_184 0 80 (dk_at dksX1_wideKnown_0 1 rfl rfl)
theorem dX1_wideKnown_4 : decode cX1_wideKnown 4 = .ok (.iload_n 2, 1) := dk_28 (dk_at dksX1_wideKnown_0 4 rfl rfl)
theorem dX1_wideKnown_5 : decode cX1_wideKnown 5 = .ok (.iconst 0, 1) := dk_3 (dk_at dksX1_wideKnown_0 5 rfl rfl)
theorem dX1_wideKnown_6 : decode cX1_wideKnown 6 = .ok (.bipush 6, 2) := dk_16 6 (dk_at dksX1_wideKnown_0 6 rfl rfl)
theorem dX1_wideKnown_8 : decode cX1_wideKnown 8 = .ok (.invokestatic 32, 3) := dk_184 0 32 (dk_at dksX1_wideKnown_0 8 rfl rfl)
theorem dX1_wideKnown_11 : decode cX1_wideKnown 11 = .ok (.invokestatic 132, 3) := dk_184 0 132 (dk_at dksX1_wideKnown_0 11 rfl rfl)
theorem dX1_wideKnown_14 : decode cX1_wideKnown 14 = .ok (.aload_n 0, 1) := dk_42 (dk_at dksX1_wideKnown_0 14 rfl rfl)
theorem dX1_wideKnown_15 : decode cX1_wideKnown 15 = .ok (.iload_n 1, 1) := dk_27 (dk_at dksX1_wideKnown_0 15 rfl rfl)
theorem dX1_wideKnown_16 : decode cX1_wideKnown 16 = .ok (.iload_n 2, 1) := dk_28 (dk_at dksX1_wideKnown_0 16 rfl rfl)
theorem dX1_wideKnown_17 : decode cX1_wideKnown 17 = .ok (.invokestatic 138, 3) := dk_184 0 138 (dk_at dksX1_wideKnown_0 17 rfl rfl)
theorem dX1_wideKnown_20 : decode cX1_wideKnown 20 = .ok (.invokevirtual 126, 3) := dk_182 0 126 (dk_at dksX1_wideKnown_0 20 rfl rfl)
theorem dX1_wideKnown_23 : decode cX1_wideKnown 23 = .ok (.ireturn, 1) := dk_172 (dk_at dksX1_wideKnown_0 23 rfl rfl)
abbrev cX1_wideKnownOne : ByteArray := prog_1_method_10_code
def yX1_wideKnownOne : MethodName := ⟨RX1, "wideKnownOne", "(I)Ljava/lang/Double;"⟩
def dkwX1_wideKnownOne_4 : List UInt8 := [176]
abbrev dktX1_wideKnownOne_4 : List UInt8 := dkwX1_wideKnownOne_4 ++ []
def dkwX1_wideKnownOne_3 : List UInt8 := [184, 0, 25, 176, 20, 0, 74, 184, 0, 25, 176, 20, 0, 76, 184, 0, 25, 176, 20, 0, 78, 184, 0, 25]
abbrev dktX1_wideKnownOne_3 : List UInt8 := dkwX1_wideKnownOne_3 ++ dktX1_wideKnownOne_4
def dkwX1_wideKnownOne_2 : List UInt8 := [14, 184, 0, 25, 176, 20, 0, 68, 184, 0, 25, 176, 20, 0, 70, 184, 0, 25, 176, 20, 0, 72]
abbrev dktX1_wideKnownOne_2 : List UInt8 := dkwX1_wideKnownOne_2 ++ dktX1_wideKnownOne_3
def dkwX1_wideKnownOne_1 : List UInt8 := [170, 0, 0, 0, 0, 0, 79, 0, 0, 0, 0, 0, 0, 0, 5, 0, 0, 0, 39, 0, 0, 0, 44, 0, 0, 0, 51, 0, 0, 0, 58, 0, 0, 0, 65, 0, 0, 0, 72]
abbrev dktX1_wideKnownOne_1 : List UInt8 := dkwX1_wideKnownOne_1 ++ dktX1_wideKnownOne_2
def dkwX1_wideKnownOne_0 : List UInt8 := [26]
abbrev dktX1_wideKnownOne_0 : List UInt8 := dkwX1_wideKnownOne_0 ++ dktX1_wideKnownOne_1
theorem dksX1_wideKnownOne_0 : cX1_wideKnownOne.data.toList.drop 0 = dktX1_wideKnownOne_0 := by decide +kernel
theorem dksX1_wideKnownOne_1 : cX1_wideKnownOne.data.toList.drop 1 = dktX1_wideKnownOne_1 := dk_seg dksX1_wideKnownOne_0 1 rfl rfl
theorem dksX1_wideKnownOne_2 : cX1_wideKnownOne.data.toList.drop 40 = dktX1_wideKnownOne_2 := dk_seg dksX1_wideKnownOne_1 39 rfl rfl
theorem dksX1_wideKnownOne_3 : cX1_wideKnownOne.data.toList.drop 62 = dktX1_wideKnownOne_3 := dk_seg dksX1_wideKnownOne_2 22 rfl rfl
theorem dksX1_wideKnownOne_4 : cX1_wideKnownOne.data.toList.drop 86 = dktX1_wideKnownOne_4 := dk_seg dksX1_wideKnownOne_3 24 rfl rfl
theorem dX1_wideKnownOne_0 : decode cX1_wideKnownOne 0 = .ok (.iload_n 0, 1) := dk_26 (dk_at dksX1_wideKnownOne_0 0 rfl rfl)
theorem dX1_wideKnownOne_1 : decode cX1_wideKnownOne 1 = .ok (.tableswitch 79 0 5 #[39, 44, 51, 58, 65, 72], 39) := by decide +kernel
theorem dX1_wideKnownOne_40 : decode cX1_wideKnownOne 40 = .ok (.dconst 0, 1) := dk_14 (dk_at dksX1_wideKnownOne_2 0 rfl rfl)
theorem dX1_wideKnownOne_41 : decode cX1_wideKnownOne 41 = .ok (.invokestatic 25, 3) := dk_184 0 25 (dk_at dksX1_wideKnownOne_2 1 rfl rfl)
theorem dX1_wideKnownOne_44 : decode cX1_wideKnownOne 44 = .ok (.areturn, 1) := dk_176 (dk_at dksX1_wideKnownOne_2 4 rfl rfl)
theorem dX1_wideKnownOne_45 : decode cX1_wideKnownOne 45 = .ok (.ldc2_w 68, 3) := dk_20 0 68 (dk_at dksX1_wideKnownOne_2 5 rfl rfl)
theorem dX1_wideKnownOne_48 : decode cX1_wideKnownOne 48 = .ok (.invokestatic 25, 3) := dk_184 0 25 (dk_at dksX1_wideKnownOne_2 8 rfl rfl)
theorem dX1_wideKnownOne_51 : decode cX1_wideKnownOne 51 = .ok (.areturn, 1) := dk_176 (dk_at dksX1_wideKnownOne_2 11 rfl rfl)
theorem dX1_wideKnownOne_52 : decode cX1_wideKnownOne 52 = .ok (.ldc2_w 70, 3) := dk_20 0 70 (dk_at dksX1_wideKnownOne_2 12 rfl rfl)
theorem dX1_wideKnownOne_55 : decode cX1_wideKnownOne 55 = .ok (.invokestatic 25, 3) := dk_184 0 25 (dk_at dksX1_wideKnownOne_2 15 rfl rfl)
theorem dX1_wideKnownOne_58 : decode cX1_wideKnownOne 58 = .ok (.areturn, 1) := dk_176 (dk_at dksX1_wideKnownOne_2 18 rfl rfl)
theorem dX1_wideKnownOne_59 : decode cX1_wideKnownOne 59 = .ok (.ldc2_w 72, 3) := dk_20 0 72 (dk_at dksX1_wideKnownOne_2 19 rfl rfl)
theorem dX1_wideKnownOne_62 : decode cX1_wideKnownOne 62 = .ok (.invokestatic 25, 3) := dk_184 0 25 (dk_at dksX1_wideKnownOne_3 0 rfl rfl)
theorem dX1_wideKnownOne_65 : decode cX1_wideKnownOne 65 = .ok (.areturn, 1) := dk_176 (dk_at dksX1_wideKnownOne_3 3 rfl rfl)
theorem dX1_wideKnownOne_66 : decode cX1_wideKnownOne 66 = .ok (.ldc2_w 74, 3) := dk_20 0 74 (dk_at dksX1_wideKnownOne_3 4 rfl rfl)
theorem dX1_wideKnownOne_69 : decode cX1_wideKnownOne 69 = .ok (.invokestatic 25, 3) := dk_184 0 25 (dk_at dksX1_wideKnownOne_3 7 rfl rfl)
theorem dX1_wideKnownOne_72 : decode cX1_wideKnownOne 72 = .ok (.areturn, 1) := dk_176 (dk_at dksX1_wideKnownOne_3 10 rfl rfl)
theorem dX1_wideKnownOne_73 : decode cX1_wideKnownOne 73 = .ok (.ldc2_w 76, 3) := dk_20 0 76 (dk_at dksX1_wideKnownOne_3 11 rfl rfl)
theorem dX1_wideKnownOne_76 : decode cX1_wideKnownOne 76 = .ok (.invokestatic 25, 3) := dk_184 0 25 (dk_at dksX1_wideKnownOne_3 14 rfl rfl)
theorem dX1_wideKnownOne_79 : decode cX1_wideKnownOne 79 = .ok (.areturn, 1) := dk_176 (dk_at dksX1_wideKnownOne_3 17 rfl rfl)
theorem dX1_wideKnownOne_80 : decode cX1_wideKnownOne 80 = .ok (.ldc2_w 78, 3) := dk_20 0 78 (dk_at dksX1_wideKnownOne_3 18 rfl rfl)
theorem dX1_wideKnownOne_83 : decode cX1_wideKnownOne 83 = .ok (.invokestatic 25, 3) := dk_184 0 25 (dk_at dksX1_wideKnownOne_3 21 rfl rfl)
theorem dX1_wideKnownOne_86 : decode cX1_wideKnownOne 86 = .ok (.areturn, 1) := dk_176 (dk_at dksX1_wideKnownOne_4 0 rfl rfl)
abbrev cX1_wideCopy : ByteArray := prog_1_method_17_code
def yX1_wideCopy : MethodName := ⟨RX1, "wideCopy", "(II)I"⟩
def dkwX1_wideCopy_0 : List UInt8 := [42, 28, 42, 27, 182, 0, 142, 182, 0, 126, 172]
abbrev dktX1_wideCopy_0 : List UInt8 := dkwX1_wideCopy_0 ++ []
theorem dksX1_wideCopy_0 : cX1_wideCopy.data.toList.drop 0 = dktX1_wideCopy_0 := by decide +kernel
theorem dX1_wideCopy_0 : decode cX1_wideCopy 0 = .ok (.aload_n 0, 1) := dk_42 (dk_at dksX1_wideCopy_0 0 rfl rfl)
theorem dX1_wideCopy_1 : decode cX1_wideCopy 1 = .ok (.iload_n 2, 1) := dk_28 (dk_at dksX1_wideCopy_0 1 rfl rfl)
theorem dX1_wideCopy_2 : decode cX1_wideCopy 2 = .ok (.aload_n 0, 1) := dk_42 (dk_at dksX1_wideCopy_0 2 rfl rfl)
theorem dX1_wideCopy_3 : decode cX1_wideCopy 3 = .ok (.iload_n 1, 1) := dk_27 (dk_at dksX1_wideCopy_0 3 rfl rfl)
theorem dX1_wideCopy_4 : decode cX1_wideCopy 4 = .ok (.invokevirtual 142, 3) := dk_182 0 142 (dk_at dksX1_wideCopy_0 4 rfl rfl)
theorem dX1_wideCopy_7 : decode cX1_wideCopy 7 = .ok (.invokevirtual 126, 3) := dk_182 0 126 (dk_at dksX1_wideCopy_0 7 rfl rfl)
theorem dX1_wideCopy_10 : decode cX1_wideCopy 10 = .ok (.ireturn, 1) := dk_172 (dk_at dksX1_wideCopy_0 10 rfl rfl)
abbrev cX1_wideSwap : ByteArray := prog_1_method_18_code
def yX1_wideSwap : MethodName := ⟨RX1, "wideSwap", "(II)I"⟩
def dkwX1_wideSwap_1 : List UInt8 := [182, 0, 126, 172]
abbrev dktX1_wideSwap_1 : List UInt8 := dkwX1_wideSwap_1 ++ []
def dkwX1_wideSwap_0 : List UInt8 := [42, 27, 182, 0, 142, 78, 42, 28, 182, 0, 142, 58, 4, 42, 180, 0, 15, 28, 45, 83, 42, 27, 25, 4]
abbrev dktX1_wideSwap_0 : List UInt8 := dkwX1_wideSwap_0 ++ dktX1_wideSwap_1
theorem dksX1_wideSwap_0 : cX1_wideSwap.data.toList.drop 0 = dktX1_wideSwap_0 := by decide +kernel
theorem dksX1_wideSwap_1 : cX1_wideSwap.data.toList.drop 24 = dktX1_wideSwap_1 := dk_seg dksX1_wideSwap_0 24 rfl rfl
theorem dX1_wideSwap_0 : decode cX1_wideSwap 0 = .ok (.aload_n 0, 1) := dk_42 (dk_at dksX1_wideSwap_0 0 rfl rfl)
theorem dX1_wideSwap_1 : decode cX1_wideSwap 1 = .ok (.iload_n 1, 1) := dk_27 (dk_at dksX1_wideSwap_0 1 rfl rfl)
theorem dX1_wideSwap_2 : decode cX1_wideSwap 2 = .ok (.invokevirtual 142, 3) := dk_182 0 142 (dk_at dksX1_wideSwap_0 2 rfl rfl)
theorem dX1_wideSwap_5 : decode cX1_wideSwap 5 = .ok (.astore_n 3, 1) := dk_78 (dk_at dksX1_wideSwap_0 5 rfl rfl)
theorem dX1_wideSwap_6 : decode cX1_wideSwap 6 = .ok (.aload_n 0, 1) := dk_42 (dk_at dksX1_wideSwap_0 6 rfl rfl)
theorem dX1_wideSwap_7 : decode cX1_wideSwap 7 = .ok (.iload_n 2, 1) := dk_28 (dk_at dksX1_wideSwap_0 7 rfl rfl)
theorem dX1_wideSwap_8 : decode cX1_wideSwap 8 = .ok (.invokevirtual 142, 3) := dk_182 0 142 (dk_at dksX1_wideSwap_0 8 rfl rfl)
theorem dX1_wideSwap_11 : decode cX1_wideSwap 11 = .ok (.astore 4, 2) := dk_58 4 (dk_at dksX1_wideSwap_0 11 rfl rfl)
theorem dX1_wideSwap_13 : decode cX1_wideSwap 13 = .ok (.aload_n 0, 1) := dk_42 (dk_at dksX1_wideSwap_0 13 rfl rfl)
theorem dX1_wideSwap_14 : decode cX1_wideSwap 14 = .ok (.getfield 15, 3) := dk_180 0 15 (dk_at dksX1_wideSwap_0 14 rfl rfl)
theorem dX1_wideSwap_17 : decode cX1_wideSwap 17 = .ok (.iload_n 2, 1) := dk_28 (dk_at dksX1_wideSwap_0 17 rfl rfl)
theorem dX1_wideSwap_18 : decode cX1_wideSwap 18 = .ok (.aload_n 3, 1) := dk_45 (dk_at dksX1_wideSwap_0 18 rfl rfl)
theorem dX1_wideSwap_19 : decode cX1_wideSwap 19 = .ok (.aastore, 1) := dk_83 (dk_at dksX1_wideSwap_0 19 rfl rfl)
theorem dX1_wideSwap_20 : decode cX1_wideSwap 20 = .ok (.aload_n 0, 1) := dk_42 (dk_at dksX1_wideSwap_0 20 rfl rfl)
theorem dX1_wideSwap_21 : decode cX1_wideSwap 21 = .ok (.iload_n 1, 1) := dk_27 (dk_at dksX1_wideSwap_0 21 rfl rfl)
theorem dX1_wideSwap_22 : decode cX1_wideSwap 22 = .ok (.aload 4, 2) := dk_25 4 (dk_at dksX1_wideSwap_0 22 rfl rfl)
theorem dX1_wideSwap_24 : decode cX1_wideSwap 24 = .ok (.invokevirtual 126, 3) := dk_182 0 126 (dk_at dksX1_wideSwap_1 0 rfl rfl)
theorem dX1_wideSwap_27 : decode cX1_wideSwap 27 = .ok (.ireturn, 1) := dk_172 (dk_at dksX1_wideSwap_1 3 rfl rfl)
abbrev cX1_wideMax : ByteArray := prog_1_method_19_code
def yX1_wideMax : MethodName := ⟨RX1, "wideMax", "(III)I"⟩
def dkwX1_wideMax_1 : List UInt8 := [182, 0, 126, 172]
abbrev dktX1_wideMax_1 : List UInt8 := dkwX1_wideMax_1 ++ []
def dkwX1_wideMax_0 : List UInt8 := [42, 29, 42, 27, 182, 0, 142, 182, 0, 95, 42, 28, 182, 0, 142, 182, 0, 95, 184, 0, 145, 184, 0, 25]
abbrev dktX1_wideMax_0 : List UInt8 := dkwX1_wideMax_0 ++ dktX1_wideMax_1
theorem dksX1_wideMax_0 : cX1_wideMax.data.toList.drop 0 = dktX1_wideMax_0 := by decide +kernel
theorem dksX1_wideMax_1 : cX1_wideMax.data.toList.drop 24 = dktX1_wideMax_1 := dk_seg dksX1_wideMax_0 24 rfl rfl
theorem dX1_wideMax_0 : decode cX1_wideMax 0 = .ok (.aload_n 0, 1) := dk_42 (dk_at dksX1_wideMax_0 0 rfl rfl)
theorem dX1_wideMax_1 : decode cX1_wideMax 1 = .ok (.iload_n 3, 1) := dk_29 (dk_at dksX1_wideMax_0 1 rfl rfl)
theorem dX1_wideMax_2 : decode cX1_wideMax 2 = .ok (.aload_n 0, 1) := dk_42 (dk_at dksX1_wideMax_0 2 rfl rfl)
theorem dX1_wideMax_3 : decode cX1_wideMax 3 = .ok (.iload_n 1, 1) := dk_27 (dk_at dksX1_wideMax_0 3 rfl rfl)
theorem dX1_wideMax_4 : decode cX1_wideMax 4 = .ok (.invokevirtual 142, 3) := dk_182 0 142 (dk_at dksX1_wideMax_0 4 rfl rfl)
theorem dX1_wideMax_7 : decode cX1_wideMax 7 = .ok (.invokevirtual 95, 3) := dk_182 0 95 (dk_at dksX1_wideMax_0 7 rfl rfl)
theorem dX1_wideMax_10 : decode cX1_wideMax 10 = .ok (.aload_n 0, 1) := dk_42 (dk_at dksX1_wideMax_0 10 rfl rfl)
theorem dX1_wideMax_11 : decode cX1_wideMax 11 = .ok (.iload_n 2, 1) := dk_28 (dk_at dksX1_wideMax_0 11 rfl rfl)
theorem dX1_wideMax_12 : decode cX1_wideMax 12 = .ok (.invokevirtual 142, 3) := dk_182 0 142 (dk_at dksX1_wideMax_0 12 rfl rfl)
theorem dX1_wideMax_15 : decode cX1_wideMax 15 = .ok (.invokevirtual 95, 3) := dk_182 0 95 (dk_at dksX1_wideMax_0 15 rfl rfl)
theorem dX1_wideMax_18 : decode cX1_wideMax 18 = .ok (.invokestatic 145, 3) := dk_184 0 145 (dk_at dksX1_wideMax_0 18 rfl rfl)
theorem dX1_wideMax_21 : decode cX1_wideMax 21 = .ok (.invokestatic 25, 3) := dk_184 0 25 (dk_at dksX1_wideMax_0 21 rfl rfl)
theorem dX1_wideMax_24 : decode cX1_wideMax 24 = .ok (.invokevirtual 126, 3) := dk_182 0 126 (dk_at dksX1_wideMax_1 0 rfl rfl)
theorem dX1_wideMax_27 : decode cX1_wideMax 27 = .ok (.ireturn, 1) := dk_172 (dk_at dksX1_wideMax_1 3 rfl rfl)
abbrev cX1_wideMin : ByteArray := prog_1_method_20_code
def yX1_wideMin : MethodName := ⟨RX1, "wideMin", "(III)I"⟩
def dkwX1_wideMin_1 : List UInt8 := [182, 0, 126, 172]
abbrev dktX1_wideMin_1 : List UInt8 := dkwX1_wideMin_1 ++ []
def dkwX1_wideMin_0 : List UInt8 := [42, 29, 42, 27, 182, 0, 142, 182, 0, 95, 42, 28, 182, 0, 142, 182, 0, 95, 184, 0, 149, 184, 0, 25]
abbrev dktX1_wideMin_0 : List UInt8 := dkwX1_wideMin_0 ++ dktX1_wideMin_1
theorem dksX1_wideMin_0 : cX1_wideMin.data.toList.drop 0 = dktX1_wideMin_0 := by decide +kernel
theorem dksX1_wideMin_1 : cX1_wideMin.data.toList.drop 24 = dktX1_wideMin_1 := dk_seg dksX1_wideMin_0 24 rfl rfl
theorem dX1_wideMin_0 : decode cX1_wideMin 0 = .ok (.aload_n 0, 1) := dk_42 (dk_at dksX1_wideMin_0 0 rfl rfl)
theorem dX1_wideMin_1 : decode cX1_wideMin 1 = .ok (.iload_n 3, 1) := dk_29 (dk_at dksX1_wideMin_0 1 rfl rfl)
theorem dX1_wideMin_2 : decode cX1_wideMin 2 = .ok (.aload_n 0, 1) := dk_42 (dk_at dksX1_wideMin_0 2 rfl rfl)
theorem dX1_wideMin_3 : decode cX1_wideMin 3 = .ok (.iload_n 1, 1) := dk_27 (dk_at dksX1_wideMin_0 3 rfl rfl)
theorem dX1_wideMin_4 : decode cX1_wideMin 4 = .ok (.invokevirtual 142, 3) := dk_182 0 142 (dk_at dksX1_wideMin_0 4 rfl rfl)
theorem dX1_wideMin_7 : decode cX1_wideMin 7 = .ok (.invokevirtual 95, 3) := dk_182 0 95 (dk_at dksX1_wideMin_0 7 rfl rfl)
theorem dX1_wideMin_10 : decode cX1_wideMin 10 = .ok (.aload_n 0, 1) := dk_42 (dk_at dksX1_wideMin_0 10 rfl rfl)
theorem dX1_wideMin_11 : decode cX1_wideMin 11 = .ok (.iload_n 2, 1) := dk_28 (dk_at dksX1_wideMin_0 11 rfl rfl)
theorem dX1_wideMin_12 : decode cX1_wideMin 12 = .ok (.invokevirtual 142, 3) := dk_182 0 142 (dk_at dksX1_wideMin_0 12 rfl rfl)
theorem dX1_wideMin_15 : decode cX1_wideMin 15 = .ok (.invokevirtual 95, 3) := dk_182 0 95 (dk_at dksX1_wideMin_0 15 rfl rfl)
theorem dX1_wideMin_18 : decode cX1_wideMin 18 = .ok (.invokestatic 149, 3) := dk_184 0 149 (dk_at dksX1_wideMin_0 18 rfl rfl)
theorem dX1_wideMin_21 : decode cX1_wideMin 21 = .ok (.invokestatic 25, 3) := dk_184 0 25 (dk_at dksX1_wideMin_0 21 rfl rfl)
theorem dX1_wideMin_24 : decode cX1_wideMin 24 = .ok (.invokevirtual 126, 3) := dk_182 0 126 (dk_at dksX1_wideMin_1 0 rfl rfl)
theorem dX1_wideMin_27 : decode cX1_wideMin 27 = .ok (.ireturn, 1) := dk_172 (dk_at dksX1_wideMin_1 3 rfl rfl)
abbrev cX1_wideSum : ByteArray := prog_1_method_21_code
def yX1_wideSum : MethodName := ⟨RX1, "wideSum", "(III)I"⟩
def dkwX1_wideSum_2 : List UInt8 := [182, 0, 126, 167, 0, 7, 42, 182, 0, 119, 172]
abbrev dktX1_wideSum_2 : List UInt8 := dkwX1_wideSum_2 ++ []
def dkwX1_wideSum_1 : List UInt8 := [184, 0, 152, 153, 0, 27, 42, 29, 25, 4, 182, 0, 95, 25, 5, 182, 0, 95, 184, 0, 156, 184, 0, 25]
abbrev dktX1_wideSum_1 : List UInt8 := dkwX1_wideSum_1 ++ dktX1_wideSum_2
def dkwX1_wideSum_0 : List UInt8 := [42, 27, 182, 0, 142, 58, 4, 42, 28, 182, 0, 142, 58, 5, 29, 184, 0, 80, 25, 4, 25, 5]
abbrev dktX1_wideSum_0 : List UInt8 := dkwX1_wideSum_0 ++ dktX1_wideSum_1
theorem dksX1_wideSum_0 : cX1_wideSum.data.toList.drop 0 = dktX1_wideSum_0 := by decide +kernel
theorem dksX1_wideSum_1 : cX1_wideSum.data.toList.drop 22 = dktX1_wideSum_1 := dk_seg dksX1_wideSum_0 22 rfl rfl
theorem dksX1_wideSum_2 : cX1_wideSum.data.toList.drop 46 = dktX1_wideSum_2 := dk_seg dksX1_wideSum_1 24 rfl rfl
theorem dX1_wideSum_0 : decode cX1_wideSum 0 = .ok (.aload_n 0, 1) := dk_42 (dk_at dksX1_wideSum_0 0 rfl rfl)
theorem dX1_wideSum_1 : decode cX1_wideSum 1 = .ok (.iload_n 1, 1) := dk_27 (dk_at dksX1_wideSum_0 1 rfl rfl)
theorem dX1_wideSum_2 : decode cX1_wideSum 2 = .ok (.invokevirtual 142, 3) := dk_182 0 142 (dk_at dksX1_wideSum_0 2 rfl rfl)
theorem dX1_wideSum_5 : decode cX1_wideSum 5 = .ok (.astore 4, 2) := dk_58 4 (dk_at dksX1_wideSum_0 5 rfl rfl)
theorem dX1_wideSum_7 : decode cX1_wideSum 7 = .ok (.aload_n 0, 1) := dk_42 (dk_at dksX1_wideSum_0 7 rfl rfl)
theorem dX1_wideSum_8 : decode cX1_wideSum 8 = .ok (.iload_n 2, 1) := dk_28 (dk_at dksX1_wideSum_0 8 rfl rfl)
theorem dX1_wideSum_9 : decode cX1_wideSum 9 = .ok (.invokevirtual 142, 3) := dk_182 0 142 (dk_at dksX1_wideSum_0 9 rfl rfl)
theorem dX1_wideSum_12 : decode cX1_wideSum 12 = .ok (.astore 5, 2) := dk_58 5 (dk_at dksX1_wideSum_0 12 rfl rfl)
theorem dX1_wideSum_14 : decode cX1_wideSum 14 = .ok (.iload_n 3, 1) := dk_29 (dk_at dksX1_wideSum_0 14 rfl rfl)
theorem dX1_wideSum_15 : decode cX1_wideSum 15 = .ok (.invokestatic 80, 3) := dk_184 0 80 (dk_at dksX1_wideSum_0 15 rfl rfl)
theorem dX1_wideSum_18 : decode cX1_wideSum 18 = .ok (.aload 4, 2) := dk_25 4 (dk_at dksX1_wideSum_0 18 rfl rfl)
theorem dX1_wideSum_20 : decode cX1_wideSum 20 = .ok (.aload 5, 2) := dk_25 5 (dk_at dksX1_wideSum_0 20 rfl rfl)
theorem dX1_wideSum_22 : decode cX1_wideSum 22 = .ok (.invokestatic 152, 3) := dk_184 0 152 (dk_at dksX1_wideSum_1 0 rfl rfl)
theorem dX1_wideSum_25 : decode cX1_wideSum 25 = .ok (.ifCond .eq 27, 3) := dk_153 0 27 (dk_at dksX1_wideSum_1 3 rfl rfl)
theorem dX1_wideSum_28 : decode cX1_wideSum 28 = .ok (.aload_n 0, 1) := dk_42 (dk_at dksX1_wideSum_1 6 rfl rfl)
theorem dX1_wideSum_29 : decode cX1_wideSum 29 = .ok (.iload_n 3, 1) := dk_29 (dk_at dksX1_wideSum_1 7 rfl rfl)
theorem dX1_wideSum_30 : decode cX1_wideSum 30 = .ok (.aload 4, 2) := dk_25 4 (dk_at dksX1_wideSum_1 8 rfl rfl)
theorem dX1_wideSum_32 : decode cX1_wideSum 32 = .ok (.invokevirtual 95, 3) := dk_182 0 95 (dk_at dksX1_wideSum_1 10 rfl rfl)
theorem dX1_wideSum_35 : decode cX1_wideSum 35 = .ok (.aload 5, 2) := dk_25 5 (dk_at dksX1_wideSum_1 13 rfl rfl)
theorem dX1_wideSum_37 : decode cX1_wideSum 37 = .ok (.invokevirtual 95, 3) := dk_182 0 95 (dk_at dksX1_wideSum_1 15 rfl rfl)
theorem dX1_wideSum_40 : decode cX1_wideSum 40 = .ok (.invokestatic 156, 3) := dk_184 0 156 (dk_at dksX1_wideSum_1 18 rfl rfl)
theorem dX1_wideSum_43 : decode cX1_wideSum 43 = .ok (.invokestatic 25, 3) := dk_184 0 25 (dk_at dksX1_wideSum_1 21 rfl rfl)
theorem dX1_wideSum_46 : decode cX1_wideSum 46 = .ok (.invokevirtual 126, 3) := dk_182 0 126 (dk_at dksX1_wideSum_2 0 rfl rfl)
theorem dX1_wideSum_49 : decode cX1_wideSum 49 = .ok (.goto 7, 3) := dk_167 0 7 (dk_at dksX1_wideSum_2 3 rfl rfl)
theorem dX1_wideSum_52 : decode cX1_wideSum 52 = .ok (.aload_n 0, 1) := dk_42 (dk_at dksX1_wideSum_2 6 rfl rfl)
theorem dX1_wideSum_53 : decode cX1_wideSum 53 = .ok (.invokevirtual 119, 3) := dk_182 0 119 (dk_at dksX1_wideSum_2 7 rfl rfl)
theorem dX1_wideSum_56 : decode cX1_wideSum 56 = .ok (.ireturn, 1) := dk_172 (dk_at dksX1_wideSum_2 10 rfl rfl)
abbrev cX1_haveSum : ByteArray := prog_1_method_13_code
def yX1_haveSum : MethodName := ⟨RX1, "haveSum", "(Ljava/lang/Double;Ljava/lang/Double;)Z"⟩
def dkwX1_haveSum_3 : List UInt8 := [159, 0, 22, 28, 133, 29, 133, 97, 184, 0, 107, 20, 0, 66, 148, 157, 0, 7, 4, 167, 0, 4, 3, 172]
abbrev dktX1_haveSum_3 : List UInt8 := dkwX1_haveSum_3 ++ []
def dkwX1_haveSum_2 : List UInt8 := [153, 0, 15, 28, 18, 61, 159, 0, 7, 4, 167, 0, 4, 3, 172, 28, 18, 61, 159, 0, 28, 29, 18, 61]
abbrev dktX1_haveSum_2 : List UInt8 := dkwX1_haveSum_2 ++ dktX1_haveSum_3
def dkwX1_haveSum_1 : List UInt8 := [18, 61, 160, 0, 11, 42, 43, 182, 0, 87, 153, 0, 7, 4, 167, 0, 4, 3, 172, 43, 182, 0, 103]
abbrev dktX1_haveSum_1 : List UInt8 := dkwX1_haveSum_1 ++ dktX1_haveSum_2
def dkwX1_haveSum_0 : List UInt8 := [42, 182, 0, 95, 184, 0, 99, 61, 43, 182, 0, 95, 184, 0, 99, 62, 42, 182, 0, 103, 153, 0, 23, 29]
abbrev dktX1_haveSum_0 : List UInt8 := dkwX1_haveSum_0 ++ dktX1_haveSum_1
theorem dksX1_haveSum_0 : cX1_haveSum.data.toList.drop 0 = dktX1_haveSum_0 := by decide +kernel
theorem dksX1_haveSum_1 : cX1_haveSum.data.toList.drop 24 = dktX1_haveSum_1 := dk_seg dksX1_haveSum_0 24 rfl rfl
theorem dksX1_haveSum_2 : cX1_haveSum.data.toList.drop 47 = dktX1_haveSum_2 := dk_seg dksX1_haveSum_1 23 rfl rfl
theorem dksX1_haveSum_3 : cX1_haveSum.data.toList.drop 71 = dktX1_haveSum_3 := dk_seg dksX1_haveSum_2 24 rfl rfl
theorem dX1_haveSum_0 : decode cX1_haveSum 0 = .ok (.aload_n 0, 1) := dk_42 (dk_at dksX1_haveSum_0 0 rfl rfl)
theorem dX1_haveSum_1 : decode cX1_haveSum 1 = .ok (.invokevirtual 95, 3) := dk_182 0 95 (dk_at dksX1_haveSum_0 1 rfl rfl)
theorem dX1_haveSum_4 : decode cX1_haveSum 4 = .ok (.invokestatic 99, 3) := dk_184 0 99 (dk_at dksX1_haveSum_0 4 rfl rfl)
theorem dX1_haveSum_7 : decode cX1_haveSum 7 = .ok (.istore_n 2, 1) := dk_61 (dk_at dksX1_haveSum_0 7 rfl rfl)
theorem dX1_haveSum_8 : decode cX1_haveSum 8 = .ok (.aload_n 1, 1) := dk_43 (dk_at dksX1_haveSum_0 8 rfl rfl)
theorem dX1_haveSum_9 : decode cX1_haveSum 9 = .ok (.invokevirtual 95, 3) := dk_182 0 95 (dk_at dksX1_haveSum_0 9 rfl rfl)
theorem dX1_haveSum_12 : decode cX1_haveSum 12 = .ok (.invokestatic 99, 3) := dk_184 0 99 (dk_at dksX1_haveSum_0 12 rfl rfl)
theorem dX1_haveSum_15 : decode cX1_haveSum 15 = .ok (.istore_n 3, 1) := dk_62 (dk_at dksX1_haveSum_0 15 rfl rfl)
theorem dX1_haveSum_16 : decode cX1_haveSum 16 = .ok (.aload_n 0, 1) := dk_42 (dk_at dksX1_haveSum_0 16 rfl rfl)
theorem dX1_haveSum_17 : decode cX1_haveSum 17 = .ok (.invokevirtual 103, 3) := dk_182 0 103 (dk_at dksX1_haveSum_0 17 rfl rfl)
theorem dX1_haveSum_20 : decode cX1_haveSum 20 = .ok (.ifCond .eq 23, 3) := dk_153 0 23 (dk_at dksX1_haveSum_0 20 rfl rfl)
theorem dX1_haveSum_23 : decode cX1_haveSum 23 = .ok (.iload_n 3, 1) := dk_29 (dk_at dksX1_haveSum_0 23 rfl rfl)
theorem dX1_haveSum_24 : decode cX1_haveSum 24 = .ok (.ldc 61, 2) := dk_18 61 (dk_at dksX1_haveSum_1 0 rfl rfl)
theorem dX1_haveSum_26 : decode cX1_haveSum 26 = .ok (.if_icmp .ne 11, 3) := dk_160 0 11 (dk_at dksX1_haveSum_1 2 rfl rfl)
theorem dX1_haveSum_29 : decode cX1_haveSum 29 = .ok (.aload_n 0, 1) := dk_42 (dk_at dksX1_haveSum_1 5 rfl rfl)
theorem dX1_haveSum_30 : decode cX1_haveSum 30 = .ok (.aload_n 1, 1) := dk_43 (dk_at dksX1_haveSum_1 6 rfl rfl)
theorem dX1_haveSum_31 : decode cX1_haveSum 31 = .ok (.invokevirtual 87, 3) := dk_182 0 87 (dk_at dksX1_haveSum_1 7 rfl rfl)
theorem dX1_haveSum_34 : decode cX1_haveSum 34 = .ok (.ifCond .eq 7, 3) := dk_153 0 7 (dk_at dksX1_haveSum_1 10 rfl rfl)
theorem dX1_haveSum_37 : decode cX1_haveSum 37 = .ok (.iconst 1, 1) := dk_4 (dk_at dksX1_haveSum_1 13 rfl rfl)
theorem dX1_haveSum_38 : decode cX1_haveSum 38 = .ok (.goto 4, 3) := dk_167 0 4 (dk_at dksX1_haveSum_1 14 rfl rfl)
theorem dX1_haveSum_41 : decode cX1_haveSum 41 = .ok (.iconst 0, 1) := dk_3 (dk_at dksX1_haveSum_1 17 rfl rfl)
theorem dX1_haveSum_42 : decode cX1_haveSum 42 = .ok (.ireturn, 1) := dk_172 (dk_at dksX1_haveSum_1 18 rfl rfl)
theorem dX1_haveSum_43 : decode cX1_haveSum 43 = .ok (.aload_n 1, 1) := dk_43 (dk_at dksX1_haveSum_1 19 rfl rfl)
theorem dX1_haveSum_44 : decode cX1_haveSum 44 = .ok (.invokevirtual 103, 3) := dk_182 0 103 (dk_at dksX1_haveSum_1 20 rfl rfl)
theorem dX1_haveSum_47 : decode cX1_haveSum 47 = .ok (.ifCond .eq 15, 3) := dk_153 0 15 (dk_at dksX1_haveSum_2 0 rfl rfl)
theorem dX1_haveSum_50 : decode cX1_haveSum 50 = .ok (.iload_n 2, 1) := dk_28 (dk_at dksX1_haveSum_2 3 rfl rfl)
theorem dX1_haveSum_51 : decode cX1_haveSum 51 = .ok (.ldc 61, 2) := dk_18 61 (dk_at dksX1_haveSum_2 4 rfl rfl)
theorem dX1_haveSum_53 : decode cX1_haveSum 53 = .ok (.if_icmp .eq 7, 3) := dk_159 0 7 (dk_at dksX1_haveSum_2 6 rfl rfl)
theorem dX1_haveSum_56 : decode cX1_haveSum 56 = .ok (.iconst 1, 1) := dk_4 (dk_at dksX1_haveSum_2 9 rfl rfl)
theorem dX1_haveSum_57 : decode cX1_haveSum 57 = .ok (.goto 4, 3) := dk_167 0 4 (dk_at dksX1_haveSum_2 10 rfl rfl)
theorem dX1_haveSum_60 : decode cX1_haveSum 60 = .ok (.iconst 0, 1) := dk_3 (dk_at dksX1_haveSum_2 13 rfl rfl)
theorem dX1_haveSum_61 : decode cX1_haveSum 61 = .ok (.ireturn, 1) := dk_172 (dk_at dksX1_haveSum_2 14 rfl rfl)
theorem dX1_haveSum_62 : decode cX1_haveSum 62 = .ok (.iload_n 2, 1) := dk_28 (dk_at dksX1_haveSum_2 15 rfl rfl)
theorem dX1_haveSum_63 : decode cX1_haveSum 63 = .ok (.ldc 61, 2) := dk_18 61 (dk_at dksX1_haveSum_2 16 rfl rfl)
theorem dX1_haveSum_65 : decode cX1_haveSum 65 = .ok (.if_icmp .eq 28, 3) := dk_159 0 28 (dk_at dksX1_haveSum_2 18 rfl rfl)
theorem dX1_haveSum_68 : decode cX1_haveSum 68 = .ok (.iload_n 3, 1) := dk_29 (dk_at dksX1_haveSum_2 21 rfl rfl)
theorem dX1_haveSum_69 : decode cX1_haveSum 69 = .ok (.ldc 61, 2) := dk_18 61 (dk_at dksX1_haveSum_2 22 rfl rfl)
theorem dX1_haveSum_71 : decode cX1_haveSum 71 = .ok (.if_icmp .eq 22, 3) := dk_159 0 22 (dk_at dksX1_haveSum_3 0 rfl rfl)
theorem dX1_haveSum_74 : decode cX1_haveSum 74 = .ok (.iload_n 2, 1) := dk_28 (dk_at dksX1_haveSum_3 3 rfl rfl)
theorem dX1_haveSum_75 : decode cX1_haveSum 75 = .ok (.i2l, 1) := dk_133 (dk_at dksX1_haveSum_3 4 rfl rfl)
theorem dX1_haveSum_76 : decode cX1_haveSum 76 = .ok (.iload_n 3, 1) := dk_29 (dk_at dksX1_haveSum_3 5 rfl rfl)
theorem dX1_haveSum_77 : decode cX1_haveSum 77 = .ok (.i2l, 1) := dk_133 (dk_at dksX1_haveSum_3 6 rfl rfl)
theorem dX1_haveSum_78 : decode cX1_haveSum 78 = .ok (.ladd, 1) := dk_97 (dk_at dksX1_haveSum_3 7 rfl rfl)
theorem dX1_haveSum_79 : decode cX1_haveSum 79 = .ok (.invokestatic 107, 3) := dk_184 0 107 (dk_at dksX1_haveSum_3 8 rfl rfl)
theorem dX1_haveSum_82 : decode cX1_haveSum 82 = .ok (.ldc2_w 66, 3) := dk_20 0 66 (dk_at dksX1_haveSum_3 11 rfl rfl)
theorem dX1_haveSum_85 : decode cX1_haveSum 85 = .ok (.lcmp, 1) := dk_148 (dk_at dksX1_haveSum_3 14 rfl rfl)
theorem dX1_haveSum_86 : decode cX1_haveSum 86 = .ok (.ifCond .gt 7, 3) := dk_157 0 7 (dk_at dksX1_haveSum_3 15 rfl rfl)
theorem dX1_haveSum_89 : decode cX1_haveSum 89 = .ok (.iconst 1, 1) := dk_4 (dk_at dksX1_haveSum_3 18 rfl rfl)
theorem dX1_haveSum_90 : decode cX1_haveSum 90 = .ok (.goto 4, 3) := dk_167 0 4 (dk_at dksX1_haveSum_3 19 rfl rfl)
theorem dX1_haveSum_93 : decode cX1_haveSum 93 = .ok (.iconst 0, 1) := dk_3 (dk_at dksX1_haveSum_3 22 rfl rfl)
theorem dX1_haveSum_94 : decode cX1_haveSum 94 = .ok (.ireturn, 1) := dk_172 (dk_at dksX1_haveSum_3 23 rfl rfl)
abbrev cX1_wideSort : ByteArray := prog_1_method_22_code
def yX1_wideSort : MethodName := ⟨RX1, "wideSort", "(I)I"⟩
def dkwX1_wideSort_10 : List UInt8 := [181, 0, 84, 29, 172]
abbrev dktX1_wideSort_10 : List UInt8 := dkwX1_wideSort_10 ++ []
def dkwX1_wideSort_9 : List UInt8 := [167, 0, 4, 3, 184, 0, 91, 96, 62, 132, 4, 1, 167, 255, 218, 42, 89, 180, 0, 84, 4, 96]
abbrev dktX1_wideSort_9 : List UInt8 := dkwX1_wideSort_9 ++ dktX1_wideSort_10
def dkwX1_wideSort_8 : List UInt8 := [16, 8, 162, 0, 37, 29, 44, 21, 4, 50, 42, 180, 0, 15, 21, 4, 50, 182, 0, 87, 154, 0, 7, 4]
abbrev dktX1_wideSort_8 : List UInt8 := dkwX1_wideSort_8 ++ dktX1_wideSort_9
def dkwX1_wideSort_7 : List UInt8 := [21, 4, 45, 21, 4, 49, 184, 0, 25, 83, 132, 4, 1, 167, 255, 232, 3, 62, 3, 54, 4, 21, 4]
abbrev dktX1_wideSort_7 : List UInt8 := dkwX1_wideSort_7 ++ dktX1_wideSort_8
def dkwX1_wideSort_6 : List UInt8 := [132, 4, 1, 167, 255, 232, 45, 184, 0, 167, 3, 54, 4, 21, 4, 16, 8, 162, 0, 23, 42, 180, 0, 15]
abbrev dktX1_wideSort_6 : List UInt8 := dkwX1_wideSort_6 ++ dktX1_wideSort_7
def dkwX1_wideSort_5 : List UInt8 := [54, 4, 21, 4, 16, 8, 162, 0, 23, 45, 21, 4, 42, 180, 0, 15, 21, 4, 50, 182, 0, 95, 82]
abbrev dktX1_wideSort_5 : List UInt8 := dkwX1_wideSort_5 ++ dktX1_wideSort_6
def dkwX1_wideSort_4 : List UInt8 := [184, 0, 163, 132, 4, 255, 167, 255, 211, 132, 3, 1, 167, 255, 196, 167, 0, 72, 16, 8, 188, 7, 78, 3]
abbrev dktX1_wideSort_4 : List UInt8 := dkwX1_wideSort_4 ++ dktX1_wideSort_5
def dkwX1_wideSort_3 : List UInt8 := [180, 0, 15, 21, 4, 4, 100, 50, 182, 0, 95, 184, 0, 159, 156, 0, 18, 42, 180, 0, 15, 21, 4]
abbrev dktX1_wideSort_3 : List UInt8 := dkwX1_wideSort_3 ++ dktX1_wideSort_4
def dkwX1_wideSort_2 : List UInt8 := [162, 0, 60, 29, 54, 4, 21, 4, 158, 0, 46, 42, 180, 0, 15, 21, 4, 50, 182, 0, 95, 42]
abbrev dktX1_wideSort_2 : List UInt8 := dkwX1_wideSort_2 ++ dktX1_wideSort_3
def dkwX1_wideSort_1 : List UInt8 := [29, 42, 180, 0, 15, 29, 50, 83, 132, 3, 1, 167, 255, 238, 27, 154, 0, 71, 4, 62, 29, 16, 8]
abbrev dktX1_wideSort_1 : List UInt8 := dkwX1_wideSort_1 ++ dktX1_wideSort_2
def dkwX1_wideSort_0 : List UInt8 := [27, 3, 4, 184, 0, 32, 184, 0, 132, 16, 8, 189, 0, 13, 77, 3, 62, 29, 16, 8, 162, 0, 18, 44]
abbrev dktX1_wideSort_0 : List UInt8 := dkwX1_wideSort_0 ++ dktX1_wideSort_1
theorem dksX1_wideSort_0 : cX1_wideSort.data.toList.drop 0 = dktX1_wideSort_0 := by decide +kernel
theorem dksX1_wideSort_1 : cX1_wideSort.data.toList.drop 24 = dktX1_wideSort_1 := dk_seg dksX1_wideSort_0 24 rfl rfl
theorem dksX1_wideSort_2 : cX1_wideSort.data.toList.drop 47 = dktX1_wideSort_2 := dk_seg dksX1_wideSort_1 23 rfl rfl
theorem dksX1_wideSort_3 : cX1_wideSort.data.toList.drop 69 = dktX1_wideSort_3 := dk_seg dksX1_wideSort_2 22 rfl rfl
theorem dksX1_wideSort_4 : cX1_wideSort.data.toList.drop 92 = dktX1_wideSort_4 := dk_seg dksX1_wideSort_3 23 rfl rfl
theorem dksX1_wideSort_5 : cX1_wideSort.data.toList.drop 116 = dktX1_wideSort_5 := dk_seg dksX1_wideSort_4 24 rfl rfl
theorem dksX1_wideSort_6 : cX1_wideSort.data.toList.drop 139 = dktX1_wideSort_6 := dk_seg dksX1_wideSort_5 23 rfl rfl
theorem dksX1_wideSort_7 : cX1_wideSort.data.toList.drop 163 = dktX1_wideSort_7 := dk_seg dksX1_wideSort_6 24 rfl rfl
theorem dksX1_wideSort_8 : cX1_wideSort.data.toList.drop 186 = dktX1_wideSort_8 := dk_seg dksX1_wideSort_7 23 rfl rfl
theorem dksX1_wideSort_9 : cX1_wideSort.data.toList.drop 210 = dktX1_wideSort_9 := dk_seg dksX1_wideSort_8 24 rfl rfl
theorem dksX1_wideSort_10 : cX1_wideSort.data.toList.drop 232 = dktX1_wideSort_10 := dk_seg dksX1_wideSort_9 22 rfl rfl
theorem dX1_wideSort_0 : decode cX1_wideSort 0 = .ok (.iload_n 1, 1) := dk_27 (dk_at dksX1_wideSort_0 0 rfl rfl)
theorem dX1_wideSort_1 : decode cX1_wideSort 1 = .ok (.iconst 0, 1) := dk_3 (dk_at dksX1_wideSort_0 1 rfl rfl)
theorem dX1_wideSort_2 : decode cX1_wideSort 2 = .ok (.iconst 1, 1) := dk_4 (dk_at dksX1_wideSort_0 2 rfl rfl)
theorem dX1_wideSort_3 : decode cX1_wideSort 3 = .ok (.invokestatic 32, 3) := dk_184 0 32 (dk_at dksX1_wideSort_0 3 rfl rfl)
theorem dX1_wideSort_6 : decode cX1_wideSort 6 = .ok (.invokestatic 132, 3) := dk_184 0 132 (dk_at dksX1_wideSort_0 6 rfl rfl)
theorem dX1_wideSort_9 : decode cX1_wideSort 9 = .ok (.bipush 8, 2) := dk_16 8 (dk_at dksX1_wideSort_0 9 rfl rfl)
theorem dX1_wideSort_11 : decode cX1_wideSort 11 = .ok (.anewarray 13, 3) := dk_189 0 13 (dk_at dksX1_wideSort_0 11 rfl rfl)
theorem dX1_wideSort_14 : decode cX1_wideSort 14 = .ok (.astore_n 2, 1) := dk_77 (dk_at dksX1_wideSort_0 14 rfl rfl)
theorem dX1_wideSort_15 : decode cX1_wideSort 15 = .ok (.iconst 0, 1) := dk_3 (dk_at dksX1_wideSort_0 15 rfl rfl)
theorem dX1_wideSort_16 : decode cX1_wideSort 16 = .ok (.istore_n 3, 1) := dk_62 (dk_at dksX1_wideSort_0 16 rfl rfl)
theorem dX1_wideSort_17 : decode cX1_wideSort 17 = .ok (.iload_n 3, 1) := dk_29 (dk_at dksX1_wideSort_0 17 rfl rfl)
theorem dX1_wideSort_18 : decode cX1_wideSort 18 = .ok (.bipush 8, 2) := dk_16 8 (dk_at dksX1_wideSort_0 18 rfl rfl)
theorem dX1_wideSort_20 : decode cX1_wideSort 20 = .ok (.if_icmp .ge 18, 3) := dk_162 0 18 (dk_at dksX1_wideSort_0 20 rfl rfl)
theorem dX1_wideSort_23 : decode cX1_wideSort 23 = .ok (.aload_n 2, 1) := dk_44 (dk_at dksX1_wideSort_0 23 rfl rfl)
theorem dX1_wideSort_24 : decode cX1_wideSort 24 = .ok (.iload_n 3, 1) := dk_29 (dk_at dksX1_wideSort_1 0 rfl rfl)
theorem dX1_wideSort_25 : decode cX1_wideSort 25 = .ok (.aload_n 0, 1) := dk_42 (dk_at dksX1_wideSort_1 1 rfl rfl)
theorem dX1_wideSort_26 : decode cX1_wideSort 26 = .ok (.getfield 15, 3) := dk_180 0 15 (dk_at dksX1_wideSort_1 2 rfl rfl)
theorem dX1_wideSort_29 : decode cX1_wideSort 29 = .ok (.iload_n 3, 1) := dk_29 (dk_at dksX1_wideSort_1 5 rfl rfl)
theorem dX1_wideSort_30 : decode cX1_wideSort 30 = .ok (.aaload, 1) := dk_50 (dk_at dksX1_wideSort_1 6 rfl rfl)
theorem dX1_wideSort_31 : decode cX1_wideSort 31 = .ok (.aastore, 1) := dk_83 (dk_at dksX1_wideSort_1 7 rfl rfl)
theorem dX1_wideSort_32 : decode cX1_wideSort 32 = .ok (.iinc 3 1, 3) := dk_132 3 1 (dk_at dksX1_wideSort_1 8 rfl rfl)
theorem dX1_wideSort_35 : decode cX1_wideSort 35 = .ok (.goto (-18), 3) := dk_167 255 238 (dk_at dksX1_wideSort_1 11 rfl rfl)
theorem dX1_wideSort_38 : decode cX1_wideSort 38 = .ok (.iload_n 1, 1) := dk_27 (dk_at dksX1_wideSort_1 14 rfl rfl)
theorem dX1_wideSort_39 : decode cX1_wideSort 39 = .ok (.ifCond .ne 71, 3) := dk_154 0 71 (dk_at dksX1_wideSort_1 15 rfl rfl)
theorem dX1_wideSort_42 : decode cX1_wideSort 42 = .ok (.iconst 1, 1) := dk_4 (dk_at dksX1_wideSort_1 18 rfl rfl)
theorem dX1_wideSort_43 : decode cX1_wideSort 43 = .ok (.istore_n 3, 1) := dk_62 (dk_at dksX1_wideSort_1 19 rfl rfl)
theorem dX1_wideSort_44 : decode cX1_wideSort 44 = .ok (.iload_n 3, 1) := dk_29 (dk_at dksX1_wideSort_1 20 rfl rfl)
theorem dX1_wideSort_45 : decode cX1_wideSort 45 = .ok (.bipush 8, 2) := dk_16 8 (dk_at dksX1_wideSort_1 21 rfl rfl)
theorem dX1_wideSort_47 : decode cX1_wideSort 47 = .ok (.if_icmp .ge 60, 3) := dk_162 0 60 (dk_at dksX1_wideSort_2 0 rfl rfl)
theorem dX1_wideSort_50 : decode cX1_wideSort 50 = .ok (.iload_n 3, 1) := dk_29 (dk_at dksX1_wideSort_2 3 rfl rfl)
theorem dX1_wideSort_51 : decode cX1_wideSort 51 = .ok (.istore 4, 2) := dk_54 4 (dk_at dksX1_wideSort_2 4 rfl rfl)
theorem dX1_wideSort_53 : decode cX1_wideSort 53 = .ok (.iload 4, 2) := dk_21 4 (dk_at dksX1_wideSort_2 6 rfl rfl)
theorem dX1_wideSort_55 : decode cX1_wideSort 55 = .ok (.ifCond .le 46, 3) := dk_158 0 46 (dk_at dksX1_wideSort_2 8 rfl rfl)
theorem dX1_wideSort_58 : decode cX1_wideSort 58 = .ok (.aload_n 0, 1) := dk_42 (dk_at dksX1_wideSort_2 11 rfl rfl)
theorem dX1_wideSort_59 : decode cX1_wideSort 59 = .ok (.getfield 15, 3) := dk_180 0 15 (dk_at dksX1_wideSort_2 12 rfl rfl)
theorem dX1_wideSort_62 : decode cX1_wideSort 62 = .ok (.iload 4, 2) := dk_21 4 (dk_at dksX1_wideSort_2 15 rfl rfl)
theorem dX1_wideSort_64 : decode cX1_wideSort 64 = .ok (.aaload, 1) := dk_50 (dk_at dksX1_wideSort_2 17 rfl rfl)
theorem dX1_wideSort_65 : decode cX1_wideSort 65 = .ok (.invokevirtual 95, 3) := dk_182 0 95 (dk_at dksX1_wideSort_2 18 rfl rfl)
theorem dX1_wideSort_68 : decode cX1_wideSort 68 = .ok (.aload_n 0, 1) := dk_42 (dk_at dksX1_wideSort_2 21 rfl rfl)
theorem dX1_wideSort_69 : decode cX1_wideSort 69 = .ok (.getfield 15, 3) := dk_180 0 15 (dk_at dksX1_wideSort_3 0 rfl rfl)
theorem dX1_wideSort_72 : decode cX1_wideSort 72 = .ok (.iload 4, 2) := dk_21 4 (dk_at dksX1_wideSort_3 3 rfl rfl)
theorem dX1_wideSort_74 : decode cX1_wideSort 74 = .ok (.iconst 1, 1) := dk_4 (dk_at dksX1_wideSort_3 5 rfl rfl)
theorem dX1_wideSort_75 : decode cX1_wideSort 75 = .ok (.isub, 1) := dk_100 (dk_at dksX1_wideSort_3 6 rfl rfl)
theorem dX1_wideSort_76 : decode cX1_wideSort 76 = .ok (.aaload, 1) := dk_50 (dk_at dksX1_wideSort_3 7 rfl rfl)
theorem dX1_wideSort_77 : decode cX1_wideSort 77 = .ok (.invokevirtual 95, 3) := dk_182 0 95 (dk_at dksX1_wideSort_3 8 rfl rfl)
theorem dX1_wideSort_80 : decode cX1_wideSort 80 = .ok (.invokestatic 159, 3) := dk_184 0 159 (dk_at dksX1_wideSort_3 11 rfl rfl)
theorem dX1_wideSort_83 : decode cX1_wideSort 83 = .ok (.ifCond .ge 18, 3) := dk_156 0 18 (dk_at dksX1_wideSort_3 14 rfl rfl)
theorem dX1_wideSort_86 : decode cX1_wideSort 86 = .ok (.aload_n 0, 1) := dk_42 (dk_at dksX1_wideSort_3 17 rfl rfl)
theorem dX1_wideSort_87 : decode cX1_wideSort 87 = .ok (.getfield 15, 3) := dk_180 0 15 (dk_at dksX1_wideSort_3 18 rfl rfl)
theorem dX1_wideSort_90 : decode cX1_wideSort 90 = .ok (.iload 4, 2) := dk_21 4 (dk_at dksX1_wideSort_3 21 rfl rfl)
theorem dX1_wideSort_92 : decode cX1_wideSort 92 = .ok (.invokestatic 163, 3) := dk_184 0 163 (dk_at dksX1_wideSort_4 0 rfl rfl)
theorem dX1_wideSort_95 : decode cX1_wideSort 95 = .ok (.iinc 4 (-1), 3) := dk_132 4 255 (dk_at dksX1_wideSort_4 3 rfl rfl)
theorem dX1_wideSort_98 : decode cX1_wideSort 98 = .ok (.goto (-45), 3) := dk_167 255 211 (dk_at dksX1_wideSort_4 6 rfl rfl)
theorem dX1_wideSort_101 : decode cX1_wideSort 101 = .ok (.iinc 3 1, 3) := dk_132 3 1 (dk_at dksX1_wideSort_4 9 rfl rfl)
theorem dX1_wideSort_104 : decode cX1_wideSort 104 = .ok (.goto (-60), 3) := dk_167 255 196 (dk_at dksX1_wideSort_4 12 rfl rfl)
theorem dX1_wideSort_107 : decode cX1_wideSort 107 = .ok (.goto 72, 3) := dk_167 0 72 (dk_at dksX1_wideSort_4 15 rfl rfl)
theorem dX1_wideSort_110 : decode cX1_wideSort 110 = .ok (.bipush 8, 2) := dk_16 8 (dk_at dksX1_wideSort_4 18 rfl rfl)
theorem dX1_wideSort_112 : decode cX1_wideSort 112 = .ok (.newarray .double, 2) := dk_188_7 (dk_at dksX1_wideSort_4 20 rfl rfl)
theorem dX1_wideSort_114 : decode cX1_wideSort 114 = .ok (.astore_n 3, 1) := dk_78 (dk_at dksX1_wideSort_4 22 rfl rfl)
theorem dX1_wideSort_115 : decode cX1_wideSort 115 = .ok (.iconst 0, 1) := dk_3 (dk_at dksX1_wideSort_4 23 rfl rfl)
theorem dX1_wideSort_116 : decode cX1_wideSort 116 = .ok (.istore 4, 2) := dk_54 4 (dk_at dksX1_wideSort_5 0 rfl rfl)
theorem dX1_wideSort_118 : decode cX1_wideSort 118 = .ok (.iload 4, 2) := dk_21 4 (dk_at dksX1_wideSort_5 2 rfl rfl)
theorem dX1_wideSort_120 : decode cX1_wideSort 120 = .ok (.bipush 8, 2) := dk_16 8 (dk_at dksX1_wideSort_5 4 rfl rfl)
theorem dX1_wideSort_122 : decode cX1_wideSort 122 = .ok (.if_icmp .ge 23, 3) := dk_162 0 23 (dk_at dksX1_wideSort_5 6 rfl rfl)
theorem dX1_wideSort_125 : decode cX1_wideSort 125 = .ok (.aload_n 3, 1) := dk_45 (dk_at dksX1_wideSort_5 9 rfl rfl)
theorem dX1_wideSort_126 : decode cX1_wideSort 126 = .ok (.iload 4, 2) := dk_21 4 (dk_at dksX1_wideSort_5 10 rfl rfl)
theorem dX1_wideSort_128 : decode cX1_wideSort 128 = .ok (.aload_n 0, 1) := dk_42 (dk_at dksX1_wideSort_5 12 rfl rfl)
theorem dX1_wideSort_129 : decode cX1_wideSort 129 = .ok (.getfield 15, 3) := dk_180 0 15 (dk_at dksX1_wideSort_5 13 rfl rfl)
theorem dX1_wideSort_132 : decode cX1_wideSort 132 = .ok (.iload 4, 2) := dk_21 4 (dk_at dksX1_wideSort_5 16 rfl rfl)
theorem dX1_wideSort_134 : decode cX1_wideSort 134 = .ok (.aaload, 1) := dk_50 (dk_at dksX1_wideSort_5 18 rfl rfl)
theorem dX1_wideSort_135 : decode cX1_wideSort 135 = .ok (.invokevirtual 95, 3) := dk_182 0 95 (dk_at dksX1_wideSort_5 19 rfl rfl)
theorem dX1_wideSort_138 : decode cX1_wideSort 138 = .ok (.dastore, 1) := dk_82 (dk_at dksX1_wideSort_5 22 rfl rfl)
theorem dX1_wideSort_139 : decode cX1_wideSort 139 = .ok (.iinc 4 1, 3) := dk_132 4 1 (dk_at dksX1_wideSort_6 0 rfl rfl)
theorem dX1_wideSort_142 : decode cX1_wideSort 142 = .ok (.goto (-24), 3) := dk_167 255 232 (dk_at dksX1_wideSort_6 3 rfl rfl)
theorem dX1_wideSort_145 : decode cX1_wideSort 145 = .ok (.aload_n 3, 1) := dk_45 (dk_at dksX1_wideSort_6 6 rfl rfl)
theorem dX1_wideSort_146 : decode cX1_wideSort 146 = .ok (.invokestatic 167, 3) := dk_184 0 167 (dk_at dksX1_wideSort_6 7 rfl rfl)
theorem dX1_wideSort_149 : decode cX1_wideSort 149 = .ok (.iconst 0, 1) := dk_3 (dk_at dksX1_wideSort_6 10 rfl rfl)
theorem dX1_wideSort_150 : decode cX1_wideSort 150 = .ok (.istore 4, 2) := dk_54 4 (dk_at dksX1_wideSort_6 11 rfl rfl)
theorem dX1_wideSort_152 : decode cX1_wideSort 152 = .ok (.iload 4, 2) := dk_21 4 (dk_at dksX1_wideSort_6 13 rfl rfl)
theorem dX1_wideSort_154 : decode cX1_wideSort 154 = .ok (.bipush 8, 2) := dk_16 8 (dk_at dksX1_wideSort_6 15 rfl rfl)
theorem dX1_wideSort_156 : decode cX1_wideSort 156 = .ok (.if_icmp .ge 23, 3) := dk_162 0 23 (dk_at dksX1_wideSort_6 17 rfl rfl)
theorem dX1_wideSort_159 : decode cX1_wideSort 159 = .ok (.aload_n 0, 1) := dk_42 (dk_at dksX1_wideSort_6 20 rfl rfl)
theorem dX1_wideSort_160 : decode cX1_wideSort 160 = .ok (.getfield 15, 3) := dk_180 0 15 (dk_at dksX1_wideSort_6 21 rfl rfl)
theorem dX1_wideSort_163 : decode cX1_wideSort 163 = .ok (.iload 4, 2) := dk_21 4 (dk_at dksX1_wideSort_7 0 rfl rfl)
theorem dX1_wideSort_165 : decode cX1_wideSort 165 = .ok (.aload_n 3, 1) := dk_45 (dk_at dksX1_wideSort_7 2 rfl rfl)
theorem dX1_wideSort_166 : decode cX1_wideSort 166 = .ok (.iload 4, 2) := dk_21 4 (dk_at dksX1_wideSort_7 3 rfl rfl)
theorem dX1_wideSort_168 : decode cX1_wideSort 168 = .ok (.daload, 1) := dk_49 (dk_at dksX1_wideSort_7 5 rfl rfl)
theorem dX1_wideSort_169 : decode cX1_wideSort 169 = .ok (.invokestatic 25, 3) := dk_184 0 25 (dk_at dksX1_wideSort_7 6 rfl rfl)
theorem dX1_wideSort_172 : decode cX1_wideSort 172 = .ok (.aastore, 1) := dk_83 (dk_at dksX1_wideSort_7 9 rfl rfl)
theorem dX1_wideSort_173 : decode cX1_wideSort 173 = .ok (.iinc 4 1, 3) := dk_132 4 1 (dk_at dksX1_wideSort_7 10 rfl rfl)
theorem dX1_wideSort_176 : decode cX1_wideSort 176 = .ok (.goto (-24), 3) := dk_167 255 232 (dk_at dksX1_wideSort_7 13 rfl rfl)
theorem dX1_wideSort_179 : decode cX1_wideSort 179 = .ok (.iconst 0, 1) := dk_3 (dk_at dksX1_wideSort_7 16 rfl rfl)
theorem dX1_wideSort_180 : decode cX1_wideSort 180 = .ok (.istore_n 3, 1) := dk_62 (dk_at dksX1_wideSort_7 17 rfl rfl)
theorem dX1_wideSort_181 : decode cX1_wideSort 181 = .ok (.iconst 0, 1) := dk_3 (dk_at dksX1_wideSort_7 18 rfl rfl)
theorem dX1_wideSort_182 : decode cX1_wideSort 182 = .ok (.istore 4, 2) := dk_54 4 (dk_at dksX1_wideSort_7 19 rfl rfl)
theorem dX1_wideSort_184 : decode cX1_wideSort 184 = .ok (.iload 4, 2) := dk_21 4 (dk_at dksX1_wideSort_7 21 rfl rfl)
theorem dX1_wideSort_186 : decode cX1_wideSort 186 = .ok (.bipush 8, 2) := dk_16 8 (dk_at dksX1_wideSort_8 0 rfl rfl)
theorem dX1_wideSort_188 : decode cX1_wideSort 188 = .ok (.if_icmp .ge 37, 3) := dk_162 0 37 (dk_at dksX1_wideSort_8 2 rfl rfl)
theorem dX1_wideSort_191 : decode cX1_wideSort 191 = .ok (.iload_n 3, 1) := dk_29 (dk_at dksX1_wideSort_8 5 rfl rfl)
theorem dX1_wideSort_192 : decode cX1_wideSort 192 = .ok (.aload_n 2, 1) := dk_44 (dk_at dksX1_wideSort_8 6 rfl rfl)
theorem dX1_wideSort_193 : decode cX1_wideSort 193 = .ok (.iload 4, 2) := dk_21 4 (dk_at dksX1_wideSort_8 7 rfl rfl)
theorem dX1_wideSort_195 : decode cX1_wideSort 195 = .ok (.aaload, 1) := dk_50 (dk_at dksX1_wideSort_8 9 rfl rfl)
theorem dX1_wideSort_196 : decode cX1_wideSort 196 = .ok (.aload_n 0, 1) := dk_42 (dk_at dksX1_wideSort_8 10 rfl rfl)
theorem dX1_wideSort_197 : decode cX1_wideSort 197 = .ok (.getfield 15, 3) := dk_180 0 15 (dk_at dksX1_wideSort_8 11 rfl rfl)
theorem dX1_wideSort_200 : decode cX1_wideSort 200 = .ok (.iload 4, 2) := dk_21 4 (dk_at dksX1_wideSort_8 14 rfl rfl)
theorem dX1_wideSort_202 : decode cX1_wideSort 202 = .ok (.aaload, 1) := dk_50 (dk_at dksX1_wideSort_8 16 rfl rfl)
theorem dX1_wideSort_203 : decode cX1_wideSort 203 = .ok (.invokevirtual 87, 3) := dk_182 0 87 (dk_at dksX1_wideSort_8 17 rfl rfl)
theorem dX1_wideSort_206 : decode cX1_wideSort 206 = .ok (.ifCond .ne 7, 3) := dk_154 0 7 (dk_at dksX1_wideSort_8 20 rfl rfl)
theorem dX1_wideSort_209 : decode cX1_wideSort 209 = .ok (.iconst 1, 1) := dk_4 (dk_at dksX1_wideSort_8 23 rfl rfl)
theorem dX1_wideSort_210 : decode cX1_wideSort 210 = .ok (.goto 4, 3) := dk_167 0 4 (dk_at dksX1_wideSort_9 0 rfl rfl)
theorem dX1_wideSort_213 : decode cX1_wideSort 213 = .ok (.iconst 0, 1) := dk_3 (dk_at dksX1_wideSort_9 3 rfl rfl)
theorem dX1_wideSort_214 : decode cX1_wideSort 214 = .ok (.invokestatic 91, 3) := dk_184 0 91 (dk_at dksX1_wideSort_9 4 rfl rfl)
theorem dX1_wideSort_217 : decode cX1_wideSort 217 = .ok (.iadd, 1) := dk_96 (dk_at dksX1_wideSort_9 7 rfl rfl)
theorem dX1_wideSort_218 : decode cX1_wideSort 218 = .ok (.istore_n 3, 1) := dk_62 (dk_at dksX1_wideSort_9 8 rfl rfl)
theorem dX1_wideSort_219 : decode cX1_wideSort 219 = .ok (.iinc 4 1, 3) := dk_132 4 1 (dk_at dksX1_wideSort_9 9 rfl rfl)
theorem dX1_wideSort_222 : decode cX1_wideSort 222 = .ok (.goto (-38), 3) := dk_167 255 218 (dk_at dksX1_wideSort_9 12 rfl rfl)
theorem dX1_wideSort_225 : decode cX1_wideSort 225 = .ok (.aload_n 0, 1) := dk_42 (dk_at dksX1_wideSort_9 15 rfl rfl)
theorem dX1_wideSort_226 : decode cX1_wideSort 226 = .ok (.dup, 1) := dk_89 (dk_at dksX1_wideSort_9 16 rfl rfl)
theorem dX1_wideSort_227 : decode cX1_wideSort 227 = .ok (.getfield 84, 3) := dk_180 0 84 (dk_at dksX1_wideSort_9 17 rfl rfl)
theorem dX1_wideSort_230 : decode cX1_wideSort 230 = .ok (.iconst 1, 1) := dk_4 (dk_at dksX1_wideSort_9 20 rfl rfl)
theorem dX1_wideSort_231 : decode cX1_wideSort 231 = .ok (.iadd, 1) := dk_96 (dk_at dksX1_wideSort_9 21 rfl rfl)
theorem dX1_wideSort_232 : decode cX1_wideSort 232 = .ok (.putfield 84, 3) := dk_181 0 84 (dk_at dksX1_wideSort_10 0 rfl rfl)
theorem dX1_wideSort_235 : decode cX1_wideSort 235 = .ok (.iload_n 3, 1) := dk_29 (dk_at dksX1_wideSort_10 3 rfl rfl)
theorem dX1_wideSort_236 : decode cX1_wideSort 236 = .ok (.ireturn, 1) := dk_172 (dk_at dksX1_wideSort_10 4 rfl rfl)
abbrev cX1_change : ByteArray := prog_1_method_23_code
def yX1_change : MethodName := ⟨RX1, "change", "([Ljava/lang/Double;I)V"⟩
def dkwX1_change_0 : List UInt8 := [42, 27, 50, 77, 42, 27, 42, 27, 4, 100, 50, 83, 42, 27, 4, 100, 44, 83, 177]
abbrev dktX1_change_0 : List UInt8 := dkwX1_change_0 ++ []
theorem dksX1_change_0 : cX1_change.data.toList.drop 0 = dktX1_change_0 := by decide +kernel
theorem dX1_change_0 : decode cX1_change 0 = .ok (.aload_n 0, 1) := dk_42 (dk_at dksX1_change_0 0 rfl rfl)
theorem dX1_change_1 : decode cX1_change 1 = .ok (.iload_n 1, 1) := dk_27 (dk_at dksX1_change_0 1 rfl rfl)
theorem dX1_change_2 : decode cX1_change 2 = .ok (.aaload, 1) := dk_50 (dk_at dksX1_change_0 2 rfl rfl)
theorem dX1_change_3 : decode cX1_change 3 = .ok (.astore_n 2, 1) := dk_77 (dk_at dksX1_change_0 3 rfl rfl)
theorem dX1_change_4 : decode cX1_change 4 = .ok (.aload_n 0, 1) := dk_42 (dk_at dksX1_change_0 4 rfl rfl)
theorem dX1_change_5 : decode cX1_change 5 = .ok (.iload_n 1, 1) := dk_27 (dk_at dksX1_change_0 5 rfl rfl)
theorem dX1_change_6 : decode cX1_change 6 = .ok (.aload_n 0, 1) := dk_42 (dk_at dksX1_change_0 6 rfl rfl)
theorem dX1_change_7 : decode cX1_change 7 = .ok (.iload_n 1, 1) := dk_27 (dk_at dksX1_change_0 7 rfl rfl)
theorem dX1_change_8 : decode cX1_change 8 = .ok (.iconst 1, 1) := dk_4 (dk_at dksX1_change_0 8 rfl rfl)
theorem dX1_change_9 : decode cX1_change 9 = .ok (.isub, 1) := dk_100 (dk_at dksX1_change_0 9 rfl rfl)
theorem dX1_change_10 : decode cX1_change 10 = .ok (.aaload, 1) := dk_50 (dk_at dksX1_change_0 10 rfl rfl)
theorem dX1_change_11 : decode cX1_change 11 = .ok (.aastore, 1) := dk_83 (dk_at dksX1_change_0 11 rfl rfl)
theorem dX1_change_12 : decode cX1_change 12 = .ok (.aload_n 0, 1) := dk_42 (dk_at dksX1_change_0 12 rfl rfl)
theorem dX1_change_13 : decode cX1_change 13 = .ok (.iload_n 1, 1) := dk_27 (dk_at dksX1_change_0 13 rfl rfl)
theorem dX1_change_14 : decode cX1_change 14 = .ok (.iconst 1, 1) := dk_4 (dk_at dksX1_change_0 14 rfl rfl)
theorem dX1_change_15 : decode cX1_change 15 = .ok (.isub, 1) := dk_100 (dk_at dksX1_change_0 15 rfl rfl)
theorem dX1_change_16 : decode cX1_change 16 = .ok (.aload_n 2, 1) := dk_44 (dk_at dksX1_change_0 16 rfl rfl)
theorem dX1_change_17 : decode cX1_change 17 = .ok (.aastore, 1) := dk_83 (dk_at dksX1_change_0 17 rfl rfl)
theorem dX1_change_18 : decode cX1_change 18 = .ok (.return_, 1) := dk_177 (dk_at dksX1_change_0 18 rfl rfl)
abbrev cX1_wideEnd : ByteArray := prog_1_method_24_code
def yX1_wideEnd : MethodName := ⟨RX1, "wideEnd", "(ZI)I"⟩
def dkwX1_wideEnd_3 : List UInt8 := [184, 0, 25, 78, 132, 6, 1, 167, 255, 204, 42, 28, 45, 182, 0, 126, 172]
abbrev dktX1_wideEnd_3 : List UInt8 := dkwX1_wideEnd_3 ++ []
def dkwX1_wideEnd_2 : List UInt8 := [25, 7, 182, 0, 95, 184, 0, 145, 167, 0, 15, 45, 182, 0, 95, 25, 7, 182, 0, 95, 184, 0, 149]
abbrev dktX1_wideEnd_2 : List UInt8 := dkwX1_wideEnd_2 ++ dktX1_wideEnd_3
def dkwX1_wideEnd_1 : List UInt8 := [54, 6, 21, 6, 21, 5, 162, 0, 51, 25, 4, 21, 6, 50, 58, 7, 27, 153, 0, 18, 45, 182, 0, 95]
abbrev dktX1_wideEnd_1 : List UInt8 := dkwX1_wideEnd_1 ++ dktX1_wideEnd_2
def dkwX1_wideEnd_0 : List UInt8 := [28, 184, 0, 80, 42, 180, 0, 15, 3, 50, 78, 42, 180, 0, 15, 58, 4, 25, 4, 190, 54, 5, 3]
abbrev dktX1_wideEnd_0 : List UInt8 := dkwX1_wideEnd_0 ++ dktX1_wideEnd_1
theorem dksX1_wideEnd_0 : cX1_wideEnd.data.toList.drop 0 = dktX1_wideEnd_0 := by decide +kernel
theorem dksX1_wideEnd_1 : cX1_wideEnd.data.toList.drop 23 = dktX1_wideEnd_1 := dk_seg dksX1_wideEnd_0 23 rfl rfl
theorem dksX1_wideEnd_2 : cX1_wideEnd.data.toList.drop 47 = dktX1_wideEnd_2 := dk_seg dksX1_wideEnd_1 24 rfl rfl
theorem dksX1_wideEnd_3 : cX1_wideEnd.data.toList.drop 70 = dktX1_wideEnd_3 := dk_seg dksX1_wideEnd_2 23 rfl rfl
theorem dX1_wideEnd_0 : decode cX1_wideEnd 0 = .ok (.iload_n 2, 1) := dk_28 (dk_at dksX1_wideEnd_0 0 rfl rfl)
theorem dX1_wideEnd_1 : decode cX1_wideEnd 1 = .ok (.invokestatic 80, 3) := dk_184 0 80 (dk_at dksX1_wideEnd_0 1 rfl rfl)
theorem dX1_wideEnd_4 : decode cX1_wideEnd 4 = .ok (.aload_n 0, 1) := dk_42 (dk_at dksX1_wideEnd_0 4 rfl rfl)
theorem dX1_wideEnd_5 : decode cX1_wideEnd 5 = .ok (.getfield 15, 3) := dk_180 0 15 (dk_at dksX1_wideEnd_0 5 rfl rfl)
theorem dX1_wideEnd_8 : decode cX1_wideEnd 8 = .ok (.iconst 0, 1) := dk_3 (dk_at dksX1_wideEnd_0 8 rfl rfl)
theorem dX1_wideEnd_9 : decode cX1_wideEnd 9 = .ok (.aaload, 1) := dk_50 (dk_at dksX1_wideEnd_0 9 rfl rfl)
theorem dX1_wideEnd_10 : decode cX1_wideEnd 10 = .ok (.astore_n 3, 1) := dk_78 (dk_at dksX1_wideEnd_0 10 rfl rfl)
theorem dX1_wideEnd_11 : decode cX1_wideEnd 11 = .ok (.aload_n 0, 1) := dk_42 (dk_at dksX1_wideEnd_0 11 rfl rfl)
theorem dX1_wideEnd_12 : decode cX1_wideEnd 12 = .ok (.getfield 15, 3) := dk_180 0 15 (dk_at dksX1_wideEnd_0 12 rfl rfl)
theorem dX1_wideEnd_15 : decode cX1_wideEnd 15 = .ok (.astore 4, 2) := dk_58 4 (dk_at dksX1_wideEnd_0 15 rfl rfl)
theorem dX1_wideEnd_17 : decode cX1_wideEnd 17 = .ok (.aload 4, 2) := dk_25 4 (dk_at dksX1_wideEnd_0 17 rfl rfl)
theorem dX1_wideEnd_19 : decode cX1_wideEnd 19 = .ok (.arraylength, 1) := dk_190 (dk_at dksX1_wideEnd_0 19 rfl rfl)
theorem dX1_wideEnd_20 : decode cX1_wideEnd 20 = .ok (.istore 5, 2) := dk_54 5 (dk_at dksX1_wideEnd_0 20 rfl rfl)
theorem dX1_wideEnd_22 : decode cX1_wideEnd 22 = .ok (.iconst 0, 1) := dk_3 (dk_at dksX1_wideEnd_0 22 rfl rfl)
theorem dX1_wideEnd_23 : decode cX1_wideEnd 23 = .ok (.istore 6, 2) := dk_54 6 (dk_at dksX1_wideEnd_1 0 rfl rfl)
theorem dX1_wideEnd_25 : decode cX1_wideEnd 25 = .ok (.iload 6, 2) := dk_21 6 (dk_at dksX1_wideEnd_1 2 rfl rfl)
theorem dX1_wideEnd_27 : decode cX1_wideEnd 27 = .ok (.iload 5, 2) := dk_21 5 (dk_at dksX1_wideEnd_1 4 rfl rfl)
theorem dX1_wideEnd_29 : decode cX1_wideEnd 29 = .ok (.if_icmp .ge 51, 3) := dk_162 0 51 (dk_at dksX1_wideEnd_1 6 rfl rfl)
theorem dX1_wideEnd_32 : decode cX1_wideEnd 32 = .ok (.aload 4, 2) := dk_25 4 (dk_at dksX1_wideEnd_1 9 rfl rfl)
theorem dX1_wideEnd_34 : decode cX1_wideEnd 34 = .ok (.iload 6, 2) := dk_21 6 (dk_at dksX1_wideEnd_1 11 rfl rfl)
theorem dX1_wideEnd_36 : decode cX1_wideEnd 36 = .ok (.aaload, 1) := dk_50 (dk_at dksX1_wideEnd_1 13 rfl rfl)
theorem dX1_wideEnd_37 : decode cX1_wideEnd 37 = .ok (.astore 7, 2) := dk_58 7 (dk_at dksX1_wideEnd_1 14 rfl rfl)
theorem dX1_wideEnd_39 : decode cX1_wideEnd 39 = .ok (.iload_n 1, 1) := dk_27 (dk_at dksX1_wideEnd_1 16 rfl rfl)
theorem dX1_wideEnd_40 : decode cX1_wideEnd 40 = .ok (.ifCond .eq 18, 3) := dk_153 0 18 (dk_at dksX1_wideEnd_1 17 rfl rfl)
theorem dX1_wideEnd_43 : decode cX1_wideEnd 43 = .ok (.aload_n 3, 1) := dk_45 (dk_at dksX1_wideEnd_1 20 rfl rfl)
theorem dX1_wideEnd_44 : decode cX1_wideEnd 44 = .ok (.invokevirtual 95, 3) := dk_182 0 95 (dk_at dksX1_wideEnd_1 21 rfl rfl)
theorem dX1_wideEnd_47 : decode cX1_wideEnd 47 = .ok (.aload 7, 2) := dk_25 7 (dk_at dksX1_wideEnd_2 0 rfl rfl)
theorem dX1_wideEnd_49 : decode cX1_wideEnd 49 = .ok (.invokevirtual 95, 3) := dk_182 0 95 (dk_at dksX1_wideEnd_2 2 rfl rfl)
theorem dX1_wideEnd_52 : decode cX1_wideEnd 52 = .ok (.invokestatic 145, 3) := dk_184 0 145 (dk_at dksX1_wideEnd_2 5 rfl rfl)
theorem dX1_wideEnd_55 : decode cX1_wideEnd 55 = .ok (.goto 15, 3) := dk_167 0 15 (dk_at dksX1_wideEnd_2 8 rfl rfl)
theorem dX1_wideEnd_58 : decode cX1_wideEnd 58 = .ok (.aload_n 3, 1) := dk_45 (dk_at dksX1_wideEnd_2 11 rfl rfl)
theorem dX1_wideEnd_59 : decode cX1_wideEnd 59 = .ok (.invokevirtual 95, 3) := dk_182 0 95 (dk_at dksX1_wideEnd_2 12 rfl rfl)
theorem dX1_wideEnd_62 : decode cX1_wideEnd 62 = .ok (.aload 7, 2) := dk_25 7 (dk_at dksX1_wideEnd_2 15 rfl rfl)
theorem dX1_wideEnd_64 : decode cX1_wideEnd 64 = .ok (.invokevirtual 95, 3) := dk_182 0 95 (dk_at dksX1_wideEnd_2 17 rfl rfl)
theorem dX1_wideEnd_67 : decode cX1_wideEnd 67 = .ok (.invokestatic 149, 3) := dk_184 0 149 (dk_at dksX1_wideEnd_2 20 rfl rfl)
theorem dX1_wideEnd_70 : decode cX1_wideEnd 70 = .ok (.invokestatic 25, 3) := dk_184 0 25 (dk_at dksX1_wideEnd_3 0 rfl rfl)
theorem dX1_wideEnd_73 : decode cX1_wideEnd 73 = .ok (.astore_n 3, 1) := dk_78 (dk_at dksX1_wideEnd_3 3 rfl rfl)
theorem dX1_wideEnd_74 : decode cX1_wideEnd 74 = .ok (.iinc 6 1, 3) := dk_132 6 1 (dk_at dksX1_wideEnd_3 4 rfl rfl)
theorem dX1_wideEnd_77 : decode cX1_wideEnd 77 = .ok (.goto (-52), 3) := dk_167 255 204 (dk_at dksX1_wideEnd_3 7 rfl rfl)
theorem dX1_wideEnd_80 : decode cX1_wideEnd 80 = .ok (.aload_n 0, 1) := dk_42 (dk_at dksX1_wideEnd_3 10 rfl rfl)
theorem dX1_wideEnd_81 : decode cX1_wideEnd 81 = .ok (.iload_n 2, 1) := dk_28 (dk_at dksX1_wideEnd_3 11 rfl rfl)
theorem dX1_wideEnd_82 : decode cX1_wideEnd 82 = .ok (.aload_n 3, 1) := dk_45 (dk_at dksX1_wideEnd_3 12 rfl rfl)
theorem dX1_wideEnd_83 : decode cX1_wideEnd 83 = .ok (.invokevirtual 126, 3) := dk_182 0 126 (dk_at dksX1_wideEnd_3 13 rfl rfl)
theorem dX1_wideEnd_86 : decode cX1_wideEnd 86 = .ok (.ireturn, 1) := dk_172 (dk_at dksX1_wideEnd_3 16 rfl rfl)
abbrev cX1_wideText : ByteArray := prog_1_method_27_code
def yX1_wideText : MethodName := ⟨RX1, "wideText", "(I)Ljava/lang/String;"⟩
def dkwX1_wideText_3 : List UInt8 := [20, 0, 64, 127, 182, 0, 183, 182, 0, 186, 176]
abbrev dktX1_wideText_3 : List UInt8 := dkwX1_wideText_3 ++ []
def dkwX1_wideText_2 : List UInt8 := [16, 32, 182, 0, 180, 22, 4, 16, 52, 125, 182, 0, 183, 16, 32, 182, 0, 180, 87, 25, 6, 22, 4]
abbrev dktX1_wideText_2 : List UInt8 := dkwX1_wideText_2 ++ dktX1_wideText_3
def dkwX1_wideText_1 : List UInt8 := [183, 0, 175, 58, 6, 25, 6, 32, 9, 148, 156, 0, 7, 4, 167, 0, 4, 3, 184, 0, 91, 182, 0, 176]
abbrev dktX1_wideText_1 : List UInt8 := dkwX1_wideText_1 ++ dktX1_wideText_2
def dkwX1_wideText_0 : List UInt8 := [42, 27, 182, 0, 142, 182, 0, 95, 184, 0, 54, 65, 32, 20, 0, 46, 127, 55, 4, 187, 0, 173, 89]
abbrev dktX1_wideText_0 : List UInt8 := dkwX1_wideText_0 ++ dktX1_wideText_1
theorem dksX1_wideText_0 : cX1_wideText.data.toList.drop 0 = dktX1_wideText_0 := by decide +kernel
theorem dksX1_wideText_1 : cX1_wideText.data.toList.drop 23 = dktX1_wideText_1 := dk_seg dksX1_wideText_0 23 rfl rfl
theorem dksX1_wideText_2 : cX1_wideText.data.toList.drop 47 = dktX1_wideText_2 := dk_seg dksX1_wideText_1 24 rfl rfl
theorem dksX1_wideText_3 : cX1_wideText.data.toList.drop 70 = dktX1_wideText_3 := dk_seg dksX1_wideText_2 23 rfl rfl
theorem dX1_wideText_0 : decode cX1_wideText 0 = .ok (.aload_n 0, 1) := dk_42 (dk_at dksX1_wideText_0 0 rfl rfl)
theorem dX1_wideText_1 : decode cX1_wideText 1 = .ok (.iload_n 1, 1) := dk_27 (dk_at dksX1_wideText_0 1 rfl rfl)
theorem dX1_wideText_2 : decode cX1_wideText 2 = .ok (.invokevirtual 142, 3) := dk_182 0 142 (dk_at dksX1_wideText_0 2 rfl rfl)
theorem dX1_wideText_5 : decode cX1_wideText 5 = .ok (.invokevirtual 95, 3) := dk_182 0 95 (dk_at dksX1_wideText_0 5 rfl rfl)
theorem dX1_wideText_8 : decode cX1_wideText 8 = .ok (.invokestatic 54, 3) := dk_184 0 54 (dk_at dksX1_wideText_0 8 rfl rfl)
theorem dX1_wideText_11 : decode cX1_wideText 11 = .ok (.lstore_n 2, 1) := dk_65 (dk_at dksX1_wideText_0 11 rfl rfl)
theorem dX1_wideText_12 : decode cX1_wideText 12 = .ok (.lload_n 2, 1) := dk_32 (dk_at dksX1_wideText_0 12 rfl rfl)
theorem dX1_wideText_13 : decode cX1_wideText 13 = .ok (.ldc2_w 46, 3) := dk_20 0 46 (dk_at dksX1_wideText_0 13 rfl rfl)
theorem dX1_wideText_16 : decode cX1_wideText 16 = .ok (.land, 1) := dk_127 (dk_at dksX1_wideText_0 16 rfl rfl)
theorem dX1_wideText_17 : decode cX1_wideText 17 = .ok (.lstore 4, 2) := dk_55 4 (dk_at dksX1_wideText_0 17 rfl rfl)
theorem dX1_wideText_19 : decode cX1_wideText 19 = .ok (.new 173, 3) := dk_187 0 173 (dk_at dksX1_wideText_0 19 rfl rfl)
theorem dX1_wideText_22 : decode cX1_wideText 22 = .ok (.dup, 1) := dk_89 (dk_at dksX1_wideText_0 22 rfl rfl)
theorem dX1_wideText_23 : decode cX1_wideText 23 = .ok (.invokespecial 175, 3) := dk_183 0 175 (dk_at dksX1_wideText_1 0 rfl rfl)
theorem dX1_wideText_26 : decode cX1_wideText 26 = .ok (.astore 6, 2) := dk_58 6 (dk_at dksX1_wideText_1 3 rfl rfl)
theorem dX1_wideText_28 : decode cX1_wideText 28 = .ok (.aload 6, 2) := dk_25 6 (dk_at dksX1_wideText_1 5 rfl rfl)
theorem dX1_wideText_30 : decode cX1_wideText 30 = .ok (.lload_n 2, 1) := dk_32 (dk_at dksX1_wideText_1 7 rfl rfl)
theorem dX1_wideText_31 : decode cX1_wideText 31 = .ok (.lconst 0, 1) := dk_9 (dk_at dksX1_wideText_1 8 rfl rfl)
theorem dX1_wideText_32 : decode cX1_wideText 32 = .ok (.lcmp, 1) := dk_148 (dk_at dksX1_wideText_1 9 rfl rfl)
theorem dX1_wideText_33 : decode cX1_wideText 33 = .ok (.ifCond .ge 7, 3) := dk_156 0 7 (dk_at dksX1_wideText_1 10 rfl rfl)
theorem dX1_wideText_36 : decode cX1_wideText 36 = .ok (.iconst 1, 1) := dk_4 (dk_at dksX1_wideText_1 13 rfl rfl)
theorem dX1_wideText_37 : decode cX1_wideText 37 = .ok (.goto 4, 3) := dk_167 0 4 (dk_at dksX1_wideText_1 14 rfl rfl)
theorem dX1_wideText_40 : decode cX1_wideText 40 = .ok (.iconst 0, 1) := dk_3 (dk_at dksX1_wideText_1 17 rfl rfl)
theorem dX1_wideText_41 : decode cX1_wideText 41 = .ok (.invokestatic 91, 3) := dk_184 0 91 (dk_at dksX1_wideText_1 18 rfl rfl)
theorem dX1_wideText_44 : decode cX1_wideText 44 = .ok (.invokevirtual 176, 3) := dk_182 0 176 (dk_at dksX1_wideText_1 21 rfl rfl)
theorem dX1_wideText_47 : decode cX1_wideText 47 = .ok (.bipush 32, 2) := dk_16 32 (dk_at dksX1_wideText_2 0 rfl rfl)
theorem dX1_wideText_49 : decode cX1_wideText 49 = .ok (.invokevirtual 180, 3) := dk_182 0 180 (dk_at dksX1_wideText_2 2 rfl rfl)
theorem dX1_wideText_52 : decode cX1_wideText 52 = .ok (.lload 4, 2) := dk_22 4 (dk_at dksX1_wideText_2 5 rfl rfl)
theorem dX1_wideText_54 : decode cX1_wideText 54 = .ok (.bipush 52, 2) := dk_16 52 (dk_at dksX1_wideText_2 7 rfl rfl)
theorem dX1_wideText_56 : decode cX1_wideText 56 = .ok (.lushr, 1) := dk_125 (dk_at dksX1_wideText_2 9 rfl rfl)
theorem dX1_wideText_57 : decode cX1_wideText 57 = .ok (.invokevirtual 183, 3) := dk_182 0 183 (dk_at dksX1_wideText_2 10 rfl rfl)
theorem dX1_wideText_60 : decode cX1_wideText 60 = .ok (.bipush 32, 2) := dk_16 32 (dk_at dksX1_wideText_2 13 rfl rfl)
theorem dX1_wideText_62 : decode cX1_wideText 62 = .ok (.invokevirtual 180, 3) := dk_182 0 180 (dk_at dksX1_wideText_2 15 rfl rfl)
theorem dX1_wideText_65 : decode cX1_wideText 65 = .ok (.pop, 1) := dk_87 (dk_at dksX1_wideText_2 18 rfl rfl)
theorem dX1_wideText_66 : decode cX1_wideText 66 = .ok (.aload 6, 2) := dk_25 6 (dk_at dksX1_wideText_2 19 rfl rfl)
theorem dX1_wideText_68 : decode cX1_wideText 68 = .ok (.lload 4, 2) := dk_22 4 (dk_at dksX1_wideText_2 21 rfl rfl)
theorem dX1_wideText_70 : decode cX1_wideText 70 = .ok (.ldc2_w 64, 3) := dk_20 0 64 (dk_at dksX1_wideText_3 0 rfl rfl)
theorem dX1_wideText_73 : decode cX1_wideText 73 = .ok (.land, 1) := dk_127 (dk_at dksX1_wideText_3 3 rfl rfl)
theorem dX1_wideText_74 : decode cX1_wideText 74 = .ok (.invokevirtual 183, 3) := dk_182 0 183 (dk_at dksX1_wideText_3 4 rfl rfl)
theorem dX1_wideText_77 : decode cX1_wideText 77 = .ok (.invokevirtual 186, 3) := dk_182 0 186 (dk_at dksX1_wideText_3 7 rfl rfl)
theorem dX1_wideText_80 : decode cX1_wideText 80 = .ok (.areturn, 1) := dk_176 (dk_at dksX1_wideText_3 10 rfl rfl)
abbrev cX1_wideSame : ByteArray := prog_1_method_29_code
def yX1_wideSame : MethodName := ⟨RX1, "wideSame", "(III)Z"⟩
def dkwX1_wideSame_2 : List UInt8 := [25, 6, 25, 5, 182, 0, 203, 167, 0, 10, 25, 4, 25, 5, 184, 0, 204, 172]
abbrev dktX1_wideSame_2 : List UInt8 := dkwX1_wideSame_2 ++ []
def dkwX1_wideSame_1 : List UInt8 := [25, 4, 58, 6, 29, 154, 0, 13, 25, 4, 25, 5, 182, 0, 87, 167, 0, 25, 29, 4, 160, 0, 13]
abbrev dktX1_wideSame_1 : List UInt8 := dkwX1_wideSame_1 ++ dktX1_wideSame_2
def dkwX1_wideSame_0 : List UInt8 := [42, 27, 182, 0, 142, 58, 4, 42, 28, 182, 0, 142, 58, 5, 29, 3, 5, 184, 0, 32, 184, 0, 132]
abbrev dktX1_wideSame_0 : List UInt8 := dkwX1_wideSame_0 ++ dktX1_wideSame_1
theorem dksX1_wideSame_0 : cX1_wideSame.data.toList.drop 0 = dktX1_wideSame_0 := by decide +kernel
theorem dksX1_wideSame_1 : cX1_wideSame.data.toList.drop 23 = dktX1_wideSame_1 := dk_seg dksX1_wideSame_0 23 rfl rfl
theorem dksX1_wideSame_2 : cX1_wideSame.data.toList.drop 46 = dktX1_wideSame_2 := dk_seg dksX1_wideSame_1 23 rfl rfl
theorem dX1_wideSame_0 : decode cX1_wideSame 0 = .ok (.aload_n 0, 1) := dk_42 (dk_at dksX1_wideSame_0 0 rfl rfl)
theorem dX1_wideSame_1 : decode cX1_wideSame 1 = .ok (.iload_n 1, 1) := dk_27 (dk_at dksX1_wideSame_0 1 rfl rfl)
theorem dX1_wideSame_2 : decode cX1_wideSame 2 = .ok (.invokevirtual 142, 3) := dk_182 0 142 (dk_at dksX1_wideSame_0 2 rfl rfl)
theorem dX1_wideSame_5 : decode cX1_wideSame 5 = .ok (.astore 4, 2) := dk_58 4 (dk_at dksX1_wideSame_0 5 rfl rfl)
theorem dX1_wideSame_7 : decode cX1_wideSame 7 = .ok (.aload_n 0, 1) := dk_42 (dk_at dksX1_wideSame_0 7 rfl rfl)
theorem dX1_wideSame_8 : decode cX1_wideSame 8 = .ok (.iload_n 2, 1) := dk_28 (dk_at dksX1_wideSame_0 8 rfl rfl)
theorem dX1_wideSame_9 : decode cX1_wideSame 9 = .ok (.invokevirtual 142, 3) := dk_182 0 142 (dk_at dksX1_wideSame_0 9 rfl rfl)
theorem dX1_wideSame_12 : decode cX1_wideSame 12 = .ok (.astore 5, 2) := dk_58 5 (dk_at dksX1_wideSame_0 12 rfl rfl)
theorem dX1_wideSame_14 : decode cX1_wideSame 14 = .ok (.iload_n 3, 1) := dk_29 (dk_at dksX1_wideSame_0 14 rfl rfl)
theorem dX1_wideSame_15 : decode cX1_wideSame 15 = .ok (.iconst 0, 1) := dk_3 (dk_at dksX1_wideSame_0 15 rfl rfl)
theorem dX1_wideSame_16 : decode cX1_wideSame 16 = .ok (.iconst 2, 1) := dk_5 (dk_at dksX1_wideSame_0 16 rfl rfl)
theorem dX1_wideSame_17 : decode cX1_wideSame 17 = .ok (.invokestatic 32, 3) := dk_184 0 32 (dk_at dksX1_wideSame_0 17 rfl rfl)
theorem dX1_wideSame_20 : decode cX1_wideSame 20 = .ok (.invokestatic 132, 3) := dk_184 0 132 (dk_at dksX1_wideSame_0 20 rfl rfl)
theorem dX1_wideSame_23 : decode cX1_wideSame 23 = .ok (.aload 4, 2) := dk_25 4 (dk_at dksX1_wideSame_1 0 rfl rfl)
theorem dX1_wideSame_25 : decode cX1_wideSame 25 = .ok (.astore 6, 2) := dk_58 6 (dk_at dksX1_wideSame_1 2 rfl rfl)
theorem dX1_wideSame_27 : decode cX1_wideSame 27 = .ok (.iload_n 3, 1) := dk_29 (dk_at dksX1_wideSame_1 4 rfl rfl)
theorem dX1_wideSame_28 : decode cX1_wideSame 28 = .ok (.ifCond .ne 13, 3) := dk_154 0 13 (dk_at dksX1_wideSame_1 5 rfl rfl)
theorem dX1_wideSame_31 : decode cX1_wideSame 31 = .ok (.aload 4, 2) := dk_25 4 (dk_at dksX1_wideSame_1 8 rfl rfl)
theorem dX1_wideSame_33 : decode cX1_wideSame 33 = .ok (.aload 5, 2) := dk_25 5 (dk_at dksX1_wideSame_1 10 rfl rfl)
theorem dX1_wideSame_35 : decode cX1_wideSame 35 = .ok (.invokevirtual 87, 3) := dk_182 0 87 (dk_at dksX1_wideSame_1 12 rfl rfl)
theorem dX1_wideSame_38 : decode cX1_wideSame 38 = .ok (.goto 25, 3) := dk_167 0 25 (dk_at dksX1_wideSame_1 15 rfl rfl)
theorem dX1_wideSame_41 : decode cX1_wideSame 41 = .ok (.iload_n 3, 1) := dk_29 (dk_at dksX1_wideSame_1 18 rfl rfl)
theorem dX1_wideSame_42 : decode cX1_wideSame 42 = .ok (.iconst 1, 1) := dk_4 (dk_at dksX1_wideSame_1 19 rfl rfl)
theorem dX1_wideSame_43 : decode cX1_wideSame 43 = .ok (.if_icmp .ne 13, 3) := dk_160 0 13 (dk_at dksX1_wideSame_1 20 rfl rfl)
theorem dX1_wideSame_46 : decode cX1_wideSame 46 = .ok (.aload 6, 2) := dk_25 6 (dk_at dksX1_wideSame_2 0 rfl rfl)
theorem dX1_wideSame_48 : decode cX1_wideSame 48 = .ok (.aload 5, 2) := dk_25 5 (dk_at dksX1_wideSame_2 2 rfl rfl)
theorem dX1_wideSame_50 : decode cX1_wideSame 50 = .ok (.invokevirtual 203, 3) := dk_182 0 203 (dk_at dksX1_wideSame_2 4 rfl rfl)
theorem dX1_wideSame_53 : decode cX1_wideSame 53 = .ok (.goto 10, 3) := dk_167 0 10 (dk_at dksX1_wideSame_2 7 rfl rfl)
theorem dX1_wideSame_56 : decode cX1_wideSame 56 = .ok (.aload 4, 2) := dk_25 4 (dk_at dksX1_wideSame_2 10 rfl rfl)
theorem dX1_wideSame_58 : decode cX1_wideSame 58 = .ok (.aload 5, 2) := dk_25 5 (dk_at dksX1_wideSame_2 12 rfl rfl)
theorem dX1_wideSame_60 : decode cX1_wideSame 60 = .ok (.invokestatic 204, 3) := dk_184 0 204 (dk_at dksX1_wideSame_2 14 rfl rfl)
theorem dX1_wideSame_63 : decode cX1_wideSame 63 = .ok (.ireturn, 1) := dk_172 (dk_at dksX1_wideSame_2 17 rfl rfl)
abbrev cX1_wideOther : ByteArray := prog_1_method_30_code
def yX1_wideOther : MethodName := ⟨RX1, "wideOther", "(II)Z"⟩
def dkwX1_wideOther_2 : List UInt8 := [167, 0, 11, 3, 184, 0, 215, 182, 0, 218, 134, 184, 0, 29, 58, 4, 45, 25, 4, 182, 0, 87, 172]
abbrev dktX1_wideOther_2 : List UInt8 := dkwX1_wideOther_2 ++ []
def dkwX1_wideOther_1 : List UInt8 := [4, 160, 0, 8, 18, 209, 167, 0, 31, 28, 5, 160, 0, 15, 42, 180, 0, 21, 27, 50, 182, 0, 211]
abbrev dktX1_wideOther_1 : List UInt8 := dkwX1_wideOther_1 ++ dktX1_wideOther_2
def dkwX1_wideOther_0 : List UInt8 := [42, 27, 182, 0, 142, 78, 28, 3, 6, 184, 0, 32, 184, 0, 132, 28, 154, 0, 7, 1, 167, 0, 41, 28]
abbrev dktX1_wideOther_0 : List UInt8 := dkwX1_wideOther_0 ++ dktX1_wideOther_1
theorem dksX1_wideOther_0 : cX1_wideOther.data.toList.drop 0 = dktX1_wideOther_0 := by decide +kernel
theorem dksX1_wideOther_1 : cX1_wideOther.data.toList.drop 24 = dktX1_wideOther_1 := dk_seg dksX1_wideOther_0 24 rfl rfl
theorem dksX1_wideOther_2 : cX1_wideOther.data.toList.drop 47 = dktX1_wideOther_2 := dk_seg dksX1_wideOther_1 23 rfl rfl
theorem dX1_wideOther_0 : decode cX1_wideOther 0 = .ok (.aload_n 0, 1) := dk_42 (dk_at dksX1_wideOther_0 0 rfl rfl)
theorem dX1_wideOther_1 : decode cX1_wideOther 1 = .ok (.iload_n 1, 1) := dk_27 (dk_at dksX1_wideOther_0 1 rfl rfl)
theorem dX1_wideOther_2 : decode cX1_wideOther 2 = .ok (.invokevirtual 142, 3) := dk_182 0 142 (dk_at dksX1_wideOther_0 2 rfl rfl)
theorem dX1_wideOther_5 : decode cX1_wideOther 5 = .ok (.astore_n 3, 1) := dk_78 (dk_at dksX1_wideOther_0 5 rfl rfl)
theorem dX1_wideOther_6 : decode cX1_wideOther 6 = .ok (.iload_n 2, 1) := dk_28 (dk_at dksX1_wideOther_0 6 rfl rfl)
theorem dX1_wideOther_7 : decode cX1_wideOther 7 = .ok (.iconst 0, 1) := dk_3 (dk_at dksX1_wideOther_0 7 rfl rfl)
theorem dX1_wideOther_8 : decode cX1_wideOther 8 = .ok (.iconst 3, 1) := dk_6 (dk_at dksX1_wideOther_0 8 rfl rfl)
theorem dX1_wideOther_9 : decode cX1_wideOther 9 = .ok (.invokestatic 32, 3) := dk_184 0 32 (dk_at dksX1_wideOther_0 9 rfl rfl)
theorem dX1_wideOther_12 : decode cX1_wideOther 12 = .ok (.invokestatic 132, 3) := dk_184 0 132 (dk_at dksX1_wideOther_0 12 rfl rfl)
theorem dX1_wideOther_15 : decode cX1_wideOther 15 = .ok (.iload_n 2, 1) := dk_28 (dk_at dksX1_wideOther_0 15 rfl rfl)
theorem dX1_wideOther_16 : decode cX1_wideOther 16 = .ok (.ifCond .ne 7, 3) := dk_154 0 7 (dk_at dksX1_wideOther_0 16 rfl rfl)
theorem dX1_wideOther_19 : decode cX1_wideOther 19 = .ok (.aconst_null, 1) := dk_1 (dk_at dksX1_wideOther_0 19 rfl rfl)
theorem dX1_wideOther_20 : decode cX1_wideOther 20 = .ok (.goto 41, 3) := dk_167 0 41 (dk_at dksX1_wideOther_0 20 rfl rfl)
theorem dX1_wideOther_23 : decode cX1_wideOther 23 = .ok (.iload_n 2, 1) := dk_28 (dk_at dksX1_wideOther_0 23 rfl rfl)
theorem dX1_wideOther_24 : decode cX1_wideOther 24 = .ok (.iconst 1, 1) := dk_4 (dk_at dksX1_wideOther_1 0 rfl rfl)
theorem dX1_wideOther_25 : decode cX1_wideOther 25 = .ok (.if_icmp .ne 8, 3) := dk_160 0 8 (dk_at dksX1_wideOther_1 1 rfl rfl)
theorem dX1_wideOther_28 : decode cX1_wideOther 28 = .ok (.ldc 209, 2) := dk_18 209 (dk_at dksX1_wideOther_1 4 rfl rfl)
theorem dX1_wideOther_30 : decode cX1_wideOther 30 = .ok (.goto 31, 3) := dk_167 0 31 (dk_at dksX1_wideOther_1 6 rfl rfl)
theorem dX1_wideOther_33 : decode cX1_wideOther 33 = .ok (.iload_n 2, 1) := dk_28 (dk_at dksX1_wideOther_1 9 rfl rfl)
theorem dX1_wideOther_34 : decode cX1_wideOther 34 = .ok (.iconst 2, 1) := dk_5 (dk_at dksX1_wideOther_1 10 rfl rfl)
theorem dX1_wideOther_35 : decode cX1_wideOther 35 = .ok (.if_icmp .ne 15, 3) := dk_160 0 15 (dk_at dksX1_wideOther_1 11 rfl rfl)
theorem dX1_wideOther_38 : decode cX1_wideOther 38 = .ok (.aload_n 0, 1) := dk_42 (dk_at dksX1_wideOther_1 14 rfl rfl)
theorem dX1_wideOther_39 : decode cX1_wideOther 39 = .ok (.getfield 21, 3) := dk_180 0 21 (dk_at dksX1_wideOther_1 15 rfl rfl)
theorem dX1_wideOther_42 : decode cX1_wideOther 42 = .ok (.iload_n 1, 1) := dk_27 (dk_at dksX1_wideOther_1 18 rfl rfl)
theorem dX1_wideOther_43 : decode cX1_wideOther 43 = .ok (.aaload, 1) := dk_50 (dk_at dksX1_wideOther_1 19 rfl rfl)
theorem dX1_wideOther_44 : decode cX1_wideOther 44 = .ok (.invokevirtual 211, 3) := dk_182 0 211 (dk_at dksX1_wideOther_1 20 rfl rfl)
theorem dX1_wideOther_47 : decode cX1_wideOther 47 = .ok (.goto 11, 3) := dk_167 0 11 (dk_at dksX1_wideOther_2 0 rfl rfl)
theorem dX1_wideOther_50 : decode cX1_wideOther 50 = .ok (.iconst 0, 1) := dk_3 (dk_at dksX1_wideOther_2 3 rfl rfl)
theorem dX1_wideOther_51 : decode cX1_wideOther 51 = .ok (.invokestatic 215, 3) := dk_184 0 215 (dk_at dksX1_wideOther_2 4 rfl rfl)
theorem dX1_wideOther_54 : decode cX1_wideOther 54 = .ok (.invokevirtual 218, 3) := dk_182 0 218 (dk_at dksX1_wideOther_2 7 rfl rfl)
theorem dX1_wideOther_57 : decode cX1_wideOther 57 = .ok (.i2f, 1) := dk_134 (dk_at dksX1_wideOther_2 10 rfl rfl)
theorem dX1_wideOther_58 : decode cX1_wideOther 58 = .ok (.invokestatic 29, 3) := dk_184 0 29 (dk_at dksX1_wideOther_2 11 rfl rfl)
theorem dX1_wideOther_61 : decode cX1_wideOther 61 = .ok (.astore 4, 2) := dk_58 4 (dk_at dksX1_wideOther_2 14 rfl rfl)
theorem dX1_wideOther_63 : decode cX1_wideOther 63 = .ok (.aload_n 3, 1) := dk_45 (dk_at dksX1_wideOther_2 16 rfl rfl)
theorem dX1_wideOther_64 : decode cX1_wideOther 64 = .ok (.aload 4, 2) := dk_25 4 (dk_at dksX1_wideOther_2 17 rfl rfl)
theorem dX1_wideOther_66 : decode cX1_wideOther 66 = .ok (.invokevirtual 87, 3) := dk_182 0 87 (dk_at dksX1_wideOther_2 19 rfl rfl)
theorem dX1_wideOther_69 : decode cX1_wideOther 69 = .ok (.ireturn, 1) := dk_172 (dk_at dksX1_wideOther_2 22 rfl rfl)
abbrev cX1_wideEndless : ByteArray := prog_1_method_34_code
def yX1_wideEndless : MethodName := ⟨RX1, "wideEndless", "(II)Z"⟩
def dkwX1_wideEndless_2 : List UInt8 := [184, 0, 229, 154, 0, 7, 4, 167, 0, 4, 3, 172]
abbrev dktX1_wideEndless_2 : List UInt8 := dkwX1_wideEndless_2 ++ []
def dkwX1_wideEndless_1 : List UInt8 := [167, 0, 33, 28, 4, 160, 0, 13, 45, 182, 0, 95, 184, 0, 226, 167, 0, 18, 45, 182, 0, 95]
abbrev dktX1_wideEndless_1 : List UInt8 := dkwX1_wideEndless_1 ++ dktX1_wideEndless_2
def dkwX1_wideEndless_0 : List UInt8 := [42, 27, 182, 0, 142, 78, 28, 3, 5, 184, 0, 32, 184, 0, 132, 28, 154, 0, 10, 45, 182, 0, 103]
abbrev dktX1_wideEndless_0 : List UInt8 := dkwX1_wideEndless_0 ++ dktX1_wideEndless_1
theorem dksX1_wideEndless_0 : cX1_wideEndless.data.toList.drop 0 = dktX1_wideEndless_0 := by decide +kernel
theorem dksX1_wideEndless_1 : cX1_wideEndless.data.toList.drop 23 = dktX1_wideEndless_1 := dk_seg dksX1_wideEndless_0 23 rfl rfl
theorem dksX1_wideEndless_2 : cX1_wideEndless.data.toList.drop 45 = dktX1_wideEndless_2 := dk_seg dksX1_wideEndless_1 22 rfl rfl
theorem dX1_wideEndless_0 : decode cX1_wideEndless 0 = .ok (.aload_n 0, 1) := dk_42 (dk_at dksX1_wideEndless_0 0 rfl rfl)
theorem dX1_wideEndless_1 : decode cX1_wideEndless 1 = .ok (.iload_n 1, 1) := dk_27 (dk_at dksX1_wideEndless_0 1 rfl rfl)
theorem dX1_wideEndless_2 : decode cX1_wideEndless 2 = .ok (.invokevirtual 142, 3) := dk_182 0 142 (dk_at dksX1_wideEndless_0 2 rfl rfl)
theorem dX1_wideEndless_5 : decode cX1_wideEndless 5 = .ok (.astore_n 3, 1) := dk_78 (dk_at dksX1_wideEndless_0 5 rfl rfl)
theorem dX1_wideEndless_6 : decode cX1_wideEndless 6 = .ok (.iload_n 2, 1) := dk_28 (dk_at dksX1_wideEndless_0 6 rfl rfl)
theorem dX1_wideEndless_7 : decode cX1_wideEndless 7 = .ok (.iconst 0, 1) := dk_3 (dk_at dksX1_wideEndless_0 7 rfl rfl)
theorem dX1_wideEndless_8 : decode cX1_wideEndless 8 = .ok (.iconst 2, 1) := dk_5 (dk_at dksX1_wideEndless_0 8 rfl rfl)
theorem dX1_wideEndless_9 : decode cX1_wideEndless 9 = .ok (.invokestatic 32, 3) := dk_184 0 32 (dk_at dksX1_wideEndless_0 9 rfl rfl)
theorem dX1_wideEndless_12 : decode cX1_wideEndless 12 = .ok (.invokestatic 132, 3) := dk_184 0 132 (dk_at dksX1_wideEndless_0 12 rfl rfl)
theorem dX1_wideEndless_15 : decode cX1_wideEndless 15 = .ok (.iload_n 2, 1) := dk_28 (dk_at dksX1_wideEndless_0 15 rfl rfl)
theorem dX1_wideEndless_16 : decode cX1_wideEndless 16 = .ok (.ifCond .ne 10, 3) := dk_154 0 10 (dk_at dksX1_wideEndless_0 16 rfl rfl)
theorem dX1_wideEndless_19 : decode cX1_wideEndless 19 = .ok (.aload_n 3, 1) := dk_45 (dk_at dksX1_wideEndless_0 19 rfl rfl)
theorem dX1_wideEndless_20 : decode cX1_wideEndless 20 = .ok (.invokevirtual 103, 3) := dk_182 0 103 (dk_at dksX1_wideEndless_0 20 rfl rfl)
theorem dX1_wideEndless_23 : decode cX1_wideEndless 23 = .ok (.goto 33, 3) := dk_167 0 33 (dk_at dksX1_wideEndless_1 0 rfl rfl)
theorem dX1_wideEndless_26 : decode cX1_wideEndless 26 = .ok (.iload_n 2, 1) := dk_28 (dk_at dksX1_wideEndless_1 3 rfl rfl)
theorem dX1_wideEndless_27 : decode cX1_wideEndless 27 = .ok (.iconst 1, 1) := dk_4 (dk_at dksX1_wideEndless_1 4 rfl rfl)
theorem dX1_wideEndless_28 : decode cX1_wideEndless 28 = .ok (.if_icmp .ne 13, 3) := dk_160 0 13 (dk_at dksX1_wideEndless_1 5 rfl rfl)
theorem dX1_wideEndless_31 : decode cX1_wideEndless 31 = .ok (.aload_n 3, 1) := dk_45 (dk_at dksX1_wideEndless_1 8 rfl rfl)
theorem dX1_wideEndless_32 : decode cX1_wideEndless 32 = .ok (.invokevirtual 95, 3) := dk_182 0 95 (dk_at dksX1_wideEndless_1 9 rfl rfl)
theorem dX1_wideEndless_35 : decode cX1_wideEndless 35 = .ok (.invokestatic 226, 3) := dk_184 0 226 (dk_at dksX1_wideEndless_1 12 rfl rfl)
theorem dX1_wideEndless_38 : decode cX1_wideEndless 38 = .ok (.goto 18, 3) := dk_167 0 18 (dk_at dksX1_wideEndless_1 15 rfl rfl)
theorem dX1_wideEndless_41 : decode cX1_wideEndless 41 = .ok (.aload_n 3, 1) := dk_45 (dk_at dksX1_wideEndless_1 18 rfl rfl)
theorem dX1_wideEndless_42 : decode cX1_wideEndless 42 = .ok (.invokevirtual 95, 3) := dk_182 0 95 (dk_at dksX1_wideEndless_1 19 rfl rfl)
theorem dX1_wideEndless_45 : decode cX1_wideEndless 45 = .ok (.invokestatic 229, 3) := dk_184 0 229 (dk_at dksX1_wideEndless_2 0 rfl rfl)
theorem dX1_wideEndless_48 : decode cX1_wideEndless 48 = .ok (.ifCond .ne 7, 3) := dk_154 0 7 (dk_at dksX1_wideEndless_2 3 rfl rfl)
theorem dX1_wideEndless_51 : decode cX1_wideEndless 51 = .ok (.iconst 1, 1) := dk_4 (dk_at dksX1_wideEndless_2 6 rfl rfl)
theorem dX1_wideEndless_52 : decode cX1_wideEndless 52 = .ok (.goto 4, 3) := dk_167 0 4 (dk_at dksX1_wideEndless_2 7 rfl rfl)
theorem dX1_wideEndless_55 : decode cX1_wideEndless 55 = .ok (.iconst 0, 1) := dk_3 (dk_at dksX1_wideEndless_2 10 rfl rfl)
theorem dX1_wideEndless_56 : decode cX1_wideEndless 56 = .ok (.ireturn, 1) := dk_172 (dk_at dksX1_wideEndless_2 11 rfl rfl)
abbrev cX1_wideHas : ByteArray := prog_1_method_37_code
def yX1_wideHas : MethodName := ⟨RX1, "wideHas", "(I)Z"⟩
def dkwX1_wideHas_2 : List UInt8 := [25, 7, 44, 182, 0, 87, 128, 62, 132, 6, 1, 167, 255, 230, 29, 172]
abbrev dktX1_wideHas_2 : List UInt8 := dkwX1_wideHas_2 ++ []
def dkwX1_wideHas_1 : List UInt8 := [25, 4, 190, 54, 5, 3, 54, 6, 21, 6, 21, 5, 162, 0, 25, 25, 4, 21, 6, 50, 58, 7, 29]
abbrev dktX1_wideHas_1 : List UInt8 := dkwX1_wideHas_1 ++ dktX1_wideHas_2
def dkwX1_wideHas_0 : List UInt8 := [27, 3, 16, 6, 184, 0, 32, 184, 0, 132, 27, 184, 0, 138, 77, 3, 62, 42, 180, 0, 15, 58, 4]
abbrev dktX1_wideHas_0 : List UInt8 := dkwX1_wideHas_0 ++ dktX1_wideHas_1
theorem dksX1_wideHas_0 : cX1_wideHas.data.toList.drop 0 = dktX1_wideHas_0 := by decide +kernel
theorem dksX1_wideHas_1 : cX1_wideHas.data.toList.drop 23 = dktX1_wideHas_1 := dk_seg dksX1_wideHas_0 23 rfl rfl
theorem dksX1_wideHas_2 : cX1_wideHas.data.toList.drop 46 = dktX1_wideHas_2 := dk_seg dksX1_wideHas_1 23 rfl rfl
theorem dX1_wideHas_0 : decode cX1_wideHas 0 = .ok (.iload_n 1, 1) := dk_27 (dk_at dksX1_wideHas_0 0 rfl rfl)
theorem dX1_wideHas_1 : decode cX1_wideHas 1 = .ok (.iconst 0, 1) := dk_3 (dk_at dksX1_wideHas_0 1 rfl rfl)
theorem dX1_wideHas_2 : decode cX1_wideHas 2 = .ok (.bipush 6, 2) := dk_16 6 (dk_at dksX1_wideHas_0 2 rfl rfl)
theorem dX1_wideHas_4 : decode cX1_wideHas 4 = .ok (.invokestatic 32, 3) := dk_184 0 32 (dk_at dksX1_wideHas_0 4 rfl rfl)
theorem dX1_wideHas_7 : decode cX1_wideHas 7 = .ok (.invokestatic 132, 3) := dk_184 0 132 (dk_at dksX1_wideHas_0 7 rfl rfl)
theorem dX1_wideHas_10 : decode cX1_wideHas 10 = .ok (.iload_n 1, 1) := dk_27 (dk_at dksX1_wideHas_0 10 rfl rfl)
theorem dX1_wideHas_11 : decode cX1_wideHas 11 = .ok (.invokestatic 138, 3) := dk_184 0 138 (dk_at dksX1_wideHas_0 11 rfl rfl)
theorem dX1_wideHas_14 : decode cX1_wideHas 14 = .ok (.astore_n 2, 1) := dk_77 (dk_at dksX1_wideHas_0 14 rfl rfl)
theorem dX1_wideHas_15 : decode cX1_wideHas 15 = .ok (.iconst 0, 1) := dk_3 (dk_at dksX1_wideHas_0 15 rfl rfl)
theorem dX1_wideHas_16 : decode cX1_wideHas 16 = .ok (.istore_n 3, 1) := dk_62 (dk_at dksX1_wideHas_0 16 rfl rfl)
theorem dX1_wideHas_17 : decode cX1_wideHas 17 = .ok (.aload_n 0, 1) := dk_42 (dk_at dksX1_wideHas_0 17 rfl rfl)
theorem dX1_wideHas_18 : decode cX1_wideHas 18 = .ok (.getfield 15, 3) := dk_180 0 15 (dk_at dksX1_wideHas_0 18 rfl rfl)
theorem dX1_wideHas_21 : decode cX1_wideHas 21 = .ok (.astore 4, 2) := dk_58 4 (dk_at dksX1_wideHas_0 21 rfl rfl)
theorem dX1_wideHas_23 : decode cX1_wideHas 23 = .ok (.aload 4, 2) := dk_25 4 (dk_at dksX1_wideHas_1 0 rfl rfl)
theorem dX1_wideHas_25 : decode cX1_wideHas 25 = .ok (.arraylength, 1) := dk_190 (dk_at dksX1_wideHas_1 2 rfl rfl)
theorem dX1_wideHas_26 : decode cX1_wideHas 26 = .ok (.istore 5, 2) := dk_54 5 (dk_at dksX1_wideHas_1 3 rfl rfl)
theorem dX1_wideHas_28 : decode cX1_wideHas 28 = .ok (.iconst 0, 1) := dk_3 (dk_at dksX1_wideHas_1 5 rfl rfl)
theorem dX1_wideHas_29 : decode cX1_wideHas 29 = .ok (.istore 6, 2) := dk_54 6 (dk_at dksX1_wideHas_1 6 rfl rfl)
theorem dX1_wideHas_31 : decode cX1_wideHas 31 = .ok (.iload 6, 2) := dk_21 6 (dk_at dksX1_wideHas_1 8 rfl rfl)
theorem dX1_wideHas_33 : decode cX1_wideHas 33 = .ok (.iload 5, 2) := dk_21 5 (dk_at dksX1_wideHas_1 10 rfl rfl)
theorem dX1_wideHas_35 : decode cX1_wideHas 35 = .ok (.if_icmp .ge 25, 3) := dk_162 0 25 (dk_at dksX1_wideHas_1 12 rfl rfl)
theorem dX1_wideHas_38 : decode cX1_wideHas 38 = .ok (.aload 4, 2) := dk_25 4 (dk_at dksX1_wideHas_1 15 rfl rfl)
theorem dX1_wideHas_40 : decode cX1_wideHas 40 = .ok (.iload 6, 2) := dk_21 6 (dk_at dksX1_wideHas_1 17 rfl rfl)
theorem dX1_wideHas_42 : decode cX1_wideHas 42 = .ok (.aaload, 1) := dk_50 (dk_at dksX1_wideHas_1 19 rfl rfl)
theorem dX1_wideHas_43 : decode cX1_wideHas 43 = .ok (.astore 7, 2) := dk_58 7 (dk_at dksX1_wideHas_1 20 rfl rfl)
theorem dX1_wideHas_45 : decode cX1_wideHas 45 = .ok (.iload_n 3, 1) := dk_29 (dk_at dksX1_wideHas_1 22 rfl rfl)
theorem dX1_wideHas_46 : decode cX1_wideHas 46 = .ok (.aload 7, 2) := dk_25 7 (dk_at dksX1_wideHas_2 0 rfl rfl)
theorem dX1_wideHas_48 : decode cX1_wideHas 48 = .ok (.aload_n 2, 1) := dk_44 (dk_at dksX1_wideHas_2 2 rfl rfl)
theorem dX1_wideHas_49 : decode cX1_wideHas 49 = .ok (.invokevirtual 87, 3) := dk_182 0 87 (dk_at dksX1_wideHas_2 3 rfl rfl)
theorem dX1_wideHas_52 : decode cX1_wideHas 52 = .ok (.ior, 1) := dk_128 (dk_at dksX1_wideHas_2 6 rfl rfl)
theorem dX1_wideHas_53 : decode cX1_wideHas 53 = .ok (.istore_n 3, 1) := dk_62 (dk_at dksX1_wideHas_2 7 rfl rfl)
theorem dX1_wideHas_54 : decode cX1_wideHas 54 = .ok (.iinc 6 1, 3) := dk_132 6 1 (dk_at dksX1_wideHas_2 8 rfl rfl)
theorem dX1_wideHas_57 : decode cX1_wideHas 57 = .ok (.goto (-26), 3) := dk_167 255 230 (dk_at dksX1_wideHas_2 11 rfl rfl)
theorem dX1_wideHas_60 : decode cX1_wideHas 60 = .ok (.iload_n 3, 1) := dk_29 (dk_at dksX1_wideHas_2 14 rfl rfl)
theorem dX1_wideHas_61 : decode cX1_wideHas 61 = .ok (.ireturn, 1) := dk_172 (dk_at dksX1_wideHas_2 15 rfl rfl)
abbrev cX1_putNarrow : ByteArray := prog_1_method_47_code
def yX1_putNarrow : MethodName := ⟨RX1, "putNarrow", "(II)I"⟩
def dkwX1_putNarrow_1 : List UInt8 := [184, 0, 29, 182, 1, 21, 172]
abbrev dktX1_putNarrow_1 : List UInt8 := dkwX1_putNarrow_1 ++ []
def dkwX1_putNarrow_0 : List UInt8 := [27, 184, 0, 80, 28, 184, 1, 14, 153, 0, 10, 42, 182, 0, 119, 167, 0, 15, 42, 27, 28, 184, 1, 17]
abbrev dktX1_putNarrow_0 : List UInt8 := dkwX1_putNarrow_0 ++ dktX1_putNarrow_1
theorem dksX1_putNarrow_0 : cX1_putNarrow.data.toList.drop 0 = dktX1_putNarrow_0 := by decide +kernel
theorem dksX1_putNarrow_1 : cX1_putNarrow.data.toList.drop 24 = dktX1_putNarrow_1 := dk_seg dksX1_putNarrow_0 24 rfl rfl
theorem dX1_putNarrow_0 : decode cX1_putNarrow 0 = .ok (.iload_n 1, 1) := dk_27 (dk_at dksX1_putNarrow_0 0 rfl rfl)
theorem dX1_putNarrow_1 : decode cX1_putNarrow 1 = .ok (.invokestatic 80, 3) := dk_184 0 80 (dk_at dksX1_putNarrow_0 1 rfl rfl)
theorem dX1_putNarrow_4 : decode cX1_putNarrow 4 = .ok (.iload_n 2, 1) := dk_28 (dk_at dksX1_putNarrow_0 4 rfl rfl)
theorem dX1_putNarrow_5 : decode cX1_putNarrow 5 = .ok (.invokestatic 270, 3) := dk_184 1 14 (dk_at dksX1_putNarrow_0 5 rfl rfl)
theorem dX1_putNarrow_8 : decode cX1_putNarrow 8 = .ok (.ifCond .eq 10, 3) := dk_153 0 10 (dk_at dksX1_putNarrow_0 8 rfl rfl)
theorem dX1_putNarrow_11 : decode cX1_putNarrow 11 = .ok (.aload_n 0, 1) := dk_42 (dk_at dksX1_putNarrow_0 11 rfl rfl)
theorem dX1_putNarrow_12 : decode cX1_putNarrow 12 = .ok (.invokevirtual 119, 3) := dk_182 0 119 (dk_at dksX1_putNarrow_0 12 rfl rfl)
theorem dX1_putNarrow_15 : decode cX1_putNarrow 15 = .ok (.goto 15, 3) := dk_167 0 15 (dk_at dksX1_putNarrow_0 15 rfl rfl)
theorem dX1_putNarrow_18 : decode cX1_putNarrow 18 = .ok (.aload_n 0, 1) := dk_42 (dk_at dksX1_putNarrow_0 18 rfl rfl)
theorem dX1_putNarrow_19 : decode cX1_putNarrow 19 = .ok (.iload_n 1, 1) := dk_27 (dk_at dksX1_putNarrow_0 19 rfl rfl)
theorem dX1_putNarrow_20 : decode cX1_putNarrow 20 = .ok (.iload_n 2, 1) := dk_28 (dk_at dksX1_putNarrow_0 20 rfl rfl)
theorem dX1_putNarrow_21 : decode cX1_putNarrow 21 = .ok (.invokestatic 273, 3) := dk_184 1 17 (dk_at dksX1_putNarrow_0 21 rfl rfl)
theorem dX1_putNarrow_24 : decode cX1_putNarrow 24 = .ok (.invokestatic 29, 3) := dk_184 0 29 (dk_at dksX1_putNarrow_1 0 rfl rfl)
theorem dX1_putNarrow_27 : decode cX1_putNarrow 27 = .ok (.invokevirtual 277, 3) := dk_182 1 21 (dk_at dksX1_putNarrow_1 3 rfl rfl)
theorem dX1_putNarrow_30 : decode cX1_putNarrow 30 = .ok (.ireturn, 1) := dk_172 (dk_at dksX1_putNarrow_1 6 rfl rfl)
abbrev cX1_narrowPut : ByteArray := prog_1_method_45_code
def yX1_narrowPut : MethodName := ⟨RX1, "narrowPut", "(ILjava/lang/Float;)I"⟩
def dkwX1_narrowPut_1 : List UInt8 := [96, 181, 1, 5, 45, 44, 182, 1, 8, 154, 0, 7, 4, 167, 0, 4, 3, 184, 0, 91, 172]
abbrev dktX1_narrowPut_1 : List UInt8 := dkwX1_narrowPut_1 ++ []
def dkwX1_narrowPut_0 : List UInt8 := [27, 184, 0, 80, 42, 180, 0, 21, 27, 50, 78, 42, 180, 0, 21, 27, 44, 83, 42, 89, 180, 1, 5, 4]
abbrev dktX1_narrowPut_0 : List UInt8 := dkwX1_narrowPut_0 ++ dktX1_narrowPut_1
theorem dksX1_narrowPut_0 : cX1_narrowPut.data.toList.drop 0 = dktX1_narrowPut_0 := by decide +kernel
theorem dksX1_narrowPut_1 : cX1_narrowPut.data.toList.drop 24 = dktX1_narrowPut_1 := dk_seg dksX1_narrowPut_0 24 rfl rfl
theorem dX1_narrowPut_0 : decode cX1_narrowPut 0 = .ok (.iload_n 1, 1) := dk_27 (dk_at dksX1_narrowPut_0 0 rfl rfl)
theorem dX1_narrowPut_1 : decode cX1_narrowPut 1 = .ok (.invokestatic 80, 3) := dk_184 0 80 (dk_at dksX1_narrowPut_0 1 rfl rfl)
theorem dX1_narrowPut_4 : decode cX1_narrowPut 4 = .ok (.aload_n 0, 1) := dk_42 (dk_at dksX1_narrowPut_0 4 rfl rfl)
theorem dX1_narrowPut_5 : decode cX1_narrowPut 5 = .ok (.getfield 21, 3) := dk_180 0 21 (dk_at dksX1_narrowPut_0 5 rfl rfl)
theorem dX1_narrowPut_8 : decode cX1_narrowPut 8 = .ok (.iload_n 1, 1) := dk_27 (dk_at dksX1_narrowPut_0 8 rfl rfl)
theorem dX1_narrowPut_9 : decode cX1_narrowPut 9 = .ok (.aaload, 1) := dk_50 (dk_at dksX1_narrowPut_0 9 rfl rfl)
theorem dX1_narrowPut_10 : decode cX1_narrowPut 10 = .ok (.astore_n 3, 1) := dk_78 (dk_at dksX1_narrowPut_0 10 rfl rfl)
theorem dX1_narrowPut_11 : decode cX1_narrowPut 11 = .ok (.aload_n 0, 1) := dk_42 (dk_at dksX1_narrowPut_0 11 rfl rfl)
theorem dX1_narrowPut_12 : decode cX1_narrowPut 12 = .ok (.getfield 21, 3) := dk_180 0 21 (dk_at dksX1_narrowPut_0 12 rfl rfl)
theorem dX1_narrowPut_15 : decode cX1_narrowPut 15 = .ok (.iload_n 1, 1) := dk_27 (dk_at dksX1_narrowPut_0 15 rfl rfl)
theorem dX1_narrowPut_16 : decode cX1_narrowPut 16 = .ok (.aload_n 2, 1) := dk_44 (dk_at dksX1_narrowPut_0 16 rfl rfl)
theorem dX1_narrowPut_17 : decode cX1_narrowPut 17 = .ok (.aastore, 1) := dk_83 (dk_at dksX1_narrowPut_0 17 rfl rfl)
theorem dX1_narrowPut_18 : decode cX1_narrowPut 18 = .ok (.aload_n 0, 1) := dk_42 (dk_at dksX1_narrowPut_0 18 rfl rfl)
theorem dX1_narrowPut_19 : decode cX1_narrowPut 19 = .ok (.dup, 1) := dk_89 (dk_at dksX1_narrowPut_0 19 rfl rfl)
theorem dX1_narrowPut_20 : decode cX1_narrowPut 20 = .ok (.getfield 261, 3) := dk_180 1 5 (dk_at dksX1_narrowPut_0 20 rfl rfl)
theorem dX1_narrowPut_23 : decode cX1_narrowPut 23 = .ok (.iconst 1, 1) := dk_4 (dk_at dksX1_narrowPut_0 23 rfl rfl)
theorem dX1_narrowPut_24 : decode cX1_narrowPut 24 = .ok (.iadd, 1) := dk_96 (dk_at dksX1_narrowPut_1 0 rfl rfl)
theorem dX1_narrowPut_25 : decode cX1_narrowPut 25 = .ok (.putfield 261, 3) := dk_181 1 5 (dk_at dksX1_narrowPut_1 1 rfl rfl)
theorem dX1_narrowPut_28 : decode cX1_narrowPut 28 = .ok (.aload_n 3, 1) := dk_45 (dk_at dksX1_narrowPut_1 4 rfl rfl)
theorem dX1_narrowPut_29 : decode cX1_narrowPut 29 = .ok (.aload_n 2, 1) := dk_44 (dk_at dksX1_narrowPut_1 5 rfl rfl)
theorem dX1_narrowPut_30 : decode cX1_narrowPut 30 = .ok (.invokevirtual 264, 3) := dk_182 1 8 (dk_at dksX1_narrowPut_1 6 rfl rfl)
theorem dX1_narrowPut_33 : decode cX1_narrowPut 33 = .ok (.ifCond .ne 7, 3) := dk_154 0 7 (dk_at dksX1_narrowPut_1 9 rfl rfl)
theorem dX1_narrowPut_36 : decode cX1_narrowPut 36 = .ok (.iconst 1, 1) := dk_4 (dk_at dksX1_narrowPut_1 12 rfl rfl)
theorem dX1_narrowPut_37 : decode cX1_narrowPut 37 = .ok (.goto 4, 3) := dk_167 0 4 (dk_at dksX1_narrowPut_1 13 rfl rfl)
theorem dX1_narrowPut_40 : decode cX1_narrowPut 40 = .ok (.iconst 0, 1) := dk_3 (dk_at dksX1_narrowPut_1 16 rfl rfl)
theorem dX1_narrowPut_41 : decode cX1_narrowPut 41 = .ok (.invokestatic 91, 3) := dk_184 0 91 (dk_at dksX1_narrowPut_1 17 rfl rfl)
theorem dX1_narrowPut_44 : decode cX1_narrowPut 44 = .ok (.ireturn, 1) := dk_172 (dk_at dksX1_narrowPut_1 20 rfl rfl)
abbrev cX1_narrowQuarters : ByteArray := prog_1_method_48_code
def yX1_narrowQuarters : MethodName := ⟨RX1, "narrowQuarters", "(II)I"⟩
def dkwX1_narrowQuarters_1 : List UInt8 := [184, 0, 29, 182, 1, 21, 172]
abbrev dktX1_narrowQuarters_1 : List UInt8 := dkwX1_narrowQuarters_1 ++ []
def dkwX1_narrowQuarters_0 : List UInt8 := [27, 184, 0, 80, 28, 19, 1, 25, 18, 254, 184, 0, 32, 184, 0, 132, 42, 27, 28, 134, 19, 1, 26, 106]
abbrev dktX1_narrowQuarters_0 : List UInt8 := dkwX1_narrowQuarters_0 ++ dktX1_narrowQuarters_1
theorem dksX1_narrowQuarters_0 : cX1_narrowQuarters.data.toList.drop 0 = dktX1_narrowQuarters_0 := by decide +kernel
theorem dksX1_narrowQuarters_1 : cX1_narrowQuarters.data.toList.drop 24 = dktX1_narrowQuarters_1 := dk_seg dksX1_narrowQuarters_0 24 rfl rfl
theorem dX1_narrowQuarters_0 : decode cX1_narrowQuarters 0 = .ok (.iload_n 1, 1) := dk_27 (dk_at dksX1_narrowQuarters_0 0 rfl rfl)
theorem dX1_narrowQuarters_1 : decode cX1_narrowQuarters 1 = .ok (.invokestatic 80, 3) := dk_184 0 80 (dk_at dksX1_narrowQuarters_0 1 rfl rfl)
theorem dX1_narrowQuarters_4 : decode cX1_narrowQuarters 4 = .ok (.iload_n 2, 1) := dk_28 (dk_at dksX1_narrowQuarters_0 4 rfl rfl)
theorem dX1_narrowQuarters_5 : decode cX1_narrowQuarters 5 = .ok (.ldc_w 281, 3) := dk_19 1 25 (dk_at dksX1_narrowQuarters_0 5 rfl rfl)
theorem dX1_narrowQuarters_8 : decode cX1_narrowQuarters 8 = .ok (.ldc 254, 2) := dk_18 254 (dk_at dksX1_narrowQuarters_0 8 rfl rfl)
theorem dX1_narrowQuarters_10 : decode cX1_narrowQuarters 10 = .ok (.invokestatic 32, 3) := dk_184 0 32 (dk_at dksX1_narrowQuarters_0 10 rfl rfl)
theorem dX1_narrowQuarters_13 : decode cX1_narrowQuarters 13 = .ok (.invokestatic 132, 3) := dk_184 0 132 (dk_at dksX1_narrowQuarters_0 13 rfl rfl)
theorem dX1_narrowQuarters_16 : decode cX1_narrowQuarters 16 = .ok (.aload_n 0, 1) := dk_42 (dk_at dksX1_narrowQuarters_0 16 rfl rfl)
theorem dX1_narrowQuarters_17 : decode cX1_narrowQuarters 17 = .ok (.iload_n 1, 1) := dk_27 (dk_at dksX1_narrowQuarters_0 17 rfl rfl)
theorem dX1_narrowQuarters_18 : decode cX1_narrowQuarters 18 = .ok (.iload_n 2, 1) := dk_28 (dk_at dksX1_narrowQuarters_0 18 rfl rfl)
theorem dX1_narrowQuarters_19 : decode cX1_narrowQuarters 19 = .ok (.i2f, 1) := dk_134 (dk_at dksX1_narrowQuarters_0 19 rfl rfl)
theorem dX1_narrowQuarters_20 : decode cX1_narrowQuarters 20 = .ok (.ldc_w 282, 3) := dk_19 1 26 (dk_at dksX1_narrowQuarters_0 20 rfl rfl)
theorem dX1_narrowQuarters_23 : decode cX1_narrowQuarters 23 = .ok (.fmul, 1) := dk_106 (dk_at dksX1_narrowQuarters_0 23 rfl rfl)
theorem dX1_narrowQuarters_24 : decode cX1_narrowQuarters 24 = .ok (.invokestatic 29, 3) := dk_184 0 29 (dk_at dksX1_narrowQuarters_1 0 rfl rfl)
theorem dX1_narrowQuarters_27 : decode cX1_narrowQuarters 27 = .ok (.invokevirtual 277, 3) := dk_182 1 21 (dk_at dksX1_narrowQuarters_1 3 rfl rfl)
theorem dX1_narrowQuarters_30 : decode cX1_narrowQuarters 30 = .ok (.ireturn, 1) := dk_172 (dk_at dksX1_narrowQuarters_1 6 rfl rfl)
abbrev cX1_narrowKnown : ByteArray := prog_1_method_49_code
def yX1_narrowKnown : MethodName := ⟨RX1, "narrowKnown", "(II)I"⟩
def dkwX1_narrowKnown_0 : List UInt8 := [27, 184, 0, 80, 28, 3, 16, 6, 184, 0, 32, 184, 0, 132, 42, 27, 28, 184, 1, 27, 182, 1, 21, 172]
abbrev dktX1_narrowKnown_0 : List UInt8 := dkwX1_narrowKnown_0 ++ []
theorem dksX1_narrowKnown_0 : cX1_narrowKnown.data.toList.drop 0 = dktX1_narrowKnown_0 := by decide +kernel
theorem dX1_narrowKnown_0 : decode cX1_narrowKnown 0 = .ok (.iload_n 1, 1) := dk_27 (dk_at dksX1_narrowKnown_0 0 rfl rfl)
theorem dX1_narrowKnown_1 : decode cX1_narrowKnown 1 = .ok (.invokestatic 80, 3) := dk_184 0 80 (dk_at dksX1_narrowKnown_0 1 rfl rfl)
theorem dX1_narrowKnown_4 : decode cX1_narrowKnown 4 = .ok (.iload_n 2, 1) := dk_28 (dk_at dksX1_narrowKnown_0 4 rfl rfl)
theorem dX1_narrowKnown_5 : decode cX1_narrowKnown 5 = .ok (.iconst 0, 1) := dk_3 (dk_at dksX1_narrowKnown_0 5 rfl rfl)
theorem dX1_narrowKnown_6 : decode cX1_narrowKnown 6 = .ok (.bipush 6, 2) := dk_16 6 (dk_at dksX1_narrowKnown_0 6 rfl rfl)
theorem dX1_narrowKnown_8 : decode cX1_narrowKnown 8 = .ok (.invokestatic 32, 3) := dk_184 0 32 (dk_at dksX1_narrowKnown_0 8 rfl rfl)
theorem dX1_narrowKnown_11 : decode cX1_narrowKnown 11 = .ok (.invokestatic 132, 3) := dk_184 0 132 (dk_at dksX1_narrowKnown_0 11 rfl rfl)
theorem dX1_narrowKnown_14 : decode cX1_narrowKnown 14 = .ok (.aload_n 0, 1) := dk_42 (dk_at dksX1_narrowKnown_0 14 rfl rfl)
theorem dX1_narrowKnown_15 : decode cX1_narrowKnown 15 = .ok (.iload_n 1, 1) := dk_27 (dk_at dksX1_narrowKnown_0 15 rfl rfl)
theorem dX1_narrowKnown_16 : decode cX1_narrowKnown 16 = .ok (.iload_n 2, 1) := dk_28 (dk_at dksX1_narrowKnown_0 16 rfl rfl)
theorem dX1_narrowKnown_17 : decode cX1_narrowKnown 17 = .ok (.invokestatic 283, 3) := dk_184 1 27 (dk_at dksX1_narrowKnown_0 17 rfl rfl)
theorem dX1_narrowKnown_20 : decode cX1_narrowKnown 20 = .ok (.invokevirtual 277, 3) := dk_182 1 21 (dk_at dksX1_narrowKnown_0 20 rfl rfl)
theorem dX1_narrowKnown_23 : decode cX1_narrowKnown 23 = .ok (.ireturn, 1) := dk_172 (dk_at dksX1_narrowKnown_0 23 rfl rfl)
abbrev cX1_narrowKnownOne : ByteArray := prog_1_method_43_code
def yX1_narrowKnownOne : MethodName := ⟨RX1, "narrowKnownOne", "(I)Ljava/lang/Float;"⟩
def dkwX1_narrowKnownOne_3 : List UInt8 := [176, 19, 1, 2, 184, 0, 29, 176, 19, 1, 3, 184, 0, 29, 176, 19, 1, 4, 184, 0, 29, 176]
abbrev dktX1_narrowKnownOne_3 : List UInt8 := dkwX1_narrowKnownOne_3 ++ []
def dkwX1_narrowKnownOne_2 : List UInt8 := [11, 184, 0, 29, 176, 18, 255, 184, 0, 29, 176, 19, 1, 0, 184, 0, 29, 176, 19, 1, 1, 184, 0, 29]
abbrev dktX1_narrowKnownOne_2 : List UInt8 := dkwX1_narrowKnownOne_2 ++ dktX1_narrowKnownOne_3
def dkwX1_narrowKnownOne_1 : List UInt8 := [170, 0, 0, 0, 0, 0, 78, 0, 0, 0, 0, 0, 0, 0, 5, 0, 0, 0, 39, 0, 0, 0, 44, 0, 0, 0, 50, 0, 0, 0, 57, 0, 0, 0, 64, 0, 0, 0, 71]
abbrev dktX1_narrowKnownOne_1 : List UInt8 := dkwX1_narrowKnownOne_1 ++ dktX1_narrowKnownOne_2
def dkwX1_narrowKnownOne_0 : List UInt8 := [26]
abbrev dktX1_narrowKnownOne_0 : List UInt8 := dkwX1_narrowKnownOne_0 ++ dktX1_narrowKnownOne_1
theorem dksX1_narrowKnownOne_0 : cX1_narrowKnownOne.data.toList.drop 0 = dktX1_narrowKnownOne_0 := by decide +kernel
theorem dksX1_narrowKnownOne_1 : cX1_narrowKnownOne.data.toList.drop 1 = dktX1_narrowKnownOne_1 := dk_seg dksX1_narrowKnownOne_0 1 rfl rfl
theorem dksX1_narrowKnownOne_2 : cX1_narrowKnownOne.data.toList.drop 40 = dktX1_narrowKnownOne_2 := dk_seg dksX1_narrowKnownOne_1 39 rfl rfl
theorem dksX1_narrowKnownOne_3 : cX1_narrowKnownOne.data.toList.drop 64 = dktX1_narrowKnownOne_3 := dk_seg dksX1_narrowKnownOne_2 24 rfl rfl
theorem dX1_narrowKnownOne_0 : decode cX1_narrowKnownOne 0 = .ok (.iload_n 0, 1) := dk_26 (dk_at dksX1_narrowKnownOne_0 0 rfl rfl)
theorem dX1_narrowKnownOne_1 : decode cX1_narrowKnownOne 1 = .ok (.tableswitch 78 0 5 #[39, 44, 50, 57, 64, 71], 39) := by decide +kernel
theorem dX1_narrowKnownOne_40 : decode cX1_narrowKnownOne 40 = .ok (.fconst 0, 1) := dk_11 (dk_at dksX1_narrowKnownOne_2 0 rfl rfl)
theorem dX1_narrowKnownOne_41 : decode cX1_narrowKnownOne 41 = .ok (.invokestatic 29, 3) := dk_184 0 29 (dk_at dksX1_narrowKnownOne_2 1 rfl rfl)
theorem dX1_narrowKnownOne_44 : decode cX1_narrowKnownOne 44 = .ok (.areturn, 1) := dk_176 (dk_at dksX1_narrowKnownOne_2 4 rfl rfl)
theorem dX1_narrowKnownOne_45 : decode cX1_narrowKnownOne 45 = .ok (.ldc 255, 2) := dk_18 255 (dk_at dksX1_narrowKnownOne_2 5 rfl rfl)
theorem dX1_narrowKnownOne_47 : decode cX1_narrowKnownOne 47 = .ok (.invokestatic 29, 3) := dk_184 0 29 (dk_at dksX1_narrowKnownOne_2 7 rfl rfl)
theorem dX1_narrowKnownOne_50 : decode cX1_narrowKnownOne 50 = .ok (.areturn, 1) := dk_176 (dk_at dksX1_narrowKnownOne_2 10 rfl rfl)
theorem dX1_narrowKnownOne_51 : decode cX1_narrowKnownOne 51 = .ok (.ldc_w 256, 3) := dk_19 1 0 (dk_at dksX1_narrowKnownOne_2 11 rfl rfl)
theorem dX1_narrowKnownOne_54 : decode cX1_narrowKnownOne 54 = .ok (.invokestatic 29, 3) := dk_184 0 29 (dk_at dksX1_narrowKnownOne_2 14 rfl rfl)
theorem dX1_narrowKnownOne_57 : decode cX1_narrowKnownOne 57 = .ok (.areturn, 1) := dk_176 (dk_at dksX1_narrowKnownOne_2 17 rfl rfl)
theorem dX1_narrowKnownOne_58 : decode cX1_narrowKnownOne 58 = .ok (.ldc_w 257, 3) := dk_19 1 1 (dk_at dksX1_narrowKnownOne_2 18 rfl rfl)
theorem dX1_narrowKnownOne_61 : decode cX1_narrowKnownOne 61 = .ok (.invokestatic 29, 3) := dk_184 0 29 (dk_at dksX1_narrowKnownOne_2 21 rfl rfl)
theorem dX1_narrowKnownOne_64 : decode cX1_narrowKnownOne 64 = .ok (.areturn, 1) := dk_176 (dk_at dksX1_narrowKnownOne_3 0 rfl rfl)
theorem dX1_narrowKnownOne_65 : decode cX1_narrowKnownOne 65 = .ok (.ldc_w 258, 3) := dk_19 1 2 (dk_at dksX1_narrowKnownOne_3 1 rfl rfl)
theorem dX1_narrowKnownOne_68 : decode cX1_narrowKnownOne 68 = .ok (.invokestatic 29, 3) := dk_184 0 29 (dk_at dksX1_narrowKnownOne_3 4 rfl rfl)
theorem dX1_narrowKnownOne_71 : decode cX1_narrowKnownOne 71 = .ok (.areturn, 1) := dk_176 (dk_at dksX1_narrowKnownOne_3 7 rfl rfl)
theorem dX1_narrowKnownOne_72 : decode cX1_narrowKnownOne 72 = .ok (.ldc_w 259, 3) := dk_19 1 3 (dk_at dksX1_narrowKnownOne_3 8 rfl rfl)
theorem dX1_narrowKnownOne_75 : decode cX1_narrowKnownOne 75 = .ok (.invokestatic 29, 3) := dk_184 0 29 (dk_at dksX1_narrowKnownOne_3 11 rfl rfl)
theorem dX1_narrowKnownOne_78 : decode cX1_narrowKnownOne 78 = .ok (.areturn, 1) := dk_176 (dk_at dksX1_narrowKnownOne_3 14 rfl rfl)
theorem dX1_narrowKnownOne_79 : decode cX1_narrowKnownOne 79 = .ok (.ldc_w 260, 3) := dk_19 1 4 (dk_at dksX1_narrowKnownOne_3 15 rfl rfl)
theorem dX1_narrowKnownOne_82 : decode cX1_narrowKnownOne 82 = .ok (.invokestatic 29, 3) := dk_184 0 29 (dk_at dksX1_narrowKnownOne_3 18 rfl rfl)
theorem dX1_narrowKnownOne_85 : decode cX1_narrowKnownOne 85 = .ok (.areturn, 1) := dk_176 (dk_at dksX1_narrowKnownOne_3 21 rfl rfl)
abbrev cX1_narrowCopy : ByteArray := prog_1_method_50_code
def yX1_narrowCopy : MethodName := ⟨RX1, "narrowCopy", "(II)I"⟩
def dkwX1_narrowCopy_0 : List UInt8 := [42, 28, 42, 27, 182, 1, 31, 182, 1, 21, 172]
abbrev dktX1_narrowCopy_0 : List UInt8 := dkwX1_narrowCopy_0 ++ []
theorem dksX1_narrowCopy_0 : cX1_narrowCopy.data.toList.drop 0 = dktX1_narrowCopy_0 := by decide +kernel
theorem dX1_narrowCopy_0 : decode cX1_narrowCopy 0 = .ok (.aload_n 0, 1) := dk_42 (dk_at dksX1_narrowCopy_0 0 rfl rfl)
theorem dX1_narrowCopy_1 : decode cX1_narrowCopy 1 = .ok (.iload_n 2, 1) := dk_28 (dk_at dksX1_narrowCopy_0 1 rfl rfl)
theorem dX1_narrowCopy_2 : decode cX1_narrowCopy 2 = .ok (.aload_n 0, 1) := dk_42 (dk_at dksX1_narrowCopy_0 2 rfl rfl)
theorem dX1_narrowCopy_3 : decode cX1_narrowCopy 3 = .ok (.iload_n 1, 1) := dk_27 (dk_at dksX1_narrowCopy_0 3 rfl rfl)
theorem dX1_narrowCopy_4 : decode cX1_narrowCopy 4 = .ok (.invokevirtual 287, 3) := dk_182 1 31 (dk_at dksX1_narrowCopy_0 4 rfl rfl)
theorem dX1_narrowCopy_7 : decode cX1_narrowCopy 7 = .ok (.invokevirtual 277, 3) := dk_182 1 21 (dk_at dksX1_narrowCopy_0 7 rfl rfl)
theorem dX1_narrowCopy_10 : decode cX1_narrowCopy 10 = .ok (.ireturn, 1) := dk_172 (dk_at dksX1_narrowCopy_0 10 rfl rfl)
abbrev cX1_narrowSwap : ByteArray := prog_1_method_51_code
def yX1_narrowSwap : MethodName := ⟨RX1, "narrowSwap", "(II)I"⟩
def dkwX1_narrowSwap_1 : List UInt8 := [182, 1, 21, 172]
abbrev dktX1_narrowSwap_1 : List UInt8 := dkwX1_narrowSwap_1 ++ []
def dkwX1_narrowSwap_0 : List UInt8 := [42, 27, 182, 1, 31, 78, 42, 28, 182, 1, 31, 58, 4, 42, 180, 0, 21, 28, 45, 83, 42, 27, 25, 4]
abbrev dktX1_narrowSwap_0 : List UInt8 := dkwX1_narrowSwap_0 ++ dktX1_narrowSwap_1
theorem dksX1_narrowSwap_0 : cX1_narrowSwap.data.toList.drop 0 = dktX1_narrowSwap_0 := by decide +kernel
theorem dksX1_narrowSwap_1 : cX1_narrowSwap.data.toList.drop 24 = dktX1_narrowSwap_1 := dk_seg dksX1_narrowSwap_0 24 rfl rfl
theorem dX1_narrowSwap_0 : decode cX1_narrowSwap 0 = .ok (.aload_n 0, 1) := dk_42 (dk_at dksX1_narrowSwap_0 0 rfl rfl)
theorem dX1_narrowSwap_1 : decode cX1_narrowSwap 1 = .ok (.iload_n 1, 1) := dk_27 (dk_at dksX1_narrowSwap_0 1 rfl rfl)
theorem dX1_narrowSwap_2 : decode cX1_narrowSwap 2 = .ok (.invokevirtual 287, 3) := dk_182 1 31 (dk_at dksX1_narrowSwap_0 2 rfl rfl)
theorem dX1_narrowSwap_5 : decode cX1_narrowSwap 5 = .ok (.astore_n 3, 1) := dk_78 (dk_at dksX1_narrowSwap_0 5 rfl rfl)
theorem dX1_narrowSwap_6 : decode cX1_narrowSwap 6 = .ok (.aload_n 0, 1) := dk_42 (dk_at dksX1_narrowSwap_0 6 rfl rfl)
theorem dX1_narrowSwap_7 : decode cX1_narrowSwap 7 = .ok (.iload_n 2, 1) := dk_28 (dk_at dksX1_narrowSwap_0 7 rfl rfl)
theorem dX1_narrowSwap_8 : decode cX1_narrowSwap 8 = .ok (.invokevirtual 287, 3) := dk_182 1 31 (dk_at dksX1_narrowSwap_0 8 rfl rfl)
theorem dX1_narrowSwap_11 : decode cX1_narrowSwap 11 = .ok (.astore 4, 2) := dk_58 4 (dk_at dksX1_narrowSwap_0 11 rfl rfl)
theorem dX1_narrowSwap_13 : decode cX1_narrowSwap 13 = .ok (.aload_n 0, 1) := dk_42 (dk_at dksX1_narrowSwap_0 13 rfl rfl)
theorem dX1_narrowSwap_14 : decode cX1_narrowSwap 14 = .ok (.getfield 21, 3) := dk_180 0 21 (dk_at dksX1_narrowSwap_0 14 rfl rfl)
theorem dX1_narrowSwap_17 : decode cX1_narrowSwap 17 = .ok (.iload_n 2, 1) := dk_28 (dk_at dksX1_narrowSwap_0 17 rfl rfl)
theorem dX1_narrowSwap_18 : decode cX1_narrowSwap 18 = .ok (.aload_n 3, 1) := dk_45 (dk_at dksX1_narrowSwap_0 18 rfl rfl)
theorem dX1_narrowSwap_19 : decode cX1_narrowSwap 19 = .ok (.aastore, 1) := dk_83 (dk_at dksX1_narrowSwap_0 19 rfl rfl)
theorem dX1_narrowSwap_20 : decode cX1_narrowSwap 20 = .ok (.aload_n 0, 1) := dk_42 (dk_at dksX1_narrowSwap_0 20 rfl rfl)
theorem dX1_narrowSwap_21 : decode cX1_narrowSwap 21 = .ok (.iload_n 1, 1) := dk_27 (dk_at dksX1_narrowSwap_0 21 rfl rfl)
theorem dX1_narrowSwap_22 : decode cX1_narrowSwap 22 = .ok (.aload 4, 2) := dk_25 4 (dk_at dksX1_narrowSwap_0 22 rfl rfl)
theorem dX1_narrowSwap_24 : decode cX1_narrowSwap 24 = .ok (.invokevirtual 277, 3) := dk_182 1 21 (dk_at dksX1_narrowSwap_1 0 rfl rfl)
theorem dX1_narrowSwap_27 : decode cX1_narrowSwap 27 = .ok (.ireturn, 1) := dk_172 (dk_at dksX1_narrowSwap_1 3 rfl rfl)
abbrev cX1_narrowMax : ByteArray := prog_1_method_52_code
def yX1_narrowMax : MethodName := ⟨RX1, "narrowMax", "(III)I"⟩
def dkwX1_narrowMax_1 : List UInt8 := [182, 1, 21, 172]
abbrev dktX1_narrowMax_1 : List UInt8 := dkwX1_narrowMax_1 ++ []
def dkwX1_narrowMax_0 : List UInt8 := [42, 29, 42, 27, 182, 1, 31, 182, 0, 211, 42, 28, 182, 1, 31, 182, 0, 211, 184, 1, 34, 184, 0, 29]
abbrev dktX1_narrowMax_0 : List UInt8 := dkwX1_narrowMax_0 ++ dktX1_narrowMax_1
theorem dksX1_narrowMax_0 : cX1_narrowMax.data.toList.drop 0 = dktX1_narrowMax_0 := by decide +kernel
theorem dksX1_narrowMax_1 : cX1_narrowMax.data.toList.drop 24 = dktX1_narrowMax_1 := dk_seg dksX1_narrowMax_0 24 rfl rfl
theorem dX1_narrowMax_0 : decode cX1_narrowMax 0 = .ok (.aload_n 0, 1) := dk_42 (dk_at dksX1_narrowMax_0 0 rfl rfl)
theorem dX1_narrowMax_1 : decode cX1_narrowMax 1 = .ok (.iload_n 3, 1) := dk_29 (dk_at dksX1_narrowMax_0 1 rfl rfl)
theorem dX1_narrowMax_2 : decode cX1_narrowMax 2 = .ok (.aload_n 0, 1) := dk_42 (dk_at dksX1_narrowMax_0 2 rfl rfl)
theorem dX1_narrowMax_3 : decode cX1_narrowMax 3 = .ok (.iload_n 1, 1) := dk_27 (dk_at dksX1_narrowMax_0 3 rfl rfl)
theorem dX1_narrowMax_4 : decode cX1_narrowMax 4 = .ok (.invokevirtual 287, 3) := dk_182 1 31 (dk_at dksX1_narrowMax_0 4 rfl rfl)
theorem dX1_narrowMax_7 : decode cX1_narrowMax 7 = .ok (.invokevirtual 211, 3) := dk_182 0 211 (dk_at dksX1_narrowMax_0 7 rfl rfl)
theorem dX1_narrowMax_10 : decode cX1_narrowMax 10 = .ok (.aload_n 0, 1) := dk_42 (dk_at dksX1_narrowMax_0 10 rfl rfl)
theorem dX1_narrowMax_11 : decode cX1_narrowMax 11 = .ok (.iload_n 2, 1) := dk_28 (dk_at dksX1_narrowMax_0 11 rfl rfl)
theorem dX1_narrowMax_12 : decode cX1_narrowMax 12 = .ok (.invokevirtual 287, 3) := dk_182 1 31 (dk_at dksX1_narrowMax_0 12 rfl rfl)
theorem dX1_narrowMax_15 : decode cX1_narrowMax 15 = .ok (.invokevirtual 211, 3) := dk_182 0 211 (dk_at dksX1_narrowMax_0 15 rfl rfl)
theorem dX1_narrowMax_18 : decode cX1_narrowMax 18 = .ok (.invokestatic 290, 3) := dk_184 1 34 (dk_at dksX1_narrowMax_0 18 rfl rfl)
theorem dX1_narrowMax_21 : decode cX1_narrowMax 21 = .ok (.invokestatic 29, 3) := dk_184 0 29 (dk_at dksX1_narrowMax_0 21 rfl rfl)
theorem dX1_narrowMax_24 : decode cX1_narrowMax 24 = .ok (.invokevirtual 277, 3) := dk_182 1 21 (dk_at dksX1_narrowMax_1 0 rfl rfl)
theorem dX1_narrowMax_27 : decode cX1_narrowMax 27 = .ok (.ireturn, 1) := dk_172 (dk_at dksX1_narrowMax_1 3 rfl rfl)
abbrev cX1_narrowMin : ByteArray := prog_1_method_53_code
def yX1_narrowMin : MethodName := ⟨RX1, "narrowMin", "(III)I"⟩
def dkwX1_narrowMin_1 : List UInt8 := [182, 1, 21, 172]
abbrev dktX1_narrowMin_1 : List UInt8 := dkwX1_narrowMin_1 ++ []
def dkwX1_narrowMin_0 : List UInt8 := [42, 29, 42, 27, 182, 1, 31, 182, 0, 211, 42, 28, 182, 1, 31, 182, 0, 211, 184, 1, 37, 184, 0, 29]
abbrev dktX1_narrowMin_0 : List UInt8 := dkwX1_narrowMin_0 ++ dktX1_narrowMin_1
theorem dksX1_narrowMin_0 : cX1_narrowMin.data.toList.drop 0 = dktX1_narrowMin_0 := by decide +kernel
theorem dksX1_narrowMin_1 : cX1_narrowMin.data.toList.drop 24 = dktX1_narrowMin_1 := dk_seg dksX1_narrowMin_0 24 rfl rfl
theorem dX1_narrowMin_0 : decode cX1_narrowMin 0 = .ok (.aload_n 0, 1) := dk_42 (dk_at dksX1_narrowMin_0 0 rfl rfl)
theorem dX1_narrowMin_1 : decode cX1_narrowMin 1 = .ok (.iload_n 3, 1) := dk_29 (dk_at dksX1_narrowMin_0 1 rfl rfl)
theorem dX1_narrowMin_2 : decode cX1_narrowMin 2 = .ok (.aload_n 0, 1) := dk_42 (dk_at dksX1_narrowMin_0 2 rfl rfl)
theorem dX1_narrowMin_3 : decode cX1_narrowMin 3 = .ok (.iload_n 1, 1) := dk_27 (dk_at dksX1_narrowMin_0 3 rfl rfl)
theorem dX1_narrowMin_4 : decode cX1_narrowMin 4 = .ok (.invokevirtual 287, 3) := dk_182 1 31 (dk_at dksX1_narrowMin_0 4 rfl rfl)
theorem dX1_narrowMin_7 : decode cX1_narrowMin 7 = .ok (.invokevirtual 211, 3) := dk_182 0 211 (dk_at dksX1_narrowMin_0 7 rfl rfl)
theorem dX1_narrowMin_10 : decode cX1_narrowMin 10 = .ok (.aload_n 0, 1) := dk_42 (dk_at dksX1_narrowMin_0 10 rfl rfl)
theorem dX1_narrowMin_11 : decode cX1_narrowMin 11 = .ok (.iload_n 2, 1) := dk_28 (dk_at dksX1_narrowMin_0 11 rfl rfl)
theorem dX1_narrowMin_12 : decode cX1_narrowMin 12 = .ok (.invokevirtual 287, 3) := dk_182 1 31 (dk_at dksX1_narrowMin_0 12 rfl rfl)
theorem dX1_narrowMin_15 : decode cX1_narrowMin 15 = .ok (.invokevirtual 211, 3) := dk_182 0 211 (dk_at dksX1_narrowMin_0 15 rfl rfl)
theorem dX1_narrowMin_18 : decode cX1_narrowMin 18 = .ok (.invokestatic 293, 3) := dk_184 1 37 (dk_at dksX1_narrowMin_0 18 rfl rfl)
theorem dX1_narrowMin_21 : decode cX1_narrowMin 21 = .ok (.invokestatic 29, 3) := dk_184 0 29 (dk_at dksX1_narrowMin_0 21 rfl rfl)
theorem dX1_narrowMin_24 : decode cX1_narrowMin 24 = .ok (.invokevirtual 277, 3) := dk_182 1 21 (dk_at dksX1_narrowMin_1 0 rfl rfl)
theorem dX1_narrowMin_27 : decode cX1_narrowMin 27 = .ok (.ireturn, 1) := dk_172 (dk_at dksX1_narrowMin_1 3 rfl rfl)
abbrev cX1_narrowSum : ByteArray := prog_1_method_54_code
def yX1_narrowSum : MethodName := ⟨RX1, "narrowSum", "(III)I"⟩
def dkwX1_narrowSum_2 : List UInt8 := [182, 1, 21, 167, 0, 7, 42, 182, 0, 119, 172]
abbrev dktX1_narrowSum_2 : List UInt8 := dkwX1_narrowSum_2 ++ []
def dkwX1_narrowSum_1 : List UInt8 := [184, 1, 39, 153, 0, 27, 42, 29, 25, 4, 182, 0, 211, 25, 5, 182, 0, 211, 184, 1, 42, 184, 0, 29]
abbrev dktX1_narrowSum_1 : List UInt8 := dkwX1_narrowSum_1 ++ dktX1_narrowSum_2
def dkwX1_narrowSum_0 : List UInt8 := [42, 27, 182, 1, 31, 58, 4, 42, 28, 182, 1, 31, 58, 5, 29, 184, 0, 80, 25, 4, 25, 5]
abbrev dktX1_narrowSum_0 : List UInt8 := dkwX1_narrowSum_0 ++ dktX1_narrowSum_1
theorem dksX1_narrowSum_0 : cX1_narrowSum.data.toList.drop 0 = dktX1_narrowSum_0 := by decide +kernel
theorem dksX1_narrowSum_1 : cX1_narrowSum.data.toList.drop 22 = dktX1_narrowSum_1 := dk_seg dksX1_narrowSum_0 22 rfl rfl
theorem dksX1_narrowSum_2 : cX1_narrowSum.data.toList.drop 46 = dktX1_narrowSum_2 := dk_seg dksX1_narrowSum_1 24 rfl rfl
theorem dX1_narrowSum_0 : decode cX1_narrowSum 0 = .ok (.aload_n 0, 1) := dk_42 (dk_at dksX1_narrowSum_0 0 rfl rfl)
theorem dX1_narrowSum_1 : decode cX1_narrowSum 1 = .ok (.iload_n 1, 1) := dk_27 (dk_at dksX1_narrowSum_0 1 rfl rfl)
theorem dX1_narrowSum_2 : decode cX1_narrowSum 2 = .ok (.invokevirtual 287, 3) := dk_182 1 31 (dk_at dksX1_narrowSum_0 2 rfl rfl)
theorem dX1_narrowSum_5 : decode cX1_narrowSum 5 = .ok (.astore 4, 2) := dk_58 4 (dk_at dksX1_narrowSum_0 5 rfl rfl)
theorem dX1_narrowSum_7 : decode cX1_narrowSum 7 = .ok (.aload_n 0, 1) := dk_42 (dk_at dksX1_narrowSum_0 7 rfl rfl)
theorem dX1_narrowSum_8 : decode cX1_narrowSum 8 = .ok (.iload_n 2, 1) := dk_28 (dk_at dksX1_narrowSum_0 8 rfl rfl)
theorem dX1_narrowSum_9 : decode cX1_narrowSum 9 = .ok (.invokevirtual 287, 3) := dk_182 1 31 (dk_at dksX1_narrowSum_0 9 rfl rfl)
theorem dX1_narrowSum_12 : decode cX1_narrowSum 12 = .ok (.astore 5, 2) := dk_58 5 (dk_at dksX1_narrowSum_0 12 rfl rfl)
theorem dX1_narrowSum_14 : decode cX1_narrowSum 14 = .ok (.iload_n 3, 1) := dk_29 (dk_at dksX1_narrowSum_0 14 rfl rfl)
theorem dX1_narrowSum_15 : decode cX1_narrowSum 15 = .ok (.invokestatic 80, 3) := dk_184 0 80 (dk_at dksX1_narrowSum_0 15 rfl rfl)
theorem dX1_narrowSum_18 : decode cX1_narrowSum 18 = .ok (.aload 4, 2) := dk_25 4 (dk_at dksX1_narrowSum_0 18 rfl rfl)
theorem dX1_narrowSum_20 : decode cX1_narrowSum 20 = .ok (.aload 5, 2) := dk_25 5 (dk_at dksX1_narrowSum_0 20 rfl rfl)
theorem dX1_narrowSum_22 : decode cX1_narrowSum 22 = .ok (.invokestatic 295, 3) := dk_184 1 39 (dk_at dksX1_narrowSum_1 0 rfl rfl)
theorem dX1_narrowSum_25 : decode cX1_narrowSum 25 = .ok (.ifCond .eq 27, 3) := dk_153 0 27 (dk_at dksX1_narrowSum_1 3 rfl rfl)
theorem dX1_narrowSum_28 : decode cX1_narrowSum 28 = .ok (.aload_n 0, 1) := dk_42 (dk_at dksX1_narrowSum_1 6 rfl rfl)
theorem dX1_narrowSum_29 : decode cX1_narrowSum 29 = .ok (.iload_n 3, 1) := dk_29 (dk_at dksX1_narrowSum_1 7 rfl rfl)
theorem dX1_narrowSum_30 : decode cX1_narrowSum 30 = .ok (.aload 4, 2) := dk_25 4 (dk_at dksX1_narrowSum_1 8 rfl rfl)
theorem dX1_narrowSum_32 : decode cX1_narrowSum 32 = .ok (.invokevirtual 211, 3) := dk_182 0 211 (dk_at dksX1_narrowSum_1 10 rfl rfl)
theorem dX1_narrowSum_35 : decode cX1_narrowSum 35 = .ok (.aload 5, 2) := dk_25 5 (dk_at dksX1_narrowSum_1 13 rfl rfl)
theorem dX1_narrowSum_37 : decode cX1_narrowSum 37 = .ok (.invokevirtual 211, 3) := dk_182 0 211 (dk_at dksX1_narrowSum_1 15 rfl rfl)
theorem dX1_narrowSum_40 : decode cX1_narrowSum 40 = .ok (.invokestatic 298, 3) := dk_184 1 42 (dk_at dksX1_narrowSum_1 18 rfl rfl)
theorem dX1_narrowSum_43 : decode cX1_narrowSum 43 = .ok (.invokestatic 29, 3) := dk_184 0 29 (dk_at dksX1_narrowSum_1 21 rfl rfl)
theorem dX1_narrowSum_46 : decode cX1_narrowSum 46 = .ok (.invokevirtual 277, 3) := dk_182 1 21 (dk_at dksX1_narrowSum_2 0 rfl rfl)
theorem dX1_narrowSum_49 : decode cX1_narrowSum 49 = .ok (.goto 7, 3) := dk_167 0 7 (dk_at dksX1_narrowSum_2 3 rfl rfl)
theorem dX1_narrowSum_52 : decode cX1_narrowSum 52 = .ok (.aload_n 0, 1) := dk_42 (dk_at dksX1_narrowSum_2 6 rfl rfl)
theorem dX1_narrowSum_53 : decode cX1_narrowSum 53 = .ok (.invokevirtual 119, 3) := dk_182 0 119 (dk_at dksX1_narrowSum_2 7 rfl rfl)
theorem dX1_narrowSum_56 : decode cX1_narrowSum 56 = .ok (.ireturn, 1) := dk_172 (dk_at dksX1_narrowSum_2 10 rfl rfl)
abbrev cX1_haveSum_2 : ByteArray := prog_1_method_46_code
def yX1_haveSum_2 : MethodName := ⟨RX1, "haveSum", "(Ljava/lang/Float;Ljava/lang/Float;)Z"⟩
def dkwX1_haveSum_2_3 : List UInt8 := [159, 0, 18, 28, 29, 96, 184, 1, 12, 18, 254, 163, 0, 7, 4, 167, 0, 4, 3, 172]
abbrev dktX1_haveSum_2_3 : List UInt8 := dkwX1_haveSum_2_3 ++ []
def dkwX1_haveSum_2_2 : List UInt8 := [153, 0, 15, 28, 18, 61, 159, 0, 7, 4, 167, 0, 4, 3, 172, 28, 18, 61, 159, 0, 24, 29, 18, 61]
abbrev dktX1_haveSum_2_2 : List UInt8 := dkwX1_haveSum_2_2 ++ dktX1_haveSum_2_3
def dkwX1_haveSum_2_1 : List UInt8 := [18, 61, 160, 0, 11, 42, 43, 182, 1, 8, 153, 0, 7, 4, 167, 0, 4, 3, 172, 43, 182, 1, 11]
abbrev dktX1_haveSum_2_1 : List UInt8 := dkwX1_haveSum_2_1 ++ dktX1_haveSum_2_2
def dkwX1_haveSum_2_0 : List UInt8 := [42, 182, 0, 211, 184, 1, 9, 61, 43, 182, 0, 211, 184, 1, 9, 62, 42, 182, 1, 11, 153, 0, 23, 29]
abbrev dktX1_haveSum_2_0 : List UInt8 := dkwX1_haveSum_2_0 ++ dktX1_haveSum_2_1
theorem dksX1_haveSum_2_0 : cX1_haveSum_2.data.toList.drop 0 = dktX1_haveSum_2_0 := by decide +kernel
theorem dksX1_haveSum_2_1 : cX1_haveSum_2.data.toList.drop 24 = dktX1_haveSum_2_1 := dk_seg dksX1_haveSum_2_0 24 rfl rfl
theorem dksX1_haveSum_2_2 : cX1_haveSum_2.data.toList.drop 47 = dktX1_haveSum_2_2 := dk_seg dksX1_haveSum_2_1 23 rfl rfl
theorem dksX1_haveSum_2_3 : cX1_haveSum_2.data.toList.drop 71 = dktX1_haveSum_2_3 := dk_seg dksX1_haveSum_2_2 24 rfl rfl
theorem dX1_haveSum_2_0 : decode cX1_haveSum_2 0 = .ok (.aload_n 0, 1) := dk_42 (dk_at dksX1_haveSum_2_0 0 rfl rfl)
theorem dX1_haveSum_2_1 : decode cX1_haveSum_2 1 = .ok (.invokevirtual 211, 3) := dk_182 0 211 (dk_at dksX1_haveSum_2_0 1 rfl rfl)
theorem dX1_haveSum_2_4 : decode cX1_haveSum_2 4 = .ok (.invokestatic 265, 3) := dk_184 1 9 (dk_at dksX1_haveSum_2_0 4 rfl rfl)
theorem dX1_haveSum_2_7 : decode cX1_haveSum_2 7 = .ok (.istore_n 2, 1) := dk_61 (dk_at dksX1_haveSum_2_0 7 rfl rfl)
theorem dX1_haveSum_2_8 : decode cX1_haveSum_2 8 = .ok (.aload_n 1, 1) := dk_43 (dk_at dksX1_haveSum_2_0 8 rfl rfl)
theorem dX1_haveSum_2_9 : decode cX1_haveSum_2 9 = .ok (.invokevirtual 211, 3) := dk_182 0 211 (dk_at dksX1_haveSum_2_0 9 rfl rfl)
theorem dX1_haveSum_2_12 : decode cX1_haveSum_2 12 = .ok (.invokestatic 265, 3) := dk_184 1 9 (dk_at dksX1_haveSum_2_0 12 rfl rfl)
theorem dX1_haveSum_2_15 : decode cX1_haveSum_2 15 = .ok (.istore_n 3, 1) := dk_62 (dk_at dksX1_haveSum_2_0 15 rfl rfl)
theorem dX1_haveSum_2_16 : decode cX1_haveSum_2 16 = .ok (.aload_n 0, 1) := dk_42 (dk_at dksX1_haveSum_2_0 16 rfl rfl)
theorem dX1_haveSum_2_17 : decode cX1_haveSum_2 17 = .ok (.invokevirtual 267, 3) := dk_182 1 11 (dk_at dksX1_haveSum_2_0 17 rfl rfl)
theorem dX1_haveSum_2_20 : decode cX1_haveSum_2 20 = .ok (.ifCond .eq 23, 3) := dk_153 0 23 (dk_at dksX1_haveSum_2_0 20 rfl rfl)
theorem dX1_haveSum_2_23 : decode cX1_haveSum_2 23 = .ok (.iload_n 3, 1) := dk_29 (dk_at dksX1_haveSum_2_0 23 rfl rfl)
theorem dX1_haveSum_2_24 : decode cX1_haveSum_2 24 = .ok (.ldc 61, 2) := dk_18 61 (dk_at dksX1_haveSum_2_1 0 rfl rfl)
theorem dX1_haveSum_2_26 : decode cX1_haveSum_2 26 = .ok (.if_icmp .ne 11, 3) := dk_160 0 11 (dk_at dksX1_haveSum_2_1 2 rfl rfl)
theorem dX1_haveSum_2_29 : decode cX1_haveSum_2 29 = .ok (.aload_n 0, 1) := dk_42 (dk_at dksX1_haveSum_2_1 5 rfl rfl)
theorem dX1_haveSum_2_30 : decode cX1_haveSum_2 30 = .ok (.aload_n 1, 1) := dk_43 (dk_at dksX1_haveSum_2_1 6 rfl rfl)
theorem dX1_haveSum_2_31 : decode cX1_haveSum_2 31 = .ok (.invokevirtual 264, 3) := dk_182 1 8 (dk_at dksX1_haveSum_2_1 7 rfl rfl)
theorem dX1_haveSum_2_34 : decode cX1_haveSum_2 34 = .ok (.ifCond .eq 7, 3) := dk_153 0 7 (dk_at dksX1_haveSum_2_1 10 rfl rfl)
theorem dX1_haveSum_2_37 : decode cX1_haveSum_2 37 = .ok (.iconst 1, 1) := dk_4 (dk_at dksX1_haveSum_2_1 13 rfl rfl)
theorem dX1_haveSum_2_38 : decode cX1_haveSum_2 38 = .ok (.goto 4, 3) := dk_167 0 4 (dk_at dksX1_haveSum_2_1 14 rfl rfl)
theorem dX1_haveSum_2_41 : decode cX1_haveSum_2 41 = .ok (.iconst 0, 1) := dk_3 (dk_at dksX1_haveSum_2_1 17 rfl rfl)
theorem dX1_haveSum_2_42 : decode cX1_haveSum_2 42 = .ok (.ireturn, 1) := dk_172 (dk_at dksX1_haveSum_2_1 18 rfl rfl)
theorem dX1_haveSum_2_43 : decode cX1_haveSum_2 43 = .ok (.aload_n 1, 1) := dk_43 (dk_at dksX1_haveSum_2_1 19 rfl rfl)
theorem dX1_haveSum_2_44 : decode cX1_haveSum_2 44 = .ok (.invokevirtual 267, 3) := dk_182 1 11 (dk_at dksX1_haveSum_2_1 20 rfl rfl)
theorem dX1_haveSum_2_47 : decode cX1_haveSum_2 47 = .ok (.ifCond .eq 15, 3) := dk_153 0 15 (dk_at dksX1_haveSum_2_2 0 rfl rfl)
theorem dX1_haveSum_2_50 : decode cX1_haveSum_2 50 = .ok (.iload_n 2, 1) := dk_28 (dk_at dksX1_haveSum_2_2 3 rfl rfl)
theorem dX1_haveSum_2_51 : decode cX1_haveSum_2 51 = .ok (.ldc 61, 2) := dk_18 61 (dk_at dksX1_haveSum_2_2 4 rfl rfl)
theorem dX1_haveSum_2_53 : decode cX1_haveSum_2 53 = .ok (.if_icmp .eq 7, 3) := dk_159 0 7 (dk_at dksX1_haveSum_2_2 6 rfl rfl)
theorem dX1_haveSum_2_56 : decode cX1_haveSum_2 56 = .ok (.iconst 1, 1) := dk_4 (dk_at dksX1_haveSum_2_2 9 rfl rfl)
theorem dX1_haveSum_2_57 : decode cX1_haveSum_2 57 = .ok (.goto 4, 3) := dk_167 0 4 (dk_at dksX1_haveSum_2_2 10 rfl rfl)
theorem dX1_haveSum_2_60 : decode cX1_haveSum_2 60 = .ok (.iconst 0, 1) := dk_3 (dk_at dksX1_haveSum_2_2 13 rfl rfl)
theorem dX1_haveSum_2_61 : decode cX1_haveSum_2 61 = .ok (.ireturn, 1) := dk_172 (dk_at dksX1_haveSum_2_2 14 rfl rfl)
theorem dX1_haveSum_2_62 : decode cX1_haveSum_2 62 = .ok (.iload_n 2, 1) := dk_28 (dk_at dksX1_haveSum_2_2 15 rfl rfl)
theorem dX1_haveSum_2_63 : decode cX1_haveSum_2 63 = .ok (.ldc 61, 2) := dk_18 61 (dk_at dksX1_haveSum_2_2 16 rfl rfl)
theorem dX1_haveSum_2_65 : decode cX1_haveSum_2 65 = .ok (.if_icmp .eq 24, 3) := dk_159 0 24 (dk_at dksX1_haveSum_2_2 18 rfl rfl)
theorem dX1_haveSum_2_68 : decode cX1_haveSum_2 68 = .ok (.iload_n 3, 1) := dk_29 (dk_at dksX1_haveSum_2_2 21 rfl rfl)
theorem dX1_haveSum_2_69 : decode cX1_haveSum_2 69 = .ok (.ldc 61, 2) := dk_18 61 (dk_at dksX1_haveSum_2_2 22 rfl rfl)
theorem dX1_haveSum_2_71 : decode cX1_haveSum_2 71 = .ok (.if_icmp .eq 18, 3) := dk_159 0 18 (dk_at dksX1_haveSum_2_3 0 rfl rfl)
theorem dX1_haveSum_2_74 : decode cX1_haveSum_2 74 = .ok (.iload_n 2, 1) := dk_28 (dk_at dksX1_haveSum_2_3 3 rfl rfl)
theorem dX1_haveSum_2_75 : decode cX1_haveSum_2 75 = .ok (.iload_n 3, 1) := dk_29 (dk_at dksX1_haveSum_2_3 4 rfl rfl)
theorem dX1_haveSum_2_76 : decode cX1_haveSum_2 76 = .ok (.iadd, 1) := dk_96 (dk_at dksX1_haveSum_2_3 5 rfl rfl)
theorem dX1_haveSum_2_77 : decode cX1_haveSum_2 77 = .ok (.invokestatic 268, 3) := dk_184 1 12 (dk_at dksX1_haveSum_2_3 6 rfl rfl)
theorem dX1_haveSum_2_80 : decode cX1_haveSum_2 80 = .ok (.ldc 254, 2) := dk_18 254 (dk_at dksX1_haveSum_2_3 9 rfl rfl)
theorem dX1_haveSum_2_82 : decode cX1_haveSum_2 82 = .ok (.if_icmp .gt 7, 3) := dk_163 0 7 (dk_at dksX1_haveSum_2_3 11 rfl rfl)
theorem dX1_haveSum_2_85 : decode cX1_haveSum_2 85 = .ok (.iconst 1, 1) := dk_4 (dk_at dksX1_haveSum_2_3 14 rfl rfl)
theorem dX1_haveSum_2_86 : decode cX1_haveSum_2 86 = .ok (.goto 4, 3) := dk_167 0 4 (dk_at dksX1_haveSum_2_3 15 rfl rfl)
theorem dX1_haveSum_2_89 : decode cX1_haveSum_2 89 = .ok (.iconst 0, 1) := dk_3 (dk_at dksX1_haveSum_2_3 18 rfl rfl)
theorem dX1_haveSum_2_90 : decode cX1_haveSum_2 90 = .ok (.ireturn, 1) := dk_172 (dk_at dksX1_haveSum_2_3 19 rfl rfl)
abbrev cX1_narrowSort : ByteArray := prog_1_method_55_code
def yX1_narrowSort : MethodName := ⟨RX1, "narrowSort", "(I)I"⟩
def dkwX1_narrowSort_6 : List UInt8 := [167, 255, 218, 42, 89, 180, 1, 5, 4, 96, 181, 1, 5, 29, 172]
abbrev dktX1_narrowSort_6 : List UInt8 := dkwX1_narrowSort_6 ++ []
def dkwX1_narrowSort_5 : List UInt8 := [21, 4, 50, 182, 1, 8, 154, 0, 7, 4, 167, 0, 4, 3, 184, 0, 91, 96, 62, 132, 4, 1]
abbrev dktX1_narrowSort_5 : List UInt8 := dkwX1_narrowSort_5 ++ dktX1_narrowSort_6
def dkwX1_narrowSort_4 : List UInt8 := [167, 255, 201, 3, 62, 3, 54, 4, 21, 4, 16, 8, 162, 0, 37, 29, 44, 21, 4, 50, 42, 180, 0, 21]
abbrev dktX1_narrowSort_4 : List UInt8 := dkwX1_narrowSort_4 ++ dktX1_narrowSort_5
def dkwX1_narrowSort_3 : List UInt8 := [184, 1, 44, 153, 0, 18, 42, 180, 0, 21, 21, 4, 184, 1, 48, 132, 4, 255, 167, 255, 216, 132, 3, 1]
abbrev dktX1_narrowSort_3 : List UInt8 := dkwX1_narrowSort_3 ++ dktX1_narrowSort_4
def dkwX1_narrowSort_2 : List UInt8 := [54, 4, 21, 4, 158, 0, 41, 42, 180, 0, 21, 21, 4, 50, 42, 180, 0, 21, 21, 4, 4, 100, 50, 27]
abbrev dktX1_narrowSort_2 : List UInt8 := dkwX1_narrowSort_2 ++ dktX1_narrowSort_3
def dkwX1_narrowSort_1 : List UInt8 := [29, 42, 180, 0, 21, 29, 50, 83, 132, 3, 1, 167, 255, 238, 4, 62, 29, 16, 8, 162, 0, 55, 29]
abbrev dktX1_narrowSort_1 : List UInt8 := dkwX1_narrowSort_1 ++ dktX1_narrowSort_2
def dkwX1_narrowSort_0 : List UInt8 := [27, 3, 4, 184, 0, 32, 184, 0, 132, 16, 8, 189, 0, 19, 77, 3, 62, 29, 16, 8, 162, 0, 18, 44]
abbrev dktX1_narrowSort_0 : List UInt8 := dkwX1_narrowSort_0 ++ dktX1_narrowSort_1
theorem dksX1_narrowSort_0 : cX1_narrowSort.data.toList.drop 0 = dktX1_narrowSort_0 := by decide +kernel
theorem dksX1_narrowSort_1 : cX1_narrowSort.data.toList.drop 24 = dktX1_narrowSort_1 := dk_seg dksX1_narrowSort_0 24 rfl rfl
theorem dksX1_narrowSort_2 : cX1_narrowSort.data.toList.drop 47 = dktX1_narrowSort_2 := dk_seg dksX1_narrowSort_1 23 rfl rfl
theorem dksX1_narrowSort_3 : cX1_narrowSort.data.toList.drop 71 = dktX1_narrowSort_3 := dk_seg dksX1_narrowSort_2 24 rfl rfl
theorem dksX1_narrowSort_4 : cX1_narrowSort.data.toList.drop 95 = dktX1_narrowSort_4 := dk_seg dksX1_narrowSort_3 24 rfl rfl
theorem dksX1_narrowSort_5 : cX1_narrowSort.data.toList.drop 119 = dktX1_narrowSort_5 := dk_seg dksX1_narrowSort_4 24 rfl rfl
theorem dksX1_narrowSort_6 : cX1_narrowSort.data.toList.drop 141 = dktX1_narrowSort_6 := dk_seg dksX1_narrowSort_5 22 rfl rfl
theorem dX1_narrowSort_0 : decode cX1_narrowSort 0 = .ok (.iload_n 1, 1) := dk_27 (dk_at dksX1_narrowSort_0 0 rfl rfl)
theorem dX1_narrowSort_1 : decode cX1_narrowSort 1 = .ok (.iconst 0, 1) := dk_3 (dk_at dksX1_narrowSort_0 1 rfl rfl)
theorem dX1_narrowSort_2 : decode cX1_narrowSort 2 = .ok (.iconst 1, 1) := dk_4 (dk_at dksX1_narrowSort_0 2 rfl rfl)
theorem dX1_narrowSort_3 : decode cX1_narrowSort 3 = .ok (.invokestatic 32, 3) := dk_184 0 32 (dk_at dksX1_narrowSort_0 3 rfl rfl)
theorem dX1_narrowSort_6 : decode cX1_narrowSort 6 = .ok (.invokestatic 132, 3) := dk_184 0 132 (dk_at dksX1_narrowSort_0 6 rfl rfl)
theorem dX1_narrowSort_9 : decode cX1_narrowSort 9 = .ok (.bipush 8, 2) := dk_16 8 (dk_at dksX1_narrowSort_0 9 rfl rfl)
theorem dX1_narrowSort_11 : decode cX1_narrowSort 11 = .ok (.anewarray 19, 3) := dk_189 0 19 (dk_at dksX1_narrowSort_0 11 rfl rfl)
theorem dX1_narrowSort_14 : decode cX1_narrowSort 14 = .ok (.astore_n 2, 1) := dk_77 (dk_at dksX1_narrowSort_0 14 rfl rfl)
theorem dX1_narrowSort_15 : decode cX1_narrowSort 15 = .ok (.iconst 0, 1) := dk_3 (dk_at dksX1_narrowSort_0 15 rfl rfl)
theorem dX1_narrowSort_16 : decode cX1_narrowSort 16 = .ok (.istore_n 3, 1) := dk_62 (dk_at dksX1_narrowSort_0 16 rfl rfl)
theorem dX1_narrowSort_17 : decode cX1_narrowSort 17 = .ok (.iload_n 3, 1) := dk_29 (dk_at dksX1_narrowSort_0 17 rfl rfl)
theorem dX1_narrowSort_18 : decode cX1_narrowSort 18 = .ok (.bipush 8, 2) := dk_16 8 (dk_at dksX1_narrowSort_0 18 rfl rfl)
theorem dX1_narrowSort_20 : decode cX1_narrowSort 20 = .ok (.if_icmp .ge 18, 3) := dk_162 0 18 (dk_at dksX1_narrowSort_0 20 rfl rfl)
theorem dX1_narrowSort_23 : decode cX1_narrowSort 23 = .ok (.aload_n 2, 1) := dk_44 (dk_at dksX1_narrowSort_0 23 rfl rfl)
theorem dX1_narrowSort_24 : decode cX1_narrowSort 24 = .ok (.iload_n 3, 1) := dk_29 (dk_at dksX1_narrowSort_1 0 rfl rfl)
theorem dX1_narrowSort_25 : decode cX1_narrowSort 25 = .ok (.aload_n 0, 1) := dk_42 (dk_at dksX1_narrowSort_1 1 rfl rfl)
theorem dX1_narrowSort_26 : decode cX1_narrowSort 26 = .ok (.getfield 21, 3) := dk_180 0 21 (dk_at dksX1_narrowSort_1 2 rfl rfl)
theorem dX1_narrowSort_29 : decode cX1_narrowSort 29 = .ok (.iload_n 3, 1) := dk_29 (dk_at dksX1_narrowSort_1 5 rfl rfl)
theorem dX1_narrowSort_30 : decode cX1_narrowSort 30 = .ok (.aaload, 1) := dk_50 (dk_at dksX1_narrowSort_1 6 rfl rfl)
theorem dX1_narrowSort_31 : decode cX1_narrowSort 31 = .ok (.aastore, 1) := dk_83 (dk_at dksX1_narrowSort_1 7 rfl rfl)
theorem dX1_narrowSort_32 : decode cX1_narrowSort 32 = .ok (.iinc 3 1, 3) := dk_132 3 1 (dk_at dksX1_narrowSort_1 8 rfl rfl)
theorem dX1_narrowSort_35 : decode cX1_narrowSort 35 = .ok (.goto (-18), 3) := dk_167 255 238 (dk_at dksX1_narrowSort_1 11 rfl rfl)
theorem dX1_narrowSort_38 : decode cX1_narrowSort 38 = .ok (.iconst 1, 1) := dk_4 (dk_at dksX1_narrowSort_1 14 rfl rfl)
theorem dX1_narrowSort_39 : decode cX1_narrowSort 39 = .ok (.istore_n 3, 1) := dk_62 (dk_at dksX1_narrowSort_1 15 rfl rfl)
theorem dX1_narrowSort_40 : decode cX1_narrowSort 40 = .ok (.iload_n 3, 1) := dk_29 (dk_at dksX1_narrowSort_1 16 rfl rfl)
theorem dX1_narrowSort_41 : decode cX1_narrowSort 41 = .ok (.bipush 8, 2) := dk_16 8 (dk_at dksX1_narrowSort_1 17 rfl rfl)
theorem dX1_narrowSort_43 : decode cX1_narrowSort 43 = .ok (.if_icmp .ge 55, 3) := dk_162 0 55 (dk_at dksX1_narrowSort_1 19 rfl rfl)
theorem dX1_narrowSort_46 : decode cX1_narrowSort 46 = .ok (.iload_n 3, 1) := dk_29 (dk_at dksX1_narrowSort_1 22 rfl rfl)
theorem dX1_narrowSort_47 : decode cX1_narrowSort 47 = .ok (.istore 4, 2) := dk_54 4 (dk_at dksX1_narrowSort_2 0 rfl rfl)
theorem dX1_narrowSort_49 : decode cX1_narrowSort 49 = .ok (.iload 4, 2) := dk_21 4 (dk_at dksX1_narrowSort_2 2 rfl rfl)
theorem dX1_narrowSort_51 : decode cX1_narrowSort 51 = .ok (.ifCond .le 41, 3) := dk_158 0 41 (dk_at dksX1_narrowSort_2 4 rfl rfl)
theorem dX1_narrowSort_54 : decode cX1_narrowSort 54 = .ok (.aload_n 0, 1) := dk_42 (dk_at dksX1_narrowSort_2 7 rfl rfl)
theorem dX1_narrowSort_55 : decode cX1_narrowSort 55 = .ok (.getfield 21, 3) := dk_180 0 21 (dk_at dksX1_narrowSort_2 8 rfl rfl)
theorem dX1_narrowSort_58 : decode cX1_narrowSort 58 = .ok (.iload 4, 2) := dk_21 4 (dk_at dksX1_narrowSort_2 11 rfl rfl)
theorem dX1_narrowSort_60 : decode cX1_narrowSort 60 = .ok (.aaload, 1) := dk_50 (dk_at dksX1_narrowSort_2 13 rfl rfl)
theorem dX1_narrowSort_61 : decode cX1_narrowSort 61 = .ok (.aload_n 0, 1) := dk_42 (dk_at dksX1_narrowSort_2 14 rfl rfl)
theorem dX1_narrowSort_62 : decode cX1_narrowSort 62 = .ok (.getfield 21, 3) := dk_180 0 21 (dk_at dksX1_narrowSort_2 15 rfl rfl)
theorem dX1_narrowSort_65 : decode cX1_narrowSort 65 = .ok (.iload 4, 2) := dk_21 4 (dk_at dksX1_narrowSort_2 18 rfl rfl)
theorem dX1_narrowSort_67 : decode cX1_narrowSort 67 = .ok (.iconst 1, 1) := dk_4 (dk_at dksX1_narrowSort_2 20 rfl rfl)
theorem dX1_narrowSort_68 : decode cX1_narrowSort 68 = .ok (.isub, 1) := dk_100 (dk_at dksX1_narrowSort_2 21 rfl rfl)
theorem dX1_narrowSort_69 : decode cX1_narrowSort 69 = .ok (.aaload, 1) := dk_50 (dk_at dksX1_narrowSort_2 22 rfl rfl)
theorem dX1_narrowSort_70 : decode cX1_narrowSort 70 = .ok (.iload_n 1, 1) := dk_27 (dk_at dksX1_narrowSort_2 23 rfl rfl)
theorem dX1_narrowSort_71 : decode cX1_narrowSort 71 = .ok (.invokestatic 300, 3) := dk_184 1 44 (dk_at dksX1_narrowSort_3 0 rfl rfl)
theorem dX1_narrowSort_74 : decode cX1_narrowSort 74 = .ok (.ifCond .eq 18, 3) := dk_153 0 18 (dk_at dksX1_narrowSort_3 3 rfl rfl)
theorem dX1_narrowSort_77 : decode cX1_narrowSort 77 = .ok (.aload_n 0, 1) := dk_42 (dk_at dksX1_narrowSort_3 6 rfl rfl)
theorem dX1_narrowSort_78 : decode cX1_narrowSort 78 = .ok (.getfield 21, 3) := dk_180 0 21 (dk_at dksX1_narrowSort_3 7 rfl rfl)
theorem dX1_narrowSort_81 : decode cX1_narrowSort 81 = .ok (.iload 4, 2) := dk_21 4 (dk_at dksX1_narrowSort_3 10 rfl rfl)
theorem dX1_narrowSort_83 : decode cX1_narrowSort 83 = .ok (.invokestatic 304, 3) := dk_184 1 48 (dk_at dksX1_narrowSort_3 12 rfl rfl)
theorem dX1_narrowSort_86 : decode cX1_narrowSort 86 = .ok (.iinc 4 (-1), 3) := dk_132 4 255 (dk_at dksX1_narrowSort_3 15 rfl rfl)
theorem dX1_narrowSort_89 : decode cX1_narrowSort 89 = .ok (.goto (-40), 3) := dk_167 255 216 (dk_at dksX1_narrowSort_3 18 rfl rfl)
theorem dX1_narrowSort_92 : decode cX1_narrowSort 92 = .ok (.iinc 3 1, 3) := dk_132 3 1 (dk_at dksX1_narrowSort_3 21 rfl rfl)
theorem dX1_narrowSort_95 : decode cX1_narrowSort 95 = .ok (.goto (-55), 3) := dk_167 255 201 (dk_at dksX1_narrowSort_4 0 rfl rfl)
theorem dX1_narrowSort_98 : decode cX1_narrowSort 98 = .ok (.iconst 0, 1) := dk_3 (dk_at dksX1_narrowSort_4 3 rfl rfl)
theorem dX1_narrowSort_99 : decode cX1_narrowSort 99 = .ok (.istore_n 3, 1) := dk_62 (dk_at dksX1_narrowSort_4 4 rfl rfl)
theorem dX1_narrowSort_100 : decode cX1_narrowSort 100 = .ok (.iconst 0, 1) := dk_3 (dk_at dksX1_narrowSort_4 5 rfl rfl)
theorem dX1_narrowSort_101 : decode cX1_narrowSort 101 = .ok (.istore 4, 2) := dk_54 4 (dk_at dksX1_narrowSort_4 6 rfl rfl)
theorem dX1_narrowSort_103 : decode cX1_narrowSort 103 = .ok (.iload 4, 2) := dk_21 4 (dk_at dksX1_narrowSort_4 8 rfl rfl)
theorem dX1_narrowSort_105 : decode cX1_narrowSort 105 = .ok (.bipush 8, 2) := dk_16 8 (dk_at dksX1_narrowSort_4 10 rfl rfl)
theorem dX1_narrowSort_107 : decode cX1_narrowSort 107 = .ok (.if_icmp .ge 37, 3) := dk_162 0 37 (dk_at dksX1_narrowSort_4 12 rfl rfl)
theorem dX1_narrowSort_110 : decode cX1_narrowSort 110 = .ok (.iload_n 3, 1) := dk_29 (dk_at dksX1_narrowSort_4 15 rfl rfl)
theorem dX1_narrowSort_111 : decode cX1_narrowSort 111 = .ok (.aload_n 2, 1) := dk_44 (dk_at dksX1_narrowSort_4 16 rfl rfl)
theorem dX1_narrowSort_112 : decode cX1_narrowSort 112 = .ok (.iload 4, 2) := dk_21 4 (dk_at dksX1_narrowSort_4 17 rfl rfl)
theorem dX1_narrowSort_114 : decode cX1_narrowSort 114 = .ok (.aaload, 1) := dk_50 (dk_at dksX1_narrowSort_4 19 rfl rfl)
theorem dX1_narrowSort_115 : decode cX1_narrowSort 115 = .ok (.aload_n 0, 1) := dk_42 (dk_at dksX1_narrowSort_4 20 rfl rfl)
theorem dX1_narrowSort_116 : decode cX1_narrowSort 116 = .ok (.getfield 21, 3) := dk_180 0 21 (dk_at dksX1_narrowSort_4 21 rfl rfl)
theorem dX1_narrowSort_119 : decode cX1_narrowSort 119 = .ok (.iload 4, 2) := dk_21 4 (dk_at dksX1_narrowSort_5 0 rfl rfl)
theorem dX1_narrowSort_121 : decode cX1_narrowSort 121 = .ok (.aaload, 1) := dk_50 (dk_at dksX1_narrowSort_5 2 rfl rfl)
theorem dX1_narrowSort_122 : decode cX1_narrowSort 122 = .ok (.invokevirtual 264, 3) := dk_182 1 8 (dk_at dksX1_narrowSort_5 3 rfl rfl)
theorem dX1_narrowSort_125 : decode cX1_narrowSort 125 = .ok (.ifCond .ne 7, 3) := dk_154 0 7 (dk_at dksX1_narrowSort_5 6 rfl rfl)
theorem dX1_narrowSort_128 : decode cX1_narrowSort 128 = .ok (.iconst 1, 1) := dk_4 (dk_at dksX1_narrowSort_5 9 rfl rfl)
theorem dX1_narrowSort_129 : decode cX1_narrowSort 129 = .ok (.goto 4, 3) := dk_167 0 4 (dk_at dksX1_narrowSort_5 10 rfl rfl)
theorem dX1_narrowSort_132 : decode cX1_narrowSort 132 = .ok (.iconst 0, 1) := dk_3 (dk_at dksX1_narrowSort_5 13 rfl rfl)
theorem dX1_narrowSort_133 : decode cX1_narrowSort 133 = .ok (.invokestatic 91, 3) := dk_184 0 91 (dk_at dksX1_narrowSort_5 14 rfl rfl)
theorem dX1_narrowSort_136 : decode cX1_narrowSort 136 = .ok (.iadd, 1) := dk_96 (dk_at dksX1_narrowSort_5 17 rfl rfl)
theorem dX1_narrowSort_137 : decode cX1_narrowSort 137 = .ok (.istore_n 3, 1) := dk_62 (dk_at dksX1_narrowSort_5 18 rfl rfl)
theorem dX1_narrowSort_138 : decode cX1_narrowSort 138 = .ok (.iinc 4 1, 3) := dk_132 4 1 (dk_at dksX1_narrowSort_5 19 rfl rfl)
theorem dX1_narrowSort_141 : decode cX1_narrowSort 141 = .ok (.goto (-38), 3) := dk_167 255 218 (dk_at dksX1_narrowSort_6 0 rfl rfl)
theorem dX1_narrowSort_144 : decode cX1_narrowSort 144 = .ok (.aload_n 0, 1) := dk_42 (dk_at dksX1_narrowSort_6 3 rfl rfl)
theorem dX1_narrowSort_145 : decode cX1_narrowSort 145 = .ok (.dup, 1) := dk_89 (dk_at dksX1_narrowSort_6 4 rfl rfl)
theorem dX1_narrowSort_146 : decode cX1_narrowSort 146 = .ok (.getfield 261, 3) := dk_180 1 5 (dk_at dksX1_narrowSort_6 5 rfl rfl)
theorem dX1_narrowSort_149 : decode cX1_narrowSort 149 = .ok (.iconst 1, 1) := dk_4 (dk_at dksX1_narrowSort_6 8 rfl rfl)
theorem dX1_narrowSort_150 : decode cX1_narrowSort 150 = .ok (.iadd, 1) := dk_96 (dk_at dksX1_narrowSort_6 9 rfl rfl)
theorem dX1_narrowSort_151 : decode cX1_narrowSort 151 = .ok (.putfield 261, 3) := dk_181 1 5 (dk_at dksX1_narrowSort_6 10 rfl rfl)
theorem dX1_narrowSort_154 : decode cX1_narrowSort 154 = .ok (.iload_n 3, 1) := dk_29 (dk_at dksX1_narrowSort_6 13 rfl rfl)
theorem dX1_narrowSort_155 : decode cX1_narrowSort 155 = .ok (.ireturn, 1) := dk_172 (dk_at dksX1_narrowSort_6 14 rfl rfl)
abbrev cX1_isNarrowAhead : ByteArray := prog_1_method_57_code
def yX1_isNarrowAhead : MethodName := ⟨RX1, "isNarrowAhead", "(Ljava/lang/Float;Ljava/lang/Float;I)Z"⟩
def dkwX1_isNarrowAhead_1 : List UInt8 := [167, 0, 16, 42, 43, 182, 1, 54, 156, 0, 7, 4, 167, 0, 4, 3, 172]
abbrev dktX1_isNarrowAhead_1 : List UInt8 := dkwX1_isNarrowAhead_1 ++ []
def dkwX1_isNarrowAhead_0 : List UInt8 := [28, 154, 0, 25, 42, 182, 0, 211, 43, 182, 0, 211, 184, 1, 51, 156, 0, 7, 4, 167, 0, 20, 3]
abbrev dktX1_isNarrowAhead_0 : List UInt8 := dkwX1_isNarrowAhead_0 ++ dktX1_isNarrowAhead_1
theorem dksX1_isNarrowAhead_0 : cX1_isNarrowAhead.data.toList.drop 0 = dktX1_isNarrowAhead_0 := by decide +kernel
theorem dksX1_isNarrowAhead_1 : cX1_isNarrowAhead.data.toList.drop 23 = dktX1_isNarrowAhead_1 := dk_seg dksX1_isNarrowAhead_0 23 rfl rfl
theorem dX1_isNarrowAhead_0 : decode cX1_isNarrowAhead 0 = .ok (.iload_n 2, 1) := dk_28 (dk_at dksX1_isNarrowAhead_0 0 rfl rfl)
theorem dX1_isNarrowAhead_1 : decode cX1_isNarrowAhead 1 = .ok (.ifCond .ne 25, 3) := dk_154 0 25 (dk_at dksX1_isNarrowAhead_0 1 rfl rfl)
theorem dX1_isNarrowAhead_4 : decode cX1_isNarrowAhead 4 = .ok (.aload_n 0, 1) := dk_42 (dk_at dksX1_isNarrowAhead_0 4 rfl rfl)
theorem dX1_isNarrowAhead_5 : decode cX1_isNarrowAhead 5 = .ok (.invokevirtual 211, 3) := dk_182 0 211 (dk_at dksX1_isNarrowAhead_0 5 rfl rfl)
theorem dX1_isNarrowAhead_8 : decode cX1_isNarrowAhead 8 = .ok (.aload_n 1, 1) := dk_43 (dk_at dksX1_isNarrowAhead_0 8 rfl rfl)
theorem dX1_isNarrowAhead_9 : decode cX1_isNarrowAhead 9 = .ok (.invokevirtual 211, 3) := dk_182 0 211 (dk_at dksX1_isNarrowAhead_0 9 rfl rfl)
theorem dX1_isNarrowAhead_12 : decode cX1_isNarrowAhead 12 = .ok (.invokestatic 307, 3) := dk_184 1 51 (dk_at dksX1_isNarrowAhead_0 12 rfl rfl)
theorem dX1_isNarrowAhead_15 : decode cX1_isNarrowAhead 15 = .ok (.ifCond .ge 7, 3) := dk_156 0 7 (dk_at dksX1_isNarrowAhead_0 15 rfl rfl)
theorem dX1_isNarrowAhead_18 : decode cX1_isNarrowAhead 18 = .ok (.iconst 1, 1) := dk_4 (dk_at dksX1_isNarrowAhead_0 18 rfl rfl)
theorem dX1_isNarrowAhead_19 : decode cX1_isNarrowAhead 19 = .ok (.goto 20, 3) := dk_167 0 20 (dk_at dksX1_isNarrowAhead_0 19 rfl rfl)
theorem dX1_isNarrowAhead_22 : decode cX1_isNarrowAhead 22 = .ok (.iconst 0, 1) := dk_3 (dk_at dksX1_isNarrowAhead_0 22 rfl rfl)
theorem dX1_isNarrowAhead_23 : decode cX1_isNarrowAhead 23 = .ok (.goto 16, 3) := dk_167 0 16 (dk_at dksX1_isNarrowAhead_1 0 rfl rfl)
theorem dX1_isNarrowAhead_26 : decode cX1_isNarrowAhead 26 = .ok (.aload_n 0, 1) := dk_42 (dk_at dksX1_isNarrowAhead_1 3 rfl rfl)
theorem dX1_isNarrowAhead_27 : decode cX1_isNarrowAhead 27 = .ok (.aload_n 1, 1) := dk_43 (dk_at dksX1_isNarrowAhead_1 4 rfl rfl)
theorem dX1_isNarrowAhead_28 : decode cX1_isNarrowAhead 28 = .ok (.invokevirtual 310, 3) := dk_182 1 54 (dk_at dksX1_isNarrowAhead_1 5 rfl rfl)
theorem dX1_isNarrowAhead_31 : decode cX1_isNarrowAhead 31 = .ok (.ifCond .ge 7, 3) := dk_156 0 7 (dk_at dksX1_isNarrowAhead_1 8 rfl rfl)
theorem dX1_isNarrowAhead_34 : decode cX1_isNarrowAhead 34 = .ok (.iconst 1, 1) := dk_4 (dk_at dksX1_isNarrowAhead_1 11 rfl rfl)
theorem dX1_isNarrowAhead_35 : decode cX1_isNarrowAhead 35 = .ok (.goto 4, 3) := dk_167 0 4 (dk_at dksX1_isNarrowAhead_1 12 rfl rfl)
theorem dX1_isNarrowAhead_38 : decode cX1_isNarrowAhead 38 = .ok (.iconst 0, 1) := dk_3 (dk_at dksX1_isNarrowAhead_1 15 rfl rfl)
theorem dX1_isNarrowAhead_39 : decode cX1_isNarrowAhead 39 = .ok (.ireturn, 1) := dk_172 (dk_at dksX1_isNarrowAhead_1 16 rfl rfl)
abbrev cX1_change_2 : ByteArray := prog_1_method_56_code
def yX1_change_2 : MethodName := ⟨RX1, "change", "([Ljava/lang/Float;I)V"⟩
def dkwX1_change_2_0 : List UInt8 := [42, 27, 50, 77, 42, 27, 42, 27, 4, 100, 50, 83, 42, 27, 4, 100, 44, 83, 177]
abbrev dktX1_change_2_0 : List UInt8 := dkwX1_change_2_0 ++ []
theorem dksX1_change_2_0 : cX1_change_2.data.toList.drop 0 = dktX1_change_2_0 := by decide +kernel
theorem dX1_change_2_0 : decode cX1_change_2 0 = .ok (.aload_n 0, 1) := dk_42 (dk_at dksX1_change_2_0 0 rfl rfl)
theorem dX1_change_2_1 : decode cX1_change_2 1 = .ok (.iload_n 1, 1) := dk_27 (dk_at dksX1_change_2_0 1 rfl rfl)
theorem dX1_change_2_2 : decode cX1_change_2 2 = .ok (.aaload, 1) := dk_50 (dk_at dksX1_change_2_0 2 rfl rfl)
theorem dX1_change_2_3 : decode cX1_change_2 3 = .ok (.astore_n 2, 1) := dk_77 (dk_at dksX1_change_2_0 3 rfl rfl)
theorem dX1_change_2_4 : decode cX1_change_2 4 = .ok (.aload_n 0, 1) := dk_42 (dk_at dksX1_change_2_0 4 rfl rfl)
theorem dX1_change_2_5 : decode cX1_change_2 5 = .ok (.iload_n 1, 1) := dk_27 (dk_at dksX1_change_2_0 5 rfl rfl)
theorem dX1_change_2_6 : decode cX1_change_2 6 = .ok (.aload_n 0, 1) := dk_42 (dk_at dksX1_change_2_0 6 rfl rfl)
theorem dX1_change_2_7 : decode cX1_change_2 7 = .ok (.iload_n 1, 1) := dk_27 (dk_at dksX1_change_2_0 7 rfl rfl)
theorem dX1_change_2_8 : decode cX1_change_2 8 = .ok (.iconst 1, 1) := dk_4 (dk_at dksX1_change_2_0 8 rfl rfl)
theorem dX1_change_2_9 : decode cX1_change_2 9 = .ok (.isub, 1) := dk_100 (dk_at dksX1_change_2_0 9 rfl rfl)
theorem dX1_change_2_10 : decode cX1_change_2 10 = .ok (.aaload, 1) := dk_50 (dk_at dksX1_change_2_0 10 rfl rfl)
theorem dX1_change_2_11 : decode cX1_change_2 11 = .ok (.aastore, 1) := dk_83 (dk_at dksX1_change_2_0 11 rfl rfl)
theorem dX1_change_2_12 : decode cX1_change_2 12 = .ok (.aload_n 0, 1) := dk_42 (dk_at dksX1_change_2_0 12 rfl rfl)
theorem dX1_change_2_13 : decode cX1_change_2 13 = .ok (.iload_n 1, 1) := dk_27 (dk_at dksX1_change_2_0 13 rfl rfl)
theorem dX1_change_2_14 : decode cX1_change_2 14 = .ok (.iconst 1, 1) := dk_4 (dk_at dksX1_change_2_0 14 rfl rfl)
theorem dX1_change_2_15 : decode cX1_change_2 15 = .ok (.isub, 1) := dk_100 (dk_at dksX1_change_2_0 15 rfl rfl)
theorem dX1_change_2_16 : decode cX1_change_2 16 = .ok (.aload_n 2, 1) := dk_44 (dk_at dksX1_change_2_0 16 rfl rfl)
theorem dX1_change_2_17 : decode cX1_change_2 17 = .ok (.aastore, 1) := dk_83 (dk_at dksX1_change_2_0 17 rfl rfl)
theorem dX1_change_2_18 : decode cX1_change_2 18 = .ok (.return_, 1) := dk_177 (dk_at dksX1_change_2_0 18 rfl rfl)
abbrev cX1_narrowEnd : ByteArray := prog_1_method_58_code
def yX1_narrowEnd : MethodName := ⟨RX1, "narrowEnd", "(ZI)I"⟩
def dkwX1_narrowEnd_3 : List UInt8 := [184, 0, 29, 78, 132, 6, 1, 167, 255, 204, 42, 28, 45, 182, 1, 21, 172]
abbrev dktX1_narrowEnd_3 : List UInt8 := dkwX1_narrowEnd_3 ++ []
def dkwX1_narrowEnd_2 : List UInt8 := [25, 7, 182, 0, 211, 184, 1, 34, 167, 0, 15, 45, 182, 0, 211, 25, 7, 182, 0, 211, 184, 1, 37]
abbrev dktX1_narrowEnd_2 : List UInt8 := dkwX1_narrowEnd_2 ++ dktX1_narrowEnd_3
def dkwX1_narrowEnd_1 : List UInt8 := [54, 6, 21, 6, 21, 5, 162, 0, 51, 25, 4, 21, 6, 50, 58, 7, 27, 153, 0, 18, 45, 182, 0, 211]
abbrev dktX1_narrowEnd_1 : List UInt8 := dkwX1_narrowEnd_1 ++ dktX1_narrowEnd_2
def dkwX1_narrowEnd_0 : List UInt8 := [28, 184, 0, 80, 42, 180, 0, 21, 3, 50, 78, 42, 180, 0, 21, 58, 4, 25, 4, 190, 54, 5, 3]
abbrev dktX1_narrowEnd_0 : List UInt8 := dkwX1_narrowEnd_0 ++ dktX1_narrowEnd_1
theorem dksX1_narrowEnd_0 : cX1_narrowEnd.data.toList.drop 0 = dktX1_narrowEnd_0 := by decide +kernel
theorem dksX1_narrowEnd_1 : cX1_narrowEnd.data.toList.drop 23 = dktX1_narrowEnd_1 := dk_seg dksX1_narrowEnd_0 23 rfl rfl
theorem dksX1_narrowEnd_2 : cX1_narrowEnd.data.toList.drop 47 = dktX1_narrowEnd_2 := dk_seg dksX1_narrowEnd_1 24 rfl rfl
theorem dksX1_narrowEnd_3 : cX1_narrowEnd.data.toList.drop 70 = dktX1_narrowEnd_3 := dk_seg dksX1_narrowEnd_2 23 rfl rfl
theorem dX1_narrowEnd_0 : decode cX1_narrowEnd 0 = .ok (.iload_n 2, 1) := dk_28 (dk_at dksX1_narrowEnd_0 0 rfl rfl)
theorem dX1_narrowEnd_1 : decode cX1_narrowEnd 1 = .ok (.invokestatic 80, 3) := dk_184 0 80 (dk_at dksX1_narrowEnd_0 1 rfl rfl)
theorem dX1_narrowEnd_4 : decode cX1_narrowEnd 4 = .ok (.aload_n 0, 1) := dk_42 (dk_at dksX1_narrowEnd_0 4 rfl rfl)
theorem dX1_narrowEnd_5 : decode cX1_narrowEnd 5 = .ok (.getfield 21, 3) := dk_180 0 21 (dk_at dksX1_narrowEnd_0 5 rfl rfl)
theorem dX1_narrowEnd_8 : decode cX1_narrowEnd 8 = .ok (.iconst 0, 1) := dk_3 (dk_at dksX1_narrowEnd_0 8 rfl rfl)
theorem dX1_narrowEnd_9 : decode cX1_narrowEnd 9 = .ok (.aaload, 1) := dk_50 (dk_at dksX1_narrowEnd_0 9 rfl rfl)
theorem dX1_narrowEnd_10 : decode cX1_narrowEnd 10 = .ok (.astore_n 3, 1) := dk_78 (dk_at dksX1_narrowEnd_0 10 rfl rfl)
theorem dX1_narrowEnd_11 : decode cX1_narrowEnd 11 = .ok (.aload_n 0, 1) := dk_42 (dk_at dksX1_narrowEnd_0 11 rfl rfl)
theorem dX1_narrowEnd_12 : decode cX1_narrowEnd 12 = .ok (.getfield 21, 3) := dk_180 0 21 (dk_at dksX1_narrowEnd_0 12 rfl rfl)
theorem dX1_narrowEnd_15 : decode cX1_narrowEnd 15 = .ok (.astore 4, 2) := dk_58 4 (dk_at dksX1_narrowEnd_0 15 rfl rfl)
theorem dX1_narrowEnd_17 : decode cX1_narrowEnd 17 = .ok (.aload 4, 2) := dk_25 4 (dk_at dksX1_narrowEnd_0 17 rfl rfl)
theorem dX1_narrowEnd_19 : decode cX1_narrowEnd 19 = .ok (.arraylength, 1) := dk_190 (dk_at dksX1_narrowEnd_0 19 rfl rfl)
theorem dX1_narrowEnd_20 : decode cX1_narrowEnd 20 = .ok (.istore 5, 2) := dk_54 5 (dk_at dksX1_narrowEnd_0 20 rfl rfl)
theorem dX1_narrowEnd_22 : decode cX1_narrowEnd 22 = .ok (.iconst 0, 1) := dk_3 (dk_at dksX1_narrowEnd_0 22 rfl rfl)
theorem dX1_narrowEnd_23 : decode cX1_narrowEnd 23 = .ok (.istore 6, 2) := dk_54 6 (dk_at dksX1_narrowEnd_1 0 rfl rfl)
theorem dX1_narrowEnd_25 : decode cX1_narrowEnd 25 = .ok (.iload 6, 2) := dk_21 6 (dk_at dksX1_narrowEnd_1 2 rfl rfl)
theorem dX1_narrowEnd_27 : decode cX1_narrowEnd 27 = .ok (.iload 5, 2) := dk_21 5 (dk_at dksX1_narrowEnd_1 4 rfl rfl)
theorem dX1_narrowEnd_29 : decode cX1_narrowEnd 29 = .ok (.if_icmp .ge 51, 3) := dk_162 0 51 (dk_at dksX1_narrowEnd_1 6 rfl rfl)
theorem dX1_narrowEnd_32 : decode cX1_narrowEnd 32 = .ok (.aload 4, 2) := dk_25 4 (dk_at dksX1_narrowEnd_1 9 rfl rfl)
theorem dX1_narrowEnd_34 : decode cX1_narrowEnd 34 = .ok (.iload 6, 2) := dk_21 6 (dk_at dksX1_narrowEnd_1 11 rfl rfl)
theorem dX1_narrowEnd_36 : decode cX1_narrowEnd 36 = .ok (.aaload, 1) := dk_50 (dk_at dksX1_narrowEnd_1 13 rfl rfl)
theorem dX1_narrowEnd_37 : decode cX1_narrowEnd 37 = .ok (.astore 7, 2) := dk_58 7 (dk_at dksX1_narrowEnd_1 14 rfl rfl)
theorem dX1_narrowEnd_39 : decode cX1_narrowEnd 39 = .ok (.iload_n 1, 1) := dk_27 (dk_at dksX1_narrowEnd_1 16 rfl rfl)
theorem dX1_narrowEnd_40 : decode cX1_narrowEnd 40 = .ok (.ifCond .eq 18, 3) := dk_153 0 18 (dk_at dksX1_narrowEnd_1 17 rfl rfl)
theorem dX1_narrowEnd_43 : decode cX1_narrowEnd 43 = .ok (.aload_n 3, 1) := dk_45 (dk_at dksX1_narrowEnd_1 20 rfl rfl)
theorem dX1_narrowEnd_44 : decode cX1_narrowEnd 44 = .ok (.invokevirtual 211, 3) := dk_182 0 211 (dk_at dksX1_narrowEnd_1 21 rfl rfl)
theorem dX1_narrowEnd_47 : decode cX1_narrowEnd 47 = .ok (.aload 7, 2) := dk_25 7 (dk_at dksX1_narrowEnd_2 0 rfl rfl)
theorem dX1_narrowEnd_49 : decode cX1_narrowEnd 49 = .ok (.invokevirtual 211, 3) := dk_182 0 211 (dk_at dksX1_narrowEnd_2 2 rfl rfl)
theorem dX1_narrowEnd_52 : decode cX1_narrowEnd 52 = .ok (.invokestatic 290, 3) := dk_184 1 34 (dk_at dksX1_narrowEnd_2 5 rfl rfl)
theorem dX1_narrowEnd_55 : decode cX1_narrowEnd 55 = .ok (.goto 15, 3) := dk_167 0 15 (dk_at dksX1_narrowEnd_2 8 rfl rfl)
theorem dX1_narrowEnd_58 : decode cX1_narrowEnd 58 = .ok (.aload_n 3, 1) := dk_45 (dk_at dksX1_narrowEnd_2 11 rfl rfl)
theorem dX1_narrowEnd_59 : decode cX1_narrowEnd 59 = .ok (.invokevirtual 211, 3) := dk_182 0 211 (dk_at dksX1_narrowEnd_2 12 rfl rfl)
theorem dX1_narrowEnd_62 : decode cX1_narrowEnd 62 = .ok (.aload 7, 2) := dk_25 7 (dk_at dksX1_narrowEnd_2 15 rfl rfl)
theorem dX1_narrowEnd_64 : decode cX1_narrowEnd 64 = .ok (.invokevirtual 211, 3) := dk_182 0 211 (dk_at dksX1_narrowEnd_2 17 rfl rfl)
theorem dX1_narrowEnd_67 : decode cX1_narrowEnd 67 = .ok (.invokestatic 293, 3) := dk_184 1 37 (dk_at dksX1_narrowEnd_2 20 rfl rfl)
theorem dX1_narrowEnd_70 : decode cX1_narrowEnd 70 = .ok (.invokestatic 29, 3) := dk_184 0 29 (dk_at dksX1_narrowEnd_3 0 rfl rfl)
theorem dX1_narrowEnd_73 : decode cX1_narrowEnd 73 = .ok (.astore_n 3, 1) := dk_78 (dk_at dksX1_narrowEnd_3 3 rfl rfl)
theorem dX1_narrowEnd_74 : decode cX1_narrowEnd 74 = .ok (.iinc 6 1, 3) := dk_132 6 1 (dk_at dksX1_narrowEnd_3 4 rfl rfl)
theorem dX1_narrowEnd_77 : decode cX1_narrowEnd 77 = .ok (.goto (-52), 3) := dk_167 255 204 (dk_at dksX1_narrowEnd_3 7 rfl rfl)
theorem dX1_narrowEnd_80 : decode cX1_narrowEnd 80 = .ok (.aload_n 0, 1) := dk_42 (dk_at dksX1_narrowEnd_3 10 rfl rfl)
theorem dX1_narrowEnd_81 : decode cX1_narrowEnd 81 = .ok (.iload_n 2, 1) := dk_28 (dk_at dksX1_narrowEnd_3 11 rfl rfl)
theorem dX1_narrowEnd_82 : decode cX1_narrowEnd 82 = .ok (.aload_n 3, 1) := dk_45 (dk_at dksX1_narrowEnd_3 12 rfl rfl)
theorem dX1_narrowEnd_83 : decode cX1_narrowEnd 83 = .ok (.invokevirtual 277, 3) := dk_182 1 21 (dk_at dksX1_narrowEnd_3 13 rfl rfl)
theorem dX1_narrowEnd_86 : decode cX1_narrowEnd 86 = .ok (.ireturn, 1) := dk_172 (dk_at dksX1_narrowEnd_3 16 rfl rfl)
abbrev cX1_narrowText : ByteArray := prog_1_method_60_code
def yX1_narrowText : MethodName := ⟨RX1, "narrowText", "(I)Ljava/lang/String;"⟩
def dkwX1_narrowText_3 : List UInt8 := [182, 0, 186, 176]
abbrev dktX1_narrowText_3 : List UInt8 := dkwX1_narrowText_3 ++ []
def dkwX1_narrowText_2 : List UInt8 := [29, 16, 23, 124, 182, 0, 176, 16, 32, 182, 0, 180, 87, 25, 4, 29, 18, 253, 126, 182, 0, 176]
abbrev dktX1_narrowText_2 : List UInt8 := dkwX1_narrowText_2 ++ dktX1_narrowText_3
def dkwX1_narrowText_1 : List UInt8 := [58, 4, 25, 4, 28, 156, 0, 7, 4, 167, 0, 4, 3, 184, 0, 91, 182, 0, 176, 16, 32, 182, 0, 180]
abbrev dktX1_narrowText_1 : List UInt8 := dkwX1_narrowText_1 ++ dktX1_narrowText_2
def dkwX1_narrowText_0 : List UInt8 := [42, 27, 182, 1, 31, 182, 0, 211, 184, 0, 250, 61, 28, 18, 244, 126, 62, 187, 0, 173, 89, 183, 0, 175]
abbrev dktX1_narrowText_0 : List UInt8 := dkwX1_narrowText_0 ++ dktX1_narrowText_1
theorem dksX1_narrowText_0 : cX1_narrowText.data.toList.drop 0 = dktX1_narrowText_0 := by decide +kernel
theorem dksX1_narrowText_1 : cX1_narrowText.data.toList.drop 24 = dktX1_narrowText_1 := dk_seg dksX1_narrowText_0 24 rfl rfl
theorem dksX1_narrowText_2 : cX1_narrowText.data.toList.drop 48 = dktX1_narrowText_2 := dk_seg dksX1_narrowText_1 24 rfl rfl
theorem dksX1_narrowText_3 : cX1_narrowText.data.toList.drop 70 = dktX1_narrowText_3 := dk_seg dksX1_narrowText_2 22 rfl rfl
theorem dX1_narrowText_0 : decode cX1_narrowText 0 = .ok (.aload_n 0, 1) := dk_42 (dk_at dksX1_narrowText_0 0 rfl rfl)
theorem dX1_narrowText_1 : decode cX1_narrowText 1 = .ok (.iload_n 1, 1) := dk_27 (dk_at dksX1_narrowText_0 1 rfl rfl)
theorem dX1_narrowText_2 : decode cX1_narrowText 2 = .ok (.invokevirtual 287, 3) := dk_182 1 31 (dk_at dksX1_narrowText_0 2 rfl rfl)
theorem dX1_narrowText_5 : decode cX1_narrowText 5 = .ok (.invokevirtual 211, 3) := dk_182 0 211 (dk_at dksX1_narrowText_0 5 rfl rfl)
theorem dX1_narrowText_8 : decode cX1_narrowText 8 = .ok (.invokestatic 250, 3) := dk_184 0 250 (dk_at dksX1_narrowText_0 8 rfl rfl)
theorem dX1_narrowText_11 : decode cX1_narrowText 11 = .ok (.istore_n 2, 1) := dk_61 (dk_at dksX1_narrowText_0 11 rfl rfl)
theorem dX1_narrowText_12 : decode cX1_narrowText 12 = .ok (.iload_n 2, 1) := dk_28 (dk_at dksX1_narrowText_0 12 rfl rfl)
theorem dX1_narrowText_13 : decode cX1_narrowText 13 = .ok (.ldc 244, 2) := dk_18 244 (dk_at dksX1_narrowText_0 13 rfl rfl)
theorem dX1_narrowText_15 : decode cX1_narrowText 15 = .ok (.iand, 1) := dk_126 (dk_at dksX1_narrowText_0 15 rfl rfl)
theorem dX1_narrowText_16 : decode cX1_narrowText 16 = .ok (.istore_n 3, 1) := dk_62 (dk_at dksX1_narrowText_0 16 rfl rfl)
theorem dX1_narrowText_17 : decode cX1_narrowText 17 = .ok (.new 173, 3) := dk_187 0 173 (dk_at dksX1_narrowText_0 17 rfl rfl)
theorem dX1_narrowText_20 : decode cX1_narrowText 20 = .ok (.dup, 1) := dk_89 (dk_at dksX1_narrowText_0 20 rfl rfl)
theorem dX1_narrowText_21 : decode cX1_narrowText 21 = .ok (.invokespecial 175, 3) := dk_183 0 175 (dk_at dksX1_narrowText_0 21 rfl rfl)
theorem dX1_narrowText_24 : decode cX1_narrowText 24 = .ok (.astore 4, 2) := dk_58 4 (dk_at dksX1_narrowText_1 0 rfl rfl)
theorem dX1_narrowText_26 : decode cX1_narrowText 26 = .ok (.aload 4, 2) := dk_25 4 (dk_at dksX1_narrowText_1 2 rfl rfl)
theorem dX1_narrowText_28 : decode cX1_narrowText 28 = .ok (.iload_n 2, 1) := dk_28 (dk_at dksX1_narrowText_1 4 rfl rfl)
theorem dX1_narrowText_29 : decode cX1_narrowText 29 = .ok (.ifCond .ge 7, 3) := dk_156 0 7 (dk_at dksX1_narrowText_1 5 rfl rfl)
theorem dX1_narrowText_32 : decode cX1_narrowText 32 = .ok (.iconst 1, 1) := dk_4 (dk_at dksX1_narrowText_1 8 rfl rfl)
theorem dX1_narrowText_33 : decode cX1_narrowText 33 = .ok (.goto 4, 3) := dk_167 0 4 (dk_at dksX1_narrowText_1 9 rfl rfl)
theorem dX1_narrowText_36 : decode cX1_narrowText 36 = .ok (.iconst 0, 1) := dk_3 (dk_at dksX1_narrowText_1 12 rfl rfl)
theorem dX1_narrowText_37 : decode cX1_narrowText 37 = .ok (.invokestatic 91, 3) := dk_184 0 91 (dk_at dksX1_narrowText_1 13 rfl rfl)
theorem dX1_narrowText_40 : decode cX1_narrowText 40 = .ok (.invokevirtual 176, 3) := dk_182 0 176 (dk_at dksX1_narrowText_1 16 rfl rfl)
theorem dX1_narrowText_43 : decode cX1_narrowText 43 = .ok (.bipush 32, 2) := dk_16 32 (dk_at dksX1_narrowText_1 19 rfl rfl)
theorem dX1_narrowText_45 : decode cX1_narrowText 45 = .ok (.invokevirtual 180, 3) := dk_182 0 180 (dk_at dksX1_narrowText_1 21 rfl rfl)
theorem dX1_narrowText_48 : decode cX1_narrowText 48 = .ok (.iload_n 3, 1) := dk_29 (dk_at dksX1_narrowText_2 0 rfl rfl)
theorem dX1_narrowText_49 : decode cX1_narrowText 49 = .ok (.bipush 23, 2) := dk_16 23 (dk_at dksX1_narrowText_2 1 rfl rfl)
theorem dX1_narrowText_51 : decode cX1_narrowText 51 = .ok (.iushr, 1) := dk_124 (dk_at dksX1_narrowText_2 3 rfl rfl)
theorem dX1_narrowText_52 : decode cX1_narrowText 52 = .ok (.invokevirtual 176, 3) := dk_182 0 176 (dk_at dksX1_narrowText_2 4 rfl rfl)
theorem dX1_narrowText_55 : decode cX1_narrowText 55 = .ok (.bipush 32, 2) := dk_16 32 (dk_at dksX1_narrowText_2 7 rfl rfl)
theorem dX1_narrowText_57 : decode cX1_narrowText 57 = .ok (.invokevirtual 180, 3) := dk_182 0 180 (dk_at dksX1_narrowText_2 9 rfl rfl)
theorem dX1_narrowText_60 : decode cX1_narrowText 60 = .ok (.pop, 1) := dk_87 (dk_at dksX1_narrowText_2 12 rfl rfl)
theorem dX1_narrowText_61 : decode cX1_narrowText 61 = .ok (.aload 4, 2) := dk_25 4 (dk_at dksX1_narrowText_2 13 rfl rfl)
theorem dX1_narrowText_63 : decode cX1_narrowText 63 = .ok (.iload_n 3, 1) := dk_29 (dk_at dksX1_narrowText_2 15 rfl rfl)
theorem dX1_narrowText_64 : decode cX1_narrowText 64 = .ok (.ldc 253, 2) := dk_18 253 (dk_at dksX1_narrowText_2 16 rfl rfl)
theorem dX1_narrowText_66 : decode cX1_narrowText 66 = .ok (.iand, 1) := dk_126 (dk_at dksX1_narrowText_2 18 rfl rfl)
theorem dX1_narrowText_67 : decode cX1_narrowText 67 = .ok (.invokevirtual 176, 3) := dk_182 0 176 (dk_at dksX1_narrowText_2 19 rfl rfl)
theorem dX1_narrowText_70 : decode cX1_narrowText 70 = .ok (.invokevirtual 186, 3) := dk_182 0 186 (dk_at dksX1_narrowText_3 0 rfl rfl)
theorem dX1_narrowText_73 : decode cX1_narrowText 73 = .ok (.areturn, 1) := dk_176 (dk_at dksX1_narrowText_3 3 rfl rfl)
abbrev cX1_narrowSame : ByteArray := prog_1_method_62_code
def yX1_narrowSame : MethodName := ⟨RX1, "narrowSame", "(III)Z"⟩
def dkwX1_narrowSame_2 : List UInt8 := [25, 6, 25, 5, 182, 0, 203, 167, 0, 10, 25, 4, 25, 5, 184, 0, 204, 172]
abbrev dktX1_narrowSame_2 : List UInt8 := dkwX1_narrowSame_2 ++ []
def dkwX1_narrowSame_1 : List UInt8 := [25, 4, 58, 6, 29, 154, 0, 13, 25, 4, 25, 5, 182, 1, 8, 167, 0, 25, 29, 4, 160, 0, 13]
abbrev dktX1_narrowSame_1 : List UInt8 := dkwX1_narrowSame_1 ++ dktX1_narrowSame_2
def dkwX1_narrowSame_0 : List UInt8 := [42, 27, 182, 1, 31, 58, 4, 42, 28, 182, 1, 31, 58, 5, 29, 3, 5, 184, 0, 32, 184, 0, 132]
abbrev dktX1_narrowSame_0 : List UInt8 := dkwX1_narrowSame_0 ++ dktX1_narrowSame_1
theorem dksX1_narrowSame_0 : cX1_narrowSame.data.toList.drop 0 = dktX1_narrowSame_0 := by decide +kernel
theorem dksX1_narrowSame_1 : cX1_narrowSame.data.toList.drop 23 = dktX1_narrowSame_1 := dk_seg dksX1_narrowSame_0 23 rfl rfl
theorem dksX1_narrowSame_2 : cX1_narrowSame.data.toList.drop 46 = dktX1_narrowSame_2 := dk_seg dksX1_narrowSame_1 23 rfl rfl
theorem dX1_narrowSame_0 : decode cX1_narrowSame 0 = .ok (.aload_n 0, 1) := dk_42 (dk_at dksX1_narrowSame_0 0 rfl rfl)
theorem dX1_narrowSame_1 : decode cX1_narrowSame 1 = .ok (.iload_n 1, 1) := dk_27 (dk_at dksX1_narrowSame_0 1 rfl rfl)
theorem dX1_narrowSame_2 : decode cX1_narrowSame 2 = .ok (.invokevirtual 287, 3) := dk_182 1 31 (dk_at dksX1_narrowSame_0 2 rfl rfl)
theorem dX1_narrowSame_5 : decode cX1_narrowSame 5 = .ok (.astore 4, 2) := dk_58 4 (dk_at dksX1_narrowSame_0 5 rfl rfl)
theorem dX1_narrowSame_7 : decode cX1_narrowSame 7 = .ok (.aload_n 0, 1) := dk_42 (dk_at dksX1_narrowSame_0 7 rfl rfl)
theorem dX1_narrowSame_8 : decode cX1_narrowSame 8 = .ok (.iload_n 2, 1) := dk_28 (dk_at dksX1_narrowSame_0 8 rfl rfl)
theorem dX1_narrowSame_9 : decode cX1_narrowSame 9 = .ok (.invokevirtual 287, 3) := dk_182 1 31 (dk_at dksX1_narrowSame_0 9 rfl rfl)
theorem dX1_narrowSame_12 : decode cX1_narrowSame 12 = .ok (.astore 5, 2) := dk_58 5 (dk_at dksX1_narrowSame_0 12 rfl rfl)
theorem dX1_narrowSame_14 : decode cX1_narrowSame 14 = .ok (.iload_n 3, 1) := dk_29 (dk_at dksX1_narrowSame_0 14 rfl rfl)
theorem dX1_narrowSame_15 : decode cX1_narrowSame 15 = .ok (.iconst 0, 1) := dk_3 (dk_at dksX1_narrowSame_0 15 rfl rfl)
theorem dX1_narrowSame_16 : decode cX1_narrowSame 16 = .ok (.iconst 2, 1) := dk_5 (dk_at dksX1_narrowSame_0 16 rfl rfl)
theorem dX1_narrowSame_17 : decode cX1_narrowSame 17 = .ok (.invokestatic 32, 3) := dk_184 0 32 (dk_at dksX1_narrowSame_0 17 rfl rfl)
theorem dX1_narrowSame_20 : decode cX1_narrowSame 20 = .ok (.invokestatic 132, 3) := dk_184 0 132 (dk_at dksX1_narrowSame_0 20 rfl rfl)
theorem dX1_narrowSame_23 : decode cX1_narrowSame 23 = .ok (.aload 4, 2) := dk_25 4 (dk_at dksX1_narrowSame_1 0 rfl rfl)
theorem dX1_narrowSame_25 : decode cX1_narrowSame 25 = .ok (.astore 6, 2) := dk_58 6 (dk_at dksX1_narrowSame_1 2 rfl rfl)
theorem dX1_narrowSame_27 : decode cX1_narrowSame 27 = .ok (.iload_n 3, 1) := dk_29 (dk_at dksX1_narrowSame_1 4 rfl rfl)
theorem dX1_narrowSame_28 : decode cX1_narrowSame 28 = .ok (.ifCond .ne 13, 3) := dk_154 0 13 (dk_at dksX1_narrowSame_1 5 rfl rfl)
theorem dX1_narrowSame_31 : decode cX1_narrowSame 31 = .ok (.aload 4, 2) := dk_25 4 (dk_at dksX1_narrowSame_1 8 rfl rfl)
theorem dX1_narrowSame_33 : decode cX1_narrowSame 33 = .ok (.aload 5, 2) := dk_25 5 (dk_at dksX1_narrowSame_1 10 rfl rfl)
theorem dX1_narrowSame_35 : decode cX1_narrowSame 35 = .ok (.invokevirtual 264, 3) := dk_182 1 8 (dk_at dksX1_narrowSame_1 12 rfl rfl)
theorem dX1_narrowSame_38 : decode cX1_narrowSame 38 = .ok (.goto 25, 3) := dk_167 0 25 (dk_at dksX1_narrowSame_1 15 rfl rfl)
theorem dX1_narrowSame_41 : decode cX1_narrowSame 41 = .ok (.iload_n 3, 1) := dk_29 (dk_at dksX1_narrowSame_1 18 rfl rfl)
theorem dX1_narrowSame_42 : decode cX1_narrowSame 42 = .ok (.iconst 1, 1) := dk_4 (dk_at dksX1_narrowSame_1 19 rfl rfl)
theorem dX1_narrowSame_43 : decode cX1_narrowSame 43 = .ok (.if_icmp .ne 13, 3) := dk_160 0 13 (dk_at dksX1_narrowSame_1 20 rfl rfl)
theorem dX1_narrowSame_46 : decode cX1_narrowSame 46 = .ok (.aload 6, 2) := dk_25 6 (dk_at dksX1_narrowSame_2 0 rfl rfl)
theorem dX1_narrowSame_48 : decode cX1_narrowSame 48 = .ok (.aload 5, 2) := dk_25 5 (dk_at dksX1_narrowSame_2 2 rfl rfl)
theorem dX1_narrowSame_50 : decode cX1_narrowSame 50 = .ok (.invokevirtual 203, 3) := dk_182 0 203 (dk_at dksX1_narrowSame_2 4 rfl rfl)
theorem dX1_narrowSame_53 : decode cX1_narrowSame 53 = .ok (.goto 10, 3) := dk_167 0 10 (dk_at dksX1_narrowSame_2 7 rfl rfl)
theorem dX1_narrowSame_56 : decode cX1_narrowSame 56 = .ok (.aload 4, 2) := dk_25 4 (dk_at dksX1_narrowSame_2 10 rfl rfl)
theorem dX1_narrowSame_58 : decode cX1_narrowSame 58 = .ok (.aload 5, 2) := dk_25 5 (dk_at dksX1_narrowSame_2 12 rfl rfl)
theorem dX1_narrowSame_60 : decode cX1_narrowSame 60 = .ok (.invokestatic 204, 3) := dk_184 0 204 (dk_at dksX1_narrowSame_2 14 rfl rfl)
theorem dX1_narrowSame_63 : decode cX1_narrowSame 63 = .ok (.ireturn, 1) := dk_172 (dk_at dksX1_narrowSame_2 17 rfl rfl)
abbrev cX1_narrowOther : ByteArray := prog_1_method_63_code
def yX1_narrowOther : MethodName := ⟨RX1, "narrowOther", "(II)Z"⟩
def dkwX1_narrowOther_2 : List UInt8 := [167, 0, 11, 3, 184, 0, 215, 182, 0, 218, 135, 184, 0, 25, 58, 4, 45, 25, 4, 182, 1, 8, 172]
abbrev dktX1_narrowOther_2 : List UInt8 := dkwX1_narrowOther_2 ++ []
def dkwX1_narrowOther_1 : List UInt8 := [4, 160, 0, 8, 18, 209, 167, 0, 31, 28, 5, 160, 0, 15, 42, 180, 0, 15, 27, 50, 182, 0, 95]
abbrev dktX1_narrowOther_1 : List UInt8 := dkwX1_narrowOther_1 ++ dktX1_narrowOther_2
def dkwX1_narrowOther_0 : List UInt8 := [42, 27, 182, 1, 31, 78, 28, 3, 6, 184, 0, 32, 184, 0, 132, 28, 154, 0, 7, 1, 167, 0, 41, 28]
abbrev dktX1_narrowOther_0 : List UInt8 := dkwX1_narrowOther_0 ++ dktX1_narrowOther_1
theorem dksX1_narrowOther_0 : cX1_narrowOther.data.toList.drop 0 = dktX1_narrowOther_0 := by decide +kernel
theorem dksX1_narrowOther_1 : cX1_narrowOther.data.toList.drop 24 = dktX1_narrowOther_1 := dk_seg dksX1_narrowOther_0 24 rfl rfl
theorem dksX1_narrowOther_2 : cX1_narrowOther.data.toList.drop 47 = dktX1_narrowOther_2 := dk_seg dksX1_narrowOther_1 23 rfl rfl
theorem dX1_narrowOther_0 : decode cX1_narrowOther 0 = .ok (.aload_n 0, 1) := dk_42 (dk_at dksX1_narrowOther_0 0 rfl rfl)
theorem dX1_narrowOther_1 : decode cX1_narrowOther 1 = .ok (.iload_n 1, 1) := dk_27 (dk_at dksX1_narrowOther_0 1 rfl rfl)
theorem dX1_narrowOther_2 : decode cX1_narrowOther 2 = .ok (.invokevirtual 287, 3) := dk_182 1 31 (dk_at dksX1_narrowOther_0 2 rfl rfl)
theorem dX1_narrowOther_5 : decode cX1_narrowOther 5 = .ok (.astore_n 3, 1) := dk_78 (dk_at dksX1_narrowOther_0 5 rfl rfl)
theorem dX1_narrowOther_6 : decode cX1_narrowOther 6 = .ok (.iload_n 2, 1) := dk_28 (dk_at dksX1_narrowOther_0 6 rfl rfl)
theorem dX1_narrowOther_7 : decode cX1_narrowOther 7 = .ok (.iconst 0, 1) := dk_3 (dk_at dksX1_narrowOther_0 7 rfl rfl)
theorem dX1_narrowOther_8 : decode cX1_narrowOther 8 = .ok (.iconst 3, 1) := dk_6 (dk_at dksX1_narrowOther_0 8 rfl rfl)
theorem dX1_narrowOther_9 : decode cX1_narrowOther 9 = .ok (.invokestatic 32, 3) := dk_184 0 32 (dk_at dksX1_narrowOther_0 9 rfl rfl)
theorem dX1_narrowOther_12 : decode cX1_narrowOther 12 = .ok (.invokestatic 132, 3) := dk_184 0 132 (dk_at dksX1_narrowOther_0 12 rfl rfl)
theorem dX1_narrowOther_15 : decode cX1_narrowOther 15 = .ok (.iload_n 2, 1) := dk_28 (dk_at dksX1_narrowOther_0 15 rfl rfl)
theorem dX1_narrowOther_16 : decode cX1_narrowOther 16 = .ok (.ifCond .ne 7, 3) := dk_154 0 7 (dk_at dksX1_narrowOther_0 16 rfl rfl)
theorem dX1_narrowOther_19 : decode cX1_narrowOther 19 = .ok (.aconst_null, 1) := dk_1 (dk_at dksX1_narrowOther_0 19 rfl rfl)
theorem dX1_narrowOther_20 : decode cX1_narrowOther 20 = .ok (.goto 41, 3) := dk_167 0 41 (dk_at dksX1_narrowOther_0 20 rfl rfl)
theorem dX1_narrowOther_23 : decode cX1_narrowOther 23 = .ok (.iload_n 2, 1) := dk_28 (dk_at dksX1_narrowOther_0 23 rfl rfl)
theorem dX1_narrowOther_24 : decode cX1_narrowOther 24 = .ok (.iconst 1, 1) := dk_4 (dk_at dksX1_narrowOther_1 0 rfl rfl)
theorem dX1_narrowOther_25 : decode cX1_narrowOther 25 = .ok (.if_icmp .ne 8, 3) := dk_160 0 8 (dk_at dksX1_narrowOther_1 1 rfl rfl)
theorem dX1_narrowOther_28 : decode cX1_narrowOther 28 = .ok (.ldc 209, 2) := dk_18 209 (dk_at dksX1_narrowOther_1 4 rfl rfl)
theorem dX1_narrowOther_30 : decode cX1_narrowOther 30 = .ok (.goto 31, 3) := dk_167 0 31 (dk_at dksX1_narrowOther_1 6 rfl rfl)
theorem dX1_narrowOther_33 : decode cX1_narrowOther 33 = .ok (.iload_n 2, 1) := dk_28 (dk_at dksX1_narrowOther_1 9 rfl rfl)
theorem dX1_narrowOther_34 : decode cX1_narrowOther 34 = .ok (.iconst 2, 1) := dk_5 (dk_at dksX1_narrowOther_1 10 rfl rfl)
theorem dX1_narrowOther_35 : decode cX1_narrowOther 35 = .ok (.if_icmp .ne 15, 3) := dk_160 0 15 (dk_at dksX1_narrowOther_1 11 rfl rfl)
theorem dX1_narrowOther_38 : decode cX1_narrowOther 38 = .ok (.aload_n 0, 1) := dk_42 (dk_at dksX1_narrowOther_1 14 rfl rfl)
theorem dX1_narrowOther_39 : decode cX1_narrowOther 39 = .ok (.getfield 15, 3) := dk_180 0 15 (dk_at dksX1_narrowOther_1 15 rfl rfl)
theorem dX1_narrowOther_42 : decode cX1_narrowOther 42 = .ok (.iload_n 1, 1) := dk_27 (dk_at dksX1_narrowOther_1 18 rfl rfl)
theorem dX1_narrowOther_43 : decode cX1_narrowOther 43 = .ok (.aaload, 1) := dk_50 (dk_at dksX1_narrowOther_1 19 rfl rfl)
theorem dX1_narrowOther_44 : decode cX1_narrowOther 44 = .ok (.invokevirtual 95, 3) := dk_182 0 95 (dk_at dksX1_narrowOther_1 20 rfl rfl)
theorem dX1_narrowOther_47 : decode cX1_narrowOther 47 = .ok (.goto 11, 3) := dk_167 0 11 (dk_at dksX1_narrowOther_2 0 rfl rfl)
theorem dX1_narrowOther_50 : decode cX1_narrowOther 50 = .ok (.iconst 0, 1) := dk_3 (dk_at dksX1_narrowOther_2 3 rfl rfl)
theorem dX1_narrowOther_51 : decode cX1_narrowOther 51 = .ok (.invokestatic 215, 3) := dk_184 0 215 (dk_at dksX1_narrowOther_2 4 rfl rfl)
theorem dX1_narrowOther_54 : decode cX1_narrowOther 54 = .ok (.invokevirtual 218, 3) := dk_182 0 218 (dk_at dksX1_narrowOther_2 7 rfl rfl)
theorem dX1_narrowOther_57 : decode cX1_narrowOther 57 = .ok (.i2d, 1) := dk_135 (dk_at dksX1_narrowOther_2 10 rfl rfl)
theorem dX1_narrowOther_58 : decode cX1_narrowOther 58 = .ok (.invokestatic 25, 3) := dk_184 0 25 (dk_at dksX1_narrowOther_2 11 rfl rfl)
theorem dX1_narrowOther_61 : decode cX1_narrowOther 61 = .ok (.astore 4, 2) := dk_58 4 (dk_at dksX1_narrowOther_2 14 rfl rfl)
theorem dX1_narrowOther_63 : decode cX1_narrowOther 63 = .ok (.aload_n 3, 1) := dk_45 (dk_at dksX1_narrowOther_2 16 rfl rfl)
theorem dX1_narrowOther_64 : decode cX1_narrowOther 64 = .ok (.aload 4, 2) := dk_25 4 (dk_at dksX1_narrowOther_2 17 rfl rfl)
theorem dX1_narrowOther_66 : decode cX1_narrowOther 66 = .ok (.invokevirtual 264, 3) := dk_182 1 8 (dk_at dksX1_narrowOther_2 19 rfl rfl)
theorem dX1_narrowOther_69 : decode cX1_narrowOther 69 = .ok (.ireturn, 1) := dk_172 (dk_at dksX1_narrowOther_2 22 rfl rfl)
abbrev cX1_narrowEndless : ByteArray := prog_1_method_67_code
def yX1_narrowEndless : MethodName := ⟨RX1, "narrowEndless", "(II)Z"⟩
def dkwX1_narrowEndless_2 : List UInt8 := [184, 1, 63, 154, 0, 7, 4, 167, 0, 4, 3, 172]
abbrev dktX1_narrowEndless_2 : List UInt8 := dkwX1_narrowEndless_2 ++ []
def dkwX1_narrowEndless_1 : List UInt8 := [167, 0, 33, 28, 4, 160, 0, 13, 45, 182, 0, 211, 184, 1, 60, 167, 0, 18, 45, 182, 0, 211]
abbrev dktX1_narrowEndless_1 : List UInt8 := dkwX1_narrowEndless_1 ++ dktX1_narrowEndless_2
def dkwX1_narrowEndless_0 : List UInt8 := [42, 27, 182, 1, 31, 78, 28, 3, 5, 184, 0, 32, 184, 0, 132, 28, 154, 0, 10, 45, 182, 1, 11]
abbrev dktX1_narrowEndless_0 : List UInt8 := dkwX1_narrowEndless_0 ++ dktX1_narrowEndless_1
theorem dksX1_narrowEndless_0 : cX1_narrowEndless.data.toList.drop 0 = dktX1_narrowEndless_0 := by decide +kernel
theorem dksX1_narrowEndless_1 : cX1_narrowEndless.data.toList.drop 23 = dktX1_narrowEndless_1 := dk_seg dksX1_narrowEndless_0 23 rfl rfl
theorem dksX1_narrowEndless_2 : cX1_narrowEndless.data.toList.drop 45 = dktX1_narrowEndless_2 := dk_seg dksX1_narrowEndless_1 22 rfl rfl
theorem dX1_narrowEndless_0 : decode cX1_narrowEndless 0 = .ok (.aload_n 0, 1) := dk_42 (dk_at dksX1_narrowEndless_0 0 rfl rfl)
theorem dX1_narrowEndless_1 : decode cX1_narrowEndless 1 = .ok (.iload_n 1, 1) := dk_27 (dk_at dksX1_narrowEndless_0 1 rfl rfl)
theorem dX1_narrowEndless_2 : decode cX1_narrowEndless 2 = .ok (.invokevirtual 287, 3) := dk_182 1 31 (dk_at dksX1_narrowEndless_0 2 rfl rfl)
theorem dX1_narrowEndless_5 : decode cX1_narrowEndless 5 = .ok (.astore_n 3, 1) := dk_78 (dk_at dksX1_narrowEndless_0 5 rfl rfl)
theorem dX1_narrowEndless_6 : decode cX1_narrowEndless 6 = .ok (.iload_n 2, 1) := dk_28 (dk_at dksX1_narrowEndless_0 6 rfl rfl)
theorem dX1_narrowEndless_7 : decode cX1_narrowEndless 7 = .ok (.iconst 0, 1) := dk_3 (dk_at dksX1_narrowEndless_0 7 rfl rfl)
theorem dX1_narrowEndless_8 : decode cX1_narrowEndless 8 = .ok (.iconst 2, 1) := dk_5 (dk_at dksX1_narrowEndless_0 8 rfl rfl)
theorem dX1_narrowEndless_9 : decode cX1_narrowEndless 9 = .ok (.invokestatic 32, 3) := dk_184 0 32 (dk_at dksX1_narrowEndless_0 9 rfl rfl)
theorem dX1_narrowEndless_12 : decode cX1_narrowEndless 12 = .ok (.invokestatic 132, 3) := dk_184 0 132 (dk_at dksX1_narrowEndless_0 12 rfl rfl)
theorem dX1_narrowEndless_15 : decode cX1_narrowEndless 15 = .ok (.iload_n 2, 1) := dk_28 (dk_at dksX1_narrowEndless_0 15 rfl rfl)
theorem dX1_narrowEndless_16 : decode cX1_narrowEndless 16 = .ok (.ifCond .ne 10, 3) := dk_154 0 10 (dk_at dksX1_narrowEndless_0 16 rfl rfl)
theorem dX1_narrowEndless_19 : decode cX1_narrowEndless 19 = .ok (.aload_n 3, 1) := dk_45 (dk_at dksX1_narrowEndless_0 19 rfl rfl)
theorem dX1_narrowEndless_20 : decode cX1_narrowEndless 20 = .ok (.invokevirtual 267, 3) := dk_182 1 11 (dk_at dksX1_narrowEndless_0 20 rfl rfl)
theorem dX1_narrowEndless_23 : decode cX1_narrowEndless 23 = .ok (.goto 33, 3) := dk_167 0 33 (dk_at dksX1_narrowEndless_1 0 rfl rfl)
theorem dX1_narrowEndless_26 : decode cX1_narrowEndless 26 = .ok (.iload_n 2, 1) := dk_28 (dk_at dksX1_narrowEndless_1 3 rfl rfl)
theorem dX1_narrowEndless_27 : decode cX1_narrowEndless 27 = .ok (.iconst 1, 1) := dk_4 (dk_at dksX1_narrowEndless_1 4 rfl rfl)
theorem dX1_narrowEndless_28 : decode cX1_narrowEndless 28 = .ok (.if_icmp .ne 13, 3) := dk_160 0 13 (dk_at dksX1_narrowEndless_1 5 rfl rfl)
theorem dX1_narrowEndless_31 : decode cX1_narrowEndless 31 = .ok (.aload_n 3, 1) := dk_45 (dk_at dksX1_narrowEndless_1 8 rfl rfl)
theorem dX1_narrowEndless_32 : decode cX1_narrowEndless 32 = .ok (.invokevirtual 211, 3) := dk_182 0 211 (dk_at dksX1_narrowEndless_1 9 rfl rfl)
theorem dX1_narrowEndless_35 : decode cX1_narrowEndless 35 = .ok (.invokestatic 316, 3) := dk_184 1 60 (dk_at dksX1_narrowEndless_1 12 rfl rfl)
theorem dX1_narrowEndless_38 : decode cX1_narrowEndless 38 = .ok (.goto 18, 3) := dk_167 0 18 (dk_at dksX1_narrowEndless_1 15 rfl rfl)
theorem dX1_narrowEndless_41 : decode cX1_narrowEndless 41 = .ok (.aload_n 3, 1) := dk_45 (dk_at dksX1_narrowEndless_1 18 rfl rfl)
theorem dX1_narrowEndless_42 : decode cX1_narrowEndless 42 = .ok (.invokevirtual 211, 3) := dk_182 0 211 (dk_at dksX1_narrowEndless_1 19 rfl rfl)
theorem dX1_narrowEndless_45 : decode cX1_narrowEndless 45 = .ok (.invokestatic 319, 3) := dk_184 1 63 (dk_at dksX1_narrowEndless_2 0 rfl rfl)
theorem dX1_narrowEndless_48 : decode cX1_narrowEndless 48 = .ok (.ifCond .ne 7, 3) := dk_154 0 7 (dk_at dksX1_narrowEndless_2 3 rfl rfl)
theorem dX1_narrowEndless_51 : decode cX1_narrowEndless 51 = .ok (.iconst 1, 1) := dk_4 (dk_at dksX1_narrowEndless_2 6 rfl rfl)
theorem dX1_narrowEndless_52 : decode cX1_narrowEndless 52 = .ok (.goto 4, 3) := dk_167 0 4 (dk_at dksX1_narrowEndless_2 7 rfl rfl)
theorem dX1_narrowEndless_55 : decode cX1_narrowEndless 55 = .ok (.iconst 0, 1) := dk_3 (dk_at dksX1_narrowEndless_2 10 rfl rfl)
theorem dX1_narrowEndless_56 : decode cX1_narrowEndless 56 = .ok (.ireturn, 1) := dk_172 (dk_at dksX1_narrowEndless_2 11 rfl rfl)
abbrev cX1_narrowHas : ByteArray := prog_1_method_70_code
def yX1_narrowHas : MethodName := ⟨RX1, "narrowHas", "(I)Z"⟩
def dkwX1_narrowHas_2 : List UInt8 := [25, 7, 44, 182, 1, 8, 128, 62, 132, 6, 1, 167, 255, 230, 29, 172]
abbrev dktX1_narrowHas_2 : List UInt8 := dkwX1_narrowHas_2 ++ []
def dkwX1_narrowHas_1 : List UInt8 := [25, 4, 190, 54, 5, 3, 54, 6, 21, 6, 21, 5, 162, 0, 25, 25, 4, 21, 6, 50, 58, 7, 29]
abbrev dktX1_narrowHas_1 : List UInt8 := dkwX1_narrowHas_1 ++ dktX1_narrowHas_2
def dkwX1_narrowHas_0 : List UInt8 := [27, 3, 16, 6, 184, 0, 32, 184, 0, 132, 27, 184, 1, 27, 77, 3, 62, 42, 180, 0, 21, 58, 4]
abbrev dktX1_narrowHas_0 : List UInt8 := dkwX1_narrowHas_0 ++ dktX1_narrowHas_1
theorem dksX1_narrowHas_0 : cX1_narrowHas.data.toList.drop 0 = dktX1_narrowHas_0 := by decide +kernel
theorem dksX1_narrowHas_1 : cX1_narrowHas.data.toList.drop 23 = dktX1_narrowHas_1 := dk_seg dksX1_narrowHas_0 23 rfl rfl
theorem dksX1_narrowHas_2 : cX1_narrowHas.data.toList.drop 46 = dktX1_narrowHas_2 := dk_seg dksX1_narrowHas_1 23 rfl rfl
theorem dX1_narrowHas_0 : decode cX1_narrowHas 0 = .ok (.iload_n 1, 1) := dk_27 (dk_at dksX1_narrowHas_0 0 rfl rfl)
theorem dX1_narrowHas_1 : decode cX1_narrowHas 1 = .ok (.iconst 0, 1) := dk_3 (dk_at dksX1_narrowHas_0 1 rfl rfl)
theorem dX1_narrowHas_2 : decode cX1_narrowHas 2 = .ok (.bipush 6, 2) := dk_16 6 (dk_at dksX1_narrowHas_0 2 rfl rfl)
theorem dX1_narrowHas_4 : decode cX1_narrowHas 4 = .ok (.invokestatic 32, 3) := dk_184 0 32 (dk_at dksX1_narrowHas_0 4 rfl rfl)
theorem dX1_narrowHas_7 : decode cX1_narrowHas 7 = .ok (.invokestatic 132, 3) := dk_184 0 132 (dk_at dksX1_narrowHas_0 7 rfl rfl)
theorem dX1_narrowHas_10 : decode cX1_narrowHas 10 = .ok (.iload_n 1, 1) := dk_27 (dk_at dksX1_narrowHas_0 10 rfl rfl)
theorem dX1_narrowHas_11 : decode cX1_narrowHas 11 = .ok (.invokestatic 283, 3) := dk_184 1 27 (dk_at dksX1_narrowHas_0 11 rfl rfl)
theorem dX1_narrowHas_14 : decode cX1_narrowHas 14 = .ok (.astore_n 2, 1) := dk_77 (dk_at dksX1_narrowHas_0 14 rfl rfl)
theorem dX1_narrowHas_15 : decode cX1_narrowHas 15 = .ok (.iconst 0, 1) := dk_3 (dk_at dksX1_narrowHas_0 15 rfl rfl)
theorem dX1_narrowHas_16 : decode cX1_narrowHas 16 = .ok (.istore_n 3, 1) := dk_62 (dk_at dksX1_narrowHas_0 16 rfl rfl)
theorem dX1_narrowHas_17 : decode cX1_narrowHas 17 = .ok (.aload_n 0, 1) := dk_42 (dk_at dksX1_narrowHas_0 17 rfl rfl)
theorem dX1_narrowHas_18 : decode cX1_narrowHas 18 = .ok (.getfield 21, 3) := dk_180 0 21 (dk_at dksX1_narrowHas_0 18 rfl rfl)
theorem dX1_narrowHas_21 : decode cX1_narrowHas 21 = .ok (.astore 4, 2) := dk_58 4 (dk_at dksX1_narrowHas_0 21 rfl rfl)
theorem dX1_narrowHas_23 : decode cX1_narrowHas 23 = .ok (.aload 4, 2) := dk_25 4 (dk_at dksX1_narrowHas_1 0 rfl rfl)
theorem dX1_narrowHas_25 : decode cX1_narrowHas 25 = .ok (.arraylength, 1) := dk_190 (dk_at dksX1_narrowHas_1 2 rfl rfl)
theorem dX1_narrowHas_26 : decode cX1_narrowHas 26 = .ok (.istore 5, 2) := dk_54 5 (dk_at dksX1_narrowHas_1 3 rfl rfl)
theorem dX1_narrowHas_28 : decode cX1_narrowHas 28 = .ok (.iconst 0, 1) := dk_3 (dk_at dksX1_narrowHas_1 5 rfl rfl)
theorem dX1_narrowHas_29 : decode cX1_narrowHas 29 = .ok (.istore 6, 2) := dk_54 6 (dk_at dksX1_narrowHas_1 6 rfl rfl)
theorem dX1_narrowHas_31 : decode cX1_narrowHas 31 = .ok (.iload 6, 2) := dk_21 6 (dk_at dksX1_narrowHas_1 8 rfl rfl)
theorem dX1_narrowHas_33 : decode cX1_narrowHas 33 = .ok (.iload 5, 2) := dk_21 5 (dk_at dksX1_narrowHas_1 10 rfl rfl)
theorem dX1_narrowHas_35 : decode cX1_narrowHas 35 = .ok (.if_icmp .ge 25, 3) := dk_162 0 25 (dk_at dksX1_narrowHas_1 12 rfl rfl)
theorem dX1_narrowHas_38 : decode cX1_narrowHas 38 = .ok (.aload 4, 2) := dk_25 4 (dk_at dksX1_narrowHas_1 15 rfl rfl)
theorem dX1_narrowHas_40 : decode cX1_narrowHas 40 = .ok (.iload 6, 2) := dk_21 6 (dk_at dksX1_narrowHas_1 17 rfl rfl)
theorem dX1_narrowHas_42 : decode cX1_narrowHas 42 = .ok (.aaload, 1) := dk_50 (dk_at dksX1_narrowHas_1 19 rfl rfl)
theorem dX1_narrowHas_43 : decode cX1_narrowHas 43 = .ok (.astore 7, 2) := dk_58 7 (dk_at dksX1_narrowHas_1 20 rfl rfl)
theorem dX1_narrowHas_45 : decode cX1_narrowHas 45 = .ok (.iload_n 3, 1) := dk_29 (dk_at dksX1_narrowHas_1 22 rfl rfl)
theorem dX1_narrowHas_46 : decode cX1_narrowHas 46 = .ok (.aload 7, 2) := dk_25 7 (dk_at dksX1_narrowHas_2 0 rfl rfl)
theorem dX1_narrowHas_48 : decode cX1_narrowHas 48 = .ok (.aload_n 2, 1) := dk_44 (dk_at dksX1_narrowHas_2 2 rfl rfl)
theorem dX1_narrowHas_49 : decode cX1_narrowHas 49 = .ok (.invokevirtual 264, 3) := dk_182 1 8 (dk_at dksX1_narrowHas_2 3 rfl rfl)
theorem dX1_narrowHas_52 : decode cX1_narrowHas 52 = .ok (.ior, 1) := dk_128 (dk_at dksX1_narrowHas_2 6 rfl rfl)
theorem dX1_narrowHas_53 : decode cX1_narrowHas 53 = .ok (.istore_n 3, 1) := dk_62 (dk_at dksX1_narrowHas_2 7 rfl rfl)
theorem dX1_narrowHas_54 : decode cX1_narrowHas 54 = .ok (.iinc 6 1, 3) := dk_132 6 1 (dk_at dksX1_narrowHas_2 8 rfl rfl)
theorem dX1_narrowHas_57 : decode cX1_narrowHas 57 = .ok (.goto (-26), 3) := dk_167 255 230 (dk_at dksX1_narrowHas_2 11 rfl rfl)
theorem dX1_narrowHas_60 : decode cX1_narrowHas 60 = .ok (.iload_n 3, 1) := dk_29 (dk_at dksX1_narrowHas_2 14 rfl rfl)
theorem dX1_narrowHas_61 : decode cX1_narrowHas 61 = .ok (.ireturn, 1) := dk_172 (dk_at dksX1_narrowHas_2 15 rfl rfl)
theorem q34 : (Jvm.Cond.initialized "Edgefloats") ∈ lw_all := lw_g (lw_at lw_m1 1 rfl) rfl
theorem q65 : (Jvm.Cond.instantiable "Edgefloats" (6 : Nat)) ∈ lw_all := lw_g (lw_at lw_m1 32 rfl) rfl
theorem q67 : (Jvm.Cond.instanceMethod ({ cls := "Edgefloats", name := "<init>", desc := "()V" } : Jvm.MethodName)) ∈ lw_all := lw_g (lw_at lw_m1 34 rfl) rfl
theorem q68 : (Jvm.Cond.code ({ cls := "Edgefloats", name := "<init>", desc := "()V" } : Jvm.MethodName) prog_1_method_1_code (2 : Nat) (Option.none : Option Jvm.ClassFile.FieldType)) ∈ lw_all := lw_g (lw_at lw_m1 35 rfl) rfl
theorem q69 : (Jvm.Cond.methodLink "Edgefloats" (5 : Nat) ({ cls := "java/lang/Object", name := "<init>", desc := "()V" } : Jvm.MethodName)) ∈ lw_all := lw_g (lw_at lw_m1 36 rfl) rfl
theorem q72 : (Jvm.Cond.classLink "Edgefloats" (13 : Nat) "java/lang/Double") ∈ lw_all := lw_g (lw_at lw_m1 39 rfl) rfl
theorem q74 : (Jvm.Cond.classLink "Edgefloats" (19 : Nat) "java/lang/Float") ∈ lw_all := lw_g (lw_at lw_m1 41 rfl) rfl
theorem q76 : (Jvm.Cond.methodLink "Edgefloats" (25 : Nat) ({ cls := "java/lang/Double", name := "valueOf", desc := "(D)Ljava/lang/Double;" } : Jvm.MethodName)) ∈ lw_all := lw_g (lw_at lw_m1 43 rfl) rfl
theorem q92 : (Jvm.Cond.methodLink "Edgefloats" (29 : Nat) ({ cls := "java/lang/Float", name := "valueOf", desc := "(F)Ljava/lang/Float;" } : Jvm.MethodName)) ∈ lw_all := lw_g (lw_at lw_m1 59 rfl) rfl
theorem q105 : (Jvm.Cond.fieldLink "Edgefloats" (15 : Nat) "Edgefloats" "wide" "[Ljava/lang/Double;") ∈ lw_all := lw_g (lw_at lw_m1 72 rfl) rfl
theorem q106 : (Jvm.Cond.fieldLink "Edgefloats" (21 : Nat) "Edgefloats" "narrow" "[Ljava/lang/Float;") ∈ lw_all := lw_g (lw_at lw_m1 73 rfl) rfl
theorem q107 : (Jvm.Cond.fieldLink "Edgefloats" (84 : Nat) "Edgefloats" "wideActs" "I") ∈ lw_all := lw_g (lw_at lw_m1 74 rfl) rfl
theorem q108 : (Jvm.Cond.fieldLink "Edgefloats" (261 : Nat) "Edgefloats" "narrowActs" "I") ∈ lw_all := lw_g (lw_at lw_m1 75 rfl) rfl
theorem q109 : (Jvm.Cond.fieldLink "Edgefloats" (42 : Nat) "Edgefloats" "refused" "I") ∈ lw_all := lw_g (lw_at lw_m1 76 rfl) rfl
theorem q110 : (Jvm.Cond.fieldLink "Edgefloats" (330 : Nat) "Edgefloats" "knocked" "I") ∈ lw_all := lw_g (lw_at lw_m1 77 rfl) rfl
theorem q111 : (Jvm.Cond.laysFinal "Edgefloats" "Edgefloats" "wide" "[Ljava/lang/Double;") ∈ lw_all := lw_g (lw_at lw_m1 78 rfl) rfl
theorem q112 : (Jvm.Cond.soleField "Edgefloats" "wide") ∈ lw_all := lw_g (lw_at lw_m1 79 rfl) rfl
theorem q113 : (Jvm.Cond.laysFinal "Edgefloats" "Edgefloats" "narrow" "[Ljava/lang/Float;") ∈ lw_all := lw_g (lw_at lw_m1 80 rfl) rfl
theorem q114 : (Jvm.Cond.soleField "Edgefloats" "narrow") ∈ lw_all := lw_g (lw_at lw_m1 81 rfl) rfl
theorem q115 : (Jvm.Cond.lays "Edgefloats" "Edgefloats" "wideActs" "I") ∈ lw_all := lw_g (lw_at lw_m1 82 rfl) rfl
theorem q116 : (Jvm.Cond.soleField "Edgefloats" "wideActs") ∈ lw_all := lw_g (lw_at lw_m1 83 rfl) rfl
theorem q117 : (Jvm.Cond.lays "Edgefloats" "Edgefloats" "narrowActs" "I") ∈ lw_all := lw_g (lw_at lw_m1 84 rfl) rfl
theorem q118 : (Jvm.Cond.soleField "Edgefloats" "narrowActs") ∈ lw_all := lw_g (lw_at lw_m1 85 rfl) rfl
theorem q119 : (Jvm.Cond.lays "Edgefloats" "Edgefloats" "refused" "I") ∈ lw_all := lw_g (lw_at lw_m1 86 rfl) rfl
theorem q120 : (Jvm.Cond.soleField "Edgefloats" "refused") ∈ lw_all := lw_g (lw_at lw_m1 87 rfl) rfl
theorem q121 : (Jvm.Cond.lays "Edgefloats" "Edgefloats" "knocked" "I") ∈ lw_all := lw_g (lw_at lw_m1 88 rfl) rfl
theorem q122 : (Jvm.Cond.soleField "Edgefloats" "knocked") ∈ lw_all := lw_g (lw_at lw_m1 89 rfl) rfl
theorem q123 : (Jvm.Cond.superclass "Edgefloats" "java/lang/Object") ∈ lw_all := lw_g (lw_at lw_m1 90 rfl) rfl
theorem q125 : (Jvm.Cond.instanceMethod ({ cls := "Edgefloats", name := "knock", desc := "()I" } : Jvm.MethodName)) ∈ lw_all := lw_g (lw_at lw_m1 92 rfl) rfl
theorem q126 : (Jvm.Cond.selects "Edgefloats" ({ cls := "Edgefloats", name := "knock", desc := "()I" } : Jvm.MethodName) ({ cls := "Edgefloats", name := "knock", desc := "()I" } : Jvm.MethodName)) ∈ lw_all := lw_g (lw_at lw_m1 93 rfl) rfl
theorem q127 : (Jvm.Cond.code ({ cls := "Edgefloats", name := "knock", desc := "()I" } : Jvm.MethodName) prog_1_method_74_code (1 : Nat) (Option.some Jvm.ClassFile.FieldType.int)) ∈ lw_all := lw_g (lw_at lw_m1 94 rfl) rfl
theorem q129 : (Jvm.Cond.instanceMethod ({ cls := "Edgefloats", name := "isSound", desc := "()Z" } : Jvm.MethodName)) ∈ lw_all := lw_g (lw_at lw_m1 96 rfl) rfl
theorem q130 : (Jvm.Cond.selects "Edgefloats" ({ cls := "Edgefloats", name := "isSound", desc := "()Z" } : Jvm.MethodName) ({ cls := "Edgefloats", name := "isSound", desc := "()Z" } : Jvm.MethodName)) ∈ lw_all := lw_g (lw_at lw_m1 97 rfl) rfl
theorem q131 : (Jvm.Cond.code ({ cls := "Edgefloats", name := "isSound", desc := "()Z" } : Jvm.MethodName) prog_1_method_75_code (5 : Nat) (Option.some Jvm.ClassFile.FieldType.boolean)) ∈ lw_all := lw_g (lw_at lw_m1 98 rfl) rfl
theorem q132 : (Jvm.Cond.methodLink "Edgefloats" (95 : Nat) ({ cls := "java/lang/Double", name := "doubleValue", desc := "()D" } : Jvm.MethodName)) ∈ lw_all := lw_g (lw_at lw_m1 99 rfl) rfl
theorem q136 : (Jvm.Cond.methodLink "Edgefloats" (54 : Nat) ({ cls := "Edgefloats", name := "digitsOf", desc := "(D)J" } : Jvm.MethodName)) ∈ lw_all := lw_g (lw_at lw_m1 103 rfl) rfl
theorem q137 : (Jvm.Cond.static ({ cls := "Edgefloats", name := "digitsOf", desc := "(D)J" } : Jvm.MethodName)) ∈ lw_all := lw_g (lw_at lw_m1 104 rfl) rfl
theorem q138 : (Jvm.Cond.code ({ cls := "Edgefloats", name := "digitsOf", desc := "(D)J" } : Jvm.MethodName) prog_1_method_8_code (2 : Nat) (Option.some Jvm.ClassFile.FieldType.long)) ∈ lw_all := lw_g (lw_at lw_m1 105 rfl) rfl
theorem q139 : (Jvm.Cond.methodLink "Edgefloats" (50 : Nat) ({ cls := "java/lang/Double", name := "doubleToLongBits", desc := "(D)J" } : Jvm.MethodName)) ∈ lw_all := lw_g (lw_at lw_m1 106 rfl) rfl
theorem q149 : (Jvm.Cond.methodLink "Edgefloats" (115 : Nat) ({ cls := "Edgefloats", name := "isSpoiled", desc := "(J)Z" } : Jvm.MethodName)) ∈ lw_all := lw_g (lw_at lw_m1 116 rfl) rfl
theorem q150 : (Jvm.Cond.static ({ cls := "Edgefloats", name := "isSpoiled", desc := "(J)Z" } : Jvm.MethodName)) ∈ lw_all := lw_g (lw_at lw_m1 117 rfl) rfl
theorem q151 : (Jvm.Cond.code ({ cls := "Edgefloats", name := "isSpoiled", desc := "(J)Z" } : Jvm.MethodName) prog_1_method_7_code (2 : Nat) (Option.some Jvm.ClassFile.FieldType.boolean)) ∈ lw_all := lw_g (lw_at lw_m1 118 rfl) rfl
theorem q152 : (Jvm.Cond.constantLong "Edgefloats" (46 : Nat) (9223372036854775807 : Int64)) ∈ lw_all := lw_g (lw_at lw_m1 119 rfl) rfl
theorem q153 : (Jvm.Cond.constantLong "Edgefloats" (48 : Nat) (9218868437227405312 : Int64)) ∈ lw_all := lw_g (lw_at lw_m1 120 rfl) rfl
theorem q154 : (Jvm.Cond.methodLink "Edgefloats" (211 : Nat) ({ cls := "java/lang/Float", name := "floatValue", desc := "()F" } : Jvm.MethodName)) ∈ lw_all := lw_g (lw_at lw_m1 121 rfl) rfl
theorem q158 : (Jvm.Cond.methodLink "Edgefloats" (250 : Nat) ({ cls := "Edgefloats", name := "digitsOf", desc := "(F)I" } : Jvm.MethodName)) ∈ lw_all := lw_g (lw_at lw_m1 125 rfl) rfl
theorem q159 : (Jvm.Cond.static ({ cls := "Edgefloats", name := "digitsOf", desc := "(F)I" } : Jvm.MethodName)) ∈ lw_all := lw_g (lw_at lw_m1 126 rfl) rfl
theorem q160 : (Jvm.Cond.code ({ cls := "Edgefloats", name := "digitsOf", desc := "(F)I" } : Jvm.MethodName) prog_1_method_41_code (1 : Nat) (Option.some Jvm.ClassFile.FieldType.int)) ∈ lw_all := lw_g (lw_at lw_m1 127 rfl) rfl
theorem q161 : (Jvm.Cond.methodLink "Edgefloats" (246 : Nat) ({ cls := "java/lang/Float", name := "floatToIntBits", desc := "(F)I" } : Jvm.MethodName)) ∈ lw_all := lw_g (lw_at lw_m1 128 rfl) rfl
theorem q171 : (Jvm.Cond.methodLink "Edgefloats" (270 : Nat) ({ cls := "Edgefloats", name := "isSpoiled", desc := "(I)Z" } : Jvm.MethodName)) ∈ lw_all := lw_g (lw_at lw_m1 138 rfl) rfl
theorem q172 : (Jvm.Cond.static ({ cls := "Edgefloats", name := "isSpoiled", desc := "(I)Z" } : Jvm.MethodName)) ∈ lw_all := lw_g (lw_at lw_m1 139 rfl) rfl
theorem q173 : (Jvm.Cond.code ({ cls := "Edgefloats", name := "isSpoiled", desc := "(I)Z" } : Jvm.MethodName) prog_1_method_40_code (1 : Nat) (Option.some Jvm.ClassFile.FieldType.boolean)) ∈ lw_all := lw_g (lw_at lw_m1 140 rfl) rfl
theorem q174 : (Jvm.Cond.constant "Edgefloats" (244 : Nat) (2147483647 : Int32)) ∈ lw_all := lw_g (lw_at lw_m1 141 rfl) rfl
theorem q175 : (Jvm.Cond.constant "Edgefloats" (245 : Nat) (2139095040 : Int32)) ∈ lw_all := lw_g (lw_at lw_m1 142 rfl) rfl
theorem q176 : (Jvm.Cond.methodLink "Edgefloats" (333 : Nat) ({ cls := "Edgefloats", name := "isWidePair", desc := "(II)Z" } : Jvm.MethodName)) ∈ lw_all := lw_g (lw_at lw_m1 143 rfl) rfl
theorem q177 : (Jvm.Cond.privateMethod ({ cls := "Edgefloats", name := "isWidePair", desc := "(II)Z" } : Jvm.MethodName)) ∈ lw_tbl := lw_at lw_m1 144 rfl
theorem q178 : (Jvm.Cond.instanceMethod ({ cls := "Edgefloats", name := "isWidePair", desc := "(II)Z" } : Jvm.MethodName)) ∈ lw_all := lw_g (lw_at lw_m1 145 rfl) rfl
theorem q179 : (Jvm.Cond.code ({ cls := "Edgefloats", name := "isWidePair", desc := "(II)Z" } : Jvm.MethodName) prog_1_method_38_code (10 : Nat) (Option.some Jvm.ClassFile.FieldType.boolean)) ∈ lw_all := lw_g (lw_at lw_m1 146 rfl) rfl
theorem q180 : (Jvm.Cond.methodLink "Edgefloats" (232 : Nat) ({ cls := "Edgefloats", name := "wideOrder", desc := "(III)I" } : Jvm.MethodName)) ∈ lw_all := lw_g (lw_at lw_m1 147 rfl) rfl
theorem q181 : (Jvm.Cond.instanceMethod ({ cls := "Edgefloats", name := "wideOrder", desc := "(III)I" } : Jvm.MethodName)) ∈ lw_all := lw_g (lw_at lw_m1 148 rfl) rfl
theorem q182 : (Jvm.Cond.selects "Edgefloats" ({ cls := "Edgefloats", name := "wideOrder", desc := "(III)I" } : Jvm.MethodName) ({ cls := "Edgefloats", name := "wideOrder", desc := "(III)I" } : Jvm.MethodName)) ∈ lw_all := lw_g (lw_at lw_m1 149 rfl) rfl
theorem q183 : (Jvm.Cond.code ({ cls := "Edgefloats", name := "wideOrder", desc := "(III)I" } : Jvm.MethodName) prog_1_method_28_code (7 : Nat) (Option.some Jvm.ClassFile.FieldType.int)) ∈ lw_all := lw_g (lw_at lw_m1 150 rfl) rfl
theorem q184 : (Jvm.Cond.methodLink "Edgefloats" (142 : Nat) ({ cls := "Edgefloats", name := "wideAt", desc := "(I)Ljava/lang/Double;" } : Jvm.MethodName)) ∈ lw_all := lw_g (lw_at lw_m1 151 rfl) rfl
theorem q185 : (Jvm.Cond.privateMethod ({ cls := "Edgefloats", name := "wideAt", desc := "(I)Ljava/lang/Double;" } : Jvm.MethodName)) ∈ lw_tbl := lw_at lw_m1 152 rfl
theorem q186 : (Jvm.Cond.instanceMethod ({ cls := "Edgefloats", name := "wideAt", desc := "(I)Ljava/lang/Double;" } : Jvm.MethodName)) ∈ lw_all := lw_g (lw_at lw_m1 153 rfl) rfl
theorem q187 : (Jvm.Cond.code ({ cls := "Edgefloats", name := "wideAt", desc := "(I)Ljava/lang/Double;" } : Jvm.MethodName) prog_1_method_11_code (2 : Nat) (Option.some (Jvm.ClassFile.FieldType.object "java/lang/Double"))) ∈ lw_all := lw_g (lw_at lw_m1 154 rfl) rfl
theorem q188 : (Jvm.Cond.methodLink "Edgefloats" (80 : Nat) ({ cls := "Edgefloats", name := "mustBeCell", desc := "(I)V" } : Jvm.MethodName)) ∈ lw_all := lw_g (lw_at lw_m1 155 rfl) rfl
theorem q189 : (Jvm.Cond.static ({ cls := "Edgefloats", name := "mustBeCell", desc := "(I)V" } : Jvm.MethodName)) ∈ lw_all := lw_g (lw_at lw_m1 156 rfl) rfl
theorem q190 : (Jvm.Cond.code ({ cls := "Edgefloats", name := "mustBeCell", desc := "(I)V" } : Jvm.MethodName) prog_1_method_3_code (1 : Nat) (Option.none : Option Jvm.ClassFile.FieldType)) ∈ lw_all := lw_g (lw_at lw_m1 157 rfl) rfl
theorem q191 : (Jvm.Cond.methodLink "Edgefloats" (32 : Nat) ({ cls := "Edgefloats", name := "isIn", desc := "(III)Z" } : Jvm.MethodName)) ∈ lw_all := lw_g (lw_at lw_m1 158 rfl) rfl
theorem q192 : (Jvm.Cond.static ({ cls := "Edgefloats", name := "isIn", desc := "(III)Z" } : Jvm.MethodName)) ∈ lw_all := lw_g (lw_at lw_m1 159 rfl) rfl
theorem q193 : (Jvm.Cond.code ({ cls := "Edgefloats", name := "isIn", desc := "(III)Z" } : Jvm.MethodName) prog_1_method_2_code (3 : Nat) (Option.some Jvm.ClassFile.FieldType.boolean)) ∈ lw_all := lw_g (lw_at lw_m1 160 rfl) rfl
theorem q194 : (Jvm.Cond.classLink "Edgefloats" (36 : Nat) "java/lang/IndexOutOfBoundsException") ∈ lw_all := lw_g (lw_at lw_m1 161 rfl) rfl
theorem q235 : (Jvm.Cond.methodLink "Edgefloats" (38 : Nat) ({ cls := "java/lang/IndexOutOfBoundsException", name := "<init>", desc := "()V" } : Jvm.MethodName)) ∈ lw_all := lw_g (lw_at lw_m1 202 rfl) rfl
theorem q258 : (Jvm.Cond.methodLink "Edgefloats" (132 : Nat) ({ cls := "Edgefloats", name := "mustFit", desc := "(Z)V" } : Jvm.MethodName)) ∈ lw_all := lw_g (lw_at lw_m1 225 rfl) rfl
theorem q259 : (Jvm.Cond.static ({ cls := "Edgefloats", name := "mustFit", desc := "(Z)V" } : Jvm.MethodName)) ∈ lw_all := lw_g (lw_at lw_m1 226 rfl) rfl
theorem q260 : (Jvm.Cond.code ({ cls := "Edgefloats", name := "mustFit", desc := "(Z)V" } : Jvm.MethodName) prog_1_method_4_code (1 : Nat) (Option.none : Option Jvm.ClassFile.FieldType)) ∈ lw_all := lw_g (lw_at lw_m1 227 rfl) rfl
theorem q261 : (Jvm.Cond.classLink "Edgefloats" (39 : Nat) "java/lang/IllegalArgumentException") ∈ lw_all := lw_g (lw_at lw_m1 228 rfl) rfl
theorem q270 : (Jvm.Cond.methodLink "Edgefloats" (41 : Nat) ({ cls := "java/lang/IllegalArgumentException", name := "<init>", desc := "()V" } : Jvm.MethodName)) ∈ lw_all := lw_g (lw_at lw_m1 237 rfl) rfl
theorem q276 : (Jvm.Cond.methodLink "Edgefloats" (159 : Nat) ({ cls := "java/lang/Double", name := "compare", desc := "(DD)I" } : Jvm.MethodName)) ∈ lw_all := lw_g (lw_at lw_m2 3 rfl) rfl
theorem q280 : (Jvm.Cond.methodLink "Edgefloats" (190 : Nat) ({ cls := "java/lang/Double", name := "compareTo", desc := "(Ljava/lang/Double;)I" } : Jvm.MethodName)) ∈ lw_all := lw_g (lw_at lw_m2 7 rfl) rfl
theorem q285 : (Jvm.Cond.interfaceEntry "Edgefloats" (194 : Nat)) ∈ lw_tbl := lw_at lw_m2 12 rfl
theorem q286 : (Jvm.Cond.methodLink "Edgefloats" (194 : Nat) ({ cls := "java/lang/Comparable", name := "compareTo", desc := "(Ljava/lang/Object;)I" } : Jvm.MethodName)) ∈ lw_all := lw_g (lw_at lw_m2 13 rfl) rfl
theorem q535 : (Jvm.Cond.methodLink "Edgefloats" (199 : Nat) ({ cls := "java/lang/Integer", name := "signum", desc := "(I)I" } : Jvm.MethodName)) ∈ lw_all := lw_g (lw_at lw_m3 22 rfl) rfl
theorem q538 : (Jvm.Cond.methodLink "Edgefloats" (87 : Nat) ({ cls := "java/lang/Double", name := "equals", desc := "(Ljava/lang/Object;)Z" } : Jvm.MethodName)) ∈ lw_all := lw_g (lw_at lw_m3 25 rfl) rfl
theorem q542 : (Jvm.Cond.methodLink "Edgefloats" (221 : Nat) ({ cls := "java/lang/Double", name := "hashCode", desc := "()I" } : Jvm.MethodName)) ∈ lw_all := lw_g (lw_at lw_m3 29 rfl) rfl
theorem q552 : (Jvm.Cond.methodLink "Edgefloats" (236 : Nat) ({ cls := "Edgefloats", name := "wideLike", desc := "(II)Z" } : Jvm.MethodName)) ∈ lw_all := lw_g (lw_at lw_m3 39 rfl) rfl
theorem q553 : (Jvm.Cond.instanceMethod ({ cls := "Edgefloats", name := "wideLike", desc := "(II)Z" } : Jvm.MethodName)) ∈ lw_all := lw_g (lw_at lw_m3 40 rfl) rfl
theorem q554 : (Jvm.Cond.selects "Edgefloats" ({ cls := "Edgefloats", name := "wideLike", desc := "(II)Z" } : Jvm.MethodName) ({ cls := "Edgefloats", name := "wideLike", desc := "(II)Z" } : Jvm.MethodName)) ∈ lw_all := lw_g (lw_at lw_m3 41 rfl) rfl
theorem q555 : (Jvm.Cond.code ({ cls := "Edgefloats", name := "wideLike", desc := "(II)Z" } : Jvm.MethodName) prog_1_method_31_code (7 : Nat) (Option.some Jvm.ClassFile.FieldType.boolean)) ∈ lw_all := lw_g (lw_at lw_m3 42 rfl) rfl
theorem q556 : (Jvm.Cond.methodLink "Edgefloats" (99 : Nat) ({ cls := "Edgefloats", name := "quartersOf", desc := "(D)I" } : Jvm.MethodName)) ∈ lw_all := lw_g (lw_at lw_m3 43 rfl) rfl
theorem q557 : (Jvm.Cond.static ({ cls := "Edgefloats", name := "quartersOf", desc := "(D)I" } : Jvm.MethodName)) ∈ lw_all := lw_g (lw_at lw_m3 44 rfl) rfl
theorem q558 : (Jvm.Cond.code ({ cls := "Edgefloats", name := "quartersOf", desc := "(D)I" } : Jvm.MethodName) prog_1_method_9_code (10 : Nat) (Option.some Jvm.ClassFile.FieldType.int)) ∈ lw_all := lw_g (lw_at lw_m3 45 rfl) rfl
theorem q559 : (Jvm.Cond.constantLong "Edgefloats" (57 : Nat) (1073 : Int64)) ∈ lw_all := lw_g (lw_at lw_m3 46 rfl) rfl
theorem q560 : (Jvm.Cond.constantLong "Edgefloats" (59 : Nat) (52 : Int64)) ∈ lw_all := lw_g (lw_at lw_m3 47 rfl) rfl
theorem q561 : (Jvm.Cond.constant "Edgefloats" (61 : Nat) (-2147483648 : Int32)) ∈ lw_all := lw_g (lw_at lw_m3 48 rfl) rfl
theorem q562 : (Jvm.Cond.constantLong "Edgefloats" (62 : Nat) (4503599627370496 : Int64)) ∈ lw_all := lw_g (lw_at lw_m3 49 rfl) rfl
theorem q563 : (Jvm.Cond.constantLong "Edgefloats" (64 : Nat) (4503599627370495 : Int64)) ∈ lw_all := lw_g (lw_at lw_m3 50 rfl) rfl
theorem q564 : (Jvm.Cond.constantLong "Edgefloats" (66 : Nat) (1000000000 : Int64)) ∈ lw_all := lw_g (lw_at lw_m3 51 rfl) rfl
theorem q565 : (Jvm.Cond.methodLink "Edgefloats" (145 : Nat) ({ cls := "java/lang/Double", name := "max", desc := "(DD)D" } : Jvm.MethodName)) ∈ lw_all := lw_g (lw_at lw_m3 52 rfl) rfl
theorem q574 : (Jvm.Cond.methodLink "Edgefloats" (149 : Nat) ({ cls := "java/lang/Double", name := "min", desc := "(DD)D" } : Jvm.MethodName)) ∈ lw_all := lw_g (lw_at lw_m3 61 rfl) rfl
theorem q580 : (Jvm.Cond.methodLink "Edgefloats" (240 : Nat) ({ cls := "Edgefloats", name := "wideBelow", desc := "(IIZ)Z" } : Jvm.MethodName)) ∈ lw_all := lw_g (lw_at lw_m3 67 rfl) rfl
theorem q581 : (Jvm.Cond.instanceMethod ({ cls := "Edgefloats", name := "wideBelow", desc := "(IIZ)Z" } : Jvm.MethodName)) ∈ lw_all := lw_g (lw_at lw_m3 68 rfl) rfl
theorem q582 : (Jvm.Cond.selects "Edgefloats" ({ cls := "Edgefloats", name := "wideBelow", desc := "(IIZ)Z" } : Jvm.MethodName) ({ cls := "Edgefloats", name := "wideBelow", desc := "(IIZ)Z" } : Jvm.MethodName)) ∈ lw_all := lw_g (lw_at lw_m3 69 rfl) rfl
theorem q583 : (Jvm.Cond.code ({ cls := "Edgefloats", name := "wideBelow", desc := "(IIZ)Z" } : Jvm.MethodName) prog_1_method_32_code (8 : Nat) (Option.some Jvm.ClassFile.FieldType.boolean)) ∈ lw_all := lw_g (lw_at lw_m3 70 rfl) rfl
theorem q584 : (Jvm.Cond.methodLink "Edgefloats" (336 : Nat) ({ cls := "Edgefloats", name := "isNarrowPair", desc := "(II)Z" } : Jvm.MethodName)) ∈ lw_all := lw_g (lw_at lw_m3 71 rfl) rfl
theorem q585 : (Jvm.Cond.privateMethod ({ cls := "Edgefloats", name := "isNarrowPair", desc := "(II)Z" } : Jvm.MethodName)) ∈ lw_tbl := lw_at lw_m3 72 rfl
theorem q586 : (Jvm.Cond.instanceMethod ({ cls := "Edgefloats", name := "isNarrowPair", desc := "(II)Z" } : Jvm.MethodName)) ∈ lw_all := lw_g (lw_at lw_m3 73 rfl) rfl
theorem q587 : (Jvm.Cond.code ({ cls := "Edgefloats", name := "isNarrowPair", desc := "(II)Z" } : Jvm.MethodName) prog_1_method_71_code (10 : Nat) (Option.some Jvm.ClassFile.FieldType.boolean)) ∈ lw_all := lw_g (lw_at lw_m3 74 rfl) rfl
theorem q588 : (Jvm.Cond.methodLink "Edgefloats" (321 : Nat) ({ cls := "Edgefloats", name := "narrowOrder", desc := "(III)I" } : Jvm.MethodName)) ∈ lw_all := lw_g (lw_at lw_m3 75 rfl) rfl
theorem q589 : (Jvm.Cond.instanceMethod ({ cls := "Edgefloats", name := "narrowOrder", desc := "(III)I" } : Jvm.MethodName)) ∈ lw_all := lw_g (lw_at lw_m3 76 rfl) rfl
theorem q590 : (Jvm.Cond.selects "Edgefloats" ({ cls := "Edgefloats", name := "narrowOrder", desc := "(III)I" } : Jvm.MethodName) ({ cls := "Edgefloats", name := "narrowOrder", desc := "(III)I" } : Jvm.MethodName)) ∈ lw_all := lw_g (lw_at lw_m3 77 rfl) rfl
theorem q591 : (Jvm.Cond.code ({ cls := "Edgefloats", name := "narrowOrder", desc := "(III)I" } : Jvm.MethodName) prog_1_method_61_code (7 : Nat) (Option.some Jvm.ClassFile.FieldType.int)) ∈ lw_all := lw_g (lw_at lw_m3 78 rfl) rfl
theorem q592 : (Jvm.Cond.methodLink "Edgefloats" (287 : Nat) ({ cls := "Edgefloats", name := "narrowAt", desc := "(I)Ljava/lang/Float;" } : Jvm.MethodName)) ∈ lw_all := lw_g (lw_at lw_m3 79 rfl) rfl
theorem q593 : (Jvm.Cond.privateMethod ({ cls := "Edgefloats", name := "narrowAt", desc := "(I)Ljava/lang/Float;" } : Jvm.MethodName)) ∈ lw_tbl := lw_at lw_m3 80 rfl
theorem q594 : (Jvm.Cond.instanceMethod ({ cls := "Edgefloats", name := "narrowAt", desc := "(I)Ljava/lang/Float;" } : Jvm.MethodName)) ∈ lw_all := lw_g (lw_at lw_m3 81 rfl) rfl
theorem q595 : (Jvm.Cond.code ({ cls := "Edgefloats", name := "narrowAt", desc := "(I)Ljava/lang/Float;" } : Jvm.MethodName) prog_1_method_44_code (2 : Nat) (Option.some (Jvm.ClassFile.FieldType.object "java/lang/Float"))) ∈ lw_all := lw_g (lw_at lw_m3 82 rfl) rfl
theorem q596 : (Jvm.Cond.methodLink "Edgefloats" (307 : Nat) ({ cls := "java/lang/Float", name := "compare", desc := "(FF)I" } : Jvm.MethodName)) ∈ lw_all := lw_g (lw_at lw_m3 83 rfl) rfl
theorem q597 : (Jvm.Cond.methodLink "Edgefloats" (310 : Nat) ({ cls := "java/lang/Float", name := "compareTo", desc := "(Ljava/lang/Float;)I" } : Jvm.MethodName)) ∈ lw_all := lw_g (lw_at lw_m3 84 rfl) rfl
theorem q598 : (Jvm.Cond.methodLink "Edgefloats" (264 : Nat) ({ cls := "java/lang/Float", name := "equals", desc := "(Ljava/lang/Object;)Z" } : Jvm.MethodName)) ∈ lw_all := lw_g (lw_at lw_m3 85 rfl) rfl
theorem q602 : (Jvm.Cond.methodLink "Edgefloats" (313 : Nat) ({ cls := "java/lang/Float", name := "hashCode", desc := "()I" } : Jvm.MethodName)) ∈ lw_all := lw_g (lw_at lw_m3 89 rfl) rfl
theorem q609 : (Jvm.Cond.methodLink "Edgefloats" (324 : Nat) ({ cls := "Edgefloats", name := "narrowLike", desc := "(II)Z" } : Jvm.MethodName)) ∈ lw_all := lw_g (lw_at lw_m3 96 rfl) rfl
theorem q610 : (Jvm.Cond.instanceMethod ({ cls := "Edgefloats", name := "narrowLike", desc := "(II)Z" } : Jvm.MethodName)) ∈ lw_all := lw_g (lw_at lw_m3 97 rfl) rfl
theorem q611 : (Jvm.Cond.selects "Edgefloats" ({ cls := "Edgefloats", name := "narrowLike", desc := "(II)Z" } : Jvm.MethodName) ({ cls := "Edgefloats", name := "narrowLike", desc := "(II)Z" } : Jvm.MethodName)) ∈ lw_all := lw_g (lw_at lw_m3 98 rfl) rfl
theorem q612 : (Jvm.Cond.code ({ cls := "Edgefloats", name := "narrowLike", desc := "(II)Z" } : Jvm.MethodName) prog_1_method_64_code (5 : Nat) (Option.some Jvm.ClassFile.FieldType.boolean)) ∈ lw_all := lw_g (lw_at lw_m3 99 rfl) rfl
theorem q613 : (Jvm.Cond.methodLink "Edgefloats" (265 : Nat) ({ cls := "Edgefloats", name := "quartersOf", desc := "(F)I" } : Jvm.MethodName)) ∈ lw_all := lw_g (lw_at lw_m3 100 rfl) rfl
theorem q614 : (Jvm.Cond.static ({ cls := "Edgefloats", name := "quartersOf", desc := "(F)I" } : Jvm.MethodName)) ∈ lw_all := lw_g (lw_at lw_m3 101 rfl) rfl
theorem q615 : (Jvm.Cond.code ({ cls := "Edgefloats", name := "quartersOf", desc := "(F)I" } : Jvm.MethodName) prog_1_method_42_code (5 : Nat) (Option.some Jvm.ClassFile.FieldType.int)) ∈ lw_all := lw_g (lw_at lw_m3 102 rfl) rfl
theorem q616 : (Jvm.Cond.constant "Edgefloats" (252 : Nat) (8388608 : Int32)) ∈ lw_all := lw_g (lw_at lw_m3 103 rfl) rfl
theorem q617 : (Jvm.Cond.constant "Edgefloats" (253 : Nat) (8388607 : Int32)) ∈ lw_all := lw_g (lw_at lw_m3 104 rfl) rfl
theorem q618 : (Jvm.Cond.constant "Edgefloats" (254 : Nat) (16000000 : Int32)) ∈ lw_all := lw_g (lw_at lw_m3 105 rfl) rfl
theorem q619 : (Jvm.Cond.methodLink "Edgefloats" (290 : Nat) ({ cls := "java/lang/Float", name := "max", desc := "(FF)F" } : Jvm.MethodName)) ∈ lw_all := lw_g (lw_at lw_m3 106 rfl) rfl
theorem q628 : (Jvm.Cond.methodLink "Edgefloats" (293 : Nat) ({ cls := "java/lang/Float", name := "min", desc := "(FF)F" } : Jvm.MethodName)) ∈ lw_all := lw_g (lw_at lw_m3 115 rfl) rfl
theorem q634 : (Jvm.Cond.methodLink "Edgefloats" (327 : Nat) ({ cls := "Edgefloats", name := "narrowBelow", desc := "(IIZ)Z" } : Jvm.MethodName)) ∈ lw_all := lw_g (lw_at lw_m3 121 rfl) rfl
theorem q635 : (Jvm.Cond.instanceMethod ({ cls := "Edgefloats", name := "narrowBelow", desc := "(IIZ)Z" } : Jvm.MethodName)) ∈ lw_all := lw_g (lw_at lw_m3 122 rfl) rfl
theorem q636 : (Jvm.Cond.selects "Edgefloats" ({ cls := "Edgefloats", name := "narrowBelow", desc := "(IIZ)Z" } : Jvm.MethodName) ({ cls := "Edgefloats", name := "narrowBelow", desc := "(IIZ)Z" } : Jvm.MethodName)) ∈ lw_all := lw_g (lw_at lw_m3 123 rfl) rfl
theorem q637 : (Jvm.Cond.code ({ cls := "Edgefloats", name := "narrowBelow", desc := "(IIZ)Z" } : Jvm.MethodName) prog_1_method_65_code (6 : Nat) (Option.some Jvm.ClassFile.FieldType.boolean)) ∈ lw_all := lw_g (lw_at lw_m3 124 rfl) rfl
theorem q638 : (Jvm.Cond.methodLink "Edgefloats" (339 : Nat) ({ cls := "Edgefloats", name := "isWideThree", desc := "(III)Z" } : Jvm.MethodName)) ∈ lw_all := lw_g (lw_at lw_m3 125 rfl) rfl
theorem q639 : (Jvm.Cond.privateMethod ({ cls := "Edgefloats", name := "isWideThree", desc := "(III)Z" } : Jvm.MethodName)) ∈ lw_tbl := lw_at lw_m3 126 rfl
theorem q640 : (Jvm.Cond.instanceMethod ({ cls := "Edgefloats", name := "isWideThree", desc := "(III)Z" } : Jvm.MethodName)) ∈ lw_all := lw_g (lw_at lw_m3 127 rfl) rfl
theorem q641 : (Jvm.Cond.code ({ cls := "Edgefloats", name := "isWideThree", desc := "(III)Z" } : Jvm.MethodName) prog_1_method_39_code (4 : Nat) (Option.some Jvm.ClassFile.FieldType.boolean)) ∈ lw_all := lw_g (lw_at lw_m3 128 rfl) rfl
theorem q642 : (Jvm.Cond.methodLink "Edgefloats" (342 : Nat) ({ cls := "Edgefloats", name := "isNarrowThree", desc := "(III)Z" } : Jvm.MethodName)) ∈ lw_all := lw_g (lw_at lw_m3 129 rfl) rfl
theorem q643 : (Jvm.Cond.privateMethod ({ cls := "Edgefloats", name := "isNarrowThree", desc := "(III)Z" } : Jvm.MethodName)) ∈ lw_tbl := lw_at lw_m3 130 rfl
theorem q644 : (Jvm.Cond.instanceMethod ({ cls := "Edgefloats", name := "isNarrowThree", desc := "(III)Z" } : Jvm.MethodName)) ∈ lw_all := lw_g (lw_at lw_m3 131 rfl) rfl
theorem q645 : (Jvm.Cond.code ({ cls := "Edgefloats", name := "isNarrowThree", desc := "(III)Z" } : Jvm.MethodName) prog_1_method_72_code (4 : Nat) (Option.some Jvm.ClassFile.FieldType.boolean)) ∈ lw_all := lw_g (lw_at lw_m3 132 rfl) rfl
theorem q647 : (Jvm.Cond.instanceMethod ({ cls := "Edgefloats", name := "digest", desc := "()J" } : Jvm.MethodName)) ∈ lw_all := lw_g (lw_at lw_m3 134 rfl) rfl
theorem q648 : (Jvm.Cond.selects "Edgefloats" ({ cls := "Edgefloats", name := "digest", desc := "()J" } : Jvm.MethodName) ({ cls := "Edgefloats", name := "digest", desc := "()J" } : Jvm.MethodName)) ∈ lw_all := lw_g (lw_at lw_m3 135 rfl) rfl
theorem q649 : (Jvm.Cond.code ({ cls := "Edgefloats", name := "digest", desc := "()J" } : Jvm.MethodName) prog_1_method_77_code (5 : Nat) (Option.some Jvm.ClassFile.FieldType.long)) ∈ lw_all := lw_g (lw_at lw_m3 136 rfl) rfl
theorem q650 : (Jvm.Cond.constantLong "Edgefloats" (347 : Nat) (7638 : Int64)) ∈ lw_all := lw_g (lw_at lw_m3 137 rfl) rfl
theorem q651 : (Jvm.Cond.methodLink "Edgefloats" (349 : Nat) ({ cls := "Edgefloats", name := "upper", desc := "(I)I" } : Jvm.MethodName)) ∈ lw_all := lw_g (lw_at lw_m3 138 rfl) rfl
theorem q652 : (Jvm.Cond.instanceMethod ({ cls := "Edgefloats", name := "upper", desc := "(I)I" } : Jvm.MethodName)) ∈ lw_all := lw_g (lw_at lw_m3 139 rfl) rfl
theorem q653 : (Jvm.Cond.selects "Edgefloats" ({ cls := "Edgefloats", name := "upper", desc := "(I)I" } : Jvm.MethodName) ({ cls := "Edgefloats", name := "upper", desc := "(I)I" } : Jvm.MethodName)) ∈ lw_all := lw_g (lw_at lw_m3 140 rfl) rfl
theorem q654 : (Jvm.Cond.code ({ cls := "Edgefloats", name := "upper", desc := "(I)I" } : Jvm.MethodName) prog_1_method_25_code (2 : Nat) (Option.some Jvm.ClassFile.FieldType.int)) ∈ lw_all := lw_g (lw_at lw_m3 141 rfl) rfl
theorem q655 : (Jvm.Cond.methodLink "Edgefloats" (352 : Nat) ({ cls := "Edgefloats", name := "add", desc := "(JJ)J" } : Jvm.MethodName)) ∈ lw_all := lw_g (lw_at lw_m3 142 rfl) rfl
theorem q656 : (Jvm.Cond.static ({ cls := "Edgefloats", name := "add", desc := "(JJ)J" } : Jvm.MethodName)) ∈ lw_all := lw_g (lw_at lw_m3 143 rfl) rfl
theorem q657 : (Jvm.Cond.code ({ cls := "Edgefloats", name := "add", desc := "(JJ)J" } : Jvm.MethodName) prog_1_method_76_code (4 : Nat) (Option.some Jvm.ClassFile.FieldType.long)) ∈ lw_all := lw_g (lw_at lw_m3 144 rfl) rfl
theorem q658 : (Jvm.Cond.constantLong "Edgefloats" (345 : Nat) (31 : Int64)) ∈ lw_all := lw_g (lw_at lw_m3 145 rfl) rfl
theorem q659 : (Jvm.Cond.methodLink "Edgefloats" (356 : Nat) ({ cls := "Edgefloats", name := "lower", desc := "(I)I" } : Jvm.MethodName)) ∈ lw_all := lw_g (lw_at lw_m3 146 rfl) rfl
theorem q660 : (Jvm.Cond.instanceMethod ({ cls := "Edgefloats", name := "lower", desc := "(I)I" } : Jvm.MethodName)) ∈ lw_all := lw_g (lw_at lw_m3 147 rfl) rfl
theorem q661 : (Jvm.Cond.selects "Edgefloats" ({ cls := "Edgefloats", name := "lower", desc := "(I)I" } : Jvm.MethodName) ({ cls := "Edgefloats", name := "lower", desc := "(I)I" } : Jvm.MethodName)) ∈ lw_all := lw_g (lw_at lw_m3 148 rfl) rfl
theorem q662 : (Jvm.Cond.code ({ cls := "Edgefloats", name := "lower", desc := "(I)I" } : Jvm.MethodName) prog_1_method_26_code (2 : Nat) (Option.some Jvm.ClassFile.FieldType.int)) ∈ lw_all := lw_g (lw_at lw_m3 149 rfl) rfl
theorem q663 : (Jvm.Cond.methodLink "Edgefloats" (359 : Nat) ({ cls := "Edgefloats", name := "wideHash", desc := "(II)I" } : Jvm.MethodName)) ∈ lw_all := lw_g (lw_at lw_m3 150 rfl) rfl
theorem q664 : (Jvm.Cond.instanceMethod ({ cls := "Edgefloats", name := "wideHash", desc := "(II)I" } : Jvm.MethodName)) ∈ lw_all := lw_g (lw_at lw_m3 151 rfl) rfl
theorem q665 : (Jvm.Cond.selects "Edgefloats" ({ cls := "Edgefloats", name := "wideHash", desc := "(II)I" } : Jvm.MethodName) ({ cls := "Edgefloats", name := "wideHash", desc := "(II)I" } : Jvm.MethodName)) ∈ lw_all := lw_g (lw_at lw_m3 152 rfl) rfl
theorem q666 : (Jvm.Cond.code ({ cls := "Edgefloats", name := "wideHash", desc := "(II)I" } : Jvm.MethodName) prog_1_method_33_code (4 : Nat) (Option.some Jvm.ClassFile.FieldType.int)) ∈ lw_all := lw_g (lw_at lw_m3 153 rfl) rfl
theorem q667 : (Jvm.Cond.methodLink "Edgefloats" (224 : Nat) ({ cls := "java/lang/Double", name := "hashCode", desc := "(D)I" } : Jvm.MethodName)) ∈ lw_all := lw_g (lw_at lw_m3 154 rfl) rfl
theorem q668 : (Jvm.Cond.methodLink "Edgefloats" (363 : Nat) ({ cls := "Edgefloats", name := "wideCount", desc := "(I)I" } : Jvm.MethodName)) ∈ lw_all := lw_g (lw_at lw_m3 155 rfl) rfl
theorem q669 : (Jvm.Cond.instanceMethod ({ cls := "Edgefloats", name := "wideCount", desc := "(I)I" } : Jvm.MethodName)) ∈ lw_all := lw_g (lw_at lw_m3 156 rfl) rfl
theorem q670 : (Jvm.Cond.selects "Edgefloats" ({ cls := "Edgefloats", name := "wideCount", desc := "(I)I" } : Jvm.MethodName) ({ cls := "Edgefloats", name := "wideCount", desc := "(I)I" } : Jvm.MethodName)) ∈ lw_all := lw_g (lw_at lw_m3 157 rfl) rfl
theorem q671 : (Jvm.Cond.code ({ cls := "Edgefloats", name := "wideCount", desc := "(I)I" } : Jvm.MethodName) prog_1_method_35_code (2 : Nat) (Option.some Jvm.ClassFile.FieldType.int)) ∈ lw_all := lw_g (lw_at lw_m3 158 rfl) rfl
theorem q672 : (Jvm.Cond.methodLink "Edgefloats" (366 : Nat) ({ cls := "Edgefloats", name := "wideFind", desc := "(IZ)I" } : Jvm.MethodName)) ∈ lw_all := lw_g (lw_at lw_m3 159 rfl) rfl
theorem q673 : (Jvm.Cond.instanceMethod ({ cls := "Edgefloats", name := "wideFind", desc := "(IZ)I" } : Jvm.MethodName)) ∈ lw_all := lw_g (lw_at lw_m3 160 rfl) rfl
theorem q674 : (Jvm.Cond.selects "Edgefloats" ({ cls := "Edgefloats", name := "wideFind", desc := "(IZ)I" } : Jvm.MethodName) ({ cls := "Edgefloats", name := "wideFind", desc := "(IZ)I" } : Jvm.MethodName)) ∈ lw_all := lw_g (lw_at lw_m3 161 rfl) rfl
theorem q675 : (Jvm.Cond.code ({ cls := "Edgefloats", name := "wideFind", desc := "(IZ)I" } : Jvm.MethodName) prog_1_method_36_code (5 : Nat) (Option.some Jvm.ClassFile.FieldType.int)) ∈ lw_all := lw_g (lw_at lw_m3 162 rfl) rfl
theorem q676 : (Jvm.Cond.methodLink "Edgefloats" (370 : Nat) ({ cls := "Edgefloats", name := "digits", desc := "(I)I" } : Jvm.MethodName)) ∈ lw_all := lw_g (lw_at lw_m3 163 rfl) rfl
theorem q677 : (Jvm.Cond.instanceMethod ({ cls := "Edgefloats", name := "digits", desc := "(I)I" } : Jvm.MethodName)) ∈ lw_all := lw_g (lw_at lw_m3 164 rfl) rfl
theorem q678 : (Jvm.Cond.selects "Edgefloats" ({ cls := "Edgefloats", name := "digits", desc := "(I)I" } : Jvm.MethodName) ({ cls := "Edgefloats", name := "digits", desc := "(I)I" } : Jvm.MethodName)) ∈ lw_all := lw_g (lw_at lw_m3 165 rfl) rfl
theorem q679 : (Jvm.Cond.code ({ cls := "Edgefloats", name := "digits", desc := "(I)I" } : Jvm.MethodName) prog_1_method_59_code (2 : Nat) (Option.some Jvm.ClassFile.FieldType.int)) ∈ lw_all := lw_g (lw_at lw_m3 166 rfl) rfl
theorem q680 : (Jvm.Cond.methodLink "Edgefloats" (373 : Nat) ({ cls := "Edgefloats", name := "narrowHash", desc := "(II)I" } : Jvm.MethodName)) ∈ lw_all := lw_g (lw_at lw_m3 167 rfl) rfl
theorem q681 : (Jvm.Cond.instanceMethod ({ cls := "Edgefloats", name := "narrowHash", desc := "(II)I" } : Jvm.MethodName)) ∈ lw_all := lw_g (lw_at lw_m3 168 rfl) rfl
theorem q682 : (Jvm.Cond.selects "Edgefloats" ({ cls := "Edgefloats", name := "narrowHash", desc := "(II)I" } : Jvm.MethodName) ({ cls := "Edgefloats", name := "narrowHash", desc := "(II)I" } : Jvm.MethodName)) ∈ lw_all := lw_g (lw_at lw_m3 169 rfl) rfl
theorem q683 : (Jvm.Cond.code ({ cls := "Edgefloats", name := "narrowHash", desc := "(II)I" } : Jvm.MethodName) prog_1_method_66_code (4 : Nat) (Option.some Jvm.ClassFile.FieldType.int)) ∈ lw_all := lw_g (lw_at lw_m3 170 rfl) rfl
theorem q684 : (Jvm.Cond.methodLink "Edgefloats" (314 : Nat) ({ cls := "java/lang/Float", name := "hashCode", desc := "(F)I" } : Jvm.MethodName)) ∈ lw_all := lw_g (lw_at lw_m3 171 rfl) rfl
theorem q685 : (Jvm.Cond.methodLink "Edgefloats" (376 : Nat) ({ cls := "Edgefloats", name := "narrowCount", desc := "(I)I" } : Jvm.MethodName)) ∈ lw_all := lw_g (lw_at lw_m3 172 rfl) rfl
theorem q686 : (Jvm.Cond.instanceMethod ({ cls := "Edgefloats", name := "narrowCount", desc := "(I)I" } : Jvm.MethodName)) ∈ lw_all := lw_g (lw_at lw_m3 173 rfl) rfl
theorem q687 : (Jvm.Cond.selects "Edgefloats" ({ cls := "Edgefloats", name := "narrowCount", desc := "(I)I" } : Jvm.MethodName) ({ cls := "Edgefloats", name := "narrowCount", desc := "(I)I" } : Jvm.MethodName)) ∈ lw_all := lw_g (lw_at lw_m3 174 rfl) rfl
theorem q688 : (Jvm.Cond.code ({ cls := "Edgefloats", name := "narrowCount", desc := "(I)I" } : Jvm.MethodName) prog_1_method_68_code (2 : Nat) (Option.some Jvm.ClassFile.FieldType.int)) ∈ lw_all := lw_g (lw_at lw_m3 175 rfl) rfl
theorem q689 : (Jvm.Cond.methodLink "Edgefloats" (379 : Nat) ({ cls := "Edgefloats", name := "narrowFind", desc := "(IZ)I" } : Jvm.MethodName)) ∈ lw_all := lw_g (lw_at lw_m3 176 rfl) rfl
theorem q690 : (Jvm.Cond.instanceMethod ({ cls := "Edgefloats", name := "narrowFind", desc := "(IZ)I" } : Jvm.MethodName)) ∈ lw_all := lw_g (lw_at lw_m3 177 rfl) rfl
theorem q691 : (Jvm.Cond.selects "Edgefloats" ({ cls := "Edgefloats", name := "narrowFind", desc := "(IZ)I" } : Jvm.MethodName) ({ cls := "Edgefloats", name := "narrowFind", desc := "(IZ)I" } : Jvm.MethodName)) ∈ lw_all := lw_g (lw_at lw_m3 178 rfl) rfl
theorem q692 : (Jvm.Cond.code ({ cls := "Edgefloats", name := "narrowFind", desc := "(IZ)I" } : Jvm.MethodName) prog_1_method_69_code (5 : Nat) (Option.some Jvm.ClassFile.FieldType.int)) ∈ lw_all := lw_g (lw_at lw_m3 179 rfl) rfl
theorem q693 : (Jvm.Cond.methodLink "Edgefloats" (91 : Nat) ({ cls := "Edgefloats", name := "bit", desc := "(Z)I" } : Jvm.MethodName)) ∈ lw_all := lw_g (lw_at lw_m3 180 rfl) rfl
theorem q694 : (Jvm.Cond.static ({ cls := "Edgefloats", name := "bit", desc := "(Z)I" } : Jvm.MethodName)) ∈ lw_all := lw_g (lw_at lw_m3 181 rfl) rfl
theorem q695 : (Jvm.Cond.code ({ cls := "Edgefloats", name := "bit", desc := "(Z)I" } : Jvm.MethodName) prog_1_method_5_code (1 : Nat) (Option.some Jvm.ClassFile.FieldType.int)) ∈ lw_all := lw_g (lw_at lw_m3 182 rfl) rfl
theorem q696 : (Jvm.Cond.methodLink "Edgefloats" (382 : Nat) ({ cls := "Edgefloats", name := "house", desc := "(I)I" } : Jvm.MethodName)) ∈ lw_all := lw_g (lw_at lw_m3 183 rfl) rfl
theorem q697 : (Jvm.Cond.instanceMethod ({ cls := "Edgefloats", name := "house", desc := "(I)I" } : Jvm.MethodName)) ∈ lw_all := lw_g (lw_at lw_m3 184 rfl) rfl
theorem q698 : (Jvm.Cond.selects "Edgefloats" ({ cls := "Edgefloats", name := "house", desc := "(I)I" } : Jvm.MethodName) ({ cls := "Edgefloats", name := "house", desc := "(I)I" } : Jvm.MethodName)) ∈ lw_all := lw_g (lw_at lw_m3 185 rfl) rfl
theorem q699 : (Jvm.Cond.code ({ cls := "Edgefloats", name := "house", desc := "(I)I" } : Jvm.MethodName) prog_1_method_73_code (3 : Nat) (Option.some Jvm.ClassFile.FieldType.int)) ∈ lw_all := lw_g (lw_at lw_m3 186 rfl) rfl
theorem q700 : (Jvm.Cond.methodLink "Edgefloats" (385 : Nat) ({ cls := "Edgefloats", name := "isSound", desc := "()Z" } : Jvm.MethodName)) ∈ lw_all := lw_g (lw_at lw_m3 187 rfl) rfl
theorem q752 : (Jvm.Cond.instanceMethod ({ cls := "Edgefloats", name := "putWide", desc := "(III)I" } : Jvm.MethodName)) ∈ lw_all := lw_g (lw_at lw_m3 239 rfl) rfl
theorem q753 : (Jvm.Cond.selects "Edgefloats" ({ cls := "Edgefloats", name := "putWide", desc := "(III)I" } : Jvm.MethodName) ({ cls := "Edgefloats", name := "putWide", desc := "(III)I" } : Jvm.MethodName)) ∈ lw_all := lw_g (lw_at lw_m4 0 rfl) rfl
theorem q754 : (Jvm.Cond.code ({ cls := "Edgefloats", name := "putWide", desc := "(III)I" } : Jvm.MethodName) prog_1_method_14_code (6 : Nat) (Option.some Jvm.ClassFile.FieldType.int)) ∈ lw_all := lw_g (lw_at lw_m4 1 rfl) rfl
theorem q755 : (Jvm.Cond.constantLong "Edgefloats" (113 : Nat) (4294967295 : Int64)) ∈ lw_all := lw_g (lw_at lw_m4 2 rfl) rfl
theorem q756 : (Jvm.Cond.methodLink "Edgefloats" (119 : Nat) ({ cls := "Edgefloats", name := "refused", desc := "()I" } : Jvm.MethodName)) ∈ lw_all := lw_g (lw_at lw_m4 3 rfl) rfl
theorem q757 : (Jvm.Cond.privateMethod ({ cls := "Edgefloats", name := "refused", desc := "()I" } : Jvm.MethodName)) ∈ lw_tbl := lw_at lw_m4 4 rfl
theorem q758 : (Jvm.Cond.instanceMethod ({ cls := "Edgefloats", name := "refused", desc := "()I" } : Jvm.MethodName)) ∈ lw_all := lw_g (lw_at lw_m4 5 rfl) rfl
theorem q759 : (Jvm.Cond.code ({ cls := "Edgefloats", name := "refused", desc := "()I" } : Jvm.MethodName) prog_1_method_6_code (1 : Nat) (Option.some Jvm.ClassFile.FieldType.int)) ∈ lw_all := lw_g (lw_at lw_m4 6 rfl) rfl
theorem q760 : (Jvm.Cond.methodLink "Edgefloats" (122 : Nat) ({ cls := "java/lang/Double", name := "longBitsToDouble", desc := "(J)D" } : Jvm.MethodName)) ∈ lw_all := lw_g (lw_at lw_m4 7 rfl) rfl
theorem q763 : (Jvm.Cond.methodLink "Edgefloats" (126 : Nat) ({ cls := "Edgefloats", name := "widePut", desc := "(ILjava/lang/Double;)I" } : Jvm.MethodName)) ∈ lw_all := lw_g (lw_at lw_m4 10 rfl) rfl
theorem q764 : (Jvm.Cond.privateMethod ({ cls := "Edgefloats", name := "widePut", desc := "(ILjava/lang/Double;)I" } : Jvm.MethodName)) ∈ lw_tbl := lw_at lw_m4 11 rfl
theorem q765 : (Jvm.Cond.instanceMethod ({ cls := "Edgefloats", name := "widePut", desc := "(ILjava/lang/Double;)I" } : Jvm.MethodName)) ∈ lw_all := lw_g (lw_at lw_m4 12 rfl) rfl
theorem q766 : (Jvm.Cond.code ({ cls := "Edgefloats", name := "widePut", desc := "(ILjava/lang/Double;)I" } : Jvm.MethodName) prog_1_method_12_code (4 : Nat) (Option.some Jvm.ClassFile.FieldType.int)) ∈ lw_all := lw_g (lw_at lw_m4 13 rfl) rfl
theorem q772 : (Jvm.Cond.instanceMethod ({ cls := "Edgefloats", name := "wideQuarters", desc := "(II)I" } : Jvm.MethodName)) ∈ lw_all := lw_g (lw_at lw_m4 19 rfl) rfl
theorem q773 : (Jvm.Cond.selects "Edgefloats" ({ cls := "Edgefloats", name := "wideQuarters", desc := "(II)I" } : Jvm.MethodName) ({ cls := "Edgefloats", name := "wideQuarters", desc := "(II)I" } : Jvm.MethodName)) ∈ lw_all := lw_g (lw_at lw_m4 20 rfl) rfl
theorem q774 : (Jvm.Cond.code ({ cls := "Edgefloats", name := "wideQuarters", desc := "(II)I" } : Jvm.MethodName) prog_1_method_15_code (3 : Nat) (Option.some Jvm.ClassFile.FieldType.int)) ∈ lw_all := lw_g (lw_at lw_m4 21 rfl) rfl
theorem q775 : (Jvm.Cond.constant "Edgefloats" (130 : Nat) (-1000000000 : Int32)) ∈ lw_all := lw_g (lw_at lw_m4 22 rfl) rfl
theorem q776 : (Jvm.Cond.constant "Edgefloats" (131 : Nat) (1000000000 : Int32)) ∈ lw_all := lw_g (lw_at lw_m4 23 rfl) rfl
theorem q777 : (Jvm.Cond.constantDouble "Edgefloats" (136 : Nat) (4598175219545276416 : UInt64)) ∈ lw_all := lw_g (lw_at lw_m4 24 rfl) rfl
theorem q782 : (Jvm.Cond.instanceMethod ({ cls := "Edgefloats", name := "wideKnown", desc := "(II)I" } : Jvm.MethodName)) ∈ lw_all := lw_g (lw_at lw_m4 29 rfl) rfl
theorem q783 : (Jvm.Cond.selects "Edgefloats" ({ cls := "Edgefloats", name := "wideKnown", desc := "(II)I" } : Jvm.MethodName) ({ cls := "Edgefloats", name := "wideKnown", desc := "(II)I" } : Jvm.MethodName)) ∈ lw_all := lw_g (lw_at lw_m4 30 rfl) rfl
theorem q784 : (Jvm.Cond.code ({ cls := "Edgefloats", name := "wideKnown", desc := "(II)I" } : Jvm.MethodName) prog_1_method_16_code (3 : Nat) (Option.some Jvm.ClassFile.FieldType.int)) ∈ lw_all := lw_g (lw_at lw_m4 31 rfl) rfl
theorem q785 : (Jvm.Cond.methodLink "Edgefloats" (138 : Nat) ({ cls := "Edgefloats", name := "wideKnownOne", desc := "(I)Ljava/lang/Double;" } : Jvm.MethodName)) ∈ lw_all := lw_g (lw_at lw_m4 32 rfl) rfl
theorem q786 : (Jvm.Cond.static ({ cls := "Edgefloats", name := "wideKnownOne", desc := "(I)Ljava/lang/Double;" } : Jvm.MethodName)) ∈ lw_all := lw_g (lw_at lw_m4 33 rfl) rfl
theorem q787 : (Jvm.Cond.code ({ cls := "Edgefloats", name := "wideKnownOne", desc := "(I)Ljava/lang/Double;" } : Jvm.MethodName) prog_1_method_10_code (1 : Nat) (Option.some (Jvm.ClassFile.FieldType.object "java/lang/Double"))) ∈ lw_all := lw_g (lw_at lw_m4 34 rfl) rfl
theorem q788 : (Jvm.Cond.constantDouble "Edgefloats" (68 : Nat) (9223372036854775808 : UInt64)) ∈ lw_all := lw_g (lw_at lw_m4 35 rfl) rfl
theorem q789 : (Jvm.Cond.constantDouble "Edgefloats" (70 : Nat) (9218868437227405312 : UInt64)) ∈ lw_all := lw_g (lw_at lw_m4 36 rfl) rfl
theorem q790 : (Jvm.Cond.constantDouble "Edgefloats" (72 : Nat) (18442240474082181120 : UInt64)) ∈ lw_all := lw_g (lw_at lw_m4 37 rfl) rfl
theorem q791 : (Jvm.Cond.constantDouble "Edgefloats" (74 : Nat) (9218868437227405311 : UInt64)) ∈ lw_all := lw_g (lw_at lw_m4 38 rfl) rfl
theorem q792 : (Jvm.Cond.constantDouble "Edgefloats" (76 : Nat) (1 : UInt64)) ∈ lw_all := lw_g (lw_at lw_m4 39 rfl) rfl
theorem q793 : (Jvm.Cond.constantDouble "Edgefloats" (78 : Nat) (4503599627370496 : UInt64)) ∈ lw_all := lw_g (lw_at lw_m4 40 rfl) rfl
theorem q798 : (Jvm.Cond.instanceMethod ({ cls := "Edgefloats", name := "wideCopy", desc := "(II)I" } : Jvm.MethodName)) ∈ lw_all := lw_g (lw_at lw_m4 45 rfl) rfl
theorem q799 : (Jvm.Cond.selects "Edgefloats" ({ cls := "Edgefloats", name := "wideCopy", desc := "(II)I" } : Jvm.MethodName) ({ cls := "Edgefloats", name := "wideCopy", desc := "(II)I" } : Jvm.MethodName)) ∈ lw_all := lw_g (lw_at lw_m4 46 rfl) rfl
theorem q800 : (Jvm.Cond.code ({ cls := "Edgefloats", name := "wideCopy", desc := "(II)I" } : Jvm.MethodName) prog_1_method_17_code (3 : Nat) (Option.some Jvm.ClassFile.FieldType.int)) ∈ lw_all := lw_g (lw_at lw_m4 47 rfl) rfl
theorem q805 : (Jvm.Cond.instanceMethod ({ cls := "Edgefloats", name := "wideSwap", desc := "(II)I" } : Jvm.MethodName)) ∈ lw_all := lw_g (lw_at lw_m4 52 rfl) rfl
theorem q806 : (Jvm.Cond.selects "Edgefloats" ({ cls := "Edgefloats", name := "wideSwap", desc := "(II)I" } : Jvm.MethodName) ({ cls := "Edgefloats", name := "wideSwap", desc := "(II)I" } : Jvm.MethodName)) ∈ lw_all := lw_g (lw_at lw_m4 53 rfl) rfl
theorem q807 : (Jvm.Cond.code ({ cls := "Edgefloats", name := "wideSwap", desc := "(II)I" } : Jvm.MethodName) prog_1_method_18_code (5 : Nat) (Option.some Jvm.ClassFile.FieldType.int)) ∈ lw_all := lw_g (lw_at lw_m4 54 rfl) rfl
theorem q812 : (Jvm.Cond.instanceMethod ({ cls := "Edgefloats", name := "wideMax", desc := "(III)I" } : Jvm.MethodName)) ∈ lw_all := lw_g (lw_at lw_m4 59 rfl) rfl
theorem q813 : (Jvm.Cond.selects "Edgefloats" ({ cls := "Edgefloats", name := "wideMax", desc := "(III)I" } : Jvm.MethodName) ({ cls := "Edgefloats", name := "wideMax", desc := "(III)I" } : Jvm.MethodName)) ∈ lw_all := lw_g (lw_at lw_m4 60 rfl) rfl
theorem q814 : (Jvm.Cond.code ({ cls := "Edgefloats", name := "wideMax", desc := "(III)I" } : Jvm.MethodName) prog_1_method_19_code (4 : Nat) (Option.some Jvm.ClassFile.FieldType.int)) ∈ lw_all := lw_g (lw_at lw_m4 61 rfl) rfl
theorem q819 : (Jvm.Cond.instanceMethod ({ cls := "Edgefloats", name := "wideMin", desc := "(III)I" } : Jvm.MethodName)) ∈ lw_all := lw_g (lw_at lw_m4 66 rfl) rfl
theorem q820 : (Jvm.Cond.selects "Edgefloats" ({ cls := "Edgefloats", name := "wideMin", desc := "(III)I" } : Jvm.MethodName) ({ cls := "Edgefloats", name := "wideMin", desc := "(III)I" } : Jvm.MethodName)) ∈ lw_all := lw_g (lw_at lw_m4 67 rfl) rfl
theorem q821 : (Jvm.Cond.code ({ cls := "Edgefloats", name := "wideMin", desc := "(III)I" } : Jvm.MethodName) prog_1_method_20_code (4 : Nat) (Option.some Jvm.ClassFile.FieldType.int)) ∈ lw_all := lw_g (lw_at lw_m4 68 rfl) rfl
theorem q826 : (Jvm.Cond.instanceMethod ({ cls := "Edgefloats", name := "wideSum", desc := "(III)I" } : Jvm.MethodName)) ∈ lw_all := lw_g (lw_at lw_m4 73 rfl) rfl
theorem q827 : (Jvm.Cond.selects "Edgefloats" ({ cls := "Edgefloats", name := "wideSum", desc := "(III)I" } : Jvm.MethodName) ({ cls := "Edgefloats", name := "wideSum", desc := "(III)I" } : Jvm.MethodName)) ∈ lw_all := lw_g (lw_at lw_m4 74 rfl) rfl
theorem q828 : (Jvm.Cond.code ({ cls := "Edgefloats", name := "wideSum", desc := "(III)I" } : Jvm.MethodName) prog_1_method_21_code (6 : Nat) (Option.some Jvm.ClassFile.FieldType.int)) ∈ lw_all := lw_g (lw_at lw_m4 75 rfl) rfl
theorem q829 : (Jvm.Cond.methodLink "Edgefloats" (152 : Nat) ({ cls := "Edgefloats", name := "haveSum", desc := "(Ljava/lang/Double;Ljava/lang/Double;)Z" } : Jvm.MethodName)) ∈ lw_all := lw_g (lw_at lw_m4 76 rfl) rfl
theorem q830 : (Jvm.Cond.static ({ cls := "Edgefloats", name := "haveSum", desc := "(Ljava/lang/Double;Ljava/lang/Double;)Z" } : Jvm.MethodName)) ∈ lw_all := lw_g (lw_at lw_m4 77 rfl) rfl
theorem q831 : (Jvm.Cond.code ({ cls := "Edgefloats", name := "haveSum", desc := "(Ljava/lang/Double;Ljava/lang/Double;)Z" } : Jvm.MethodName) prog_1_method_13_code (4 : Nat) (Option.some Jvm.ClassFile.FieldType.boolean)) ∈ lw_all := lw_g (lw_at lw_m4 78 rfl) rfl
theorem q832 : (Jvm.Cond.methodLink "Edgefloats" (103 : Nat) ({ cls := "java/lang/Double", name := "isInfinite", desc := "()Z" } : Jvm.MethodName)) ∈ lw_all := lw_g (lw_at lw_m4 79 rfl) rfl
theorem q845 : (Jvm.Cond.methodLink "Edgefloats" (107 : Nat) ({ cls := "java/lang/Math", name := "abs", desc := "(J)J" } : Jvm.MethodName)) ∈ lw_all := lw_g (lw_at lw_m4 92 rfl) rfl
theorem q848 : (Jvm.Cond.methodLink "Edgefloats" (156 : Nat) ({ cls := "java/lang/Double", name := "sum", desc := "(DD)D" } : Jvm.MethodName)) ∈ lw_all := lw_g (lw_at lw_m4 95 rfl) rfl
theorem q855 : (Jvm.Cond.instanceMethod ({ cls := "Edgefloats", name := "wideSort", desc := "(I)I" } : Jvm.MethodName)) ∈ lw_all := lw_g (lw_at lw_m4 102 rfl) rfl
theorem q856 : (Jvm.Cond.selects "Edgefloats" ({ cls := "Edgefloats", name := "wideSort", desc := "(I)I" } : Jvm.MethodName) ({ cls := "Edgefloats", name := "wideSort", desc := "(I)I" } : Jvm.MethodName)) ∈ lw_all := lw_g (lw_at lw_m4 103 rfl) rfl
theorem q857 : (Jvm.Cond.code ({ cls := "Edgefloats", name := "wideSort", desc := "(I)I" } : Jvm.MethodName) prog_1_method_22_code (5 : Nat) (Option.some Jvm.ClassFile.FieldType.int)) ∈ lw_all := lw_g (lw_at lw_m4 104 rfl) rfl
theorem q858 : (Jvm.Cond.methodLink "Edgefloats" (163 : Nat) ({ cls := "Edgefloats", name := "change", desc := "([Ljava/lang/Double;I)V" } : Jvm.MethodName)) ∈ lw_all := lw_g (lw_at lw_m4 105 rfl) rfl
theorem q859 : (Jvm.Cond.static ({ cls := "Edgefloats", name := "change", desc := "([Ljava/lang/Double;I)V" } : Jvm.MethodName)) ∈ lw_all := lw_g (lw_at lw_m4 106 rfl) rfl
theorem q860 : (Jvm.Cond.code ({ cls := "Edgefloats", name := "change", desc := "([Ljava/lang/Double;I)V" } : Jvm.MethodName) prog_1_method_23_code (3 : Nat) (Option.none : Option Jvm.ClassFile.FieldType)) ∈ lw_all := lw_g (lw_at lw_m4 107 rfl) rfl
theorem q861 : (Jvm.Cond.methodLink "Edgefloats" (167 : Nat) ({ cls := "java/util/Arrays", name := "sort", desc := "([D)V" } : Jvm.MethodName)) ∈ lw_all := lw_g (lw_at lw_m4 108 rfl) rfl
theorem q913 : (Jvm.Cond.instanceMethod ({ cls := "Edgefloats", name := "wideEnd", desc := "(ZI)I" } : Jvm.MethodName)) ∈ lw_all := lw_g (lw_at lw_m4 160 rfl) rfl
theorem q914 : (Jvm.Cond.selects "Edgefloats" ({ cls := "Edgefloats", name := "wideEnd", desc := "(ZI)I" } : Jvm.MethodName) ({ cls := "Edgefloats", name := "wideEnd", desc := "(ZI)I" } : Jvm.MethodName)) ∈ lw_all := lw_g (lw_at lw_m4 161 rfl) rfl
theorem q915 : (Jvm.Cond.code ({ cls := "Edgefloats", name := "wideEnd", desc := "(ZI)I" } : Jvm.MethodName) prog_1_method_24_code (8 : Nat) (Option.some Jvm.ClassFile.FieldType.int)) ∈ lw_all := lw_g (lw_at lw_m4 162 rfl) rfl
theorem q928 : (Jvm.Cond.instanceMethod ({ cls := "Edgefloats", name := "wideText", desc := "(I)Ljava/lang/String;" } : Jvm.MethodName)) ∈ lw_all := lw_g (lw_at lw_m4 175 rfl) rfl
theorem q929 : (Jvm.Cond.selects "Edgefloats" ({ cls := "Edgefloats", name := "wideText", desc := "(I)Ljava/lang/String;" } : Jvm.MethodName) ({ cls := "Edgefloats", name := "wideText", desc := "(I)Ljava/lang/String;" } : Jvm.MethodName)) ∈ lw_all := lw_g (lw_at lw_m4 176 rfl) rfl
theorem q930 : (Jvm.Cond.code ({ cls := "Edgefloats", name := "wideText", desc := "(I)Ljava/lang/String;" } : Jvm.MethodName) prog_1_method_27_code (7 : Nat) (Option.some (Jvm.ClassFile.FieldType.object "java/lang/String"))) ∈ lw_all := lw_g (lw_at lw_m4 177 rfl) rfl
theorem q931 : (Jvm.Cond.classLink "Edgefloats" (173 : Nat) "java/lang/StringBuilder") ∈ lw_all := lw_g (lw_at lw_m4 178 rfl) rfl
theorem q933 : (Jvm.Cond.methodLink "Edgefloats" (175 : Nat) ({ cls := "java/lang/StringBuilder", name := "<init>", desc := "()V" } : Jvm.MethodName)) ∈ lw_all := lw_g (lw_at lw_m4 180 rfl) rfl
theorem q959 : (Jvm.Cond.methodLink "Edgefloats" (176 : Nat) ({ cls := "java/lang/StringBuilder", name := "append", desc := "(I)Ljava/lang/StringBuilder;" } : Jvm.MethodName)) ∈ lw_all := lw_g (lw_at lw_m4 206 rfl) rfl
theorem q1020 : (Jvm.Cond.methodLink "Edgefloats" (180 : Nat) ({ cls := "java/lang/StringBuilder", name := "append", desc := "(C)Ljava/lang/StringBuilder;" } : Jvm.MethodName)) ∈ lw_all := lw_g (lw_at lw_m5 27 rfl) rfl
theorem q1061 : (Jvm.Cond.methodLink "Edgefloats" (183 : Nat) ({ cls := "java/lang/StringBuilder", name := "append", desc := "(J)Ljava/lang/StringBuilder;" } : Jvm.MethodName)) ∈ lw_all := lw_g (lw_at lw_m5 68 rfl) rfl
theorem q1088 : (Jvm.Cond.methodLink "Edgefloats" (186 : Nat) ({ cls := "java/lang/StringBuilder", name := "toString", desc := "()Ljava/lang/String;" } : Jvm.MethodName)) ∈ lw_all := lw_g (lw_at lw_m5 95 rfl) rfl
theorem q1191 : (Jvm.Cond.instanceMethod ({ cls := "Edgefloats", name := "wideSame", desc := "(III)Z" } : Jvm.MethodName)) ∈ lw_all := lw_g (lw_at lw_m5 198 rfl) rfl
theorem q1192 : (Jvm.Cond.selects "Edgefloats" ({ cls := "Edgefloats", name := "wideSame", desc := "(III)Z" } : Jvm.MethodName) ({ cls := "Edgefloats", name := "wideSame", desc := "(III)Z" } : Jvm.MethodName)) ∈ lw_all := lw_g (lw_at lw_m5 199 rfl) rfl
theorem q1193 : (Jvm.Cond.code ({ cls := "Edgefloats", name := "wideSame", desc := "(III)Z" } : Jvm.MethodName) prog_1_method_29_code (7 : Nat) (Option.some Jvm.ClassFile.FieldType.boolean)) ∈ lw_all := lw_g (lw_at lw_m5 200 rfl) rfl
theorem q1194 : (Jvm.Cond.methodLink "Edgefloats" (203 : Nat) ({ cls := "java/lang/Object", name := "equals", desc := "(Ljava/lang/Object;)Z" } : Jvm.MethodName)) ∈ lw_all := lw_g (lw_at lw_m5 201 rfl) rfl
theorem q1197 : (Jvm.Cond.selects "Edgefloats" ({ cls := "java/lang/Object", name := "equals", desc := "(Ljava/lang/Object;)Z" } : Jvm.MethodName) ({ cls := "java/lang/Object", name := "equals", desc := "(Ljava/lang/Object;)Z" } : Jvm.MethodName)) ∈ lw_all := lw_g (lw_at lw_m5 204 rfl) rfl
theorem q1222 : (Jvm.Cond.methodLink "Edgefloats" (204 : Nat) ({ cls := "java/util/Objects", name := "equals", desc := "(Ljava/lang/Object;Ljava/lang/Object;)Z" } : Jvm.MethodName)) ∈ lw_all := lw_g (lw_at lw_m5 229 rfl) rfl
theorem q1231 : (Jvm.Cond.instanceMethod ({ cls := "Edgefloats", name := "wideOther", desc := "(II)Z" } : Jvm.MethodName)) ∈ lw_all := lw_g (lw_at lw_m5 238 rfl) rfl
theorem q1232 : (Jvm.Cond.selects "Edgefloats" ({ cls := "Edgefloats", name := "wideOther", desc := "(II)Z" } : Jvm.MethodName) ({ cls := "Edgefloats", name := "wideOther", desc := "(II)Z" } : Jvm.MethodName)) ∈ lw_all := lw_g (lw_at lw_m5 239 rfl) rfl
theorem q1233 : (Jvm.Cond.code ({ cls := "Edgefloats", name := "wideOther", desc := "(II)Z" } : Jvm.MethodName) prog_1_method_30_code (5 : Nat) (Option.some Jvm.ClassFile.FieldType.boolean)) ∈ lw_all := lw_g (lw_at lw_m6 0 rfl) rfl
theorem q1234 : (Jvm.Cond.stringRef "Edgefloats" (209 : Nat) "0") ∈ lw_tbl := lw_at lw_m6 1 rfl
theorem q1235 : (Jvm.Cond.methodLink "Edgefloats" (215 : Nat) ({ cls := "java/lang/Integer", name := "valueOf", desc := "(I)Ljava/lang/Integer;" } : Jvm.MethodName)) ∈ lw_all := lw_g (lw_at lw_m6 2 rfl) rfl
theorem q1251 : (Jvm.Cond.methodLink "Edgefloats" (218 : Nat) ({ cls := "java/lang/Integer", name := "intValue", desc := "()I" } : Jvm.MethodName)) ∈ lw_all := lw_g (lw_at lw_m6 18 rfl) rfl
theorem q1268 : (Jvm.Cond.instanceMethod ({ cls := "Edgefloats", name := "wideEndless", desc := "(II)Z" } : Jvm.MethodName)) ∈ lw_all := lw_g (lw_at lw_m6 35 rfl) rfl
theorem q1269 : (Jvm.Cond.selects "Edgefloats" ({ cls := "Edgefloats", name := "wideEndless", desc := "(II)Z" } : Jvm.MethodName) ({ cls := "Edgefloats", name := "wideEndless", desc := "(II)Z" } : Jvm.MethodName)) ∈ lw_all := lw_g (lw_at lw_m6 36 rfl) rfl
theorem q1270 : (Jvm.Cond.code ({ cls := "Edgefloats", name := "wideEndless", desc := "(II)Z" } : Jvm.MethodName) prog_1_method_34_code (4 : Nat) (Option.some Jvm.ClassFile.FieldType.boolean)) ∈ lw_all := lw_g (lw_at lw_m6 37 rfl) rfl
theorem q1271 : (Jvm.Cond.methodLink "Edgefloats" (226 : Nat) ({ cls := "java/lang/Double", name := "isInfinite", desc := "(D)Z" } : Jvm.MethodName)) ∈ lw_all := lw_g (lw_at lw_m6 38 rfl) rfl
theorem q1272 : (Jvm.Cond.methodLink "Edgefloats" (229 : Nat) ({ cls := "java/lang/Double", name := "isFinite", desc := "(D)Z" } : Jvm.MethodName)) ∈ lw_all := lw_g (lw_at lw_m6 39 rfl) rfl
theorem q1287 : (Jvm.Cond.instanceMethod ({ cls := "Edgefloats", name := "wideHas", desc := "(I)Z" } : Jvm.MethodName)) ∈ lw_all := lw_g (lw_at lw_m6 54 rfl) rfl
theorem q1288 : (Jvm.Cond.selects "Edgefloats" ({ cls := "Edgefloats", name := "wideHas", desc := "(I)Z" } : Jvm.MethodName) ({ cls := "Edgefloats", name := "wideHas", desc := "(I)Z" } : Jvm.MethodName)) ∈ lw_all := lw_g (lw_at lw_m6 55 rfl) rfl
theorem q1289 : (Jvm.Cond.code ({ cls := "Edgefloats", name := "wideHas", desc := "(I)Z" } : Jvm.MethodName) prog_1_method_37_code (8 : Nat) (Option.some Jvm.ClassFile.FieldType.boolean)) ∈ lw_all := lw_g (lw_at lw_m6 56 rfl) rfl
theorem q1294 : (Jvm.Cond.instanceMethod ({ cls := "Edgefloats", name := "putNarrow", desc := "(II)I" } : Jvm.MethodName)) ∈ lw_all := lw_g (lw_at lw_m6 61 rfl) rfl
theorem q1295 : (Jvm.Cond.selects "Edgefloats" ({ cls := "Edgefloats", name := "putNarrow", desc := "(II)I" } : Jvm.MethodName) ({ cls := "Edgefloats", name := "putNarrow", desc := "(II)I" } : Jvm.MethodName)) ∈ lw_all := lw_g (lw_at lw_m6 62 rfl) rfl
theorem q1296 : (Jvm.Cond.code ({ cls := "Edgefloats", name := "putNarrow", desc := "(II)I" } : Jvm.MethodName) prog_1_method_47_code (3 : Nat) (Option.some Jvm.ClassFile.FieldType.int)) ∈ lw_all := lw_g (lw_at lw_m6 63 rfl) rfl
theorem q1297 : (Jvm.Cond.methodLink "Edgefloats" (273 : Nat) ({ cls := "java/lang/Float", name := "intBitsToFloat", desc := "(I)F" } : Jvm.MethodName)) ∈ lw_all := lw_g (lw_at lw_m6 64 rfl) rfl
theorem q1300 : (Jvm.Cond.methodLink "Edgefloats" (277 : Nat) ({ cls := "Edgefloats", name := "narrowPut", desc := "(ILjava/lang/Float;)I" } : Jvm.MethodName)) ∈ lw_all := lw_g (lw_at lw_m6 67 rfl) rfl
theorem q1301 : (Jvm.Cond.privateMethod ({ cls := "Edgefloats", name := "narrowPut", desc := "(ILjava/lang/Float;)I" } : Jvm.MethodName)) ∈ lw_tbl := lw_at lw_m6 68 rfl
theorem q1302 : (Jvm.Cond.instanceMethod ({ cls := "Edgefloats", name := "narrowPut", desc := "(ILjava/lang/Float;)I" } : Jvm.MethodName)) ∈ lw_all := lw_g (lw_at lw_m6 69 rfl) rfl
theorem q1303 : (Jvm.Cond.code ({ cls := "Edgefloats", name := "narrowPut", desc := "(ILjava/lang/Float;)I" } : Jvm.MethodName) prog_1_method_45_code (4 : Nat) (Option.some Jvm.ClassFile.FieldType.int)) ∈ lw_all := lw_g (lw_at lw_m6 70 rfl) rfl
theorem q1308 : (Jvm.Cond.instanceMethod ({ cls := "Edgefloats", name := "narrowQuarters", desc := "(II)I" } : Jvm.MethodName)) ∈ lw_all := lw_g (lw_at lw_m6 75 rfl) rfl
theorem q1309 : (Jvm.Cond.selects "Edgefloats" ({ cls := "Edgefloats", name := "narrowQuarters", desc := "(II)I" } : Jvm.MethodName) ({ cls := "Edgefloats", name := "narrowQuarters", desc := "(II)I" } : Jvm.MethodName)) ∈ lw_all := lw_g (lw_at lw_m6 76 rfl) rfl
theorem q1310 : (Jvm.Cond.code ({ cls := "Edgefloats", name := "narrowQuarters", desc := "(II)I" } : Jvm.MethodName) prog_1_method_48_code (3 : Nat) (Option.some Jvm.ClassFile.FieldType.int)) ∈ lw_all := lw_g (lw_at lw_m6 77 rfl) rfl
theorem q1311 : (Jvm.Cond.constant "Edgefloats" (281 : Nat) (-16000000 : Int32)) ∈ lw_all := lw_g (lw_at lw_m6 78 rfl) rfl
theorem q1312 : (Jvm.Cond.constantFloat "Edgefloats" (282 : Nat) (1048576000 : UInt32)) ∈ lw_all := lw_g (lw_at lw_m6 79 rfl) rfl
theorem q1317 : (Jvm.Cond.instanceMethod ({ cls := "Edgefloats", name := "narrowKnown", desc := "(II)I" } : Jvm.MethodName)) ∈ lw_all := lw_g (lw_at lw_m6 84 rfl) rfl
theorem q1318 : (Jvm.Cond.selects "Edgefloats" ({ cls := "Edgefloats", name := "narrowKnown", desc := "(II)I" } : Jvm.MethodName) ({ cls := "Edgefloats", name := "narrowKnown", desc := "(II)I" } : Jvm.MethodName)) ∈ lw_all := lw_g (lw_at lw_m6 85 rfl) rfl
theorem q1319 : (Jvm.Cond.code ({ cls := "Edgefloats", name := "narrowKnown", desc := "(II)I" } : Jvm.MethodName) prog_1_method_49_code (3 : Nat) (Option.some Jvm.ClassFile.FieldType.int)) ∈ lw_all := lw_g (lw_at lw_m6 86 rfl) rfl
theorem q1320 : (Jvm.Cond.methodLink "Edgefloats" (283 : Nat) ({ cls := "Edgefloats", name := "narrowKnownOne", desc := "(I)Ljava/lang/Float;" } : Jvm.MethodName)) ∈ lw_all := lw_g (lw_at lw_m6 87 rfl) rfl
theorem q1321 : (Jvm.Cond.static ({ cls := "Edgefloats", name := "narrowKnownOne", desc := "(I)Ljava/lang/Float;" } : Jvm.MethodName)) ∈ lw_all := lw_g (lw_at lw_m6 88 rfl) rfl
theorem q1322 : (Jvm.Cond.code ({ cls := "Edgefloats", name := "narrowKnownOne", desc := "(I)Ljava/lang/Float;" } : Jvm.MethodName) prog_1_method_43_code (1 : Nat) (Option.some (Jvm.ClassFile.FieldType.object "java/lang/Float"))) ∈ lw_all := lw_g (lw_at lw_m6 89 rfl) rfl
theorem q1323 : (Jvm.Cond.constantFloat "Edgefloats" (255 : Nat) (2147483648 : UInt32)) ∈ lw_all := lw_g (lw_at lw_m6 90 rfl) rfl
theorem q1324 : (Jvm.Cond.constantFloat "Edgefloats" (256 : Nat) (2139095040 : UInt32)) ∈ lw_all := lw_g (lw_at lw_m6 91 rfl) rfl
theorem q1325 : (Jvm.Cond.constantFloat "Edgefloats" (257 : Nat) (4286578688 : UInt32)) ∈ lw_all := lw_g (lw_at lw_m6 92 rfl) rfl
theorem q1326 : (Jvm.Cond.constantFloat "Edgefloats" (258 : Nat) (2139095039 : UInt32)) ∈ lw_all := lw_g (lw_at lw_m6 93 rfl) rfl
theorem q1327 : (Jvm.Cond.constantFloat "Edgefloats" (259 : Nat) (1 : UInt32)) ∈ lw_all := lw_g (lw_at lw_m6 94 rfl) rfl
theorem q1328 : (Jvm.Cond.constantFloat "Edgefloats" (260 : Nat) (8388608 : UInt32)) ∈ lw_all := lw_g (lw_at lw_m6 95 rfl) rfl
theorem q1333 : (Jvm.Cond.instanceMethod ({ cls := "Edgefloats", name := "narrowCopy", desc := "(II)I" } : Jvm.MethodName)) ∈ lw_all := lw_g (lw_at lw_m6 100 rfl) rfl
theorem q1334 : (Jvm.Cond.selects "Edgefloats" ({ cls := "Edgefloats", name := "narrowCopy", desc := "(II)I" } : Jvm.MethodName) ({ cls := "Edgefloats", name := "narrowCopy", desc := "(II)I" } : Jvm.MethodName)) ∈ lw_all := lw_g (lw_at lw_m6 101 rfl) rfl
theorem q1335 : (Jvm.Cond.code ({ cls := "Edgefloats", name := "narrowCopy", desc := "(II)I" } : Jvm.MethodName) prog_1_method_50_code (3 : Nat) (Option.some Jvm.ClassFile.FieldType.int)) ∈ lw_all := lw_g (lw_at lw_m6 102 rfl) rfl
theorem q1340 : (Jvm.Cond.instanceMethod ({ cls := "Edgefloats", name := "narrowSwap", desc := "(II)I" } : Jvm.MethodName)) ∈ lw_all := lw_g (lw_at lw_m6 107 rfl) rfl
theorem q1341 : (Jvm.Cond.selects "Edgefloats" ({ cls := "Edgefloats", name := "narrowSwap", desc := "(II)I" } : Jvm.MethodName) ({ cls := "Edgefloats", name := "narrowSwap", desc := "(II)I" } : Jvm.MethodName)) ∈ lw_all := lw_g (lw_at lw_m6 108 rfl) rfl
theorem q1342 : (Jvm.Cond.code ({ cls := "Edgefloats", name := "narrowSwap", desc := "(II)I" } : Jvm.MethodName) prog_1_method_51_code (5 : Nat) (Option.some Jvm.ClassFile.FieldType.int)) ∈ lw_all := lw_g (lw_at lw_m6 109 rfl) rfl
theorem q1347 : (Jvm.Cond.instanceMethod ({ cls := "Edgefloats", name := "narrowMax", desc := "(III)I" } : Jvm.MethodName)) ∈ lw_all := lw_g (lw_at lw_m6 114 rfl) rfl
theorem q1348 : (Jvm.Cond.selects "Edgefloats" ({ cls := "Edgefloats", name := "narrowMax", desc := "(III)I" } : Jvm.MethodName) ({ cls := "Edgefloats", name := "narrowMax", desc := "(III)I" } : Jvm.MethodName)) ∈ lw_all := lw_g (lw_at lw_m6 115 rfl) rfl
theorem q1349 : (Jvm.Cond.code ({ cls := "Edgefloats", name := "narrowMax", desc := "(III)I" } : Jvm.MethodName) prog_1_method_52_code (4 : Nat) (Option.some Jvm.ClassFile.FieldType.int)) ∈ lw_all := lw_g (lw_at lw_m6 116 rfl) rfl
theorem q1354 : (Jvm.Cond.instanceMethod ({ cls := "Edgefloats", name := "narrowMin", desc := "(III)I" } : Jvm.MethodName)) ∈ lw_all := lw_g (lw_at lw_m6 121 rfl) rfl
theorem q1355 : (Jvm.Cond.selects "Edgefloats" ({ cls := "Edgefloats", name := "narrowMin", desc := "(III)I" } : Jvm.MethodName) ({ cls := "Edgefloats", name := "narrowMin", desc := "(III)I" } : Jvm.MethodName)) ∈ lw_all := lw_g (lw_at lw_m6 122 rfl) rfl
theorem q1356 : (Jvm.Cond.code ({ cls := "Edgefloats", name := "narrowMin", desc := "(III)I" } : Jvm.MethodName) prog_1_method_53_code (4 : Nat) (Option.some Jvm.ClassFile.FieldType.int)) ∈ lw_all := lw_g (lw_at lw_m6 123 rfl) rfl
theorem q1361 : (Jvm.Cond.instanceMethod ({ cls := "Edgefloats", name := "narrowSum", desc := "(III)I" } : Jvm.MethodName)) ∈ lw_all := lw_g (lw_at lw_m6 128 rfl) rfl
theorem q1362 : (Jvm.Cond.selects "Edgefloats" ({ cls := "Edgefloats", name := "narrowSum", desc := "(III)I" } : Jvm.MethodName) ({ cls := "Edgefloats", name := "narrowSum", desc := "(III)I" } : Jvm.MethodName)) ∈ lw_all := lw_g (lw_at lw_m6 129 rfl) rfl
theorem q1363 : (Jvm.Cond.code ({ cls := "Edgefloats", name := "narrowSum", desc := "(III)I" } : Jvm.MethodName) prog_1_method_54_code (6 : Nat) (Option.some Jvm.ClassFile.FieldType.int)) ∈ lw_all := lw_g (lw_at lw_m6 130 rfl) rfl
theorem q1364 : (Jvm.Cond.methodLink "Edgefloats" (295 : Nat) ({ cls := "Edgefloats", name := "haveSum", desc := "(Ljava/lang/Float;Ljava/lang/Float;)Z" } : Jvm.MethodName)) ∈ lw_all := lw_g (lw_at lw_m6 131 rfl) rfl
theorem q1365 : (Jvm.Cond.static ({ cls := "Edgefloats", name := "haveSum", desc := "(Ljava/lang/Float;Ljava/lang/Float;)Z" } : Jvm.MethodName)) ∈ lw_all := lw_g (lw_at lw_m6 132 rfl) rfl
theorem q1366 : (Jvm.Cond.code ({ cls := "Edgefloats", name := "haveSum", desc := "(Ljava/lang/Float;Ljava/lang/Float;)Z" } : Jvm.MethodName) prog_1_method_46_code (4 : Nat) (Option.some Jvm.ClassFile.FieldType.boolean)) ∈ lw_all := lw_g (lw_at lw_m6 133 rfl) rfl
theorem q1367 : (Jvm.Cond.methodLink "Edgefloats" (267 : Nat) ({ cls := "java/lang/Float", name := "isInfinite", desc := "()Z" } : Jvm.MethodName)) ∈ lw_all := lw_g (lw_at lw_m6 134 rfl) rfl
theorem q1380 : (Jvm.Cond.methodLink "Edgefloats" (268 : Nat) ({ cls := "java/lang/Math", name := "abs", desc := "(I)I" } : Jvm.MethodName)) ∈ lw_all := lw_g (lw_at lw_m6 147 rfl) rfl
theorem q1383 : (Jvm.Cond.methodLink "Edgefloats" (298 : Nat) ({ cls := "java/lang/Float", name := "sum", desc := "(FF)F" } : Jvm.MethodName)) ∈ lw_all := lw_g (lw_at lw_m6 150 rfl) rfl
theorem q1390 : (Jvm.Cond.instanceMethod ({ cls := "Edgefloats", name := "narrowSort", desc := "(I)I" } : Jvm.MethodName)) ∈ lw_all := lw_g (lw_at lw_m6 157 rfl) rfl
theorem q1391 : (Jvm.Cond.selects "Edgefloats" ({ cls := "Edgefloats", name := "narrowSort", desc := "(I)I" } : Jvm.MethodName) ({ cls := "Edgefloats", name := "narrowSort", desc := "(I)I" } : Jvm.MethodName)) ∈ lw_all := lw_g (lw_at lw_m6 158 rfl) rfl
theorem q1392 : (Jvm.Cond.code ({ cls := "Edgefloats", name := "narrowSort", desc := "(I)I" } : Jvm.MethodName) prog_1_method_55_code (5 : Nat) (Option.some Jvm.ClassFile.FieldType.int)) ∈ lw_all := lw_g (lw_at lw_m6 159 rfl) rfl
theorem q1393 : (Jvm.Cond.methodLink "Edgefloats" (300 : Nat) ({ cls := "Edgefloats", name := "isNarrowAhead", desc := "(Ljava/lang/Float;Ljava/lang/Float;I)Z" } : Jvm.MethodName)) ∈ lw_all := lw_g (lw_at lw_m6 160 rfl) rfl
theorem q1394 : (Jvm.Cond.static ({ cls := "Edgefloats", name := "isNarrowAhead", desc := "(Ljava/lang/Float;Ljava/lang/Float;I)Z" } : Jvm.MethodName)) ∈ lw_all := lw_g (lw_at lw_m6 161 rfl) rfl
theorem q1395 : (Jvm.Cond.code ({ cls := "Edgefloats", name := "isNarrowAhead", desc := "(Ljava/lang/Float;Ljava/lang/Float;I)Z" } : Jvm.MethodName) prog_1_method_57_code (3 : Nat) (Option.some Jvm.ClassFile.FieldType.boolean)) ∈ lw_all := lw_g (lw_at lw_m6 162 rfl) rfl
theorem q1396 : (Jvm.Cond.methodLink "Edgefloats" (304 : Nat) ({ cls := "Edgefloats", name := "change", desc := "([Ljava/lang/Float;I)V" } : Jvm.MethodName)) ∈ lw_all := lw_g (lw_at lw_m6 163 rfl) rfl
theorem q1397 : (Jvm.Cond.static ({ cls := "Edgefloats", name := "change", desc := "([Ljava/lang/Float;I)V" } : Jvm.MethodName)) ∈ lw_all := lw_g (lw_at lw_m6 164 rfl) rfl
theorem q1398 : (Jvm.Cond.code ({ cls := "Edgefloats", name := "change", desc := "([Ljava/lang/Float;I)V" } : Jvm.MethodName) prog_1_method_56_code (3 : Nat) (Option.none : Option Jvm.ClassFile.FieldType)) ∈ lw_all := lw_g (lw_at lw_m6 165 rfl) rfl
theorem q1403 : (Jvm.Cond.instanceMethod ({ cls := "Edgefloats", name := "narrowEnd", desc := "(ZI)I" } : Jvm.MethodName)) ∈ lw_all := lw_g (lw_at lw_m6 170 rfl) rfl
theorem q1404 : (Jvm.Cond.selects "Edgefloats" ({ cls := "Edgefloats", name := "narrowEnd", desc := "(ZI)I" } : Jvm.MethodName) ({ cls := "Edgefloats", name := "narrowEnd", desc := "(ZI)I" } : Jvm.MethodName)) ∈ lw_all := lw_g (lw_at lw_m6 171 rfl) rfl
theorem q1405 : (Jvm.Cond.code ({ cls := "Edgefloats", name := "narrowEnd", desc := "(ZI)I" } : Jvm.MethodName) prog_1_method_58_code (8 : Nat) (Option.some Jvm.ClassFile.FieldType.int)) ∈ lw_all := lw_g (lw_at lw_m6 172 rfl) rfl
theorem q1414 : (Jvm.Cond.instanceMethod ({ cls := "Edgefloats", name := "narrowText", desc := "(I)Ljava/lang/String;" } : Jvm.MethodName)) ∈ lw_all := lw_g (lw_at lw_m6 181 rfl) rfl
theorem q1415 : (Jvm.Cond.selects "Edgefloats" ({ cls := "Edgefloats", name := "narrowText", desc := "(I)Ljava/lang/String;" } : Jvm.MethodName) ({ cls := "Edgefloats", name := "narrowText", desc := "(I)Ljava/lang/String;" } : Jvm.MethodName)) ∈ lw_all := lw_g (lw_at lw_m6 182 rfl) rfl
theorem q1416 : (Jvm.Cond.code ({ cls := "Edgefloats", name := "narrowText", desc := "(I)Ljava/lang/String;" } : Jvm.MethodName) prog_1_method_60_code (5 : Nat) (Option.some (Jvm.ClassFile.FieldType.object "java/lang/String"))) ∈ lw_all := lw_g (lw_at lw_m6 183 rfl) rfl
theorem q1425 : (Jvm.Cond.instanceMethod ({ cls := "Edgefloats", name := "narrowSame", desc := "(III)Z" } : Jvm.MethodName)) ∈ lw_all := lw_g (lw_at lw_m6 192 rfl) rfl
theorem q1426 : (Jvm.Cond.selects "Edgefloats" ({ cls := "Edgefloats", name := "narrowSame", desc := "(III)Z" } : Jvm.MethodName) ({ cls := "Edgefloats", name := "narrowSame", desc := "(III)Z" } : Jvm.MethodName)) ∈ lw_all := lw_g (lw_at lw_m6 193 rfl) rfl
theorem q1427 : (Jvm.Cond.code ({ cls := "Edgefloats", name := "narrowSame", desc := "(III)Z" } : Jvm.MethodName) prog_1_method_62_code (7 : Nat) (Option.some Jvm.ClassFile.FieldType.boolean)) ∈ lw_all := lw_g (lw_at lw_m6 194 rfl) rfl
theorem q1432 : (Jvm.Cond.instanceMethod ({ cls := "Edgefloats", name := "narrowOther", desc := "(II)Z" } : Jvm.MethodName)) ∈ lw_all := lw_g (lw_at lw_m6 199 rfl) rfl
theorem q1433 : (Jvm.Cond.selects "Edgefloats" ({ cls := "Edgefloats", name := "narrowOther", desc := "(II)Z" } : Jvm.MethodName) ({ cls := "Edgefloats", name := "narrowOther", desc := "(II)Z" } : Jvm.MethodName)) ∈ lw_all := lw_g (lw_at lw_m6 200 rfl) rfl
theorem q1434 : (Jvm.Cond.code ({ cls := "Edgefloats", name := "narrowOther", desc := "(II)Z" } : Jvm.MethodName) prog_1_method_63_code (5 : Nat) (Option.some Jvm.ClassFile.FieldType.boolean)) ∈ lw_all := lw_g (lw_at lw_m6 201 rfl) rfl
theorem q1451 : (Jvm.Cond.instanceMethod ({ cls := "Edgefloats", name := "narrowEndless", desc := "(II)Z" } : Jvm.MethodName)) ∈ lw_all := lw_g (lw_at lw_m6 218 rfl) rfl
theorem q1452 : (Jvm.Cond.selects "Edgefloats" ({ cls := "Edgefloats", name := "narrowEndless", desc := "(II)Z" } : Jvm.MethodName) ({ cls := "Edgefloats", name := "narrowEndless", desc := "(II)Z" } : Jvm.MethodName)) ∈ lw_all := lw_g (lw_at lw_m6 219 rfl) rfl
theorem q1453 : (Jvm.Cond.code ({ cls := "Edgefloats", name := "narrowEndless", desc := "(II)Z" } : Jvm.MethodName) prog_1_method_67_code (4 : Nat) (Option.some Jvm.ClassFile.FieldType.boolean)) ∈ lw_all := lw_g (lw_at lw_m6 220 rfl) rfl
theorem q1454 : (Jvm.Cond.methodLink "Edgefloats" (316 : Nat) ({ cls := "java/lang/Float", name := "isInfinite", desc := "(F)Z" } : Jvm.MethodName)) ∈ lw_all := lw_g (lw_at lw_m6 221 rfl) rfl
theorem q1455 : (Jvm.Cond.methodLink "Edgefloats" (319 : Nat) ({ cls := "java/lang/Float", name := "isFinite", desc := "(F)Z" } : Jvm.MethodName)) ∈ lw_all := lw_g (lw_at lw_m6 222 rfl) rfl
theorem q1470 : (Jvm.Cond.instanceMethod ({ cls := "Edgefloats", name := "narrowHas", desc := "(I)Z" } : Jvm.MethodName)) ∈ lw_all := lw_g (lw_at lw_m6 237 rfl) rfl
theorem q1471 : (Jvm.Cond.selects "Edgefloats" ({ cls := "Edgefloats", name := "narrowHas", desc := "(I)Z" } : Jvm.MethodName) ({ cls := "Edgefloats", name := "narrowHas", desc := "(I)Z" } : Jvm.MethodName)) ∈ lw_all := lw_g (lw_at lw_m6 238 rfl) rfl
theorem q1472 : (Jvm.Cond.code ({ cls := "Edgefloats", name := "narrowHas", desc := "(I)Z" } : Jvm.MethodName) prog_1_method_70_code (8 : Nat) (Option.some Jvm.ClassFile.FieldType.boolean)) ∈ lw_all := lw_g (lw_at lw_m6 239 rfl) rfl
theorem in_X1 : ∀ w ∈ wsX10, w ∈ lw_all := lw_in wsX10 [111, 113, 115, 117, 119, 121] (by decide +kernel) (by decide +kernel)
/-! EdgefloatsModel -/
set_option maxRecDepth 100000
def RX2 : String := "EdgefloatsModel"
def TX2 : u_T := fun k => match k with
  | 0 => ("EdgefloatsModel", "wide", "LEdgefloatsModel$Row;", true)
  | 1 => ("EdgefloatsModel", "narrow", "LEdgefloatsModel$Row;", true)
  | 2 => ("EdgefloatsModel", "thrown", "I", false)
  | 3 => ("EdgefloatsModel", "refused", "I", false)
  | _ => ("EdgefloatsModel", "knocks", "I", false)
def tyX2 : Nat → FieldType := fun k => match k with
  | 0 => .object "EdgefloatsModel$Row"
  | 1 => .object "EdgefloatsModel$Row"
  | 2 => .int
  | 3 => .int
  | _ => .int
abbrev wsX20 : List Cond := u_ws RX2 TX2 5
theorem nmX2 : ∀ a, a < 5 → ∀ b, b < 5 → a ≠ b → (TX2 a).2.1 ≠ (TX2 b).2.1 := by decide +kernel
theorem tyX2_ok : ∀ k, k < 5 → parseFieldDescriptor (TX2 k).2.2.1 = some (tyX2 k) := by decide +kernel
abbrev cX2_init : ByteArray := prog_4_method_1_code
def yX2_init : MethodName := ⟨RX2, "<init>", "()V"⟩
def dkwX2_init_1 : List UInt8 := [187, 0, 9, 89, 16, 8, 16, 23, 20, 0, 22, 183, 0, 13, 181, 0, 24, 177]
abbrev dktX2_init_1 : List UInt8 := dkwX2_init_1 ++ []
def dkwX2_init_0 : List UInt8 := [42, 183, 0, 3, 42, 187, 0, 9, 89, 16, 11, 16, 52, 20, 0, 11, 183, 0, 13, 181, 0, 16, 42]
abbrev dktX2_init_0 : List UInt8 := dkwX2_init_0 ++ dktX2_init_1
theorem dksX2_init_0 : cX2_init.data.toList.drop 0 = dktX2_init_0 := by decide +kernel
theorem dksX2_init_1 : cX2_init.data.toList.drop 23 = dktX2_init_1 := dk_seg dksX2_init_0 23 rfl rfl
theorem dX2_init_0 : decode cX2_init 0 = .ok (.aload_n 0, 1) := dk_42 (dk_at dksX2_init_0 0 rfl rfl)
theorem dX2_init_1 : decode cX2_init 1 = .ok (.invokespecial 3, 3) := dk_183 0 3 (dk_at dksX2_init_0 1 rfl rfl)
theorem dX2_init_4 : decode cX2_init 4 = .ok (.aload_n 0, 1) := dk_42 (dk_at dksX2_init_0 4 rfl rfl)
theorem dX2_init_5 : decode cX2_init 5 = .ok (.new 9, 3) := dk_187 0 9 (dk_at dksX2_init_0 5 rfl rfl)
theorem dX2_init_8 : decode cX2_init 8 = .ok (.dup, 1) := dk_89 (dk_at dksX2_init_0 8 rfl rfl)
theorem dX2_init_9 : decode cX2_init 9 = .ok (.bipush 11, 2) := dk_16 11 (dk_at dksX2_init_0 9 rfl rfl)
theorem dX2_init_11 : decode cX2_init 11 = .ok (.bipush 52, 2) := dk_16 52 (dk_at dksX2_init_0 11 rfl rfl)
theorem dX2_init_13 : decode cX2_init 13 = .ok (.ldc2_w 11, 3) := dk_20 0 11 (dk_at dksX2_init_0 13 rfl rfl)
theorem dX2_init_16 : decode cX2_init 16 = .ok (.invokespecial 13, 3) := dk_183 0 13 (dk_at dksX2_init_0 16 rfl rfl)
theorem dX2_init_19 : decode cX2_init 19 = .ok (.putfield 16, 3) := dk_181 0 16 (dk_at dksX2_init_0 19 rfl rfl)
theorem dX2_init_22 : decode cX2_init 22 = .ok (.aload_n 0, 1) := dk_42 (dk_at dksX2_init_0 22 rfl rfl)
theorem dX2_init_23 : decode cX2_init 23 = .ok (.new 9, 3) := dk_187 0 9 (dk_at dksX2_init_1 0 rfl rfl)
theorem dX2_init_26 : decode cX2_init 26 = .ok (.dup, 1) := dk_89 (dk_at dksX2_init_1 3 rfl rfl)
theorem dX2_init_27 : decode cX2_init 27 = .ok (.bipush 8, 2) := dk_16 8 (dk_at dksX2_init_1 4 rfl rfl)
theorem dX2_init_29 : decode cX2_init 29 = .ok (.bipush 23, 2) := dk_16 23 (dk_at dksX2_init_1 6 rfl rfl)
theorem dX2_init_31 : decode cX2_init 31 = .ok (.ldc2_w 22, 3) := dk_20 0 22 (dk_at dksX2_init_1 8 rfl rfl)
theorem dX2_init_34 : decode cX2_init 34 = .ok (.invokespecial 13, 3) := dk_183 0 13 (dk_at dksX2_init_1 11 rfl rfl)
theorem dX2_init_37 : decode cX2_init 37 = .ok (.putfield 24, 3) := dk_181 0 24 (dk_at dksX2_init_1 14 rfl rfl)
theorem dX2_init_40 : decode cX2_init 40 = .ok (.return_, 1) := dk_177 (dk_at dksX2_init_1 17 rfl rfl)
abbrev cX2_thrown : ByteArray := prog_4_method_2_code
def yX2_thrown : MethodName := ⟨RX2, "thrown", "()I"⟩
theorem dX2_thrown_0 : decode cX2_thrown 0 = .ok (.aload_n 0, 1) := by decide +kernel
theorem dX2_thrown_1 : decode cX2_thrown 1 = .ok (.getfield 27, 3) := by decide +kernel
theorem dX2_thrown_4 : decode cX2_thrown 4 = .ok (.ireturn, 1) := by decide +kernel
abbrev cX2_putWide : ByteArray := prog_4_method_30_code
def yX2_putWide : MethodName := ⟨RX2, "putWide", "(III)I"⟩
def dkwX2_putWide_0 : List UInt8 := [42, 42, 180, 0, 16, 27, 28, 133, 16, 32, 121, 29, 133, 20, 0, 125, 127, 129, 182, 0, 127, 172]
abbrev dktX2_putWide_0 : List UInt8 := dkwX2_putWide_0 ++ []
theorem dksX2_putWide_0 : cX2_putWide.data.toList.drop 0 = dktX2_putWide_0 := by decide +kernel
theorem dX2_putWide_0 : decode cX2_putWide 0 = .ok (.aload_n 0, 1) := dk_42 (dk_at dksX2_putWide_0 0 rfl rfl)
theorem dX2_putWide_1 : decode cX2_putWide 1 = .ok (.aload_n 0, 1) := dk_42 (dk_at dksX2_putWide_0 1 rfl rfl)
theorem dX2_putWide_2 : decode cX2_putWide 2 = .ok (.getfield 16, 3) := dk_180 0 16 (dk_at dksX2_putWide_0 2 rfl rfl)
theorem dX2_putWide_5 : decode cX2_putWide 5 = .ok (.iload_n 1, 1) := dk_27 (dk_at dksX2_putWide_0 5 rfl rfl)
theorem dX2_putWide_6 : decode cX2_putWide 6 = .ok (.iload_n 2, 1) := dk_28 (dk_at dksX2_putWide_0 6 rfl rfl)
theorem dX2_putWide_7 : decode cX2_putWide 7 = .ok (.i2l, 1) := dk_133 (dk_at dksX2_putWide_0 7 rfl rfl)
theorem dX2_putWide_8 : decode cX2_putWide 8 = .ok (.bipush 32, 2) := dk_16 32 (dk_at dksX2_putWide_0 8 rfl rfl)
theorem dX2_putWide_10 : decode cX2_putWide 10 = .ok (.lshl, 1) := dk_121 (dk_at dksX2_putWide_0 10 rfl rfl)
theorem dX2_putWide_11 : decode cX2_putWide 11 = .ok (.iload_n 3, 1) := dk_29 (dk_at dksX2_putWide_0 11 rfl rfl)
theorem dX2_putWide_12 : decode cX2_putWide 12 = .ok (.i2l, 1) := dk_133 (dk_at dksX2_putWide_0 12 rfl rfl)
theorem dX2_putWide_13 : decode cX2_putWide 13 = .ok (.ldc2_w 125, 3) := dk_20 0 125 (dk_at dksX2_putWide_0 13 rfl rfl)
theorem dX2_putWide_16 : decode cX2_putWide 16 = .ok (.land, 1) := dk_127 (dk_at dksX2_putWide_0 16 rfl rfl)
theorem dX2_putWide_17 : decode cX2_putWide 17 = .ok (.lor, 1) := dk_129 (dk_at dksX2_putWide_0 17 rfl rfl)
theorem dX2_putWide_18 : decode cX2_putWide 18 = .ok (.invokevirtual 127, 3) := dk_182 0 127 (dk_at dksX2_putWide_0 18 rfl rfl)
theorem dX2_putWide_21 : decode cX2_putWide 21 = .ok (.ireturn, 1) := dk_172 (dk_at dksX2_putWide_0 21 rfl rfl)
abbrev cX2_put : ByteArray := prog_4_method_9_code
def yX2_put : MethodName := ⟨RX2, "put", "(LEdgefloatsModel$Row;IJ)I"⟩
def dkwX2_put_1 : List UInt8 := [42, 182, 0, 50, 167, 0, 9, 43, 28, 33, 182, 0, 54, 172]
abbrev dktX2_put_1 : List UInt8 := dkwX2_put_1 ++ []
def dkwX2_put_0 : List UInt8 := [42, 28, 184, 0, 35, 3, 182, 0, 42, 153, 0, 7, 3, 167, 0, 24, 43, 33, 182, 0, 46, 153, 0, 10]
abbrev dktX2_put_0 : List UInt8 := dkwX2_put_0 ++ dktX2_put_1
theorem dksX2_put_0 : cX2_put.data.toList.drop 0 = dktX2_put_0 := by decide +kernel
theorem dksX2_put_1 : cX2_put.data.toList.drop 24 = dktX2_put_1 := dk_seg dksX2_put_0 24 rfl rfl
theorem dX2_put_0 : decode cX2_put 0 = .ok (.aload_n 0, 1) := dk_42 (dk_at dksX2_put_0 0 rfl rfl)
theorem dX2_put_1 : decode cX2_put 1 = .ok (.iload_n 2, 1) := dk_28 (dk_at dksX2_put_0 1 rfl rfl)
theorem dX2_put_2 : decode cX2_put 2 = .ok (.invokestatic 35, 3) := dk_184 0 35 (dk_at dksX2_put_0 2 rfl rfl)
theorem dX2_put_5 : decode cX2_put 5 = .ok (.iconst 0, 1) := dk_3 (dk_at dksX2_put_0 5 rfl rfl)
theorem dX2_put_6 : decode cX2_put 6 = .ok (.invokevirtual 42, 3) := dk_182 0 42 (dk_at dksX2_put_0 6 rfl rfl)
theorem dX2_put_9 : decode cX2_put 9 = .ok (.ifCond .eq 7, 3) := dk_153 0 7 (dk_at dksX2_put_0 9 rfl rfl)
theorem dX2_put_12 : decode cX2_put 12 = .ok (.iconst 0, 1) := dk_3 (dk_at dksX2_put_0 12 rfl rfl)
theorem dX2_put_13 : decode cX2_put 13 = .ok (.goto 24, 3) := dk_167 0 24 (dk_at dksX2_put_0 13 rfl rfl)
theorem dX2_put_16 : decode cX2_put 16 = .ok (.aload_n 1, 1) := dk_43 (dk_at dksX2_put_0 16 rfl rfl)
theorem dX2_put_17 : decode cX2_put 17 = .ok (.lload_n 3, 1) := dk_33 (dk_at dksX2_put_0 17 rfl rfl)
theorem dX2_put_18 : decode cX2_put 18 = .ok (.invokevirtual 46, 3) := dk_182 0 46 (dk_at dksX2_put_0 18 rfl rfl)
theorem dX2_put_21 : decode cX2_put 21 = .ok (.ifCond .eq 10, 3) := dk_153 0 10 (dk_at dksX2_put_0 21 rfl rfl)
theorem dX2_put_24 : decode cX2_put 24 = .ok (.aload_n 0, 1) := dk_42 (dk_at dksX2_put_1 0 rfl rfl)
theorem dX2_put_25 : decode cX2_put 25 = .ok (.invokevirtual 50, 3) := dk_182 0 50 (dk_at dksX2_put_1 1 rfl rfl)
theorem dX2_put_28 : decode cX2_put 28 = .ok (.goto 9, 3) := dk_167 0 9 (dk_at dksX2_put_1 4 rfl rfl)
theorem dX2_put_31 : decode cX2_put 31 = .ok (.aload_n 1, 1) := dk_43 (dk_at dksX2_put_1 7 rfl rfl)
theorem dX2_put_32 : decode cX2_put 32 = .ok (.iload_n 2, 1) := dk_28 (dk_at dksX2_put_1 8 rfl rfl)
theorem dX2_put_33 : decode cX2_put 33 = .ok (.lload_n 3, 1) := dk_33 (dk_at dksX2_put_1 9 rfl rfl)
theorem dX2_put_34 : decode cX2_put 34 = .ok (.invokevirtual 54, 3) := dk_182 0 54 (dk_at dksX2_put_1 10 rfl rfl)
theorem dX2_put_37 : decode cX2_put 37 = .ok (.ireturn, 1) := dk_172 (dk_at dksX2_put_1 13 rfl rfl)
abbrev cX2_isNo : ByteArray := prog_4_method_5_code
def yX2_isNo : MethodName := ⟨RX2, "isNo", "(I)Z"⟩
def dkwX2_isNo_0 : List UInt8 := [26, 3, 16, 7, 184, 0, 31, 154, 0, 7, 4, 167, 0, 4, 3, 172]
abbrev dktX2_isNo_0 : List UInt8 := dkwX2_isNo_0 ++ []
theorem dksX2_isNo_0 : cX2_isNo.data.toList.drop 0 = dktX2_isNo_0 := by decide +kernel
theorem dX2_isNo_0 : decode cX2_isNo 0 = .ok (.iload_n 0, 1) := dk_26 (dk_at dksX2_isNo_0 0 rfl rfl)
theorem dX2_isNo_1 : decode cX2_isNo 1 = .ok (.iconst 0, 1) := dk_3 (dk_at dksX2_isNo_0 1 rfl rfl)
theorem dX2_isNo_2 : decode cX2_isNo 2 = .ok (.bipush 7, 2) := dk_16 7 (dk_at dksX2_isNo_0 2 rfl rfl)
theorem dX2_isNo_4 : decode cX2_isNo 4 = .ok (.invokestatic 31, 3) := dk_184 0 31 (dk_at dksX2_isNo_0 4 rfl rfl)
theorem dX2_isNo_7 : decode cX2_isNo 7 = .ok (.ifCond .ne 7, 3) := dk_154 0 7 (dk_at dksX2_isNo_0 7 rfl rfl)
theorem dX2_isNo_10 : decode cX2_isNo 10 = .ok (.iconst 1, 1) := dk_4 (dk_at dksX2_isNo_0 10 rfl rfl)
theorem dX2_isNo_11 : decode cX2_isNo 11 = .ok (.goto 4, 3) := dk_167 0 4 (dk_at dksX2_isNo_0 11 rfl rfl)
theorem dX2_isNo_14 : decode cX2_isNo 14 = .ok (.iconst 0, 1) := dk_3 (dk_at dksX2_isNo_0 14 rfl rfl)
theorem dX2_isNo_15 : decode cX2_isNo 15 = .ok (.ireturn, 1) := dk_172 (dk_at dksX2_isNo_0 15 rfl rfl)
abbrev cX2_isIn : ByteArray := prog_4_method_4_code
def yX2_isIn : MethodName := ⟨RX2, "isIn", "(III)Z"⟩
def dkwX2_isIn_0 : List UInt8 := [26, 27, 161, 0, 12, 26, 28, 163, 0, 7, 4, 167, 0, 4, 3, 172]
abbrev dktX2_isIn_0 : List UInt8 := dkwX2_isIn_0 ++ []
theorem dksX2_isIn_0 : cX2_isIn.data.toList.drop 0 = dktX2_isIn_0 := by decide +kernel
theorem dX2_isIn_0 : decode cX2_isIn 0 = .ok (.iload_n 0, 1) := dk_26 (dk_at dksX2_isIn_0 0 rfl rfl)
theorem dX2_isIn_1 : decode cX2_isIn 1 = .ok (.iload_n 1, 1) := dk_27 (dk_at dksX2_isIn_0 1 rfl rfl)
theorem dX2_isIn_2 : decode cX2_isIn 2 = .ok (.if_icmp .lt 12, 3) := dk_161 0 12 (dk_at dksX2_isIn_0 2 rfl rfl)
theorem dX2_isIn_5 : decode cX2_isIn 5 = .ok (.iload_n 0, 1) := dk_26 (dk_at dksX2_isIn_0 5 rfl rfl)
theorem dX2_isIn_6 : decode cX2_isIn 6 = .ok (.iload_n 2, 1) := dk_28 (dk_at dksX2_isIn_0 6 rfl rfl)
theorem dX2_isIn_7 : decode cX2_isIn 7 = .ok (.if_icmp .gt 7, 3) := dk_163 0 7 (dk_at dksX2_isIn_0 7 rfl rfl)
theorem dX2_isIn_10 : decode cX2_isIn 10 = .ok (.iconst 1, 1) := dk_4 (dk_at dksX2_isIn_0 10 rfl rfl)
theorem dX2_isIn_11 : decode cX2_isIn 11 = .ok (.goto 4, 3) := dk_167 0 4 (dk_at dksX2_isIn_0 11 rfl rfl)
theorem dX2_isIn_14 : decode cX2_isIn 14 = .ok (.iconst 0, 1) := dk_3 (dk_at dksX2_isIn_0 14 rfl rfl)
theorem dX2_isIn_15 : decode cX2_isIn 15 = .ok (.ireturn, 1) := dk_172 (dk_at dksX2_isIn_0 15 rfl rfl)
abbrev cX2_fails : ByteArray := prog_4_method_3_code
def yX2_fails : MethodName := ⟨RX2, "fails", "(ZZ)Z"⟩
def dkwX2_fails_1 : List UInt8 := [180, 0, 27, 158, 0, 7, 4, 167, 0, 4, 3, 172]
abbrev dktX2_fails_1 : List UInt8 := dkwX2_fails_1 ++ []
def dkwX2_fails_0 : List UInt8 := [42, 27, 153, 0, 7, 4, 167, 0, 12, 28, 153, 0, 7, 5, 167, 0, 4, 3, 181, 0, 27, 42]
abbrev dktX2_fails_0 : List UInt8 := dkwX2_fails_0 ++ dktX2_fails_1
theorem dksX2_fails_0 : cX2_fails.data.toList.drop 0 = dktX2_fails_0 := by decide +kernel
theorem dksX2_fails_1 : cX2_fails.data.toList.drop 22 = dktX2_fails_1 := dk_seg dksX2_fails_0 22 rfl rfl
theorem dX2_fails_0 : decode cX2_fails 0 = .ok (.aload_n 0, 1) := dk_42 (dk_at dksX2_fails_0 0 rfl rfl)
theorem dX2_fails_1 : decode cX2_fails 1 = .ok (.iload_n 1, 1) := dk_27 (dk_at dksX2_fails_0 1 rfl rfl)
theorem dX2_fails_2 : decode cX2_fails 2 = .ok (.ifCond .eq 7, 3) := dk_153 0 7 (dk_at dksX2_fails_0 2 rfl rfl)
theorem dX2_fails_5 : decode cX2_fails 5 = .ok (.iconst 1, 1) := dk_4 (dk_at dksX2_fails_0 5 rfl rfl)
theorem dX2_fails_6 : decode cX2_fails 6 = .ok (.goto 12, 3) := dk_167 0 12 (dk_at dksX2_fails_0 6 rfl rfl)
theorem dX2_fails_9 : decode cX2_fails 9 = .ok (.iload_n 2, 1) := dk_28 (dk_at dksX2_fails_0 9 rfl rfl)
theorem dX2_fails_10 : decode cX2_fails 10 = .ok (.ifCond .eq 7, 3) := dk_153 0 7 (dk_at dksX2_fails_0 10 rfl rfl)
theorem dX2_fails_13 : decode cX2_fails 13 = .ok (.iconst 2, 1) := dk_5 (dk_at dksX2_fails_0 13 rfl rfl)
theorem dX2_fails_14 : decode cX2_fails 14 = .ok (.goto 4, 3) := dk_167 0 4 (dk_at dksX2_fails_0 14 rfl rfl)
theorem dX2_fails_17 : decode cX2_fails 17 = .ok (.iconst 0, 1) := dk_3 (dk_at dksX2_fails_0 17 rfl rfl)
theorem dX2_fails_18 : decode cX2_fails 18 = .ok (.putfield 27, 3) := dk_181 0 27 (dk_at dksX2_fails_0 18 rfl rfl)
theorem dX2_fails_21 : decode cX2_fails 21 = .ok (.aload_n 0, 1) := dk_42 (dk_at dksX2_fails_0 21 rfl rfl)
theorem dX2_fails_22 : decode cX2_fails 22 = .ok (.getfield 27, 3) := dk_180 0 27 (dk_at dksX2_fails_1 0 rfl rfl)
theorem dX2_fails_25 : decode cX2_fails 25 = .ok (.ifCond .le 7, 3) := dk_158 0 7 (dk_at dksX2_fails_1 3 rfl rfl)
theorem dX2_fails_28 : decode cX2_fails 28 = .ok (.iconst 1, 1) := dk_4 (dk_at dksX2_fails_1 6 rfl rfl)
theorem dX2_fails_29 : decode cX2_fails 29 = .ok (.goto 4, 3) := dk_167 0 4 (dk_at dksX2_fails_1 7 rfl rfl)
theorem dX2_fails_32 : decode cX2_fails 32 = .ok (.iconst 0, 1) := dk_3 (dk_at dksX2_fails_1 10 rfl rfl)
theorem dX2_fails_33 : decode cX2_fails 33 = .ok (.ireturn, 1) := dk_172 (dk_at dksX2_fails_1 11 rfl rfl)
abbrev cX2_refuse : ByteArray := prog_4_method_8_code
def yX2_refuse : MethodName := ⟨RX2, "refuse", "()I"⟩
def dkwX2_refuse_0 : List UInt8 := [42, 89, 180, 0, 39, 4, 96, 181, 0, 39, 16, 247, 172]
abbrev dktX2_refuse_0 : List UInt8 := dkwX2_refuse_0 ++ []
theorem dksX2_refuse_0 : cX2_refuse.data.toList.drop 0 = dktX2_refuse_0 := by decide +kernel
theorem dX2_refuse_0 : decode cX2_refuse 0 = .ok (.aload_n 0, 1) := dk_42 (dk_at dksX2_refuse_0 0 rfl rfl)
theorem dX2_refuse_1 : decode cX2_refuse 1 = .ok (.dup, 1) := dk_89 (dk_at dksX2_refuse_0 1 rfl rfl)
theorem dX2_refuse_2 : decode cX2_refuse 2 = .ok (.getfield 39, 3) := dk_180 0 39 (dk_at dksX2_refuse_0 2 rfl rfl)
theorem dX2_refuse_5 : decode cX2_refuse 5 = .ok (.iconst 1, 1) := dk_4 (dk_at dksX2_refuse_0 5 rfl rfl)
theorem dX2_refuse_6 : decode cX2_refuse 6 = .ok (.iadd, 1) := dk_96 (dk_at dksX2_refuse_0 6 rfl rfl)
theorem dX2_refuse_7 : decode cX2_refuse 7 = .ok (.putfield 39, 3) := dk_181 0 39 (dk_at dksX2_refuse_0 7 rfl rfl)
theorem dX2_refuse_10 : decode cX2_refuse 10 = .ok (.bipush (-9), 2) := dk_16 247 (dk_at dksX2_refuse_0 10 rfl rfl)
theorem dX2_refuse_12 : decode cX2_refuse 12 = .ok (.ireturn, 1) := dk_172 (dk_at dksX2_refuse_0 12 rfl rfl)
abbrev cX2_wideQuarters : ByteArray := prog_4_method_31_code
def yX2_wideQuarters : MethodName := ⟨RX2, "wideQuarters", "(II)I"⟩
def dkwX2_wideQuarters_0 : List UInt8 := [42, 42, 180, 0, 16, 27, 28, 182, 0, 131, 172]
abbrev dktX2_wideQuarters_0 : List UInt8 := dkwX2_wideQuarters_0 ++ []
theorem dksX2_wideQuarters_0 : cX2_wideQuarters.data.toList.drop 0 = dktX2_wideQuarters_0 := by decide +kernel
theorem dX2_wideQuarters_0 : decode cX2_wideQuarters 0 = .ok (.aload_n 0, 1) := dk_42 (dk_at dksX2_wideQuarters_0 0 rfl rfl)
theorem dX2_wideQuarters_1 : decode cX2_wideQuarters 1 = .ok (.aload_n 0, 1) := dk_42 (dk_at dksX2_wideQuarters_0 1 rfl rfl)
theorem dX2_wideQuarters_2 : decode cX2_wideQuarters 2 = .ok (.getfield 16, 3) := dk_180 0 16 (dk_at dksX2_wideQuarters_0 2 rfl rfl)
theorem dX2_wideQuarters_5 : decode cX2_wideQuarters 5 = .ok (.iload_n 1, 1) := dk_27 (dk_at dksX2_wideQuarters_0 5 rfl rfl)
theorem dX2_wideQuarters_6 : decode cX2_wideQuarters 6 = .ok (.iload_n 2, 1) := dk_28 (dk_at dksX2_wideQuarters_0 6 rfl rfl)
theorem dX2_wideQuarters_7 : decode cX2_wideQuarters 7 = .ok (.invokevirtual 131, 3) := dk_182 0 131 (dk_at dksX2_wideQuarters_0 7 rfl rfl)
theorem dX2_wideQuarters_10 : decode cX2_wideQuarters 10 = .ok (.ireturn, 1) := dk_172 (dk_at dksX2_wideQuarters_0 10 rfl rfl)
abbrev cX2_quarters : ByteArray := prog_4_method_10_code
def yX2_quarters : MethodName := ⟨RX2, "quarters", "(LEdgefloatsModel$Row;II)I"⟩
def dkwX2_quarters_2 : List UInt8 := [182, 0, 62, 182, 0, 54, 172]
abbrev dktX2_quarters_2 : List UInt8 := dkwX2_quarters_2 ++ []
def dkwX2_quarters_1 : List UInt8 := [156, 0, 7, 4, 167, 0, 4, 3, 182, 0, 42, 153, 0, 7, 3, 167, 0, 14, 43, 28, 43, 29, 133]
abbrev dktX2_quarters_1 : List UInt8 := dkwX2_quarters_1 ++ dktX2_quarters_2
def dkwX2_quarters_0 : List UInt8 := [42, 28, 184, 0, 35, 29, 133, 43, 180, 0, 58, 148, 157, 0, 14, 29, 133, 43, 180, 0, 58, 117, 148]
abbrev dktX2_quarters_0 : List UInt8 := dkwX2_quarters_0 ++ dktX2_quarters_1
theorem dksX2_quarters_0 : cX2_quarters.data.toList.drop 0 = dktX2_quarters_0 := by decide +kernel
theorem dksX2_quarters_1 : cX2_quarters.data.toList.drop 23 = dktX2_quarters_1 := dk_seg dksX2_quarters_0 23 rfl rfl
theorem dksX2_quarters_2 : cX2_quarters.data.toList.drop 46 = dktX2_quarters_2 := dk_seg dksX2_quarters_1 23 rfl rfl
theorem dX2_quarters_0 : decode cX2_quarters 0 = .ok (.aload_n 0, 1) := dk_42 (dk_at dksX2_quarters_0 0 rfl rfl)
theorem dX2_quarters_1 : decode cX2_quarters 1 = .ok (.iload_n 2, 1) := dk_28 (dk_at dksX2_quarters_0 1 rfl rfl)
theorem dX2_quarters_2 : decode cX2_quarters 2 = .ok (.invokestatic 35, 3) := dk_184 0 35 (dk_at dksX2_quarters_0 2 rfl rfl)
theorem dX2_quarters_5 : decode cX2_quarters 5 = .ok (.iload_n 3, 1) := dk_29 (dk_at dksX2_quarters_0 5 rfl rfl)
theorem dX2_quarters_6 : decode cX2_quarters 6 = .ok (.i2l, 1) := dk_133 (dk_at dksX2_quarters_0 6 rfl rfl)
theorem dX2_quarters_7 : decode cX2_quarters 7 = .ok (.aload_n 1, 1) := dk_43 (dk_at dksX2_quarters_0 7 rfl rfl)
theorem dX2_quarters_8 : decode cX2_quarters 8 = .ok (.getfield 58, 3) := dk_180 0 58 (dk_at dksX2_quarters_0 8 rfl rfl)
theorem dX2_quarters_11 : decode cX2_quarters 11 = .ok (.lcmp, 1) := dk_148 (dk_at dksX2_quarters_0 11 rfl rfl)
theorem dX2_quarters_12 : decode cX2_quarters 12 = .ok (.ifCond .gt 14, 3) := dk_157 0 14 (dk_at dksX2_quarters_0 12 rfl rfl)
theorem dX2_quarters_15 : decode cX2_quarters 15 = .ok (.iload_n 3, 1) := dk_29 (dk_at dksX2_quarters_0 15 rfl rfl)
theorem dX2_quarters_16 : decode cX2_quarters 16 = .ok (.i2l, 1) := dk_133 (dk_at dksX2_quarters_0 16 rfl rfl)
theorem dX2_quarters_17 : decode cX2_quarters 17 = .ok (.aload_n 1, 1) := dk_43 (dk_at dksX2_quarters_0 17 rfl rfl)
theorem dX2_quarters_18 : decode cX2_quarters 18 = .ok (.getfield 58, 3) := dk_180 0 58 (dk_at dksX2_quarters_0 18 rfl rfl)
theorem dX2_quarters_21 : decode cX2_quarters 21 = .ok (.lneg, 1) := dk_117 (dk_at dksX2_quarters_0 21 rfl rfl)
theorem dX2_quarters_22 : decode cX2_quarters 22 = .ok (.lcmp, 1) := dk_148 (dk_at dksX2_quarters_0 22 rfl rfl)
theorem dX2_quarters_23 : decode cX2_quarters 23 = .ok (.ifCond .ge 7, 3) := dk_156 0 7 (dk_at dksX2_quarters_1 0 rfl rfl)
theorem dX2_quarters_26 : decode cX2_quarters 26 = .ok (.iconst 1, 1) := dk_4 (dk_at dksX2_quarters_1 3 rfl rfl)
theorem dX2_quarters_27 : decode cX2_quarters 27 = .ok (.goto 4, 3) := dk_167 0 4 (dk_at dksX2_quarters_1 4 rfl rfl)
theorem dX2_quarters_30 : decode cX2_quarters 30 = .ok (.iconst 0, 1) := dk_3 (dk_at dksX2_quarters_1 7 rfl rfl)
theorem dX2_quarters_31 : decode cX2_quarters 31 = .ok (.invokevirtual 42, 3) := dk_182 0 42 (dk_at dksX2_quarters_1 8 rfl rfl)
theorem dX2_quarters_34 : decode cX2_quarters 34 = .ok (.ifCond .eq 7, 3) := dk_153 0 7 (dk_at dksX2_quarters_1 11 rfl rfl)
theorem dX2_quarters_37 : decode cX2_quarters 37 = .ok (.iconst 0, 1) := dk_3 (dk_at dksX2_quarters_1 14 rfl rfl)
theorem dX2_quarters_38 : decode cX2_quarters 38 = .ok (.goto 14, 3) := dk_167 0 14 (dk_at dksX2_quarters_1 15 rfl rfl)
theorem dX2_quarters_41 : decode cX2_quarters 41 = .ok (.aload_n 1, 1) := dk_43 (dk_at dksX2_quarters_1 18 rfl rfl)
theorem dX2_quarters_42 : decode cX2_quarters 42 = .ok (.iload_n 2, 1) := dk_28 (dk_at dksX2_quarters_1 19 rfl rfl)
theorem dX2_quarters_43 : decode cX2_quarters 43 = .ok (.aload_n 1, 1) := dk_43 (dk_at dksX2_quarters_1 20 rfl rfl)
theorem dX2_quarters_44 : decode cX2_quarters 44 = .ok (.iload_n 3, 1) := dk_29 (dk_at dksX2_quarters_1 21 rfl rfl)
theorem dX2_quarters_45 : decode cX2_quarters 45 = .ok (.i2l, 1) := dk_133 (dk_at dksX2_quarters_1 22 rfl rfl)
theorem dX2_quarters_46 : decode cX2_quarters 46 = .ok (.invokevirtual 62, 3) := dk_182 0 62 (dk_at dksX2_quarters_2 0 rfl rfl)
theorem dX2_quarters_49 : decode cX2_quarters 49 = .ok (.invokevirtual 54, 3) := dk_182 0 54 (dk_at dksX2_quarters_2 3 rfl rfl)
theorem dX2_quarters_52 : decode cX2_quarters 52 = .ok (.ireturn, 1) := dk_172 (dk_at dksX2_quarters_2 6 rfl rfl)
abbrev cX2_wideKnown : ByteArray := prog_4_method_32_code
def yX2_wideKnown : MethodName := ⟨RX2, "wideKnown", "(II)I"⟩
def dkwX2_wideKnown_0 : List UInt8 := [42, 42, 180, 0, 16, 27, 28, 182, 0, 135, 172]
abbrev dktX2_wideKnown_0 : List UInt8 := dkwX2_wideKnown_0 ++ []
theorem dksX2_wideKnown_0 : cX2_wideKnown.data.toList.drop 0 = dktX2_wideKnown_0 := by decide +kernel
theorem dX2_wideKnown_0 : decode cX2_wideKnown 0 = .ok (.aload_n 0, 1) := dk_42 (dk_at dksX2_wideKnown_0 0 rfl rfl)
theorem dX2_wideKnown_1 : decode cX2_wideKnown 1 = .ok (.aload_n 0, 1) := dk_42 (dk_at dksX2_wideKnown_0 1 rfl rfl)
theorem dX2_wideKnown_2 : decode cX2_wideKnown 2 = .ok (.getfield 16, 3) := dk_180 0 16 (dk_at dksX2_wideKnown_0 2 rfl rfl)
theorem dX2_wideKnown_5 : decode cX2_wideKnown 5 = .ok (.iload_n 1, 1) := dk_27 (dk_at dksX2_wideKnown_0 5 rfl rfl)
theorem dX2_wideKnown_6 : decode cX2_wideKnown 6 = .ok (.iload_n 2, 1) := dk_28 (dk_at dksX2_wideKnown_0 6 rfl rfl)
theorem dX2_wideKnown_7 : decode cX2_wideKnown 7 = .ok (.invokevirtual 135, 3) := dk_182 0 135 (dk_at dksX2_wideKnown_0 7 rfl rfl)
theorem dX2_wideKnown_10 : decode cX2_wideKnown 10 = .ok (.ireturn, 1) := dk_172 (dk_at dksX2_wideKnown_0 10 rfl rfl)
abbrev cX2_known : ByteArray := prog_4_method_11_code
def yX2_known : MethodName := ⟨RX2, "known", "(LEdgefloatsModel$Row;II)I"⟩
def dkwX2_known_1 : List UInt8 := [153, 0, 7, 3, 167, 0, 13, 43, 28, 43, 29, 182, 0, 66, 182, 0, 54, 172]
abbrev dktX2_known_1 : List UInt8 := dkwX2_known_1 ++ []
def dkwX2_known_0 : List UInt8 := [42, 28, 184, 0, 35, 29, 3, 16, 6, 184, 0, 31, 154, 0, 7, 4, 167, 0, 4, 3, 182, 0, 42]
abbrev dktX2_known_0 : List UInt8 := dkwX2_known_0 ++ dktX2_known_1
theorem dksX2_known_0 : cX2_known.data.toList.drop 0 = dktX2_known_0 := by decide +kernel
theorem dksX2_known_1 : cX2_known.data.toList.drop 23 = dktX2_known_1 := dk_seg dksX2_known_0 23 rfl rfl
theorem dX2_known_0 : decode cX2_known 0 = .ok (.aload_n 0, 1) := dk_42 (dk_at dksX2_known_0 0 rfl rfl)
theorem dX2_known_1 : decode cX2_known 1 = .ok (.iload_n 2, 1) := dk_28 (dk_at dksX2_known_0 1 rfl rfl)
theorem dX2_known_2 : decode cX2_known 2 = .ok (.invokestatic 35, 3) := dk_184 0 35 (dk_at dksX2_known_0 2 rfl rfl)
theorem dX2_known_5 : decode cX2_known 5 = .ok (.iload_n 3, 1) := dk_29 (dk_at dksX2_known_0 5 rfl rfl)
theorem dX2_known_6 : decode cX2_known 6 = .ok (.iconst 0, 1) := dk_3 (dk_at dksX2_known_0 6 rfl rfl)
theorem dX2_known_7 : decode cX2_known 7 = .ok (.bipush 6, 2) := dk_16 6 (dk_at dksX2_known_0 7 rfl rfl)
theorem dX2_known_9 : decode cX2_known 9 = .ok (.invokestatic 31, 3) := dk_184 0 31 (dk_at dksX2_known_0 9 rfl rfl)
theorem dX2_known_12 : decode cX2_known 12 = .ok (.ifCond .ne 7, 3) := dk_154 0 7 (dk_at dksX2_known_0 12 rfl rfl)
theorem dX2_known_15 : decode cX2_known 15 = .ok (.iconst 1, 1) := dk_4 (dk_at dksX2_known_0 15 rfl rfl)
theorem dX2_known_16 : decode cX2_known 16 = .ok (.goto 4, 3) := dk_167 0 4 (dk_at dksX2_known_0 16 rfl rfl)
theorem dX2_known_19 : decode cX2_known 19 = .ok (.iconst 0, 1) := dk_3 (dk_at dksX2_known_0 19 rfl rfl)
theorem dX2_known_20 : decode cX2_known 20 = .ok (.invokevirtual 42, 3) := dk_182 0 42 (dk_at dksX2_known_0 20 rfl rfl)
theorem dX2_known_23 : decode cX2_known 23 = .ok (.ifCond .eq 7, 3) := dk_153 0 7 (dk_at dksX2_known_1 0 rfl rfl)
theorem dX2_known_26 : decode cX2_known 26 = .ok (.iconst 0, 1) := dk_3 (dk_at dksX2_known_1 3 rfl rfl)
theorem dX2_known_27 : decode cX2_known 27 = .ok (.goto 13, 3) := dk_167 0 13 (dk_at dksX2_known_1 4 rfl rfl)
theorem dX2_known_30 : decode cX2_known 30 = .ok (.aload_n 1, 1) := dk_43 (dk_at dksX2_known_1 7 rfl rfl)
theorem dX2_known_31 : decode cX2_known 31 = .ok (.iload_n 2, 1) := dk_28 (dk_at dksX2_known_1 8 rfl rfl)
theorem dX2_known_32 : decode cX2_known 32 = .ok (.aload_n 1, 1) := dk_43 (dk_at dksX2_known_1 9 rfl rfl)
theorem dX2_known_33 : decode cX2_known 33 = .ok (.iload_n 3, 1) := dk_29 (dk_at dksX2_known_1 10 rfl rfl)
theorem dX2_known_34 : decode cX2_known 34 = .ok (.invokevirtual 66, 3) := dk_182 0 66 (dk_at dksX2_known_1 11 rfl rfl)
theorem dX2_known_37 : decode cX2_known 37 = .ok (.invokevirtual 54, 3) := dk_182 0 54 (dk_at dksX2_known_1 14 rfl rfl)
theorem dX2_known_40 : decode cX2_known 40 = .ok (.ireturn, 1) := dk_172 (dk_at dksX2_known_1 17 rfl rfl)
abbrev cX2_wideCopy : ByteArray := prog_4_method_33_code
def yX2_wideCopy : MethodName := ⟨RX2, "wideCopy", "(II)I"⟩
def dkwX2_wideCopy_0 : List UInt8 := [42, 42, 180, 0, 16, 27, 28, 182, 0, 137, 172]
abbrev dktX2_wideCopy_0 : List UInt8 := dkwX2_wideCopy_0 ++ []
theorem dksX2_wideCopy_0 : cX2_wideCopy.data.toList.drop 0 = dktX2_wideCopy_0 := by decide +kernel
theorem dX2_wideCopy_0 : decode cX2_wideCopy 0 = .ok (.aload_n 0, 1) := dk_42 (dk_at dksX2_wideCopy_0 0 rfl rfl)
theorem dX2_wideCopy_1 : decode cX2_wideCopy 1 = .ok (.aload_n 0, 1) := dk_42 (dk_at dksX2_wideCopy_0 1 rfl rfl)
theorem dX2_wideCopy_2 : decode cX2_wideCopy 2 = .ok (.getfield 16, 3) := dk_180 0 16 (dk_at dksX2_wideCopy_0 2 rfl rfl)
theorem dX2_wideCopy_5 : decode cX2_wideCopy 5 = .ok (.iload_n 1, 1) := dk_27 (dk_at dksX2_wideCopy_0 5 rfl rfl)
theorem dX2_wideCopy_6 : decode cX2_wideCopy 6 = .ok (.iload_n 2, 1) := dk_28 (dk_at dksX2_wideCopy_0 6 rfl rfl)
theorem dX2_wideCopy_7 : decode cX2_wideCopy 7 = .ok (.invokevirtual 137, 3) := dk_182 0 137 (dk_at dksX2_wideCopy_0 7 rfl rfl)
theorem dX2_wideCopy_10 : decode cX2_wideCopy 10 = .ok (.ireturn, 1) := dk_172 (dk_at dksX2_wideCopy_0 10 rfl rfl)
abbrev cX2_copy : ByteArray := prog_4_method_12_code
def yX2_copy : MethodName := ⟨RX2, "copy", "(LEdgefloatsModel$Row;II)I"⟩
def dkwX2_copy_1 : List UInt8 := [47, 182, 0, 54, 172]
abbrev dktX2_copy_1 : List UInt8 := dkwX2_copy_1 ++ []
def dkwX2_copy_0 : List UInt8 := [42, 28, 29, 184, 0, 70, 3, 182, 0, 42, 153, 0, 7, 3, 167, 0, 14, 43, 29, 43, 180, 0, 74, 28]
abbrev dktX2_copy_0 : List UInt8 := dkwX2_copy_0 ++ dktX2_copy_1
theorem dksX2_copy_0 : cX2_copy.data.toList.drop 0 = dktX2_copy_0 := by decide +kernel
theorem dksX2_copy_1 : cX2_copy.data.toList.drop 24 = dktX2_copy_1 := dk_seg dksX2_copy_0 24 rfl rfl
theorem dX2_copy_0 : decode cX2_copy 0 = .ok (.aload_n 0, 1) := dk_42 (dk_at dksX2_copy_0 0 rfl rfl)
theorem dX2_copy_1 : decode cX2_copy 1 = .ok (.iload_n 2, 1) := dk_28 (dk_at dksX2_copy_0 1 rfl rfl)
theorem dX2_copy_2 : decode cX2_copy 2 = .ok (.iload_n 3, 1) := dk_29 (dk_at dksX2_copy_0 2 rfl rfl)
theorem dX2_copy_3 : decode cX2_copy 3 = .ok (.invokestatic 70, 3) := dk_184 0 70 (dk_at dksX2_copy_0 3 rfl rfl)
theorem dX2_copy_6 : decode cX2_copy 6 = .ok (.iconst 0, 1) := dk_3 (dk_at dksX2_copy_0 6 rfl rfl)
theorem dX2_copy_7 : decode cX2_copy 7 = .ok (.invokevirtual 42, 3) := dk_182 0 42 (dk_at dksX2_copy_0 7 rfl rfl)
theorem dX2_copy_10 : decode cX2_copy 10 = .ok (.ifCond .eq 7, 3) := dk_153 0 7 (dk_at dksX2_copy_0 10 rfl rfl)
theorem dX2_copy_13 : decode cX2_copy 13 = .ok (.iconst 0, 1) := dk_3 (dk_at dksX2_copy_0 13 rfl rfl)
theorem dX2_copy_14 : decode cX2_copy 14 = .ok (.goto 14, 3) := dk_167 0 14 (dk_at dksX2_copy_0 14 rfl rfl)
theorem dX2_copy_17 : decode cX2_copy 17 = .ok (.aload_n 1, 1) := dk_43 (dk_at dksX2_copy_0 17 rfl rfl)
theorem dX2_copy_18 : decode cX2_copy 18 = .ok (.iload_n 3, 1) := dk_29 (dk_at dksX2_copy_0 18 rfl rfl)
theorem dX2_copy_19 : decode cX2_copy 19 = .ok (.aload_n 1, 1) := dk_43 (dk_at dksX2_copy_0 19 rfl rfl)
theorem dX2_copy_20 : decode cX2_copy 20 = .ok (.getfield 74, 3) := dk_180 0 74 (dk_at dksX2_copy_0 20 rfl rfl)
theorem dX2_copy_23 : decode cX2_copy 23 = .ok (.iload_n 2, 1) := dk_28 (dk_at dksX2_copy_0 23 rfl rfl)
theorem dX2_copy_24 : decode cX2_copy 24 = .ok (.laload, 1) := dk_47 (dk_at dksX2_copy_1 0 rfl rfl)
theorem dX2_copy_25 : decode cX2_copy 25 = .ok (.invokevirtual 54, 3) := dk_182 0 54 (dk_at dksX2_copy_1 1 rfl rfl)
theorem dX2_copy_28 : decode cX2_copy 28 = .ok (.ireturn, 1) := dk_172 (dk_at dksX2_copy_1 4 rfl rfl)
abbrev cX2_areNo : ByteArray := prog_4_method_6_code
def yX2_areNo : MethodName := ⟨RX2, "areNo", "(II)Z"⟩
def dkwX2_areNo_0 : List UInt8 := [26, 184, 0, 35, 154, 0, 10, 27, 184, 0, 35, 153, 0, 7, 4, 167, 0, 4, 3, 172]
abbrev dktX2_areNo_0 : List UInt8 := dkwX2_areNo_0 ++ []
theorem dksX2_areNo_0 : cX2_areNo.data.toList.drop 0 = dktX2_areNo_0 := by decide +kernel
theorem dX2_areNo_0 : decode cX2_areNo 0 = .ok (.iload_n 0, 1) := dk_26 (dk_at dksX2_areNo_0 0 rfl rfl)
theorem dX2_areNo_1 : decode cX2_areNo 1 = .ok (.invokestatic 35, 3) := dk_184 0 35 (dk_at dksX2_areNo_0 1 rfl rfl)
theorem dX2_areNo_4 : decode cX2_areNo 4 = .ok (.ifCond .ne 10, 3) := dk_154 0 10 (dk_at dksX2_areNo_0 4 rfl rfl)
theorem dX2_areNo_7 : decode cX2_areNo 7 = .ok (.iload_n 1, 1) := dk_27 (dk_at dksX2_areNo_0 7 rfl rfl)
theorem dX2_areNo_8 : decode cX2_areNo 8 = .ok (.invokestatic 35, 3) := dk_184 0 35 (dk_at dksX2_areNo_0 8 rfl rfl)
theorem dX2_areNo_11 : decode cX2_areNo 11 = .ok (.ifCond .eq 7, 3) := dk_153 0 7 (dk_at dksX2_areNo_0 11 rfl rfl)
theorem dX2_areNo_14 : decode cX2_areNo 14 = .ok (.iconst 1, 1) := dk_4 (dk_at dksX2_areNo_0 14 rfl rfl)
theorem dX2_areNo_15 : decode cX2_areNo 15 = .ok (.goto 4, 3) := dk_167 0 4 (dk_at dksX2_areNo_0 15 rfl rfl)
theorem dX2_areNo_18 : decode cX2_areNo 18 = .ok (.iconst 0, 1) := dk_3 (dk_at dksX2_areNo_0 18 rfl rfl)
theorem dX2_areNo_19 : decode cX2_areNo 19 = .ok (.ireturn, 1) := dk_172 (dk_at dksX2_areNo_0 19 rfl rfl)
abbrev cX2_wideSwap : ByteArray := prog_4_method_34_code
def yX2_wideSwap : MethodName := ⟨RX2, "wideSwap", "(II)I"⟩
def dkwX2_wideSwap_0 : List UInt8 := [42, 42, 180, 0, 16, 27, 28, 182, 0, 140, 172]
abbrev dktX2_wideSwap_0 : List UInt8 := dkwX2_wideSwap_0 ++ []
theorem dksX2_wideSwap_0 : cX2_wideSwap.data.toList.drop 0 = dktX2_wideSwap_0 := by decide +kernel
theorem dX2_wideSwap_0 : decode cX2_wideSwap 0 = .ok (.aload_n 0, 1) := dk_42 (dk_at dksX2_wideSwap_0 0 rfl rfl)
theorem dX2_wideSwap_1 : decode cX2_wideSwap 1 = .ok (.aload_n 0, 1) := dk_42 (dk_at dksX2_wideSwap_0 1 rfl rfl)
theorem dX2_wideSwap_2 : decode cX2_wideSwap 2 = .ok (.getfield 16, 3) := dk_180 0 16 (dk_at dksX2_wideSwap_0 2 rfl rfl)
theorem dX2_wideSwap_5 : decode cX2_wideSwap 5 = .ok (.iload_n 1, 1) := dk_27 (dk_at dksX2_wideSwap_0 5 rfl rfl)
theorem dX2_wideSwap_6 : decode cX2_wideSwap 6 = .ok (.iload_n 2, 1) := dk_28 (dk_at dksX2_wideSwap_0 6 rfl rfl)
theorem dX2_wideSwap_7 : decode cX2_wideSwap 7 = .ok (.invokevirtual 140, 3) := dk_182 0 140 (dk_at dksX2_wideSwap_0 7 rfl rfl)
theorem dX2_wideSwap_10 : decode cX2_wideSwap 10 = .ok (.ireturn, 1) := dk_172 (dk_at dksX2_wideSwap_0 10 rfl rfl)
abbrev cX2_swap : ByteArray := prog_4_method_13_code
def yX2_swap : MethodName := ⟨RX2, "swap", "(LEdgefloatsModel$Row;II)I"⟩
def dkwX2_swap_0 : List UInt8 := [42, 28, 29, 184, 0, 70, 3, 182, 0, 42, 153, 0, 7, 3, 167, 0, 9, 43, 28, 29, 182, 0, 78, 172]
abbrev dktX2_swap_0 : List UInt8 := dkwX2_swap_0 ++ []
theorem dksX2_swap_0 : cX2_swap.data.toList.drop 0 = dktX2_swap_0 := by decide +kernel
theorem dX2_swap_0 : decode cX2_swap 0 = .ok (.aload_n 0, 1) := dk_42 (dk_at dksX2_swap_0 0 rfl rfl)
theorem dX2_swap_1 : decode cX2_swap 1 = .ok (.iload_n 2, 1) := dk_28 (dk_at dksX2_swap_0 1 rfl rfl)
theorem dX2_swap_2 : decode cX2_swap 2 = .ok (.iload_n 3, 1) := dk_29 (dk_at dksX2_swap_0 2 rfl rfl)
theorem dX2_swap_3 : decode cX2_swap 3 = .ok (.invokestatic 70, 3) := dk_184 0 70 (dk_at dksX2_swap_0 3 rfl rfl)
theorem dX2_swap_6 : decode cX2_swap 6 = .ok (.iconst 0, 1) := dk_3 (dk_at dksX2_swap_0 6 rfl rfl)
theorem dX2_swap_7 : decode cX2_swap 7 = .ok (.invokevirtual 42, 3) := dk_182 0 42 (dk_at dksX2_swap_0 7 rfl rfl)
theorem dX2_swap_10 : decode cX2_swap 10 = .ok (.ifCond .eq 7, 3) := dk_153 0 7 (dk_at dksX2_swap_0 10 rfl rfl)
theorem dX2_swap_13 : decode cX2_swap 13 = .ok (.iconst 0, 1) := dk_3 (dk_at dksX2_swap_0 13 rfl rfl)
theorem dX2_swap_14 : decode cX2_swap 14 = .ok (.goto 9, 3) := dk_167 0 9 (dk_at dksX2_swap_0 14 rfl rfl)
theorem dX2_swap_17 : decode cX2_swap 17 = .ok (.aload_n 1, 1) := dk_43 (dk_at dksX2_swap_0 17 rfl rfl)
theorem dX2_swap_18 : decode cX2_swap 18 = .ok (.iload_n 2, 1) := dk_28 (dk_at dksX2_swap_0 18 rfl rfl)
theorem dX2_swap_19 : decode cX2_swap 19 = .ok (.iload_n 3, 1) := dk_29 (dk_at dksX2_swap_0 19 rfl rfl)
theorem dX2_swap_20 : decode cX2_swap 20 = .ok (.invokevirtual 78, 3) := dk_182 0 78 (dk_at dksX2_swap_0 20 rfl rfl)
theorem dX2_swap_23 : decode cX2_swap 23 = .ok (.ireturn, 1) := dk_172 (dk_at dksX2_swap_0 23 rfl rfl)
abbrev cX2_wideMax : ByteArray := prog_4_method_35_code
def yX2_wideMax : MethodName := ⟨RX2, "wideMax", "(III)I"⟩
def dkwX2_wideMax_0 : List UInt8 := [42, 42, 180, 0, 16, 27, 28, 29, 4, 182, 0, 142, 172]
abbrev dktX2_wideMax_0 : List UInt8 := dkwX2_wideMax_0 ++ []
theorem dksX2_wideMax_0 : cX2_wideMax.data.toList.drop 0 = dktX2_wideMax_0 := by decide +kernel
theorem dX2_wideMax_0 : decode cX2_wideMax 0 = .ok (.aload_n 0, 1) := dk_42 (dk_at dksX2_wideMax_0 0 rfl rfl)
theorem dX2_wideMax_1 : decode cX2_wideMax 1 = .ok (.aload_n 0, 1) := dk_42 (dk_at dksX2_wideMax_0 1 rfl rfl)
theorem dX2_wideMax_2 : decode cX2_wideMax 2 = .ok (.getfield 16, 3) := dk_180 0 16 (dk_at dksX2_wideMax_0 2 rfl rfl)
theorem dX2_wideMax_5 : decode cX2_wideMax 5 = .ok (.iload_n 1, 1) := dk_27 (dk_at dksX2_wideMax_0 5 rfl rfl)
theorem dX2_wideMax_6 : decode cX2_wideMax 6 = .ok (.iload_n 2, 1) := dk_28 (dk_at dksX2_wideMax_0 6 rfl rfl)
theorem dX2_wideMax_7 : decode cX2_wideMax 7 = .ok (.iload_n 3, 1) := dk_29 (dk_at dksX2_wideMax_0 7 rfl rfl)
theorem dX2_wideMax_8 : decode cX2_wideMax 8 = .ok (.iconst 1, 1) := dk_4 (dk_at dksX2_wideMax_0 8 rfl rfl)
theorem dX2_wideMax_9 : decode cX2_wideMax 9 = .ok (.invokevirtual 142, 3) := dk_182 0 142 (dk_at dksX2_wideMax_0 9 rfl rfl)
theorem dX2_wideMax_12 : decode cX2_wideMax 12 = .ok (.ireturn, 1) := dk_172 (dk_at dksX2_wideMax_0 12 rfl rfl)
abbrev cX2_choose : ByteArray := prog_4_method_14_code
def yX2_choose : MethodName := ⟨RX2, "choose", "(LEdgefloatsModel$Row;IIII)I"⟩
def dkwX2_choose_3 : List UInt8 := [28, 167, 0, 4, 29, 47, 182, 0, 54, 172]
abbrev dktX2_choose_3 : List UInt8 := dkwX2_choose_3 ++ []
def dkwX2_choose_2 : List UInt8 := [21, 5, 160, 0, 7, 4, 167, 0, 4, 3, 54, 6, 43, 21, 4, 43, 180, 0, 74, 21, 6, 153, 0, 7]
abbrev dktX2_choose_2 : List UInt8 := dkwX2_choose_2 ++ dktX2_choose_3
def dkwX2_choose_1 : List UInt8 := [182, 0, 42, 153, 0, 5, 3, 172, 43, 43, 180, 0, 74, 28, 47, 43, 180, 0, 74, 29, 47, 182, 0, 82]
abbrev dktX2_choose_1 : List UInt8 := dkwX2_choose_1 ++ dktX2_choose_2
def dkwX2_choose_0 : List UInt8 := [42, 28, 29, 184, 0, 70, 154, 0, 11, 21, 4, 184, 0, 35, 153, 0, 7, 4, 167, 0, 4, 3, 3]
abbrev dktX2_choose_0 : List UInt8 := dkwX2_choose_0 ++ dktX2_choose_1
theorem dksX2_choose_0 : cX2_choose.data.toList.drop 0 = dktX2_choose_0 := by decide +kernel
theorem dksX2_choose_1 : cX2_choose.data.toList.drop 23 = dktX2_choose_1 := dk_seg dksX2_choose_0 23 rfl rfl
theorem dksX2_choose_2 : cX2_choose.data.toList.drop 47 = dktX2_choose_2 := dk_seg dksX2_choose_1 24 rfl rfl
theorem dksX2_choose_3 : cX2_choose.data.toList.drop 71 = dktX2_choose_3 := dk_seg dksX2_choose_2 24 rfl rfl
theorem dX2_choose_0 : decode cX2_choose 0 = .ok (.aload_n 0, 1) := dk_42 (dk_at dksX2_choose_0 0 rfl rfl)
theorem dX2_choose_1 : decode cX2_choose 1 = .ok (.iload_n 2, 1) := dk_28 (dk_at dksX2_choose_0 1 rfl rfl)
theorem dX2_choose_2 : decode cX2_choose 2 = .ok (.iload_n 3, 1) := dk_29 (dk_at dksX2_choose_0 2 rfl rfl)
theorem dX2_choose_3 : decode cX2_choose 3 = .ok (.invokestatic 70, 3) := dk_184 0 70 (dk_at dksX2_choose_0 3 rfl rfl)
theorem dX2_choose_6 : decode cX2_choose 6 = .ok (.ifCond .ne 11, 3) := dk_154 0 11 (dk_at dksX2_choose_0 6 rfl rfl)
theorem dX2_choose_9 : decode cX2_choose 9 = .ok (.iload 4, 2) := dk_21 4 (dk_at dksX2_choose_0 9 rfl rfl)
theorem dX2_choose_11 : decode cX2_choose 11 = .ok (.invokestatic 35, 3) := dk_184 0 35 (dk_at dksX2_choose_0 11 rfl rfl)
theorem dX2_choose_14 : decode cX2_choose 14 = .ok (.ifCond .eq 7, 3) := dk_153 0 7 (dk_at dksX2_choose_0 14 rfl rfl)
theorem dX2_choose_17 : decode cX2_choose 17 = .ok (.iconst 1, 1) := dk_4 (dk_at dksX2_choose_0 17 rfl rfl)
theorem dX2_choose_18 : decode cX2_choose 18 = .ok (.goto 4, 3) := dk_167 0 4 (dk_at dksX2_choose_0 18 rfl rfl)
theorem dX2_choose_21 : decode cX2_choose 21 = .ok (.iconst 0, 1) := dk_3 (dk_at dksX2_choose_0 21 rfl rfl)
theorem dX2_choose_22 : decode cX2_choose 22 = .ok (.iconst 0, 1) := dk_3 (dk_at dksX2_choose_0 22 rfl rfl)
theorem dX2_choose_23 : decode cX2_choose 23 = .ok (.invokevirtual 42, 3) := dk_182 0 42 (dk_at dksX2_choose_1 0 rfl rfl)
theorem dX2_choose_26 : decode cX2_choose 26 = .ok (.ifCond .eq 5, 3) := dk_153 0 5 (dk_at dksX2_choose_1 3 rfl rfl)
theorem dX2_choose_29 : decode cX2_choose 29 = .ok (.iconst 0, 1) := dk_3 (dk_at dksX2_choose_1 6 rfl rfl)
theorem dX2_choose_30 : decode cX2_choose 30 = .ok (.ireturn, 1) := dk_172 (dk_at dksX2_choose_1 7 rfl rfl)
theorem dX2_choose_31 : decode cX2_choose 31 = .ok (.aload_n 1, 1) := dk_43 (dk_at dksX2_choose_1 8 rfl rfl)
theorem dX2_choose_32 : decode cX2_choose 32 = .ok (.aload_n 1, 1) := dk_43 (dk_at dksX2_choose_1 9 rfl rfl)
theorem dX2_choose_33 : decode cX2_choose 33 = .ok (.getfield 74, 3) := dk_180 0 74 (dk_at dksX2_choose_1 10 rfl rfl)
theorem dX2_choose_36 : decode cX2_choose 36 = .ok (.iload_n 2, 1) := dk_28 (dk_at dksX2_choose_1 13 rfl rfl)
theorem dX2_choose_37 : decode cX2_choose 37 = .ok (.laload, 1) := dk_47 (dk_at dksX2_choose_1 14 rfl rfl)
theorem dX2_choose_38 : decode cX2_choose 38 = .ok (.aload_n 1, 1) := dk_43 (dk_at dksX2_choose_1 15 rfl rfl)
theorem dX2_choose_39 : decode cX2_choose 39 = .ok (.getfield 74, 3) := dk_180 0 74 (dk_at dksX2_choose_1 16 rfl rfl)
theorem dX2_choose_42 : decode cX2_choose 42 = .ok (.iload_n 3, 1) := dk_29 (dk_at dksX2_choose_1 19 rfl rfl)
theorem dX2_choose_43 : decode cX2_choose 43 = .ok (.laload, 1) := dk_47 (dk_at dksX2_choose_1 20 rfl rfl)
theorem dX2_choose_44 : decode cX2_choose 44 = .ok (.invokevirtual 82, 3) := dk_182 0 82 (dk_at dksX2_choose_1 21 rfl rfl)
theorem dX2_choose_47 : decode cX2_choose 47 = .ok (.iload 5, 2) := dk_21 5 (dk_at dksX2_choose_2 0 rfl rfl)
theorem dX2_choose_49 : decode cX2_choose 49 = .ok (.if_icmp .ne 7, 3) := dk_160 0 7 (dk_at dksX2_choose_2 2 rfl rfl)
theorem dX2_choose_52 : decode cX2_choose 52 = .ok (.iconst 1, 1) := dk_4 (dk_at dksX2_choose_2 5 rfl rfl)
theorem dX2_choose_53 : decode cX2_choose 53 = .ok (.goto 4, 3) := dk_167 0 4 (dk_at dksX2_choose_2 6 rfl rfl)
theorem dX2_choose_56 : decode cX2_choose 56 = .ok (.iconst 0, 1) := dk_3 (dk_at dksX2_choose_2 9 rfl rfl)
theorem dX2_choose_57 : decode cX2_choose 57 = .ok (.istore 6, 2) := dk_54 6 (dk_at dksX2_choose_2 10 rfl rfl)
theorem dX2_choose_59 : decode cX2_choose 59 = .ok (.aload_n 1, 1) := dk_43 (dk_at dksX2_choose_2 12 rfl rfl)
theorem dX2_choose_60 : decode cX2_choose 60 = .ok (.iload 4, 2) := dk_21 4 (dk_at dksX2_choose_2 13 rfl rfl)
theorem dX2_choose_62 : decode cX2_choose 62 = .ok (.aload_n 1, 1) := dk_43 (dk_at dksX2_choose_2 15 rfl rfl)
theorem dX2_choose_63 : decode cX2_choose 63 = .ok (.getfield 74, 3) := dk_180 0 74 (dk_at dksX2_choose_2 16 rfl rfl)
theorem dX2_choose_66 : decode cX2_choose 66 = .ok (.iload 6, 2) := dk_21 6 (dk_at dksX2_choose_2 19 rfl rfl)
theorem dX2_choose_68 : decode cX2_choose 68 = .ok (.ifCond .eq 7, 3) := dk_153 0 7 (dk_at dksX2_choose_2 21 rfl rfl)
theorem dX2_choose_71 : decode cX2_choose 71 = .ok (.iload_n 2, 1) := dk_28 (dk_at dksX2_choose_3 0 rfl rfl)
theorem dX2_choose_72 : decode cX2_choose 72 = .ok (.goto 4, 3) := dk_167 0 4 (dk_at dksX2_choose_3 1 rfl rfl)
theorem dX2_choose_75 : decode cX2_choose 75 = .ok (.iload_n 3, 1) := dk_29 (dk_at dksX2_choose_3 4 rfl rfl)
theorem dX2_choose_76 : decode cX2_choose 76 = .ok (.laload, 1) := dk_47 (dk_at dksX2_choose_3 5 rfl rfl)
theorem dX2_choose_77 : decode cX2_choose 77 = .ok (.invokevirtual 54, 3) := dk_182 0 54 (dk_at dksX2_choose_3 6 rfl rfl)
theorem dX2_choose_80 : decode cX2_choose 80 = .ok (.ireturn, 1) := dk_172 (dk_at dksX2_choose_3 9 rfl rfl)
abbrev cX2_wideMin : ByteArray := prog_4_method_36_code
def yX2_wideMin : MethodName := ⟨RX2, "wideMin", "(III)I"⟩
def dkwX2_wideMin_0 : List UInt8 := [42, 42, 180, 0, 16, 27, 28, 29, 2, 182, 0, 142, 172]
abbrev dktX2_wideMin_0 : List UInt8 := dkwX2_wideMin_0 ++ []
theorem dksX2_wideMin_0 : cX2_wideMin.data.toList.drop 0 = dktX2_wideMin_0 := by decide +kernel
theorem dX2_wideMin_0 : decode cX2_wideMin 0 = .ok (.aload_n 0, 1) := dk_42 (dk_at dksX2_wideMin_0 0 rfl rfl)
theorem dX2_wideMin_1 : decode cX2_wideMin 1 = .ok (.aload_n 0, 1) := dk_42 (dk_at dksX2_wideMin_0 1 rfl rfl)
theorem dX2_wideMin_2 : decode cX2_wideMin 2 = .ok (.getfield 16, 3) := dk_180 0 16 (dk_at dksX2_wideMin_0 2 rfl rfl)
theorem dX2_wideMin_5 : decode cX2_wideMin 5 = .ok (.iload_n 1, 1) := dk_27 (dk_at dksX2_wideMin_0 5 rfl rfl)
theorem dX2_wideMin_6 : decode cX2_wideMin 6 = .ok (.iload_n 2, 1) := dk_28 (dk_at dksX2_wideMin_0 6 rfl rfl)
theorem dX2_wideMin_7 : decode cX2_wideMin 7 = .ok (.iload_n 3, 1) := dk_29 (dk_at dksX2_wideMin_0 7 rfl rfl)
theorem dX2_wideMin_8 : decode cX2_wideMin 8 = .ok (.iconst (-1), 1) := dk_2 (dk_at dksX2_wideMin_0 8 rfl rfl)
theorem dX2_wideMin_9 : decode cX2_wideMin 9 = .ok (.invokevirtual 142, 3) := dk_182 0 142 (dk_at dksX2_wideMin_0 9 rfl rfl)
theorem dX2_wideMin_12 : decode cX2_wideMin 12 = .ok (.ireturn, 1) := dk_172 (dk_at dksX2_wideMin_0 12 rfl rfl)
abbrev cX2_wideSum : ByteArray := prog_4_method_37_code
def yX2_wideSum : MethodName := ⟨RX2, "wideSum", "(III)I"⟩
def dkwX2_wideSum_0 : List UInt8 := [42, 42, 180, 0, 16, 27, 28, 29, 182, 0, 146, 172]
abbrev dktX2_wideSum_0 : List UInt8 := dkwX2_wideSum_0 ++ []
theorem dksX2_wideSum_0 : cX2_wideSum.data.toList.drop 0 = dktX2_wideSum_0 := by decide +kernel
theorem dX2_wideSum_0 : decode cX2_wideSum 0 = .ok (.aload_n 0, 1) := dk_42 (dk_at dksX2_wideSum_0 0 rfl rfl)
theorem dX2_wideSum_1 : decode cX2_wideSum 1 = .ok (.aload_n 0, 1) := dk_42 (dk_at dksX2_wideSum_0 1 rfl rfl)
theorem dX2_wideSum_2 : decode cX2_wideSum 2 = .ok (.getfield 16, 3) := dk_180 0 16 (dk_at dksX2_wideSum_0 2 rfl rfl)
theorem dX2_wideSum_5 : decode cX2_wideSum 5 = .ok (.iload_n 1, 1) := dk_27 (dk_at dksX2_wideSum_0 5 rfl rfl)
theorem dX2_wideSum_6 : decode cX2_wideSum 6 = .ok (.iload_n 2, 1) := dk_28 (dk_at dksX2_wideSum_0 6 rfl rfl)
theorem dX2_wideSum_7 : decode cX2_wideSum 7 = .ok (.iload_n 3, 1) := dk_29 (dk_at dksX2_wideSum_0 7 rfl rfl)
theorem dX2_wideSum_8 : decode cX2_wideSum 8 = .ok (.invokevirtual 146, 3) := dk_182 0 146 (dk_at dksX2_wideSum_0 8 rfl rfl)
theorem dX2_wideSum_11 : decode cX2_wideSum 11 = .ok (.ireturn, 1) := dk_172 (dk_at dksX2_wideSum_0 11 rfl rfl)
abbrev cX2_sum : ByteArray := prog_4_method_15_code
def yX2_sum : MethodName := ⟨RX2, "sum", "(LEdgefloatsModel$Row;III)I"⟩
def dkwX2_sum_3 : List UInt8 := [182, 0, 54, 167, 0, 7, 42, 182, 0, 50, 172]
abbrev dktX2_sum_3 : List UInt8 := dkwX2_sum_3 ++ []
def dkwX2_sum_2 : List UInt8 := [43, 22, 5, 22, 7, 182, 0, 86, 153, 0, 20, 43, 21, 4, 43, 22, 5, 22, 7, 182, 0, 90]
abbrev dktX2_sum_2 : List UInt8 := dkwX2_sum_2 ++ dktX2_sum_3
def dkwX2_sum_1 : List UInt8 := [182, 0, 42, 153, 0, 5, 3, 172, 43, 180, 0, 74, 28, 47, 55, 5, 43, 180, 0, 74, 29, 47, 55, 7]
abbrev dktX2_sum_1 : List UInt8 := dkwX2_sum_1 ++ dktX2_sum_2
def dkwX2_sum_0 : List UInt8 := [42, 28, 29, 184, 0, 70, 154, 0, 11, 21, 4, 184, 0, 35, 153, 0, 7, 4, 167, 0, 4, 3, 3]
abbrev dktX2_sum_0 : List UInt8 := dkwX2_sum_0 ++ dktX2_sum_1
theorem dksX2_sum_0 : cX2_sum.data.toList.drop 0 = dktX2_sum_0 := by decide +kernel
theorem dksX2_sum_1 : cX2_sum.data.toList.drop 23 = dktX2_sum_1 := dk_seg dksX2_sum_0 23 rfl rfl
theorem dksX2_sum_2 : cX2_sum.data.toList.drop 47 = dktX2_sum_2 := dk_seg dksX2_sum_1 24 rfl rfl
theorem dksX2_sum_3 : cX2_sum.data.toList.drop 69 = dktX2_sum_3 := dk_seg dksX2_sum_2 22 rfl rfl
theorem dX2_sum_0 : decode cX2_sum 0 = .ok (.aload_n 0, 1) := dk_42 (dk_at dksX2_sum_0 0 rfl rfl)
theorem dX2_sum_1 : decode cX2_sum 1 = .ok (.iload_n 2, 1) := dk_28 (dk_at dksX2_sum_0 1 rfl rfl)
theorem dX2_sum_2 : decode cX2_sum 2 = .ok (.iload_n 3, 1) := dk_29 (dk_at dksX2_sum_0 2 rfl rfl)
theorem dX2_sum_3 : decode cX2_sum 3 = .ok (.invokestatic 70, 3) := dk_184 0 70 (dk_at dksX2_sum_0 3 rfl rfl)
theorem dX2_sum_6 : decode cX2_sum 6 = .ok (.ifCond .ne 11, 3) := dk_154 0 11 (dk_at dksX2_sum_0 6 rfl rfl)
theorem dX2_sum_9 : decode cX2_sum 9 = .ok (.iload 4, 2) := dk_21 4 (dk_at dksX2_sum_0 9 rfl rfl)
theorem dX2_sum_11 : decode cX2_sum 11 = .ok (.invokestatic 35, 3) := dk_184 0 35 (dk_at dksX2_sum_0 11 rfl rfl)
theorem dX2_sum_14 : decode cX2_sum 14 = .ok (.ifCond .eq 7, 3) := dk_153 0 7 (dk_at dksX2_sum_0 14 rfl rfl)
theorem dX2_sum_17 : decode cX2_sum 17 = .ok (.iconst 1, 1) := dk_4 (dk_at dksX2_sum_0 17 rfl rfl)
theorem dX2_sum_18 : decode cX2_sum 18 = .ok (.goto 4, 3) := dk_167 0 4 (dk_at dksX2_sum_0 18 rfl rfl)
theorem dX2_sum_21 : decode cX2_sum 21 = .ok (.iconst 0, 1) := dk_3 (dk_at dksX2_sum_0 21 rfl rfl)
theorem dX2_sum_22 : decode cX2_sum 22 = .ok (.iconst 0, 1) := dk_3 (dk_at dksX2_sum_0 22 rfl rfl)
theorem dX2_sum_23 : decode cX2_sum 23 = .ok (.invokevirtual 42, 3) := dk_182 0 42 (dk_at dksX2_sum_1 0 rfl rfl)
theorem dX2_sum_26 : decode cX2_sum 26 = .ok (.ifCond .eq 5, 3) := dk_153 0 5 (dk_at dksX2_sum_1 3 rfl rfl)
theorem dX2_sum_29 : decode cX2_sum 29 = .ok (.iconst 0, 1) := dk_3 (dk_at dksX2_sum_1 6 rfl rfl)
theorem dX2_sum_30 : decode cX2_sum 30 = .ok (.ireturn, 1) := dk_172 (dk_at dksX2_sum_1 7 rfl rfl)
theorem dX2_sum_31 : decode cX2_sum 31 = .ok (.aload_n 1, 1) := dk_43 (dk_at dksX2_sum_1 8 rfl rfl)
theorem dX2_sum_32 : decode cX2_sum 32 = .ok (.getfield 74, 3) := dk_180 0 74 (dk_at dksX2_sum_1 9 rfl rfl)
theorem dX2_sum_35 : decode cX2_sum 35 = .ok (.iload_n 2, 1) := dk_28 (dk_at dksX2_sum_1 12 rfl rfl)
theorem dX2_sum_36 : decode cX2_sum 36 = .ok (.laload, 1) := dk_47 (dk_at dksX2_sum_1 13 rfl rfl)
theorem dX2_sum_37 : decode cX2_sum 37 = .ok (.lstore 5, 2) := dk_55 5 (dk_at dksX2_sum_1 14 rfl rfl)
theorem dX2_sum_39 : decode cX2_sum 39 = .ok (.aload_n 1, 1) := dk_43 (dk_at dksX2_sum_1 16 rfl rfl)
theorem dX2_sum_40 : decode cX2_sum 40 = .ok (.getfield 74, 3) := dk_180 0 74 (dk_at dksX2_sum_1 17 rfl rfl)
theorem dX2_sum_43 : decode cX2_sum 43 = .ok (.iload_n 3, 1) := dk_29 (dk_at dksX2_sum_1 20 rfl rfl)
theorem dX2_sum_44 : decode cX2_sum 44 = .ok (.laload, 1) := dk_47 (dk_at dksX2_sum_1 21 rfl rfl)
theorem dX2_sum_45 : decode cX2_sum 45 = .ok (.lstore 7, 2) := dk_55 7 (dk_at dksX2_sum_1 22 rfl rfl)
theorem dX2_sum_47 : decode cX2_sum 47 = .ok (.aload_n 1, 1) := dk_43 (dk_at dksX2_sum_2 0 rfl rfl)
theorem dX2_sum_48 : decode cX2_sum 48 = .ok (.lload 5, 2) := dk_22 5 (dk_at dksX2_sum_2 1 rfl rfl)
theorem dX2_sum_50 : decode cX2_sum 50 = .ok (.lload 7, 2) := dk_22 7 (dk_at dksX2_sum_2 3 rfl rfl)
theorem dX2_sum_52 : decode cX2_sum 52 = .ok (.invokevirtual 86, 3) := dk_182 0 86 (dk_at dksX2_sum_2 5 rfl rfl)
theorem dX2_sum_55 : decode cX2_sum 55 = .ok (.ifCond .eq 20, 3) := dk_153 0 20 (dk_at dksX2_sum_2 8 rfl rfl)
theorem dX2_sum_58 : decode cX2_sum 58 = .ok (.aload_n 1, 1) := dk_43 (dk_at dksX2_sum_2 11 rfl rfl)
theorem dX2_sum_59 : decode cX2_sum 59 = .ok (.iload 4, 2) := dk_21 4 (dk_at dksX2_sum_2 12 rfl rfl)
theorem dX2_sum_61 : decode cX2_sum 61 = .ok (.aload_n 1, 1) := dk_43 (dk_at dksX2_sum_2 14 rfl rfl)
theorem dX2_sum_62 : decode cX2_sum 62 = .ok (.lload 5, 2) := dk_22 5 (dk_at dksX2_sum_2 15 rfl rfl)
theorem dX2_sum_64 : decode cX2_sum 64 = .ok (.lload 7, 2) := dk_22 7 (dk_at dksX2_sum_2 17 rfl rfl)
theorem dX2_sum_66 : decode cX2_sum 66 = .ok (.invokevirtual 90, 3) := dk_182 0 90 (dk_at dksX2_sum_2 19 rfl rfl)
theorem dX2_sum_69 : decode cX2_sum 69 = .ok (.invokevirtual 54, 3) := dk_182 0 54 (dk_at dksX2_sum_3 0 rfl rfl)
theorem dX2_sum_72 : decode cX2_sum 72 = .ok (.goto 7, 3) := dk_167 0 7 (dk_at dksX2_sum_3 3 rfl rfl)
theorem dX2_sum_75 : decode cX2_sum 75 = .ok (.aload_n 0, 1) := dk_42 (dk_at dksX2_sum_3 6 rfl rfl)
theorem dX2_sum_76 : decode cX2_sum 76 = .ok (.invokevirtual 50, 3) := dk_182 0 50 (dk_at dksX2_sum_3 7 rfl rfl)
theorem dX2_sum_79 : decode cX2_sum 79 = .ok (.ireturn, 1) := dk_172 (dk_at dksX2_sum_3 10 rfl rfl)
abbrev cX2_wideSort : ByteArray := prog_4_method_38_code
def yX2_wideSort : MethodName := ⟨RX2, "wideSort", "(I)I"⟩
def dkwX2_wideSort_0 : List UInt8 := [42, 42, 180, 0, 16, 27, 182, 0, 149, 172]
abbrev dktX2_wideSort_0 : List UInt8 := dkwX2_wideSort_0 ++ []
theorem dksX2_wideSort_0 : cX2_wideSort.data.toList.drop 0 = dktX2_wideSort_0 := by decide +kernel
theorem dX2_wideSort_0 : decode cX2_wideSort 0 = .ok (.aload_n 0, 1) := dk_42 (dk_at dksX2_wideSort_0 0 rfl rfl)
theorem dX2_wideSort_1 : decode cX2_wideSort 1 = .ok (.aload_n 0, 1) := dk_42 (dk_at dksX2_wideSort_0 1 rfl rfl)
theorem dX2_wideSort_2 : decode cX2_wideSort 2 = .ok (.getfield 16, 3) := dk_180 0 16 (dk_at dksX2_wideSort_0 2 rfl rfl)
theorem dX2_wideSort_5 : decode cX2_wideSort 5 = .ok (.iload_n 1, 1) := dk_27 (dk_at dksX2_wideSort_0 5 rfl rfl)
theorem dX2_wideSort_6 : decode cX2_wideSort 6 = .ok (.invokevirtual 149, 3) := dk_182 0 149 (dk_at dksX2_wideSort_0 6 rfl rfl)
theorem dX2_wideSort_9 : decode cX2_wideSort 9 = .ok (.ireturn, 1) := dk_172 (dk_at dksX2_wideSort_0 9 rfl rfl)
abbrev cX2_sort : ByteArray := prog_4_method_16_code
def yX2_sort : MethodName := ⟨RX2, "sort", "(LEdgefloatsModel$Row;I)I"⟩
def dkwX2_sort_1 : List UInt8 := [167, 0, 7, 43, 182, 0, 94, 172]
abbrev dktX2_sort_1 : List UInt8 := dkwX2_sort_1 ++ []
def dkwX2_sort_0 : List UInt8 := [42, 28, 3, 4, 184, 0, 31, 154, 0, 7, 4, 167, 0, 4, 3, 3, 182, 0, 42, 153, 0, 7, 3]
abbrev dktX2_sort_0 : List UInt8 := dkwX2_sort_0 ++ dktX2_sort_1
theorem dksX2_sort_0 : cX2_sort.data.toList.drop 0 = dktX2_sort_0 := by decide +kernel
theorem dksX2_sort_1 : cX2_sort.data.toList.drop 23 = dktX2_sort_1 := dk_seg dksX2_sort_0 23 rfl rfl
theorem dX2_sort_0 : decode cX2_sort 0 = .ok (.aload_n 0, 1) := dk_42 (dk_at dksX2_sort_0 0 rfl rfl)
theorem dX2_sort_1 : decode cX2_sort 1 = .ok (.iload_n 2, 1) := dk_28 (dk_at dksX2_sort_0 1 rfl rfl)
theorem dX2_sort_2 : decode cX2_sort 2 = .ok (.iconst 0, 1) := dk_3 (dk_at dksX2_sort_0 2 rfl rfl)
theorem dX2_sort_3 : decode cX2_sort 3 = .ok (.iconst 1, 1) := dk_4 (dk_at dksX2_sort_0 3 rfl rfl)
theorem dX2_sort_4 : decode cX2_sort 4 = .ok (.invokestatic 31, 3) := dk_184 0 31 (dk_at dksX2_sort_0 4 rfl rfl)
theorem dX2_sort_7 : decode cX2_sort 7 = .ok (.ifCond .ne 7, 3) := dk_154 0 7 (dk_at dksX2_sort_0 7 rfl rfl)
theorem dX2_sort_10 : decode cX2_sort 10 = .ok (.iconst 1, 1) := dk_4 (dk_at dksX2_sort_0 10 rfl rfl)
theorem dX2_sort_11 : decode cX2_sort 11 = .ok (.goto 4, 3) := dk_167 0 4 (dk_at dksX2_sort_0 11 rfl rfl)
theorem dX2_sort_14 : decode cX2_sort 14 = .ok (.iconst 0, 1) := dk_3 (dk_at dksX2_sort_0 14 rfl rfl)
theorem dX2_sort_15 : decode cX2_sort 15 = .ok (.iconst 0, 1) := dk_3 (dk_at dksX2_sort_0 15 rfl rfl)
theorem dX2_sort_16 : decode cX2_sort 16 = .ok (.invokevirtual 42, 3) := dk_182 0 42 (dk_at dksX2_sort_0 16 rfl rfl)
theorem dX2_sort_19 : decode cX2_sort 19 = .ok (.ifCond .eq 7, 3) := dk_153 0 7 (dk_at dksX2_sort_0 19 rfl rfl)
theorem dX2_sort_22 : decode cX2_sort 22 = .ok (.iconst 0, 1) := dk_3 (dk_at dksX2_sort_0 22 rfl rfl)
theorem dX2_sort_23 : decode cX2_sort 23 = .ok (.goto 7, 3) := dk_167 0 7 (dk_at dksX2_sort_1 0 rfl rfl)
theorem dX2_sort_26 : decode cX2_sort 26 = .ok (.aload_n 1, 1) := dk_43 (dk_at dksX2_sort_1 3 rfl rfl)
theorem dX2_sort_27 : decode cX2_sort 27 = .ok (.invokevirtual 94, 3) := dk_182 0 94 (dk_at dksX2_sort_1 4 rfl rfl)
theorem dX2_sort_30 : decode cX2_sort 30 = .ok (.ireturn, 1) := dk_172 (dk_at dksX2_sort_1 7 rfl rfl)
abbrev cX2_wideEnd : ByteArray := prog_4_method_39_code
def yX2_wideEnd : MethodName := ⟨RX2, "wideEnd", "(ZI)I"⟩
def dkwX2_wideEnd_0 : List UInt8 := [42, 42, 180, 0, 16, 27, 28, 182, 0, 152, 172]
abbrev dktX2_wideEnd_0 : List UInt8 := dkwX2_wideEnd_0 ++ []
theorem dksX2_wideEnd_0 : cX2_wideEnd.data.toList.drop 0 = dktX2_wideEnd_0 := by decide +kernel
theorem dX2_wideEnd_0 : decode cX2_wideEnd 0 = .ok (.aload_n 0, 1) := dk_42 (dk_at dksX2_wideEnd_0 0 rfl rfl)
theorem dX2_wideEnd_1 : decode cX2_wideEnd 1 = .ok (.aload_n 0, 1) := dk_42 (dk_at dksX2_wideEnd_0 1 rfl rfl)
theorem dX2_wideEnd_2 : decode cX2_wideEnd 2 = .ok (.getfield 16, 3) := dk_180 0 16 (dk_at dksX2_wideEnd_0 2 rfl rfl)
theorem dX2_wideEnd_5 : decode cX2_wideEnd 5 = .ok (.iload_n 1, 1) := dk_27 (dk_at dksX2_wideEnd_0 5 rfl rfl)
theorem dX2_wideEnd_6 : decode cX2_wideEnd 6 = .ok (.iload_n 2, 1) := dk_28 (dk_at dksX2_wideEnd_0 6 rfl rfl)
theorem dX2_wideEnd_7 : decode cX2_wideEnd 7 = .ok (.invokevirtual 152, 3) := dk_182 0 152 (dk_at dksX2_wideEnd_0 7 rfl rfl)
theorem dX2_wideEnd_10 : decode cX2_wideEnd 10 = .ok (.ireturn, 1) := dk_172 (dk_at dksX2_wideEnd_0 10 rfl rfl)
abbrev cX2_end : ByteArray := prog_4_method_17_code
def yX2_end : MethodName := ⟨RX2, "end", "(LEdgefloatsModel$Row;ZI)I"⟩
def dkwX2_end_1 : List UInt8 := [182, 0, 54, 172]
abbrev dktX2_end_1 : List UInt8 := dkwX2_end_1 ++ []
def dkwX2_end_0 : List UInt8 := [42, 29, 184, 0, 35, 3, 182, 0, 42, 153, 0, 7, 3, 167, 0, 13, 43, 29, 43, 28, 182, 0, 97]
abbrev dktX2_end_0 : List UInt8 := dkwX2_end_0 ++ dktX2_end_1
theorem dksX2_end_0 : cX2_end.data.toList.drop 0 = dktX2_end_0 := by decide +kernel
theorem dksX2_end_1 : cX2_end.data.toList.drop 23 = dktX2_end_1 := dk_seg dksX2_end_0 23 rfl rfl
theorem dX2_end_0 : decode cX2_end 0 = .ok (.aload_n 0, 1) := dk_42 (dk_at dksX2_end_0 0 rfl rfl)
theorem dX2_end_1 : decode cX2_end 1 = .ok (.iload_n 3, 1) := dk_29 (dk_at dksX2_end_0 1 rfl rfl)
theorem dX2_end_2 : decode cX2_end 2 = .ok (.invokestatic 35, 3) := dk_184 0 35 (dk_at dksX2_end_0 2 rfl rfl)
theorem dX2_end_5 : decode cX2_end 5 = .ok (.iconst 0, 1) := dk_3 (dk_at dksX2_end_0 5 rfl rfl)
theorem dX2_end_6 : decode cX2_end 6 = .ok (.invokevirtual 42, 3) := dk_182 0 42 (dk_at dksX2_end_0 6 rfl rfl)
theorem dX2_end_9 : decode cX2_end 9 = .ok (.ifCond .eq 7, 3) := dk_153 0 7 (dk_at dksX2_end_0 9 rfl rfl)
theorem dX2_end_12 : decode cX2_end 12 = .ok (.iconst 0, 1) := dk_3 (dk_at dksX2_end_0 12 rfl rfl)
theorem dX2_end_13 : decode cX2_end 13 = .ok (.goto 13, 3) := dk_167 0 13 (dk_at dksX2_end_0 13 rfl rfl)
theorem dX2_end_16 : decode cX2_end 16 = .ok (.aload_n 1, 1) := dk_43 (dk_at dksX2_end_0 16 rfl rfl)
theorem dX2_end_17 : decode cX2_end 17 = .ok (.iload_n 3, 1) := dk_29 (dk_at dksX2_end_0 17 rfl rfl)
theorem dX2_end_18 : decode cX2_end 18 = .ok (.aload_n 1, 1) := dk_43 (dk_at dksX2_end_0 18 rfl rfl)
theorem dX2_end_19 : decode cX2_end 19 = .ok (.iload_n 2, 1) := dk_28 (dk_at dksX2_end_0 19 rfl rfl)
theorem dX2_end_20 : decode cX2_end 20 = .ok (.invokevirtual 97, 3) := dk_182 0 97 (dk_at dksX2_end_0 20 rfl rfl)
theorem dX2_end_23 : decode cX2_end 23 = .ok (.invokevirtual 54, 3) := dk_182 0 54 (dk_at dksX2_end_1 0 rfl rfl)
theorem dX2_end_26 : decode cX2_end 26 = .ok (.ireturn, 1) := dk_172 (dk_at dksX2_end_1 3 rfl rfl)
abbrev cX2_upper : ByteArray := prog_4_method_40_code
def yX2_upper : MethodName := ⟨RX2, "upper", "(I)I"⟩
def dkwX2_upper_1 : List UInt8 := [47, 16, 32, 123, 136, 172]
abbrev dktX2_upper_1 : List UInt8 := dkwX2_upper_1 ++ []
def dkwX2_upper_0 : List UInt8 := [42, 27, 184, 0, 35, 3, 182, 0, 42, 153, 0, 7, 3, 167, 0, 16, 42, 180, 0, 16, 180, 0, 74, 27]
abbrev dktX2_upper_0 : List UInt8 := dkwX2_upper_0 ++ dktX2_upper_1
theorem dksX2_upper_0 : cX2_upper.data.toList.drop 0 = dktX2_upper_0 := by decide +kernel
theorem dksX2_upper_1 : cX2_upper.data.toList.drop 24 = dktX2_upper_1 := dk_seg dksX2_upper_0 24 rfl rfl
theorem dX2_upper_0 : decode cX2_upper 0 = .ok (.aload_n 0, 1) := dk_42 (dk_at dksX2_upper_0 0 rfl rfl)
theorem dX2_upper_1 : decode cX2_upper 1 = .ok (.iload_n 1, 1) := dk_27 (dk_at dksX2_upper_0 1 rfl rfl)
theorem dX2_upper_2 : decode cX2_upper 2 = .ok (.invokestatic 35, 3) := dk_184 0 35 (dk_at dksX2_upper_0 2 rfl rfl)
theorem dX2_upper_5 : decode cX2_upper 5 = .ok (.iconst 0, 1) := dk_3 (dk_at dksX2_upper_0 5 rfl rfl)
theorem dX2_upper_6 : decode cX2_upper 6 = .ok (.invokevirtual 42, 3) := dk_182 0 42 (dk_at dksX2_upper_0 6 rfl rfl)
theorem dX2_upper_9 : decode cX2_upper 9 = .ok (.ifCond .eq 7, 3) := dk_153 0 7 (dk_at dksX2_upper_0 9 rfl rfl)
theorem dX2_upper_12 : decode cX2_upper 12 = .ok (.iconst 0, 1) := dk_3 (dk_at dksX2_upper_0 12 rfl rfl)
theorem dX2_upper_13 : decode cX2_upper 13 = .ok (.goto 16, 3) := dk_167 0 16 (dk_at dksX2_upper_0 13 rfl rfl)
theorem dX2_upper_16 : decode cX2_upper 16 = .ok (.aload_n 0, 1) := dk_42 (dk_at dksX2_upper_0 16 rfl rfl)
theorem dX2_upper_17 : decode cX2_upper 17 = .ok (.getfield 16, 3) := dk_180 0 16 (dk_at dksX2_upper_0 17 rfl rfl)
theorem dX2_upper_20 : decode cX2_upper 20 = .ok (.getfield 74, 3) := dk_180 0 74 (dk_at dksX2_upper_0 20 rfl rfl)
theorem dX2_upper_23 : decode cX2_upper 23 = .ok (.iload_n 1, 1) := dk_27 (dk_at dksX2_upper_0 23 rfl rfl)
theorem dX2_upper_24 : decode cX2_upper 24 = .ok (.laload, 1) := dk_47 (dk_at dksX2_upper_1 0 rfl rfl)
theorem dX2_upper_25 : decode cX2_upper 25 = .ok (.bipush 32, 2) := dk_16 32 (dk_at dksX2_upper_1 1 rfl rfl)
theorem dX2_upper_27 : decode cX2_upper 27 = .ok (.lshr, 1) := dk_123 (dk_at dksX2_upper_1 3 rfl rfl)
theorem dX2_upper_28 : decode cX2_upper 28 = .ok (.l2i, 1) := dk_136 (dk_at dksX2_upper_1 4 rfl rfl)
theorem dX2_upper_29 : decode cX2_upper 29 = .ok (.ireturn, 1) := dk_172 (dk_at dksX2_upper_1 5 rfl rfl)
abbrev cX2_lower : ByteArray := prog_4_method_41_code
def yX2_lower : MethodName := ⟨RX2, "lower", "(I)I"⟩
def dkwX2_lower_1 : List UInt8 := [47, 136, 172]
abbrev dktX2_lower_1 : List UInt8 := dkwX2_lower_1 ++ []
def dkwX2_lower_0 : List UInt8 := [42, 27, 184, 0, 35, 3, 182, 0, 42, 153, 0, 7, 3, 167, 0, 13, 42, 180, 0, 16, 180, 0, 74, 27]
abbrev dktX2_lower_0 : List UInt8 := dkwX2_lower_0 ++ dktX2_lower_1
theorem dksX2_lower_0 : cX2_lower.data.toList.drop 0 = dktX2_lower_0 := by decide +kernel
theorem dksX2_lower_1 : cX2_lower.data.toList.drop 24 = dktX2_lower_1 := dk_seg dksX2_lower_0 24 rfl rfl
theorem dX2_lower_0 : decode cX2_lower 0 = .ok (.aload_n 0, 1) := dk_42 (dk_at dksX2_lower_0 0 rfl rfl)
theorem dX2_lower_1 : decode cX2_lower 1 = .ok (.iload_n 1, 1) := dk_27 (dk_at dksX2_lower_0 1 rfl rfl)
theorem dX2_lower_2 : decode cX2_lower 2 = .ok (.invokestatic 35, 3) := dk_184 0 35 (dk_at dksX2_lower_0 2 rfl rfl)
theorem dX2_lower_5 : decode cX2_lower 5 = .ok (.iconst 0, 1) := dk_3 (dk_at dksX2_lower_0 5 rfl rfl)
theorem dX2_lower_6 : decode cX2_lower 6 = .ok (.invokevirtual 42, 3) := dk_182 0 42 (dk_at dksX2_lower_0 6 rfl rfl)
theorem dX2_lower_9 : decode cX2_lower 9 = .ok (.ifCond .eq 7, 3) := dk_153 0 7 (dk_at dksX2_lower_0 9 rfl rfl)
theorem dX2_lower_12 : decode cX2_lower 12 = .ok (.iconst 0, 1) := dk_3 (dk_at dksX2_lower_0 12 rfl rfl)
theorem dX2_lower_13 : decode cX2_lower 13 = .ok (.goto 13, 3) := dk_167 0 13 (dk_at dksX2_lower_0 13 rfl rfl)
theorem dX2_lower_16 : decode cX2_lower 16 = .ok (.aload_n 0, 1) := dk_42 (dk_at dksX2_lower_0 16 rfl rfl)
theorem dX2_lower_17 : decode cX2_lower 17 = .ok (.getfield 16, 3) := dk_180 0 16 (dk_at dksX2_lower_0 17 rfl rfl)
theorem dX2_lower_20 : decode cX2_lower 20 = .ok (.getfield 74, 3) := dk_180 0 74 (dk_at dksX2_lower_0 20 rfl rfl)
theorem dX2_lower_23 : decode cX2_lower 23 = .ok (.iload_n 1, 1) := dk_27 (dk_at dksX2_lower_0 23 rfl rfl)
theorem dX2_lower_24 : decode cX2_lower 24 = .ok (.laload, 1) := dk_47 (dk_at dksX2_lower_1 0 rfl rfl)
theorem dX2_lower_25 : decode cX2_lower 25 = .ok (.l2i, 1) := dk_136 (dk_at dksX2_lower_1 1 rfl rfl)
theorem dX2_lower_26 : decode cX2_lower 26 = .ok (.ireturn, 1) := dk_172 (dk_at dksX2_lower_1 2 rfl rfl)
abbrev cX2_wideText : ByteArray := prog_4_method_42_code
def yX2_wideText : MethodName := ⟨RX2, "wideText", "(I)Ljava/lang/String;"⟩
def dkwX2_wideText_0 : List UInt8 := [42, 42, 180, 0, 16, 27, 182, 0, 155, 176]
abbrev dktX2_wideText_0 : List UInt8 := dkwX2_wideText_0 ++ []
theorem dksX2_wideText_0 : cX2_wideText.data.toList.drop 0 = dktX2_wideText_0 := by decide +kernel
theorem dX2_wideText_0 : decode cX2_wideText 0 = .ok (.aload_n 0, 1) := dk_42 (dk_at dksX2_wideText_0 0 rfl rfl)
theorem dX2_wideText_1 : decode cX2_wideText 1 = .ok (.aload_n 0, 1) := dk_42 (dk_at dksX2_wideText_0 1 rfl rfl)
theorem dX2_wideText_2 : decode cX2_wideText 2 = .ok (.getfield 16, 3) := dk_180 0 16 (dk_at dksX2_wideText_0 2 rfl rfl)
theorem dX2_wideText_5 : decode cX2_wideText 5 = .ok (.iload_n 1, 1) := dk_27 (dk_at dksX2_wideText_0 5 rfl rfl)
theorem dX2_wideText_6 : decode cX2_wideText 6 = .ok (.invokevirtual 155, 3) := dk_182 0 155 (dk_at dksX2_wideText_0 6 rfl rfl)
theorem dX2_wideText_9 : decode cX2_wideText 9 = .ok (.areturn, 1) := dk_176 (dk_at dksX2_wideText_0 9 rfl rfl)
abbrev cX2_text : ByteArray := prog_4_method_18_code
def yX2_text : MethodName := ⟨RX2, "text", "(LEdgefloatsModel$Row;I)Ljava/lang/String;"⟩
def dkwX2_text_0 : List UInt8 := [42, 28, 184, 0, 35, 3, 182, 0, 42, 153, 0, 8, 18, 101, 167, 0, 8, 43, 28, 182, 0, 103, 176]
abbrev dktX2_text_0 : List UInt8 := dkwX2_text_0 ++ []
theorem dksX2_text_0 : cX2_text.data.toList.drop 0 = dktX2_text_0 := by decide +kernel
theorem dX2_text_0 : decode cX2_text 0 = .ok (.aload_n 0, 1) := dk_42 (dk_at dksX2_text_0 0 rfl rfl)
theorem dX2_text_1 : decode cX2_text 1 = .ok (.iload_n 2, 1) := dk_28 (dk_at dksX2_text_0 1 rfl rfl)
theorem dX2_text_2 : decode cX2_text 2 = .ok (.invokestatic 35, 3) := dk_184 0 35 (dk_at dksX2_text_0 2 rfl rfl)
theorem dX2_text_5 : decode cX2_text 5 = .ok (.iconst 0, 1) := dk_3 (dk_at dksX2_text_0 5 rfl rfl)
theorem dX2_text_6 : decode cX2_text 6 = .ok (.invokevirtual 42, 3) := dk_182 0 42 (dk_at dksX2_text_0 6 rfl rfl)
theorem dX2_text_9 : decode cX2_text 9 = .ok (.ifCond .eq 8, 3) := dk_153 0 8 (dk_at dksX2_text_0 9 rfl rfl)
theorem dX2_text_12 : decode cX2_text 12 = .ok (.ldc 101, 2) := dk_18 101 (dk_at dksX2_text_0 12 rfl rfl)
theorem dX2_text_14 : decode cX2_text 14 = .ok (.goto 8, 3) := dk_167 0 8 (dk_at dksX2_text_0 14 rfl rfl)
theorem dX2_text_17 : decode cX2_text 17 = .ok (.aload_n 1, 1) := dk_43 (dk_at dksX2_text_0 17 rfl rfl)
theorem dX2_text_18 : decode cX2_text 18 = .ok (.iload_n 2, 1) := dk_28 (dk_at dksX2_text_0 18 rfl rfl)
theorem dX2_text_19 : decode cX2_text 19 = .ok (.invokevirtual 103, 3) := dk_182 0 103 (dk_at dksX2_text_0 19 rfl rfl)
theorem dX2_text_22 : decode cX2_text 22 = .ok (.areturn, 1) := dk_176 (dk_at dksX2_text_0 22 rfl rfl)
abbrev cX2_wideOrder : ByteArray := prog_4_method_43_code
def yX2_wideOrder : MethodName := ⟨RX2, "wideOrder", "(III)I"⟩
def dkwX2_wideOrder_0 : List UInt8 := [42, 42, 180, 0, 16, 27, 28, 29, 182, 0, 158, 172]
abbrev dktX2_wideOrder_0 : List UInt8 := dkwX2_wideOrder_0 ++ []
theorem dksX2_wideOrder_0 : cX2_wideOrder.data.toList.drop 0 = dktX2_wideOrder_0 := by decide +kernel
theorem dX2_wideOrder_0 : decode cX2_wideOrder 0 = .ok (.aload_n 0, 1) := dk_42 (dk_at dksX2_wideOrder_0 0 rfl rfl)
theorem dX2_wideOrder_1 : decode cX2_wideOrder 1 = .ok (.aload_n 0, 1) := dk_42 (dk_at dksX2_wideOrder_0 1 rfl rfl)
theorem dX2_wideOrder_2 : decode cX2_wideOrder 2 = .ok (.getfield 16, 3) := dk_180 0 16 (dk_at dksX2_wideOrder_0 2 rfl rfl)
theorem dX2_wideOrder_5 : decode cX2_wideOrder 5 = .ok (.iload_n 1, 1) := dk_27 (dk_at dksX2_wideOrder_0 5 rfl rfl)
theorem dX2_wideOrder_6 : decode cX2_wideOrder 6 = .ok (.iload_n 2, 1) := dk_28 (dk_at dksX2_wideOrder_0 6 rfl rfl)
theorem dX2_wideOrder_7 : decode cX2_wideOrder 7 = .ok (.iload_n 3, 1) := dk_29 (dk_at dksX2_wideOrder_0 7 rfl rfl)
theorem dX2_wideOrder_8 : decode cX2_wideOrder 8 = .ok (.invokevirtual 158, 3) := dk_182 0 158 (dk_at dksX2_wideOrder_0 8 rfl rfl)
theorem dX2_wideOrder_11 : decode cX2_wideOrder 11 = .ok (.ireturn, 1) := dk_172 (dk_at dksX2_wideOrder_0 11 rfl rfl)
abbrev cX2_order : ByteArray := prog_4_method_19_code
def yX2_order : MethodName := ⟨RX2, "order", "(LEdgefloatsModel$Row;III)I"⟩
def dkwX2_order_1 : List UInt8 := [153, 0, 7, 3, 167, 0, 19, 43, 43, 180, 0, 74, 28, 47, 43, 180, 0, 74, 29, 47, 182, 0, 82, 172]
abbrev dktX2_order_1 : List UInt8 := dkwX2_order_1 ++ []
def dkwX2_order_0 : List UInt8 := [42, 28, 29, 184, 0, 70, 21, 4, 3, 5, 184, 0, 31, 154, 0, 7, 4, 167, 0, 4, 3, 182, 0, 42]
abbrev dktX2_order_0 : List UInt8 := dkwX2_order_0 ++ dktX2_order_1
theorem dksX2_order_0 : cX2_order.data.toList.drop 0 = dktX2_order_0 := by decide +kernel
theorem dksX2_order_1 : cX2_order.data.toList.drop 24 = dktX2_order_1 := dk_seg dksX2_order_0 24 rfl rfl
theorem dX2_order_0 : decode cX2_order 0 = .ok (.aload_n 0, 1) := dk_42 (dk_at dksX2_order_0 0 rfl rfl)
theorem dX2_order_1 : decode cX2_order 1 = .ok (.iload_n 2, 1) := dk_28 (dk_at dksX2_order_0 1 rfl rfl)
theorem dX2_order_2 : decode cX2_order 2 = .ok (.iload_n 3, 1) := dk_29 (dk_at dksX2_order_0 2 rfl rfl)
theorem dX2_order_3 : decode cX2_order 3 = .ok (.invokestatic 70, 3) := dk_184 0 70 (dk_at dksX2_order_0 3 rfl rfl)
theorem dX2_order_6 : decode cX2_order 6 = .ok (.iload 4, 2) := dk_21 4 (dk_at dksX2_order_0 6 rfl rfl)
theorem dX2_order_8 : decode cX2_order 8 = .ok (.iconst 0, 1) := dk_3 (dk_at dksX2_order_0 8 rfl rfl)
theorem dX2_order_9 : decode cX2_order 9 = .ok (.iconst 2, 1) := dk_5 (dk_at dksX2_order_0 9 rfl rfl)
theorem dX2_order_10 : decode cX2_order 10 = .ok (.invokestatic 31, 3) := dk_184 0 31 (dk_at dksX2_order_0 10 rfl rfl)
theorem dX2_order_13 : decode cX2_order 13 = .ok (.ifCond .ne 7, 3) := dk_154 0 7 (dk_at dksX2_order_0 13 rfl rfl)
theorem dX2_order_16 : decode cX2_order 16 = .ok (.iconst 1, 1) := dk_4 (dk_at dksX2_order_0 16 rfl rfl)
theorem dX2_order_17 : decode cX2_order 17 = .ok (.goto 4, 3) := dk_167 0 4 (dk_at dksX2_order_0 17 rfl rfl)
theorem dX2_order_20 : decode cX2_order 20 = .ok (.iconst 0, 1) := dk_3 (dk_at dksX2_order_0 20 rfl rfl)
theorem dX2_order_21 : decode cX2_order 21 = .ok (.invokevirtual 42, 3) := dk_182 0 42 (dk_at dksX2_order_0 21 rfl rfl)
theorem dX2_order_24 : decode cX2_order 24 = .ok (.ifCond .eq 7, 3) := dk_153 0 7 (dk_at dksX2_order_1 0 rfl rfl)
theorem dX2_order_27 : decode cX2_order 27 = .ok (.iconst 0, 1) := dk_3 (dk_at dksX2_order_1 3 rfl rfl)
theorem dX2_order_28 : decode cX2_order 28 = .ok (.goto 19, 3) := dk_167 0 19 (dk_at dksX2_order_1 4 rfl rfl)
theorem dX2_order_31 : decode cX2_order 31 = .ok (.aload_n 1, 1) := dk_43 (dk_at dksX2_order_1 7 rfl rfl)
theorem dX2_order_32 : decode cX2_order 32 = .ok (.aload_n 1, 1) := dk_43 (dk_at dksX2_order_1 8 rfl rfl)
theorem dX2_order_33 : decode cX2_order 33 = .ok (.getfield 74, 3) := dk_180 0 74 (dk_at dksX2_order_1 9 rfl rfl)
theorem dX2_order_36 : decode cX2_order 36 = .ok (.iload_n 2, 1) := dk_28 (dk_at dksX2_order_1 12 rfl rfl)
theorem dX2_order_37 : decode cX2_order 37 = .ok (.laload, 1) := dk_47 (dk_at dksX2_order_1 13 rfl rfl)
theorem dX2_order_38 : decode cX2_order 38 = .ok (.aload_n 1, 1) := dk_43 (dk_at dksX2_order_1 14 rfl rfl)
theorem dX2_order_39 : decode cX2_order 39 = .ok (.getfield 74, 3) := dk_180 0 74 (dk_at dksX2_order_1 15 rfl rfl)
theorem dX2_order_42 : decode cX2_order 42 = .ok (.iload_n 3, 1) := dk_29 (dk_at dksX2_order_1 18 rfl rfl)
theorem dX2_order_43 : decode cX2_order 43 = .ok (.laload, 1) := dk_47 (dk_at dksX2_order_1 19 rfl rfl)
theorem dX2_order_44 : decode cX2_order 44 = .ok (.invokevirtual 82, 3) := dk_182 0 82 (dk_at dksX2_order_1 20 rfl rfl)
theorem dX2_order_47 : decode cX2_order 47 = .ok (.ireturn, 1) := dk_172 (dk_at dksX2_order_1 23 rfl rfl)
abbrev cX2_wideSame : ByteArray := prog_4_method_44_code
def yX2_wideSame : MethodName := ⟨RX2, "wideSame", "(III)Z"⟩
def dkwX2_wideSame_0 : List UInt8 := [42, 42, 180, 0, 16, 27, 28, 29, 182, 0, 160, 172]
abbrev dktX2_wideSame_0 : List UInt8 := dkwX2_wideSame_0 ++ []
theorem dksX2_wideSame_0 : cX2_wideSame.data.toList.drop 0 = dktX2_wideSame_0 := by decide +kernel
theorem dX2_wideSame_0 : decode cX2_wideSame 0 = .ok (.aload_n 0, 1) := dk_42 (dk_at dksX2_wideSame_0 0 rfl rfl)
theorem dX2_wideSame_1 : decode cX2_wideSame 1 = .ok (.aload_n 0, 1) := dk_42 (dk_at dksX2_wideSame_0 1 rfl rfl)
theorem dX2_wideSame_2 : decode cX2_wideSame 2 = .ok (.getfield 16, 3) := dk_180 0 16 (dk_at dksX2_wideSame_0 2 rfl rfl)
theorem dX2_wideSame_5 : decode cX2_wideSame 5 = .ok (.iload_n 1, 1) := dk_27 (dk_at dksX2_wideSame_0 5 rfl rfl)
theorem dX2_wideSame_6 : decode cX2_wideSame 6 = .ok (.iload_n 2, 1) := dk_28 (dk_at dksX2_wideSame_0 6 rfl rfl)
theorem dX2_wideSame_7 : decode cX2_wideSame 7 = .ok (.iload_n 3, 1) := dk_29 (dk_at dksX2_wideSame_0 7 rfl rfl)
theorem dX2_wideSame_8 : decode cX2_wideSame 8 = .ok (.invokevirtual 160, 3) := dk_182 0 160 (dk_at dksX2_wideSame_0 8 rfl rfl)
theorem dX2_wideSame_11 : decode cX2_wideSame 11 = .ok (.ireturn, 1) := dk_172 (dk_at dksX2_wideSame_0 11 rfl rfl)
abbrev cX2_same : ByteArray := prog_4_method_20_code
def yX2_same : MethodName := ⟨RX2, "same", "(LEdgefloatsModel$Row;III)Z"⟩
def dkwX2_same_2 : List UInt8 := [172]
abbrev dktX2_same_2 : List UInt8 := dkwX2_same_2 ++ []
def dkwX2_same_1 : List UInt8 := [154, 0, 23, 43, 180, 0, 74, 28, 47, 43, 180, 0, 74, 29, 47, 148, 154, 0, 7, 4, 167, 0, 4, 3]
abbrev dktX2_same_1 : List UInt8 := dkwX2_same_1 ++ dktX2_same_2
def dkwX2_same_0 : List UInt8 := [42, 28, 29, 184, 0, 70, 21, 4, 3, 5, 184, 0, 31, 154, 0, 7, 4, 167, 0, 4, 3, 182, 0, 42]
abbrev dktX2_same_0 : List UInt8 := dkwX2_same_0 ++ dktX2_same_1
theorem dksX2_same_0 : cX2_same.data.toList.drop 0 = dktX2_same_0 := by decide +kernel
theorem dksX2_same_1 : cX2_same.data.toList.drop 24 = dktX2_same_1 := dk_seg dksX2_same_0 24 rfl rfl
theorem dksX2_same_2 : cX2_same.data.toList.drop 48 = dktX2_same_2 := dk_seg dksX2_same_1 24 rfl rfl
theorem dX2_same_0 : decode cX2_same 0 = .ok (.aload_n 0, 1) := dk_42 (dk_at dksX2_same_0 0 rfl rfl)
theorem dX2_same_1 : decode cX2_same 1 = .ok (.iload_n 2, 1) := dk_28 (dk_at dksX2_same_0 1 rfl rfl)
theorem dX2_same_2 : decode cX2_same 2 = .ok (.iload_n 3, 1) := dk_29 (dk_at dksX2_same_0 2 rfl rfl)
theorem dX2_same_3 : decode cX2_same 3 = .ok (.invokestatic 70, 3) := dk_184 0 70 (dk_at dksX2_same_0 3 rfl rfl)
theorem dX2_same_6 : decode cX2_same 6 = .ok (.iload 4, 2) := dk_21 4 (dk_at dksX2_same_0 6 rfl rfl)
theorem dX2_same_8 : decode cX2_same 8 = .ok (.iconst 0, 1) := dk_3 (dk_at dksX2_same_0 8 rfl rfl)
theorem dX2_same_9 : decode cX2_same 9 = .ok (.iconst 2, 1) := dk_5 (dk_at dksX2_same_0 9 rfl rfl)
theorem dX2_same_10 : decode cX2_same 10 = .ok (.invokestatic 31, 3) := dk_184 0 31 (dk_at dksX2_same_0 10 rfl rfl)
theorem dX2_same_13 : decode cX2_same 13 = .ok (.ifCond .ne 7, 3) := dk_154 0 7 (dk_at dksX2_same_0 13 rfl rfl)
theorem dX2_same_16 : decode cX2_same 16 = .ok (.iconst 1, 1) := dk_4 (dk_at dksX2_same_0 16 rfl rfl)
theorem dX2_same_17 : decode cX2_same 17 = .ok (.goto 4, 3) := dk_167 0 4 (dk_at dksX2_same_0 17 rfl rfl)
theorem dX2_same_20 : decode cX2_same 20 = .ok (.iconst 0, 1) := dk_3 (dk_at dksX2_same_0 20 rfl rfl)
theorem dX2_same_21 : decode cX2_same 21 = .ok (.invokevirtual 42, 3) := dk_182 0 42 (dk_at dksX2_same_0 21 rfl rfl)
theorem dX2_same_24 : decode cX2_same 24 = .ok (.ifCond .ne 23, 3) := dk_154 0 23 (dk_at dksX2_same_1 0 rfl rfl)
theorem dX2_same_27 : decode cX2_same 27 = .ok (.aload_n 1, 1) := dk_43 (dk_at dksX2_same_1 3 rfl rfl)
theorem dX2_same_28 : decode cX2_same 28 = .ok (.getfield 74, 3) := dk_180 0 74 (dk_at dksX2_same_1 4 rfl rfl)
theorem dX2_same_31 : decode cX2_same 31 = .ok (.iload_n 2, 1) := dk_28 (dk_at dksX2_same_1 7 rfl rfl)
theorem dX2_same_32 : decode cX2_same 32 = .ok (.laload, 1) := dk_47 (dk_at dksX2_same_1 8 rfl rfl)
theorem dX2_same_33 : decode cX2_same 33 = .ok (.aload_n 1, 1) := dk_43 (dk_at dksX2_same_1 9 rfl rfl)
theorem dX2_same_34 : decode cX2_same 34 = .ok (.getfield 74, 3) := dk_180 0 74 (dk_at dksX2_same_1 10 rfl rfl)
theorem dX2_same_37 : decode cX2_same 37 = .ok (.iload_n 3, 1) := dk_29 (dk_at dksX2_same_1 13 rfl rfl)
theorem dX2_same_38 : decode cX2_same 38 = .ok (.laload, 1) := dk_47 (dk_at dksX2_same_1 14 rfl rfl)
theorem dX2_same_39 : decode cX2_same 39 = .ok (.lcmp, 1) := dk_148 (dk_at dksX2_same_1 15 rfl rfl)
theorem dX2_same_40 : decode cX2_same 40 = .ok (.ifCond .ne 7, 3) := dk_154 0 7 (dk_at dksX2_same_1 16 rfl rfl)
theorem dX2_same_43 : decode cX2_same 43 = .ok (.iconst 1, 1) := dk_4 (dk_at dksX2_same_1 19 rfl rfl)
theorem dX2_same_44 : decode cX2_same 44 = .ok (.goto 4, 3) := dk_167 0 4 (dk_at dksX2_same_1 20 rfl rfl)
theorem dX2_same_47 : decode cX2_same 47 = .ok (.iconst 0, 1) := dk_3 (dk_at dksX2_same_1 23 rfl rfl)
theorem dX2_same_48 : decode cX2_same 48 = .ok (.ireturn, 1) := dk_172 (dk_at dksX2_same_2 0 rfl rfl)
abbrev cX2_wideOther : ByteArray := prog_4_method_45_code
def yX2_wideOther : MethodName := ⟨RX2, "wideOther", "(II)Z"⟩
def dkwX2_wideOther_0 : List UInt8 := [42, 27, 28, 182, 0, 164, 172]
abbrev dktX2_wideOther_0 : List UInt8 := dkwX2_wideOther_0 ++ []
theorem dksX2_wideOther_0 : cX2_wideOther.data.toList.drop 0 = dktX2_wideOther_0 := by decide +kernel
theorem dX2_wideOther_0 : decode cX2_wideOther 0 = .ok (.aload_n 0, 1) := dk_42 (dk_at dksX2_wideOther_0 0 rfl rfl)
theorem dX2_wideOther_1 : decode cX2_wideOther 1 = .ok (.iload_n 1, 1) := dk_27 (dk_at dksX2_wideOther_0 1 rfl rfl)
theorem dX2_wideOther_2 : decode cX2_wideOther 2 = .ok (.iload_n 2, 1) := dk_28 (dk_at dksX2_wideOther_0 2 rfl rfl)
theorem dX2_wideOther_3 : decode cX2_wideOther 3 = .ok (.invokevirtual 164, 3) := dk_182 0 164 (dk_at dksX2_wideOther_0 3 rfl rfl)
theorem dX2_wideOther_6 : decode cX2_wideOther 6 = .ok (.ireturn, 1) := dk_172 (dk_at dksX2_wideOther_0 6 rfl rfl)
abbrev cX2_other : ByteArray := prog_4_method_21_code
def yX2_other : MethodName := ⟨RX2, "other", "(II)Z"⟩
def dkwX2_other_1 : List UInt8 := [153, 0, 3, 3, 172]
abbrev dktX2_other_1 : List UInt8 := dkwX2_other_1 ++ []
def dkwX2_other_0 : List UInt8 := [42, 27, 184, 0, 35, 28, 3, 6, 184, 0, 31, 154, 0, 7, 4, 167, 0, 4, 3, 182, 0, 42]
abbrev dktX2_other_0 : List UInt8 := dkwX2_other_0 ++ dktX2_other_1
theorem dksX2_other_0 : cX2_other.data.toList.drop 0 = dktX2_other_0 := by decide +kernel
theorem dksX2_other_1 : cX2_other.data.toList.drop 22 = dktX2_other_1 := dk_seg dksX2_other_0 22 rfl rfl
theorem dX2_other_0 : decode cX2_other 0 = .ok (.aload_n 0, 1) := dk_42 (dk_at dksX2_other_0 0 rfl rfl)
theorem dX2_other_1 : decode cX2_other 1 = .ok (.iload_n 1, 1) := dk_27 (dk_at dksX2_other_0 1 rfl rfl)
theorem dX2_other_2 : decode cX2_other 2 = .ok (.invokestatic 35, 3) := dk_184 0 35 (dk_at dksX2_other_0 2 rfl rfl)
theorem dX2_other_5 : decode cX2_other 5 = .ok (.iload_n 2, 1) := dk_28 (dk_at dksX2_other_0 5 rfl rfl)
theorem dX2_other_6 : decode cX2_other 6 = .ok (.iconst 0, 1) := dk_3 (dk_at dksX2_other_0 6 rfl rfl)
theorem dX2_other_7 : decode cX2_other 7 = .ok (.iconst 3, 1) := dk_6 (dk_at dksX2_other_0 7 rfl rfl)
theorem dX2_other_8 : decode cX2_other 8 = .ok (.invokestatic 31, 3) := dk_184 0 31 (dk_at dksX2_other_0 8 rfl rfl)
theorem dX2_other_11 : decode cX2_other 11 = .ok (.ifCond .ne 7, 3) := dk_154 0 7 (dk_at dksX2_other_0 11 rfl rfl)
theorem dX2_other_14 : decode cX2_other 14 = .ok (.iconst 1, 1) := dk_4 (dk_at dksX2_other_0 14 rfl rfl)
theorem dX2_other_15 : decode cX2_other 15 = .ok (.goto 4, 3) := dk_167 0 4 (dk_at dksX2_other_0 15 rfl rfl)
theorem dX2_other_18 : decode cX2_other 18 = .ok (.iconst 0, 1) := dk_3 (dk_at dksX2_other_0 18 rfl rfl)
theorem dX2_other_19 : decode cX2_other 19 = .ok (.invokevirtual 42, 3) := dk_182 0 42 (dk_at dksX2_other_0 19 rfl rfl)
theorem dX2_other_22 : decode cX2_other 22 = .ok (.ifCond .eq 3, 3) := dk_153 0 3 (dk_at dksX2_other_1 0 rfl rfl)
theorem dX2_other_25 : decode cX2_other 25 = .ok (.iconst 0, 1) := dk_3 (dk_at dksX2_other_1 3 rfl rfl)
theorem dX2_other_26 : decode cX2_other 26 = .ok (.ireturn, 1) := dk_172 (dk_at dksX2_other_1 4 rfl rfl)
abbrev cX2_wideLike : ByteArray := prog_4_method_46_code
def yX2_wideLike : MethodName := ⟨RX2, "wideLike", "(II)Z"⟩
def dkwX2_wideLike_0 : List UInt8 := [42, 42, 180, 0, 16, 27, 28, 182, 0, 167, 172]
abbrev dktX2_wideLike_0 : List UInt8 := dkwX2_wideLike_0 ++ []
theorem dksX2_wideLike_0 : cX2_wideLike.data.toList.drop 0 = dktX2_wideLike_0 := by decide +kernel
theorem dX2_wideLike_0 : decode cX2_wideLike 0 = .ok (.aload_n 0, 1) := dk_42 (dk_at dksX2_wideLike_0 0 rfl rfl)
theorem dX2_wideLike_1 : decode cX2_wideLike 1 = .ok (.aload_n 0, 1) := dk_42 (dk_at dksX2_wideLike_0 1 rfl rfl)
theorem dX2_wideLike_2 : decode cX2_wideLike 2 = .ok (.getfield 16, 3) := dk_180 0 16 (dk_at dksX2_wideLike_0 2 rfl rfl)
theorem dX2_wideLike_5 : decode cX2_wideLike 5 = .ok (.iload_n 1, 1) := dk_27 (dk_at dksX2_wideLike_0 5 rfl rfl)
theorem dX2_wideLike_6 : decode cX2_wideLike 6 = .ok (.iload_n 2, 1) := dk_28 (dk_at dksX2_wideLike_0 6 rfl rfl)
theorem dX2_wideLike_7 : decode cX2_wideLike 7 = .ok (.invokevirtual 167, 3) := dk_182 0 167 (dk_at dksX2_wideLike_0 7 rfl rfl)
theorem dX2_wideLike_10 : decode cX2_wideLike 10 = .ok (.ireturn, 1) := dk_172 (dk_at dksX2_wideLike_0 10 rfl rfl)
abbrev cX2_like : ByteArray := prog_4_method_23_code
def yX2_like : MethodName := ⟨RX2, "like", "(LEdgefloatsModel$Row;II)Z"⟩
def dkwX2_like_1 : List UInt8 := [29, 47, 184, 0, 110, 153, 0, 7, 4, 167, 0, 4, 3, 172]
abbrev dktX2_like_1 : List UInt8 := dkwX2_like_1 ++ []
def dkwX2_like_0 : List UInt8 := [42, 28, 29, 184, 0, 70, 3, 182, 0, 42, 154, 0, 26, 43, 43, 180, 0, 74, 28, 47, 43, 180, 0, 74]
abbrev dktX2_like_0 : List UInt8 := dkwX2_like_0 ++ dktX2_like_1
theorem dksX2_like_0 : cX2_like.data.toList.drop 0 = dktX2_like_0 := by decide +kernel
theorem dksX2_like_1 : cX2_like.data.toList.drop 24 = dktX2_like_1 := dk_seg dksX2_like_0 24 rfl rfl
theorem dX2_like_0 : decode cX2_like 0 = .ok (.aload_n 0, 1) := dk_42 (dk_at dksX2_like_0 0 rfl rfl)
theorem dX2_like_1 : decode cX2_like 1 = .ok (.iload_n 2, 1) := dk_28 (dk_at dksX2_like_0 1 rfl rfl)
theorem dX2_like_2 : decode cX2_like 2 = .ok (.iload_n 3, 1) := dk_29 (dk_at dksX2_like_0 2 rfl rfl)
theorem dX2_like_3 : decode cX2_like 3 = .ok (.invokestatic 70, 3) := dk_184 0 70 (dk_at dksX2_like_0 3 rfl rfl)
theorem dX2_like_6 : decode cX2_like 6 = .ok (.iconst 0, 1) := dk_3 (dk_at dksX2_like_0 6 rfl rfl)
theorem dX2_like_7 : decode cX2_like 7 = .ok (.invokevirtual 42, 3) := dk_182 0 42 (dk_at dksX2_like_0 7 rfl rfl)
theorem dX2_like_10 : decode cX2_like 10 = .ok (.ifCond .ne 26, 3) := dk_154 0 26 (dk_at dksX2_like_0 10 rfl rfl)
theorem dX2_like_13 : decode cX2_like 13 = .ok (.aload_n 1, 1) := dk_43 (dk_at dksX2_like_0 13 rfl rfl)
theorem dX2_like_14 : decode cX2_like 14 = .ok (.aload_n 1, 1) := dk_43 (dk_at dksX2_like_0 14 rfl rfl)
theorem dX2_like_15 : decode cX2_like 15 = .ok (.getfield 74, 3) := dk_180 0 74 (dk_at dksX2_like_0 15 rfl rfl)
theorem dX2_like_18 : decode cX2_like 18 = .ok (.iload_n 2, 1) := dk_28 (dk_at dksX2_like_0 18 rfl rfl)
theorem dX2_like_19 : decode cX2_like 19 = .ok (.laload, 1) := dk_47 (dk_at dksX2_like_0 19 rfl rfl)
theorem dX2_like_20 : decode cX2_like 20 = .ok (.aload_n 1, 1) := dk_43 (dk_at dksX2_like_0 20 rfl rfl)
theorem dX2_like_21 : decode cX2_like 21 = .ok (.getfield 74, 3) := dk_180 0 74 (dk_at dksX2_like_0 21 rfl rfl)
theorem dX2_like_24 : decode cX2_like 24 = .ok (.iload_n 3, 1) := dk_29 (dk_at dksX2_like_1 0 rfl rfl)
theorem dX2_like_25 : decode cX2_like 25 = .ok (.laload, 1) := dk_47 (dk_at dksX2_like_1 1 rfl rfl)
theorem dX2_like_26 : decode cX2_like 26 = .ok (.invokestatic 110, 3) := dk_184 0 110 (dk_at dksX2_like_1 2 rfl rfl)
theorem dX2_like_29 : decode cX2_like 29 = .ok (.ifCond .eq 7, 3) := dk_153 0 7 (dk_at dksX2_like_1 5 rfl rfl)
theorem dX2_like_32 : decode cX2_like 32 = .ok (.iconst 1, 1) := dk_4 (dk_at dksX2_like_1 8 rfl rfl)
theorem dX2_like_33 : decode cX2_like 33 = .ok (.goto 4, 3) := dk_167 0 4 (dk_at dksX2_like_1 9 rfl rfl)
theorem dX2_like_36 : decode cX2_like 36 = .ok (.iconst 0, 1) := dk_3 (dk_at dksX2_like_1 12 rfl rfl)
theorem dX2_like_37 : decode cX2_like 37 = .ok (.ireturn, 1) := dk_172 (dk_at dksX2_like_1 13 rfl rfl)
abbrev cX2_areLike : ByteArray := prog_4_method_22_code
def yX2_areLike : MethodName := ⟨RX2, "areLike", "(LEdgefloatsModel$Row;JJ)Z"⟩
def dkwX2_areLike_0 : List UInt8 := [42, 31, 182, 0, 107, 42, 33, 182, 0, 107, 148, 154, 0, 7, 4, 167, 0, 4, 3, 172]
abbrev dktX2_areLike_0 : List UInt8 := dkwX2_areLike_0 ++ []
theorem dksX2_areLike_0 : cX2_areLike.data.toList.drop 0 = dktX2_areLike_0 := by decide +kernel
theorem dX2_areLike_0 : decode cX2_areLike 0 = .ok (.aload_n 0, 1) := dk_42 (dk_at dksX2_areLike_0 0 rfl rfl)
theorem dX2_areLike_1 : decode cX2_areLike 1 = .ok (.lload_n 1, 1) := dk_31 (dk_at dksX2_areLike_0 1 rfl rfl)
theorem dX2_areLike_2 : decode cX2_areLike 2 = .ok (.invokevirtual 107, 3) := dk_182 0 107 (dk_at dksX2_areLike_0 2 rfl rfl)
theorem dX2_areLike_5 : decode cX2_areLike 5 = .ok (.aload_n 0, 1) := dk_42 (dk_at dksX2_areLike_0 5 rfl rfl)
theorem dX2_areLike_6 : decode cX2_areLike 6 = .ok (.lload_n 3, 1) := dk_33 (dk_at dksX2_areLike_0 6 rfl rfl)
theorem dX2_areLike_7 : decode cX2_areLike 7 = .ok (.invokevirtual 107, 3) := dk_182 0 107 (dk_at dksX2_areLike_0 7 rfl rfl)
theorem dX2_areLike_10 : decode cX2_areLike 10 = .ok (.lcmp, 1) := dk_148 (dk_at dksX2_areLike_0 10 rfl rfl)
theorem dX2_areLike_11 : decode cX2_areLike 11 = .ok (.ifCond .ne 7, 3) := dk_154 0 7 (dk_at dksX2_areLike_0 11 rfl rfl)
theorem dX2_areLike_14 : decode cX2_areLike 14 = .ok (.iconst 1, 1) := dk_4 (dk_at dksX2_areLike_0 14 rfl rfl)
theorem dX2_areLike_15 : decode cX2_areLike 15 = .ok (.goto 4, 3) := dk_167 0 4 (dk_at dksX2_areLike_0 15 rfl rfl)
theorem dX2_areLike_18 : decode cX2_areLike 18 = .ok (.iconst 0, 1) := dk_3 (dk_at dksX2_areLike_0 18 rfl rfl)
theorem dX2_areLike_19 : decode cX2_areLike 19 = .ok (.ireturn, 1) := dk_172 (dk_at dksX2_areLike_0 19 rfl rfl)
abbrev cX2_wideBelow : ByteArray := prog_4_method_47_code
def yX2_wideBelow : MethodName := ⟨RX2, "wideBelow", "(IIZ)Z"⟩
def dkwX2_wideBelow_0 : List UInt8 := [42, 42, 180, 0, 16, 27, 28, 29, 182, 0, 171, 172]
abbrev dktX2_wideBelow_0 : List UInt8 := dkwX2_wideBelow_0 ++ []
theorem dksX2_wideBelow_0 : cX2_wideBelow.data.toList.drop 0 = dktX2_wideBelow_0 := by decide +kernel
theorem dX2_wideBelow_0 : decode cX2_wideBelow 0 = .ok (.aload_n 0, 1) := dk_42 (dk_at dksX2_wideBelow_0 0 rfl rfl)
theorem dX2_wideBelow_1 : decode cX2_wideBelow 1 = .ok (.aload_n 0, 1) := dk_42 (dk_at dksX2_wideBelow_0 1 rfl rfl)
theorem dX2_wideBelow_2 : decode cX2_wideBelow 2 = .ok (.getfield 16, 3) := dk_180 0 16 (dk_at dksX2_wideBelow_0 2 rfl rfl)
theorem dX2_wideBelow_5 : decode cX2_wideBelow 5 = .ok (.iload_n 1, 1) := dk_27 (dk_at dksX2_wideBelow_0 5 rfl rfl)
theorem dX2_wideBelow_6 : decode cX2_wideBelow 6 = .ok (.iload_n 2, 1) := dk_28 (dk_at dksX2_wideBelow_0 6 rfl rfl)
theorem dX2_wideBelow_7 : decode cX2_wideBelow 7 = .ok (.iload_n 3, 1) := dk_29 (dk_at dksX2_wideBelow_0 7 rfl rfl)
theorem dX2_wideBelow_8 : decode cX2_wideBelow 8 = .ok (.invokevirtual 171, 3) := dk_182 0 171 (dk_at dksX2_wideBelow_0 8 rfl rfl)
theorem dX2_wideBelow_11 : decode cX2_wideBelow 11 = .ok (.ireturn, 1) := dk_172 (dk_at dksX2_wideBelow_0 11 rfl rfl)
abbrev cX2_below : ByteArray := prog_4_method_24_code
def yX2_below : MethodName := ⟨RX2, "below", "(LEdgefloatsModel$Row;IIZ)Z"⟩
def dkwX2_below_2 : List UInt8 := [155, 0, 16, 21, 4, 153, 0, 15, 22, 5, 22, 7, 148, 154, 0, 7, 4, 167, 0, 4, 3, 172]
abbrev dktX2_below_2 : List UInt8 := dkwX2_below_2 ++ []
def dkwX2_below_1 : List UInt8 := [182, 0, 107, 55, 5, 43, 43, 180, 0, 74, 29, 47, 182, 0, 107, 55, 7, 22, 5, 22, 7, 148]
abbrev dktX2_below_1 : List UInt8 := dkwX2_below_1 ++ dktX2_below_2
def dkwX2_below_0 : List UInt8 := [42, 28, 29, 184, 0, 70, 3, 182, 0, 42, 153, 0, 5, 3, 172, 43, 43, 180, 0, 74, 28, 47]
abbrev dktX2_below_0 : List UInt8 := dkwX2_below_0 ++ dktX2_below_1
theorem dksX2_below_0 : cX2_below.data.toList.drop 0 = dktX2_below_0 := by decide +kernel
theorem dksX2_below_1 : cX2_below.data.toList.drop 22 = dktX2_below_1 := dk_seg dksX2_below_0 22 rfl rfl
theorem dksX2_below_2 : cX2_below.data.toList.drop 44 = dktX2_below_2 := dk_seg dksX2_below_1 22 rfl rfl
theorem dX2_below_0 : decode cX2_below 0 = .ok (.aload_n 0, 1) := dk_42 (dk_at dksX2_below_0 0 rfl rfl)
theorem dX2_below_1 : decode cX2_below 1 = .ok (.iload_n 2, 1) := dk_28 (dk_at dksX2_below_0 1 rfl rfl)
theorem dX2_below_2 : decode cX2_below 2 = .ok (.iload_n 3, 1) := dk_29 (dk_at dksX2_below_0 2 rfl rfl)
theorem dX2_below_3 : decode cX2_below 3 = .ok (.invokestatic 70, 3) := dk_184 0 70 (dk_at dksX2_below_0 3 rfl rfl)
theorem dX2_below_6 : decode cX2_below 6 = .ok (.iconst 0, 1) := dk_3 (dk_at dksX2_below_0 6 rfl rfl)
theorem dX2_below_7 : decode cX2_below 7 = .ok (.invokevirtual 42, 3) := dk_182 0 42 (dk_at dksX2_below_0 7 rfl rfl)
theorem dX2_below_10 : decode cX2_below 10 = .ok (.ifCond .eq 5, 3) := dk_153 0 5 (dk_at dksX2_below_0 10 rfl rfl)
theorem dX2_below_13 : decode cX2_below 13 = .ok (.iconst 0, 1) := dk_3 (dk_at dksX2_below_0 13 rfl rfl)
theorem dX2_below_14 : decode cX2_below 14 = .ok (.ireturn, 1) := dk_172 (dk_at dksX2_below_0 14 rfl rfl)
theorem dX2_below_15 : decode cX2_below 15 = .ok (.aload_n 1, 1) := dk_43 (dk_at dksX2_below_0 15 rfl rfl)
theorem dX2_below_16 : decode cX2_below 16 = .ok (.aload_n 1, 1) := dk_43 (dk_at dksX2_below_0 16 rfl rfl)
theorem dX2_below_17 : decode cX2_below 17 = .ok (.getfield 74, 3) := dk_180 0 74 (dk_at dksX2_below_0 17 rfl rfl)
theorem dX2_below_20 : decode cX2_below 20 = .ok (.iload_n 2, 1) := dk_28 (dk_at dksX2_below_0 20 rfl rfl)
theorem dX2_below_21 : decode cX2_below 21 = .ok (.laload, 1) := dk_47 (dk_at dksX2_below_0 21 rfl rfl)
theorem dX2_below_22 : decode cX2_below 22 = .ok (.invokevirtual 107, 3) := dk_182 0 107 (dk_at dksX2_below_1 0 rfl rfl)
theorem dX2_below_25 : decode cX2_below 25 = .ok (.lstore 5, 2) := dk_55 5 (dk_at dksX2_below_1 3 rfl rfl)
theorem dX2_below_27 : decode cX2_below 27 = .ok (.aload_n 1, 1) := dk_43 (dk_at dksX2_below_1 5 rfl rfl)
theorem dX2_below_28 : decode cX2_below 28 = .ok (.aload_n 1, 1) := dk_43 (dk_at dksX2_below_1 6 rfl rfl)
theorem dX2_below_29 : decode cX2_below 29 = .ok (.getfield 74, 3) := dk_180 0 74 (dk_at dksX2_below_1 7 rfl rfl)
theorem dX2_below_32 : decode cX2_below 32 = .ok (.iload_n 3, 1) := dk_29 (dk_at dksX2_below_1 10 rfl rfl)
theorem dX2_below_33 : decode cX2_below 33 = .ok (.laload, 1) := dk_47 (dk_at dksX2_below_1 11 rfl rfl)
theorem dX2_below_34 : decode cX2_below 34 = .ok (.invokevirtual 107, 3) := dk_182 0 107 (dk_at dksX2_below_1 12 rfl rfl)
theorem dX2_below_37 : decode cX2_below 37 = .ok (.lstore 7, 2) := dk_55 7 (dk_at dksX2_below_1 15 rfl rfl)
theorem dX2_below_39 : decode cX2_below 39 = .ok (.lload 5, 2) := dk_22 5 (dk_at dksX2_below_1 17 rfl rfl)
theorem dX2_below_41 : decode cX2_below 41 = .ok (.lload 7, 2) := dk_22 7 (dk_at dksX2_below_1 19 rfl rfl)
theorem dX2_below_43 : decode cX2_below 43 = .ok (.lcmp, 1) := dk_148 (dk_at dksX2_below_1 21 rfl rfl)
theorem dX2_below_44 : decode cX2_below 44 = .ok (.ifCond .lt 16, 3) := dk_155 0 16 (dk_at dksX2_below_2 0 rfl rfl)
theorem dX2_below_47 : decode cX2_below 47 = .ok (.iload 4, 2) := dk_21 4 (dk_at dksX2_below_2 3 rfl rfl)
theorem dX2_below_49 : decode cX2_below 49 = .ok (.ifCond .eq 15, 3) := dk_153 0 15 (dk_at dksX2_below_2 5 rfl rfl)
theorem dX2_below_52 : decode cX2_below 52 = .ok (.lload 5, 2) := dk_22 5 (dk_at dksX2_below_2 8 rfl rfl)
theorem dX2_below_54 : decode cX2_below 54 = .ok (.lload 7, 2) := dk_22 7 (dk_at dksX2_below_2 10 rfl rfl)
theorem dX2_below_56 : decode cX2_below 56 = .ok (.lcmp, 1) := dk_148 (dk_at dksX2_below_2 12 rfl rfl)
theorem dX2_below_57 : decode cX2_below 57 = .ok (.ifCond .ne 7, 3) := dk_154 0 7 (dk_at dksX2_below_2 13 rfl rfl)
theorem dX2_below_60 : decode cX2_below 60 = .ok (.iconst 1, 1) := dk_4 (dk_at dksX2_below_2 16 rfl rfl)
theorem dX2_below_61 : decode cX2_below 61 = .ok (.goto 4, 3) := dk_167 0 4 (dk_at dksX2_below_2 17 rfl rfl)
theorem dX2_below_64 : decode cX2_below 64 = .ok (.iconst 0, 1) := dk_3 (dk_at dksX2_below_2 20 rfl rfl)
theorem dX2_below_65 : decode cX2_below 65 = .ok (.ireturn, 1) := dk_172 (dk_at dksX2_below_2 21 rfl rfl)
abbrev cX2_wideHash : ByteArray := prog_4_method_48_code
def yX2_wideHash : MethodName := ⟨RX2, "wideHash", "(II)I"⟩
def dkwX2_wideHash_1 : List UInt8 := [153, 0, 7, 3, 167, 0, 8, 42, 27, 182, 0, 175, 172]
abbrev dktX2_wideHash_1 : List UInt8 := dkwX2_wideHash_1 ++ []
def dkwX2_wideHash_0 : List UInt8 := [42, 27, 184, 0, 35, 28, 3, 4, 184, 0, 31, 154, 0, 7, 4, 167, 0, 4, 3, 182, 0, 42]
abbrev dktX2_wideHash_0 : List UInt8 := dkwX2_wideHash_0 ++ dktX2_wideHash_1
theorem dksX2_wideHash_0 : cX2_wideHash.data.toList.drop 0 = dktX2_wideHash_0 := by decide +kernel
theorem dksX2_wideHash_1 : cX2_wideHash.data.toList.drop 22 = dktX2_wideHash_1 := dk_seg dksX2_wideHash_0 22 rfl rfl
theorem dX2_wideHash_0 : decode cX2_wideHash 0 = .ok (.aload_n 0, 1) := dk_42 (dk_at dksX2_wideHash_0 0 rfl rfl)
theorem dX2_wideHash_1 : decode cX2_wideHash 1 = .ok (.iload_n 1, 1) := dk_27 (dk_at dksX2_wideHash_0 1 rfl rfl)
theorem dX2_wideHash_2 : decode cX2_wideHash 2 = .ok (.invokestatic 35, 3) := dk_184 0 35 (dk_at dksX2_wideHash_0 2 rfl rfl)
theorem dX2_wideHash_5 : decode cX2_wideHash 5 = .ok (.iload_n 2, 1) := dk_28 (dk_at dksX2_wideHash_0 5 rfl rfl)
theorem dX2_wideHash_6 : decode cX2_wideHash 6 = .ok (.iconst 0, 1) := dk_3 (dk_at dksX2_wideHash_0 6 rfl rfl)
theorem dX2_wideHash_7 : decode cX2_wideHash 7 = .ok (.iconst 1, 1) := dk_4 (dk_at dksX2_wideHash_0 7 rfl rfl)
theorem dX2_wideHash_8 : decode cX2_wideHash 8 = .ok (.invokestatic 31, 3) := dk_184 0 31 (dk_at dksX2_wideHash_0 8 rfl rfl)
theorem dX2_wideHash_11 : decode cX2_wideHash 11 = .ok (.ifCond .ne 7, 3) := dk_154 0 7 (dk_at dksX2_wideHash_0 11 rfl rfl)
theorem dX2_wideHash_14 : decode cX2_wideHash 14 = .ok (.iconst 1, 1) := dk_4 (dk_at dksX2_wideHash_0 14 rfl rfl)
theorem dX2_wideHash_15 : decode cX2_wideHash 15 = .ok (.goto 4, 3) := dk_167 0 4 (dk_at dksX2_wideHash_0 15 rfl rfl)
theorem dX2_wideHash_18 : decode cX2_wideHash 18 = .ok (.iconst 0, 1) := dk_3 (dk_at dksX2_wideHash_0 18 rfl rfl)
theorem dX2_wideHash_19 : decode cX2_wideHash 19 = .ok (.invokevirtual 42, 3) := dk_182 0 42 (dk_at dksX2_wideHash_0 19 rfl rfl)
theorem dX2_wideHash_22 : decode cX2_wideHash 22 = .ok (.ifCond .eq 7, 3) := dk_153 0 7 (dk_at dksX2_wideHash_1 0 rfl rfl)
theorem dX2_wideHash_25 : decode cX2_wideHash 25 = .ok (.iconst 0, 1) := dk_3 (dk_at dksX2_wideHash_1 3 rfl rfl)
theorem dX2_wideHash_26 : decode cX2_wideHash 26 = .ok (.goto 8, 3) := dk_167 0 8 (dk_at dksX2_wideHash_1 4 rfl rfl)
theorem dX2_wideHash_29 : decode cX2_wideHash 29 = .ok (.aload_n 0, 1) := dk_42 (dk_at dksX2_wideHash_1 7 rfl rfl)
theorem dX2_wideHash_30 : decode cX2_wideHash 30 = .ok (.iload_n 1, 1) := dk_27 (dk_at dksX2_wideHash_1 8 rfl rfl)
theorem dX2_wideHash_31 : decode cX2_wideHash 31 = .ok (.invokevirtual 175, 3) := dk_182 0 175 (dk_at dksX2_wideHash_1 9 rfl rfl)
theorem dX2_wideHash_34 : decode cX2_wideHash 34 = .ok (.ireturn, 1) := dk_172 (dk_at dksX2_wideHash_1 12 rfl rfl)
abbrev cX2_hashOf : ByteArray := prog_4_method_29_code
def yX2_hashOf : MethodName := ⟨RX2, "hashOf", "(I)I"⟩
def dkwX2_hashOf_1 : List UInt8 := [172]
abbrev dktX2_hashOf_1 : List UInt8 := dkwX2_hashOf_1 ++ []
def dkwX2_hashOf_0 : List UInt8 := [42, 180, 0, 16, 180, 0, 74, 27, 47, 16, 32, 123, 136, 42, 180, 0, 16, 180, 0, 74, 27, 47, 136, 130]
abbrev dktX2_hashOf_0 : List UInt8 := dkwX2_hashOf_0 ++ dktX2_hashOf_1
theorem dksX2_hashOf_0 : cX2_hashOf.data.toList.drop 0 = dktX2_hashOf_0 := by decide +kernel
theorem dksX2_hashOf_1 : cX2_hashOf.data.toList.drop 24 = dktX2_hashOf_1 := dk_seg dksX2_hashOf_0 24 rfl rfl
theorem dX2_hashOf_0 : decode cX2_hashOf 0 = .ok (.aload_n 0, 1) := dk_42 (dk_at dksX2_hashOf_0 0 rfl rfl)
theorem dX2_hashOf_1 : decode cX2_hashOf 1 = .ok (.getfield 16, 3) := dk_180 0 16 (dk_at dksX2_hashOf_0 1 rfl rfl)
theorem dX2_hashOf_4 : decode cX2_hashOf 4 = .ok (.getfield 74, 3) := dk_180 0 74 (dk_at dksX2_hashOf_0 4 rfl rfl)
theorem dX2_hashOf_7 : decode cX2_hashOf 7 = .ok (.iload_n 1, 1) := dk_27 (dk_at dksX2_hashOf_0 7 rfl rfl)
theorem dX2_hashOf_8 : decode cX2_hashOf 8 = .ok (.laload, 1) := dk_47 (dk_at dksX2_hashOf_0 8 rfl rfl)
theorem dX2_hashOf_9 : decode cX2_hashOf 9 = .ok (.bipush 32, 2) := dk_16 32 (dk_at dksX2_hashOf_0 9 rfl rfl)
theorem dX2_hashOf_11 : decode cX2_hashOf 11 = .ok (.lshr, 1) := dk_123 (dk_at dksX2_hashOf_0 11 rfl rfl)
theorem dX2_hashOf_12 : decode cX2_hashOf 12 = .ok (.l2i, 1) := dk_136 (dk_at dksX2_hashOf_0 12 rfl rfl)
theorem dX2_hashOf_13 : decode cX2_hashOf 13 = .ok (.aload_n 0, 1) := dk_42 (dk_at dksX2_hashOf_0 13 rfl rfl)
theorem dX2_hashOf_14 : decode cX2_hashOf 14 = .ok (.getfield 16, 3) := dk_180 0 16 (dk_at dksX2_hashOf_0 14 rfl rfl)
theorem dX2_hashOf_17 : decode cX2_hashOf 17 = .ok (.getfield 74, 3) := dk_180 0 74 (dk_at dksX2_hashOf_0 17 rfl rfl)
theorem dX2_hashOf_20 : decode cX2_hashOf 20 = .ok (.iload_n 1, 1) := dk_27 (dk_at dksX2_hashOf_0 20 rfl rfl)
theorem dX2_hashOf_21 : decode cX2_hashOf 21 = .ok (.laload, 1) := dk_47 (dk_at dksX2_hashOf_0 21 rfl rfl)
theorem dX2_hashOf_22 : decode cX2_hashOf 22 = .ok (.l2i, 1) := dk_136 (dk_at dksX2_hashOf_0 22 rfl rfl)
theorem dX2_hashOf_23 : decode cX2_hashOf 23 = .ok (.ixor, 1) := dk_130 (dk_at dksX2_hashOf_0 23 rfl rfl)
theorem dX2_hashOf_24 : decode cX2_hashOf 24 = .ok (.ireturn, 1) := dk_172 (dk_at dksX2_hashOf_1 0 rfl rfl)
abbrev cX2_wideEndless : ByteArray := prog_4_method_49_code
def yX2_wideEndless : MethodName := ⟨RX2, "wideEndless", "(II)Z"⟩
def dkwX2_wideEndless_0 : List UInt8 := [42, 42, 180, 0, 16, 27, 28, 182, 0, 179, 172]
abbrev dktX2_wideEndless_0 : List UInt8 := dkwX2_wideEndless_0 ++ []
theorem dksX2_wideEndless_0 : cX2_wideEndless.data.toList.drop 0 = dktX2_wideEndless_0 := by decide +kernel
theorem dX2_wideEndless_0 : decode cX2_wideEndless 0 = .ok (.aload_n 0, 1) := dk_42 (dk_at dksX2_wideEndless_0 0 rfl rfl)
theorem dX2_wideEndless_1 : decode cX2_wideEndless 1 = .ok (.aload_n 0, 1) := dk_42 (dk_at dksX2_wideEndless_0 1 rfl rfl)
theorem dX2_wideEndless_2 : decode cX2_wideEndless 2 = .ok (.getfield 16, 3) := dk_180 0 16 (dk_at dksX2_wideEndless_0 2 rfl rfl)
theorem dX2_wideEndless_5 : decode cX2_wideEndless 5 = .ok (.iload_n 1, 1) := dk_27 (dk_at dksX2_wideEndless_0 5 rfl rfl)
theorem dX2_wideEndless_6 : decode cX2_wideEndless 6 = .ok (.iload_n 2, 1) := dk_28 (dk_at dksX2_wideEndless_0 6 rfl rfl)
theorem dX2_wideEndless_7 : decode cX2_wideEndless 7 = .ok (.invokevirtual 179, 3) := dk_182 0 179 (dk_at dksX2_wideEndless_0 7 rfl rfl)
theorem dX2_wideEndless_10 : decode cX2_wideEndless 10 = .ok (.ireturn, 1) := dk_172 (dk_at dksX2_wideEndless_0 10 rfl rfl)
abbrev cX2_endless : ByteArray := prog_4_method_25_code
def yX2_endless : MethodName := ⟨RX2, "endless", "(LEdgefloatsModel$Row;II)Z"⟩
def dkwX2_endless_1 : List UInt8 := [154, 0, 20, 43, 43, 180, 0, 74, 28, 47, 182, 0, 114, 153, 0, 7, 4, 167, 0, 4, 3, 172]
abbrev dktX2_endless_1 : List UInt8 := dkwX2_endless_1 ++ []
def dkwX2_endless_0 : List UInt8 := [42, 28, 184, 0, 35, 29, 3, 5, 184, 0, 31, 154, 0, 7, 4, 167, 0, 4, 3, 182, 0, 42]
abbrev dktX2_endless_0 : List UInt8 := dkwX2_endless_0 ++ dktX2_endless_1
theorem dksX2_endless_0 : cX2_endless.data.toList.drop 0 = dktX2_endless_0 := by decide +kernel
theorem dksX2_endless_1 : cX2_endless.data.toList.drop 22 = dktX2_endless_1 := dk_seg dksX2_endless_0 22 rfl rfl
theorem dX2_endless_0 : decode cX2_endless 0 = .ok (.aload_n 0, 1) := dk_42 (dk_at dksX2_endless_0 0 rfl rfl)
theorem dX2_endless_1 : decode cX2_endless 1 = .ok (.iload_n 2, 1) := dk_28 (dk_at dksX2_endless_0 1 rfl rfl)
theorem dX2_endless_2 : decode cX2_endless 2 = .ok (.invokestatic 35, 3) := dk_184 0 35 (dk_at dksX2_endless_0 2 rfl rfl)
theorem dX2_endless_5 : decode cX2_endless 5 = .ok (.iload_n 3, 1) := dk_29 (dk_at dksX2_endless_0 5 rfl rfl)
theorem dX2_endless_6 : decode cX2_endless 6 = .ok (.iconst 0, 1) := dk_3 (dk_at dksX2_endless_0 6 rfl rfl)
theorem dX2_endless_7 : decode cX2_endless 7 = .ok (.iconst 2, 1) := dk_5 (dk_at dksX2_endless_0 7 rfl rfl)
theorem dX2_endless_8 : decode cX2_endless 8 = .ok (.invokestatic 31, 3) := dk_184 0 31 (dk_at dksX2_endless_0 8 rfl rfl)
theorem dX2_endless_11 : decode cX2_endless 11 = .ok (.ifCond .ne 7, 3) := dk_154 0 7 (dk_at dksX2_endless_0 11 rfl rfl)
theorem dX2_endless_14 : decode cX2_endless 14 = .ok (.iconst 1, 1) := dk_4 (dk_at dksX2_endless_0 14 rfl rfl)
theorem dX2_endless_15 : decode cX2_endless 15 = .ok (.goto 4, 3) := dk_167 0 4 (dk_at dksX2_endless_0 15 rfl rfl)
theorem dX2_endless_18 : decode cX2_endless 18 = .ok (.iconst 0, 1) := dk_3 (dk_at dksX2_endless_0 18 rfl rfl)
theorem dX2_endless_19 : decode cX2_endless 19 = .ok (.invokevirtual 42, 3) := dk_182 0 42 (dk_at dksX2_endless_0 19 rfl rfl)
theorem dX2_endless_22 : decode cX2_endless 22 = .ok (.ifCond .ne 20, 3) := dk_154 0 20 (dk_at dksX2_endless_1 0 rfl rfl)
theorem dX2_endless_25 : decode cX2_endless 25 = .ok (.aload_n 1, 1) := dk_43 (dk_at dksX2_endless_1 3 rfl rfl)
theorem dX2_endless_26 : decode cX2_endless 26 = .ok (.aload_n 1, 1) := dk_43 (dk_at dksX2_endless_1 4 rfl rfl)
theorem dX2_endless_27 : decode cX2_endless 27 = .ok (.getfield 74, 3) := dk_180 0 74 (dk_at dksX2_endless_1 5 rfl rfl)
theorem dX2_endless_30 : decode cX2_endless 30 = .ok (.iload_n 2, 1) := dk_28 (dk_at dksX2_endless_1 8 rfl rfl)
theorem dX2_endless_31 : decode cX2_endless 31 = .ok (.laload, 1) := dk_47 (dk_at dksX2_endless_1 9 rfl rfl)
theorem dX2_endless_32 : decode cX2_endless 32 = .ok (.invokevirtual 114, 3) := dk_182 0 114 (dk_at dksX2_endless_1 10 rfl rfl)
theorem dX2_endless_35 : decode cX2_endless 35 = .ok (.ifCond .eq 7, 3) := dk_153 0 7 (dk_at dksX2_endless_1 13 rfl rfl)
theorem dX2_endless_38 : decode cX2_endless 38 = .ok (.iconst 1, 1) := dk_4 (dk_at dksX2_endless_1 16 rfl rfl)
theorem dX2_endless_39 : decode cX2_endless 39 = .ok (.goto 4, 3) := dk_167 0 4 (dk_at dksX2_endless_1 17 rfl rfl)
theorem dX2_endless_42 : decode cX2_endless 42 = .ok (.iconst 0, 1) := dk_3 (dk_at dksX2_endless_1 20 rfl rfl)
theorem dX2_endless_43 : decode cX2_endless 43 = .ok (.ireturn, 1) := dk_172 (dk_at dksX2_endless_1 21 rfl rfl)
abbrev cX2_wideCount : ByteArray := prog_4_method_50_code
def yX2_wideCount : MethodName := ⟨RX2, "wideCount", "(I)I"⟩
def dkwX2_wideCount_0 : List UInt8 := [42, 42, 180, 0, 16, 27, 182, 0, 182, 172]
abbrev dktX2_wideCount_0 : List UInt8 := dkwX2_wideCount_0 ++ []
theorem dksX2_wideCount_0 : cX2_wideCount.data.toList.drop 0 = dktX2_wideCount_0 := by decide +kernel
theorem dX2_wideCount_0 : decode cX2_wideCount 0 = .ok (.aload_n 0, 1) := dk_42 (dk_at dksX2_wideCount_0 0 rfl rfl)
theorem dX2_wideCount_1 : decode cX2_wideCount 1 = .ok (.aload_n 0, 1) := dk_42 (dk_at dksX2_wideCount_0 1 rfl rfl)
theorem dX2_wideCount_2 : decode cX2_wideCount 2 = .ok (.getfield 16, 3) := dk_180 0 16 (dk_at dksX2_wideCount_0 2 rfl rfl)
theorem dX2_wideCount_5 : decode cX2_wideCount 5 = .ok (.iload_n 1, 1) := dk_27 (dk_at dksX2_wideCount_0 5 rfl rfl)
theorem dX2_wideCount_6 : decode cX2_wideCount 6 = .ok (.invokevirtual 182, 3) := dk_182 0 182 (dk_at dksX2_wideCount_0 6 rfl rfl)
theorem dX2_wideCount_9 : decode cX2_wideCount 9 = .ok (.ireturn, 1) := dk_172 (dk_at dksX2_wideCount_0 9 rfl rfl)
abbrev cX2_count : ByteArray := prog_4_method_26_code
def yX2_count : MethodName := ⟨RX2, "count", "(LEdgefloatsModel$Row;I)I"⟩
def dkwX2_count_1 : List UInt8 := [182, 0, 117, 172]
abbrev dktX2_count_1 : List UInt8 := dkwX2_count_1 ++ []
def dkwX2_count_0 : List UInt8 := [42, 28, 184, 0, 35, 3, 182, 0, 42, 153, 0, 7, 3, 167, 0, 13, 43, 43, 180, 0, 74, 28, 47]
abbrev dktX2_count_0 : List UInt8 := dkwX2_count_0 ++ dktX2_count_1
theorem dksX2_count_0 : cX2_count.data.toList.drop 0 = dktX2_count_0 := by decide +kernel
theorem dksX2_count_1 : cX2_count.data.toList.drop 23 = dktX2_count_1 := dk_seg dksX2_count_0 23 rfl rfl
theorem dX2_count_0 : decode cX2_count 0 = .ok (.aload_n 0, 1) := dk_42 (dk_at dksX2_count_0 0 rfl rfl)
theorem dX2_count_1 : decode cX2_count 1 = .ok (.iload_n 2, 1) := dk_28 (dk_at dksX2_count_0 1 rfl rfl)
theorem dX2_count_2 : decode cX2_count 2 = .ok (.invokestatic 35, 3) := dk_184 0 35 (dk_at dksX2_count_0 2 rfl rfl)
theorem dX2_count_5 : decode cX2_count 5 = .ok (.iconst 0, 1) := dk_3 (dk_at dksX2_count_0 5 rfl rfl)
theorem dX2_count_6 : decode cX2_count 6 = .ok (.invokevirtual 42, 3) := dk_182 0 42 (dk_at dksX2_count_0 6 rfl rfl)
theorem dX2_count_9 : decode cX2_count 9 = .ok (.ifCond .eq 7, 3) := dk_153 0 7 (dk_at dksX2_count_0 9 rfl rfl)
theorem dX2_count_12 : decode cX2_count 12 = .ok (.iconst 0, 1) := dk_3 (dk_at dksX2_count_0 12 rfl rfl)
theorem dX2_count_13 : decode cX2_count 13 = .ok (.goto 13, 3) := dk_167 0 13 (dk_at dksX2_count_0 13 rfl rfl)
theorem dX2_count_16 : decode cX2_count 16 = .ok (.aload_n 1, 1) := dk_43 (dk_at dksX2_count_0 16 rfl rfl)
theorem dX2_count_17 : decode cX2_count 17 = .ok (.aload_n 1, 1) := dk_43 (dk_at dksX2_count_0 17 rfl rfl)
theorem dX2_count_18 : decode cX2_count 18 = .ok (.getfield 74, 3) := dk_180 0 74 (dk_at dksX2_count_0 18 rfl rfl)
theorem dX2_count_21 : decode cX2_count 21 = .ok (.iload_n 2, 1) := dk_28 (dk_at dksX2_count_0 21 rfl rfl)
theorem dX2_count_22 : decode cX2_count 22 = .ok (.laload, 1) := dk_47 (dk_at dksX2_count_0 22 rfl rfl)
theorem dX2_count_23 : decode cX2_count 23 = .ok (.invokevirtual 117, 3) := dk_182 0 117 (dk_at dksX2_count_1 0 rfl rfl)
theorem dX2_count_26 : decode cX2_count 26 = .ok (.ireturn, 1) := dk_172 (dk_at dksX2_count_1 3 rfl rfl)
abbrev cX2_wideFind : ByteArray := prog_4_method_51_code
def yX2_wideFind : MethodName := ⟨RX2, "wideFind", "(IZ)I"⟩
def dkwX2_wideFind_0 : List UInt8 := [42, 42, 180, 0, 16, 27, 28, 182, 0, 184, 172]
abbrev dktX2_wideFind_0 : List UInt8 := dkwX2_wideFind_0 ++ []
theorem dksX2_wideFind_0 : cX2_wideFind.data.toList.drop 0 = dktX2_wideFind_0 := by decide +kernel
theorem dX2_wideFind_0 : decode cX2_wideFind 0 = .ok (.aload_n 0, 1) := dk_42 (dk_at dksX2_wideFind_0 0 rfl rfl)
theorem dX2_wideFind_1 : decode cX2_wideFind 1 = .ok (.aload_n 0, 1) := dk_42 (dk_at dksX2_wideFind_0 1 rfl rfl)
theorem dX2_wideFind_2 : decode cX2_wideFind 2 = .ok (.getfield 16, 3) := dk_180 0 16 (dk_at dksX2_wideFind_0 2 rfl rfl)
theorem dX2_wideFind_5 : decode cX2_wideFind 5 = .ok (.iload_n 1, 1) := dk_27 (dk_at dksX2_wideFind_0 5 rfl rfl)
theorem dX2_wideFind_6 : decode cX2_wideFind 6 = .ok (.iload_n 2, 1) := dk_28 (dk_at dksX2_wideFind_0 6 rfl rfl)
theorem dX2_wideFind_7 : decode cX2_wideFind 7 = .ok (.invokevirtual 184, 3) := dk_182 0 184 (dk_at dksX2_wideFind_0 7 rfl rfl)
theorem dX2_wideFind_10 : decode cX2_wideFind 10 = .ok (.ireturn, 1) := dk_172 (dk_at dksX2_wideFind_0 10 rfl rfl)
abbrev cX2_find : ByteArray := prog_4_method_27_code
def yX2_find : MethodName := ⟨RX2, "find", "(LEdgefloatsModel$Row;IZ)I"⟩
def dkwX2_find_1 : List UInt8 := [182, 0, 121, 172]
abbrev dktX2_find_1 : List UInt8 := dkwX2_find_1 ++ []
def dkwX2_find_0 : List UInt8 := [42, 28, 184, 0, 35, 3, 182, 0, 42, 153, 0, 7, 3, 167, 0, 14, 43, 43, 180, 0, 74, 28, 47, 29]
abbrev dktX2_find_0 : List UInt8 := dkwX2_find_0 ++ dktX2_find_1
theorem dksX2_find_0 : cX2_find.data.toList.drop 0 = dktX2_find_0 := by decide +kernel
theorem dksX2_find_1 : cX2_find.data.toList.drop 24 = dktX2_find_1 := dk_seg dksX2_find_0 24 rfl rfl
theorem dX2_find_0 : decode cX2_find 0 = .ok (.aload_n 0, 1) := dk_42 (dk_at dksX2_find_0 0 rfl rfl)
theorem dX2_find_1 : decode cX2_find 1 = .ok (.iload_n 2, 1) := dk_28 (dk_at dksX2_find_0 1 rfl rfl)
theorem dX2_find_2 : decode cX2_find 2 = .ok (.invokestatic 35, 3) := dk_184 0 35 (dk_at dksX2_find_0 2 rfl rfl)
theorem dX2_find_5 : decode cX2_find 5 = .ok (.iconst 0, 1) := dk_3 (dk_at dksX2_find_0 5 rfl rfl)
theorem dX2_find_6 : decode cX2_find 6 = .ok (.invokevirtual 42, 3) := dk_182 0 42 (dk_at dksX2_find_0 6 rfl rfl)
theorem dX2_find_9 : decode cX2_find 9 = .ok (.ifCond .eq 7, 3) := dk_153 0 7 (dk_at dksX2_find_0 9 rfl rfl)
theorem dX2_find_12 : decode cX2_find 12 = .ok (.iconst 0, 1) := dk_3 (dk_at dksX2_find_0 12 rfl rfl)
theorem dX2_find_13 : decode cX2_find 13 = .ok (.goto 14, 3) := dk_167 0 14 (dk_at dksX2_find_0 13 rfl rfl)
theorem dX2_find_16 : decode cX2_find 16 = .ok (.aload_n 1, 1) := dk_43 (dk_at dksX2_find_0 16 rfl rfl)
theorem dX2_find_17 : decode cX2_find 17 = .ok (.aload_n 1, 1) := dk_43 (dk_at dksX2_find_0 17 rfl rfl)
theorem dX2_find_18 : decode cX2_find 18 = .ok (.getfield 74, 3) := dk_180 0 74 (dk_at dksX2_find_0 18 rfl rfl)
theorem dX2_find_21 : decode cX2_find 21 = .ok (.iload_n 2, 1) := dk_28 (dk_at dksX2_find_0 21 rfl rfl)
theorem dX2_find_22 : decode cX2_find 22 = .ok (.laload, 1) := dk_47 (dk_at dksX2_find_0 22 rfl rfl)
theorem dX2_find_23 : decode cX2_find 23 = .ok (.iload_n 3, 1) := dk_29 (dk_at dksX2_find_0 23 rfl rfl)
theorem dX2_find_24 : decode cX2_find 24 = .ok (.invokevirtual 121, 3) := dk_182 0 121 (dk_at dksX2_find_1 0 rfl rfl)
theorem dX2_find_27 : decode cX2_find 27 = .ok (.ireturn, 1) := dk_172 (dk_at dksX2_find_1 3 rfl rfl)
abbrev cX2_wideHas : ByteArray := prog_4_method_52_code
def yX2_wideHas : MethodName := ⟨RX2, "wideHas", "(I)Z"⟩
def dkwX2_wideHas_0 : List UInt8 := [42, 42, 180, 0, 16, 27, 182, 0, 187, 172]
abbrev dktX2_wideHas_0 : List UInt8 := dkwX2_wideHas_0 ++ []
theorem dksX2_wideHas_0 : cX2_wideHas.data.toList.drop 0 = dktX2_wideHas_0 := by decide +kernel
theorem dX2_wideHas_0 : decode cX2_wideHas 0 = .ok (.aload_n 0, 1) := dk_42 (dk_at dksX2_wideHas_0 0 rfl rfl)
theorem dX2_wideHas_1 : decode cX2_wideHas 1 = .ok (.aload_n 0, 1) := dk_42 (dk_at dksX2_wideHas_0 1 rfl rfl)
theorem dX2_wideHas_2 : decode cX2_wideHas 2 = .ok (.getfield 16, 3) := dk_180 0 16 (dk_at dksX2_wideHas_0 2 rfl rfl)
theorem dX2_wideHas_5 : decode cX2_wideHas 5 = .ok (.iload_n 1, 1) := dk_27 (dk_at dksX2_wideHas_0 5 rfl rfl)
theorem dX2_wideHas_6 : decode cX2_wideHas 6 = .ok (.invokevirtual 187, 3) := dk_182 0 187 (dk_at dksX2_wideHas_0 6 rfl rfl)
theorem dX2_wideHas_9 : decode cX2_wideHas 9 = .ok (.ireturn, 1) := dk_172 (dk_at dksX2_wideHas_0 9 rfl rfl)
abbrev cX2_has : ByteArray := prog_4_method_28_code
def yX2_has : MethodName := ⟨RX2, "has", "(LEdgefloatsModel$Row;I)Z"⟩
def dkwX2_has_1 : List UInt8 := [43, 28, 182, 0, 66, 3, 182, 0, 121, 155, 0, 7, 4, 167, 0, 4, 3, 172]
abbrev dktX2_has_1 : List UInt8 := dkwX2_has_1 ++ []
def dkwX2_has_0 : List UInt8 := [42, 28, 3, 16, 6, 184, 0, 31, 154, 0, 7, 4, 167, 0, 4, 3, 3, 182, 0, 42, 154, 0, 20, 43]
abbrev dktX2_has_0 : List UInt8 := dkwX2_has_0 ++ dktX2_has_1
theorem dksX2_has_0 : cX2_has.data.toList.drop 0 = dktX2_has_0 := by decide +kernel
theorem dksX2_has_1 : cX2_has.data.toList.drop 24 = dktX2_has_1 := dk_seg dksX2_has_0 24 rfl rfl
theorem dX2_has_0 : decode cX2_has 0 = .ok (.aload_n 0, 1) := dk_42 (dk_at dksX2_has_0 0 rfl rfl)
theorem dX2_has_1 : decode cX2_has 1 = .ok (.iload_n 2, 1) := dk_28 (dk_at dksX2_has_0 1 rfl rfl)
theorem dX2_has_2 : decode cX2_has 2 = .ok (.iconst 0, 1) := dk_3 (dk_at dksX2_has_0 2 rfl rfl)
theorem dX2_has_3 : decode cX2_has 3 = .ok (.bipush 6, 2) := dk_16 6 (dk_at dksX2_has_0 3 rfl rfl)
theorem dX2_has_5 : decode cX2_has 5 = .ok (.invokestatic 31, 3) := dk_184 0 31 (dk_at dksX2_has_0 5 rfl rfl)
theorem dX2_has_8 : decode cX2_has 8 = .ok (.ifCond .ne 7, 3) := dk_154 0 7 (dk_at dksX2_has_0 8 rfl rfl)
theorem dX2_has_11 : decode cX2_has 11 = .ok (.iconst 1, 1) := dk_4 (dk_at dksX2_has_0 11 rfl rfl)
theorem dX2_has_12 : decode cX2_has 12 = .ok (.goto 4, 3) := dk_167 0 4 (dk_at dksX2_has_0 12 rfl rfl)
theorem dX2_has_15 : decode cX2_has 15 = .ok (.iconst 0, 1) := dk_3 (dk_at dksX2_has_0 15 rfl rfl)
theorem dX2_has_16 : decode cX2_has 16 = .ok (.iconst 0, 1) := dk_3 (dk_at dksX2_has_0 16 rfl rfl)
theorem dX2_has_17 : decode cX2_has 17 = .ok (.invokevirtual 42, 3) := dk_182 0 42 (dk_at dksX2_has_0 17 rfl rfl)
theorem dX2_has_20 : decode cX2_has 20 = .ok (.ifCond .ne 20, 3) := dk_154 0 20 (dk_at dksX2_has_0 20 rfl rfl)
theorem dX2_has_23 : decode cX2_has 23 = .ok (.aload_n 1, 1) := dk_43 (dk_at dksX2_has_0 23 rfl rfl)
theorem dX2_has_24 : decode cX2_has 24 = .ok (.aload_n 1, 1) := dk_43 (dk_at dksX2_has_1 0 rfl rfl)
theorem dX2_has_25 : decode cX2_has 25 = .ok (.iload_n 2, 1) := dk_28 (dk_at dksX2_has_1 1 rfl rfl)
theorem dX2_has_26 : decode cX2_has 26 = .ok (.invokevirtual 66, 3) := dk_182 0 66 (dk_at dksX2_has_1 2 rfl rfl)
theorem dX2_has_29 : decode cX2_has 29 = .ok (.iconst 0, 1) := dk_3 (dk_at dksX2_has_1 5 rfl rfl)
theorem dX2_has_30 : decode cX2_has 30 = .ok (.invokevirtual 121, 3) := dk_182 0 121 (dk_at dksX2_has_1 6 rfl rfl)
theorem dX2_has_33 : decode cX2_has 33 = .ok (.ifCond .lt 7, 3) := dk_155 0 7 (dk_at dksX2_has_1 9 rfl rfl)
theorem dX2_has_36 : decode cX2_has 36 = .ok (.iconst 1, 1) := dk_4 (dk_at dksX2_has_1 12 rfl rfl)
theorem dX2_has_37 : decode cX2_has 37 = .ok (.goto 4, 3) := dk_167 0 4 (dk_at dksX2_has_1 13 rfl rfl)
theorem dX2_has_40 : decode cX2_has 40 = .ok (.iconst 0, 1) := dk_3 (dk_at dksX2_has_1 16 rfl rfl)
theorem dX2_has_41 : decode cX2_has 41 = .ok (.ireturn, 1) := dk_172 (dk_at dksX2_has_1 17 rfl rfl)
abbrev cX2_putNarrow : ByteArray := prog_4_method_53_code
def yX2_putNarrow : MethodName := ⟨RX2, "putNarrow", "(II)I"⟩
def dkwX2_putNarrow_0 : List UInt8 := [42, 42, 180, 0, 24, 27, 28, 133, 20, 0, 125, 127, 182, 0, 127, 172]
abbrev dktX2_putNarrow_0 : List UInt8 := dkwX2_putNarrow_0 ++ []
theorem dksX2_putNarrow_0 : cX2_putNarrow.data.toList.drop 0 = dktX2_putNarrow_0 := by decide +kernel
theorem dX2_putNarrow_0 : decode cX2_putNarrow 0 = .ok (.aload_n 0, 1) := dk_42 (dk_at dksX2_putNarrow_0 0 rfl rfl)
theorem dX2_putNarrow_1 : decode cX2_putNarrow 1 = .ok (.aload_n 0, 1) := dk_42 (dk_at dksX2_putNarrow_0 1 rfl rfl)
theorem dX2_putNarrow_2 : decode cX2_putNarrow 2 = .ok (.getfield 24, 3) := dk_180 0 24 (dk_at dksX2_putNarrow_0 2 rfl rfl)
theorem dX2_putNarrow_5 : decode cX2_putNarrow 5 = .ok (.iload_n 1, 1) := dk_27 (dk_at dksX2_putNarrow_0 5 rfl rfl)
theorem dX2_putNarrow_6 : decode cX2_putNarrow 6 = .ok (.iload_n 2, 1) := dk_28 (dk_at dksX2_putNarrow_0 6 rfl rfl)
theorem dX2_putNarrow_7 : decode cX2_putNarrow 7 = .ok (.i2l, 1) := dk_133 (dk_at dksX2_putNarrow_0 7 rfl rfl)
theorem dX2_putNarrow_8 : decode cX2_putNarrow 8 = .ok (.ldc2_w 125, 3) := dk_20 0 125 (dk_at dksX2_putNarrow_0 8 rfl rfl)
theorem dX2_putNarrow_11 : decode cX2_putNarrow 11 = .ok (.land, 1) := dk_127 (dk_at dksX2_putNarrow_0 11 rfl rfl)
theorem dX2_putNarrow_12 : decode cX2_putNarrow 12 = .ok (.invokevirtual 127, 3) := dk_182 0 127 (dk_at dksX2_putNarrow_0 12 rfl rfl)
theorem dX2_putNarrow_15 : decode cX2_putNarrow 15 = .ok (.ireturn, 1) := dk_172 (dk_at dksX2_putNarrow_0 15 rfl rfl)
abbrev cX2_narrowQuarters : ByteArray := prog_4_method_54_code
def yX2_narrowQuarters : MethodName := ⟨RX2, "narrowQuarters", "(II)I"⟩
def dkwX2_narrowQuarters_0 : List UInt8 := [42, 42, 180, 0, 24, 27, 28, 182, 0, 131, 172]
abbrev dktX2_narrowQuarters_0 : List UInt8 := dkwX2_narrowQuarters_0 ++ []
theorem dksX2_narrowQuarters_0 : cX2_narrowQuarters.data.toList.drop 0 = dktX2_narrowQuarters_0 := by decide +kernel
theorem dX2_narrowQuarters_0 : decode cX2_narrowQuarters 0 = .ok (.aload_n 0, 1) := dk_42 (dk_at dksX2_narrowQuarters_0 0 rfl rfl)
theorem dX2_narrowQuarters_1 : decode cX2_narrowQuarters 1 = .ok (.aload_n 0, 1) := dk_42 (dk_at dksX2_narrowQuarters_0 1 rfl rfl)
theorem dX2_narrowQuarters_2 : decode cX2_narrowQuarters 2 = .ok (.getfield 24, 3) := dk_180 0 24 (dk_at dksX2_narrowQuarters_0 2 rfl rfl)
theorem dX2_narrowQuarters_5 : decode cX2_narrowQuarters 5 = .ok (.iload_n 1, 1) := dk_27 (dk_at dksX2_narrowQuarters_0 5 rfl rfl)
theorem dX2_narrowQuarters_6 : decode cX2_narrowQuarters 6 = .ok (.iload_n 2, 1) := dk_28 (dk_at dksX2_narrowQuarters_0 6 rfl rfl)
theorem dX2_narrowQuarters_7 : decode cX2_narrowQuarters 7 = .ok (.invokevirtual 131, 3) := dk_182 0 131 (dk_at dksX2_narrowQuarters_0 7 rfl rfl)
theorem dX2_narrowQuarters_10 : decode cX2_narrowQuarters 10 = .ok (.ireturn, 1) := dk_172 (dk_at dksX2_narrowQuarters_0 10 rfl rfl)
abbrev cX2_narrowKnown : ByteArray := prog_4_method_55_code
def yX2_narrowKnown : MethodName := ⟨RX2, "narrowKnown", "(II)I"⟩
def dkwX2_narrowKnown_0 : List UInt8 := [42, 42, 180, 0, 24, 27, 28, 182, 0, 135, 172]
abbrev dktX2_narrowKnown_0 : List UInt8 := dkwX2_narrowKnown_0 ++ []
theorem dksX2_narrowKnown_0 : cX2_narrowKnown.data.toList.drop 0 = dktX2_narrowKnown_0 := by decide +kernel
theorem dX2_narrowKnown_0 : decode cX2_narrowKnown 0 = .ok (.aload_n 0, 1) := dk_42 (dk_at dksX2_narrowKnown_0 0 rfl rfl)
theorem dX2_narrowKnown_1 : decode cX2_narrowKnown 1 = .ok (.aload_n 0, 1) := dk_42 (dk_at dksX2_narrowKnown_0 1 rfl rfl)
theorem dX2_narrowKnown_2 : decode cX2_narrowKnown 2 = .ok (.getfield 24, 3) := dk_180 0 24 (dk_at dksX2_narrowKnown_0 2 rfl rfl)
theorem dX2_narrowKnown_5 : decode cX2_narrowKnown 5 = .ok (.iload_n 1, 1) := dk_27 (dk_at dksX2_narrowKnown_0 5 rfl rfl)
theorem dX2_narrowKnown_6 : decode cX2_narrowKnown 6 = .ok (.iload_n 2, 1) := dk_28 (dk_at dksX2_narrowKnown_0 6 rfl rfl)
theorem dX2_narrowKnown_7 : decode cX2_narrowKnown 7 = .ok (.invokevirtual 135, 3) := dk_182 0 135 (dk_at dksX2_narrowKnown_0 7 rfl rfl)
theorem dX2_narrowKnown_10 : decode cX2_narrowKnown 10 = .ok (.ireturn, 1) := dk_172 (dk_at dksX2_narrowKnown_0 10 rfl rfl)
abbrev cX2_narrowCopy : ByteArray := prog_4_method_56_code
def yX2_narrowCopy : MethodName := ⟨RX2, "narrowCopy", "(II)I"⟩
def dkwX2_narrowCopy_0 : List UInt8 := [42, 42, 180, 0, 24, 27, 28, 182, 0, 137, 172]
abbrev dktX2_narrowCopy_0 : List UInt8 := dkwX2_narrowCopy_0 ++ []
theorem dksX2_narrowCopy_0 : cX2_narrowCopy.data.toList.drop 0 = dktX2_narrowCopy_0 := by decide +kernel
theorem dX2_narrowCopy_0 : decode cX2_narrowCopy 0 = .ok (.aload_n 0, 1) := dk_42 (dk_at dksX2_narrowCopy_0 0 rfl rfl)
theorem dX2_narrowCopy_1 : decode cX2_narrowCopy 1 = .ok (.aload_n 0, 1) := dk_42 (dk_at dksX2_narrowCopy_0 1 rfl rfl)
theorem dX2_narrowCopy_2 : decode cX2_narrowCopy 2 = .ok (.getfield 24, 3) := dk_180 0 24 (dk_at dksX2_narrowCopy_0 2 rfl rfl)
theorem dX2_narrowCopy_5 : decode cX2_narrowCopy 5 = .ok (.iload_n 1, 1) := dk_27 (dk_at dksX2_narrowCopy_0 5 rfl rfl)
theorem dX2_narrowCopy_6 : decode cX2_narrowCopy 6 = .ok (.iload_n 2, 1) := dk_28 (dk_at dksX2_narrowCopy_0 6 rfl rfl)
theorem dX2_narrowCopy_7 : decode cX2_narrowCopy 7 = .ok (.invokevirtual 137, 3) := dk_182 0 137 (dk_at dksX2_narrowCopy_0 7 rfl rfl)
theorem dX2_narrowCopy_10 : decode cX2_narrowCopy 10 = .ok (.ireturn, 1) := dk_172 (dk_at dksX2_narrowCopy_0 10 rfl rfl)
abbrev cX2_narrowSwap : ByteArray := prog_4_method_57_code
def yX2_narrowSwap : MethodName := ⟨RX2, "narrowSwap", "(II)I"⟩
def dkwX2_narrowSwap_0 : List UInt8 := [42, 42, 180, 0, 24, 27, 28, 182, 0, 140, 172]
abbrev dktX2_narrowSwap_0 : List UInt8 := dkwX2_narrowSwap_0 ++ []
theorem dksX2_narrowSwap_0 : cX2_narrowSwap.data.toList.drop 0 = dktX2_narrowSwap_0 := by decide +kernel
theorem dX2_narrowSwap_0 : decode cX2_narrowSwap 0 = .ok (.aload_n 0, 1) := dk_42 (dk_at dksX2_narrowSwap_0 0 rfl rfl)
theorem dX2_narrowSwap_1 : decode cX2_narrowSwap 1 = .ok (.aload_n 0, 1) := dk_42 (dk_at dksX2_narrowSwap_0 1 rfl rfl)
theorem dX2_narrowSwap_2 : decode cX2_narrowSwap 2 = .ok (.getfield 24, 3) := dk_180 0 24 (dk_at dksX2_narrowSwap_0 2 rfl rfl)
theorem dX2_narrowSwap_5 : decode cX2_narrowSwap 5 = .ok (.iload_n 1, 1) := dk_27 (dk_at dksX2_narrowSwap_0 5 rfl rfl)
theorem dX2_narrowSwap_6 : decode cX2_narrowSwap 6 = .ok (.iload_n 2, 1) := dk_28 (dk_at dksX2_narrowSwap_0 6 rfl rfl)
theorem dX2_narrowSwap_7 : decode cX2_narrowSwap 7 = .ok (.invokevirtual 140, 3) := dk_182 0 140 (dk_at dksX2_narrowSwap_0 7 rfl rfl)
theorem dX2_narrowSwap_10 : decode cX2_narrowSwap 10 = .ok (.ireturn, 1) := dk_172 (dk_at dksX2_narrowSwap_0 10 rfl rfl)
abbrev cX2_narrowMax : ByteArray := prog_4_method_58_code
def yX2_narrowMax : MethodName := ⟨RX2, "narrowMax", "(III)I"⟩
def dkwX2_narrowMax_0 : List UInt8 := [42, 42, 180, 0, 24, 27, 28, 29, 4, 182, 0, 142, 172]
abbrev dktX2_narrowMax_0 : List UInt8 := dkwX2_narrowMax_0 ++ []
theorem dksX2_narrowMax_0 : cX2_narrowMax.data.toList.drop 0 = dktX2_narrowMax_0 := by decide +kernel
theorem dX2_narrowMax_0 : decode cX2_narrowMax 0 = .ok (.aload_n 0, 1) := dk_42 (dk_at dksX2_narrowMax_0 0 rfl rfl)
theorem dX2_narrowMax_1 : decode cX2_narrowMax 1 = .ok (.aload_n 0, 1) := dk_42 (dk_at dksX2_narrowMax_0 1 rfl rfl)
theorem dX2_narrowMax_2 : decode cX2_narrowMax 2 = .ok (.getfield 24, 3) := dk_180 0 24 (dk_at dksX2_narrowMax_0 2 rfl rfl)
theorem dX2_narrowMax_5 : decode cX2_narrowMax 5 = .ok (.iload_n 1, 1) := dk_27 (dk_at dksX2_narrowMax_0 5 rfl rfl)
theorem dX2_narrowMax_6 : decode cX2_narrowMax 6 = .ok (.iload_n 2, 1) := dk_28 (dk_at dksX2_narrowMax_0 6 rfl rfl)
theorem dX2_narrowMax_7 : decode cX2_narrowMax 7 = .ok (.iload_n 3, 1) := dk_29 (dk_at dksX2_narrowMax_0 7 rfl rfl)
theorem dX2_narrowMax_8 : decode cX2_narrowMax 8 = .ok (.iconst 1, 1) := dk_4 (dk_at dksX2_narrowMax_0 8 rfl rfl)
theorem dX2_narrowMax_9 : decode cX2_narrowMax 9 = .ok (.invokevirtual 142, 3) := dk_182 0 142 (dk_at dksX2_narrowMax_0 9 rfl rfl)
theorem dX2_narrowMax_12 : decode cX2_narrowMax 12 = .ok (.ireturn, 1) := dk_172 (dk_at dksX2_narrowMax_0 12 rfl rfl)
abbrev cX2_narrowMin : ByteArray := prog_4_method_59_code
def yX2_narrowMin : MethodName := ⟨RX2, "narrowMin", "(III)I"⟩
def dkwX2_narrowMin_0 : List UInt8 := [42, 42, 180, 0, 24, 27, 28, 29, 2, 182, 0, 142, 172]
abbrev dktX2_narrowMin_0 : List UInt8 := dkwX2_narrowMin_0 ++ []
theorem dksX2_narrowMin_0 : cX2_narrowMin.data.toList.drop 0 = dktX2_narrowMin_0 := by decide +kernel
theorem dX2_narrowMin_0 : decode cX2_narrowMin 0 = .ok (.aload_n 0, 1) := dk_42 (dk_at dksX2_narrowMin_0 0 rfl rfl)
theorem dX2_narrowMin_1 : decode cX2_narrowMin 1 = .ok (.aload_n 0, 1) := dk_42 (dk_at dksX2_narrowMin_0 1 rfl rfl)
theorem dX2_narrowMin_2 : decode cX2_narrowMin 2 = .ok (.getfield 24, 3) := dk_180 0 24 (dk_at dksX2_narrowMin_0 2 rfl rfl)
theorem dX2_narrowMin_5 : decode cX2_narrowMin 5 = .ok (.iload_n 1, 1) := dk_27 (dk_at dksX2_narrowMin_0 5 rfl rfl)
theorem dX2_narrowMin_6 : decode cX2_narrowMin 6 = .ok (.iload_n 2, 1) := dk_28 (dk_at dksX2_narrowMin_0 6 rfl rfl)
theorem dX2_narrowMin_7 : decode cX2_narrowMin 7 = .ok (.iload_n 3, 1) := dk_29 (dk_at dksX2_narrowMin_0 7 rfl rfl)
theorem dX2_narrowMin_8 : decode cX2_narrowMin 8 = .ok (.iconst (-1), 1) := dk_2 (dk_at dksX2_narrowMin_0 8 rfl rfl)
theorem dX2_narrowMin_9 : decode cX2_narrowMin 9 = .ok (.invokevirtual 142, 3) := dk_182 0 142 (dk_at dksX2_narrowMin_0 9 rfl rfl)
theorem dX2_narrowMin_12 : decode cX2_narrowMin 12 = .ok (.ireturn, 1) := dk_172 (dk_at dksX2_narrowMin_0 12 rfl rfl)
abbrev cX2_narrowSum : ByteArray := prog_4_method_60_code
def yX2_narrowSum : MethodName := ⟨RX2, "narrowSum", "(III)I"⟩
def dkwX2_narrowSum_0 : List UInt8 := [42, 42, 180, 0, 24, 27, 28, 29, 182, 0, 146, 172]
abbrev dktX2_narrowSum_0 : List UInt8 := dkwX2_narrowSum_0 ++ []
theorem dksX2_narrowSum_0 : cX2_narrowSum.data.toList.drop 0 = dktX2_narrowSum_0 := by decide +kernel
theorem dX2_narrowSum_0 : decode cX2_narrowSum 0 = .ok (.aload_n 0, 1) := dk_42 (dk_at dksX2_narrowSum_0 0 rfl rfl)
theorem dX2_narrowSum_1 : decode cX2_narrowSum 1 = .ok (.aload_n 0, 1) := dk_42 (dk_at dksX2_narrowSum_0 1 rfl rfl)
theorem dX2_narrowSum_2 : decode cX2_narrowSum 2 = .ok (.getfield 24, 3) := dk_180 0 24 (dk_at dksX2_narrowSum_0 2 rfl rfl)
theorem dX2_narrowSum_5 : decode cX2_narrowSum 5 = .ok (.iload_n 1, 1) := dk_27 (dk_at dksX2_narrowSum_0 5 rfl rfl)
theorem dX2_narrowSum_6 : decode cX2_narrowSum 6 = .ok (.iload_n 2, 1) := dk_28 (dk_at dksX2_narrowSum_0 6 rfl rfl)
theorem dX2_narrowSum_7 : decode cX2_narrowSum 7 = .ok (.iload_n 3, 1) := dk_29 (dk_at dksX2_narrowSum_0 7 rfl rfl)
theorem dX2_narrowSum_8 : decode cX2_narrowSum 8 = .ok (.invokevirtual 146, 3) := dk_182 0 146 (dk_at dksX2_narrowSum_0 8 rfl rfl)
theorem dX2_narrowSum_11 : decode cX2_narrowSum 11 = .ok (.ireturn, 1) := dk_172 (dk_at dksX2_narrowSum_0 11 rfl rfl)
abbrev cX2_narrowSort : ByteArray := prog_4_method_61_code
def yX2_narrowSort : MethodName := ⟨RX2, "narrowSort", "(I)I"⟩
def dkwX2_narrowSort_0 : List UInt8 := [42, 42, 180, 0, 24, 27, 182, 0, 149, 172]
abbrev dktX2_narrowSort_0 : List UInt8 := dkwX2_narrowSort_0 ++ []
theorem dksX2_narrowSort_0 : cX2_narrowSort.data.toList.drop 0 = dktX2_narrowSort_0 := by decide +kernel
theorem dX2_narrowSort_0 : decode cX2_narrowSort 0 = .ok (.aload_n 0, 1) := dk_42 (dk_at dksX2_narrowSort_0 0 rfl rfl)
theorem dX2_narrowSort_1 : decode cX2_narrowSort 1 = .ok (.aload_n 0, 1) := dk_42 (dk_at dksX2_narrowSort_0 1 rfl rfl)
theorem dX2_narrowSort_2 : decode cX2_narrowSort 2 = .ok (.getfield 24, 3) := dk_180 0 24 (dk_at dksX2_narrowSort_0 2 rfl rfl)
theorem dX2_narrowSort_5 : decode cX2_narrowSort 5 = .ok (.iload_n 1, 1) := dk_27 (dk_at dksX2_narrowSort_0 5 rfl rfl)
theorem dX2_narrowSort_6 : decode cX2_narrowSort 6 = .ok (.invokevirtual 149, 3) := dk_182 0 149 (dk_at dksX2_narrowSort_0 6 rfl rfl)
theorem dX2_narrowSort_9 : decode cX2_narrowSort 9 = .ok (.ireturn, 1) := dk_172 (dk_at dksX2_narrowSort_0 9 rfl rfl)
abbrev cX2_narrowEnd : ByteArray := prog_4_method_62_code
def yX2_narrowEnd : MethodName := ⟨RX2, "narrowEnd", "(ZI)I"⟩
def dkwX2_narrowEnd_0 : List UInt8 := [42, 42, 180, 0, 24, 27, 28, 182, 0, 152, 172]
abbrev dktX2_narrowEnd_0 : List UInt8 := dkwX2_narrowEnd_0 ++ []
theorem dksX2_narrowEnd_0 : cX2_narrowEnd.data.toList.drop 0 = dktX2_narrowEnd_0 := by decide +kernel
theorem dX2_narrowEnd_0 : decode cX2_narrowEnd 0 = .ok (.aload_n 0, 1) := dk_42 (dk_at dksX2_narrowEnd_0 0 rfl rfl)
theorem dX2_narrowEnd_1 : decode cX2_narrowEnd 1 = .ok (.aload_n 0, 1) := dk_42 (dk_at dksX2_narrowEnd_0 1 rfl rfl)
theorem dX2_narrowEnd_2 : decode cX2_narrowEnd 2 = .ok (.getfield 24, 3) := dk_180 0 24 (dk_at dksX2_narrowEnd_0 2 rfl rfl)
theorem dX2_narrowEnd_5 : decode cX2_narrowEnd 5 = .ok (.iload_n 1, 1) := dk_27 (dk_at dksX2_narrowEnd_0 5 rfl rfl)
theorem dX2_narrowEnd_6 : decode cX2_narrowEnd 6 = .ok (.iload_n 2, 1) := dk_28 (dk_at dksX2_narrowEnd_0 6 rfl rfl)
theorem dX2_narrowEnd_7 : decode cX2_narrowEnd 7 = .ok (.invokevirtual 152, 3) := dk_182 0 152 (dk_at dksX2_narrowEnd_0 7 rfl rfl)
theorem dX2_narrowEnd_10 : decode cX2_narrowEnd 10 = .ok (.ireturn, 1) := dk_172 (dk_at dksX2_narrowEnd_0 10 rfl rfl)
abbrev cX2_digits : ByteArray := prog_4_method_63_code
def yX2_digits : MethodName := ⟨RX2, "digits", "(I)I"⟩
def dkwX2_digits_1 : List UInt8 := [47, 136, 172]
abbrev dktX2_digits_1 : List UInt8 := dkwX2_digits_1 ++ []
def dkwX2_digits_0 : List UInt8 := [42, 27, 184, 0, 35, 3, 182, 0, 42, 153, 0, 7, 3, 167, 0, 13, 42, 180, 0, 24, 180, 0, 74, 27]
abbrev dktX2_digits_0 : List UInt8 := dkwX2_digits_0 ++ dktX2_digits_1
theorem dksX2_digits_0 : cX2_digits.data.toList.drop 0 = dktX2_digits_0 := by decide +kernel
theorem dksX2_digits_1 : cX2_digits.data.toList.drop 24 = dktX2_digits_1 := dk_seg dksX2_digits_0 24 rfl rfl
theorem dX2_digits_0 : decode cX2_digits 0 = .ok (.aload_n 0, 1) := dk_42 (dk_at dksX2_digits_0 0 rfl rfl)
theorem dX2_digits_1 : decode cX2_digits 1 = .ok (.iload_n 1, 1) := dk_27 (dk_at dksX2_digits_0 1 rfl rfl)
theorem dX2_digits_2 : decode cX2_digits 2 = .ok (.invokestatic 35, 3) := dk_184 0 35 (dk_at dksX2_digits_0 2 rfl rfl)
theorem dX2_digits_5 : decode cX2_digits 5 = .ok (.iconst 0, 1) := dk_3 (dk_at dksX2_digits_0 5 rfl rfl)
theorem dX2_digits_6 : decode cX2_digits 6 = .ok (.invokevirtual 42, 3) := dk_182 0 42 (dk_at dksX2_digits_0 6 rfl rfl)
theorem dX2_digits_9 : decode cX2_digits 9 = .ok (.ifCond .eq 7, 3) := dk_153 0 7 (dk_at dksX2_digits_0 9 rfl rfl)
theorem dX2_digits_12 : decode cX2_digits 12 = .ok (.iconst 0, 1) := dk_3 (dk_at dksX2_digits_0 12 rfl rfl)
theorem dX2_digits_13 : decode cX2_digits 13 = .ok (.goto 13, 3) := dk_167 0 13 (dk_at dksX2_digits_0 13 rfl rfl)
theorem dX2_digits_16 : decode cX2_digits 16 = .ok (.aload_n 0, 1) := dk_42 (dk_at dksX2_digits_0 16 rfl rfl)
theorem dX2_digits_17 : decode cX2_digits 17 = .ok (.getfield 24, 3) := dk_180 0 24 (dk_at dksX2_digits_0 17 rfl rfl)
theorem dX2_digits_20 : decode cX2_digits 20 = .ok (.getfield 74, 3) := dk_180 0 74 (dk_at dksX2_digits_0 20 rfl rfl)
theorem dX2_digits_23 : decode cX2_digits 23 = .ok (.iload_n 1, 1) := dk_27 (dk_at dksX2_digits_0 23 rfl rfl)
theorem dX2_digits_24 : decode cX2_digits 24 = .ok (.laload, 1) := dk_47 (dk_at dksX2_digits_1 0 rfl rfl)
theorem dX2_digits_25 : decode cX2_digits 25 = .ok (.l2i, 1) := dk_136 (dk_at dksX2_digits_1 1 rfl rfl)
theorem dX2_digits_26 : decode cX2_digits 26 = .ok (.ireturn, 1) := dk_172 (dk_at dksX2_digits_1 2 rfl rfl)
abbrev cX2_narrowText : ByteArray := prog_4_method_64_code
def yX2_narrowText : MethodName := ⟨RX2, "narrowText", "(I)Ljava/lang/String;"⟩
def dkwX2_narrowText_0 : List UInt8 := [42, 42, 180, 0, 24, 27, 182, 0, 155, 176]
abbrev dktX2_narrowText_0 : List UInt8 := dkwX2_narrowText_0 ++ []
theorem dksX2_narrowText_0 : cX2_narrowText.data.toList.drop 0 = dktX2_narrowText_0 := by decide +kernel
theorem dX2_narrowText_0 : decode cX2_narrowText 0 = .ok (.aload_n 0, 1) := dk_42 (dk_at dksX2_narrowText_0 0 rfl rfl)
theorem dX2_narrowText_1 : decode cX2_narrowText 1 = .ok (.aload_n 0, 1) := dk_42 (dk_at dksX2_narrowText_0 1 rfl rfl)
theorem dX2_narrowText_2 : decode cX2_narrowText 2 = .ok (.getfield 24, 3) := dk_180 0 24 (dk_at dksX2_narrowText_0 2 rfl rfl)
theorem dX2_narrowText_5 : decode cX2_narrowText 5 = .ok (.iload_n 1, 1) := dk_27 (dk_at dksX2_narrowText_0 5 rfl rfl)
theorem dX2_narrowText_6 : decode cX2_narrowText 6 = .ok (.invokevirtual 155, 3) := dk_182 0 155 (dk_at dksX2_narrowText_0 6 rfl rfl)
theorem dX2_narrowText_9 : decode cX2_narrowText 9 = .ok (.areturn, 1) := dk_176 (dk_at dksX2_narrowText_0 9 rfl rfl)
abbrev cX2_narrowOrder : ByteArray := prog_4_method_65_code
def yX2_narrowOrder : MethodName := ⟨RX2, "narrowOrder", "(III)I"⟩
def dkwX2_narrowOrder_0 : List UInt8 := [42, 42, 180, 0, 24, 27, 28, 29, 182, 0, 158, 172]
abbrev dktX2_narrowOrder_0 : List UInt8 := dkwX2_narrowOrder_0 ++ []
theorem dksX2_narrowOrder_0 : cX2_narrowOrder.data.toList.drop 0 = dktX2_narrowOrder_0 := by decide +kernel
theorem dX2_narrowOrder_0 : decode cX2_narrowOrder 0 = .ok (.aload_n 0, 1) := dk_42 (dk_at dksX2_narrowOrder_0 0 rfl rfl)
theorem dX2_narrowOrder_1 : decode cX2_narrowOrder 1 = .ok (.aload_n 0, 1) := dk_42 (dk_at dksX2_narrowOrder_0 1 rfl rfl)
theorem dX2_narrowOrder_2 : decode cX2_narrowOrder 2 = .ok (.getfield 24, 3) := dk_180 0 24 (dk_at dksX2_narrowOrder_0 2 rfl rfl)
theorem dX2_narrowOrder_5 : decode cX2_narrowOrder 5 = .ok (.iload_n 1, 1) := dk_27 (dk_at dksX2_narrowOrder_0 5 rfl rfl)
theorem dX2_narrowOrder_6 : decode cX2_narrowOrder 6 = .ok (.iload_n 2, 1) := dk_28 (dk_at dksX2_narrowOrder_0 6 rfl rfl)
theorem dX2_narrowOrder_7 : decode cX2_narrowOrder 7 = .ok (.iload_n 3, 1) := dk_29 (dk_at dksX2_narrowOrder_0 7 rfl rfl)
theorem dX2_narrowOrder_8 : decode cX2_narrowOrder 8 = .ok (.invokevirtual 158, 3) := dk_182 0 158 (dk_at dksX2_narrowOrder_0 8 rfl rfl)
theorem dX2_narrowOrder_11 : decode cX2_narrowOrder 11 = .ok (.ireturn, 1) := dk_172 (dk_at dksX2_narrowOrder_0 11 rfl rfl)
abbrev cX2_narrowSame : ByteArray := prog_4_method_66_code
def yX2_narrowSame : MethodName := ⟨RX2, "narrowSame", "(III)Z"⟩
def dkwX2_narrowSame_0 : List UInt8 := [42, 42, 180, 0, 24, 27, 28, 29, 182, 0, 160, 172]
abbrev dktX2_narrowSame_0 : List UInt8 := dkwX2_narrowSame_0 ++ []
theorem dksX2_narrowSame_0 : cX2_narrowSame.data.toList.drop 0 = dktX2_narrowSame_0 := by decide +kernel
theorem dX2_narrowSame_0 : decode cX2_narrowSame 0 = .ok (.aload_n 0, 1) := dk_42 (dk_at dksX2_narrowSame_0 0 rfl rfl)
theorem dX2_narrowSame_1 : decode cX2_narrowSame 1 = .ok (.aload_n 0, 1) := dk_42 (dk_at dksX2_narrowSame_0 1 rfl rfl)
theorem dX2_narrowSame_2 : decode cX2_narrowSame 2 = .ok (.getfield 24, 3) := dk_180 0 24 (dk_at dksX2_narrowSame_0 2 rfl rfl)
theorem dX2_narrowSame_5 : decode cX2_narrowSame 5 = .ok (.iload_n 1, 1) := dk_27 (dk_at dksX2_narrowSame_0 5 rfl rfl)
theorem dX2_narrowSame_6 : decode cX2_narrowSame 6 = .ok (.iload_n 2, 1) := dk_28 (dk_at dksX2_narrowSame_0 6 rfl rfl)
theorem dX2_narrowSame_7 : decode cX2_narrowSame 7 = .ok (.iload_n 3, 1) := dk_29 (dk_at dksX2_narrowSame_0 7 rfl rfl)
theorem dX2_narrowSame_8 : decode cX2_narrowSame 8 = .ok (.invokevirtual 160, 3) := dk_182 0 160 (dk_at dksX2_narrowSame_0 8 rfl rfl)
theorem dX2_narrowSame_11 : decode cX2_narrowSame 11 = .ok (.ireturn, 1) := dk_172 (dk_at dksX2_narrowSame_0 11 rfl rfl)
abbrev cX2_narrowOther : ByteArray := prog_4_method_67_code
def yX2_narrowOther : MethodName := ⟨RX2, "narrowOther", "(II)Z"⟩
def dkwX2_narrowOther_0 : List UInt8 := [42, 27, 28, 182, 0, 164, 172]
abbrev dktX2_narrowOther_0 : List UInt8 := dkwX2_narrowOther_0 ++ []
theorem dksX2_narrowOther_0 : cX2_narrowOther.data.toList.drop 0 = dktX2_narrowOther_0 := by decide +kernel
theorem dX2_narrowOther_0 : decode cX2_narrowOther 0 = .ok (.aload_n 0, 1) := dk_42 (dk_at dksX2_narrowOther_0 0 rfl rfl)
theorem dX2_narrowOther_1 : decode cX2_narrowOther 1 = .ok (.iload_n 1, 1) := dk_27 (dk_at dksX2_narrowOther_0 1 rfl rfl)
theorem dX2_narrowOther_2 : decode cX2_narrowOther 2 = .ok (.iload_n 2, 1) := dk_28 (dk_at dksX2_narrowOther_0 2 rfl rfl)
theorem dX2_narrowOther_3 : decode cX2_narrowOther 3 = .ok (.invokevirtual 164, 3) := dk_182 0 164 (dk_at dksX2_narrowOther_0 3 rfl rfl)
theorem dX2_narrowOther_6 : decode cX2_narrowOther 6 = .ok (.ireturn, 1) := dk_172 (dk_at dksX2_narrowOther_0 6 rfl rfl)
abbrev cX2_narrowLike : ByteArray := prog_4_method_68_code
def yX2_narrowLike : MethodName := ⟨RX2, "narrowLike", "(II)Z"⟩
def dkwX2_narrowLike_0 : List UInt8 := [42, 42, 180, 0, 24, 27, 28, 182, 0, 167, 172]
abbrev dktX2_narrowLike_0 : List UInt8 := dkwX2_narrowLike_0 ++ []
theorem dksX2_narrowLike_0 : cX2_narrowLike.data.toList.drop 0 = dktX2_narrowLike_0 := by decide +kernel
theorem dX2_narrowLike_0 : decode cX2_narrowLike 0 = .ok (.aload_n 0, 1) := dk_42 (dk_at dksX2_narrowLike_0 0 rfl rfl)
theorem dX2_narrowLike_1 : decode cX2_narrowLike 1 = .ok (.aload_n 0, 1) := dk_42 (dk_at dksX2_narrowLike_0 1 rfl rfl)
theorem dX2_narrowLike_2 : decode cX2_narrowLike 2 = .ok (.getfield 24, 3) := dk_180 0 24 (dk_at dksX2_narrowLike_0 2 rfl rfl)
theorem dX2_narrowLike_5 : decode cX2_narrowLike 5 = .ok (.iload_n 1, 1) := dk_27 (dk_at dksX2_narrowLike_0 5 rfl rfl)
theorem dX2_narrowLike_6 : decode cX2_narrowLike 6 = .ok (.iload_n 2, 1) := dk_28 (dk_at dksX2_narrowLike_0 6 rfl rfl)
theorem dX2_narrowLike_7 : decode cX2_narrowLike 7 = .ok (.invokevirtual 167, 3) := dk_182 0 167 (dk_at dksX2_narrowLike_0 7 rfl rfl)
theorem dX2_narrowLike_10 : decode cX2_narrowLike 10 = .ok (.ireturn, 1) := dk_172 (dk_at dksX2_narrowLike_0 10 rfl rfl)
abbrev cX2_narrowBelow : ByteArray := prog_4_method_69_code
def yX2_narrowBelow : MethodName := ⟨RX2, "narrowBelow", "(IIZ)Z"⟩
def dkwX2_narrowBelow_0 : List UInt8 := [42, 42, 180, 0, 24, 27, 28, 29, 182, 0, 171, 172]
abbrev dktX2_narrowBelow_0 : List UInt8 := dkwX2_narrowBelow_0 ++ []
theorem dksX2_narrowBelow_0 : cX2_narrowBelow.data.toList.drop 0 = dktX2_narrowBelow_0 := by decide +kernel
theorem dX2_narrowBelow_0 : decode cX2_narrowBelow 0 = .ok (.aload_n 0, 1) := dk_42 (dk_at dksX2_narrowBelow_0 0 rfl rfl)
theorem dX2_narrowBelow_1 : decode cX2_narrowBelow 1 = .ok (.aload_n 0, 1) := dk_42 (dk_at dksX2_narrowBelow_0 1 rfl rfl)
theorem dX2_narrowBelow_2 : decode cX2_narrowBelow 2 = .ok (.getfield 24, 3) := dk_180 0 24 (dk_at dksX2_narrowBelow_0 2 rfl rfl)
theorem dX2_narrowBelow_5 : decode cX2_narrowBelow 5 = .ok (.iload_n 1, 1) := dk_27 (dk_at dksX2_narrowBelow_0 5 rfl rfl)
theorem dX2_narrowBelow_6 : decode cX2_narrowBelow 6 = .ok (.iload_n 2, 1) := dk_28 (dk_at dksX2_narrowBelow_0 6 rfl rfl)
theorem dX2_narrowBelow_7 : decode cX2_narrowBelow 7 = .ok (.iload_n 3, 1) := dk_29 (dk_at dksX2_narrowBelow_0 7 rfl rfl)
theorem dX2_narrowBelow_8 : decode cX2_narrowBelow 8 = .ok (.invokevirtual 171, 3) := dk_182 0 171 (dk_at dksX2_narrowBelow_0 8 rfl rfl)
theorem dX2_narrowBelow_11 : decode cX2_narrowBelow 11 = .ok (.ireturn, 1) := dk_172 (dk_at dksX2_narrowBelow_0 11 rfl rfl)
abbrev cX2_narrowHash : ByteArray := prog_4_method_70_code
def yX2_narrowHash : MethodName := ⟨RX2, "narrowHash", "(II)I"⟩
def dkwX2_narrowHash_1 : List UInt8 := [153, 0, 7, 3, 167, 0, 13, 42, 180, 0, 24, 180, 0, 74, 27, 47, 136, 172]
abbrev dktX2_narrowHash_1 : List UInt8 := dkwX2_narrowHash_1 ++ []
def dkwX2_narrowHash_0 : List UInt8 := [42, 27, 184, 0, 35, 28, 3, 4, 184, 0, 31, 154, 0, 7, 4, 167, 0, 4, 3, 182, 0, 42]
abbrev dktX2_narrowHash_0 : List UInt8 := dkwX2_narrowHash_0 ++ dktX2_narrowHash_1
theorem dksX2_narrowHash_0 : cX2_narrowHash.data.toList.drop 0 = dktX2_narrowHash_0 := by decide +kernel
theorem dksX2_narrowHash_1 : cX2_narrowHash.data.toList.drop 22 = dktX2_narrowHash_1 := dk_seg dksX2_narrowHash_0 22 rfl rfl
theorem dX2_narrowHash_0 : decode cX2_narrowHash 0 = .ok (.aload_n 0, 1) := dk_42 (dk_at dksX2_narrowHash_0 0 rfl rfl)
theorem dX2_narrowHash_1 : decode cX2_narrowHash 1 = .ok (.iload_n 1, 1) := dk_27 (dk_at dksX2_narrowHash_0 1 rfl rfl)
theorem dX2_narrowHash_2 : decode cX2_narrowHash 2 = .ok (.invokestatic 35, 3) := dk_184 0 35 (dk_at dksX2_narrowHash_0 2 rfl rfl)
theorem dX2_narrowHash_5 : decode cX2_narrowHash 5 = .ok (.iload_n 2, 1) := dk_28 (dk_at dksX2_narrowHash_0 5 rfl rfl)
theorem dX2_narrowHash_6 : decode cX2_narrowHash 6 = .ok (.iconst 0, 1) := dk_3 (dk_at dksX2_narrowHash_0 6 rfl rfl)
theorem dX2_narrowHash_7 : decode cX2_narrowHash 7 = .ok (.iconst 1, 1) := dk_4 (dk_at dksX2_narrowHash_0 7 rfl rfl)
theorem dX2_narrowHash_8 : decode cX2_narrowHash 8 = .ok (.invokestatic 31, 3) := dk_184 0 31 (dk_at dksX2_narrowHash_0 8 rfl rfl)
theorem dX2_narrowHash_11 : decode cX2_narrowHash 11 = .ok (.ifCond .ne 7, 3) := dk_154 0 7 (dk_at dksX2_narrowHash_0 11 rfl rfl)
theorem dX2_narrowHash_14 : decode cX2_narrowHash 14 = .ok (.iconst 1, 1) := dk_4 (dk_at dksX2_narrowHash_0 14 rfl rfl)
theorem dX2_narrowHash_15 : decode cX2_narrowHash 15 = .ok (.goto 4, 3) := dk_167 0 4 (dk_at dksX2_narrowHash_0 15 rfl rfl)
theorem dX2_narrowHash_18 : decode cX2_narrowHash 18 = .ok (.iconst 0, 1) := dk_3 (dk_at dksX2_narrowHash_0 18 rfl rfl)
theorem dX2_narrowHash_19 : decode cX2_narrowHash 19 = .ok (.invokevirtual 42, 3) := dk_182 0 42 (dk_at dksX2_narrowHash_0 19 rfl rfl)
theorem dX2_narrowHash_22 : decode cX2_narrowHash 22 = .ok (.ifCond .eq 7, 3) := dk_153 0 7 (dk_at dksX2_narrowHash_1 0 rfl rfl)
theorem dX2_narrowHash_25 : decode cX2_narrowHash 25 = .ok (.iconst 0, 1) := dk_3 (dk_at dksX2_narrowHash_1 3 rfl rfl)
theorem dX2_narrowHash_26 : decode cX2_narrowHash 26 = .ok (.goto 13, 3) := dk_167 0 13 (dk_at dksX2_narrowHash_1 4 rfl rfl)
theorem dX2_narrowHash_29 : decode cX2_narrowHash 29 = .ok (.aload_n 0, 1) := dk_42 (dk_at dksX2_narrowHash_1 7 rfl rfl)
theorem dX2_narrowHash_30 : decode cX2_narrowHash 30 = .ok (.getfield 24, 3) := dk_180 0 24 (dk_at dksX2_narrowHash_1 8 rfl rfl)
theorem dX2_narrowHash_33 : decode cX2_narrowHash 33 = .ok (.getfield 74, 3) := dk_180 0 74 (dk_at dksX2_narrowHash_1 11 rfl rfl)
theorem dX2_narrowHash_36 : decode cX2_narrowHash 36 = .ok (.iload_n 1, 1) := dk_27 (dk_at dksX2_narrowHash_1 14 rfl rfl)
theorem dX2_narrowHash_37 : decode cX2_narrowHash 37 = .ok (.laload, 1) := dk_47 (dk_at dksX2_narrowHash_1 15 rfl rfl)
theorem dX2_narrowHash_38 : decode cX2_narrowHash 38 = .ok (.l2i, 1) := dk_136 (dk_at dksX2_narrowHash_1 16 rfl rfl)
theorem dX2_narrowHash_39 : decode cX2_narrowHash 39 = .ok (.ireturn, 1) := dk_172 (dk_at dksX2_narrowHash_1 17 rfl rfl)
abbrev cX2_narrowEndless : ByteArray := prog_4_method_71_code
def yX2_narrowEndless : MethodName := ⟨RX2, "narrowEndless", "(II)Z"⟩
def dkwX2_narrowEndless_0 : List UInt8 := [42, 42, 180, 0, 24, 27, 28, 182, 0, 179, 172]
abbrev dktX2_narrowEndless_0 : List UInt8 := dkwX2_narrowEndless_0 ++ []
theorem dksX2_narrowEndless_0 : cX2_narrowEndless.data.toList.drop 0 = dktX2_narrowEndless_0 := by decide +kernel
theorem dX2_narrowEndless_0 : decode cX2_narrowEndless 0 = .ok (.aload_n 0, 1) := dk_42 (dk_at dksX2_narrowEndless_0 0 rfl rfl)
theorem dX2_narrowEndless_1 : decode cX2_narrowEndless 1 = .ok (.aload_n 0, 1) := dk_42 (dk_at dksX2_narrowEndless_0 1 rfl rfl)
theorem dX2_narrowEndless_2 : decode cX2_narrowEndless 2 = .ok (.getfield 24, 3) := dk_180 0 24 (dk_at dksX2_narrowEndless_0 2 rfl rfl)
theorem dX2_narrowEndless_5 : decode cX2_narrowEndless 5 = .ok (.iload_n 1, 1) := dk_27 (dk_at dksX2_narrowEndless_0 5 rfl rfl)
theorem dX2_narrowEndless_6 : decode cX2_narrowEndless 6 = .ok (.iload_n 2, 1) := dk_28 (dk_at dksX2_narrowEndless_0 6 rfl rfl)
theorem dX2_narrowEndless_7 : decode cX2_narrowEndless 7 = .ok (.invokevirtual 179, 3) := dk_182 0 179 (dk_at dksX2_narrowEndless_0 7 rfl rfl)
theorem dX2_narrowEndless_10 : decode cX2_narrowEndless 10 = .ok (.ireturn, 1) := dk_172 (dk_at dksX2_narrowEndless_0 10 rfl rfl)
abbrev cX2_narrowCount : ByteArray := prog_4_method_72_code
def yX2_narrowCount : MethodName := ⟨RX2, "narrowCount", "(I)I"⟩
def dkwX2_narrowCount_0 : List UInt8 := [42, 42, 180, 0, 24, 27, 182, 0, 182, 172]
abbrev dktX2_narrowCount_0 : List UInt8 := dkwX2_narrowCount_0 ++ []
theorem dksX2_narrowCount_0 : cX2_narrowCount.data.toList.drop 0 = dktX2_narrowCount_0 := by decide +kernel
theorem dX2_narrowCount_0 : decode cX2_narrowCount 0 = .ok (.aload_n 0, 1) := dk_42 (dk_at dksX2_narrowCount_0 0 rfl rfl)
theorem dX2_narrowCount_1 : decode cX2_narrowCount 1 = .ok (.aload_n 0, 1) := dk_42 (dk_at dksX2_narrowCount_0 1 rfl rfl)
theorem dX2_narrowCount_2 : decode cX2_narrowCount 2 = .ok (.getfield 24, 3) := dk_180 0 24 (dk_at dksX2_narrowCount_0 2 rfl rfl)
theorem dX2_narrowCount_5 : decode cX2_narrowCount 5 = .ok (.iload_n 1, 1) := dk_27 (dk_at dksX2_narrowCount_0 5 rfl rfl)
theorem dX2_narrowCount_6 : decode cX2_narrowCount 6 = .ok (.invokevirtual 182, 3) := dk_182 0 182 (dk_at dksX2_narrowCount_0 6 rfl rfl)
theorem dX2_narrowCount_9 : decode cX2_narrowCount 9 = .ok (.ireturn, 1) := dk_172 (dk_at dksX2_narrowCount_0 9 rfl rfl)
abbrev cX2_narrowFind : ByteArray := prog_4_method_73_code
def yX2_narrowFind : MethodName := ⟨RX2, "narrowFind", "(IZ)I"⟩
def dkwX2_narrowFind_0 : List UInt8 := [42, 42, 180, 0, 24, 27, 28, 182, 0, 184, 172]
abbrev dktX2_narrowFind_0 : List UInt8 := dkwX2_narrowFind_0 ++ []
theorem dksX2_narrowFind_0 : cX2_narrowFind.data.toList.drop 0 = dktX2_narrowFind_0 := by decide +kernel
theorem dX2_narrowFind_0 : decode cX2_narrowFind 0 = .ok (.aload_n 0, 1) := dk_42 (dk_at dksX2_narrowFind_0 0 rfl rfl)
theorem dX2_narrowFind_1 : decode cX2_narrowFind 1 = .ok (.aload_n 0, 1) := dk_42 (dk_at dksX2_narrowFind_0 1 rfl rfl)
theorem dX2_narrowFind_2 : decode cX2_narrowFind 2 = .ok (.getfield 24, 3) := dk_180 0 24 (dk_at dksX2_narrowFind_0 2 rfl rfl)
theorem dX2_narrowFind_5 : decode cX2_narrowFind 5 = .ok (.iload_n 1, 1) := dk_27 (dk_at dksX2_narrowFind_0 5 rfl rfl)
theorem dX2_narrowFind_6 : decode cX2_narrowFind 6 = .ok (.iload_n 2, 1) := dk_28 (dk_at dksX2_narrowFind_0 6 rfl rfl)
theorem dX2_narrowFind_7 : decode cX2_narrowFind 7 = .ok (.invokevirtual 184, 3) := dk_182 0 184 (dk_at dksX2_narrowFind_0 7 rfl rfl)
theorem dX2_narrowFind_10 : decode cX2_narrowFind 10 = .ok (.ireturn, 1) := dk_172 (dk_at dksX2_narrowFind_0 10 rfl rfl)
abbrev cX2_narrowHas : ByteArray := prog_4_method_74_code
def yX2_narrowHas : MethodName := ⟨RX2, "narrowHas", "(I)Z"⟩
def dkwX2_narrowHas_0 : List UInt8 := [42, 42, 180, 0, 24, 27, 182, 0, 187, 172]
abbrev dktX2_narrowHas_0 : List UInt8 := dkwX2_narrowHas_0 ++ []
theorem dksX2_narrowHas_0 : cX2_narrowHas.data.toList.drop 0 = dktX2_narrowHas_0 := by decide +kernel
theorem dX2_narrowHas_0 : decode cX2_narrowHas 0 = .ok (.aload_n 0, 1) := dk_42 (dk_at dksX2_narrowHas_0 0 rfl rfl)
theorem dX2_narrowHas_1 : decode cX2_narrowHas 1 = .ok (.aload_n 0, 1) := dk_42 (dk_at dksX2_narrowHas_0 1 rfl rfl)
theorem dX2_narrowHas_2 : decode cX2_narrowHas 2 = .ok (.getfield 24, 3) := dk_180 0 24 (dk_at dksX2_narrowHas_0 2 rfl rfl)
theorem dX2_narrowHas_5 : decode cX2_narrowHas 5 = .ok (.iload_n 1, 1) := dk_27 (dk_at dksX2_narrowHas_0 5 rfl rfl)
theorem dX2_narrowHas_6 : decode cX2_narrowHas 6 = .ok (.invokevirtual 187, 3) := dk_182 0 187 (dk_at dksX2_narrowHas_0 6 rfl rfl)
theorem dX2_narrowHas_9 : decode cX2_narrowHas 9 = .ok (.ireturn, 1) := dk_172 (dk_at dksX2_narrowHas_0 9 rfl rfl)
abbrev cX2_house : ByteArray := prog_4_method_76_code
def yX2_house : MethodName := ⟨RX2, "house", "(I)I"⟩
def dkwX2_house_1 : List UInt8 := [167, 0, 8, 42, 27, 182, 0, 197, 172]
abbrev dktX2_house_1 : List UInt8 := dkwX2_house_1 ++ []
def dkwX2_house_0 : List UInt8 := [42, 27, 3, 6, 184, 0, 31, 154, 0, 7, 4, 167, 0, 4, 3, 3, 182, 0, 42, 153, 0, 7, 3]
abbrev dktX2_house_0 : List UInt8 := dkwX2_house_0 ++ dktX2_house_1
theorem dksX2_house_0 : cX2_house.data.toList.drop 0 = dktX2_house_0 := by decide +kernel
theorem dksX2_house_1 : cX2_house.data.toList.drop 23 = dktX2_house_1 := dk_seg dksX2_house_0 23 rfl rfl
theorem dX2_house_0 : decode cX2_house 0 = .ok (.aload_n 0, 1) := dk_42 (dk_at dksX2_house_0 0 rfl rfl)
theorem dX2_house_1 : decode cX2_house 1 = .ok (.iload_n 1, 1) := dk_27 (dk_at dksX2_house_0 1 rfl rfl)
theorem dX2_house_2 : decode cX2_house 2 = .ok (.iconst 0, 1) := dk_3 (dk_at dksX2_house_0 2 rfl rfl)
theorem dX2_house_3 : decode cX2_house 3 = .ok (.iconst 3, 1) := dk_6 (dk_at dksX2_house_0 3 rfl rfl)
theorem dX2_house_4 : decode cX2_house 4 = .ok (.invokestatic 31, 3) := dk_184 0 31 (dk_at dksX2_house_0 4 rfl rfl)
theorem dX2_house_7 : decode cX2_house 7 = .ok (.ifCond .ne 7, 3) := dk_154 0 7 (dk_at dksX2_house_0 7 rfl rfl)
theorem dX2_house_10 : decode cX2_house 10 = .ok (.iconst 1, 1) := dk_4 (dk_at dksX2_house_0 10 rfl rfl)
theorem dX2_house_11 : decode cX2_house 11 = .ok (.goto 4, 3) := dk_167 0 4 (dk_at dksX2_house_0 11 rfl rfl)
theorem dX2_house_14 : decode cX2_house 14 = .ok (.iconst 0, 1) := dk_3 (dk_at dksX2_house_0 14 rfl rfl)
theorem dX2_house_15 : decode cX2_house 15 = .ok (.iconst 0, 1) := dk_3 (dk_at dksX2_house_0 15 rfl rfl)
theorem dX2_house_16 : decode cX2_house 16 = .ok (.invokevirtual 42, 3) := dk_182 0 42 (dk_at dksX2_house_0 16 rfl rfl)
theorem dX2_house_19 : decode cX2_house 19 = .ok (.ifCond .eq 7, 3) := dk_153 0 7 (dk_at dksX2_house_0 19 rfl rfl)
theorem dX2_house_22 : decode cX2_house 22 = .ok (.iconst 0, 1) := dk_3 (dk_at dksX2_house_0 22 rfl rfl)
theorem dX2_house_23 : decode cX2_house 23 = .ok (.goto 8, 3) := dk_167 0 8 (dk_at dksX2_house_1 0 rfl rfl)
theorem dX2_house_26 : decode cX2_house 26 = .ok (.aload_n 0, 1) := dk_42 (dk_at dksX2_house_1 3 rfl rfl)
theorem dX2_house_27 : decode cX2_house 27 = .ok (.iload_n 1, 1) := dk_27 (dk_at dksX2_house_1 4 rfl rfl)
theorem dX2_house_28 : decode cX2_house 28 = .ok (.invokevirtual 197, 3) := dk_182 0 197 (dk_at dksX2_house_1 5 rfl rfl)
theorem dX2_house_31 : decode cX2_house 31 = .ok (.ireturn, 1) := dk_172 (dk_at dksX2_house_1 8 rfl rfl)
abbrev cX2_houseOf : ByteArray := prog_4_method_75_code
def yX2_houseOf : MethodName := ⟨RX2, "houseOf", "(I)I"⟩
def dkwX2_houseOf_1 : List UInt8 := [180, 0, 191, 167, 0, 19, 27, 5, 160, 0, 10, 42, 180, 0, 39, 167, 0, 7, 42, 180, 0, 194, 172]
abbrev dktX2_houseOf_1 : List UInt8 := dkwX2_houseOf_1 ++ []
def dkwX2_houseOf_0 : List UInt8 := [27, 154, 0, 13, 42, 180, 0, 16, 180, 0, 191, 167, 0, 34, 27, 4, 160, 0, 13, 42, 180, 0, 24]
abbrev dktX2_houseOf_0 : List UInt8 := dkwX2_houseOf_0 ++ dktX2_houseOf_1
theorem dksX2_houseOf_0 : cX2_houseOf.data.toList.drop 0 = dktX2_houseOf_0 := by decide +kernel
theorem dksX2_houseOf_1 : cX2_houseOf.data.toList.drop 23 = dktX2_houseOf_1 := dk_seg dksX2_houseOf_0 23 rfl rfl
theorem dX2_houseOf_0 : decode cX2_houseOf 0 = .ok (.iload_n 1, 1) := dk_27 (dk_at dksX2_houseOf_0 0 rfl rfl)
theorem dX2_houseOf_1 : decode cX2_houseOf 1 = .ok (.ifCond .ne 13, 3) := dk_154 0 13 (dk_at dksX2_houseOf_0 1 rfl rfl)
theorem dX2_houseOf_4 : decode cX2_houseOf 4 = .ok (.aload_n 0, 1) := dk_42 (dk_at dksX2_houseOf_0 4 rfl rfl)
theorem dX2_houseOf_5 : decode cX2_houseOf 5 = .ok (.getfield 16, 3) := dk_180 0 16 (dk_at dksX2_houseOf_0 5 rfl rfl)
theorem dX2_houseOf_8 : decode cX2_houseOf 8 = .ok (.getfield 191, 3) := dk_180 0 191 (dk_at dksX2_houseOf_0 8 rfl rfl)
theorem dX2_houseOf_11 : decode cX2_houseOf 11 = .ok (.goto 34, 3) := dk_167 0 34 (dk_at dksX2_houseOf_0 11 rfl rfl)
theorem dX2_houseOf_14 : decode cX2_houseOf 14 = .ok (.iload_n 1, 1) := dk_27 (dk_at dksX2_houseOf_0 14 rfl rfl)
theorem dX2_houseOf_15 : decode cX2_houseOf 15 = .ok (.iconst 1, 1) := dk_4 (dk_at dksX2_houseOf_0 15 rfl rfl)
theorem dX2_houseOf_16 : decode cX2_houseOf 16 = .ok (.if_icmp .ne 13, 3) := dk_160 0 13 (dk_at dksX2_houseOf_0 16 rfl rfl)
theorem dX2_houseOf_19 : decode cX2_houseOf 19 = .ok (.aload_n 0, 1) := dk_42 (dk_at dksX2_houseOf_0 19 rfl rfl)
theorem dX2_houseOf_20 : decode cX2_houseOf 20 = .ok (.getfield 24, 3) := dk_180 0 24 (dk_at dksX2_houseOf_0 20 rfl rfl)
theorem dX2_houseOf_23 : decode cX2_houseOf 23 = .ok (.getfield 191, 3) := dk_180 0 191 (dk_at dksX2_houseOf_1 0 rfl rfl)
theorem dX2_houseOf_26 : decode cX2_houseOf 26 = .ok (.goto 19, 3) := dk_167 0 19 (dk_at dksX2_houseOf_1 3 rfl rfl)
theorem dX2_houseOf_29 : decode cX2_houseOf 29 = .ok (.iload_n 1, 1) := dk_27 (dk_at dksX2_houseOf_1 6 rfl rfl)
theorem dX2_houseOf_30 : decode cX2_houseOf 30 = .ok (.iconst 2, 1) := dk_5 (dk_at dksX2_houseOf_1 7 rfl rfl)
theorem dX2_houseOf_31 : decode cX2_houseOf 31 = .ok (.if_icmp .ne 10, 3) := dk_160 0 10 (dk_at dksX2_houseOf_1 8 rfl rfl)
theorem dX2_houseOf_34 : decode cX2_houseOf 34 = .ok (.aload_n 0, 1) := dk_42 (dk_at dksX2_houseOf_1 11 rfl rfl)
theorem dX2_houseOf_35 : decode cX2_houseOf 35 = .ok (.getfield 39, 3) := dk_180 0 39 (dk_at dksX2_houseOf_1 12 rfl rfl)
theorem dX2_houseOf_38 : decode cX2_houseOf 38 = .ok (.goto 7, 3) := dk_167 0 7 (dk_at dksX2_houseOf_1 15 rfl rfl)
theorem dX2_houseOf_41 : decode cX2_houseOf 41 = .ok (.aload_n 0, 1) := dk_42 (dk_at dksX2_houseOf_1 18 rfl rfl)
theorem dX2_houseOf_42 : decode cX2_houseOf 42 = .ok (.getfield 194, 3) := dk_180 0 194 (dk_at dksX2_houseOf_1 19 rfl rfl)
theorem dX2_houseOf_45 : decode cX2_houseOf 45 = .ok (.ireturn, 1) := dk_172 (dk_at dksX2_houseOf_1 22 rfl rfl)
abbrev cX2_knock : ByteArray := prog_4_method_77_code
def yX2_knock : MethodName := ⟨RX2, "knock", "()I"⟩
def dkwX2_knock_0 : List UInt8 := [42, 3, 181, 0, 27, 42, 89, 180, 0, 194, 4, 96, 181, 0, 194, 42, 180, 0, 194, 172]
abbrev dktX2_knock_0 : List UInt8 := dkwX2_knock_0 ++ []
theorem dksX2_knock_0 : cX2_knock.data.toList.drop 0 = dktX2_knock_0 := by decide +kernel
theorem dX2_knock_0 : decode cX2_knock 0 = .ok (.aload_n 0, 1) := dk_42 (dk_at dksX2_knock_0 0 rfl rfl)
theorem dX2_knock_1 : decode cX2_knock 1 = .ok (.iconst 0, 1) := dk_3 (dk_at dksX2_knock_0 1 rfl rfl)
theorem dX2_knock_2 : decode cX2_knock 2 = .ok (.putfield 27, 3) := dk_181 0 27 (dk_at dksX2_knock_0 2 rfl rfl)
theorem dX2_knock_5 : decode cX2_knock 5 = .ok (.aload_n 0, 1) := dk_42 (dk_at dksX2_knock_0 5 rfl rfl)
theorem dX2_knock_6 : decode cX2_knock 6 = .ok (.dup, 1) := dk_89 (dk_at dksX2_knock_0 6 rfl rfl)
theorem dX2_knock_7 : decode cX2_knock 7 = .ok (.getfield 194, 3) := dk_180 0 194 (dk_at dksX2_knock_0 7 rfl rfl)
theorem dX2_knock_10 : decode cX2_knock 10 = .ok (.iconst 1, 1) := dk_4 (dk_at dksX2_knock_0 10 rfl rfl)
theorem dX2_knock_11 : decode cX2_knock 11 = .ok (.iadd, 1) := dk_96 (dk_at dksX2_knock_0 11 rfl rfl)
theorem dX2_knock_12 : decode cX2_knock 12 = .ok (.putfield 194, 3) := dk_181 0 194 (dk_at dksX2_knock_0 12 rfl rfl)
theorem dX2_knock_15 : decode cX2_knock 15 = .ok (.aload_n 0, 1) := dk_42 (dk_at dksX2_knock_0 15 rfl rfl)
theorem dX2_knock_16 : decode cX2_knock 16 = .ok (.getfield 194, 3) := dk_180 0 194 (dk_at dksX2_knock_0 16 rfl rfl)
theorem dX2_knock_19 : decode cX2_knock 19 = .ok (.ireturn, 1) := dk_172 (dk_at dksX2_knock_0 19 rfl rfl)
abbrev cX2_isSound : ByteArray := prog_4_method_78_code
def yX2_isSound : MethodName := ⟨RX2, "isSound", "()Z"⟩
def dkwX2_isSound_0 : List UInt8 := [42, 3, 181, 0, 27, 4, 172]
abbrev dktX2_isSound_0 : List UInt8 := dkwX2_isSound_0 ++ []
theorem dksX2_isSound_0 : cX2_isSound.data.toList.drop 0 = dktX2_isSound_0 := by decide +kernel
theorem dX2_isSound_0 : decode cX2_isSound 0 = .ok (.aload_n 0, 1) := dk_42 (dk_at dksX2_isSound_0 0 rfl rfl)
theorem dX2_isSound_1 : decode cX2_isSound 1 = .ok (.iconst 0, 1) := dk_3 (dk_at dksX2_isSound_0 1 rfl rfl)
theorem dX2_isSound_2 : decode cX2_isSound 2 = .ok (.putfield 27, 3) := dk_181 0 27 (dk_at dksX2_isSound_0 2 rfl rfl)
theorem dX2_isSound_5 : decode cX2_isSound 5 = .ok (.iconst 1, 1) := dk_4 (dk_at dksX2_isSound_0 5 rfl rfl)
theorem dX2_isSound_6 : decode cX2_isSound 6 = .ok (.ireturn, 1) := dk_172 (dk_at dksX2_isSound_0 6 rfl rfl)
abbrev cX2_digest : ByteArray := prog_4_method_82_code
def yX2_digest : MethodName := ⟨RX2, "digest", "()J"⟩
def dkwX2_digest_7 : List UInt8 := [132, 3, 1, 167, 255, 237, 31, 10, 184, 0, 202, 173]
abbrev dktX2_digest_7 : List UInt8 := dkwX2_digest_7 ++ []
def dkwX2_digest_6 : List UInt8 := [184, 0, 215, 64, 3, 62, 29, 7, 162, 0, 20, 31, 42, 29, 182, 0, 197, 133, 184, 0, 202, 64]
abbrev dktX2_digest_6 : List UInt8 := dkwX2_digest_6 ++ dktX2_digest_7
def dkwX2_digest_5 : List UInt8 := [184, 0, 211, 64, 132, 3, 1, 167, 255, 209, 31, 42, 180, 0, 16, 184, 0, 215, 42, 180, 0, 24]
abbrev dktX2_digest_5 : List UInt8 := dkwX2_digest_5 ++ dktX2_digest_6
def dkwX2_digest_4 : List UInt8 := [184, 0, 202, 42, 180, 0, 24, 180, 0, 74, 29, 47, 136, 133, 184, 0, 202, 42, 180, 0, 24, 29]
abbrev dktX2_digest_4 : List UInt8 := dkwX2_digest_4 ++ dktX2_digest_5
def dkwX2_digest_3 : List UInt8 := [167, 255, 197, 3, 62, 29, 16, 8, 162, 0, 47, 31, 42, 180, 0, 24, 180, 0, 74, 29, 47, 136, 133]
abbrev dktX2_digest_3 : List UInt8 := dkwX2_digest_3 ++ dktX2_digest_4
def dkwX2_digest_2 : List UInt8 := [184, 0, 202, 42, 29, 182, 0, 175, 133, 184, 0, 202, 42, 180, 0, 16, 29, 184, 0, 211, 64, 132, 3, 1]
abbrev dktX2_digest_2 : List UInt8 := dkwX2_digest_2 ++ dktX2_digest_3
def dkwX2_digest_1 : List UInt8 := [180, 0, 74, 29, 47, 16, 32, 123, 136, 133, 184, 0, 202, 42, 180, 0, 16, 180, 0, 74, 29, 47, 136, 133]
abbrev dktX2_digest_1 : List UInt8 := dkwX2_digest_1 ++ dktX2_digest_2
def dkwX2_digest_0 : List UInt8 := [42, 3, 181, 0, 27, 20, 0, 209, 64, 3, 62, 29, 16, 8, 162, 0, 59, 31, 42, 180, 0, 16]
abbrev dktX2_digest_0 : List UInt8 := dkwX2_digest_0 ++ dktX2_digest_1
theorem dksX2_digest_0 : cX2_digest.data.toList.drop 0 = dktX2_digest_0 := by decide +kernel
theorem dksX2_digest_1 : cX2_digest.data.toList.drop 22 = dktX2_digest_1 := dk_seg dksX2_digest_0 22 rfl rfl
theorem dksX2_digest_2 : cX2_digest.data.toList.drop 46 = dktX2_digest_2 := dk_seg dksX2_digest_1 24 rfl rfl
theorem dksX2_digest_3 : cX2_digest.data.toList.drop 70 = dktX2_digest_3 := dk_seg dksX2_digest_2 24 rfl rfl
theorem dksX2_digest_4 : cX2_digest.data.toList.drop 93 = dktX2_digest_4 := dk_seg dksX2_digest_3 23 rfl rfl
theorem dksX2_digest_5 : cX2_digest.data.toList.drop 115 = dktX2_digest_5 := dk_seg dksX2_digest_4 22 rfl rfl
theorem dksX2_digest_6 : cX2_digest.data.toList.drop 137 = dktX2_digest_6 := dk_seg dksX2_digest_5 22 rfl rfl
theorem dksX2_digest_7 : cX2_digest.data.toList.drop 159 = dktX2_digest_7 := dk_seg dksX2_digest_6 22 rfl rfl
theorem dX2_digest_0 : decode cX2_digest 0 = .ok (.aload_n 0, 1) := dk_42 (dk_at dksX2_digest_0 0 rfl rfl)
theorem dX2_digest_1 : decode cX2_digest 1 = .ok (.iconst 0, 1) := dk_3 (dk_at dksX2_digest_0 1 rfl rfl)
theorem dX2_digest_2 : decode cX2_digest 2 = .ok (.putfield 27, 3) := dk_181 0 27 (dk_at dksX2_digest_0 2 rfl rfl)
theorem dX2_digest_5 : decode cX2_digest 5 = .ok (.ldc2_w 209, 3) := dk_20 0 209 (dk_at dksX2_digest_0 5 rfl rfl)
theorem dX2_digest_8 : decode cX2_digest 8 = .ok (.lstore_n 1, 1) := dk_64 (dk_at dksX2_digest_0 8 rfl rfl)
theorem dX2_digest_9 : decode cX2_digest 9 = .ok (.iconst 0, 1) := dk_3 (dk_at dksX2_digest_0 9 rfl rfl)
theorem dX2_digest_10 : decode cX2_digest 10 = .ok (.istore_n 3, 1) := dk_62 (dk_at dksX2_digest_0 10 rfl rfl)
theorem dX2_digest_11 : decode cX2_digest 11 = .ok (.iload_n 3, 1) := dk_29 (dk_at dksX2_digest_0 11 rfl rfl)
theorem dX2_digest_12 : decode cX2_digest 12 = .ok (.bipush 8, 2) := dk_16 8 (dk_at dksX2_digest_0 12 rfl rfl)
theorem dX2_digest_14 : decode cX2_digest 14 = .ok (.if_icmp .ge 59, 3) := dk_162 0 59 (dk_at dksX2_digest_0 14 rfl rfl)
theorem dX2_digest_17 : decode cX2_digest 17 = .ok (.lload_n 1, 1) := dk_31 (dk_at dksX2_digest_0 17 rfl rfl)
theorem dX2_digest_18 : decode cX2_digest 18 = .ok (.aload_n 0, 1) := dk_42 (dk_at dksX2_digest_0 18 rfl rfl)
theorem dX2_digest_19 : decode cX2_digest 19 = .ok (.getfield 16, 3) := dk_180 0 16 (dk_at dksX2_digest_0 19 rfl rfl)
theorem dX2_digest_22 : decode cX2_digest 22 = .ok (.getfield 74, 3) := dk_180 0 74 (dk_at dksX2_digest_1 0 rfl rfl)
theorem dX2_digest_25 : decode cX2_digest 25 = .ok (.iload_n 3, 1) := dk_29 (dk_at dksX2_digest_1 3 rfl rfl)
theorem dX2_digest_26 : decode cX2_digest 26 = .ok (.laload, 1) := dk_47 (dk_at dksX2_digest_1 4 rfl rfl)
theorem dX2_digest_27 : decode cX2_digest 27 = .ok (.bipush 32, 2) := dk_16 32 (dk_at dksX2_digest_1 5 rfl rfl)
theorem dX2_digest_29 : decode cX2_digest 29 = .ok (.lshr, 1) := dk_123 (dk_at dksX2_digest_1 7 rfl rfl)
theorem dX2_digest_30 : decode cX2_digest 30 = .ok (.l2i, 1) := dk_136 (dk_at dksX2_digest_1 8 rfl rfl)
theorem dX2_digest_31 : decode cX2_digest 31 = .ok (.i2l, 1) := dk_133 (dk_at dksX2_digest_1 9 rfl rfl)
theorem dX2_digest_32 : decode cX2_digest 32 = .ok (.invokestatic 202, 3) := dk_184 0 202 (dk_at dksX2_digest_1 10 rfl rfl)
theorem dX2_digest_35 : decode cX2_digest 35 = .ok (.aload_n 0, 1) := dk_42 (dk_at dksX2_digest_1 13 rfl rfl)
theorem dX2_digest_36 : decode cX2_digest 36 = .ok (.getfield 16, 3) := dk_180 0 16 (dk_at dksX2_digest_1 14 rfl rfl)
theorem dX2_digest_39 : decode cX2_digest 39 = .ok (.getfield 74, 3) := dk_180 0 74 (dk_at dksX2_digest_1 17 rfl rfl)
theorem dX2_digest_42 : decode cX2_digest 42 = .ok (.iload_n 3, 1) := dk_29 (dk_at dksX2_digest_1 20 rfl rfl)
theorem dX2_digest_43 : decode cX2_digest 43 = .ok (.laload, 1) := dk_47 (dk_at dksX2_digest_1 21 rfl rfl)
theorem dX2_digest_44 : decode cX2_digest 44 = .ok (.l2i, 1) := dk_136 (dk_at dksX2_digest_1 22 rfl rfl)
theorem dX2_digest_45 : decode cX2_digest 45 = .ok (.i2l, 1) := dk_133 (dk_at dksX2_digest_1 23 rfl rfl)
theorem dX2_digest_46 : decode cX2_digest 46 = .ok (.invokestatic 202, 3) := dk_184 0 202 (dk_at dksX2_digest_2 0 rfl rfl)
theorem dX2_digest_49 : decode cX2_digest 49 = .ok (.aload_n 0, 1) := dk_42 (dk_at dksX2_digest_2 3 rfl rfl)
theorem dX2_digest_50 : decode cX2_digest 50 = .ok (.iload_n 3, 1) := dk_29 (dk_at dksX2_digest_2 4 rfl rfl)
theorem dX2_digest_51 : decode cX2_digest 51 = .ok (.invokevirtual 175, 3) := dk_182 0 175 (dk_at dksX2_digest_2 5 rfl rfl)
theorem dX2_digest_54 : decode cX2_digest 54 = .ok (.i2l, 1) := dk_133 (dk_at dksX2_digest_2 8 rfl rfl)
theorem dX2_digest_55 : decode cX2_digest 55 = .ok (.invokestatic 202, 3) := dk_184 0 202 (dk_at dksX2_digest_2 9 rfl rfl)
theorem dX2_digest_58 : decode cX2_digest 58 = .ok (.aload_n 0, 1) := dk_42 (dk_at dksX2_digest_2 12 rfl rfl)
theorem dX2_digest_59 : decode cX2_digest 59 = .ok (.getfield 16, 3) := dk_180 0 16 (dk_at dksX2_digest_2 13 rfl rfl)
theorem dX2_digest_62 : decode cX2_digest 62 = .ok (.iload_n 3, 1) := dk_29 (dk_at dksX2_digest_2 16 rfl rfl)
theorem dX2_digest_63 : decode cX2_digest 63 = .ok (.invokestatic 211, 3) := dk_184 0 211 (dk_at dksX2_digest_2 17 rfl rfl)
theorem dX2_digest_66 : decode cX2_digest 66 = .ok (.lstore_n 1, 1) := dk_64 (dk_at dksX2_digest_2 20 rfl rfl)
theorem dX2_digest_67 : decode cX2_digest 67 = .ok (.iinc 3 1, 3) := dk_132 3 1 (dk_at dksX2_digest_2 21 rfl rfl)
theorem dX2_digest_70 : decode cX2_digest 70 = .ok (.goto (-59), 3) := dk_167 255 197 (dk_at dksX2_digest_3 0 rfl rfl)
theorem dX2_digest_73 : decode cX2_digest 73 = .ok (.iconst 0, 1) := dk_3 (dk_at dksX2_digest_3 3 rfl rfl)
theorem dX2_digest_74 : decode cX2_digest 74 = .ok (.istore_n 3, 1) := dk_62 (dk_at dksX2_digest_3 4 rfl rfl)
theorem dX2_digest_75 : decode cX2_digest 75 = .ok (.iload_n 3, 1) := dk_29 (dk_at dksX2_digest_3 5 rfl rfl)
theorem dX2_digest_76 : decode cX2_digest 76 = .ok (.bipush 8, 2) := dk_16 8 (dk_at dksX2_digest_3 6 rfl rfl)
theorem dX2_digest_78 : decode cX2_digest 78 = .ok (.if_icmp .ge 47, 3) := dk_162 0 47 (dk_at dksX2_digest_3 8 rfl rfl)
theorem dX2_digest_81 : decode cX2_digest 81 = .ok (.lload_n 1, 1) := dk_31 (dk_at dksX2_digest_3 11 rfl rfl)
theorem dX2_digest_82 : decode cX2_digest 82 = .ok (.aload_n 0, 1) := dk_42 (dk_at dksX2_digest_3 12 rfl rfl)
theorem dX2_digest_83 : decode cX2_digest 83 = .ok (.getfield 24, 3) := dk_180 0 24 (dk_at dksX2_digest_3 13 rfl rfl)
theorem dX2_digest_86 : decode cX2_digest 86 = .ok (.getfield 74, 3) := dk_180 0 74 (dk_at dksX2_digest_3 16 rfl rfl)
theorem dX2_digest_89 : decode cX2_digest 89 = .ok (.iload_n 3, 1) := dk_29 (dk_at dksX2_digest_3 19 rfl rfl)
theorem dX2_digest_90 : decode cX2_digest 90 = .ok (.laload, 1) := dk_47 (dk_at dksX2_digest_3 20 rfl rfl)
theorem dX2_digest_91 : decode cX2_digest 91 = .ok (.l2i, 1) := dk_136 (dk_at dksX2_digest_3 21 rfl rfl)
theorem dX2_digest_92 : decode cX2_digest 92 = .ok (.i2l, 1) := dk_133 (dk_at dksX2_digest_3 22 rfl rfl)
theorem dX2_digest_93 : decode cX2_digest 93 = .ok (.invokestatic 202, 3) := dk_184 0 202 (dk_at dksX2_digest_4 0 rfl rfl)
theorem dX2_digest_96 : decode cX2_digest 96 = .ok (.aload_n 0, 1) := dk_42 (dk_at dksX2_digest_4 3 rfl rfl)
theorem dX2_digest_97 : decode cX2_digest 97 = .ok (.getfield 24, 3) := dk_180 0 24 (dk_at dksX2_digest_4 4 rfl rfl)
theorem dX2_digest_100 : decode cX2_digest 100 = .ok (.getfield 74, 3) := dk_180 0 74 (dk_at dksX2_digest_4 7 rfl rfl)
theorem dX2_digest_103 : decode cX2_digest 103 = .ok (.iload_n 3, 1) := dk_29 (dk_at dksX2_digest_4 10 rfl rfl)
theorem dX2_digest_104 : decode cX2_digest 104 = .ok (.laload, 1) := dk_47 (dk_at dksX2_digest_4 11 rfl rfl)
theorem dX2_digest_105 : decode cX2_digest 105 = .ok (.l2i, 1) := dk_136 (dk_at dksX2_digest_4 12 rfl rfl)
theorem dX2_digest_106 : decode cX2_digest 106 = .ok (.i2l, 1) := dk_133 (dk_at dksX2_digest_4 13 rfl rfl)
theorem dX2_digest_107 : decode cX2_digest 107 = .ok (.invokestatic 202, 3) := dk_184 0 202 (dk_at dksX2_digest_4 14 rfl rfl)
theorem dX2_digest_110 : decode cX2_digest 110 = .ok (.aload_n 0, 1) := dk_42 (dk_at dksX2_digest_4 17 rfl rfl)
theorem dX2_digest_111 : decode cX2_digest 111 = .ok (.getfield 24, 3) := dk_180 0 24 (dk_at dksX2_digest_4 18 rfl rfl)
theorem dX2_digest_114 : decode cX2_digest 114 = .ok (.iload_n 3, 1) := dk_29 (dk_at dksX2_digest_4 21 rfl rfl)
theorem dX2_digest_115 : decode cX2_digest 115 = .ok (.invokestatic 211, 3) := dk_184 0 211 (dk_at dksX2_digest_5 0 rfl rfl)
theorem dX2_digest_118 : decode cX2_digest 118 = .ok (.lstore_n 1, 1) := dk_64 (dk_at dksX2_digest_5 3 rfl rfl)
theorem dX2_digest_119 : decode cX2_digest 119 = .ok (.iinc 3 1, 3) := dk_132 3 1 (dk_at dksX2_digest_5 4 rfl rfl)
theorem dX2_digest_122 : decode cX2_digest 122 = .ok (.goto (-47), 3) := dk_167 255 209 (dk_at dksX2_digest_5 7 rfl rfl)
theorem dX2_digest_125 : decode cX2_digest 125 = .ok (.lload_n 1, 1) := dk_31 (dk_at dksX2_digest_5 10 rfl rfl)
theorem dX2_digest_126 : decode cX2_digest 126 = .ok (.aload_n 0, 1) := dk_42 (dk_at dksX2_digest_5 11 rfl rfl)
theorem dX2_digest_127 : decode cX2_digest 127 = .ok (.getfield 16, 3) := dk_180 0 16 (dk_at dksX2_digest_5 12 rfl rfl)
theorem dX2_digest_130 : decode cX2_digest 130 = .ok (.invokestatic 215, 3) := dk_184 0 215 (dk_at dksX2_digest_5 15 rfl rfl)
theorem dX2_digest_133 : decode cX2_digest 133 = .ok (.aload_n 0, 1) := dk_42 (dk_at dksX2_digest_5 18 rfl rfl)
theorem dX2_digest_134 : decode cX2_digest 134 = .ok (.getfield 24, 3) := dk_180 0 24 (dk_at dksX2_digest_5 19 rfl rfl)
theorem dX2_digest_137 : decode cX2_digest 137 = .ok (.invokestatic 215, 3) := dk_184 0 215 (dk_at dksX2_digest_6 0 rfl rfl)
theorem dX2_digest_140 : decode cX2_digest 140 = .ok (.lstore_n 1, 1) := dk_64 (dk_at dksX2_digest_6 3 rfl rfl)
theorem dX2_digest_141 : decode cX2_digest 141 = .ok (.iconst 0, 1) := dk_3 (dk_at dksX2_digest_6 4 rfl rfl)
theorem dX2_digest_142 : decode cX2_digest 142 = .ok (.istore_n 3, 1) := dk_62 (dk_at dksX2_digest_6 5 rfl rfl)
theorem dX2_digest_143 : decode cX2_digest 143 = .ok (.iload_n 3, 1) := dk_29 (dk_at dksX2_digest_6 6 rfl rfl)
theorem dX2_digest_144 : decode cX2_digest 144 = .ok (.iconst 4, 1) := dk_7 (dk_at dksX2_digest_6 7 rfl rfl)
theorem dX2_digest_145 : decode cX2_digest 145 = .ok (.if_icmp .ge 20, 3) := dk_162 0 20 (dk_at dksX2_digest_6 8 rfl rfl)
theorem dX2_digest_148 : decode cX2_digest 148 = .ok (.lload_n 1, 1) := dk_31 (dk_at dksX2_digest_6 11 rfl rfl)
theorem dX2_digest_149 : decode cX2_digest 149 = .ok (.aload_n 0, 1) := dk_42 (dk_at dksX2_digest_6 12 rfl rfl)
theorem dX2_digest_150 : decode cX2_digest 150 = .ok (.iload_n 3, 1) := dk_29 (dk_at dksX2_digest_6 13 rfl rfl)
theorem dX2_digest_151 : decode cX2_digest 151 = .ok (.invokevirtual 197, 3) := dk_182 0 197 (dk_at dksX2_digest_6 14 rfl rfl)
theorem dX2_digest_154 : decode cX2_digest 154 = .ok (.i2l, 1) := dk_133 (dk_at dksX2_digest_6 17 rfl rfl)
theorem dX2_digest_155 : decode cX2_digest 155 = .ok (.invokestatic 202, 3) := dk_184 0 202 (dk_at dksX2_digest_6 18 rfl rfl)
theorem dX2_digest_158 : decode cX2_digest 158 = .ok (.lstore_n 1, 1) := dk_64 (dk_at dksX2_digest_6 21 rfl rfl)
theorem dX2_digest_159 : decode cX2_digest 159 = .ok (.iinc 3 1, 3) := dk_132 3 1 (dk_at dksX2_digest_7 0 rfl rfl)
theorem dX2_digest_162 : decode cX2_digest 162 = .ok (.goto (-19), 3) := dk_167 255 237 (dk_at dksX2_digest_7 3 rfl rfl)
theorem dX2_digest_165 : decode cX2_digest 165 = .ok (.lload_n 1, 1) := dk_31 (dk_at dksX2_digest_7 6 rfl rfl)
theorem dX2_digest_166 : decode cX2_digest 166 = .ok (.lconst 1, 1) := dk_10 (dk_at dksX2_digest_7 7 rfl rfl)
theorem dX2_digest_167 : decode cX2_digest 167 = .ok (.invokestatic 202, 3) := dk_184 0 202 (dk_at dksX2_digest_7 8 rfl rfl)
theorem dX2_digest_170 : decode cX2_digest 170 = .ok (.lreturn, 1) := dk_173 (dk_at dksX2_digest_7 11 rfl rfl)
abbrev cX2_add : ByteArray := prog_4_method_79_code
def yX2_add : MethodName := ⟨RX2, "add", "(JJ)J"⟩
def dkwX2_add_0 : List UInt8 := [30, 20, 0, 200, 105, 32, 97, 173]
abbrev dktX2_add_0 : List UInt8 := dkwX2_add_0 ++ []
theorem dksX2_add_0 : cX2_add.data.toList.drop 0 = dktX2_add_0 := by decide +kernel
theorem dX2_add_0 : decode cX2_add 0 = .ok (.lload_n 0, 1) := dk_30 (dk_at dksX2_add_0 0 rfl rfl)
theorem dX2_add_1 : decode cX2_add 1 = .ok (.ldc2_w 200, 3) := dk_20 0 200 (dk_at dksX2_add_0 1 rfl rfl)
theorem dX2_add_4 : decode cX2_add 4 = .ok (.lmul, 1) := dk_105 (dk_at dksX2_add_0 4 rfl rfl)
theorem dX2_add_5 : decode cX2_add 5 = .ok (.lload_n 2, 1) := dk_32 (dk_at dksX2_add_0 5 rfl rfl)
theorem dX2_add_6 : decode cX2_add 6 = .ok (.ladd, 1) := dk_97 (dk_at dksX2_add_0 6 rfl rfl)
theorem dX2_add_7 : decode cX2_add 7 = .ok (.lreturn, 1) := dk_173 (dk_at dksX2_add_0 7 rfl rfl)
abbrev cX2_addCell : ByteArray := prog_4_method_81_code
def yX2_addCell : MethodName := ⟨RX2, "addCell", "(JLEdgefloatsModel$Row;I)J"⟩
def dkwX2_addCell_1 : List UInt8 := [182, 0, 121, 133, 184, 0, 202, 44, 22, 4, 4, 182, 0, 121, 133, 184, 0, 202, 173]
abbrev dktX2_addCell_1 : List UInt8 := dkwX2_addCell_1 ++ []
def dkwX2_addCell_0 : List UInt8 := [44, 180, 0, 74, 29, 47, 55, 4, 30, 44, 22, 4, 182, 0, 117, 133, 184, 0, 202, 44, 22, 4, 3]
abbrev dktX2_addCell_0 : List UInt8 := dkwX2_addCell_0 ++ dktX2_addCell_1
theorem dksX2_addCell_0 : cX2_addCell.data.toList.drop 0 = dktX2_addCell_0 := by decide +kernel
theorem dksX2_addCell_1 : cX2_addCell.data.toList.drop 23 = dktX2_addCell_1 := dk_seg dksX2_addCell_0 23 rfl rfl
theorem dX2_addCell_0 : decode cX2_addCell 0 = .ok (.aload_n 2, 1) := dk_44 (dk_at dksX2_addCell_0 0 rfl rfl)
theorem dX2_addCell_1 : decode cX2_addCell 1 = .ok (.getfield 74, 3) := dk_180 0 74 (dk_at dksX2_addCell_0 1 rfl rfl)
theorem dX2_addCell_4 : decode cX2_addCell 4 = .ok (.iload_n 3, 1) := dk_29 (dk_at dksX2_addCell_0 4 rfl rfl)
theorem dX2_addCell_5 : decode cX2_addCell 5 = .ok (.laload, 1) := dk_47 (dk_at dksX2_addCell_0 5 rfl rfl)
theorem dX2_addCell_6 : decode cX2_addCell 6 = .ok (.lstore 4, 2) := dk_55 4 (dk_at dksX2_addCell_0 6 rfl rfl)
theorem dX2_addCell_8 : decode cX2_addCell 8 = .ok (.lload_n 0, 1) := dk_30 (dk_at dksX2_addCell_0 8 rfl rfl)
theorem dX2_addCell_9 : decode cX2_addCell 9 = .ok (.aload_n 2, 1) := dk_44 (dk_at dksX2_addCell_0 9 rfl rfl)
theorem dX2_addCell_10 : decode cX2_addCell 10 = .ok (.lload 4, 2) := dk_22 4 (dk_at dksX2_addCell_0 10 rfl rfl)
theorem dX2_addCell_12 : decode cX2_addCell 12 = .ok (.invokevirtual 117, 3) := dk_182 0 117 (dk_at dksX2_addCell_0 12 rfl rfl)
theorem dX2_addCell_15 : decode cX2_addCell 15 = .ok (.i2l, 1) := dk_133 (dk_at dksX2_addCell_0 15 rfl rfl)
theorem dX2_addCell_16 : decode cX2_addCell 16 = .ok (.invokestatic 202, 3) := dk_184 0 202 (dk_at dksX2_addCell_0 16 rfl rfl)
theorem dX2_addCell_19 : decode cX2_addCell 19 = .ok (.aload_n 2, 1) := dk_44 (dk_at dksX2_addCell_0 19 rfl rfl)
theorem dX2_addCell_20 : decode cX2_addCell 20 = .ok (.lload 4, 2) := dk_22 4 (dk_at dksX2_addCell_0 20 rfl rfl)
theorem dX2_addCell_22 : decode cX2_addCell 22 = .ok (.iconst 0, 1) := dk_3 (dk_at dksX2_addCell_0 22 rfl rfl)
theorem dX2_addCell_23 : decode cX2_addCell 23 = .ok (.invokevirtual 121, 3) := dk_182 0 121 (dk_at dksX2_addCell_1 0 rfl rfl)
theorem dX2_addCell_26 : decode cX2_addCell 26 = .ok (.i2l, 1) := dk_133 (dk_at dksX2_addCell_1 3 rfl rfl)
theorem dX2_addCell_27 : decode cX2_addCell 27 = .ok (.invokestatic 202, 3) := dk_184 0 202 (dk_at dksX2_addCell_1 4 rfl rfl)
theorem dX2_addCell_30 : decode cX2_addCell 30 = .ok (.aload_n 2, 1) := dk_44 (dk_at dksX2_addCell_1 7 rfl rfl)
theorem dX2_addCell_31 : decode cX2_addCell 31 = .ok (.lload 4, 2) := dk_22 4 (dk_at dksX2_addCell_1 8 rfl rfl)
theorem dX2_addCell_33 : decode cX2_addCell 33 = .ok (.iconst 1, 1) := dk_4 (dk_at dksX2_addCell_1 10 rfl rfl)
theorem dX2_addCell_34 : decode cX2_addCell 34 = .ok (.invokevirtual 121, 3) := dk_182 0 121 (dk_at dksX2_addCell_1 11 rfl rfl)
theorem dX2_addCell_37 : decode cX2_addCell 37 = .ok (.i2l, 1) := dk_133 (dk_at dksX2_addCell_1 14 rfl rfl)
theorem dX2_addCell_38 : decode cX2_addCell 38 = .ok (.invokestatic 202, 3) := dk_184 0 202 (dk_at dksX2_addCell_1 15 rfl rfl)
theorem dX2_addCell_41 : decode cX2_addCell 41 = .ok (.lreturn, 1) := dk_173 (dk_at dksX2_addCell_1 18 rfl rfl)
abbrev cX2_addPairs : ByteArray := prog_4_method_80_code
def yX2_addPairs : MethodName := ⟨RX2, "addPairs", "(JLEdgefloatsModel$Row;)J"⟩
def dkwX2_addPairs_3 : List UInt8 := [133, 184, 0, 202, 66, 132, 6, 1, 167, 255, 197, 132, 5, 1, 167, 255, 178, 33, 173]
abbrev dktX2_addPairs_3 : List UInt8 := dkwX2_addPairs_3 ++ []
def dkwX2_addPairs_2 : List UInt8 := [184, 0, 202, 44, 44, 180, 0, 74, 21, 5, 47, 44, 180, 0, 74, 21, 6, 47, 184, 0, 110, 184, 0, 205]
abbrev dktX2_addPairs_2 : List UInt8 := dkwX2_addPairs_2 ++ dktX2_addPairs_3
def dkwX2_addPairs_1 : List UInt8 := [162, 0, 58, 33, 44, 44, 180, 0, 74, 21, 5, 47, 44, 180, 0, 74, 21, 6, 47, 182, 0, 82, 133]
abbrev dktX2_addPairs_1 : List UInt8 := dkwX2_addPairs_1 ++ dktX2_addPairs_2
def dkwX2_addPairs_0 : List UInt8 := [30, 66, 3, 54, 5, 21, 5, 16, 8, 162, 0, 77, 21, 5, 4, 96, 54, 6, 21, 6, 16, 8]
abbrev dktX2_addPairs_0 : List UInt8 := dkwX2_addPairs_0 ++ dktX2_addPairs_1
theorem dksX2_addPairs_0 : cX2_addPairs.data.toList.drop 0 = dktX2_addPairs_0 := by decide +kernel
theorem dksX2_addPairs_1 : cX2_addPairs.data.toList.drop 22 = dktX2_addPairs_1 := dk_seg dksX2_addPairs_0 22 rfl rfl
theorem dksX2_addPairs_2 : cX2_addPairs.data.toList.drop 45 = dktX2_addPairs_2 := dk_seg dksX2_addPairs_1 23 rfl rfl
theorem dksX2_addPairs_3 : cX2_addPairs.data.toList.drop 69 = dktX2_addPairs_3 := dk_seg dksX2_addPairs_2 24 rfl rfl
theorem dX2_addPairs_0 : decode cX2_addPairs 0 = .ok (.lload_n 0, 1) := dk_30 (dk_at dksX2_addPairs_0 0 rfl rfl)
theorem dX2_addPairs_1 : decode cX2_addPairs 1 = .ok (.lstore_n 3, 1) := dk_66 (dk_at dksX2_addPairs_0 1 rfl rfl)
theorem dX2_addPairs_2 : decode cX2_addPairs 2 = .ok (.iconst 0, 1) := dk_3 (dk_at dksX2_addPairs_0 2 rfl rfl)
theorem dX2_addPairs_3 : decode cX2_addPairs 3 = .ok (.istore 5, 2) := dk_54 5 (dk_at dksX2_addPairs_0 3 rfl rfl)
theorem dX2_addPairs_5 : decode cX2_addPairs 5 = .ok (.iload 5, 2) := dk_21 5 (dk_at dksX2_addPairs_0 5 rfl rfl)
theorem dX2_addPairs_7 : decode cX2_addPairs 7 = .ok (.bipush 8, 2) := dk_16 8 (dk_at dksX2_addPairs_0 7 rfl rfl)
theorem dX2_addPairs_9 : decode cX2_addPairs 9 = .ok (.if_icmp .ge 77, 3) := dk_162 0 77 (dk_at dksX2_addPairs_0 9 rfl rfl)
theorem dX2_addPairs_12 : decode cX2_addPairs 12 = .ok (.iload 5, 2) := dk_21 5 (dk_at dksX2_addPairs_0 12 rfl rfl)
theorem dX2_addPairs_14 : decode cX2_addPairs 14 = .ok (.iconst 1, 1) := dk_4 (dk_at dksX2_addPairs_0 14 rfl rfl)
theorem dX2_addPairs_15 : decode cX2_addPairs 15 = .ok (.iadd, 1) := dk_96 (dk_at dksX2_addPairs_0 15 rfl rfl)
theorem dX2_addPairs_16 : decode cX2_addPairs 16 = .ok (.istore 6, 2) := dk_54 6 (dk_at dksX2_addPairs_0 16 rfl rfl)
theorem dX2_addPairs_18 : decode cX2_addPairs 18 = .ok (.iload 6, 2) := dk_21 6 (dk_at dksX2_addPairs_0 18 rfl rfl)
theorem dX2_addPairs_20 : decode cX2_addPairs 20 = .ok (.bipush 8, 2) := dk_16 8 (dk_at dksX2_addPairs_0 20 rfl rfl)
theorem dX2_addPairs_22 : decode cX2_addPairs 22 = .ok (.if_icmp .ge 58, 3) := dk_162 0 58 (dk_at dksX2_addPairs_1 0 rfl rfl)
theorem dX2_addPairs_25 : decode cX2_addPairs 25 = .ok (.lload_n 3, 1) := dk_33 (dk_at dksX2_addPairs_1 3 rfl rfl)
theorem dX2_addPairs_26 : decode cX2_addPairs 26 = .ok (.aload_n 2, 1) := dk_44 (dk_at dksX2_addPairs_1 4 rfl rfl)
theorem dX2_addPairs_27 : decode cX2_addPairs 27 = .ok (.aload_n 2, 1) := dk_44 (dk_at dksX2_addPairs_1 5 rfl rfl)
theorem dX2_addPairs_28 : decode cX2_addPairs 28 = .ok (.getfield 74, 3) := dk_180 0 74 (dk_at dksX2_addPairs_1 6 rfl rfl)
theorem dX2_addPairs_31 : decode cX2_addPairs 31 = .ok (.iload 5, 2) := dk_21 5 (dk_at dksX2_addPairs_1 9 rfl rfl)
theorem dX2_addPairs_33 : decode cX2_addPairs 33 = .ok (.laload, 1) := dk_47 (dk_at dksX2_addPairs_1 11 rfl rfl)
theorem dX2_addPairs_34 : decode cX2_addPairs 34 = .ok (.aload_n 2, 1) := dk_44 (dk_at dksX2_addPairs_1 12 rfl rfl)
theorem dX2_addPairs_35 : decode cX2_addPairs 35 = .ok (.getfield 74, 3) := dk_180 0 74 (dk_at dksX2_addPairs_1 13 rfl rfl)
theorem dX2_addPairs_38 : decode cX2_addPairs 38 = .ok (.iload 6, 2) := dk_21 6 (dk_at dksX2_addPairs_1 16 rfl rfl)
theorem dX2_addPairs_40 : decode cX2_addPairs 40 = .ok (.laload, 1) := dk_47 (dk_at dksX2_addPairs_1 18 rfl rfl)
theorem dX2_addPairs_41 : decode cX2_addPairs 41 = .ok (.invokevirtual 82, 3) := dk_182 0 82 (dk_at dksX2_addPairs_1 19 rfl rfl)
theorem dX2_addPairs_44 : decode cX2_addPairs 44 = .ok (.i2l, 1) := dk_133 (dk_at dksX2_addPairs_1 22 rfl rfl)
theorem dX2_addPairs_45 : decode cX2_addPairs 45 = .ok (.invokestatic 202, 3) := dk_184 0 202 (dk_at dksX2_addPairs_2 0 rfl rfl)
theorem dX2_addPairs_48 : decode cX2_addPairs 48 = .ok (.aload_n 2, 1) := dk_44 (dk_at dksX2_addPairs_2 3 rfl rfl)
theorem dX2_addPairs_49 : decode cX2_addPairs 49 = .ok (.aload_n 2, 1) := dk_44 (dk_at dksX2_addPairs_2 4 rfl rfl)
theorem dX2_addPairs_50 : decode cX2_addPairs 50 = .ok (.getfield 74, 3) := dk_180 0 74 (dk_at dksX2_addPairs_2 5 rfl rfl)
theorem dX2_addPairs_53 : decode cX2_addPairs 53 = .ok (.iload 5, 2) := dk_21 5 (dk_at dksX2_addPairs_2 8 rfl rfl)
theorem dX2_addPairs_55 : decode cX2_addPairs 55 = .ok (.laload, 1) := dk_47 (dk_at dksX2_addPairs_2 10 rfl rfl)
theorem dX2_addPairs_56 : decode cX2_addPairs 56 = .ok (.aload_n 2, 1) := dk_44 (dk_at dksX2_addPairs_2 11 rfl rfl)
theorem dX2_addPairs_57 : decode cX2_addPairs 57 = .ok (.getfield 74, 3) := dk_180 0 74 (dk_at dksX2_addPairs_2 12 rfl rfl)
theorem dX2_addPairs_60 : decode cX2_addPairs 60 = .ok (.iload 6, 2) := dk_21 6 (dk_at dksX2_addPairs_2 15 rfl rfl)
theorem dX2_addPairs_62 : decode cX2_addPairs 62 = .ok (.laload, 1) := dk_47 (dk_at dksX2_addPairs_2 17 rfl rfl)
theorem dX2_addPairs_63 : decode cX2_addPairs 63 = .ok (.invokestatic 110, 3) := dk_184 0 110 (dk_at dksX2_addPairs_2 18 rfl rfl)
theorem dX2_addPairs_66 : decode cX2_addPairs 66 = .ok (.invokestatic 205, 3) := dk_184 0 205 (dk_at dksX2_addPairs_2 21 rfl rfl)
theorem dX2_addPairs_69 : decode cX2_addPairs 69 = .ok (.i2l, 1) := dk_133 (dk_at dksX2_addPairs_3 0 rfl rfl)
theorem dX2_addPairs_70 : decode cX2_addPairs 70 = .ok (.invokestatic 202, 3) := dk_184 0 202 (dk_at dksX2_addPairs_3 1 rfl rfl)
theorem dX2_addPairs_73 : decode cX2_addPairs 73 = .ok (.lstore_n 3, 1) := dk_66 (dk_at dksX2_addPairs_3 4 rfl rfl)
theorem dX2_addPairs_74 : decode cX2_addPairs 74 = .ok (.iinc 6 1, 3) := dk_132 6 1 (dk_at dksX2_addPairs_3 5 rfl rfl)
theorem dX2_addPairs_77 : decode cX2_addPairs 77 = .ok (.goto (-59), 3) := dk_167 255 197 (dk_at dksX2_addPairs_3 8 rfl rfl)
theorem dX2_addPairs_80 : decode cX2_addPairs 80 = .ok (.iinc 5 1, 3) := dk_132 5 1 (dk_at dksX2_addPairs_3 11 rfl rfl)
theorem dX2_addPairs_83 : decode cX2_addPairs 83 = .ok (.goto (-78), 3) := dk_167 255 178 (dk_at dksX2_addPairs_3 14 rfl rfl)
theorem dX2_addPairs_86 : decode cX2_addPairs 86 = .ok (.lload_n 3, 1) := dk_33 (dk_at dksX2_addPairs_3 17 rfl rfl)
theorem dX2_addPairs_87 : decode cX2_addPairs 87 = .ok (.lreturn, 1) := dk_173 (dk_at dksX2_addPairs_3 18 rfl rfl)
abbrev cX2_one : ByteArray := prog_4_method_7_code
def yX2_one : MethodName := ⟨RX2, "one", "(Z)I"⟩
def dkwX2_one_0 : List UInt8 := [26, 153, 0, 7, 4, 167, 0, 4, 3, 172]
abbrev dktX2_one_0 : List UInt8 := dkwX2_one_0 ++ []
theorem dksX2_one_0 : cX2_one.data.toList.drop 0 = dktX2_one_0 := by decide +kernel
theorem dX2_one_0 : decode cX2_one 0 = .ok (.iload_n 0, 1) := dk_26 (dk_at dksX2_one_0 0 rfl rfl)
theorem dX2_one_1 : decode cX2_one 1 = .ok (.ifCond .eq 7, 3) := dk_153 0 7 (dk_at dksX2_one_0 1 rfl rfl)
theorem dX2_one_4 : decode cX2_one 4 = .ok (.iconst 1, 1) := dk_4 (dk_at dksX2_one_0 4 rfl rfl)
theorem dX2_one_5 : decode cX2_one 5 = .ok (.goto 4, 3) := dk_167 0 4 (dk_at dksX2_one_0 5 rfl rfl)
theorem dX2_one_8 : decode cX2_one 8 = .ok (.iconst 0, 1) := dk_3 (dk_at dksX2_one_0 8 rfl rfl)
theorem dX2_one_9 : decode cX2_one 9 = .ok (.ireturn, 1) := dk_172 (dk_at dksX2_one_0 9 rfl rfl)
theorem q38 : (Jvm.Cond.initialized "EdgefloatsModel") ∈ lw_all := lw_g (lw_at lw_m1 5 rfl) rfl
theorem q1199 : (Jvm.Cond.selects "EdgefloatsModel" ({ cls := "java/lang/Object", name := "equals", desc := "(Ljava/lang/Object;)Z" } : Jvm.MethodName) ({ cls := "java/lang/Object", name := "equals", desc := "(Ljava/lang/Object;)Z" } : Jvm.MethodName)) ∈ lw_all := lw_g (lw_at lw_m5 206 rfl) rfl
theorem q1478 : (Jvm.Cond.instantiable "EdgefloatsModel" (5 : Nat)) ∈ lw_all := lw_g (lw_at lw_m7 5 rfl) rfl
theorem q1480 : (Jvm.Cond.instanceMethod ({ cls := "EdgefloatsModel", name := "<init>", desc := "()V" } : Jvm.MethodName)) ∈ lw_all := lw_g (lw_at lw_m7 7 rfl) rfl
theorem q1481 : (Jvm.Cond.code ({ cls := "EdgefloatsModel", name := "<init>", desc := "()V" } : Jvm.MethodName) prog_4_method_1_code (1 : Nat) (Option.none : Option Jvm.ClassFile.FieldType)) ∈ lw_all := lw_g (lw_at lw_m7 8 rfl) rfl
theorem q1482 : (Jvm.Cond.methodLink "EdgefloatsModel" (3 : Nat) ({ cls := "java/lang/Object", name := "<init>", desc := "()V" } : Jvm.MethodName)) ∈ lw_all := lw_g (lw_at lw_m7 9 rfl) rfl
theorem q1483 : (Jvm.Cond.classLink "EdgefloatsModel" (9 : Nat) "EdgefloatsModel$Row") ∈ lw_all := lw_g (lw_at lw_m7 10 rfl) rfl
theorem q1485 : (Jvm.Cond.constantLong "EdgefloatsModel" (11 : Nat) (1000000000 : Int64)) ∈ lw_all := lw_g (lw_at lw_m7 12 rfl) rfl
theorem q1486 : (Jvm.Cond.methodLink "EdgefloatsModel" (13 : Nat) ({ cls := "EdgefloatsModel$Row", name := "<init>", desc := "(IIJ)V" } : Jvm.MethodName)) ∈ lw_all := lw_g (lw_at lw_m7 13 rfl) rfl
theorem q1493 : (Jvm.Cond.fieldLink "EdgefloatsModel" (58 : Nat) "EdgefloatsModel$Row" "most" "J") ∈ lw_all := lw_g (lw_at lw_m7 20 rfl) rfl
theorem q1495 : (Jvm.Cond.fieldLink "EdgefloatsModel" (74 : Nat) "EdgefloatsModel$Row" "cells" "[J") ∈ lw_all := lw_g (lw_at lw_m7 22 rfl) rfl
theorem q1497 : (Jvm.Cond.fieldLink "EdgefloatsModel" (191 : Nat) "EdgefloatsModel$Row" "acts" "I") ∈ lw_all := lw_g (lw_at lw_m7 24 rfl) rfl
theorem q1510 : (Jvm.Cond.constantLong "EdgefloatsModel" (22 : Nat) (16000000 : Int64)) ∈ lw_all := lw_g (lw_at lw_m7 37 rfl) rfl
theorem q1511 : (Jvm.Cond.fieldLink "EdgefloatsModel" (16 : Nat) "EdgefloatsModel" "wide" "LEdgefloatsModel$Row;") ∈ lw_all := lw_g (lw_at lw_m7 38 rfl) rfl
theorem q1512 : (Jvm.Cond.fieldLink "EdgefloatsModel" (24 : Nat) "EdgefloatsModel" "narrow" "LEdgefloatsModel$Row;") ∈ lw_all := lw_g (lw_at lw_m7 39 rfl) rfl
theorem q1513 : (Jvm.Cond.fieldLink "EdgefloatsModel" (27 : Nat) "EdgefloatsModel" "thrown" "I") ∈ lw_all := lw_g (lw_at lw_m7 40 rfl) rfl
theorem q1514 : (Jvm.Cond.fieldLink "EdgefloatsModel" (39 : Nat) "EdgefloatsModel" "refused" "I") ∈ lw_all := lw_g (lw_at lw_m7 41 rfl) rfl
theorem q1515 : (Jvm.Cond.fieldLink "EdgefloatsModel" (194 : Nat) "EdgefloatsModel" "knocks" "I") ∈ lw_all := lw_g (lw_at lw_m7 42 rfl) rfl
theorem q1516 : (Jvm.Cond.laysFinal "EdgefloatsModel" "EdgefloatsModel" "wide" "LEdgefloatsModel$Row;") ∈ lw_all := lw_g (lw_at lw_m7 43 rfl) rfl
theorem q1517 : (Jvm.Cond.soleField "EdgefloatsModel" "wide") ∈ lw_all := lw_g (lw_at lw_m7 44 rfl) rfl
theorem q1518 : (Jvm.Cond.laysFinal "EdgefloatsModel" "EdgefloatsModel" "narrow" "LEdgefloatsModel$Row;") ∈ lw_all := lw_g (lw_at lw_m7 45 rfl) rfl
theorem q1519 : (Jvm.Cond.soleField "EdgefloatsModel" "narrow") ∈ lw_all := lw_g (lw_at lw_m7 46 rfl) rfl
theorem q1520 : (Jvm.Cond.lays "EdgefloatsModel" "EdgefloatsModel" "thrown" "I") ∈ lw_all := lw_g (lw_at lw_m7 47 rfl) rfl
theorem q1521 : (Jvm.Cond.soleField "EdgefloatsModel" "thrown") ∈ lw_all := lw_g (lw_at lw_m7 48 rfl) rfl
theorem q1522 : (Jvm.Cond.lays "EdgefloatsModel" "EdgefloatsModel" "refused" "I") ∈ lw_all := lw_g (lw_at lw_m7 49 rfl) rfl
theorem q1523 : (Jvm.Cond.soleField "EdgefloatsModel" "refused") ∈ lw_all := lw_g (lw_at lw_m7 50 rfl) rfl
theorem q1524 : (Jvm.Cond.lays "EdgefloatsModel" "EdgefloatsModel" "knocks" "I") ∈ lw_all := lw_g (lw_at lw_m7 51 rfl) rfl
theorem q1525 : (Jvm.Cond.soleField "EdgefloatsModel" "knocks") ∈ lw_all := lw_g (lw_at lw_m7 52 rfl) rfl
theorem q1526 : (Jvm.Cond.superclass "EdgefloatsModel" "java/lang/Object") ∈ lw_all := lw_g (lw_at lw_m7 53 rfl) rfl
theorem q1528 : (Jvm.Cond.instanceMethod ({ cls := "EdgefloatsModel", name := "thrown", desc := "()I" } : Jvm.MethodName)) ∈ lw_all := lw_g (lw_at lw_m7 55 rfl) rfl
theorem q1529 : (Jvm.Cond.selects "EdgefloatsModel" ({ cls := "EdgefloatsModel", name := "thrown", desc := "()I" } : Jvm.MethodName) ({ cls := "EdgefloatsModel", name := "thrown", desc := "()I" } : Jvm.MethodName)) ∈ lw_all := lw_g (lw_at lw_m7 56 rfl) rfl
theorem q1530 : (Jvm.Cond.code ({ cls := "EdgefloatsModel", name := "thrown", desc := "()I" } : Jvm.MethodName) prog_4_method_2_code (1 : Nat) (Option.some Jvm.ClassFile.FieldType.int)) ∈ lw_all := lw_g (lw_at lw_m7 57 rfl) rfl
theorem q1532 : (Jvm.Cond.instanceMethod ({ cls := "EdgefloatsModel", name := "putWide", desc := "(III)I" } : Jvm.MethodName)) ∈ lw_all := lw_g (lw_at lw_m7 59 rfl) rfl
theorem q1533 : (Jvm.Cond.selects "EdgefloatsModel" ({ cls := "EdgefloatsModel", name := "putWide", desc := "(III)I" } : Jvm.MethodName) ({ cls := "EdgefloatsModel", name := "putWide", desc := "(III)I" } : Jvm.MethodName)) ∈ lw_all := lw_g (lw_at lw_m7 60 rfl) rfl
theorem q1534 : (Jvm.Cond.code ({ cls := "EdgefloatsModel", name := "putWide", desc := "(III)I" } : Jvm.MethodName) prog_4_method_30_code (4 : Nat) (Option.some Jvm.ClassFile.FieldType.int)) ∈ lw_all := lw_g (lw_at lw_m7 61 rfl) rfl
theorem q1535 : (Jvm.Cond.constantLong "EdgefloatsModel" (125 : Nat) (4294967295 : Int64)) ∈ lw_all := lw_g (lw_at lw_m7 62 rfl) rfl
theorem q1536 : (Jvm.Cond.methodLink "EdgefloatsModel" (127 : Nat) ({ cls := "EdgefloatsModel", name := "put", desc := "(LEdgefloatsModel$Row;IJ)I" } : Jvm.MethodName)) ∈ lw_all := lw_g (lw_at lw_m7 63 rfl) rfl
theorem q1537 : (Jvm.Cond.privateMethod ({ cls := "EdgefloatsModel", name := "put", desc := "(LEdgefloatsModel$Row;IJ)I" } : Jvm.MethodName)) ∈ lw_tbl := lw_at lw_m7 64 rfl
theorem q1538 : (Jvm.Cond.instanceMethod ({ cls := "EdgefloatsModel", name := "put", desc := "(LEdgefloatsModel$Row;IJ)I" } : Jvm.MethodName)) ∈ lw_all := lw_g (lw_at lw_m7 65 rfl) rfl
theorem q1539 : (Jvm.Cond.code ({ cls := "EdgefloatsModel", name := "put", desc := "(LEdgefloatsModel$Row;IJ)I" } : Jvm.MethodName) prog_4_method_9_code (5 : Nat) (Option.some Jvm.ClassFile.FieldType.int)) ∈ lw_all := lw_g (lw_at lw_m7 66 rfl) rfl
theorem q1540 : (Jvm.Cond.methodLink "EdgefloatsModel" (35 : Nat) ({ cls := "EdgefloatsModel", name := "isNo", desc := "(I)Z" } : Jvm.MethodName)) ∈ lw_all := lw_g (lw_at lw_m7 67 rfl) rfl
theorem q1541 : (Jvm.Cond.static ({ cls := "EdgefloatsModel", name := "isNo", desc := "(I)Z" } : Jvm.MethodName)) ∈ lw_all := lw_g (lw_at lw_m7 68 rfl) rfl
theorem q1542 : (Jvm.Cond.code ({ cls := "EdgefloatsModel", name := "isNo", desc := "(I)Z" } : Jvm.MethodName) prog_4_method_5_code (1 : Nat) (Option.some Jvm.ClassFile.FieldType.boolean)) ∈ lw_all := lw_g (lw_at lw_m7 69 rfl) rfl
theorem q1543 : (Jvm.Cond.methodLink "EdgefloatsModel" (31 : Nat) ({ cls := "EdgefloatsModel", name := "isIn", desc := "(III)Z" } : Jvm.MethodName)) ∈ lw_all := lw_g (lw_at lw_m7 70 rfl) rfl
theorem q1544 : (Jvm.Cond.static ({ cls := "EdgefloatsModel", name := "isIn", desc := "(III)Z" } : Jvm.MethodName)) ∈ lw_all := lw_g (lw_at lw_m7 71 rfl) rfl
theorem q1545 : (Jvm.Cond.code ({ cls := "EdgefloatsModel", name := "isIn", desc := "(III)Z" } : Jvm.MethodName) prog_4_method_4_code (3 : Nat) (Option.some Jvm.ClassFile.FieldType.boolean)) ∈ lw_all := lw_g (lw_at lw_m7 72 rfl) rfl
theorem q1546 : (Jvm.Cond.methodLink "EdgefloatsModel" (42 : Nat) ({ cls := "EdgefloatsModel", name := "fails", desc := "(ZZ)Z" } : Jvm.MethodName)) ∈ lw_all := lw_g (lw_at lw_m7 73 rfl) rfl
theorem q1547 : (Jvm.Cond.privateMethod ({ cls := "EdgefloatsModel", name := "fails", desc := "(ZZ)Z" } : Jvm.MethodName)) ∈ lw_tbl := lw_at lw_m7 74 rfl
theorem q1548 : (Jvm.Cond.instanceMethod ({ cls := "EdgefloatsModel", name := "fails", desc := "(ZZ)Z" } : Jvm.MethodName)) ∈ lw_all := lw_g (lw_at lw_m7 75 rfl) rfl
theorem q1549 : (Jvm.Cond.code ({ cls := "EdgefloatsModel", name := "fails", desc := "(ZZ)Z" } : Jvm.MethodName) prog_4_method_3_code (3 : Nat) (Option.some Jvm.ClassFile.FieldType.boolean)) ∈ lw_all := lw_g (lw_at lw_m7 76 rfl) rfl
theorem q1550 : (Jvm.Cond.methodLink "EdgefloatsModel" (46 : Nat) ({ cls := "EdgefloatsModel$Row", name := "isSpoiled", desc := "(J)Z" } : Jvm.MethodName)) ∈ lw_all := lw_g (lw_at lw_m7 77 rfl) rfl
theorem q1567 : (Jvm.Cond.methodLink "EdgefloatsModel" (50 : Nat) ({ cls := "EdgefloatsModel", name := "refuse", desc := "()I" } : Jvm.MethodName)) ∈ lw_all := lw_g (lw_at lw_m7 94 rfl) rfl
theorem q1568 : (Jvm.Cond.privateMethod ({ cls := "EdgefloatsModel", name := "refuse", desc := "()I" } : Jvm.MethodName)) ∈ lw_tbl := lw_at lw_m7 95 rfl
theorem q1569 : (Jvm.Cond.instanceMethod ({ cls := "EdgefloatsModel", name := "refuse", desc := "()I" } : Jvm.MethodName)) ∈ lw_all := lw_g (lw_at lw_m7 96 rfl) rfl
theorem q1570 : (Jvm.Cond.code ({ cls := "EdgefloatsModel", name := "refuse", desc := "()I" } : Jvm.MethodName) prog_4_method_8_code (1 : Nat) (Option.some Jvm.ClassFile.FieldType.int)) ∈ lw_all := lw_g (lw_at lw_m7 97 rfl) rfl
theorem q1571 : (Jvm.Cond.methodLink "EdgefloatsModel" (54 : Nat) ({ cls := "EdgefloatsModel$Row", name := "come", desc := "(IJ)I" } : Jvm.MethodName)) ∈ lw_all := lw_g (lw_at lw_m7 98 rfl) rfl
theorem q1576 : (Jvm.Cond.instanceMethod ({ cls := "EdgefloatsModel", name := "wideQuarters", desc := "(II)I" } : Jvm.MethodName)) ∈ lw_all := lw_g (lw_at lw_m7 103 rfl) rfl
theorem q1577 : (Jvm.Cond.selects "EdgefloatsModel" ({ cls := "EdgefloatsModel", name := "wideQuarters", desc := "(II)I" } : Jvm.MethodName) ({ cls := "EdgefloatsModel", name := "wideQuarters", desc := "(II)I" } : Jvm.MethodName)) ∈ lw_all := lw_g (lw_at lw_m7 104 rfl) rfl
theorem q1578 : (Jvm.Cond.code ({ cls := "EdgefloatsModel", name := "wideQuarters", desc := "(II)I" } : Jvm.MethodName) prog_4_method_31_code (3 : Nat) (Option.some Jvm.ClassFile.FieldType.int)) ∈ lw_all := lw_g (lw_at lw_m7 105 rfl) rfl
theorem q1579 : (Jvm.Cond.methodLink "EdgefloatsModel" (131 : Nat) ({ cls := "EdgefloatsModel", name := "quarters", desc := "(LEdgefloatsModel$Row;II)I" } : Jvm.MethodName)) ∈ lw_all := lw_g (lw_at lw_m7 106 rfl) rfl
theorem q1580 : (Jvm.Cond.privateMethod ({ cls := "EdgefloatsModel", name := "quarters", desc := "(LEdgefloatsModel$Row;II)I" } : Jvm.MethodName)) ∈ lw_tbl := lw_at lw_m7 107 rfl
theorem q1581 : (Jvm.Cond.instanceMethod ({ cls := "EdgefloatsModel", name := "quarters", desc := "(LEdgefloatsModel$Row;II)I" } : Jvm.MethodName)) ∈ lw_all := lw_g (lw_at lw_m7 108 rfl) rfl
theorem q1582 : (Jvm.Cond.code ({ cls := "EdgefloatsModel", name := "quarters", desc := "(LEdgefloatsModel$Row;II)I" } : Jvm.MethodName) prog_4_method_10_code (4 : Nat) (Option.some Jvm.ClassFile.FieldType.int)) ∈ lw_all := lw_g (lw_at lw_m7 109 rfl) rfl
theorem q1583 : (Jvm.Cond.methodLink "EdgefloatsModel" (62 : Nat) ({ cls := "EdgefloatsModel$Row", name := "made", desc := "(J)J" } : Jvm.MethodName)) ∈ lw_all := lw_g (lw_at lw_m7 110 rfl) rfl
theorem q1590 : (Jvm.Cond.instanceMethod ({ cls := "EdgefloatsModel", name := "wideKnown", desc := "(II)I" } : Jvm.MethodName)) ∈ lw_all := lw_g (lw_at lw_m7 117 rfl) rfl
theorem q1591 : (Jvm.Cond.selects "EdgefloatsModel" ({ cls := "EdgefloatsModel", name := "wideKnown", desc := "(II)I" } : Jvm.MethodName) ({ cls := "EdgefloatsModel", name := "wideKnown", desc := "(II)I" } : Jvm.MethodName)) ∈ lw_all := lw_g (lw_at lw_m7 118 rfl) rfl
theorem q1592 : (Jvm.Cond.code ({ cls := "EdgefloatsModel", name := "wideKnown", desc := "(II)I" } : Jvm.MethodName) prog_4_method_32_code (3 : Nat) (Option.some Jvm.ClassFile.FieldType.int)) ∈ lw_all := lw_g (lw_at lw_m7 119 rfl) rfl
theorem q1593 : (Jvm.Cond.methodLink "EdgefloatsModel" (135 : Nat) ({ cls := "EdgefloatsModel", name := "known", desc := "(LEdgefloatsModel$Row;II)I" } : Jvm.MethodName)) ∈ lw_all := lw_g (lw_at lw_m7 120 rfl) rfl
theorem q1594 : (Jvm.Cond.privateMethod ({ cls := "EdgefloatsModel", name := "known", desc := "(LEdgefloatsModel$Row;II)I" } : Jvm.MethodName)) ∈ lw_tbl := lw_at lw_m7 121 rfl
theorem q1595 : (Jvm.Cond.instanceMethod ({ cls := "EdgefloatsModel", name := "known", desc := "(LEdgefloatsModel$Row;II)I" } : Jvm.MethodName)) ∈ lw_all := lw_g (lw_at lw_m7 122 rfl) rfl
theorem q1596 : (Jvm.Cond.code ({ cls := "EdgefloatsModel", name := "known", desc := "(LEdgefloatsModel$Row;II)I" } : Jvm.MethodName) prog_4_method_11_code (4 : Nat) (Option.some Jvm.ClassFile.FieldType.int)) ∈ lw_all := lw_g (lw_at lw_m7 123 rfl) rfl
theorem q1597 : (Jvm.Cond.methodLink "EdgefloatsModel" (66 : Nat) ({ cls := "EdgefloatsModel$Row", name := "known", desc := "(I)J" } : Jvm.MethodName)) ∈ lw_all := lw_g (lw_at lw_m7 124 rfl) rfl
theorem q1602 : (Jvm.Cond.instanceMethod ({ cls := "EdgefloatsModel", name := "wideCopy", desc := "(II)I" } : Jvm.MethodName)) ∈ lw_all := lw_g (lw_at lw_m7 129 rfl) rfl
theorem q1603 : (Jvm.Cond.selects "EdgefloatsModel" ({ cls := "EdgefloatsModel", name := "wideCopy", desc := "(II)I" } : Jvm.MethodName) ({ cls := "EdgefloatsModel", name := "wideCopy", desc := "(II)I" } : Jvm.MethodName)) ∈ lw_all := lw_g (lw_at lw_m7 130 rfl) rfl
theorem q1604 : (Jvm.Cond.code ({ cls := "EdgefloatsModel", name := "wideCopy", desc := "(II)I" } : Jvm.MethodName) prog_4_method_33_code (3 : Nat) (Option.some Jvm.ClassFile.FieldType.int)) ∈ lw_all := lw_g (lw_at lw_m7 131 rfl) rfl
theorem q1605 : (Jvm.Cond.methodLink "EdgefloatsModel" (137 : Nat) ({ cls := "EdgefloatsModel", name := "copy", desc := "(LEdgefloatsModel$Row;II)I" } : Jvm.MethodName)) ∈ lw_all := lw_g (lw_at lw_m7 132 rfl) rfl
theorem q1606 : (Jvm.Cond.privateMethod ({ cls := "EdgefloatsModel", name := "copy", desc := "(LEdgefloatsModel$Row;II)I" } : Jvm.MethodName)) ∈ lw_tbl := lw_at lw_m7 133 rfl
theorem q1607 : (Jvm.Cond.instanceMethod ({ cls := "EdgefloatsModel", name := "copy", desc := "(LEdgefloatsModel$Row;II)I" } : Jvm.MethodName)) ∈ lw_all := lw_g (lw_at lw_m7 134 rfl) rfl
theorem q1608 : (Jvm.Cond.code ({ cls := "EdgefloatsModel", name := "copy", desc := "(LEdgefloatsModel$Row;II)I" } : Jvm.MethodName) prog_4_method_12_code (4 : Nat) (Option.some Jvm.ClassFile.FieldType.int)) ∈ lw_all := lw_g (lw_at lw_m7 135 rfl) rfl
theorem q1609 : (Jvm.Cond.methodLink "EdgefloatsModel" (70 : Nat) ({ cls := "EdgefloatsModel", name := "areNo", desc := "(II)Z" } : Jvm.MethodName)) ∈ lw_all := lw_g (lw_at lw_m7 136 rfl) rfl
theorem q1610 : (Jvm.Cond.static ({ cls := "EdgefloatsModel", name := "areNo", desc := "(II)Z" } : Jvm.MethodName)) ∈ lw_all := lw_g (lw_at lw_m7 137 rfl) rfl
theorem q1611 : (Jvm.Cond.code ({ cls := "EdgefloatsModel", name := "areNo", desc := "(II)Z" } : Jvm.MethodName) prog_4_method_6_code (2 : Nat) (Option.some Jvm.ClassFile.FieldType.boolean)) ∈ lw_all := lw_g (lw_at lw_m7 138 rfl) rfl
theorem q1613 : (Jvm.Cond.instanceMethod ({ cls := "EdgefloatsModel", name := "wideSwap", desc := "(II)I" } : Jvm.MethodName)) ∈ lw_all := lw_g (lw_at lw_m7 140 rfl) rfl
theorem q1614 : (Jvm.Cond.selects "EdgefloatsModel" ({ cls := "EdgefloatsModel", name := "wideSwap", desc := "(II)I" } : Jvm.MethodName) ({ cls := "EdgefloatsModel", name := "wideSwap", desc := "(II)I" } : Jvm.MethodName)) ∈ lw_all := lw_g (lw_at lw_m7 141 rfl) rfl
theorem q1615 : (Jvm.Cond.code ({ cls := "EdgefloatsModel", name := "wideSwap", desc := "(II)I" } : Jvm.MethodName) prog_4_method_34_code (3 : Nat) (Option.some Jvm.ClassFile.FieldType.int)) ∈ lw_all := lw_g (lw_at lw_m7 142 rfl) rfl
theorem q1616 : (Jvm.Cond.methodLink "EdgefloatsModel" (140 : Nat) ({ cls := "EdgefloatsModel", name := "swap", desc := "(LEdgefloatsModel$Row;II)I" } : Jvm.MethodName)) ∈ lw_all := lw_g (lw_at lw_m7 143 rfl) rfl
theorem q1617 : (Jvm.Cond.privateMethod ({ cls := "EdgefloatsModel", name := "swap", desc := "(LEdgefloatsModel$Row;II)I" } : Jvm.MethodName)) ∈ lw_tbl := lw_at lw_m7 144 rfl
theorem q1618 : (Jvm.Cond.instanceMethod ({ cls := "EdgefloatsModel", name := "swap", desc := "(LEdgefloatsModel$Row;II)I" } : Jvm.MethodName)) ∈ lw_all := lw_g (lw_at lw_m7 145 rfl) rfl
theorem q1619 : (Jvm.Cond.code ({ cls := "EdgefloatsModel", name := "swap", desc := "(LEdgefloatsModel$Row;II)I" } : Jvm.MethodName) prog_4_method_13_code (4 : Nat) (Option.some Jvm.ClassFile.FieldType.int)) ∈ lw_all := lw_g (lw_at lw_m7 146 rfl) rfl
theorem q1620 : (Jvm.Cond.methodLink "EdgefloatsModel" (78 : Nat) ({ cls := "EdgefloatsModel$Row", name := "swap", desc := "(II)I" } : Jvm.MethodName)) ∈ lw_all := lw_g (lw_at lw_m7 147 rfl) rfl
theorem q1626 : (Jvm.Cond.instanceMethod ({ cls := "EdgefloatsModel", name := "wideMax", desc := "(III)I" } : Jvm.MethodName)) ∈ lw_all := lw_g (lw_at lw_m7 153 rfl) rfl
theorem q1627 : (Jvm.Cond.selects "EdgefloatsModel" ({ cls := "EdgefloatsModel", name := "wideMax", desc := "(III)I" } : Jvm.MethodName) ({ cls := "EdgefloatsModel", name := "wideMax", desc := "(III)I" } : Jvm.MethodName)) ∈ lw_all := lw_g (lw_at lw_m7 154 rfl) rfl
theorem q1628 : (Jvm.Cond.code ({ cls := "EdgefloatsModel", name := "wideMax", desc := "(III)I" } : Jvm.MethodName) prog_4_method_35_code (4 : Nat) (Option.some Jvm.ClassFile.FieldType.int)) ∈ lw_all := lw_g (lw_at lw_m7 155 rfl) rfl
theorem q1629 : (Jvm.Cond.methodLink "EdgefloatsModel" (142 : Nat) ({ cls := "EdgefloatsModel", name := "choose", desc := "(LEdgefloatsModel$Row;IIII)I" } : Jvm.MethodName)) ∈ lw_all := lw_g (lw_at lw_m7 156 rfl) rfl
theorem q1630 : (Jvm.Cond.privateMethod ({ cls := "EdgefloatsModel", name := "choose", desc := "(LEdgefloatsModel$Row;IIII)I" } : Jvm.MethodName)) ∈ lw_tbl := lw_at lw_m7 157 rfl
theorem q1631 : (Jvm.Cond.instanceMethod ({ cls := "EdgefloatsModel", name := "choose", desc := "(LEdgefloatsModel$Row;IIII)I" } : Jvm.MethodName)) ∈ lw_all := lw_g (lw_at lw_m7 158 rfl) rfl
theorem q1632 : (Jvm.Cond.code ({ cls := "EdgefloatsModel", name := "choose", desc := "(LEdgefloatsModel$Row;IIII)I" } : Jvm.MethodName) prog_4_method_14_code (7 : Nat) (Option.some Jvm.ClassFile.FieldType.int)) ∈ lw_all := lw_g (lw_at lw_m7 159 rfl) rfl
theorem q1633 : (Jvm.Cond.methodLink "EdgefloatsModel" (82 : Nat) ({ cls := "EdgefloatsModel$Row", name := "order", desc := "(JJ)I" } : Jvm.MethodName)) ∈ lw_all := lw_g (lw_at lw_m7 160 rfl) rfl
theorem q1646 : (Jvm.Cond.instanceMethod ({ cls := "EdgefloatsModel", name := "wideMin", desc := "(III)I" } : Jvm.MethodName)) ∈ lw_all := lw_g (lw_at lw_m7 173 rfl) rfl
theorem q1647 : (Jvm.Cond.selects "EdgefloatsModel" ({ cls := "EdgefloatsModel", name := "wideMin", desc := "(III)I" } : Jvm.MethodName) ({ cls := "EdgefloatsModel", name := "wideMin", desc := "(III)I" } : Jvm.MethodName)) ∈ lw_all := lw_g (lw_at lw_m7 174 rfl) rfl
theorem q1648 : (Jvm.Cond.code ({ cls := "EdgefloatsModel", name := "wideMin", desc := "(III)I" } : Jvm.MethodName) prog_4_method_36_code (4 : Nat) (Option.some Jvm.ClassFile.FieldType.int)) ∈ lw_all := lw_g (lw_at lw_m7 175 rfl) rfl
theorem q1650 : (Jvm.Cond.instanceMethod ({ cls := "EdgefloatsModel", name := "wideSum", desc := "(III)I" } : Jvm.MethodName)) ∈ lw_all := lw_g (lw_at lw_m7 177 rfl) rfl
theorem q1651 : (Jvm.Cond.selects "EdgefloatsModel" ({ cls := "EdgefloatsModel", name := "wideSum", desc := "(III)I" } : Jvm.MethodName) ({ cls := "EdgefloatsModel", name := "wideSum", desc := "(III)I" } : Jvm.MethodName)) ∈ lw_all := lw_g (lw_at lw_m7 178 rfl) rfl
theorem q1652 : (Jvm.Cond.code ({ cls := "EdgefloatsModel", name := "wideSum", desc := "(III)I" } : Jvm.MethodName) prog_4_method_37_code (4 : Nat) (Option.some Jvm.ClassFile.FieldType.int)) ∈ lw_all := lw_g (lw_at lw_m7 179 rfl) rfl
theorem q1653 : (Jvm.Cond.methodLink "EdgefloatsModel" (146 : Nat) ({ cls := "EdgefloatsModel", name := "sum", desc := "(LEdgefloatsModel$Row;III)I" } : Jvm.MethodName)) ∈ lw_all := lw_g (lw_at lw_m7 180 rfl) rfl
theorem q1654 : (Jvm.Cond.privateMethod ({ cls := "EdgefloatsModel", name := "sum", desc := "(LEdgefloatsModel$Row;III)I" } : Jvm.MethodName)) ∈ lw_tbl := lw_at lw_m7 181 rfl
theorem q1655 : (Jvm.Cond.instanceMethod ({ cls := "EdgefloatsModel", name := "sum", desc := "(LEdgefloatsModel$Row;III)I" } : Jvm.MethodName)) ∈ lw_all := lw_g (lw_at lw_m7 182 rfl) rfl
theorem q1656 : (Jvm.Cond.code ({ cls := "EdgefloatsModel", name := "sum", desc := "(LEdgefloatsModel$Row;III)I" } : Jvm.MethodName) prog_4_method_15_code (9 : Nat) (Option.some Jvm.ClassFile.FieldType.int)) ∈ lw_all := lw_g (lw_at lw_m7 183 rfl) rfl
theorem q1657 : (Jvm.Cond.methodLink "EdgefloatsModel" (86 : Nat) ({ cls := "EdgefloatsModel$Row", name := "haveSum", desc := "(JJ)Z" } : Jvm.MethodName)) ∈ lw_all := lw_g (lw_at lw_m7 184 rfl) rfl
theorem q1682 : (Jvm.Cond.methodLink "EdgefloatsModel" (90 : Nat) ({ cls := "EdgefloatsModel$Row", name := "sum", desc := "(JJ)J" } : Jvm.MethodName)) ∈ lw_all := lw_g (lw_at lw_m7 209 rfl) rfl
theorem q1688 : (Jvm.Cond.instanceMethod ({ cls := "EdgefloatsModel", name := "wideSort", desc := "(I)I" } : Jvm.MethodName)) ∈ lw_all := lw_g (lw_at lw_m7 215 rfl) rfl
theorem q1689 : (Jvm.Cond.selects "EdgefloatsModel" ({ cls := "EdgefloatsModel", name := "wideSort", desc := "(I)I" } : Jvm.MethodName) ({ cls := "EdgefloatsModel", name := "wideSort", desc := "(I)I" } : Jvm.MethodName)) ∈ lw_all := lw_g (lw_at lw_m7 216 rfl) rfl
theorem q1690 : (Jvm.Cond.code ({ cls := "EdgefloatsModel", name := "wideSort", desc := "(I)I" } : Jvm.MethodName) prog_4_method_38_code (2 : Nat) (Option.some Jvm.ClassFile.FieldType.int)) ∈ lw_all := lw_g (lw_at lw_m7 217 rfl) rfl
theorem q1691 : (Jvm.Cond.methodLink "EdgefloatsModel" (149 : Nat) ({ cls := "EdgefloatsModel", name := "sort", desc := "(LEdgefloatsModel$Row;I)I" } : Jvm.MethodName)) ∈ lw_all := lw_g (lw_at lw_m7 218 rfl) rfl
theorem q1692 : (Jvm.Cond.privateMethod ({ cls := "EdgefloatsModel", name := "sort", desc := "(LEdgefloatsModel$Row;I)I" } : Jvm.MethodName)) ∈ lw_tbl := lw_at lw_m7 219 rfl
theorem q1693 : (Jvm.Cond.instanceMethod ({ cls := "EdgefloatsModel", name := "sort", desc := "(LEdgefloatsModel$Row;I)I" } : Jvm.MethodName)) ∈ lw_all := lw_g (lw_at lw_m7 220 rfl) rfl
theorem q1694 : (Jvm.Cond.code ({ cls := "EdgefloatsModel", name := "sort", desc := "(LEdgefloatsModel$Row;I)I" } : Jvm.MethodName) prog_4_method_16_code (3 : Nat) (Option.some Jvm.ClassFile.FieldType.int)) ∈ lw_all := lw_g (lw_at lw_m7 221 rfl) rfl
theorem q1695 : (Jvm.Cond.methodLink "EdgefloatsModel" (94 : Nat) ({ cls := "EdgefloatsModel$Row", name := "sort", desc := "()I" } : Jvm.MethodName)) ∈ lw_all := lw_g (lw_at lw_m7 222 rfl) rfl
theorem q1701 : (Jvm.Cond.instanceMethod ({ cls := "EdgefloatsModel", name := "wideEnd", desc := "(ZI)I" } : Jvm.MethodName)) ∈ lw_all := lw_g (lw_at lw_m7 228 rfl) rfl
theorem q1702 : (Jvm.Cond.selects "EdgefloatsModel" ({ cls := "EdgefloatsModel", name := "wideEnd", desc := "(ZI)I" } : Jvm.MethodName) ({ cls := "EdgefloatsModel", name := "wideEnd", desc := "(ZI)I" } : Jvm.MethodName)) ∈ lw_all := lw_g (lw_at lw_m7 229 rfl) rfl
theorem q1703 : (Jvm.Cond.code ({ cls := "EdgefloatsModel", name := "wideEnd", desc := "(ZI)I" } : Jvm.MethodName) prog_4_method_39_code (3 : Nat) (Option.some Jvm.ClassFile.FieldType.int)) ∈ lw_all := lw_g (lw_at lw_m7 230 rfl) rfl
theorem q1704 : (Jvm.Cond.methodLink "EdgefloatsModel" (152 : Nat) ({ cls := "EdgefloatsModel", name := "end", desc := "(LEdgefloatsModel$Row;ZI)I" } : Jvm.MethodName)) ∈ lw_all := lw_g (lw_at lw_m7 231 rfl) rfl
theorem q1705 : (Jvm.Cond.privateMethod ({ cls := "EdgefloatsModel", name := "end", desc := "(LEdgefloatsModel$Row;ZI)I" } : Jvm.MethodName)) ∈ lw_tbl := lw_at lw_m7 232 rfl
theorem q1706 : (Jvm.Cond.instanceMethod ({ cls := "EdgefloatsModel", name := "end", desc := "(LEdgefloatsModel$Row;ZI)I" } : Jvm.MethodName)) ∈ lw_all := lw_g (lw_at lw_m7 233 rfl) rfl
theorem q1707 : (Jvm.Cond.code ({ cls := "EdgefloatsModel", name := "end", desc := "(LEdgefloatsModel$Row;ZI)I" } : Jvm.MethodName) prog_4_method_17_code (4 : Nat) (Option.some Jvm.ClassFile.FieldType.int)) ∈ lw_all := lw_g (lw_at lw_m7 234 rfl) rfl
theorem q1708 : (Jvm.Cond.methodLink "EdgefloatsModel" (97 : Nat) ({ cls := "EdgefloatsModel$Row", name := "end", desc := "(Z)J" } : Jvm.MethodName)) ∈ lw_all := lw_g (lw_at lw_m7 235 rfl) rfl
theorem q1713 : (Jvm.Cond.instanceMethod ({ cls := "EdgefloatsModel", name := "upper", desc := "(I)I" } : Jvm.MethodName)) ∈ lw_all := lw_g (lw_at lw_m8 0 rfl) rfl
theorem q1714 : (Jvm.Cond.selects "EdgefloatsModel" ({ cls := "EdgefloatsModel", name := "upper", desc := "(I)I" } : Jvm.MethodName) ({ cls := "EdgefloatsModel", name := "upper", desc := "(I)I" } : Jvm.MethodName)) ∈ lw_all := lw_g (lw_at lw_m8 1 rfl) rfl
theorem q1715 : (Jvm.Cond.code ({ cls := "EdgefloatsModel", name := "upper", desc := "(I)I" } : Jvm.MethodName) prog_4_method_40_code (2 : Nat) (Option.some Jvm.ClassFile.FieldType.int)) ∈ lw_all := lw_g (lw_at lw_m8 2 rfl) rfl
theorem q1717 : (Jvm.Cond.instanceMethod ({ cls := "EdgefloatsModel", name := "lower", desc := "(I)I" } : Jvm.MethodName)) ∈ lw_all := lw_g (lw_at lw_m8 4 rfl) rfl
theorem q1718 : (Jvm.Cond.selects "EdgefloatsModel" ({ cls := "EdgefloatsModel", name := "lower", desc := "(I)I" } : Jvm.MethodName) ({ cls := "EdgefloatsModel", name := "lower", desc := "(I)I" } : Jvm.MethodName)) ∈ lw_all := lw_g (lw_at lw_m8 5 rfl) rfl
theorem q1719 : (Jvm.Cond.code ({ cls := "EdgefloatsModel", name := "lower", desc := "(I)I" } : Jvm.MethodName) prog_4_method_41_code (2 : Nat) (Option.some Jvm.ClassFile.FieldType.int)) ∈ lw_all := lw_g (lw_at lw_m8 6 rfl) rfl
theorem q1721 : (Jvm.Cond.instanceMethod ({ cls := "EdgefloatsModel", name := "wideText", desc := "(I)Ljava/lang/String;" } : Jvm.MethodName)) ∈ lw_all := lw_g (lw_at lw_m8 8 rfl) rfl
theorem q1722 : (Jvm.Cond.selects "EdgefloatsModel" ({ cls := "EdgefloatsModel", name := "wideText", desc := "(I)Ljava/lang/String;" } : Jvm.MethodName) ({ cls := "EdgefloatsModel", name := "wideText", desc := "(I)Ljava/lang/String;" } : Jvm.MethodName)) ∈ lw_all := lw_g (lw_at lw_m8 9 rfl) rfl
theorem q1723 : (Jvm.Cond.code ({ cls := "EdgefloatsModel", name := "wideText", desc := "(I)Ljava/lang/String;" } : Jvm.MethodName) prog_4_method_42_code (2 : Nat) (Option.some (Jvm.ClassFile.FieldType.object "java/lang/String"))) ∈ lw_all := lw_g (lw_at lw_m8 10 rfl) rfl
theorem q1724 : (Jvm.Cond.methodLink "EdgefloatsModel" (155 : Nat) ({ cls := "EdgefloatsModel", name := "text", desc := "(LEdgefloatsModel$Row;I)Ljava/lang/String;" } : Jvm.MethodName)) ∈ lw_all := lw_g (lw_at lw_m8 11 rfl) rfl
theorem q1725 : (Jvm.Cond.privateMethod ({ cls := "EdgefloatsModel", name := "text", desc := "(LEdgefloatsModel$Row;I)Ljava/lang/String;" } : Jvm.MethodName)) ∈ lw_tbl := lw_at lw_m8 12 rfl
theorem q1726 : (Jvm.Cond.instanceMethod ({ cls := "EdgefloatsModel", name := "text", desc := "(LEdgefloatsModel$Row;I)Ljava/lang/String;" } : Jvm.MethodName)) ∈ lw_all := lw_g (lw_at lw_m8 13 rfl) rfl
theorem q1727 : (Jvm.Cond.code ({ cls := "EdgefloatsModel", name := "text", desc := "(LEdgefloatsModel$Row;I)Ljava/lang/String;" } : Jvm.MethodName) prog_4_method_18_code (3 : Nat) (Option.some (Jvm.ClassFile.FieldType.object "java/lang/String"))) ∈ lw_all := lw_g (lw_at lw_m8 14 rfl) rfl
theorem q1728 : (Jvm.Cond.stringRef "EdgefloatsModel" (101 : Nat) "") ∈ lw_tbl := lw_at lw_m8 15 rfl
theorem q1729 : (Jvm.Cond.methodLink "EdgefloatsModel" (103 : Nat) ({ cls := "EdgefloatsModel$Row", name := "text", desc := "(I)Ljava/lang/String;" } : Jvm.MethodName)) ∈ lw_all := lw_g (lw_at lw_m8 16 rfl) rfl
theorem q1742 : (Jvm.Cond.instanceMethod ({ cls := "EdgefloatsModel", name := "wideOrder", desc := "(III)I" } : Jvm.MethodName)) ∈ lw_all := lw_g (lw_at lw_m8 29 rfl) rfl
theorem q1743 : (Jvm.Cond.selects "EdgefloatsModel" ({ cls := "EdgefloatsModel", name := "wideOrder", desc := "(III)I" } : Jvm.MethodName) ({ cls := "EdgefloatsModel", name := "wideOrder", desc := "(III)I" } : Jvm.MethodName)) ∈ lw_all := lw_g (lw_at lw_m8 30 rfl) rfl
theorem q1744 : (Jvm.Cond.code ({ cls := "EdgefloatsModel", name := "wideOrder", desc := "(III)I" } : Jvm.MethodName) prog_4_method_43_code (4 : Nat) (Option.some Jvm.ClassFile.FieldType.int)) ∈ lw_all := lw_g (lw_at lw_m8 31 rfl) rfl
theorem q1745 : (Jvm.Cond.methodLink "EdgefloatsModel" (158 : Nat) ({ cls := "EdgefloatsModel", name := "order", desc := "(LEdgefloatsModel$Row;III)I" } : Jvm.MethodName)) ∈ lw_all := lw_g (lw_at lw_m8 32 rfl) rfl
theorem q1746 : (Jvm.Cond.privateMethod ({ cls := "EdgefloatsModel", name := "order", desc := "(LEdgefloatsModel$Row;III)I" } : Jvm.MethodName)) ∈ lw_tbl := lw_at lw_m8 33 rfl
theorem q1747 : (Jvm.Cond.instanceMethod ({ cls := "EdgefloatsModel", name := "order", desc := "(LEdgefloatsModel$Row;III)I" } : Jvm.MethodName)) ∈ lw_all := lw_g (lw_at lw_m8 34 rfl) rfl
theorem q1748 : (Jvm.Cond.code ({ cls := "EdgefloatsModel", name := "order", desc := "(LEdgefloatsModel$Row;III)I" } : Jvm.MethodName) prog_4_method_19_code (5 : Nat) (Option.some Jvm.ClassFile.FieldType.int)) ∈ lw_all := lw_g (lw_at lw_m8 35 rfl) rfl
theorem q1750 : (Jvm.Cond.instanceMethod ({ cls := "EdgefloatsModel", name := "wideSame", desc := "(III)Z" } : Jvm.MethodName)) ∈ lw_all := lw_g (lw_at lw_m8 37 rfl) rfl
theorem q1751 : (Jvm.Cond.selects "EdgefloatsModel" ({ cls := "EdgefloatsModel", name := "wideSame", desc := "(III)Z" } : Jvm.MethodName) ({ cls := "EdgefloatsModel", name := "wideSame", desc := "(III)Z" } : Jvm.MethodName)) ∈ lw_all := lw_g (lw_at lw_m8 38 rfl) rfl
theorem q1752 : (Jvm.Cond.code ({ cls := "EdgefloatsModel", name := "wideSame", desc := "(III)Z" } : Jvm.MethodName) prog_4_method_44_code (4 : Nat) (Option.some Jvm.ClassFile.FieldType.boolean)) ∈ lw_all := lw_g (lw_at lw_m8 39 rfl) rfl
theorem q1753 : (Jvm.Cond.methodLink "EdgefloatsModel" (160 : Nat) ({ cls := "EdgefloatsModel", name := "same", desc := "(LEdgefloatsModel$Row;III)Z" } : Jvm.MethodName)) ∈ lw_all := lw_g (lw_at lw_m8 40 rfl) rfl
theorem q1754 : (Jvm.Cond.privateMethod ({ cls := "EdgefloatsModel", name := "same", desc := "(LEdgefloatsModel$Row;III)Z" } : Jvm.MethodName)) ∈ lw_tbl := lw_at lw_m8 41 rfl
theorem q1755 : (Jvm.Cond.instanceMethod ({ cls := "EdgefloatsModel", name := "same", desc := "(LEdgefloatsModel$Row;III)Z" } : Jvm.MethodName)) ∈ lw_all := lw_g (lw_at lw_m8 42 rfl) rfl
theorem q1756 : (Jvm.Cond.code ({ cls := "EdgefloatsModel", name := "same", desc := "(LEdgefloatsModel$Row;III)Z" } : Jvm.MethodName) prog_4_method_20_code (5 : Nat) (Option.some Jvm.ClassFile.FieldType.boolean)) ∈ lw_all := lw_g (lw_at lw_m8 43 rfl) rfl
theorem q1758 : (Jvm.Cond.instanceMethod ({ cls := "EdgefloatsModel", name := "wideOther", desc := "(II)Z" } : Jvm.MethodName)) ∈ lw_all := lw_g (lw_at lw_m8 45 rfl) rfl
theorem q1759 : (Jvm.Cond.selects "EdgefloatsModel" ({ cls := "EdgefloatsModel", name := "wideOther", desc := "(II)Z" } : Jvm.MethodName) ({ cls := "EdgefloatsModel", name := "wideOther", desc := "(II)Z" } : Jvm.MethodName)) ∈ lw_all := lw_g (lw_at lw_m8 46 rfl) rfl
theorem q1760 : (Jvm.Cond.code ({ cls := "EdgefloatsModel", name := "wideOther", desc := "(II)Z" } : Jvm.MethodName) prog_4_method_45_code (3 : Nat) (Option.some Jvm.ClassFile.FieldType.boolean)) ∈ lw_all := lw_g (lw_at lw_m8 47 rfl) rfl
theorem q1761 : (Jvm.Cond.methodLink "EdgefloatsModel" (164 : Nat) ({ cls := "EdgefloatsModel", name := "other", desc := "(II)Z" } : Jvm.MethodName)) ∈ lw_all := lw_g (lw_at lw_m8 48 rfl) rfl
theorem q1762 : (Jvm.Cond.privateMethod ({ cls := "EdgefloatsModel", name := "other", desc := "(II)Z" } : Jvm.MethodName)) ∈ lw_tbl := lw_at lw_m8 49 rfl
theorem q1763 : (Jvm.Cond.instanceMethod ({ cls := "EdgefloatsModel", name := "other", desc := "(II)Z" } : Jvm.MethodName)) ∈ lw_all := lw_g (lw_at lw_m8 50 rfl) rfl
theorem q1764 : (Jvm.Cond.code ({ cls := "EdgefloatsModel", name := "other", desc := "(II)Z" } : Jvm.MethodName) prog_4_method_21_code (3 : Nat) (Option.some Jvm.ClassFile.FieldType.boolean)) ∈ lw_all := lw_g (lw_at lw_m8 51 rfl) rfl
theorem q1766 : (Jvm.Cond.instanceMethod ({ cls := "EdgefloatsModel", name := "wideLike", desc := "(II)Z" } : Jvm.MethodName)) ∈ lw_all := lw_g (lw_at lw_m8 53 rfl) rfl
theorem q1767 : (Jvm.Cond.selects "EdgefloatsModel" ({ cls := "EdgefloatsModel", name := "wideLike", desc := "(II)Z" } : Jvm.MethodName) ({ cls := "EdgefloatsModel", name := "wideLike", desc := "(II)Z" } : Jvm.MethodName)) ∈ lw_all := lw_g (lw_at lw_m8 54 rfl) rfl
theorem q1768 : (Jvm.Cond.code ({ cls := "EdgefloatsModel", name := "wideLike", desc := "(II)Z" } : Jvm.MethodName) prog_4_method_46_code (3 : Nat) (Option.some Jvm.ClassFile.FieldType.boolean)) ∈ lw_all := lw_g (lw_at lw_m8 55 rfl) rfl
theorem q1769 : (Jvm.Cond.methodLink "EdgefloatsModel" (167 : Nat) ({ cls := "EdgefloatsModel", name := "like", desc := "(LEdgefloatsModel$Row;II)Z" } : Jvm.MethodName)) ∈ lw_all := lw_g (lw_at lw_m8 56 rfl) rfl
theorem q1770 : (Jvm.Cond.privateMethod ({ cls := "EdgefloatsModel", name := "like", desc := "(LEdgefloatsModel$Row;II)Z" } : Jvm.MethodName)) ∈ lw_tbl := lw_at lw_m8 57 rfl
theorem q1771 : (Jvm.Cond.instanceMethod ({ cls := "EdgefloatsModel", name := "like", desc := "(LEdgefloatsModel$Row;II)Z" } : Jvm.MethodName)) ∈ lw_all := lw_g (lw_at lw_m8 58 rfl) rfl
theorem q1772 : (Jvm.Cond.code ({ cls := "EdgefloatsModel", name := "like", desc := "(LEdgefloatsModel$Row;II)Z" } : Jvm.MethodName) prog_4_method_23_code (4 : Nat) (Option.some Jvm.ClassFile.FieldType.boolean)) ∈ lw_all := lw_g (lw_at lw_m8 59 rfl) rfl
theorem q1773 : (Jvm.Cond.methodLink "EdgefloatsModel" (110 : Nat) ({ cls := "EdgefloatsModel", name := "areLike", desc := "(LEdgefloatsModel$Row;JJ)Z" } : Jvm.MethodName)) ∈ lw_all := lw_g (lw_at lw_m8 60 rfl) rfl
theorem q1774 : (Jvm.Cond.static ({ cls := "EdgefloatsModel", name := "areLike", desc := "(LEdgefloatsModel$Row;JJ)Z" } : Jvm.MethodName)) ∈ lw_all := lw_g (lw_at lw_m8 61 rfl) rfl
theorem q1775 : (Jvm.Cond.code ({ cls := "EdgefloatsModel", name := "areLike", desc := "(LEdgefloatsModel$Row;JJ)Z" } : Jvm.MethodName) prog_4_method_22_code (5 : Nat) (Option.some Jvm.ClassFile.FieldType.boolean)) ∈ lw_all := lw_g (lw_at lw_m8 62 rfl) rfl
theorem q1776 : (Jvm.Cond.methodLink "EdgefloatsModel" (107 : Nat) ({ cls := "EdgefloatsModel$Row", name := "value", desc := "(J)J" } : Jvm.MethodName)) ∈ lw_all := lw_g (lw_at lw_m8 63 rfl) rfl
theorem q1781 : (Jvm.Cond.instanceMethod ({ cls := "EdgefloatsModel", name := "wideBelow", desc := "(IIZ)Z" } : Jvm.MethodName)) ∈ lw_all := lw_g (lw_at lw_m8 68 rfl) rfl
theorem q1782 : (Jvm.Cond.selects "EdgefloatsModel" ({ cls := "EdgefloatsModel", name := "wideBelow", desc := "(IIZ)Z" } : Jvm.MethodName) ({ cls := "EdgefloatsModel", name := "wideBelow", desc := "(IIZ)Z" } : Jvm.MethodName)) ∈ lw_all := lw_g (lw_at lw_m8 69 rfl) rfl
theorem q1783 : (Jvm.Cond.code ({ cls := "EdgefloatsModel", name := "wideBelow", desc := "(IIZ)Z" } : Jvm.MethodName) prog_4_method_47_code (4 : Nat) (Option.some Jvm.ClassFile.FieldType.boolean)) ∈ lw_all := lw_g (lw_at lw_m8 70 rfl) rfl
theorem q1784 : (Jvm.Cond.methodLink "EdgefloatsModel" (171 : Nat) ({ cls := "EdgefloatsModel", name := "below", desc := "(LEdgefloatsModel$Row;IIZ)Z" } : Jvm.MethodName)) ∈ lw_all := lw_g (lw_at lw_m8 71 rfl) rfl
theorem q1785 : (Jvm.Cond.privateMethod ({ cls := "EdgefloatsModel", name := "below", desc := "(LEdgefloatsModel$Row;IIZ)Z" } : Jvm.MethodName)) ∈ lw_tbl := lw_at lw_m8 72 rfl
theorem q1786 : (Jvm.Cond.instanceMethod ({ cls := "EdgefloatsModel", name := "below", desc := "(LEdgefloatsModel$Row;IIZ)Z" } : Jvm.MethodName)) ∈ lw_all := lw_g (lw_at lw_m8 73 rfl) rfl
theorem q1787 : (Jvm.Cond.code ({ cls := "EdgefloatsModel", name := "below", desc := "(LEdgefloatsModel$Row;IIZ)Z" } : Jvm.MethodName) prog_4_method_24_code (9 : Nat) (Option.some Jvm.ClassFile.FieldType.boolean)) ∈ lw_all := lw_g (lw_at lw_m8 74 rfl) rfl
theorem q1789 : (Jvm.Cond.instanceMethod ({ cls := "EdgefloatsModel", name := "wideHash", desc := "(II)I" } : Jvm.MethodName)) ∈ lw_all := lw_g (lw_at lw_m8 76 rfl) rfl
theorem q1790 : (Jvm.Cond.selects "EdgefloatsModel" ({ cls := "EdgefloatsModel", name := "wideHash", desc := "(II)I" } : Jvm.MethodName) ({ cls := "EdgefloatsModel", name := "wideHash", desc := "(II)I" } : Jvm.MethodName)) ∈ lw_all := lw_g (lw_at lw_m8 77 rfl) rfl
theorem q1791 : (Jvm.Cond.code ({ cls := "EdgefloatsModel", name := "wideHash", desc := "(II)I" } : Jvm.MethodName) prog_4_method_48_code (3 : Nat) (Option.some Jvm.ClassFile.FieldType.int)) ∈ lw_all := lw_g (lw_at lw_m8 78 rfl) rfl
theorem q1792 : (Jvm.Cond.methodLink "EdgefloatsModel" (175 : Nat) ({ cls := "EdgefloatsModel", name := "hashOf", desc := "(I)I" } : Jvm.MethodName)) ∈ lw_all := lw_g (lw_at lw_m8 79 rfl) rfl
theorem q1793 : (Jvm.Cond.privateMethod ({ cls := "EdgefloatsModel", name := "hashOf", desc := "(I)I" } : Jvm.MethodName)) ∈ lw_tbl := lw_at lw_m8 80 rfl
theorem q1794 : (Jvm.Cond.instanceMethod ({ cls := "EdgefloatsModel", name := "hashOf", desc := "(I)I" } : Jvm.MethodName)) ∈ lw_all := lw_g (lw_at lw_m8 81 rfl) rfl
theorem q1795 : (Jvm.Cond.code ({ cls := "EdgefloatsModel", name := "hashOf", desc := "(I)I" } : Jvm.MethodName) prog_4_method_29_code (2 : Nat) (Option.some Jvm.ClassFile.FieldType.int)) ∈ lw_all := lw_g (lw_at lw_m8 82 rfl) rfl
theorem q1797 : (Jvm.Cond.instanceMethod ({ cls := "EdgefloatsModel", name := "wideEndless", desc := "(II)Z" } : Jvm.MethodName)) ∈ lw_all := lw_g (lw_at lw_m8 84 rfl) rfl
theorem q1798 : (Jvm.Cond.selects "EdgefloatsModel" ({ cls := "EdgefloatsModel", name := "wideEndless", desc := "(II)Z" } : Jvm.MethodName) ({ cls := "EdgefloatsModel", name := "wideEndless", desc := "(II)Z" } : Jvm.MethodName)) ∈ lw_all := lw_g (lw_at lw_m8 85 rfl) rfl
theorem q1799 : (Jvm.Cond.code ({ cls := "EdgefloatsModel", name := "wideEndless", desc := "(II)Z" } : Jvm.MethodName) prog_4_method_49_code (3 : Nat) (Option.some Jvm.ClassFile.FieldType.boolean)) ∈ lw_all := lw_g (lw_at lw_m8 86 rfl) rfl
theorem q1800 : (Jvm.Cond.methodLink "EdgefloatsModel" (179 : Nat) ({ cls := "EdgefloatsModel", name := "endless", desc := "(LEdgefloatsModel$Row;II)Z" } : Jvm.MethodName)) ∈ lw_all := lw_g (lw_at lw_m8 87 rfl) rfl
theorem q1801 : (Jvm.Cond.privateMethod ({ cls := "EdgefloatsModel", name := "endless", desc := "(LEdgefloatsModel$Row;II)Z" } : Jvm.MethodName)) ∈ lw_tbl := lw_at lw_m8 88 rfl
theorem q1802 : (Jvm.Cond.instanceMethod ({ cls := "EdgefloatsModel", name := "endless", desc := "(LEdgefloatsModel$Row;II)Z" } : Jvm.MethodName)) ∈ lw_all := lw_g (lw_at lw_m8 89 rfl) rfl
theorem q1803 : (Jvm.Cond.code ({ cls := "EdgefloatsModel", name := "endless", desc := "(LEdgefloatsModel$Row;II)Z" } : Jvm.MethodName) prog_4_method_25_code (4 : Nat) (Option.some Jvm.ClassFile.FieldType.boolean)) ∈ lw_all := lw_g (lw_at lw_m8 90 rfl) rfl
theorem q1804 : (Jvm.Cond.methodLink "EdgefloatsModel" (114 : Nat) ({ cls := "EdgefloatsModel$Row", name := "isEndless", desc := "(J)Z" } : Jvm.MethodName)) ∈ lw_all := lw_g (lw_at lw_m8 91 rfl) rfl
theorem q1806 : (Jvm.Cond.instanceMethod ({ cls := "EdgefloatsModel", name := "wideCount", desc := "(I)I" } : Jvm.MethodName)) ∈ lw_all := lw_g (lw_at lw_m8 93 rfl) rfl
theorem q1807 : (Jvm.Cond.selects "EdgefloatsModel" ({ cls := "EdgefloatsModel", name := "wideCount", desc := "(I)I" } : Jvm.MethodName) ({ cls := "EdgefloatsModel", name := "wideCount", desc := "(I)I" } : Jvm.MethodName)) ∈ lw_all := lw_g (lw_at lw_m8 94 rfl) rfl
theorem q1808 : (Jvm.Cond.code ({ cls := "EdgefloatsModel", name := "wideCount", desc := "(I)I" } : Jvm.MethodName) prog_4_method_50_code (2 : Nat) (Option.some Jvm.ClassFile.FieldType.int)) ∈ lw_all := lw_g (lw_at lw_m8 95 rfl) rfl
theorem q1809 : (Jvm.Cond.methodLink "EdgefloatsModel" (182 : Nat) ({ cls := "EdgefloatsModel", name := "count", desc := "(LEdgefloatsModel$Row;I)I" } : Jvm.MethodName)) ∈ lw_all := lw_g (lw_at lw_m8 96 rfl) rfl
theorem q1810 : (Jvm.Cond.privateMethod ({ cls := "EdgefloatsModel", name := "count", desc := "(LEdgefloatsModel$Row;I)I" } : Jvm.MethodName)) ∈ lw_tbl := lw_at lw_m8 97 rfl
theorem q1811 : (Jvm.Cond.instanceMethod ({ cls := "EdgefloatsModel", name := "count", desc := "(LEdgefloatsModel$Row;I)I" } : Jvm.MethodName)) ∈ lw_all := lw_g (lw_at lw_m8 98 rfl) rfl
theorem q1812 : (Jvm.Cond.code ({ cls := "EdgefloatsModel", name := "count", desc := "(LEdgefloatsModel$Row;I)I" } : Jvm.MethodName) prog_4_method_26_code (3 : Nat) (Option.some Jvm.ClassFile.FieldType.int)) ∈ lw_all := lw_g (lw_at lw_m8 99 rfl) rfl
theorem q1813 : (Jvm.Cond.methodLink "EdgefloatsModel" (117 : Nat) ({ cls := "EdgefloatsModel$Row", name := "count", desc := "(J)I" } : Jvm.MethodName)) ∈ lw_all := lw_g (lw_at lw_m8 100 rfl) rfl
theorem q1815 : (Jvm.Cond.instanceMethod ({ cls := "EdgefloatsModel", name := "wideFind", desc := "(IZ)I" } : Jvm.MethodName)) ∈ lw_all := lw_g (lw_at lw_m8 102 rfl) rfl
theorem q1816 : (Jvm.Cond.selects "EdgefloatsModel" ({ cls := "EdgefloatsModel", name := "wideFind", desc := "(IZ)I" } : Jvm.MethodName) ({ cls := "EdgefloatsModel", name := "wideFind", desc := "(IZ)I" } : Jvm.MethodName)) ∈ lw_all := lw_g (lw_at lw_m8 103 rfl) rfl
theorem q1817 : (Jvm.Cond.code ({ cls := "EdgefloatsModel", name := "wideFind", desc := "(IZ)I" } : Jvm.MethodName) prog_4_method_51_code (3 : Nat) (Option.some Jvm.ClassFile.FieldType.int)) ∈ lw_all := lw_g (lw_at lw_m8 104 rfl) rfl
theorem q1818 : (Jvm.Cond.methodLink "EdgefloatsModel" (184 : Nat) ({ cls := "EdgefloatsModel", name := "find", desc := "(LEdgefloatsModel$Row;IZ)I" } : Jvm.MethodName)) ∈ lw_all := lw_g (lw_at lw_m8 105 rfl) rfl
theorem q1819 : (Jvm.Cond.privateMethod ({ cls := "EdgefloatsModel", name := "find", desc := "(LEdgefloatsModel$Row;IZ)I" } : Jvm.MethodName)) ∈ lw_tbl := lw_at lw_m8 106 rfl
theorem q1820 : (Jvm.Cond.instanceMethod ({ cls := "EdgefloatsModel", name := "find", desc := "(LEdgefloatsModel$Row;IZ)I" } : Jvm.MethodName)) ∈ lw_all := lw_g (lw_at lw_m8 107 rfl) rfl
theorem q1821 : (Jvm.Cond.code ({ cls := "EdgefloatsModel", name := "find", desc := "(LEdgefloatsModel$Row;IZ)I" } : Jvm.MethodName) prog_4_method_27_code (4 : Nat) (Option.some Jvm.ClassFile.FieldType.int)) ∈ lw_all := lw_g (lw_at lw_m8 108 rfl) rfl
theorem q1822 : (Jvm.Cond.methodLink "EdgefloatsModel" (121 : Nat) ({ cls := "EdgefloatsModel$Row", name := "find", desc := "(JZ)I" } : Jvm.MethodName)) ∈ lw_all := lw_g (lw_at lw_m8 109 rfl) rfl
theorem q1827 : (Jvm.Cond.instanceMethod ({ cls := "EdgefloatsModel", name := "wideHas", desc := "(I)Z" } : Jvm.MethodName)) ∈ lw_all := lw_g (lw_at lw_m8 114 rfl) rfl
theorem q1828 : (Jvm.Cond.selects "EdgefloatsModel" ({ cls := "EdgefloatsModel", name := "wideHas", desc := "(I)Z" } : Jvm.MethodName) ({ cls := "EdgefloatsModel", name := "wideHas", desc := "(I)Z" } : Jvm.MethodName)) ∈ lw_all := lw_g (lw_at lw_m8 115 rfl) rfl
theorem q1829 : (Jvm.Cond.code ({ cls := "EdgefloatsModel", name := "wideHas", desc := "(I)Z" } : Jvm.MethodName) prog_4_method_52_code (2 : Nat) (Option.some Jvm.ClassFile.FieldType.boolean)) ∈ lw_all := lw_g (lw_at lw_m8 116 rfl) rfl
theorem q1830 : (Jvm.Cond.methodLink "EdgefloatsModel" (187 : Nat) ({ cls := "EdgefloatsModel", name := "has", desc := "(LEdgefloatsModel$Row;I)Z" } : Jvm.MethodName)) ∈ lw_all := lw_g (lw_at lw_m8 117 rfl) rfl
theorem q1831 : (Jvm.Cond.privateMethod ({ cls := "EdgefloatsModel", name := "has", desc := "(LEdgefloatsModel$Row;I)Z" } : Jvm.MethodName)) ∈ lw_tbl := lw_at lw_m8 118 rfl
theorem q1832 : (Jvm.Cond.instanceMethod ({ cls := "EdgefloatsModel", name := "has", desc := "(LEdgefloatsModel$Row;I)Z" } : Jvm.MethodName)) ∈ lw_all := lw_g (lw_at lw_m8 119 rfl) rfl
theorem q1833 : (Jvm.Cond.code ({ cls := "EdgefloatsModel", name := "has", desc := "(LEdgefloatsModel$Row;I)Z" } : Jvm.MethodName) prog_4_method_28_code (3 : Nat) (Option.some Jvm.ClassFile.FieldType.boolean)) ∈ lw_all := lw_g (lw_at lw_m8 120 rfl) rfl
theorem q1835 : (Jvm.Cond.instanceMethod ({ cls := "EdgefloatsModel", name := "putNarrow", desc := "(II)I" } : Jvm.MethodName)) ∈ lw_all := lw_g (lw_at lw_m8 122 rfl) rfl
theorem q1836 : (Jvm.Cond.selects "EdgefloatsModel" ({ cls := "EdgefloatsModel", name := "putNarrow", desc := "(II)I" } : Jvm.MethodName) ({ cls := "EdgefloatsModel", name := "putNarrow", desc := "(II)I" } : Jvm.MethodName)) ∈ lw_all := lw_g (lw_at lw_m8 123 rfl) rfl
theorem q1837 : (Jvm.Cond.code ({ cls := "EdgefloatsModel", name := "putNarrow", desc := "(II)I" } : Jvm.MethodName) prog_4_method_53_code (3 : Nat) (Option.some Jvm.ClassFile.FieldType.int)) ∈ lw_all := lw_g (lw_at lw_m8 124 rfl) rfl
theorem q1839 : (Jvm.Cond.instanceMethod ({ cls := "EdgefloatsModel", name := "narrowQuarters", desc := "(II)I" } : Jvm.MethodName)) ∈ lw_all := lw_g (lw_at lw_m8 126 rfl) rfl
theorem q1840 : (Jvm.Cond.selects "EdgefloatsModel" ({ cls := "EdgefloatsModel", name := "narrowQuarters", desc := "(II)I" } : Jvm.MethodName) ({ cls := "EdgefloatsModel", name := "narrowQuarters", desc := "(II)I" } : Jvm.MethodName)) ∈ lw_all := lw_g (lw_at lw_m8 127 rfl) rfl
theorem q1841 : (Jvm.Cond.code ({ cls := "EdgefloatsModel", name := "narrowQuarters", desc := "(II)I" } : Jvm.MethodName) prog_4_method_54_code (3 : Nat) (Option.some Jvm.ClassFile.FieldType.int)) ∈ lw_all := lw_g (lw_at lw_m8 128 rfl) rfl
theorem q1843 : (Jvm.Cond.instanceMethod ({ cls := "EdgefloatsModel", name := "narrowKnown", desc := "(II)I" } : Jvm.MethodName)) ∈ lw_all := lw_g (lw_at lw_m8 130 rfl) rfl
theorem q1844 : (Jvm.Cond.selects "EdgefloatsModel" ({ cls := "EdgefloatsModel", name := "narrowKnown", desc := "(II)I" } : Jvm.MethodName) ({ cls := "EdgefloatsModel", name := "narrowKnown", desc := "(II)I" } : Jvm.MethodName)) ∈ lw_all := lw_g (lw_at lw_m8 131 rfl) rfl
theorem q1845 : (Jvm.Cond.code ({ cls := "EdgefloatsModel", name := "narrowKnown", desc := "(II)I" } : Jvm.MethodName) prog_4_method_55_code (3 : Nat) (Option.some Jvm.ClassFile.FieldType.int)) ∈ lw_all := lw_g (lw_at lw_m8 132 rfl) rfl
theorem q1847 : (Jvm.Cond.instanceMethod ({ cls := "EdgefloatsModel", name := "narrowCopy", desc := "(II)I" } : Jvm.MethodName)) ∈ lw_all := lw_g (lw_at lw_m8 134 rfl) rfl
theorem q1848 : (Jvm.Cond.selects "EdgefloatsModel" ({ cls := "EdgefloatsModel", name := "narrowCopy", desc := "(II)I" } : Jvm.MethodName) ({ cls := "EdgefloatsModel", name := "narrowCopy", desc := "(II)I" } : Jvm.MethodName)) ∈ lw_all := lw_g (lw_at lw_m8 135 rfl) rfl
theorem q1849 : (Jvm.Cond.code ({ cls := "EdgefloatsModel", name := "narrowCopy", desc := "(II)I" } : Jvm.MethodName) prog_4_method_56_code (3 : Nat) (Option.some Jvm.ClassFile.FieldType.int)) ∈ lw_all := lw_g (lw_at lw_m8 136 rfl) rfl
theorem q1851 : (Jvm.Cond.instanceMethod ({ cls := "EdgefloatsModel", name := "narrowSwap", desc := "(II)I" } : Jvm.MethodName)) ∈ lw_all := lw_g (lw_at lw_m8 138 rfl) rfl
theorem q1852 : (Jvm.Cond.selects "EdgefloatsModel" ({ cls := "EdgefloatsModel", name := "narrowSwap", desc := "(II)I" } : Jvm.MethodName) ({ cls := "EdgefloatsModel", name := "narrowSwap", desc := "(II)I" } : Jvm.MethodName)) ∈ lw_all := lw_g (lw_at lw_m8 139 rfl) rfl
theorem q1853 : (Jvm.Cond.code ({ cls := "EdgefloatsModel", name := "narrowSwap", desc := "(II)I" } : Jvm.MethodName) prog_4_method_57_code (3 : Nat) (Option.some Jvm.ClassFile.FieldType.int)) ∈ lw_all := lw_g (lw_at lw_m8 140 rfl) rfl
theorem q1855 : (Jvm.Cond.instanceMethod ({ cls := "EdgefloatsModel", name := "narrowMax", desc := "(III)I" } : Jvm.MethodName)) ∈ lw_all := lw_g (lw_at lw_m8 142 rfl) rfl
theorem q1856 : (Jvm.Cond.selects "EdgefloatsModel" ({ cls := "EdgefloatsModel", name := "narrowMax", desc := "(III)I" } : Jvm.MethodName) ({ cls := "EdgefloatsModel", name := "narrowMax", desc := "(III)I" } : Jvm.MethodName)) ∈ lw_all := lw_g (lw_at lw_m8 143 rfl) rfl
theorem q1857 : (Jvm.Cond.code ({ cls := "EdgefloatsModel", name := "narrowMax", desc := "(III)I" } : Jvm.MethodName) prog_4_method_58_code (4 : Nat) (Option.some Jvm.ClassFile.FieldType.int)) ∈ lw_all := lw_g (lw_at lw_m8 144 rfl) rfl
theorem q1859 : (Jvm.Cond.instanceMethod ({ cls := "EdgefloatsModel", name := "narrowMin", desc := "(III)I" } : Jvm.MethodName)) ∈ lw_all := lw_g (lw_at lw_m8 146 rfl) rfl
theorem q1860 : (Jvm.Cond.selects "EdgefloatsModel" ({ cls := "EdgefloatsModel", name := "narrowMin", desc := "(III)I" } : Jvm.MethodName) ({ cls := "EdgefloatsModel", name := "narrowMin", desc := "(III)I" } : Jvm.MethodName)) ∈ lw_all := lw_g (lw_at lw_m8 147 rfl) rfl
theorem q1861 : (Jvm.Cond.code ({ cls := "EdgefloatsModel", name := "narrowMin", desc := "(III)I" } : Jvm.MethodName) prog_4_method_59_code (4 : Nat) (Option.some Jvm.ClassFile.FieldType.int)) ∈ lw_all := lw_g (lw_at lw_m8 148 rfl) rfl
theorem q1863 : (Jvm.Cond.instanceMethod ({ cls := "EdgefloatsModel", name := "narrowSum", desc := "(III)I" } : Jvm.MethodName)) ∈ lw_all := lw_g (lw_at lw_m8 150 rfl) rfl
theorem q1864 : (Jvm.Cond.selects "EdgefloatsModel" ({ cls := "EdgefloatsModel", name := "narrowSum", desc := "(III)I" } : Jvm.MethodName) ({ cls := "EdgefloatsModel", name := "narrowSum", desc := "(III)I" } : Jvm.MethodName)) ∈ lw_all := lw_g (lw_at lw_m8 151 rfl) rfl
theorem q1865 : (Jvm.Cond.code ({ cls := "EdgefloatsModel", name := "narrowSum", desc := "(III)I" } : Jvm.MethodName) prog_4_method_60_code (4 : Nat) (Option.some Jvm.ClassFile.FieldType.int)) ∈ lw_all := lw_g (lw_at lw_m8 152 rfl) rfl
theorem q1867 : (Jvm.Cond.instanceMethod ({ cls := "EdgefloatsModel", name := "narrowSort", desc := "(I)I" } : Jvm.MethodName)) ∈ lw_all := lw_g (lw_at lw_m8 154 rfl) rfl
theorem q1868 : (Jvm.Cond.selects "EdgefloatsModel" ({ cls := "EdgefloatsModel", name := "narrowSort", desc := "(I)I" } : Jvm.MethodName) ({ cls := "EdgefloatsModel", name := "narrowSort", desc := "(I)I" } : Jvm.MethodName)) ∈ lw_all := lw_g (lw_at lw_m8 155 rfl) rfl
theorem q1869 : (Jvm.Cond.code ({ cls := "EdgefloatsModel", name := "narrowSort", desc := "(I)I" } : Jvm.MethodName) prog_4_method_61_code (2 : Nat) (Option.some Jvm.ClassFile.FieldType.int)) ∈ lw_all := lw_g (lw_at lw_m8 156 rfl) rfl
theorem q1871 : (Jvm.Cond.instanceMethod ({ cls := "EdgefloatsModel", name := "narrowEnd", desc := "(ZI)I" } : Jvm.MethodName)) ∈ lw_all := lw_g (lw_at lw_m8 158 rfl) rfl
theorem q1872 : (Jvm.Cond.selects "EdgefloatsModel" ({ cls := "EdgefloatsModel", name := "narrowEnd", desc := "(ZI)I" } : Jvm.MethodName) ({ cls := "EdgefloatsModel", name := "narrowEnd", desc := "(ZI)I" } : Jvm.MethodName)) ∈ lw_all := lw_g (lw_at lw_m8 159 rfl) rfl
theorem q1873 : (Jvm.Cond.code ({ cls := "EdgefloatsModel", name := "narrowEnd", desc := "(ZI)I" } : Jvm.MethodName) prog_4_method_62_code (3 : Nat) (Option.some Jvm.ClassFile.FieldType.int)) ∈ lw_all := lw_g (lw_at lw_m8 160 rfl) rfl
theorem q1875 : (Jvm.Cond.instanceMethod ({ cls := "EdgefloatsModel", name := "digits", desc := "(I)I" } : Jvm.MethodName)) ∈ lw_all := lw_g (lw_at lw_m8 162 rfl) rfl
theorem q1876 : (Jvm.Cond.selects "EdgefloatsModel" ({ cls := "EdgefloatsModel", name := "digits", desc := "(I)I" } : Jvm.MethodName) ({ cls := "EdgefloatsModel", name := "digits", desc := "(I)I" } : Jvm.MethodName)) ∈ lw_all := lw_g (lw_at lw_m8 163 rfl) rfl
theorem q1877 : (Jvm.Cond.code ({ cls := "EdgefloatsModel", name := "digits", desc := "(I)I" } : Jvm.MethodName) prog_4_method_63_code (2 : Nat) (Option.some Jvm.ClassFile.FieldType.int)) ∈ lw_all := lw_g (lw_at lw_m8 164 rfl) rfl
theorem q1879 : (Jvm.Cond.instanceMethod ({ cls := "EdgefloatsModel", name := "narrowText", desc := "(I)Ljava/lang/String;" } : Jvm.MethodName)) ∈ lw_all := lw_g (lw_at lw_m8 166 rfl) rfl
theorem q1880 : (Jvm.Cond.selects "EdgefloatsModel" ({ cls := "EdgefloatsModel", name := "narrowText", desc := "(I)Ljava/lang/String;" } : Jvm.MethodName) ({ cls := "EdgefloatsModel", name := "narrowText", desc := "(I)Ljava/lang/String;" } : Jvm.MethodName)) ∈ lw_all := lw_g (lw_at lw_m8 167 rfl) rfl
theorem q1881 : (Jvm.Cond.code ({ cls := "EdgefloatsModel", name := "narrowText", desc := "(I)Ljava/lang/String;" } : Jvm.MethodName) prog_4_method_64_code (2 : Nat) (Option.some (Jvm.ClassFile.FieldType.object "java/lang/String"))) ∈ lw_all := lw_g (lw_at lw_m8 168 rfl) rfl
theorem q1883 : (Jvm.Cond.instanceMethod ({ cls := "EdgefloatsModel", name := "narrowOrder", desc := "(III)I" } : Jvm.MethodName)) ∈ lw_all := lw_g (lw_at lw_m8 170 rfl) rfl
theorem q1884 : (Jvm.Cond.selects "EdgefloatsModel" ({ cls := "EdgefloatsModel", name := "narrowOrder", desc := "(III)I" } : Jvm.MethodName) ({ cls := "EdgefloatsModel", name := "narrowOrder", desc := "(III)I" } : Jvm.MethodName)) ∈ lw_all := lw_g (lw_at lw_m8 171 rfl) rfl
theorem q1885 : (Jvm.Cond.code ({ cls := "EdgefloatsModel", name := "narrowOrder", desc := "(III)I" } : Jvm.MethodName) prog_4_method_65_code (4 : Nat) (Option.some Jvm.ClassFile.FieldType.int)) ∈ lw_all := lw_g (lw_at lw_m8 172 rfl) rfl
theorem q1887 : (Jvm.Cond.instanceMethod ({ cls := "EdgefloatsModel", name := "narrowSame", desc := "(III)Z" } : Jvm.MethodName)) ∈ lw_all := lw_g (lw_at lw_m8 174 rfl) rfl
theorem q1888 : (Jvm.Cond.selects "EdgefloatsModel" ({ cls := "EdgefloatsModel", name := "narrowSame", desc := "(III)Z" } : Jvm.MethodName) ({ cls := "EdgefloatsModel", name := "narrowSame", desc := "(III)Z" } : Jvm.MethodName)) ∈ lw_all := lw_g (lw_at lw_m8 175 rfl) rfl
theorem q1889 : (Jvm.Cond.code ({ cls := "EdgefloatsModel", name := "narrowSame", desc := "(III)Z" } : Jvm.MethodName) prog_4_method_66_code (4 : Nat) (Option.some Jvm.ClassFile.FieldType.boolean)) ∈ lw_all := lw_g (lw_at lw_m8 176 rfl) rfl
theorem q1891 : (Jvm.Cond.instanceMethod ({ cls := "EdgefloatsModel", name := "narrowOther", desc := "(II)Z" } : Jvm.MethodName)) ∈ lw_all := lw_g (lw_at lw_m8 178 rfl) rfl
theorem q1892 : (Jvm.Cond.selects "EdgefloatsModel" ({ cls := "EdgefloatsModel", name := "narrowOther", desc := "(II)Z" } : Jvm.MethodName) ({ cls := "EdgefloatsModel", name := "narrowOther", desc := "(II)Z" } : Jvm.MethodName)) ∈ lw_all := lw_g (lw_at lw_m8 179 rfl) rfl
theorem q1893 : (Jvm.Cond.code ({ cls := "EdgefloatsModel", name := "narrowOther", desc := "(II)Z" } : Jvm.MethodName) prog_4_method_67_code (3 : Nat) (Option.some Jvm.ClassFile.FieldType.boolean)) ∈ lw_all := lw_g (lw_at lw_m8 180 rfl) rfl
theorem q1895 : (Jvm.Cond.instanceMethod ({ cls := "EdgefloatsModel", name := "narrowLike", desc := "(II)Z" } : Jvm.MethodName)) ∈ lw_all := lw_g (lw_at lw_m8 182 rfl) rfl
theorem q1896 : (Jvm.Cond.selects "EdgefloatsModel" ({ cls := "EdgefloatsModel", name := "narrowLike", desc := "(II)Z" } : Jvm.MethodName) ({ cls := "EdgefloatsModel", name := "narrowLike", desc := "(II)Z" } : Jvm.MethodName)) ∈ lw_all := lw_g (lw_at lw_m8 183 rfl) rfl
theorem q1897 : (Jvm.Cond.code ({ cls := "EdgefloatsModel", name := "narrowLike", desc := "(II)Z" } : Jvm.MethodName) prog_4_method_68_code (3 : Nat) (Option.some Jvm.ClassFile.FieldType.boolean)) ∈ lw_all := lw_g (lw_at lw_m8 184 rfl) rfl
theorem q1899 : (Jvm.Cond.instanceMethod ({ cls := "EdgefloatsModel", name := "narrowBelow", desc := "(IIZ)Z" } : Jvm.MethodName)) ∈ lw_all := lw_g (lw_at lw_m8 186 rfl) rfl
theorem q1900 : (Jvm.Cond.selects "EdgefloatsModel" ({ cls := "EdgefloatsModel", name := "narrowBelow", desc := "(IIZ)Z" } : Jvm.MethodName) ({ cls := "EdgefloatsModel", name := "narrowBelow", desc := "(IIZ)Z" } : Jvm.MethodName)) ∈ lw_all := lw_g (lw_at lw_m8 187 rfl) rfl
theorem q1901 : (Jvm.Cond.code ({ cls := "EdgefloatsModel", name := "narrowBelow", desc := "(IIZ)Z" } : Jvm.MethodName) prog_4_method_69_code (4 : Nat) (Option.some Jvm.ClassFile.FieldType.boolean)) ∈ lw_all := lw_g (lw_at lw_m8 188 rfl) rfl
theorem q1903 : (Jvm.Cond.instanceMethod ({ cls := "EdgefloatsModel", name := "narrowHash", desc := "(II)I" } : Jvm.MethodName)) ∈ lw_all := lw_g (lw_at lw_m8 190 rfl) rfl
theorem q1904 : (Jvm.Cond.selects "EdgefloatsModel" ({ cls := "EdgefloatsModel", name := "narrowHash", desc := "(II)I" } : Jvm.MethodName) ({ cls := "EdgefloatsModel", name := "narrowHash", desc := "(II)I" } : Jvm.MethodName)) ∈ lw_all := lw_g (lw_at lw_m8 191 rfl) rfl
theorem q1905 : (Jvm.Cond.code ({ cls := "EdgefloatsModel", name := "narrowHash", desc := "(II)I" } : Jvm.MethodName) prog_4_method_70_code (3 : Nat) (Option.some Jvm.ClassFile.FieldType.int)) ∈ lw_all := lw_g (lw_at lw_m8 192 rfl) rfl
theorem q1907 : (Jvm.Cond.instanceMethod ({ cls := "EdgefloatsModel", name := "narrowEndless", desc := "(II)Z" } : Jvm.MethodName)) ∈ lw_all := lw_g (lw_at lw_m8 194 rfl) rfl
theorem q1908 : (Jvm.Cond.selects "EdgefloatsModel" ({ cls := "EdgefloatsModel", name := "narrowEndless", desc := "(II)Z" } : Jvm.MethodName) ({ cls := "EdgefloatsModel", name := "narrowEndless", desc := "(II)Z" } : Jvm.MethodName)) ∈ lw_all := lw_g (lw_at lw_m8 195 rfl) rfl
theorem q1909 : (Jvm.Cond.code ({ cls := "EdgefloatsModel", name := "narrowEndless", desc := "(II)Z" } : Jvm.MethodName) prog_4_method_71_code (3 : Nat) (Option.some Jvm.ClassFile.FieldType.boolean)) ∈ lw_all := lw_g (lw_at lw_m8 196 rfl) rfl
theorem q1911 : (Jvm.Cond.instanceMethod ({ cls := "EdgefloatsModel", name := "narrowCount", desc := "(I)I" } : Jvm.MethodName)) ∈ lw_all := lw_g (lw_at lw_m8 198 rfl) rfl
theorem q1912 : (Jvm.Cond.selects "EdgefloatsModel" ({ cls := "EdgefloatsModel", name := "narrowCount", desc := "(I)I" } : Jvm.MethodName) ({ cls := "EdgefloatsModel", name := "narrowCount", desc := "(I)I" } : Jvm.MethodName)) ∈ lw_all := lw_g (lw_at lw_m8 199 rfl) rfl
theorem q1913 : (Jvm.Cond.code ({ cls := "EdgefloatsModel", name := "narrowCount", desc := "(I)I" } : Jvm.MethodName) prog_4_method_72_code (2 : Nat) (Option.some Jvm.ClassFile.FieldType.int)) ∈ lw_all := lw_g (lw_at lw_m8 200 rfl) rfl
theorem q1915 : (Jvm.Cond.instanceMethod ({ cls := "EdgefloatsModel", name := "narrowFind", desc := "(IZ)I" } : Jvm.MethodName)) ∈ lw_all := lw_g (lw_at lw_m8 202 rfl) rfl
theorem q1916 : (Jvm.Cond.selects "EdgefloatsModel" ({ cls := "EdgefloatsModel", name := "narrowFind", desc := "(IZ)I" } : Jvm.MethodName) ({ cls := "EdgefloatsModel", name := "narrowFind", desc := "(IZ)I" } : Jvm.MethodName)) ∈ lw_all := lw_g (lw_at lw_m8 203 rfl) rfl
theorem q1917 : (Jvm.Cond.code ({ cls := "EdgefloatsModel", name := "narrowFind", desc := "(IZ)I" } : Jvm.MethodName) prog_4_method_73_code (3 : Nat) (Option.some Jvm.ClassFile.FieldType.int)) ∈ lw_all := lw_g (lw_at lw_m8 204 rfl) rfl
theorem q1919 : (Jvm.Cond.instanceMethod ({ cls := "EdgefloatsModel", name := "narrowHas", desc := "(I)Z" } : Jvm.MethodName)) ∈ lw_all := lw_g (lw_at lw_m8 206 rfl) rfl
theorem q1920 : (Jvm.Cond.selects "EdgefloatsModel" ({ cls := "EdgefloatsModel", name := "narrowHas", desc := "(I)Z" } : Jvm.MethodName) ({ cls := "EdgefloatsModel", name := "narrowHas", desc := "(I)Z" } : Jvm.MethodName)) ∈ lw_all := lw_g (lw_at lw_m8 207 rfl) rfl
theorem q1921 : (Jvm.Cond.code ({ cls := "EdgefloatsModel", name := "narrowHas", desc := "(I)Z" } : Jvm.MethodName) prog_4_method_74_code (2 : Nat) (Option.some Jvm.ClassFile.FieldType.boolean)) ∈ lw_all := lw_g (lw_at lw_m8 208 rfl) rfl
theorem q1923 : (Jvm.Cond.instanceMethod ({ cls := "EdgefloatsModel", name := "house", desc := "(I)I" } : Jvm.MethodName)) ∈ lw_all := lw_g (lw_at lw_m8 210 rfl) rfl
theorem q1924 : (Jvm.Cond.selects "EdgefloatsModel" ({ cls := "EdgefloatsModel", name := "house", desc := "(I)I" } : Jvm.MethodName) ({ cls := "EdgefloatsModel", name := "house", desc := "(I)I" } : Jvm.MethodName)) ∈ lw_all := lw_g (lw_at lw_m8 211 rfl) rfl
theorem q1925 : (Jvm.Cond.code ({ cls := "EdgefloatsModel", name := "house", desc := "(I)I" } : Jvm.MethodName) prog_4_method_76_code (2 : Nat) (Option.some Jvm.ClassFile.FieldType.int)) ∈ lw_all := lw_g (lw_at lw_m8 212 rfl) rfl
theorem q1926 : (Jvm.Cond.methodLink "EdgefloatsModel" (197 : Nat) ({ cls := "EdgefloatsModel", name := "houseOf", desc := "(I)I" } : Jvm.MethodName)) ∈ lw_all := lw_g (lw_at lw_m8 213 rfl) rfl
theorem q1927 : (Jvm.Cond.privateMethod ({ cls := "EdgefloatsModel", name := "houseOf", desc := "(I)I" } : Jvm.MethodName)) ∈ lw_tbl := lw_at lw_m8 214 rfl
theorem q1928 : (Jvm.Cond.instanceMethod ({ cls := "EdgefloatsModel", name := "houseOf", desc := "(I)I" } : Jvm.MethodName)) ∈ lw_all := lw_g (lw_at lw_m8 215 rfl) rfl
theorem q1929 : (Jvm.Cond.code ({ cls := "EdgefloatsModel", name := "houseOf", desc := "(I)I" } : Jvm.MethodName) prog_4_method_75_code (2 : Nat) (Option.some Jvm.ClassFile.FieldType.int)) ∈ lw_all := lw_g (lw_at lw_m8 216 rfl) rfl
theorem q1931 : (Jvm.Cond.instanceMethod ({ cls := "EdgefloatsModel", name := "knock", desc := "()I" } : Jvm.MethodName)) ∈ lw_all := lw_g (lw_at lw_m8 218 rfl) rfl
theorem q1932 : (Jvm.Cond.selects "EdgefloatsModel" ({ cls := "EdgefloatsModel", name := "knock", desc := "()I" } : Jvm.MethodName) ({ cls := "EdgefloatsModel", name := "knock", desc := "()I" } : Jvm.MethodName)) ∈ lw_all := lw_g (lw_at lw_m8 219 rfl) rfl
theorem q1933 : (Jvm.Cond.code ({ cls := "EdgefloatsModel", name := "knock", desc := "()I" } : Jvm.MethodName) prog_4_method_77_code (1 : Nat) (Option.some Jvm.ClassFile.FieldType.int)) ∈ lw_all := lw_g (lw_at lw_m8 220 rfl) rfl
theorem q1935 : (Jvm.Cond.instanceMethod ({ cls := "EdgefloatsModel", name := "isSound", desc := "()Z" } : Jvm.MethodName)) ∈ lw_all := lw_g (lw_at lw_m8 222 rfl) rfl
theorem q1936 : (Jvm.Cond.selects "EdgefloatsModel" ({ cls := "EdgefloatsModel", name := "isSound", desc := "()Z" } : Jvm.MethodName) ({ cls := "EdgefloatsModel", name := "isSound", desc := "()Z" } : Jvm.MethodName)) ∈ lw_all := lw_g (lw_at lw_m8 223 rfl) rfl
theorem q1937 : (Jvm.Cond.code ({ cls := "EdgefloatsModel", name := "isSound", desc := "()Z" } : Jvm.MethodName) prog_4_method_78_code (1 : Nat) (Option.some Jvm.ClassFile.FieldType.boolean)) ∈ lw_all := lw_g (lw_at lw_m8 224 rfl) rfl
theorem q1939 : (Jvm.Cond.instanceMethod ({ cls := "EdgefloatsModel", name := "digest", desc := "()J" } : Jvm.MethodName)) ∈ lw_all := lw_g (lw_at lw_m8 226 rfl) rfl
theorem q1940 : (Jvm.Cond.selects "EdgefloatsModel" ({ cls := "EdgefloatsModel", name := "digest", desc := "()J" } : Jvm.MethodName) ({ cls := "EdgefloatsModel", name := "digest", desc := "()J" } : Jvm.MethodName)) ∈ lw_all := lw_g (lw_at lw_m8 227 rfl) rfl
theorem q1941 : (Jvm.Cond.code ({ cls := "EdgefloatsModel", name := "digest", desc := "()J" } : Jvm.MethodName) prog_4_method_82_code (4 : Nat) (Option.some Jvm.ClassFile.FieldType.long)) ∈ lw_all := lw_g (lw_at lw_m8 228 rfl) rfl
theorem q1942 : (Jvm.Cond.constantLong "EdgefloatsModel" (209 : Nat) (7638 : Int64)) ∈ lw_all := lw_g (lw_at lw_m8 229 rfl) rfl
theorem q1943 : (Jvm.Cond.methodLink "EdgefloatsModel" (202 : Nat) ({ cls := "EdgefloatsModel", name := "add", desc := "(JJ)J" } : Jvm.MethodName)) ∈ lw_all := lw_g (lw_at lw_m8 230 rfl) rfl
theorem q1944 : (Jvm.Cond.static ({ cls := "EdgefloatsModel", name := "add", desc := "(JJ)J" } : Jvm.MethodName)) ∈ lw_all := lw_g (lw_at lw_m8 231 rfl) rfl
theorem q1945 : (Jvm.Cond.code ({ cls := "EdgefloatsModel", name := "add", desc := "(JJ)J" } : Jvm.MethodName) prog_4_method_79_code (4 : Nat) (Option.some Jvm.ClassFile.FieldType.long)) ∈ lw_all := lw_g (lw_at lw_m8 232 rfl) rfl
theorem q1946 : (Jvm.Cond.constantLong "EdgefloatsModel" (200 : Nat) (31 : Int64)) ∈ lw_all := lw_g (lw_at lw_m8 233 rfl) rfl
theorem q1947 : (Jvm.Cond.methodLink "EdgefloatsModel" (211 : Nat) ({ cls := "EdgefloatsModel", name := "addCell", desc := "(JLEdgefloatsModel$Row;I)J" } : Jvm.MethodName)) ∈ lw_all := lw_g (lw_at lw_m8 234 rfl) rfl
theorem q1948 : (Jvm.Cond.static ({ cls := "EdgefloatsModel", name := "addCell", desc := "(JLEdgefloatsModel$Row;I)J" } : Jvm.MethodName)) ∈ lw_all := lw_g (lw_at lw_m8 235 rfl) rfl
theorem q1949 : (Jvm.Cond.code ({ cls := "EdgefloatsModel", name := "addCell", desc := "(JLEdgefloatsModel$Row;I)J" } : Jvm.MethodName) prog_4_method_81_code (6 : Nat) (Option.some Jvm.ClassFile.FieldType.long)) ∈ lw_all := lw_g (lw_at lw_m8 236 rfl) rfl
theorem q1950 : (Jvm.Cond.methodLink "EdgefloatsModel" (215 : Nat) ({ cls := "EdgefloatsModel", name := "addPairs", desc := "(JLEdgefloatsModel$Row;)J" } : Jvm.MethodName)) ∈ lw_all := lw_g (lw_at lw_m8 237 rfl) rfl
theorem q1951 : (Jvm.Cond.static ({ cls := "EdgefloatsModel", name := "addPairs", desc := "(JLEdgefloatsModel$Row;)J" } : Jvm.MethodName)) ∈ lw_all := lw_g (lw_at lw_m8 238 rfl) rfl
theorem q1952 : (Jvm.Cond.code ({ cls := "EdgefloatsModel", name := "addPairs", desc := "(JLEdgefloatsModel$Row;)J" } : Jvm.MethodName) prog_4_method_80_code (7 : Nat) (Option.some Jvm.ClassFile.FieldType.long)) ∈ lw_all := lw_g (lw_at lw_m8 239 rfl) rfl
theorem q1953 : (Jvm.Cond.methodLink "EdgefloatsModel" (205 : Nat) ({ cls := "EdgefloatsModel", name := "one", desc := "(Z)I" } : Jvm.MethodName)) ∈ lw_all := lw_g (lw_at lw_m9 0 rfl) rfl
theorem q1954 : (Jvm.Cond.static ({ cls := "EdgefloatsModel", name := "one", desc := "(Z)I" } : Jvm.MethodName)) ∈ lw_all := lw_g (lw_at lw_m9 1 rfl) rfl
theorem q1955 : (Jvm.Cond.code ({ cls := "EdgefloatsModel", name := "one", desc := "(Z)I" } : Jvm.MethodName) prog_4_method_7_code (1 : Nat) (Option.some Jvm.ClassFile.FieldType.int)) ∈ lw_all := lw_g (lw_at lw_m9 2 rfl) rfl
theorem in_X2 : ∀ w ∈ wsX20, w ∈ lw_all := lw_in wsX20 [1516, 1518, 1520, 1522, 1524] (by decide +kernel) (by decide +kernel)
/-! EdgefloatsModel$Row -/
set_option maxRecDepth 100000
def RX3 : String := "EdgefloatsModel$Row"
def TX3 : u_T := fun k => match k with
  | 0 => ("EdgefloatsModel$Row", "exponents", "I", true)
  | 1 => ("EdgefloatsModel$Row", "fractions", "I", true)
  | 2 => ("EdgefloatsModel$Row", "most", "J", true)
  | 3 => ("EdgefloatsModel$Row", "cells", "[J", true)
  | _ => ("EdgefloatsModel$Row", "acts", "I", false)
def tyX3 : Nat → FieldType := fun k => match k with
  | 0 => .int
  | 1 => .int
  | 2 => .long
  | 3 => .array .long
  | _ => .int
abbrev wsX30 : List Cond := u_ws RX3 TX3 5
theorem nmX3 : ∀ a, a < 5 → ∀ b, b < 5 → a ≠ b → (TX3 a).2.1 ≠ (TX3 b).2.1 := by decide +kernel
theorem tyX3_ok : ∀ k, k < 5 → parseFieldDescriptor (TX3 k).2.2.1 = some (tyX3 k) := by decide +kernel
abbrev cX3_init : ByteArray := prog_5_method_1_code
def yX3_init : MethodName := ⟨RX3, "<init>", "(IIJ)V"⟩
def dkwX3_init_1 : List UInt8 := [181, 0, 22, 177]
abbrev dktX3_init_1 : List UInt8 := dkwX3_init_1 ++ []
def dkwX3_init_0 : List UInt8 := [42, 183, 0, 3, 42, 16, 8, 188, 11, 181, 0, 9, 42, 27, 181, 0, 15, 42, 28, 181, 0, 19, 42, 33]
abbrev dktX3_init_0 : List UInt8 := dkwX3_init_0 ++ dktX3_init_1
theorem dksX3_init_0 : cX3_init.data.toList.drop 0 = dktX3_init_0 := by decide +kernel
theorem dksX3_init_1 : cX3_init.data.toList.drop 24 = dktX3_init_1 := dk_seg dksX3_init_0 24 rfl rfl
theorem dX3_init_0 : decode cX3_init 0 = .ok (.aload_n 0, 1) := dk_42 (dk_at dksX3_init_0 0 rfl rfl)
theorem dX3_init_1 : decode cX3_init 1 = .ok (.invokespecial 3, 3) := dk_183 0 3 (dk_at dksX3_init_0 1 rfl rfl)
theorem dX3_init_4 : decode cX3_init 4 = .ok (.aload_n 0, 1) := dk_42 (dk_at dksX3_init_0 4 rfl rfl)
theorem dX3_init_5 : decode cX3_init 5 = .ok (.bipush 8, 2) := dk_16 8 (dk_at dksX3_init_0 5 rfl rfl)
theorem dX3_init_7 : decode cX3_init 7 = .ok (.newarray .long, 2) := dk_188_11 (dk_at dksX3_init_0 7 rfl rfl)
theorem dX3_init_9 : decode cX3_init 9 = .ok (.putfield 9, 3) := dk_181 0 9 (dk_at dksX3_init_0 9 rfl rfl)
theorem dX3_init_12 : decode cX3_init 12 = .ok (.aload_n 0, 1) := dk_42 (dk_at dksX3_init_0 12 rfl rfl)
theorem dX3_init_13 : decode cX3_init 13 = .ok (.iload_n 1, 1) := dk_27 (dk_at dksX3_init_0 13 rfl rfl)
theorem dX3_init_14 : decode cX3_init 14 = .ok (.putfield 15, 3) := dk_181 0 15 (dk_at dksX3_init_0 14 rfl rfl)
theorem dX3_init_17 : decode cX3_init 17 = .ok (.aload_n 0, 1) := dk_42 (dk_at dksX3_init_0 17 rfl rfl)
theorem dX3_init_18 : decode cX3_init 18 = .ok (.iload_n 2, 1) := dk_28 (dk_at dksX3_init_0 18 rfl rfl)
theorem dX3_init_19 : decode cX3_init 19 = .ok (.putfield 19, 3) := dk_181 0 19 (dk_at dksX3_init_0 19 rfl rfl)
theorem dX3_init_22 : decode cX3_init 22 = .ok (.aload_n 0, 1) := dk_42 (dk_at dksX3_init_0 22 rfl rfl)
theorem dX3_init_23 : decode cX3_init 23 = .ok (.lload_n 3, 1) := dk_33 (dk_at dksX3_init_0 23 rfl rfl)
theorem dX3_init_24 : decode cX3_init 24 = .ok (.putfield 22, 3) := dk_181 0 22 (dk_at dksX3_init_1 0 rfl rfl)
theorem dX3_init_27 : decode cX3_init 27 = .ok (.return_, 1) := dk_177 (dk_at dksX3_init_1 3 rfl rfl)
abbrev cX3_isSpoiled : ByteArray := prog_5_method_9_code
def yX3_isSpoiled : MethodName := ⟨RX3, "isSpoiled", "(J)Z"⟩
def dkwX3_isSpoiled_0 : List UInt8 := [42, 31, 182, 0, 32, 42, 182, 0, 36, 148, 158, 0, 7, 4, 167, 0, 4, 3, 172]
abbrev dktX3_isSpoiled_0 : List UInt8 := dkwX3_isSpoiled_0 ++ []
theorem dksX3_isSpoiled_0 : cX3_isSpoiled.data.toList.drop 0 = dktX3_isSpoiled_0 := by decide +kernel
theorem dX3_isSpoiled_0 : decode cX3_isSpoiled 0 = .ok (.aload_n 0, 1) := dk_42 (dk_at dksX3_isSpoiled_0 0 rfl rfl)
theorem dX3_isSpoiled_1 : decode cX3_isSpoiled 1 = .ok (.lload_n 1, 1) := dk_31 (dk_at dksX3_isSpoiled_0 1 rfl rfl)
theorem dX3_isSpoiled_2 : decode cX3_isSpoiled 2 = .ok (.invokevirtual 32, 3) := dk_182 0 32 (dk_at dksX3_isSpoiled_0 2 rfl rfl)
theorem dX3_isSpoiled_5 : decode cX3_isSpoiled 5 = .ok (.aload_n 0, 1) := dk_42 (dk_at dksX3_isSpoiled_0 5 rfl rfl)
theorem dX3_isSpoiled_6 : decode cX3_isSpoiled 6 = .ok (.invokevirtual 36, 3) := dk_182 0 36 (dk_at dksX3_isSpoiled_0 6 rfl rfl)
theorem dX3_isSpoiled_9 : decode cX3_isSpoiled 9 = .ok (.lcmp, 1) := dk_148 (dk_at dksX3_isSpoiled_0 9 rfl rfl)
theorem dX3_isSpoiled_10 : decode cX3_isSpoiled 10 = .ok (.ifCond .le 7, 3) := dk_158 0 7 (dk_at dksX3_isSpoiled_0 10 rfl rfl)
theorem dX3_isSpoiled_13 : decode cX3_isSpoiled 13 = .ok (.iconst 1, 1) := dk_4 (dk_at dksX3_isSpoiled_0 13 rfl rfl)
theorem dX3_isSpoiled_14 : decode cX3_isSpoiled 14 = .ok (.goto 4, 3) := dk_167 0 4 (dk_at dksX3_isSpoiled_0 14 rfl rfl)
theorem dX3_isSpoiled_17 : decode cX3_isSpoiled 17 = .ok (.iconst 0, 1) := dk_3 (dk_at dksX3_isSpoiled_0 17 rfl rfl)
theorem dX3_isSpoiled_18 : decode cX3_isSpoiled 18 = .ok (.ireturn, 1) := dk_172 (dk_at dksX3_isSpoiled_0 18 rfl rfl)
abbrev cX3_size : ByteArray := prog_5_method_2_code
def yX3_size : MethodName := ⟨RX3, "size", "(J)J"⟩
def dkwX3_size_0 : List UInt8 := [31, 42, 182, 0, 26, 20, 0, 30, 131, 127, 173]
abbrev dktX3_size_0 : List UInt8 := dkwX3_size_0 ++ []
theorem dksX3_size_0 : cX3_size.data.toList.drop 0 = dktX3_size_0 := by decide +kernel
theorem dX3_size_0 : decode cX3_size 0 = .ok (.lload_n 1, 1) := dk_31 (dk_at dksX3_size_0 0 rfl rfl)
theorem dX3_size_1 : decode cX3_size 1 = .ok (.aload_n 0, 1) := dk_42 (dk_at dksX3_size_0 1 rfl rfl)
theorem dX3_size_2 : decode cX3_size 2 = .ok (.invokevirtual 26, 3) := dk_182 0 26 (dk_at dksX3_size_0 2 rfl rfl)
theorem dX3_size_5 : decode cX3_size 5 = .ok (.ldc2_w 30, 3) := dk_20 0 30 (dk_at dksX3_size_0 5 rfl rfl)
theorem dX3_size_8 : decode cX3_size 8 = .ok (.lxor, 1) := dk_131 (dk_at dksX3_size_0 8 rfl rfl)
theorem dX3_size_9 : decode cX3_size 9 = .ok (.land, 1) := dk_127 (dk_at dksX3_size_0 9 rfl rfl)
theorem dX3_size_10 : decode cX3_size 10 = .ok (.lreturn, 1) := dk_173 (dk_at dksX3_size_0 10 rfl rfl)
abbrev cX3_sign : ByteArray := prog_5_method_3_code
def yX3_sign : MethodName := ⟨RX3, "sign", "()J"⟩
def dkwX3_sign_0 : List UInt8 := [10, 42, 180, 0, 15, 42, 180, 0, 19, 96, 121, 173]
abbrev dktX3_sign_0 : List UInt8 := dkwX3_sign_0 ++ []
theorem dksX3_sign_0 : cX3_sign.data.toList.drop 0 = dktX3_sign_0 := by decide +kernel
theorem dX3_sign_0 : decode cX3_sign 0 = .ok (.lconst 1, 1) := dk_10 (dk_at dksX3_sign_0 0 rfl rfl)
theorem dX3_sign_1 : decode cX3_sign 1 = .ok (.aload_n 0, 1) := dk_42 (dk_at dksX3_sign_0 1 rfl rfl)
theorem dX3_sign_2 : decode cX3_sign 2 = .ok (.getfield 15, 3) := dk_180 0 15 (dk_at dksX3_sign_0 2 rfl rfl)
theorem dX3_sign_5 : decode cX3_sign 5 = .ok (.aload_n 0, 1) := dk_42 (dk_at dksX3_sign_0 5 rfl rfl)
theorem dX3_sign_6 : decode cX3_sign 6 = .ok (.getfield 19, 3) := dk_180 0 19 (dk_at dksX3_sign_0 6 rfl rfl)
theorem dX3_sign_9 : decode cX3_sign 9 = .ok (.iadd, 1) := dk_96 (dk_at dksX3_sign_0 9 rfl rfl)
theorem dX3_sign_10 : decode cX3_sign 10 = .ok (.lshl, 1) := dk_121 (dk_at dksX3_sign_0 10 rfl rfl)
theorem dX3_sign_11 : decode cX3_sign 11 = .ok (.lreturn, 1) := dk_173 (dk_at dksX3_sign_0 11 rfl rfl)
abbrev cX3_endless : ByteArray := prog_5_method_5_code
def yX3_endless : MethodName := ⟨RX3, "endless", "()J"⟩
def dkwX3_endless_0 : List UInt8 := [10, 42, 180, 0, 15, 121, 10, 101, 42, 180, 0, 19, 121, 173]
abbrev dktX3_endless_0 : List UInt8 := dkwX3_endless_0 ++ []
theorem dksX3_endless_0 : cX3_endless.data.toList.drop 0 = dktX3_endless_0 := by decide +kernel
theorem dX3_endless_0 : decode cX3_endless 0 = .ok (.lconst 1, 1) := dk_10 (dk_at dksX3_endless_0 0 rfl rfl)
theorem dX3_endless_1 : decode cX3_endless 1 = .ok (.aload_n 0, 1) := dk_42 (dk_at dksX3_endless_0 1 rfl rfl)
theorem dX3_endless_2 : decode cX3_endless 2 = .ok (.getfield 15, 3) := dk_180 0 15 (dk_at dksX3_endless_0 2 rfl rfl)
theorem dX3_endless_5 : decode cX3_endless 5 = .ok (.lshl, 1) := dk_121 (dk_at dksX3_endless_0 5 rfl rfl)
theorem dX3_endless_6 : decode cX3_endless 6 = .ok (.lconst 1, 1) := dk_10 (dk_at dksX3_endless_0 6 rfl rfl)
theorem dX3_endless_7 : decode cX3_endless 7 = .ok (.lsub, 1) := dk_101 (dk_at dksX3_endless_0 7 rfl rfl)
theorem dX3_endless_8 : decode cX3_endless 8 = .ok (.aload_n 0, 1) := dk_42 (dk_at dksX3_endless_0 8 rfl rfl)
theorem dX3_endless_9 : decode cX3_endless 9 = .ok (.getfield 19, 3) := dk_180 0 19 (dk_at dksX3_endless_0 9 rfl rfl)
theorem dX3_endless_12 : decode cX3_endless 12 = .ok (.lshl, 1) := dk_121 (dk_at dksX3_endless_0 12 rfl rfl)
theorem dX3_endless_13 : decode cX3_endless 13 = .ok (.lreturn, 1) := dk_173 (dk_at dksX3_endless_0 13 rfl rfl)
abbrev cX3_come : ByteArray := prog_5_method_19_code
def yX3_come : MethodName := ⟨RX3, "come", "(IJ)I"⟩
def dkwX3_come_1 : List UInt8 := [167, 0, 4, 4, 54, 4, 42, 180, 0, 9, 27, 32, 80, 21, 4, 172]
abbrev dktX3_come_1 : List UInt8 := dkwX3_come_1 ++ []
def dkwX3_come_0 : List UInt8 := [42, 89, 180, 0, 70, 4, 96, 181, 0, 70, 42, 180, 0, 9, 27, 47, 32, 148, 154, 0, 7, 3]
abbrev dktX3_come_0 : List UInt8 := dkwX3_come_0 ++ dktX3_come_1
theorem dksX3_come_0 : cX3_come.data.toList.drop 0 = dktX3_come_0 := by decide +kernel
theorem dksX3_come_1 : cX3_come.data.toList.drop 22 = dktX3_come_1 := dk_seg dksX3_come_0 22 rfl rfl
theorem dX3_come_0 : decode cX3_come 0 = .ok (.aload_n 0, 1) := dk_42 (dk_at dksX3_come_0 0 rfl rfl)
theorem dX3_come_1 : decode cX3_come 1 = .ok (.dup, 1) := dk_89 (dk_at dksX3_come_0 1 rfl rfl)
theorem dX3_come_2 : decode cX3_come 2 = .ok (.getfield 70, 3) := dk_180 0 70 (dk_at dksX3_come_0 2 rfl rfl)
theorem dX3_come_5 : decode cX3_come 5 = .ok (.iconst 1, 1) := dk_4 (dk_at dksX3_come_0 5 rfl rfl)
theorem dX3_come_6 : decode cX3_come 6 = .ok (.iadd, 1) := dk_96 (dk_at dksX3_come_0 6 rfl rfl)
theorem dX3_come_7 : decode cX3_come 7 = .ok (.putfield 70, 3) := dk_181 0 70 (dk_at dksX3_come_0 7 rfl rfl)
theorem dX3_come_10 : decode cX3_come 10 = .ok (.aload_n 0, 1) := dk_42 (dk_at dksX3_come_0 10 rfl rfl)
theorem dX3_come_11 : decode cX3_come 11 = .ok (.getfield 9, 3) := dk_180 0 9 (dk_at dksX3_come_0 11 rfl rfl)
theorem dX3_come_14 : decode cX3_come 14 = .ok (.iload_n 1, 1) := dk_27 (dk_at dksX3_come_0 14 rfl rfl)
theorem dX3_come_15 : decode cX3_come 15 = .ok (.laload, 1) := dk_47 (dk_at dksX3_come_0 15 rfl rfl)
theorem dX3_come_16 : decode cX3_come 16 = .ok (.lload_n 2, 1) := dk_32 (dk_at dksX3_come_0 16 rfl rfl)
theorem dX3_come_17 : decode cX3_come 17 = .ok (.lcmp, 1) := dk_148 (dk_at dksX3_come_0 17 rfl rfl)
theorem dX3_come_18 : decode cX3_come 18 = .ok (.ifCond .ne 7, 3) := dk_154 0 7 (dk_at dksX3_come_0 18 rfl rfl)
theorem dX3_come_21 : decode cX3_come 21 = .ok (.iconst 0, 1) := dk_3 (dk_at dksX3_come_0 21 rfl rfl)
theorem dX3_come_22 : decode cX3_come 22 = .ok (.goto 4, 3) := dk_167 0 4 (dk_at dksX3_come_1 0 rfl rfl)
theorem dX3_come_25 : decode cX3_come 25 = .ok (.iconst 1, 1) := dk_4 (dk_at dksX3_come_1 3 rfl rfl)
theorem dX3_come_26 : decode cX3_come 26 = .ok (.istore 4, 2) := dk_54 4 (dk_at dksX3_come_1 4 rfl rfl)
theorem dX3_come_28 : decode cX3_come 28 = .ok (.aload_n 0, 1) := dk_42 (dk_at dksX3_come_1 6 rfl rfl)
theorem dX3_come_29 : decode cX3_come 29 = .ok (.getfield 9, 3) := dk_180 0 9 (dk_at dksX3_come_1 7 rfl rfl)
theorem dX3_come_32 : decode cX3_come 32 = .ok (.iload_n 1, 1) := dk_27 (dk_at dksX3_come_1 10 rfl rfl)
theorem dX3_come_33 : decode cX3_come 33 = .ok (.lload_n 2, 1) := dk_32 (dk_at dksX3_come_1 11 rfl rfl)
theorem dX3_come_34 : decode cX3_come 34 = .ok (.lastore, 1) := dk_80 (dk_at dksX3_come_1 12 rfl rfl)
theorem dX3_come_35 : decode cX3_come 35 = .ok (.iload 4, 2) := dk_21 4 (dk_at dksX3_come_1 13 rfl rfl)
theorem dX3_come_37 : decode cX3_come 37 = .ok (.ireturn, 1) := dk_172 (dk_at dksX3_come_1 15 rfl rfl)
abbrev cX3_made : ByteArray := prog_5_method_14_code
def yX3_made : MethodName := ⟨RX3, "made", "(J)J"⟩
def dkwX3_made_4 : List UInt8 := [167, 0, 4, 9, 129, 173]
abbrev dktX3_made_4 : List UInt8 := dkwX3_made_4 ++ []
def dkwX3_made_3 : List UInt8 := [180, 0, 19, 121, 33, 10, 42, 180, 0, 19, 121, 101, 97, 31, 9, 148, 156, 0, 10, 42, 182, 0, 26]
abbrev dktX3_made_3 : List UInt8 := dkwX3_made_3 ++ dktX3_made_4
def dkwX3_made_2 : List UInt8 := [121, 148, 156, 0, 18, 33, 20, 0, 48, 105, 66, 22, 5, 10, 101, 55, 5, 167, 255, 233, 22, 5, 42]
abbrev dktX3_made_2 : List UInt8 := dkwX3_made_2 ++ dktX3_made_3
def dkwX3_made_1 : List UInt8 := [180, 0, 15, 4, 100, 121, 20, 0, 46, 101, 42, 180, 0, 19, 133, 97, 55, 5, 33, 10, 42, 180, 0, 19]
abbrev dktX3_made_1 : List UInt8 := dkwX3_made_1 ++ dktX3_made_2
def dkwX3_made_0 : List UInt8 := [31, 9, 148, 154, 0, 5, 9, 173, 31, 9, 148, 156, 0, 8, 31, 117, 167, 0, 4, 31, 66, 10, 42]
abbrev dktX3_made_0 : List UInt8 := dkwX3_made_0 ++ dktX3_made_1
theorem dksX3_made_0 : cX3_made.data.toList.drop 0 = dktX3_made_0 := by decide +kernel
theorem dksX3_made_1 : cX3_made.data.toList.drop 23 = dktX3_made_1 := dk_seg dksX3_made_0 23 rfl rfl
theorem dksX3_made_2 : cX3_made.data.toList.drop 47 = dktX3_made_2 := dk_seg dksX3_made_1 24 rfl rfl
theorem dksX3_made_3 : cX3_made.data.toList.drop 70 = dktX3_made_3 := dk_seg dksX3_made_2 23 rfl rfl
theorem dksX3_made_4 : cX3_made.data.toList.drop 93 = dktX3_made_4 := dk_seg dksX3_made_3 23 rfl rfl
theorem dX3_made_0 : decode cX3_made 0 = .ok (.lload_n 1, 1) := dk_31 (dk_at dksX3_made_0 0 rfl rfl)
theorem dX3_made_1 : decode cX3_made 1 = .ok (.lconst 0, 1) := dk_9 (dk_at dksX3_made_0 1 rfl rfl)
theorem dX3_made_2 : decode cX3_made 2 = .ok (.lcmp, 1) := dk_148 (dk_at dksX3_made_0 2 rfl rfl)
theorem dX3_made_3 : decode cX3_made 3 = .ok (.ifCond .ne 5, 3) := dk_154 0 5 (dk_at dksX3_made_0 3 rfl rfl)
theorem dX3_made_6 : decode cX3_made 6 = .ok (.lconst 0, 1) := dk_9 (dk_at dksX3_made_0 6 rfl rfl)
theorem dX3_made_7 : decode cX3_made 7 = .ok (.lreturn, 1) := dk_173 (dk_at dksX3_made_0 7 rfl rfl)
theorem dX3_made_8 : decode cX3_made 8 = .ok (.lload_n 1, 1) := dk_31 (dk_at dksX3_made_0 8 rfl rfl)
theorem dX3_made_9 : decode cX3_made 9 = .ok (.lconst 0, 1) := dk_9 (dk_at dksX3_made_0 9 rfl rfl)
theorem dX3_made_10 : decode cX3_made 10 = .ok (.lcmp, 1) := dk_148 (dk_at dksX3_made_0 10 rfl rfl)
theorem dX3_made_11 : decode cX3_made 11 = .ok (.ifCond .ge 8, 3) := dk_156 0 8 (dk_at dksX3_made_0 11 rfl rfl)
theorem dX3_made_14 : decode cX3_made 14 = .ok (.lload_n 1, 1) := dk_31 (dk_at dksX3_made_0 14 rfl rfl)
theorem dX3_made_15 : decode cX3_made 15 = .ok (.lneg, 1) := dk_117 (dk_at dksX3_made_0 15 rfl rfl)
theorem dX3_made_16 : decode cX3_made 16 = .ok (.goto 4, 3) := dk_167 0 4 (dk_at dksX3_made_0 16 rfl rfl)
theorem dX3_made_19 : decode cX3_made 19 = .ok (.lload_n 1, 1) := dk_31 (dk_at dksX3_made_0 19 rfl rfl)
theorem dX3_made_20 : decode cX3_made 20 = .ok (.lstore_n 3, 1) := dk_66 (dk_at dksX3_made_0 20 rfl rfl)
theorem dX3_made_21 : decode cX3_made 21 = .ok (.lconst 1, 1) := dk_10 (dk_at dksX3_made_0 21 rfl rfl)
theorem dX3_made_22 : decode cX3_made 22 = .ok (.aload_n 0, 1) := dk_42 (dk_at dksX3_made_0 22 rfl rfl)
theorem dX3_made_23 : decode cX3_made 23 = .ok (.getfield 15, 3) := dk_180 0 15 (dk_at dksX3_made_1 0 rfl rfl)
theorem dX3_made_26 : decode cX3_made 26 = .ok (.iconst 1, 1) := dk_4 (dk_at dksX3_made_1 3 rfl rfl)
theorem dX3_made_27 : decode cX3_made 27 = .ok (.isub, 1) := dk_100 (dk_at dksX3_made_1 4 rfl rfl)
theorem dX3_made_28 : decode cX3_made 28 = .ok (.lshl, 1) := dk_121 (dk_at dksX3_made_1 5 rfl rfl)
theorem dX3_made_29 : decode cX3_made 29 = .ok (.ldc2_w 46, 3) := dk_20 0 46 (dk_at dksX3_made_1 6 rfl rfl)
theorem dX3_made_32 : decode cX3_made 32 = .ok (.lsub, 1) := dk_101 (dk_at dksX3_made_1 9 rfl rfl)
theorem dX3_made_33 : decode cX3_made 33 = .ok (.aload_n 0, 1) := dk_42 (dk_at dksX3_made_1 10 rfl rfl)
theorem dX3_made_34 : decode cX3_made 34 = .ok (.getfield 19, 3) := dk_180 0 19 (dk_at dksX3_made_1 11 rfl rfl)
theorem dX3_made_37 : decode cX3_made 37 = .ok (.i2l, 1) := dk_133 (dk_at dksX3_made_1 14 rfl rfl)
theorem dX3_made_38 : decode cX3_made 38 = .ok (.ladd, 1) := dk_97 (dk_at dksX3_made_1 15 rfl rfl)
theorem dX3_made_39 : decode cX3_made 39 = .ok (.lstore 5, 2) := dk_55 5 (dk_at dksX3_made_1 16 rfl rfl)
theorem dX3_made_41 : decode cX3_made 41 = .ok (.lload_n 3, 1) := dk_33 (dk_at dksX3_made_1 18 rfl rfl)
theorem dX3_made_42 : decode cX3_made 42 = .ok (.lconst 1, 1) := dk_10 (dk_at dksX3_made_1 19 rfl rfl)
theorem dX3_made_43 : decode cX3_made 43 = .ok (.aload_n 0, 1) := dk_42 (dk_at dksX3_made_1 20 rfl rfl)
theorem dX3_made_44 : decode cX3_made 44 = .ok (.getfield 19, 3) := dk_180 0 19 (dk_at dksX3_made_1 21 rfl rfl)
theorem dX3_made_47 : decode cX3_made 47 = .ok (.lshl, 1) := dk_121 (dk_at dksX3_made_2 0 rfl rfl)
theorem dX3_made_48 : decode cX3_made 48 = .ok (.lcmp, 1) := dk_148 (dk_at dksX3_made_2 1 rfl rfl)
theorem dX3_made_49 : decode cX3_made 49 = .ok (.ifCond .ge 18, 3) := dk_156 0 18 (dk_at dksX3_made_2 2 rfl rfl)
theorem dX3_made_52 : decode cX3_made 52 = .ok (.lload_n 3, 1) := dk_33 (dk_at dksX3_made_2 5 rfl rfl)
theorem dX3_made_53 : decode cX3_made 53 = .ok (.ldc2_w 48, 3) := dk_20 0 48 (dk_at dksX3_made_2 6 rfl rfl)
theorem dX3_made_56 : decode cX3_made 56 = .ok (.lmul, 1) := dk_105 (dk_at dksX3_made_2 9 rfl rfl)
theorem dX3_made_57 : decode cX3_made 57 = .ok (.lstore_n 3, 1) := dk_66 (dk_at dksX3_made_2 10 rfl rfl)
theorem dX3_made_58 : decode cX3_made 58 = .ok (.lload 5, 2) := dk_22 5 (dk_at dksX3_made_2 11 rfl rfl)
theorem dX3_made_60 : decode cX3_made 60 = .ok (.lconst 1, 1) := dk_10 (dk_at dksX3_made_2 13 rfl rfl)
theorem dX3_made_61 : decode cX3_made 61 = .ok (.lsub, 1) := dk_101 (dk_at dksX3_made_2 14 rfl rfl)
theorem dX3_made_62 : decode cX3_made 62 = .ok (.lstore 5, 2) := dk_55 5 (dk_at dksX3_made_2 15 rfl rfl)
theorem dX3_made_64 : decode cX3_made 64 = .ok (.goto (-23), 3) := dk_167 255 233 (dk_at dksX3_made_2 17 rfl rfl)
theorem dX3_made_67 : decode cX3_made 67 = .ok (.lload 5, 2) := dk_22 5 (dk_at dksX3_made_2 20 rfl rfl)
theorem dX3_made_69 : decode cX3_made 69 = .ok (.aload_n 0, 1) := dk_42 (dk_at dksX3_made_2 22 rfl rfl)
theorem dX3_made_70 : decode cX3_made 70 = .ok (.getfield 19, 3) := dk_180 0 19 (dk_at dksX3_made_3 0 rfl rfl)
theorem dX3_made_73 : decode cX3_made 73 = .ok (.lshl, 1) := dk_121 (dk_at dksX3_made_3 3 rfl rfl)
theorem dX3_made_74 : decode cX3_made 74 = .ok (.lload_n 3, 1) := dk_33 (dk_at dksX3_made_3 4 rfl rfl)
theorem dX3_made_75 : decode cX3_made 75 = .ok (.lconst 1, 1) := dk_10 (dk_at dksX3_made_3 5 rfl rfl)
theorem dX3_made_76 : decode cX3_made 76 = .ok (.aload_n 0, 1) := dk_42 (dk_at dksX3_made_3 6 rfl rfl)
theorem dX3_made_77 : decode cX3_made 77 = .ok (.getfield 19, 3) := dk_180 0 19 (dk_at dksX3_made_3 7 rfl rfl)
theorem dX3_made_80 : decode cX3_made 80 = .ok (.lshl, 1) := dk_121 (dk_at dksX3_made_3 10 rfl rfl)
theorem dX3_made_81 : decode cX3_made 81 = .ok (.lsub, 1) := dk_101 (dk_at dksX3_made_3 11 rfl rfl)
theorem dX3_made_82 : decode cX3_made 82 = .ok (.ladd, 1) := dk_97 (dk_at dksX3_made_3 12 rfl rfl)
theorem dX3_made_83 : decode cX3_made 83 = .ok (.lload_n 1, 1) := dk_31 (dk_at dksX3_made_3 13 rfl rfl)
theorem dX3_made_84 : decode cX3_made 84 = .ok (.lconst 0, 1) := dk_9 (dk_at dksX3_made_3 14 rfl rfl)
theorem dX3_made_85 : decode cX3_made 85 = .ok (.lcmp, 1) := dk_148 (dk_at dksX3_made_3 15 rfl rfl)
theorem dX3_made_86 : decode cX3_made 86 = .ok (.ifCond .ge 10, 3) := dk_156 0 10 (dk_at dksX3_made_3 16 rfl rfl)
theorem dX3_made_89 : decode cX3_made 89 = .ok (.aload_n 0, 1) := dk_42 (dk_at dksX3_made_3 19 rfl rfl)
theorem dX3_made_90 : decode cX3_made 90 = .ok (.invokevirtual 26, 3) := dk_182 0 26 (dk_at dksX3_made_3 20 rfl rfl)
theorem dX3_made_93 : decode cX3_made 93 = .ok (.goto 4, 3) := dk_167 0 4 (dk_at dksX3_made_4 0 rfl rfl)
theorem dX3_made_96 : decode cX3_made 96 = .ok (.lconst 0, 1) := dk_9 (dk_at dksX3_made_4 3 rfl rfl)
theorem dX3_made_97 : decode cX3_made 97 = .ok (.lor, 1) := dk_129 (dk_at dksX3_made_4 4 rfl rfl)
theorem dX3_made_98 : decode cX3_made 98 = .ok (.lreturn, 1) := dk_173 (dk_at dksX3_made_4 5 rfl rfl)
abbrev cX3_known : ByteArray := prog_5_method_13_code
def yX3_known : MethodName := ⟨RX3, "known", "(I)J"⟩
def dkwX3_known_3 : List UInt8 := [182, 0, 36, 10, 101, 173, 10, 173, 10, 42, 180, 0, 19, 121, 173]
abbrev dktX3_known_3 : List UInt8 := dkwX3_known_3 ++ []
def dkwX3_known_2 : List UInt8 := [9, 173, 42, 182, 0, 26, 173, 42, 182, 0, 36, 173, 42, 182, 0, 36, 42, 182, 0, 26, 129, 173, 42]
abbrev dktX3_known_2 : List UInt8 := dkwX3_known_2 ++ dktX3_known_3
def dkwX3_known_1 : List UInt8 := [170, 0, 0, 0, 0, 0, 70, 0, 0, 0, 0, 0, 0, 0, 5, 0, 0, 0, 39, 0, 0, 0, 41, 0, 0, 0, 46, 0, 0, 0, 51, 0, 0, 0, 61, 0, 0, 0, 68]
abbrev dktX3_known_1 : List UInt8 := dkwX3_known_1 ++ dktX3_known_2
def dkwX3_known_0 : List UInt8 := [27]
abbrev dktX3_known_0 : List UInt8 := dkwX3_known_0 ++ dktX3_known_1
theorem dksX3_known_0 : cX3_known.data.toList.drop 0 = dktX3_known_0 := by decide +kernel
theorem dksX3_known_1 : cX3_known.data.toList.drop 1 = dktX3_known_1 := dk_seg dksX3_known_0 1 rfl rfl
theorem dksX3_known_2 : cX3_known.data.toList.drop 40 = dktX3_known_2 := dk_seg dksX3_known_1 39 rfl rfl
theorem dksX3_known_3 : cX3_known.data.toList.drop 63 = dktX3_known_3 := dk_seg dksX3_known_2 23 rfl rfl
theorem dX3_known_0 : decode cX3_known 0 = .ok (.iload_n 1, 1) := dk_27 (dk_at dksX3_known_0 0 rfl rfl)
theorem dX3_known_1 : decode cX3_known 1 = .ok (.tableswitch 70 0 5 #[39, 41, 46, 51, 61, 68], 39) := by decide +kernel
theorem dX3_known_40 : decode cX3_known 40 = .ok (.lconst 0, 1) := dk_9 (dk_at dksX3_known_2 0 rfl rfl)
theorem dX3_known_41 : decode cX3_known 41 = .ok (.lreturn, 1) := dk_173 (dk_at dksX3_known_2 1 rfl rfl)
theorem dX3_known_42 : decode cX3_known 42 = .ok (.aload_n 0, 1) := dk_42 (dk_at dksX3_known_2 2 rfl rfl)
theorem dX3_known_43 : decode cX3_known 43 = .ok (.invokevirtual 26, 3) := dk_182 0 26 (dk_at dksX3_known_2 3 rfl rfl)
theorem dX3_known_46 : decode cX3_known 46 = .ok (.lreturn, 1) := dk_173 (dk_at dksX3_known_2 6 rfl rfl)
theorem dX3_known_47 : decode cX3_known 47 = .ok (.aload_n 0, 1) := dk_42 (dk_at dksX3_known_2 7 rfl rfl)
theorem dX3_known_48 : decode cX3_known 48 = .ok (.invokevirtual 36, 3) := dk_182 0 36 (dk_at dksX3_known_2 8 rfl rfl)
theorem dX3_known_51 : decode cX3_known 51 = .ok (.lreturn, 1) := dk_173 (dk_at dksX3_known_2 11 rfl rfl)
theorem dX3_known_52 : decode cX3_known 52 = .ok (.aload_n 0, 1) := dk_42 (dk_at dksX3_known_2 12 rfl rfl)
theorem dX3_known_53 : decode cX3_known 53 = .ok (.invokevirtual 36, 3) := dk_182 0 36 (dk_at dksX3_known_2 13 rfl rfl)
theorem dX3_known_56 : decode cX3_known 56 = .ok (.aload_n 0, 1) := dk_42 (dk_at dksX3_known_2 16 rfl rfl)
theorem dX3_known_57 : decode cX3_known 57 = .ok (.invokevirtual 26, 3) := dk_182 0 26 (dk_at dksX3_known_2 17 rfl rfl)
theorem dX3_known_60 : decode cX3_known 60 = .ok (.lor, 1) := dk_129 (dk_at dksX3_known_2 20 rfl rfl)
theorem dX3_known_61 : decode cX3_known 61 = .ok (.lreturn, 1) := dk_173 (dk_at dksX3_known_2 21 rfl rfl)
theorem dX3_known_62 : decode cX3_known 62 = .ok (.aload_n 0, 1) := dk_42 (dk_at dksX3_known_2 22 rfl rfl)
theorem dX3_known_63 : decode cX3_known 63 = .ok (.invokevirtual 36, 3) := dk_182 0 36 (dk_at dksX3_known_3 0 rfl rfl)
theorem dX3_known_66 : decode cX3_known 66 = .ok (.lconst 1, 1) := dk_10 (dk_at dksX3_known_3 3 rfl rfl)
theorem dX3_known_67 : decode cX3_known 67 = .ok (.lsub, 1) := dk_101 (dk_at dksX3_known_3 4 rfl rfl)
theorem dX3_known_68 : decode cX3_known 68 = .ok (.lreturn, 1) := dk_173 (dk_at dksX3_known_3 5 rfl rfl)
theorem dX3_known_69 : decode cX3_known 69 = .ok (.lconst 1, 1) := dk_10 (dk_at dksX3_known_3 6 rfl rfl)
theorem dX3_known_70 : decode cX3_known 70 = .ok (.lreturn, 1) := dk_173 (dk_at dksX3_known_3 7 rfl rfl)
theorem dX3_known_71 : decode cX3_known 71 = .ok (.lconst 1, 1) := dk_10 (dk_at dksX3_known_3 8 rfl rfl)
theorem dX3_known_72 : decode cX3_known 72 = .ok (.aload_n 0, 1) := dk_42 (dk_at dksX3_known_3 9 rfl rfl)
theorem dX3_known_73 : decode cX3_known 73 = .ok (.getfield 19, 3) := dk_180 0 19 (dk_at dksX3_known_3 10 rfl rfl)
theorem dX3_known_76 : decode cX3_known 76 = .ok (.lshl, 1) := dk_121 (dk_at dksX3_known_3 13 rfl rfl)
theorem dX3_known_77 : decode cX3_known 77 = .ok (.lreturn, 1) := dk_173 (dk_at dksX3_known_3 14 rfl rfl)
abbrev cX3_swap : ByteArray := prog_5_method_20_code
def yX3_swap : MethodName := ⟨RX3, "swap", "(II)I"⟩
def dkwX3_swap_1 : List UInt8 := [54, 5, 42, 180, 0, 9, 27, 42, 180, 0, 9, 28, 47, 80, 42, 28, 33, 182, 0, 73, 87, 21, 5, 172]
abbrev dktX3_swap_1 : List UInt8 := dkwX3_swap_1 ++ []
def dkwX3_swap_0 : List UInt8 := [42, 180, 0, 9, 27, 47, 66, 33, 42, 180, 0, 9, 28, 47, 148, 154, 0, 7, 3, 167, 0, 4, 4]
abbrev dktX3_swap_0 : List UInt8 := dkwX3_swap_0 ++ dktX3_swap_1
theorem dksX3_swap_0 : cX3_swap.data.toList.drop 0 = dktX3_swap_0 := by decide +kernel
theorem dksX3_swap_1 : cX3_swap.data.toList.drop 23 = dktX3_swap_1 := dk_seg dksX3_swap_0 23 rfl rfl
theorem dX3_swap_0 : decode cX3_swap 0 = .ok (.aload_n 0, 1) := dk_42 (dk_at dksX3_swap_0 0 rfl rfl)
theorem dX3_swap_1 : decode cX3_swap 1 = .ok (.getfield 9, 3) := dk_180 0 9 (dk_at dksX3_swap_0 1 rfl rfl)
theorem dX3_swap_4 : decode cX3_swap 4 = .ok (.iload_n 1, 1) := dk_27 (dk_at dksX3_swap_0 4 rfl rfl)
theorem dX3_swap_5 : decode cX3_swap 5 = .ok (.laload, 1) := dk_47 (dk_at dksX3_swap_0 5 rfl rfl)
theorem dX3_swap_6 : decode cX3_swap 6 = .ok (.lstore_n 3, 1) := dk_66 (dk_at dksX3_swap_0 6 rfl rfl)
theorem dX3_swap_7 : decode cX3_swap 7 = .ok (.lload_n 3, 1) := dk_33 (dk_at dksX3_swap_0 7 rfl rfl)
theorem dX3_swap_8 : decode cX3_swap 8 = .ok (.aload_n 0, 1) := dk_42 (dk_at dksX3_swap_0 8 rfl rfl)
theorem dX3_swap_9 : decode cX3_swap 9 = .ok (.getfield 9, 3) := dk_180 0 9 (dk_at dksX3_swap_0 9 rfl rfl)
theorem dX3_swap_12 : decode cX3_swap 12 = .ok (.iload_n 2, 1) := dk_28 (dk_at dksX3_swap_0 12 rfl rfl)
theorem dX3_swap_13 : decode cX3_swap 13 = .ok (.laload, 1) := dk_47 (dk_at dksX3_swap_0 13 rfl rfl)
theorem dX3_swap_14 : decode cX3_swap 14 = .ok (.lcmp, 1) := dk_148 (dk_at dksX3_swap_0 14 rfl rfl)
theorem dX3_swap_15 : decode cX3_swap 15 = .ok (.ifCond .ne 7, 3) := dk_154 0 7 (dk_at dksX3_swap_0 15 rfl rfl)
theorem dX3_swap_18 : decode cX3_swap 18 = .ok (.iconst 0, 1) := dk_3 (dk_at dksX3_swap_0 18 rfl rfl)
theorem dX3_swap_19 : decode cX3_swap 19 = .ok (.goto 4, 3) := dk_167 0 4 (dk_at dksX3_swap_0 19 rfl rfl)
theorem dX3_swap_22 : decode cX3_swap 22 = .ok (.iconst 1, 1) := dk_4 (dk_at dksX3_swap_0 22 rfl rfl)
theorem dX3_swap_23 : decode cX3_swap 23 = .ok (.istore 5, 2) := dk_54 5 (dk_at dksX3_swap_1 0 rfl rfl)
theorem dX3_swap_25 : decode cX3_swap 25 = .ok (.aload_n 0, 1) := dk_42 (dk_at dksX3_swap_1 2 rfl rfl)
theorem dX3_swap_26 : decode cX3_swap 26 = .ok (.getfield 9, 3) := dk_180 0 9 (dk_at dksX3_swap_1 3 rfl rfl)
theorem dX3_swap_29 : decode cX3_swap 29 = .ok (.iload_n 1, 1) := dk_27 (dk_at dksX3_swap_1 6 rfl rfl)
theorem dX3_swap_30 : decode cX3_swap 30 = .ok (.aload_n 0, 1) := dk_42 (dk_at dksX3_swap_1 7 rfl rfl)
theorem dX3_swap_31 : decode cX3_swap 31 = .ok (.getfield 9, 3) := dk_180 0 9 (dk_at dksX3_swap_1 8 rfl rfl)
theorem dX3_swap_34 : decode cX3_swap 34 = .ok (.iload_n 2, 1) := dk_28 (dk_at dksX3_swap_1 11 rfl rfl)
theorem dX3_swap_35 : decode cX3_swap 35 = .ok (.laload, 1) := dk_47 (dk_at dksX3_swap_1 12 rfl rfl)
theorem dX3_swap_36 : decode cX3_swap 36 = .ok (.lastore, 1) := dk_80 (dk_at dksX3_swap_1 13 rfl rfl)
theorem dX3_swap_37 : decode cX3_swap 37 = .ok (.aload_n 0, 1) := dk_42 (dk_at dksX3_swap_1 14 rfl rfl)
theorem dX3_swap_38 : decode cX3_swap 38 = .ok (.iload_n 2, 1) := dk_28 (dk_at dksX3_swap_1 15 rfl rfl)
theorem dX3_swap_39 : decode cX3_swap 39 = .ok (.lload_n 3, 1) := dk_33 (dk_at dksX3_swap_1 16 rfl rfl)
theorem dX3_swap_40 : decode cX3_swap 40 = .ok (.invokevirtual 73, 3) := dk_182 0 73 (dk_at dksX3_swap_1 17 rfl rfl)
theorem dX3_swap_43 : decode cX3_swap 43 = .ok (.pop, 1) := dk_87 (dk_at dksX3_swap_1 20 rfl rfl)
theorem dX3_swap_44 : decode cX3_swap 44 = .ok (.iload 5, 2) := dk_21 5 (dk_at dksX3_swap_1 21 rfl rfl)
theorem dX3_swap_46 : decode cX3_swap 46 = .ok (.ireturn, 1) := dk_172 (dk_at dksX3_swap_1 23 rfl rfl)
abbrev cX3_order : ByteArray := prog_5_method_11_code
def yX3_order : MethodName := ⟨RX3, "order", "(JJ)I"⟩
def dkwX3_order_1 : List UInt8 := [33, 182, 0, 43, 148, 158, 0, 7, 4, 167, 0, 4, 3, 172]
abbrev dktX3_order_1 : List UInt8 := dkwX3_order_1 ++ []
def dkwX3_order_0 : List UInt8 := [42, 31, 182, 0, 43, 42, 33, 182, 0, 43, 148, 156, 0, 7, 2, 167, 0, 22, 42, 31, 182, 0, 43, 42]
abbrev dktX3_order_0 : List UInt8 := dkwX3_order_0 ++ dktX3_order_1
theorem dksX3_order_0 : cX3_order.data.toList.drop 0 = dktX3_order_0 := by decide +kernel
theorem dksX3_order_1 : cX3_order.data.toList.drop 24 = dktX3_order_1 := dk_seg dksX3_order_0 24 rfl rfl
theorem dX3_order_0 : decode cX3_order 0 = .ok (.aload_n 0, 1) := dk_42 (dk_at dksX3_order_0 0 rfl rfl)
theorem dX3_order_1 : decode cX3_order 1 = .ok (.lload_n 1, 1) := dk_31 (dk_at dksX3_order_0 1 rfl rfl)
theorem dX3_order_2 : decode cX3_order 2 = .ok (.invokevirtual 43, 3) := dk_182 0 43 (dk_at dksX3_order_0 2 rfl rfl)
theorem dX3_order_5 : decode cX3_order 5 = .ok (.aload_n 0, 1) := dk_42 (dk_at dksX3_order_0 5 rfl rfl)
theorem dX3_order_6 : decode cX3_order 6 = .ok (.lload_n 3, 1) := dk_33 (dk_at dksX3_order_0 6 rfl rfl)
theorem dX3_order_7 : decode cX3_order 7 = .ok (.invokevirtual 43, 3) := dk_182 0 43 (dk_at dksX3_order_0 7 rfl rfl)
theorem dX3_order_10 : decode cX3_order 10 = .ok (.lcmp, 1) := dk_148 (dk_at dksX3_order_0 10 rfl rfl)
theorem dX3_order_11 : decode cX3_order 11 = .ok (.ifCond .ge 7, 3) := dk_156 0 7 (dk_at dksX3_order_0 11 rfl rfl)
theorem dX3_order_14 : decode cX3_order 14 = .ok (.iconst (-1), 1) := dk_2 (dk_at dksX3_order_0 14 rfl rfl)
theorem dX3_order_15 : decode cX3_order 15 = .ok (.goto 22, 3) := dk_167 0 22 (dk_at dksX3_order_0 15 rfl rfl)
theorem dX3_order_18 : decode cX3_order 18 = .ok (.aload_n 0, 1) := dk_42 (dk_at dksX3_order_0 18 rfl rfl)
theorem dX3_order_19 : decode cX3_order 19 = .ok (.lload_n 1, 1) := dk_31 (dk_at dksX3_order_0 19 rfl rfl)
theorem dX3_order_20 : decode cX3_order 20 = .ok (.invokevirtual 43, 3) := dk_182 0 43 (dk_at dksX3_order_0 20 rfl rfl)
theorem dX3_order_23 : decode cX3_order 23 = .ok (.aload_n 0, 1) := dk_42 (dk_at dksX3_order_0 23 rfl rfl)
theorem dX3_order_24 : decode cX3_order 24 = .ok (.lload_n 3, 1) := dk_33 (dk_at dksX3_order_1 0 rfl rfl)
theorem dX3_order_25 : decode cX3_order 25 = .ok (.invokevirtual 43, 3) := dk_182 0 43 (dk_at dksX3_order_1 1 rfl rfl)
theorem dX3_order_28 : decode cX3_order 28 = .ok (.lcmp, 1) := dk_148 (dk_at dksX3_order_1 4 rfl rfl)
theorem dX3_order_29 : decode cX3_order 29 = .ok (.ifCond .le 7, 3) := dk_158 0 7 (dk_at dksX3_order_1 5 rfl rfl)
theorem dX3_order_32 : decode cX3_order 32 = .ok (.iconst 1, 1) := dk_4 (dk_at dksX3_order_1 8 rfl rfl)
theorem dX3_order_33 : decode cX3_order 33 = .ok (.goto 4, 3) := dk_167 0 4 (dk_at dksX3_order_1 9 rfl rfl)
theorem dX3_order_36 : decode cX3_order 36 = .ok (.iconst 0, 1) := dk_3 (dk_at dksX3_order_1 12 rfl rfl)
theorem dX3_order_37 : decode cX3_order 37 = .ok (.ireturn, 1) := dk_172 (dk_at dksX3_order_1 13 rfl rfl)
abbrev cX3_rank : ByteArray := prog_5_method_10_code
def yX3_rank : MethodName := ⟨RX3, "rank", "(J)J"⟩
def dkwX3_rank_1 : List UInt8 := [182, 0, 32, 173]
abbrev dktX3_rank_1 : List UInt8 := dkwX3_rank_1 ++ []
def dkwX3_rank_0 : List UInt8 := [42, 31, 182, 0, 39, 153, 0, 15, 20, 0, 30, 42, 31, 182, 0, 32, 101, 167, 0, 8, 42, 31]
abbrev dktX3_rank_0 : List UInt8 := dkwX3_rank_0 ++ dktX3_rank_1
theorem dksX3_rank_0 : cX3_rank.data.toList.drop 0 = dktX3_rank_0 := by decide +kernel
theorem dksX3_rank_1 : cX3_rank.data.toList.drop 22 = dktX3_rank_1 := dk_seg dksX3_rank_0 22 rfl rfl
theorem dX3_rank_0 : decode cX3_rank 0 = .ok (.aload_n 0, 1) := dk_42 (dk_at dksX3_rank_0 0 rfl rfl)
theorem dX3_rank_1 : decode cX3_rank 1 = .ok (.lload_n 1, 1) := dk_31 (dk_at dksX3_rank_0 1 rfl rfl)
theorem dX3_rank_2 : decode cX3_rank 2 = .ok (.invokevirtual 39, 3) := dk_182 0 39 (dk_at dksX3_rank_0 2 rfl rfl)
theorem dX3_rank_5 : decode cX3_rank 5 = .ok (.ifCond .eq 15, 3) := dk_153 0 15 (dk_at dksX3_rank_0 5 rfl rfl)
theorem dX3_rank_8 : decode cX3_rank 8 = .ok (.ldc2_w 30, 3) := dk_20 0 30 (dk_at dksX3_rank_0 8 rfl rfl)
theorem dX3_rank_11 : decode cX3_rank 11 = .ok (.aload_n 0, 1) := dk_42 (dk_at dksX3_rank_0 11 rfl rfl)
theorem dX3_rank_12 : decode cX3_rank 12 = .ok (.lload_n 1, 1) := dk_31 (dk_at dksX3_rank_0 12 rfl rfl)
theorem dX3_rank_13 : decode cX3_rank 13 = .ok (.invokevirtual 32, 3) := dk_182 0 32 (dk_at dksX3_rank_0 13 rfl rfl)
theorem dX3_rank_16 : decode cX3_rank 16 = .ok (.lsub, 1) := dk_101 (dk_at dksX3_rank_0 16 rfl rfl)
theorem dX3_rank_17 : decode cX3_rank 17 = .ok (.goto 8, 3) := dk_167 0 8 (dk_at dksX3_rank_0 17 rfl rfl)
theorem dX3_rank_20 : decode cX3_rank 20 = .ok (.aload_n 0, 1) := dk_42 (dk_at dksX3_rank_0 20 rfl rfl)
theorem dX3_rank_21 : decode cX3_rank 21 = .ok (.lload_n 1, 1) := dk_31 (dk_at dksX3_rank_0 21 rfl rfl)
theorem dX3_rank_22 : decode cX3_rank 22 = .ok (.invokevirtual 32, 3) := dk_182 0 32 (dk_at dksX3_rank_1 0 rfl rfl)
theorem dX3_rank_25 : decode cX3_rank 25 = .ok (.lreturn, 1) := dk_173 (dk_at dksX3_rank_1 3 rfl rfl)
abbrev cX3_isBelowZero : ByteArray := prog_5_method_4_code
def yX3_isBelowZero : MethodName := ⟨RX3, "isBelowZero", "(J)Z"⟩
def dkwX3_isBelowZero_0 : List UInt8 := [31, 42, 182, 0, 26, 127, 9, 148, 153, 0, 7, 4, 167, 0, 4, 3, 172]
abbrev dktX3_isBelowZero_0 : List UInt8 := dkwX3_isBelowZero_0 ++ []
theorem dksX3_isBelowZero_0 : cX3_isBelowZero.data.toList.drop 0 = dktX3_isBelowZero_0 := by decide +kernel
theorem dX3_isBelowZero_0 : decode cX3_isBelowZero 0 = .ok (.lload_n 1, 1) := dk_31 (dk_at dksX3_isBelowZero_0 0 rfl rfl)
theorem dX3_isBelowZero_1 : decode cX3_isBelowZero 1 = .ok (.aload_n 0, 1) := dk_42 (dk_at dksX3_isBelowZero_0 1 rfl rfl)
theorem dX3_isBelowZero_2 : decode cX3_isBelowZero 2 = .ok (.invokevirtual 26, 3) := dk_182 0 26 (dk_at dksX3_isBelowZero_0 2 rfl rfl)
theorem dX3_isBelowZero_5 : decode cX3_isBelowZero 5 = .ok (.land, 1) := dk_127 (dk_at dksX3_isBelowZero_0 5 rfl rfl)
theorem dX3_isBelowZero_6 : decode cX3_isBelowZero 6 = .ok (.lconst 0, 1) := dk_9 (dk_at dksX3_isBelowZero_0 6 rfl rfl)
theorem dX3_isBelowZero_7 : decode cX3_isBelowZero 7 = .ok (.lcmp, 1) := dk_148 (dk_at dksX3_isBelowZero_0 7 rfl rfl)
theorem dX3_isBelowZero_8 : decode cX3_isBelowZero 8 = .ok (.ifCond .eq 7, 3) := dk_153 0 7 (dk_at dksX3_isBelowZero_0 8 rfl rfl)
theorem dX3_isBelowZero_11 : decode cX3_isBelowZero 11 = .ok (.iconst 1, 1) := dk_4 (dk_at dksX3_isBelowZero_0 11 rfl rfl)
theorem dX3_isBelowZero_12 : decode cX3_isBelowZero 12 = .ok (.goto 4, 3) := dk_167 0 4 (dk_at dksX3_isBelowZero_0 12 rfl rfl)
theorem dX3_isBelowZero_15 : decode cX3_isBelowZero 15 = .ok (.iconst 0, 1) := dk_3 (dk_at dksX3_isBelowZero_0 15 rfl rfl)
theorem dX3_isBelowZero_16 : decode cX3_isBelowZero 16 = .ok (.ireturn, 1) := dk_172 (dk_at dksX3_isBelowZero_0 16 rfl rfl)
abbrev cX3_haveSum : ByteArray := prog_5_method_17_code
def yX3_haveSum : MethodName := ⟨RX3, "haveSum", "(JJ)Z"⟩
def dkwX3_haveSum_4 : List UInt8 := [180, 0, 22, 148, 157, 0, 18, 22, 5, 42, 180, 0, 22, 117, 148, 155, 0, 7, 4, 167, 0, 4, 3, 172]
abbrev dktX3_haveSum_4 : List UInt8 := dkwX3_haveSum_4 ++ []
def dkwX3_haveSum_3 : List UInt8 := [154, 0, 5, 3, 172, 42, 31, 182, 0, 60, 133, 42, 33, 182, 0, 60, 133, 97, 55, 5, 22, 5, 42]
abbrev dktX3_haveSum_3 : List UInt8 := dkwX3_haveSum_3 ++ dktX3_haveSum_4
def dkwX3_haveSum_2 : List UInt8 := [153, 0, 9, 42, 31, 182, 0, 64, 172, 42, 31, 182, 0, 64, 153, 0, 11, 42, 33, 182, 0, 64]
abbrev dktX3_haveSum_2 : List UInt8 := dkwX3_haveSum_2 ++ dktX3_haveSum_3
def dkwX3_haveSum_1 : List UInt8 := [167, 0, 4, 3, 172, 42, 31, 182, 0, 53, 153, 0, 9, 42, 33, 182, 0, 64, 172, 42, 33, 182, 0, 53]
abbrev dktX3_haveSum_1 : List UInt8 := dkwX3_haveSum_1 ++ dktX3_haveSum_2
def dkwX3_haveSum_0 : List UInt8 := [42, 31, 182, 0, 53, 153, 0, 23, 42, 33, 182, 0, 53, 153, 0, 15, 31, 33, 148, 154, 0, 7, 4]
abbrev dktX3_haveSum_0 : List UInt8 := dkwX3_haveSum_0 ++ dktX3_haveSum_1
theorem dksX3_haveSum_0 : cX3_haveSum.data.toList.drop 0 = dktX3_haveSum_0 := by decide +kernel
theorem dksX3_haveSum_1 : cX3_haveSum.data.toList.drop 23 = dktX3_haveSum_1 := dk_seg dksX3_haveSum_0 23 rfl rfl
theorem dksX3_haveSum_2 : cX3_haveSum.data.toList.drop 47 = dktX3_haveSum_2 := dk_seg dksX3_haveSum_1 24 rfl rfl
theorem dksX3_haveSum_3 : cX3_haveSum.data.toList.drop 69 = dktX3_haveSum_3 := dk_seg dksX3_haveSum_2 22 rfl rfl
theorem dksX3_haveSum_4 : cX3_haveSum.data.toList.drop 92 = dktX3_haveSum_4 := dk_seg dksX3_haveSum_3 23 rfl rfl
theorem dX3_haveSum_0 : decode cX3_haveSum 0 = .ok (.aload_n 0, 1) := dk_42 (dk_at dksX3_haveSum_0 0 rfl rfl)
theorem dX3_haveSum_1 : decode cX3_haveSum 1 = .ok (.lload_n 1, 1) := dk_31 (dk_at dksX3_haveSum_0 1 rfl rfl)
theorem dX3_haveSum_2 : decode cX3_haveSum 2 = .ok (.invokevirtual 53, 3) := dk_182 0 53 (dk_at dksX3_haveSum_0 2 rfl rfl)
theorem dX3_haveSum_5 : decode cX3_haveSum 5 = .ok (.ifCond .eq 23, 3) := dk_153 0 23 (dk_at dksX3_haveSum_0 5 rfl rfl)
theorem dX3_haveSum_8 : decode cX3_haveSum 8 = .ok (.aload_n 0, 1) := dk_42 (dk_at dksX3_haveSum_0 8 rfl rfl)
theorem dX3_haveSum_9 : decode cX3_haveSum 9 = .ok (.lload_n 3, 1) := dk_33 (dk_at dksX3_haveSum_0 9 rfl rfl)
theorem dX3_haveSum_10 : decode cX3_haveSum 10 = .ok (.invokevirtual 53, 3) := dk_182 0 53 (dk_at dksX3_haveSum_0 10 rfl rfl)
theorem dX3_haveSum_13 : decode cX3_haveSum 13 = .ok (.ifCond .eq 15, 3) := dk_153 0 15 (dk_at dksX3_haveSum_0 13 rfl rfl)
theorem dX3_haveSum_16 : decode cX3_haveSum 16 = .ok (.lload_n 1, 1) := dk_31 (dk_at dksX3_haveSum_0 16 rfl rfl)
theorem dX3_haveSum_17 : decode cX3_haveSum 17 = .ok (.lload_n 3, 1) := dk_33 (dk_at dksX3_haveSum_0 17 rfl rfl)
theorem dX3_haveSum_18 : decode cX3_haveSum 18 = .ok (.lcmp, 1) := dk_148 (dk_at dksX3_haveSum_0 18 rfl rfl)
theorem dX3_haveSum_19 : decode cX3_haveSum 19 = .ok (.ifCond .ne 7, 3) := dk_154 0 7 (dk_at dksX3_haveSum_0 19 rfl rfl)
theorem dX3_haveSum_22 : decode cX3_haveSum 22 = .ok (.iconst 1, 1) := dk_4 (dk_at dksX3_haveSum_0 22 rfl rfl)
theorem dX3_haveSum_23 : decode cX3_haveSum 23 = .ok (.goto 4, 3) := dk_167 0 4 (dk_at dksX3_haveSum_1 0 rfl rfl)
theorem dX3_haveSum_26 : decode cX3_haveSum 26 = .ok (.iconst 0, 1) := dk_3 (dk_at dksX3_haveSum_1 3 rfl rfl)
theorem dX3_haveSum_27 : decode cX3_haveSum 27 = .ok (.ireturn, 1) := dk_172 (dk_at dksX3_haveSum_1 4 rfl rfl)
theorem dX3_haveSum_28 : decode cX3_haveSum 28 = .ok (.aload_n 0, 1) := dk_42 (dk_at dksX3_haveSum_1 5 rfl rfl)
theorem dX3_haveSum_29 : decode cX3_haveSum 29 = .ok (.lload_n 1, 1) := dk_31 (dk_at dksX3_haveSum_1 6 rfl rfl)
theorem dX3_haveSum_30 : decode cX3_haveSum 30 = .ok (.invokevirtual 53, 3) := dk_182 0 53 (dk_at dksX3_haveSum_1 7 rfl rfl)
theorem dX3_haveSum_33 : decode cX3_haveSum 33 = .ok (.ifCond .eq 9, 3) := dk_153 0 9 (dk_at dksX3_haveSum_1 10 rfl rfl)
theorem dX3_haveSum_36 : decode cX3_haveSum 36 = .ok (.aload_n 0, 1) := dk_42 (dk_at dksX3_haveSum_1 13 rfl rfl)
theorem dX3_haveSum_37 : decode cX3_haveSum 37 = .ok (.lload_n 3, 1) := dk_33 (dk_at dksX3_haveSum_1 14 rfl rfl)
theorem dX3_haveSum_38 : decode cX3_haveSum 38 = .ok (.invokevirtual 64, 3) := dk_182 0 64 (dk_at dksX3_haveSum_1 15 rfl rfl)
theorem dX3_haveSum_41 : decode cX3_haveSum 41 = .ok (.ireturn, 1) := dk_172 (dk_at dksX3_haveSum_1 18 rfl rfl)
theorem dX3_haveSum_42 : decode cX3_haveSum 42 = .ok (.aload_n 0, 1) := dk_42 (dk_at dksX3_haveSum_1 19 rfl rfl)
theorem dX3_haveSum_43 : decode cX3_haveSum 43 = .ok (.lload_n 3, 1) := dk_33 (dk_at dksX3_haveSum_1 20 rfl rfl)
theorem dX3_haveSum_44 : decode cX3_haveSum 44 = .ok (.invokevirtual 53, 3) := dk_182 0 53 (dk_at dksX3_haveSum_1 21 rfl rfl)
theorem dX3_haveSum_47 : decode cX3_haveSum 47 = .ok (.ifCond .eq 9, 3) := dk_153 0 9 (dk_at dksX3_haveSum_2 0 rfl rfl)
theorem dX3_haveSum_50 : decode cX3_haveSum 50 = .ok (.aload_n 0, 1) := dk_42 (dk_at dksX3_haveSum_2 3 rfl rfl)
theorem dX3_haveSum_51 : decode cX3_haveSum 51 = .ok (.lload_n 1, 1) := dk_31 (dk_at dksX3_haveSum_2 4 rfl rfl)
theorem dX3_haveSum_52 : decode cX3_haveSum 52 = .ok (.invokevirtual 64, 3) := dk_182 0 64 (dk_at dksX3_haveSum_2 5 rfl rfl)
theorem dX3_haveSum_55 : decode cX3_haveSum 55 = .ok (.ireturn, 1) := dk_172 (dk_at dksX3_haveSum_2 8 rfl rfl)
theorem dX3_haveSum_56 : decode cX3_haveSum 56 = .ok (.aload_n 0, 1) := dk_42 (dk_at dksX3_haveSum_2 9 rfl rfl)
theorem dX3_haveSum_57 : decode cX3_haveSum 57 = .ok (.lload_n 1, 1) := dk_31 (dk_at dksX3_haveSum_2 10 rfl rfl)
theorem dX3_haveSum_58 : decode cX3_haveSum 58 = .ok (.invokevirtual 64, 3) := dk_182 0 64 (dk_at dksX3_haveSum_2 11 rfl rfl)
theorem dX3_haveSum_61 : decode cX3_haveSum 61 = .ok (.ifCond .eq 11, 3) := dk_153 0 11 (dk_at dksX3_haveSum_2 14 rfl rfl)
theorem dX3_haveSum_64 : decode cX3_haveSum 64 = .ok (.aload_n 0, 1) := dk_42 (dk_at dksX3_haveSum_2 17 rfl rfl)
theorem dX3_haveSum_65 : decode cX3_haveSum 65 = .ok (.lload_n 3, 1) := dk_33 (dk_at dksX3_haveSum_2 18 rfl rfl)
theorem dX3_haveSum_66 : decode cX3_haveSum 66 = .ok (.invokevirtual 64, 3) := dk_182 0 64 (dk_at dksX3_haveSum_2 19 rfl rfl)
theorem dX3_haveSum_69 : decode cX3_haveSum 69 = .ok (.ifCond .ne 5, 3) := dk_154 0 5 (dk_at dksX3_haveSum_3 0 rfl rfl)
theorem dX3_haveSum_72 : decode cX3_haveSum 72 = .ok (.iconst 0, 1) := dk_3 (dk_at dksX3_haveSum_3 3 rfl rfl)
theorem dX3_haveSum_73 : decode cX3_haveSum 73 = .ok (.ireturn, 1) := dk_172 (dk_at dksX3_haveSum_3 4 rfl rfl)
theorem dX3_haveSum_74 : decode cX3_haveSum 74 = .ok (.aload_n 0, 1) := dk_42 (dk_at dksX3_haveSum_3 5 rfl rfl)
theorem dX3_haveSum_75 : decode cX3_haveSum 75 = .ok (.lload_n 1, 1) := dk_31 (dk_at dksX3_haveSum_3 6 rfl rfl)
theorem dX3_haveSum_76 : decode cX3_haveSum 76 = .ok (.invokevirtual 60, 3) := dk_182 0 60 (dk_at dksX3_haveSum_3 7 rfl rfl)
theorem dX3_haveSum_79 : decode cX3_haveSum 79 = .ok (.i2l, 1) := dk_133 (dk_at dksX3_haveSum_3 10 rfl rfl)
theorem dX3_haveSum_80 : decode cX3_haveSum 80 = .ok (.aload_n 0, 1) := dk_42 (dk_at dksX3_haveSum_3 11 rfl rfl)
theorem dX3_haveSum_81 : decode cX3_haveSum 81 = .ok (.lload_n 3, 1) := dk_33 (dk_at dksX3_haveSum_3 12 rfl rfl)
theorem dX3_haveSum_82 : decode cX3_haveSum 82 = .ok (.invokevirtual 60, 3) := dk_182 0 60 (dk_at dksX3_haveSum_3 13 rfl rfl)
theorem dX3_haveSum_85 : decode cX3_haveSum 85 = .ok (.i2l, 1) := dk_133 (dk_at dksX3_haveSum_3 16 rfl rfl)
theorem dX3_haveSum_86 : decode cX3_haveSum 86 = .ok (.ladd, 1) := dk_97 (dk_at dksX3_haveSum_3 17 rfl rfl)
theorem dX3_haveSum_87 : decode cX3_haveSum 87 = .ok (.lstore 5, 2) := dk_55 5 (dk_at dksX3_haveSum_3 18 rfl rfl)
theorem dX3_haveSum_89 : decode cX3_haveSum 89 = .ok (.lload 5, 2) := dk_22 5 (dk_at dksX3_haveSum_3 20 rfl rfl)
theorem dX3_haveSum_91 : decode cX3_haveSum 91 = .ok (.aload_n 0, 1) := dk_42 (dk_at dksX3_haveSum_3 22 rfl rfl)
theorem dX3_haveSum_92 : decode cX3_haveSum 92 = .ok (.getfield 22, 3) := dk_180 0 22 (dk_at dksX3_haveSum_4 0 rfl rfl)
theorem dX3_haveSum_95 : decode cX3_haveSum 95 = .ok (.lcmp, 1) := dk_148 (dk_at dksX3_haveSum_4 3 rfl rfl)
theorem dX3_haveSum_96 : decode cX3_haveSum 96 = .ok (.ifCond .gt 18, 3) := dk_157 0 18 (dk_at dksX3_haveSum_4 4 rfl rfl)
theorem dX3_haveSum_99 : decode cX3_haveSum 99 = .ok (.lload 5, 2) := dk_22 5 (dk_at dksX3_haveSum_4 7 rfl rfl)
theorem dX3_haveSum_101 : decode cX3_haveSum 101 = .ok (.aload_n 0, 1) := dk_42 (dk_at dksX3_haveSum_4 9 rfl rfl)
theorem dX3_haveSum_102 : decode cX3_haveSum 102 = .ok (.getfield 22, 3) := dk_180 0 22 (dk_at dksX3_haveSum_4 10 rfl rfl)
theorem dX3_haveSum_105 : decode cX3_haveSum 105 = .ok (.lneg, 1) := dk_117 (dk_at dksX3_haveSum_4 13 rfl rfl)
theorem dX3_haveSum_106 : decode cX3_haveSum 106 = .ok (.lcmp, 1) := dk_148 (dk_at dksX3_haveSum_4 14 rfl rfl)
theorem dX3_haveSum_107 : decode cX3_haveSum 107 = .ok (.ifCond .lt 7, 3) := dk_155 0 7 (dk_at dksX3_haveSum_4 15 rfl rfl)
theorem dX3_haveSum_110 : decode cX3_haveSum 110 = .ok (.iconst 1, 1) := dk_4 (dk_at dksX3_haveSum_4 18 rfl rfl)
theorem dX3_haveSum_111 : decode cX3_haveSum 111 = .ok (.goto 4, 3) := dk_167 0 4 (dk_at dksX3_haveSum_4 19 rfl rfl)
theorem dX3_haveSum_114 : decode cX3_haveSum 114 = .ok (.iconst 0, 1) := dk_3 (dk_at dksX3_haveSum_4 22 rfl rfl)
theorem dX3_haveSum_115 : decode cX3_haveSum 115 = .ok (.ireturn, 1) := dk_172 (dk_at dksX3_haveSum_4 23 rfl rfl)
abbrev cX3_isEndless : ByteArray := prog_5_method_8_code
def yX3_isEndless : MethodName := ⟨RX3, "isEndless", "(J)Z"⟩
def dkwX3_isEndless_0 : List UInt8 := [42, 31, 182, 0, 32, 42, 182, 0, 36, 148, 154, 0, 7, 4, 167, 0, 4, 3, 172]
abbrev dktX3_isEndless_0 : List UInt8 := dkwX3_isEndless_0 ++ []
theorem dksX3_isEndless_0 : cX3_isEndless.data.toList.drop 0 = dktX3_isEndless_0 := by decide +kernel
theorem dX3_isEndless_0 : decode cX3_isEndless 0 = .ok (.aload_n 0, 1) := dk_42 (dk_at dksX3_isEndless_0 0 rfl rfl)
theorem dX3_isEndless_1 : decode cX3_isEndless 1 = .ok (.lload_n 1, 1) := dk_31 (dk_at dksX3_isEndless_0 1 rfl rfl)
theorem dX3_isEndless_2 : decode cX3_isEndless 2 = .ok (.invokevirtual 32, 3) := dk_182 0 32 (dk_at dksX3_isEndless_0 2 rfl rfl)
theorem dX3_isEndless_5 : decode cX3_isEndless 5 = .ok (.aload_n 0, 1) := dk_42 (dk_at dksX3_isEndless_0 5 rfl rfl)
theorem dX3_isEndless_6 : decode cX3_isEndless 6 = .ok (.invokevirtual 36, 3) := dk_182 0 36 (dk_at dksX3_isEndless_0 6 rfl rfl)
theorem dX3_isEndless_9 : decode cX3_isEndless 9 = .ok (.lcmp, 1) := dk_148 (dk_at dksX3_isEndless_0 9 rfl rfl)
theorem dX3_isEndless_10 : decode cX3_isEndless 10 = .ok (.ifCond .ne 7, 3) := dk_154 0 7 (dk_at dksX3_isEndless_0 10 rfl rfl)
theorem dX3_isEndless_13 : decode cX3_isEndless 13 = .ok (.iconst 1, 1) := dk_4 (dk_at dksX3_isEndless_0 13 rfl rfl)
theorem dX3_isEndless_14 : decode cX3_isEndless 14 = .ok (.goto 4, 3) := dk_167 0 4 (dk_at dksX3_isEndless_0 14 rfl rfl)
theorem dX3_isEndless_17 : decode cX3_isEndless 17 = .ok (.iconst 0, 1) := dk_3 (dk_at dksX3_isEndless_0 17 rfl rfl)
theorem dX3_isEndless_18 : decode cX3_isEndless 18 = .ok (.ireturn, 1) := dk_172 (dk_at dksX3_isEndless_0 18 rfl rfl)
abbrev cX3_isQuarter : ByteArray := prog_5_method_16_code
def yX3_isQuarter : MethodName := ⟨RX3, "isQuarter", "(J)Z"⟩
def dkwX3_isQuarter_0 : List UInt8 := [42, 31, 182, 0, 60, 18, 56, 159, 0, 7, 4, 167, 0, 4, 3, 172]
abbrev dktX3_isQuarter_0 : List UInt8 := dkwX3_isQuarter_0 ++ []
theorem dksX3_isQuarter_0 : cX3_isQuarter.data.toList.drop 0 = dktX3_isQuarter_0 := by decide +kernel
theorem dX3_isQuarter_0 : decode cX3_isQuarter 0 = .ok (.aload_n 0, 1) := dk_42 (dk_at dksX3_isQuarter_0 0 rfl rfl)
theorem dX3_isQuarter_1 : decode cX3_isQuarter 1 = .ok (.lload_n 1, 1) := dk_31 (dk_at dksX3_isQuarter_0 1 rfl rfl)
theorem dX3_isQuarter_2 : decode cX3_isQuarter 2 = .ok (.invokevirtual 60, 3) := dk_182 0 60 (dk_at dksX3_isQuarter_0 2 rfl rfl)
theorem dX3_isQuarter_5 : decode cX3_isQuarter 5 = .ok (.ldc 56, 2) := dk_18 56 (dk_at dksX3_isQuarter_0 5 rfl rfl)
theorem dX3_isQuarter_7 : decode cX3_isQuarter 7 = .ok (.if_icmp .eq 7, 3) := dk_159 0 7 (dk_at dksX3_isQuarter_0 7 rfl rfl)
theorem dX3_isQuarter_10 : decode cX3_isQuarter 10 = .ok (.iconst 1, 1) := dk_4 (dk_at dksX3_isQuarter_0 10 rfl rfl)
theorem dX3_isQuarter_11 : decode cX3_isQuarter 11 = .ok (.goto 4, 3) := dk_167 0 4 (dk_at dksX3_isQuarter_0 11 rfl rfl)
theorem dX3_isQuarter_14 : decode cX3_isQuarter 14 = .ok (.iconst 0, 1) := dk_3 (dk_at dksX3_isQuarter_0 14 rfl rfl)
theorem dX3_isQuarter_15 : decode cX3_isQuarter 15 = .ok (.ireturn, 1) := dk_172 (dk_at dksX3_isQuarter_0 15 rfl rfl)
abbrev cX3_count : ByteArray := prog_5_method_15_code
def yX3_count : MethodName := ⟨RX3, "count", "(J)I"⟩
def dkwX3_count_6 : List UInt8 := [153, 0, 8, 33, 117, 167, 0, 4, 33, 136, 172]
abbrev dktX3_count_6 : List UInt8 := dkwX3_count_6 ++ []
def dkwX3_count_5 : List UInt8 := [167, 255, 223, 33, 42, 180, 0, 22, 148, 158, 0, 8, 18, 56, 167, 0, 18, 42, 31, 182, 0, 39]
abbrev dktX3_count_5 : List UInt8 := dkwX3_count_5 ++ dktX3_count_6
def dkwX3_count_4 : List UInt8 := [20, 0, 48, 113, 9, 148, 153, 0, 6, 18, 56, 172, 33, 20, 0, 48, 109, 66, 22, 5, 10, 97, 55, 5]
abbrev dktX3_count_4 : List UInt8 := dkwX3_count_4 ++ dktX3_count_5
def dkwX3_count_3 : List UInt8 := [55, 7, 22, 5, 22, 7, 148, 158, 0, 6, 18, 56, 172, 22, 5, 22, 7, 148, 156, 0, 31, 33]
abbrev dktX3_count_3 : List UInt8 := dkwX3_count_3 ++ dktX3_count_4
def dkwX3_count_2 : List UInt8 := [182, 0, 50, 55, 5, 10, 42, 180, 0, 15, 4, 100, 121, 20, 0, 46, 101, 42, 180, 0, 19, 133, 97]
abbrev dktX3_count_2 : List UInt8 := dkwX3_count_2 ++ dktX3_count_3
def dkwX3_count_1 : List UInt8 := [182, 0, 53, 153, 0, 6, 18, 56, 172, 10, 42, 180, 0, 19, 121, 42, 31, 182, 0, 57, 97, 66, 42, 31]
abbrev dktX3_count_1 : List UInt8 := dkwX3_count_1 ++ dktX3_count_2
def dkwX3_count_0 : List UInt8 := [42, 31, 182, 0, 32, 9, 148, 154, 0, 5, 3, 172, 42, 31, 182, 0, 50, 9, 148, 153, 0, 11, 42, 31]
abbrev dktX3_count_0 : List UInt8 := dkwX3_count_0 ++ dktX3_count_1
theorem dksX3_count_0 : cX3_count.data.toList.drop 0 = dktX3_count_0 := by decide +kernel
theorem dksX3_count_1 : cX3_count.data.toList.drop 24 = dktX3_count_1 := dk_seg dksX3_count_0 24 rfl rfl
theorem dksX3_count_2 : cX3_count.data.toList.drop 48 = dktX3_count_2 := dk_seg dksX3_count_1 24 rfl rfl
theorem dksX3_count_3 : cX3_count.data.toList.drop 71 = dktX3_count_3 := dk_seg dksX3_count_2 23 rfl rfl
theorem dksX3_count_4 : cX3_count.data.toList.drop 93 = dktX3_count_4 := dk_seg dksX3_count_3 22 rfl rfl
theorem dksX3_count_5 : cX3_count.data.toList.drop 117 = dktX3_count_5 := dk_seg dksX3_count_4 24 rfl rfl
theorem dksX3_count_6 : cX3_count.data.toList.drop 139 = dktX3_count_6 := dk_seg dksX3_count_5 22 rfl rfl
theorem dX3_count_0 : decode cX3_count 0 = .ok (.aload_n 0, 1) := dk_42 (dk_at dksX3_count_0 0 rfl rfl)
theorem dX3_count_1 : decode cX3_count 1 = .ok (.lload_n 1, 1) := dk_31 (dk_at dksX3_count_0 1 rfl rfl)
theorem dX3_count_2 : decode cX3_count 2 = .ok (.invokevirtual 32, 3) := dk_182 0 32 (dk_at dksX3_count_0 2 rfl rfl)
theorem dX3_count_5 : decode cX3_count 5 = .ok (.lconst 0, 1) := dk_9 (dk_at dksX3_count_0 5 rfl rfl)
theorem dX3_count_6 : decode cX3_count 6 = .ok (.lcmp, 1) := dk_148 (dk_at dksX3_count_0 6 rfl rfl)
theorem dX3_count_7 : decode cX3_count 7 = .ok (.ifCond .ne 5, 3) := dk_154 0 5 (dk_at dksX3_count_0 7 rfl rfl)
theorem dX3_count_10 : decode cX3_count 10 = .ok (.iconst 0, 1) := dk_3 (dk_at dksX3_count_0 10 rfl rfl)
theorem dX3_count_11 : decode cX3_count 11 = .ok (.ireturn, 1) := dk_172 (dk_at dksX3_count_0 11 rfl rfl)
theorem dX3_count_12 : decode cX3_count 12 = .ok (.aload_n 0, 1) := dk_42 (dk_at dksX3_count_0 12 rfl rfl)
theorem dX3_count_13 : decode cX3_count 13 = .ok (.lload_n 1, 1) := dk_31 (dk_at dksX3_count_0 13 rfl rfl)
theorem dX3_count_14 : decode cX3_count 14 = .ok (.invokevirtual 50, 3) := dk_182 0 50 (dk_at dksX3_count_0 14 rfl rfl)
theorem dX3_count_17 : decode cX3_count 17 = .ok (.lconst 0, 1) := dk_9 (dk_at dksX3_count_0 17 rfl rfl)
theorem dX3_count_18 : decode cX3_count 18 = .ok (.lcmp, 1) := dk_148 (dk_at dksX3_count_0 18 rfl rfl)
theorem dX3_count_19 : decode cX3_count 19 = .ok (.ifCond .eq 11, 3) := dk_153 0 11 (dk_at dksX3_count_0 19 rfl rfl)
theorem dX3_count_22 : decode cX3_count 22 = .ok (.aload_n 0, 1) := dk_42 (dk_at dksX3_count_0 22 rfl rfl)
theorem dX3_count_23 : decode cX3_count 23 = .ok (.lload_n 1, 1) := dk_31 (dk_at dksX3_count_0 23 rfl rfl)
theorem dX3_count_24 : decode cX3_count 24 = .ok (.invokevirtual 53, 3) := dk_182 0 53 (dk_at dksX3_count_1 0 rfl rfl)
theorem dX3_count_27 : decode cX3_count 27 = .ok (.ifCond .eq 6, 3) := dk_153 0 6 (dk_at dksX3_count_1 3 rfl rfl)
theorem dX3_count_30 : decode cX3_count 30 = .ok (.ldc 56, 2) := dk_18 56 (dk_at dksX3_count_1 6 rfl rfl)
theorem dX3_count_32 : decode cX3_count 32 = .ok (.ireturn, 1) := dk_172 (dk_at dksX3_count_1 8 rfl rfl)
theorem dX3_count_33 : decode cX3_count 33 = .ok (.lconst 1, 1) := dk_10 (dk_at dksX3_count_1 9 rfl rfl)
theorem dX3_count_34 : decode cX3_count 34 = .ok (.aload_n 0, 1) := dk_42 (dk_at dksX3_count_1 10 rfl rfl)
theorem dX3_count_35 : decode cX3_count 35 = .ok (.getfield 19, 3) := dk_180 0 19 (dk_at dksX3_count_1 11 rfl rfl)
theorem dX3_count_38 : decode cX3_count 38 = .ok (.lshl, 1) := dk_121 (dk_at dksX3_count_1 14 rfl rfl)
theorem dX3_count_39 : decode cX3_count 39 = .ok (.aload_n 0, 1) := dk_42 (dk_at dksX3_count_1 15 rfl rfl)
theorem dX3_count_40 : decode cX3_count 40 = .ok (.lload_n 1, 1) := dk_31 (dk_at dksX3_count_1 16 rfl rfl)
theorem dX3_count_41 : decode cX3_count 41 = .ok (.invokevirtual 57, 3) := dk_182 0 57 (dk_at dksX3_count_1 17 rfl rfl)
theorem dX3_count_44 : decode cX3_count 44 = .ok (.ladd, 1) := dk_97 (dk_at dksX3_count_1 20 rfl rfl)
theorem dX3_count_45 : decode cX3_count 45 = .ok (.lstore_n 3, 1) := dk_66 (dk_at dksX3_count_1 21 rfl rfl)
theorem dX3_count_46 : decode cX3_count 46 = .ok (.aload_n 0, 1) := dk_42 (dk_at dksX3_count_1 22 rfl rfl)
theorem dX3_count_47 : decode cX3_count 47 = .ok (.lload_n 1, 1) := dk_31 (dk_at dksX3_count_1 23 rfl rfl)
theorem dX3_count_48 : decode cX3_count 48 = .ok (.invokevirtual 50, 3) := dk_182 0 50 (dk_at dksX3_count_2 0 rfl rfl)
theorem dX3_count_51 : decode cX3_count 51 = .ok (.lstore 5, 2) := dk_55 5 (dk_at dksX3_count_2 3 rfl rfl)
theorem dX3_count_53 : decode cX3_count 53 = .ok (.lconst 1, 1) := dk_10 (dk_at dksX3_count_2 5 rfl rfl)
theorem dX3_count_54 : decode cX3_count 54 = .ok (.aload_n 0, 1) := dk_42 (dk_at dksX3_count_2 6 rfl rfl)
theorem dX3_count_55 : decode cX3_count 55 = .ok (.getfield 15, 3) := dk_180 0 15 (dk_at dksX3_count_2 7 rfl rfl)
theorem dX3_count_58 : decode cX3_count 58 = .ok (.iconst 1, 1) := dk_4 (dk_at dksX3_count_2 10 rfl rfl)
theorem dX3_count_59 : decode cX3_count 59 = .ok (.isub, 1) := dk_100 (dk_at dksX3_count_2 11 rfl rfl)
theorem dX3_count_60 : decode cX3_count 60 = .ok (.lshl, 1) := dk_121 (dk_at dksX3_count_2 12 rfl rfl)
theorem dX3_count_61 : decode cX3_count 61 = .ok (.ldc2_w 46, 3) := dk_20 0 46 (dk_at dksX3_count_2 13 rfl rfl)
theorem dX3_count_64 : decode cX3_count 64 = .ok (.lsub, 1) := dk_101 (dk_at dksX3_count_2 16 rfl rfl)
theorem dX3_count_65 : decode cX3_count 65 = .ok (.aload_n 0, 1) := dk_42 (dk_at dksX3_count_2 17 rfl rfl)
theorem dX3_count_66 : decode cX3_count 66 = .ok (.getfield 19, 3) := dk_180 0 19 (dk_at dksX3_count_2 18 rfl rfl)
theorem dX3_count_69 : decode cX3_count 69 = .ok (.i2l, 1) := dk_133 (dk_at dksX3_count_2 21 rfl rfl)
theorem dX3_count_70 : decode cX3_count 70 = .ok (.ladd, 1) := dk_97 (dk_at dksX3_count_2 22 rfl rfl)
theorem dX3_count_71 : decode cX3_count 71 = .ok (.lstore 7, 2) := dk_55 7 (dk_at dksX3_count_3 0 rfl rfl)
theorem dX3_count_73 : decode cX3_count 73 = .ok (.lload 5, 2) := dk_22 5 (dk_at dksX3_count_3 2 rfl rfl)
theorem dX3_count_75 : decode cX3_count 75 = .ok (.lload 7, 2) := dk_22 7 (dk_at dksX3_count_3 4 rfl rfl)
theorem dX3_count_77 : decode cX3_count 77 = .ok (.lcmp, 1) := dk_148 (dk_at dksX3_count_3 6 rfl rfl)
theorem dX3_count_78 : decode cX3_count 78 = .ok (.ifCond .le 6, 3) := dk_158 0 6 (dk_at dksX3_count_3 7 rfl rfl)
theorem dX3_count_81 : decode cX3_count 81 = .ok (.ldc 56, 2) := dk_18 56 (dk_at dksX3_count_3 10 rfl rfl)
theorem dX3_count_83 : decode cX3_count 83 = .ok (.ireturn, 1) := dk_172 (dk_at dksX3_count_3 12 rfl rfl)
theorem dX3_count_84 : decode cX3_count 84 = .ok (.lload 5, 2) := dk_22 5 (dk_at dksX3_count_3 13 rfl rfl)
theorem dX3_count_86 : decode cX3_count 86 = .ok (.lload 7, 2) := dk_22 7 (dk_at dksX3_count_3 15 rfl rfl)
theorem dX3_count_88 : decode cX3_count 88 = .ok (.lcmp, 1) := dk_148 (dk_at dksX3_count_3 17 rfl rfl)
theorem dX3_count_89 : decode cX3_count 89 = .ok (.ifCond .ge 31, 3) := dk_156 0 31 (dk_at dksX3_count_3 18 rfl rfl)
theorem dX3_count_92 : decode cX3_count 92 = .ok (.lload_n 3, 1) := dk_33 (dk_at dksX3_count_3 21 rfl rfl)
theorem dX3_count_93 : decode cX3_count 93 = .ok (.ldc2_w 48, 3) := dk_20 0 48 (dk_at dksX3_count_4 0 rfl rfl)
theorem dX3_count_96 : decode cX3_count 96 = .ok (.lrem, 1) := dk_113 (dk_at dksX3_count_4 3 rfl rfl)
theorem dX3_count_97 : decode cX3_count 97 = .ok (.lconst 0, 1) := dk_9 (dk_at dksX3_count_4 4 rfl rfl)
theorem dX3_count_98 : decode cX3_count 98 = .ok (.lcmp, 1) := dk_148 (dk_at dksX3_count_4 5 rfl rfl)
theorem dX3_count_99 : decode cX3_count 99 = .ok (.ifCond .eq 6, 3) := dk_153 0 6 (dk_at dksX3_count_4 6 rfl rfl)
theorem dX3_count_102 : decode cX3_count 102 = .ok (.ldc 56, 2) := dk_18 56 (dk_at dksX3_count_4 9 rfl rfl)
theorem dX3_count_104 : decode cX3_count 104 = .ok (.ireturn, 1) := dk_172 (dk_at dksX3_count_4 11 rfl rfl)
theorem dX3_count_105 : decode cX3_count 105 = .ok (.lload_n 3, 1) := dk_33 (dk_at dksX3_count_4 12 rfl rfl)
theorem dX3_count_106 : decode cX3_count 106 = .ok (.ldc2_w 48, 3) := dk_20 0 48 (dk_at dksX3_count_4 13 rfl rfl)
theorem dX3_count_109 : decode cX3_count 109 = .ok (.ldiv, 1) := dk_109 (dk_at dksX3_count_4 16 rfl rfl)
theorem dX3_count_110 : decode cX3_count 110 = .ok (.lstore_n 3, 1) := dk_66 (dk_at dksX3_count_4 17 rfl rfl)
theorem dX3_count_111 : decode cX3_count 111 = .ok (.lload 5, 2) := dk_22 5 (dk_at dksX3_count_4 18 rfl rfl)
theorem dX3_count_113 : decode cX3_count 113 = .ok (.lconst 1, 1) := dk_10 (dk_at dksX3_count_4 20 rfl rfl)
theorem dX3_count_114 : decode cX3_count 114 = .ok (.ladd, 1) := dk_97 (dk_at dksX3_count_4 21 rfl rfl)
theorem dX3_count_115 : decode cX3_count 115 = .ok (.lstore 5, 2) := dk_55 5 (dk_at dksX3_count_4 22 rfl rfl)
theorem dX3_count_117 : decode cX3_count 117 = .ok (.goto (-33), 3) := dk_167 255 223 (dk_at dksX3_count_5 0 rfl rfl)
theorem dX3_count_120 : decode cX3_count 120 = .ok (.lload_n 3, 1) := dk_33 (dk_at dksX3_count_5 3 rfl rfl)
theorem dX3_count_121 : decode cX3_count 121 = .ok (.aload_n 0, 1) := dk_42 (dk_at dksX3_count_5 4 rfl rfl)
theorem dX3_count_122 : decode cX3_count 122 = .ok (.getfield 22, 3) := dk_180 0 22 (dk_at dksX3_count_5 5 rfl rfl)
theorem dX3_count_125 : decode cX3_count 125 = .ok (.lcmp, 1) := dk_148 (dk_at dksX3_count_5 8 rfl rfl)
theorem dX3_count_126 : decode cX3_count 126 = .ok (.ifCond .le 8, 3) := dk_158 0 8 (dk_at dksX3_count_5 9 rfl rfl)
theorem dX3_count_129 : decode cX3_count 129 = .ok (.ldc 56, 2) := dk_18 56 (dk_at dksX3_count_5 12 rfl rfl)
theorem dX3_count_131 : decode cX3_count 131 = .ok (.goto 18, 3) := dk_167 0 18 (dk_at dksX3_count_5 14 rfl rfl)
theorem dX3_count_134 : decode cX3_count 134 = .ok (.aload_n 0, 1) := dk_42 (dk_at dksX3_count_5 17 rfl rfl)
theorem dX3_count_135 : decode cX3_count 135 = .ok (.lload_n 1, 1) := dk_31 (dk_at dksX3_count_5 18 rfl rfl)
theorem dX3_count_136 : decode cX3_count 136 = .ok (.invokevirtual 39, 3) := dk_182 0 39 (dk_at dksX3_count_5 19 rfl rfl)
theorem dX3_count_139 : decode cX3_count 139 = .ok (.ifCond .eq 8, 3) := dk_153 0 8 (dk_at dksX3_count_6 0 rfl rfl)
theorem dX3_count_142 : decode cX3_count 142 = .ok (.lload_n 3, 1) := dk_33 (dk_at dksX3_count_6 3 rfl rfl)
theorem dX3_count_143 : decode cX3_count 143 = .ok (.lneg, 1) := dk_117 (dk_at dksX3_count_6 4 rfl rfl)
theorem dX3_count_144 : decode cX3_count 144 = .ok (.goto 4, 3) := dk_167 0 4 (dk_at dksX3_count_6 5 rfl rfl)
theorem dX3_count_147 : decode cX3_count 147 = .ok (.lload_n 3, 1) := dk_33 (dk_at dksX3_count_6 8 rfl rfl)
theorem dX3_count_148 : decode cX3_count 148 = .ok (.l2i, 1) := dk_136 (dk_at dksX3_count_6 9 rfl rfl)
theorem dX3_count_149 : decode cX3_count 149 = .ok (.ireturn, 1) := dk_172 (dk_at dksX3_count_6 10 rfl rfl)
abbrev cX3_exponent : ByteArray := prog_5_method_6_code
def yX3_exponent : MethodName := ⟨RX3, "exponent", "(J)J"⟩
def dkwX3_exponent_0 : List UInt8 := [42, 31, 182, 0, 32, 42, 180, 0, 19, 123, 173]
abbrev dktX3_exponent_0 : List UInt8 := dkwX3_exponent_0 ++ []
theorem dksX3_exponent_0 : cX3_exponent.data.toList.drop 0 = dktX3_exponent_0 := by decide +kernel
theorem dX3_exponent_0 : decode cX3_exponent 0 = .ok (.aload_n 0, 1) := dk_42 (dk_at dksX3_exponent_0 0 rfl rfl)
theorem dX3_exponent_1 : decode cX3_exponent 1 = .ok (.lload_n 1, 1) := dk_31 (dk_at dksX3_exponent_0 1 rfl rfl)
theorem dX3_exponent_2 : decode cX3_exponent 2 = .ok (.invokevirtual 32, 3) := dk_182 0 32 (dk_at dksX3_exponent_0 2 rfl rfl)
theorem dX3_exponent_5 : decode cX3_exponent 5 = .ok (.aload_n 0, 1) := dk_42 (dk_at dksX3_exponent_0 5 rfl rfl)
theorem dX3_exponent_6 : decode cX3_exponent 6 = .ok (.getfield 19, 3) := dk_180 0 19 (dk_at dksX3_exponent_0 6 rfl rfl)
theorem dX3_exponent_9 : decode cX3_exponent 9 = .ok (.lshr, 1) := dk_123 (dk_at dksX3_exponent_0 9 rfl rfl)
theorem dX3_exponent_10 : decode cX3_exponent 10 = .ok (.lreturn, 1) := dk_173 (dk_at dksX3_exponent_0 10 rfl rfl)
abbrev cX3_fraction : ByteArray := prog_5_method_7_code
def yX3_fraction : MethodName := ⟨RX3, "fraction", "(J)J"⟩
def dkwX3_fraction_0 : List UInt8 := [31, 10, 42, 180, 0, 19, 121, 10, 101, 127, 173]
abbrev dktX3_fraction_0 : List UInt8 := dkwX3_fraction_0 ++ []
theorem dksX3_fraction_0 : cX3_fraction.data.toList.drop 0 = dktX3_fraction_0 := by decide +kernel
theorem dX3_fraction_0 : decode cX3_fraction 0 = .ok (.lload_n 1, 1) := dk_31 (dk_at dksX3_fraction_0 0 rfl rfl)
theorem dX3_fraction_1 : decode cX3_fraction 1 = .ok (.lconst 1, 1) := dk_10 (dk_at dksX3_fraction_0 1 rfl rfl)
theorem dX3_fraction_2 : decode cX3_fraction 2 = .ok (.aload_n 0, 1) := dk_42 (dk_at dksX3_fraction_0 2 rfl rfl)
theorem dX3_fraction_3 : decode cX3_fraction 3 = .ok (.getfield 19, 3) := dk_180 0 19 (dk_at dksX3_fraction_0 3 rfl rfl)
theorem dX3_fraction_6 : decode cX3_fraction 6 = .ok (.lshl, 1) := dk_121 (dk_at dksX3_fraction_0 6 rfl rfl)
theorem dX3_fraction_7 : decode cX3_fraction 7 = .ok (.lconst 1, 1) := dk_10 (dk_at dksX3_fraction_0 7 rfl rfl)
theorem dX3_fraction_8 : decode cX3_fraction 8 = .ok (.lsub, 1) := dk_101 (dk_at dksX3_fraction_0 8 rfl rfl)
theorem dX3_fraction_9 : decode cX3_fraction 9 = .ok (.land, 1) := dk_127 (dk_at dksX3_fraction_0 9 rfl rfl)
theorem dX3_fraction_10 : decode cX3_fraction 10 = .ok (.lreturn, 1) := dk_173 (dk_at dksX3_fraction_0 10 rfl rfl)
abbrev cX3_sum : ByteArray := prog_5_method_18_code
def yX3_sum : MethodName := ⟨RX3, "sum", "(JJ)J"⟩
def dkwX3_sum_2 : List UInt8 := [182, 0, 60, 133, 42, 33, 182, 0, 60, 133, 97, 182, 0, 67, 173]
abbrev dktX3_sum_2 : List UInt8 := dkwX3_sum_2 ++ []
def dkwX3_sum_1 : List UInt8 := [182, 0, 26, 148, 154, 0, 16, 33, 42, 182, 0, 26, 148, 154, 0, 7, 31, 167, 0, 20, 42, 42, 31]
abbrev dktX3_sum_1 : List UInt8 := dkwX3_sum_1 ++ dktX3_sum_2
def dkwX3_sum_0 : List UInt8 := [42, 31, 182, 0, 53, 153, 0, 5, 31, 173, 42, 33, 182, 0, 53, 153, 0, 5, 33, 173, 31, 42]
abbrev dktX3_sum_0 : List UInt8 := dkwX3_sum_0 ++ dktX3_sum_1
theorem dksX3_sum_0 : cX3_sum.data.toList.drop 0 = dktX3_sum_0 := by decide +kernel
theorem dksX3_sum_1 : cX3_sum.data.toList.drop 22 = dktX3_sum_1 := dk_seg dksX3_sum_0 22 rfl rfl
theorem dksX3_sum_2 : cX3_sum.data.toList.drop 45 = dktX3_sum_2 := dk_seg dksX3_sum_1 23 rfl rfl
theorem dX3_sum_0 : decode cX3_sum 0 = .ok (.aload_n 0, 1) := dk_42 (dk_at dksX3_sum_0 0 rfl rfl)
theorem dX3_sum_1 : decode cX3_sum 1 = .ok (.lload_n 1, 1) := dk_31 (dk_at dksX3_sum_0 1 rfl rfl)
theorem dX3_sum_2 : decode cX3_sum 2 = .ok (.invokevirtual 53, 3) := dk_182 0 53 (dk_at dksX3_sum_0 2 rfl rfl)
theorem dX3_sum_5 : decode cX3_sum 5 = .ok (.ifCond .eq 5, 3) := dk_153 0 5 (dk_at dksX3_sum_0 5 rfl rfl)
theorem dX3_sum_8 : decode cX3_sum 8 = .ok (.lload_n 1, 1) := dk_31 (dk_at dksX3_sum_0 8 rfl rfl)
theorem dX3_sum_9 : decode cX3_sum 9 = .ok (.lreturn, 1) := dk_173 (dk_at dksX3_sum_0 9 rfl rfl)
theorem dX3_sum_10 : decode cX3_sum 10 = .ok (.aload_n 0, 1) := dk_42 (dk_at dksX3_sum_0 10 rfl rfl)
theorem dX3_sum_11 : decode cX3_sum 11 = .ok (.lload_n 3, 1) := dk_33 (dk_at dksX3_sum_0 11 rfl rfl)
theorem dX3_sum_12 : decode cX3_sum 12 = .ok (.invokevirtual 53, 3) := dk_182 0 53 (dk_at dksX3_sum_0 12 rfl rfl)
theorem dX3_sum_15 : decode cX3_sum 15 = .ok (.ifCond .eq 5, 3) := dk_153 0 5 (dk_at dksX3_sum_0 15 rfl rfl)
theorem dX3_sum_18 : decode cX3_sum 18 = .ok (.lload_n 3, 1) := dk_33 (dk_at dksX3_sum_0 18 rfl rfl)
theorem dX3_sum_19 : decode cX3_sum 19 = .ok (.lreturn, 1) := dk_173 (dk_at dksX3_sum_0 19 rfl rfl)
theorem dX3_sum_20 : decode cX3_sum 20 = .ok (.lload_n 1, 1) := dk_31 (dk_at dksX3_sum_0 20 rfl rfl)
theorem dX3_sum_21 : decode cX3_sum 21 = .ok (.aload_n 0, 1) := dk_42 (dk_at dksX3_sum_0 21 rfl rfl)
theorem dX3_sum_22 : decode cX3_sum 22 = .ok (.invokevirtual 26, 3) := dk_182 0 26 (dk_at dksX3_sum_1 0 rfl rfl)
theorem dX3_sum_25 : decode cX3_sum 25 = .ok (.lcmp, 1) := dk_148 (dk_at dksX3_sum_1 3 rfl rfl)
theorem dX3_sum_26 : decode cX3_sum 26 = .ok (.ifCond .ne 16, 3) := dk_154 0 16 (dk_at dksX3_sum_1 4 rfl rfl)
theorem dX3_sum_29 : decode cX3_sum 29 = .ok (.lload_n 3, 1) := dk_33 (dk_at dksX3_sum_1 7 rfl rfl)
theorem dX3_sum_30 : decode cX3_sum 30 = .ok (.aload_n 0, 1) := dk_42 (dk_at dksX3_sum_1 8 rfl rfl)
theorem dX3_sum_31 : decode cX3_sum 31 = .ok (.invokevirtual 26, 3) := dk_182 0 26 (dk_at dksX3_sum_1 9 rfl rfl)
theorem dX3_sum_34 : decode cX3_sum 34 = .ok (.lcmp, 1) := dk_148 (dk_at dksX3_sum_1 12 rfl rfl)
theorem dX3_sum_35 : decode cX3_sum 35 = .ok (.ifCond .ne 7, 3) := dk_154 0 7 (dk_at dksX3_sum_1 13 rfl rfl)
theorem dX3_sum_38 : decode cX3_sum 38 = .ok (.lload_n 1, 1) := dk_31 (dk_at dksX3_sum_1 16 rfl rfl)
theorem dX3_sum_39 : decode cX3_sum 39 = .ok (.goto 20, 3) := dk_167 0 20 (dk_at dksX3_sum_1 17 rfl rfl)
theorem dX3_sum_42 : decode cX3_sum 42 = .ok (.aload_n 0, 1) := dk_42 (dk_at dksX3_sum_1 20 rfl rfl)
theorem dX3_sum_43 : decode cX3_sum 43 = .ok (.aload_n 0, 1) := dk_42 (dk_at dksX3_sum_1 21 rfl rfl)
theorem dX3_sum_44 : decode cX3_sum 44 = .ok (.lload_n 1, 1) := dk_31 (dk_at dksX3_sum_1 22 rfl rfl)
theorem dX3_sum_45 : decode cX3_sum 45 = .ok (.invokevirtual 60, 3) := dk_182 0 60 (dk_at dksX3_sum_2 0 rfl rfl)
theorem dX3_sum_48 : decode cX3_sum 48 = .ok (.i2l, 1) := dk_133 (dk_at dksX3_sum_2 3 rfl rfl)
theorem dX3_sum_49 : decode cX3_sum 49 = .ok (.aload_n 0, 1) := dk_42 (dk_at dksX3_sum_2 4 rfl rfl)
theorem dX3_sum_50 : decode cX3_sum 50 = .ok (.lload_n 3, 1) := dk_33 (dk_at dksX3_sum_2 5 rfl rfl)
theorem dX3_sum_51 : decode cX3_sum 51 = .ok (.invokevirtual 60, 3) := dk_182 0 60 (dk_at dksX3_sum_2 6 rfl rfl)
theorem dX3_sum_54 : decode cX3_sum 54 = .ok (.i2l, 1) := dk_133 (dk_at dksX3_sum_2 9 rfl rfl)
theorem dX3_sum_55 : decode cX3_sum 55 = .ok (.ladd, 1) := dk_97 (dk_at dksX3_sum_2 10 rfl rfl)
theorem dX3_sum_56 : decode cX3_sum 56 = .ok (.invokevirtual 67, 3) := dk_182 0 67 (dk_at dksX3_sum_2 11 rfl rfl)
theorem dX3_sum_59 : decode cX3_sum 59 = .ok (.lreturn, 1) := dk_173 (dk_at dksX3_sum_2 14 rfl rfl)
abbrev cX3_sort : ByteArray := prog_5_method_22_code
def yX3_sort : MethodName := ⟨RX3, "sort", "()I"⟩
def dkwX3_sort_6 : List UInt8 := [96, 61, 132, 3, 1, 167, 255, 226, 28, 172]
abbrev dktX3_sort_6 : List UInt8 := dkwX3_sort_6 ++ []
def dkwX3_sort_5 : List UInt8 := [16, 8, 162, 0, 30, 28, 42, 180, 0, 9, 29, 47, 43, 29, 47, 148, 154, 0, 7, 3, 167, 0, 4, 4]
abbrev dktX3_sort_5 : List UInt8 := dkwX3_sort_5 ++ dktX3_sort_6
def dkwX3_sort_4 : List UInt8 := [180, 0, 9, 29, 22, 4, 80, 132, 3, 1, 167, 255, 200, 132, 2, 1, 167, 255, 184, 3, 61, 3, 62, 29]
abbrev dktX3_sort_4 : List UInt8 := dkwX3_sort_4 ++ dktX3_sort_5
def dkwX3_sort_3 : List UInt8 := [156, 0, 31, 42, 180, 0, 9, 28, 47, 55, 4, 42, 180, 0, 9, 28, 42, 180, 0, 9, 29, 47, 80, 42]
abbrev dktX3_sort_3 : List UInt8 := dkwX3_sort_3 ++ dktX3_sort_4
def dkwX3_sort_2 : List UInt8 := [96, 62, 29, 16, 8, 162, 0, 56, 42, 42, 180, 0, 9, 29, 47, 42, 180, 0, 9, 28, 47, 182, 0, 77]
abbrev dktX3_sort_2 : List UInt8 := dkwX3_sort_2 ++ dktX3_sort_3
def dkwX3_sort_1 : List UInt8 := [28, 42, 180, 0, 9, 28, 47, 80, 132, 2, 1, 167, 255, 238, 3, 61, 28, 16, 8, 162, 0, 72, 28, 4]
abbrev dktX3_sort_1 : List UInt8 := dkwX3_sort_1 ++ dktX3_sort_2
def dkwX3_sort_0 : List UInt8 := [42, 89, 180, 0, 70, 4, 96, 181, 0, 70, 16, 8, 188, 11, 76, 3, 61, 28, 16, 8, 162, 0, 18, 43]
abbrev dktX3_sort_0 : List UInt8 := dkwX3_sort_0 ++ dktX3_sort_1
theorem dksX3_sort_0 : cX3_sort.data.toList.drop 0 = dktX3_sort_0 := by decide +kernel
theorem dksX3_sort_1 : cX3_sort.data.toList.drop 24 = dktX3_sort_1 := dk_seg dksX3_sort_0 24 rfl rfl
theorem dksX3_sort_2 : cX3_sort.data.toList.drop 48 = dktX3_sort_2 := dk_seg dksX3_sort_1 24 rfl rfl
theorem dksX3_sort_3 : cX3_sort.data.toList.drop 72 = dktX3_sort_3 := dk_seg dksX3_sort_2 24 rfl rfl
theorem dksX3_sort_4 : cX3_sort.data.toList.drop 96 = dktX3_sort_4 := dk_seg dksX3_sort_3 24 rfl rfl
theorem dksX3_sort_5 : cX3_sort.data.toList.drop 120 = dktX3_sort_5 := dk_seg dksX3_sort_4 24 rfl rfl
theorem dksX3_sort_6 : cX3_sort.data.toList.drop 144 = dktX3_sort_6 := dk_seg dksX3_sort_5 24 rfl rfl
theorem dX3_sort_0 : decode cX3_sort 0 = .ok (.aload_n 0, 1) := dk_42 (dk_at dksX3_sort_0 0 rfl rfl)
theorem dX3_sort_1 : decode cX3_sort 1 = .ok (.dup, 1) := dk_89 (dk_at dksX3_sort_0 1 rfl rfl)
theorem dX3_sort_2 : decode cX3_sort 2 = .ok (.getfield 70, 3) := dk_180 0 70 (dk_at dksX3_sort_0 2 rfl rfl)
theorem dX3_sort_5 : decode cX3_sort 5 = .ok (.iconst 1, 1) := dk_4 (dk_at dksX3_sort_0 5 rfl rfl)
theorem dX3_sort_6 : decode cX3_sort 6 = .ok (.iadd, 1) := dk_96 (dk_at dksX3_sort_0 6 rfl rfl)
theorem dX3_sort_7 : decode cX3_sort 7 = .ok (.putfield 70, 3) := dk_181 0 70 (dk_at dksX3_sort_0 7 rfl rfl)
theorem dX3_sort_10 : decode cX3_sort 10 = .ok (.bipush 8, 2) := dk_16 8 (dk_at dksX3_sort_0 10 rfl rfl)
theorem dX3_sort_12 : decode cX3_sort 12 = .ok (.newarray .long, 2) := dk_188_11 (dk_at dksX3_sort_0 12 rfl rfl)
theorem dX3_sort_14 : decode cX3_sort 14 = .ok (.astore_n 1, 1) := dk_76 (dk_at dksX3_sort_0 14 rfl rfl)
theorem dX3_sort_15 : decode cX3_sort 15 = .ok (.iconst 0, 1) := dk_3 (dk_at dksX3_sort_0 15 rfl rfl)
theorem dX3_sort_16 : decode cX3_sort 16 = .ok (.istore_n 2, 1) := dk_61 (dk_at dksX3_sort_0 16 rfl rfl)
theorem dX3_sort_17 : decode cX3_sort 17 = .ok (.iload_n 2, 1) := dk_28 (dk_at dksX3_sort_0 17 rfl rfl)
theorem dX3_sort_18 : decode cX3_sort 18 = .ok (.bipush 8, 2) := dk_16 8 (dk_at dksX3_sort_0 18 rfl rfl)
theorem dX3_sort_20 : decode cX3_sort 20 = .ok (.if_icmp .ge 18, 3) := dk_162 0 18 (dk_at dksX3_sort_0 20 rfl rfl)
theorem dX3_sort_23 : decode cX3_sort 23 = .ok (.aload_n 1, 1) := dk_43 (dk_at dksX3_sort_0 23 rfl rfl)
theorem dX3_sort_24 : decode cX3_sort 24 = .ok (.iload_n 2, 1) := dk_28 (dk_at dksX3_sort_1 0 rfl rfl)
theorem dX3_sort_25 : decode cX3_sort 25 = .ok (.aload_n 0, 1) := dk_42 (dk_at dksX3_sort_1 1 rfl rfl)
theorem dX3_sort_26 : decode cX3_sort 26 = .ok (.getfield 9, 3) := dk_180 0 9 (dk_at dksX3_sort_1 2 rfl rfl)
theorem dX3_sort_29 : decode cX3_sort 29 = .ok (.iload_n 2, 1) := dk_28 (dk_at dksX3_sort_1 5 rfl rfl)
theorem dX3_sort_30 : decode cX3_sort 30 = .ok (.laload, 1) := dk_47 (dk_at dksX3_sort_1 6 rfl rfl)
theorem dX3_sort_31 : decode cX3_sort 31 = .ok (.lastore, 1) := dk_80 (dk_at dksX3_sort_1 7 rfl rfl)
theorem dX3_sort_32 : decode cX3_sort 32 = .ok (.iinc 2 1, 3) := dk_132 2 1 (dk_at dksX3_sort_1 8 rfl rfl)
theorem dX3_sort_35 : decode cX3_sort 35 = .ok (.goto (-18), 3) := dk_167 255 238 (dk_at dksX3_sort_1 11 rfl rfl)
theorem dX3_sort_38 : decode cX3_sort 38 = .ok (.iconst 0, 1) := dk_3 (dk_at dksX3_sort_1 14 rfl rfl)
theorem dX3_sort_39 : decode cX3_sort 39 = .ok (.istore_n 2, 1) := dk_61 (dk_at dksX3_sort_1 15 rfl rfl)
theorem dX3_sort_40 : decode cX3_sort 40 = .ok (.iload_n 2, 1) := dk_28 (dk_at dksX3_sort_1 16 rfl rfl)
theorem dX3_sort_41 : decode cX3_sort 41 = .ok (.bipush 8, 2) := dk_16 8 (dk_at dksX3_sort_1 17 rfl rfl)
theorem dX3_sort_43 : decode cX3_sort 43 = .ok (.if_icmp .ge 72, 3) := dk_162 0 72 (dk_at dksX3_sort_1 19 rfl rfl)
theorem dX3_sort_46 : decode cX3_sort 46 = .ok (.iload_n 2, 1) := dk_28 (dk_at dksX3_sort_1 22 rfl rfl)
theorem dX3_sort_47 : decode cX3_sort 47 = .ok (.iconst 1, 1) := dk_4 (dk_at dksX3_sort_1 23 rfl rfl)
theorem dX3_sort_48 : decode cX3_sort 48 = .ok (.iadd, 1) := dk_96 (dk_at dksX3_sort_2 0 rfl rfl)
theorem dX3_sort_49 : decode cX3_sort 49 = .ok (.istore_n 3, 1) := dk_62 (dk_at dksX3_sort_2 1 rfl rfl)
theorem dX3_sort_50 : decode cX3_sort 50 = .ok (.iload_n 3, 1) := dk_29 (dk_at dksX3_sort_2 2 rfl rfl)
theorem dX3_sort_51 : decode cX3_sort 51 = .ok (.bipush 8, 2) := dk_16 8 (dk_at dksX3_sort_2 3 rfl rfl)
theorem dX3_sort_53 : decode cX3_sort 53 = .ok (.if_icmp .ge 56, 3) := dk_162 0 56 (dk_at dksX3_sort_2 5 rfl rfl)
theorem dX3_sort_56 : decode cX3_sort 56 = .ok (.aload_n 0, 1) := dk_42 (dk_at dksX3_sort_2 8 rfl rfl)
theorem dX3_sort_57 : decode cX3_sort 57 = .ok (.aload_n 0, 1) := dk_42 (dk_at dksX3_sort_2 9 rfl rfl)
theorem dX3_sort_58 : decode cX3_sort 58 = .ok (.getfield 9, 3) := dk_180 0 9 (dk_at dksX3_sort_2 10 rfl rfl)
theorem dX3_sort_61 : decode cX3_sort 61 = .ok (.iload_n 3, 1) := dk_29 (dk_at dksX3_sort_2 13 rfl rfl)
theorem dX3_sort_62 : decode cX3_sort 62 = .ok (.laload, 1) := dk_47 (dk_at dksX3_sort_2 14 rfl rfl)
theorem dX3_sort_63 : decode cX3_sort 63 = .ok (.aload_n 0, 1) := dk_42 (dk_at dksX3_sort_2 15 rfl rfl)
theorem dX3_sort_64 : decode cX3_sort 64 = .ok (.getfield 9, 3) := dk_180 0 9 (dk_at dksX3_sort_2 16 rfl rfl)
theorem dX3_sort_67 : decode cX3_sort 67 = .ok (.iload_n 2, 1) := dk_28 (dk_at dksX3_sort_2 19 rfl rfl)
theorem dX3_sort_68 : decode cX3_sort 68 = .ok (.laload, 1) := dk_47 (dk_at dksX3_sort_2 20 rfl rfl)
theorem dX3_sort_69 : decode cX3_sort 69 = .ok (.invokevirtual 77, 3) := dk_182 0 77 (dk_at dksX3_sort_2 21 rfl rfl)
theorem dX3_sort_72 : decode cX3_sort 72 = .ok (.ifCond .ge 31, 3) := dk_156 0 31 (dk_at dksX3_sort_3 0 rfl rfl)
theorem dX3_sort_75 : decode cX3_sort 75 = .ok (.aload_n 0, 1) := dk_42 (dk_at dksX3_sort_3 3 rfl rfl)
theorem dX3_sort_76 : decode cX3_sort 76 = .ok (.getfield 9, 3) := dk_180 0 9 (dk_at dksX3_sort_3 4 rfl rfl)
theorem dX3_sort_79 : decode cX3_sort 79 = .ok (.iload_n 2, 1) := dk_28 (dk_at dksX3_sort_3 7 rfl rfl)
theorem dX3_sort_80 : decode cX3_sort 80 = .ok (.laload, 1) := dk_47 (dk_at dksX3_sort_3 8 rfl rfl)
theorem dX3_sort_81 : decode cX3_sort 81 = .ok (.lstore 4, 2) := dk_55 4 (dk_at dksX3_sort_3 9 rfl rfl)
theorem dX3_sort_83 : decode cX3_sort 83 = .ok (.aload_n 0, 1) := dk_42 (dk_at dksX3_sort_3 11 rfl rfl)
theorem dX3_sort_84 : decode cX3_sort 84 = .ok (.getfield 9, 3) := dk_180 0 9 (dk_at dksX3_sort_3 12 rfl rfl)
theorem dX3_sort_87 : decode cX3_sort 87 = .ok (.iload_n 2, 1) := dk_28 (dk_at dksX3_sort_3 15 rfl rfl)
theorem dX3_sort_88 : decode cX3_sort 88 = .ok (.aload_n 0, 1) := dk_42 (dk_at dksX3_sort_3 16 rfl rfl)
theorem dX3_sort_89 : decode cX3_sort 89 = .ok (.getfield 9, 3) := dk_180 0 9 (dk_at dksX3_sort_3 17 rfl rfl)
theorem dX3_sort_92 : decode cX3_sort 92 = .ok (.iload_n 3, 1) := dk_29 (dk_at dksX3_sort_3 20 rfl rfl)
theorem dX3_sort_93 : decode cX3_sort 93 = .ok (.laload, 1) := dk_47 (dk_at dksX3_sort_3 21 rfl rfl)
theorem dX3_sort_94 : decode cX3_sort 94 = .ok (.lastore, 1) := dk_80 (dk_at dksX3_sort_3 22 rfl rfl)
theorem dX3_sort_95 : decode cX3_sort 95 = .ok (.aload_n 0, 1) := dk_42 (dk_at dksX3_sort_3 23 rfl rfl)
theorem dX3_sort_96 : decode cX3_sort 96 = .ok (.getfield 9, 3) := dk_180 0 9 (dk_at dksX3_sort_4 0 rfl rfl)
theorem dX3_sort_99 : decode cX3_sort 99 = .ok (.iload_n 3, 1) := dk_29 (dk_at dksX3_sort_4 3 rfl rfl)
theorem dX3_sort_100 : decode cX3_sort 100 = .ok (.lload 4, 2) := dk_22 4 (dk_at dksX3_sort_4 4 rfl rfl)
theorem dX3_sort_102 : decode cX3_sort 102 = .ok (.lastore, 1) := dk_80 (dk_at dksX3_sort_4 6 rfl rfl)
theorem dX3_sort_103 : decode cX3_sort 103 = .ok (.iinc 3 1, 3) := dk_132 3 1 (dk_at dksX3_sort_4 7 rfl rfl)
theorem dX3_sort_106 : decode cX3_sort 106 = .ok (.goto (-56), 3) := dk_167 255 200 (dk_at dksX3_sort_4 10 rfl rfl)
theorem dX3_sort_109 : decode cX3_sort 109 = .ok (.iinc 2 1, 3) := dk_132 2 1 (dk_at dksX3_sort_4 13 rfl rfl)
theorem dX3_sort_112 : decode cX3_sort 112 = .ok (.goto (-72), 3) := dk_167 255 184 (dk_at dksX3_sort_4 16 rfl rfl)
theorem dX3_sort_115 : decode cX3_sort 115 = .ok (.iconst 0, 1) := dk_3 (dk_at dksX3_sort_4 19 rfl rfl)
theorem dX3_sort_116 : decode cX3_sort 116 = .ok (.istore_n 2, 1) := dk_61 (dk_at dksX3_sort_4 20 rfl rfl)
theorem dX3_sort_117 : decode cX3_sort 117 = .ok (.iconst 0, 1) := dk_3 (dk_at dksX3_sort_4 21 rfl rfl)
theorem dX3_sort_118 : decode cX3_sort 118 = .ok (.istore_n 3, 1) := dk_62 (dk_at dksX3_sort_4 22 rfl rfl)
theorem dX3_sort_119 : decode cX3_sort 119 = .ok (.iload_n 3, 1) := dk_29 (dk_at dksX3_sort_4 23 rfl rfl)
theorem dX3_sort_120 : decode cX3_sort 120 = .ok (.bipush 8, 2) := dk_16 8 (dk_at dksX3_sort_5 0 rfl rfl)
theorem dX3_sort_122 : decode cX3_sort 122 = .ok (.if_icmp .ge 30, 3) := dk_162 0 30 (dk_at dksX3_sort_5 2 rfl rfl)
theorem dX3_sort_125 : decode cX3_sort 125 = .ok (.iload_n 2, 1) := dk_28 (dk_at dksX3_sort_5 5 rfl rfl)
theorem dX3_sort_126 : decode cX3_sort 126 = .ok (.aload_n 0, 1) := dk_42 (dk_at dksX3_sort_5 6 rfl rfl)
theorem dX3_sort_127 : decode cX3_sort 127 = .ok (.getfield 9, 3) := dk_180 0 9 (dk_at dksX3_sort_5 7 rfl rfl)
theorem dX3_sort_130 : decode cX3_sort 130 = .ok (.iload_n 3, 1) := dk_29 (dk_at dksX3_sort_5 10 rfl rfl)
theorem dX3_sort_131 : decode cX3_sort 131 = .ok (.laload, 1) := dk_47 (dk_at dksX3_sort_5 11 rfl rfl)
theorem dX3_sort_132 : decode cX3_sort 132 = .ok (.aload_n 1, 1) := dk_43 (dk_at dksX3_sort_5 12 rfl rfl)
theorem dX3_sort_133 : decode cX3_sort 133 = .ok (.iload_n 3, 1) := dk_29 (dk_at dksX3_sort_5 13 rfl rfl)
theorem dX3_sort_134 : decode cX3_sort 134 = .ok (.laload, 1) := dk_47 (dk_at dksX3_sort_5 14 rfl rfl)
theorem dX3_sort_135 : decode cX3_sort 135 = .ok (.lcmp, 1) := dk_148 (dk_at dksX3_sort_5 15 rfl rfl)
theorem dX3_sort_136 : decode cX3_sort 136 = .ok (.ifCond .ne 7, 3) := dk_154 0 7 (dk_at dksX3_sort_5 16 rfl rfl)
theorem dX3_sort_139 : decode cX3_sort 139 = .ok (.iconst 0, 1) := dk_3 (dk_at dksX3_sort_5 19 rfl rfl)
theorem dX3_sort_140 : decode cX3_sort 140 = .ok (.goto 4, 3) := dk_167 0 4 (dk_at dksX3_sort_5 20 rfl rfl)
theorem dX3_sort_143 : decode cX3_sort 143 = .ok (.iconst 1, 1) := dk_4 (dk_at dksX3_sort_5 23 rfl rfl)
theorem dX3_sort_144 : decode cX3_sort 144 = .ok (.iadd, 1) := dk_96 (dk_at dksX3_sort_6 0 rfl rfl)
theorem dX3_sort_145 : decode cX3_sort 145 = .ok (.istore_n 2, 1) := dk_61 (dk_at dksX3_sort_6 1 rfl rfl)
theorem dX3_sort_146 : decode cX3_sort 146 = .ok (.iinc 3 1, 3) := dk_132 3 1 (dk_at dksX3_sort_6 2 rfl rfl)
theorem dX3_sort_149 : decode cX3_sort 149 = .ok (.goto (-30), 3) := dk_167 255 226 (dk_at dksX3_sort_6 5 rfl rfl)
theorem dX3_sort_152 : decode cX3_sort 152 = .ok (.iload_n 2, 1) := dk_28 (dk_at dksX3_sort_6 8 rfl rfl)
theorem dX3_sort_153 : decode cX3_sort 153 = .ok (.ireturn, 1) := dk_172 (dk_at dksX3_sort_6 9 rfl rfl)
abbrev cX3_end : ByteArray := prog_5_method_21_code
def yX3_end : MethodName := ⟨RX3, "end", "(Z)J"⟩
def dkwX3_end_2 : List UInt8 := [167, 0, 4, 2, 160, 0, 6, 22, 7, 65, 132, 6, 1, 167, 255, 217, 32, 173]
abbrev dktX3_end_2 : List UInt8 := dkwX3_end_2 ++ []
def dkwX3_end_1 : List UInt8 := [21, 5, 162, 0, 38, 25, 4, 21, 6, 47, 55, 7, 42, 22, 7, 32, 182, 0, 77, 27, 153, 0, 7, 4]
abbrev dktX3_end_1 : List UInt8 := dkwX3_end_1 ++ dktX3_end_2
def dkwX3_end_0 : List UInt8 := [42, 180, 0, 9, 3, 47, 65, 42, 180, 0, 9, 58, 4, 25, 4, 190, 54, 5, 3, 54, 6, 21, 6]
abbrev dktX3_end_0 : List UInt8 := dkwX3_end_0 ++ dktX3_end_1
theorem dksX3_end_0 : cX3_end.data.toList.drop 0 = dktX3_end_0 := by decide +kernel
theorem dksX3_end_1 : cX3_end.data.toList.drop 23 = dktX3_end_1 := dk_seg dksX3_end_0 23 rfl rfl
theorem dksX3_end_2 : cX3_end.data.toList.drop 47 = dktX3_end_2 := dk_seg dksX3_end_1 24 rfl rfl
theorem dX3_end_0 : decode cX3_end 0 = .ok (.aload_n 0, 1) := dk_42 (dk_at dksX3_end_0 0 rfl rfl)
theorem dX3_end_1 : decode cX3_end 1 = .ok (.getfield 9, 3) := dk_180 0 9 (dk_at dksX3_end_0 1 rfl rfl)
theorem dX3_end_4 : decode cX3_end 4 = .ok (.iconst 0, 1) := dk_3 (dk_at dksX3_end_0 4 rfl rfl)
theorem dX3_end_5 : decode cX3_end 5 = .ok (.laload, 1) := dk_47 (dk_at dksX3_end_0 5 rfl rfl)
theorem dX3_end_6 : decode cX3_end 6 = .ok (.lstore_n 2, 1) := dk_65 (dk_at dksX3_end_0 6 rfl rfl)
theorem dX3_end_7 : decode cX3_end 7 = .ok (.aload_n 0, 1) := dk_42 (dk_at dksX3_end_0 7 rfl rfl)
theorem dX3_end_8 : decode cX3_end 8 = .ok (.getfield 9, 3) := dk_180 0 9 (dk_at dksX3_end_0 8 rfl rfl)
theorem dX3_end_11 : decode cX3_end 11 = .ok (.astore 4, 2) := dk_58 4 (dk_at dksX3_end_0 11 rfl rfl)
theorem dX3_end_13 : decode cX3_end 13 = .ok (.aload 4, 2) := dk_25 4 (dk_at dksX3_end_0 13 rfl rfl)
theorem dX3_end_15 : decode cX3_end 15 = .ok (.arraylength, 1) := dk_190 (dk_at dksX3_end_0 15 rfl rfl)
theorem dX3_end_16 : decode cX3_end 16 = .ok (.istore 5, 2) := dk_54 5 (dk_at dksX3_end_0 16 rfl rfl)
theorem dX3_end_18 : decode cX3_end 18 = .ok (.iconst 0, 1) := dk_3 (dk_at dksX3_end_0 18 rfl rfl)
theorem dX3_end_19 : decode cX3_end 19 = .ok (.istore 6, 2) := dk_54 6 (dk_at dksX3_end_0 19 rfl rfl)
theorem dX3_end_21 : decode cX3_end 21 = .ok (.iload 6, 2) := dk_21 6 (dk_at dksX3_end_0 21 rfl rfl)
theorem dX3_end_23 : decode cX3_end 23 = .ok (.iload 5, 2) := dk_21 5 (dk_at dksX3_end_1 0 rfl rfl)
theorem dX3_end_25 : decode cX3_end 25 = .ok (.if_icmp .ge 38, 3) := dk_162 0 38 (dk_at dksX3_end_1 2 rfl rfl)
theorem dX3_end_28 : decode cX3_end 28 = .ok (.aload 4, 2) := dk_25 4 (dk_at dksX3_end_1 5 rfl rfl)
theorem dX3_end_30 : decode cX3_end 30 = .ok (.iload 6, 2) := dk_21 6 (dk_at dksX3_end_1 7 rfl rfl)
theorem dX3_end_32 : decode cX3_end 32 = .ok (.laload, 1) := dk_47 (dk_at dksX3_end_1 9 rfl rfl)
theorem dX3_end_33 : decode cX3_end 33 = .ok (.lstore 7, 2) := dk_55 7 (dk_at dksX3_end_1 10 rfl rfl)
theorem dX3_end_35 : decode cX3_end 35 = .ok (.aload_n 0, 1) := dk_42 (dk_at dksX3_end_1 12 rfl rfl)
theorem dX3_end_36 : decode cX3_end 36 = .ok (.lload 7, 2) := dk_22 7 (dk_at dksX3_end_1 13 rfl rfl)
theorem dX3_end_38 : decode cX3_end 38 = .ok (.lload_n 2, 1) := dk_32 (dk_at dksX3_end_1 15 rfl rfl)
theorem dX3_end_39 : decode cX3_end 39 = .ok (.invokevirtual 77, 3) := dk_182 0 77 (dk_at dksX3_end_1 16 rfl rfl)
theorem dX3_end_42 : decode cX3_end 42 = .ok (.iload_n 1, 1) := dk_27 (dk_at dksX3_end_1 19 rfl rfl)
theorem dX3_end_43 : decode cX3_end 43 = .ok (.ifCond .eq 7, 3) := dk_153 0 7 (dk_at dksX3_end_1 20 rfl rfl)
theorem dX3_end_46 : decode cX3_end 46 = .ok (.iconst 1, 1) := dk_4 (dk_at dksX3_end_1 23 rfl rfl)
theorem dX3_end_47 : decode cX3_end 47 = .ok (.goto 4, 3) := dk_167 0 4 (dk_at dksX3_end_2 0 rfl rfl)
theorem dX3_end_50 : decode cX3_end 50 = .ok (.iconst (-1), 1) := dk_2 (dk_at dksX3_end_2 3 rfl rfl)
theorem dX3_end_51 : decode cX3_end 51 = .ok (.if_icmp .ne 6, 3) := dk_160 0 6 (dk_at dksX3_end_2 4 rfl rfl)
theorem dX3_end_54 : decode cX3_end 54 = .ok (.lload 7, 2) := dk_22 7 (dk_at dksX3_end_2 7 rfl rfl)
theorem dX3_end_56 : decode cX3_end 56 = .ok (.lstore_n 2, 1) := dk_65 (dk_at dksX3_end_2 9 rfl rfl)
theorem dX3_end_57 : decode cX3_end 57 = .ok (.iinc 6 1, 3) := dk_132 6 1 (dk_at dksX3_end_2 10 rfl rfl)
theorem dX3_end_60 : decode cX3_end 60 = .ok (.goto (-39), 3) := dk_167 255 217 (dk_at dksX3_end_2 13 rfl rfl)
theorem dX3_end_63 : decode cX3_end 63 = .ok (.lload_n 2, 1) := dk_32 (dk_at dksX3_end_2 16 rfl rfl)
theorem dX3_end_64 : decode cX3_end 64 = .ok (.lreturn, 1) := dk_173 (dk_at dksX3_end_2 17 rfl rfl)
abbrev cX3_text : ByteArray := prog_5_method_24_code
def yX3_text : MethodName := ⟨RX3, "text", "(I)Ljava/lang/String;"⟩
def dkwX3_text_2 : List UInt8 := [182, 0, 88, 42, 42, 180, 0, 9, 27, 47, 182, 0, 57, 182, 0, 92, 182, 0, 97, 176]
abbrev dktX3_text_2 : List UInt8 := dkwX3_text_2 ++ []
def dkwX3_text_1 : List UInt8 := [167, 0, 5, 18, 86, 182, 0, 88, 42, 42, 180, 0, 9, 27, 47, 182, 0, 50, 182, 0, 92, 18, 95]
abbrev dktX3_text_1 : List UInt8 := dkwX3_text_1 ++ dktX3_text_2
def dkwX3_text_0 : List UInt8 := [187, 0, 81, 89, 183, 0, 83, 42, 42, 180, 0, 9, 27, 47, 182, 0, 39, 153, 0, 8, 18, 84]
abbrev dktX3_text_0 : List UInt8 := dkwX3_text_0 ++ dktX3_text_1
theorem dksX3_text_0 : cX3_text.data.toList.drop 0 = dktX3_text_0 := by decide +kernel
theorem dksX3_text_1 : cX3_text.data.toList.drop 22 = dktX3_text_1 := dk_seg dksX3_text_0 22 rfl rfl
theorem dksX3_text_2 : cX3_text.data.toList.drop 45 = dktX3_text_2 := dk_seg dksX3_text_1 23 rfl rfl
theorem dX3_text_0 : decode cX3_text 0 = .ok (.new 81, 3) := dk_187 0 81 (dk_at dksX3_text_0 0 rfl rfl)
theorem dX3_text_3 : decode cX3_text 3 = .ok (.dup, 1) := dk_89 (dk_at dksX3_text_0 3 rfl rfl)
theorem dX3_text_4 : decode cX3_text 4 = .ok (.invokespecial 83, 3) := dk_183 0 83 (dk_at dksX3_text_0 4 rfl rfl)
theorem dX3_text_7 : decode cX3_text 7 = .ok (.aload_n 0, 1) := dk_42 (dk_at dksX3_text_0 7 rfl rfl)
theorem dX3_text_8 : decode cX3_text 8 = .ok (.aload_n 0, 1) := dk_42 (dk_at dksX3_text_0 8 rfl rfl)
theorem dX3_text_9 : decode cX3_text 9 = .ok (.getfield 9, 3) := dk_180 0 9 (dk_at dksX3_text_0 9 rfl rfl)
theorem dX3_text_12 : decode cX3_text 12 = .ok (.iload_n 1, 1) := dk_27 (dk_at dksX3_text_0 12 rfl rfl)
theorem dX3_text_13 : decode cX3_text 13 = .ok (.laload, 1) := dk_47 (dk_at dksX3_text_0 13 rfl rfl)
theorem dX3_text_14 : decode cX3_text 14 = .ok (.invokevirtual 39, 3) := dk_182 0 39 (dk_at dksX3_text_0 14 rfl rfl)
theorem dX3_text_17 : decode cX3_text 17 = .ok (.ifCond .eq 8, 3) := dk_153 0 8 (dk_at dksX3_text_0 17 rfl rfl)
theorem dX3_text_20 : decode cX3_text 20 = .ok (.ldc 84, 2) := dk_18 84 (dk_at dksX3_text_0 20 rfl rfl)
theorem dX3_text_22 : decode cX3_text 22 = .ok (.goto 5, 3) := dk_167 0 5 (dk_at dksX3_text_1 0 rfl rfl)
theorem dX3_text_25 : decode cX3_text 25 = .ok (.ldc 86, 2) := dk_18 86 (dk_at dksX3_text_1 3 rfl rfl)
theorem dX3_text_27 : decode cX3_text 27 = .ok (.invokevirtual 88, 3) := dk_182 0 88 (dk_at dksX3_text_1 5 rfl rfl)
theorem dX3_text_30 : decode cX3_text 30 = .ok (.aload_n 0, 1) := dk_42 (dk_at dksX3_text_1 8 rfl rfl)
theorem dX3_text_31 : decode cX3_text 31 = .ok (.aload_n 0, 1) := dk_42 (dk_at dksX3_text_1 9 rfl rfl)
theorem dX3_text_32 : decode cX3_text 32 = .ok (.getfield 9, 3) := dk_180 0 9 (dk_at dksX3_text_1 10 rfl rfl)
theorem dX3_text_35 : decode cX3_text 35 = .ok (.iload_n 1, 1) := dk_27 (dk_at dksX3_text_1 13 rfl rfl)
theorem dX3_text_36 : decode cX3_text 36 = .ok (.laload, 1) := dk_47 (dk_at dksX3_text_1 14 rfl rfl)
theorem dX3_text_37 : decode cX3_text 37 = .ok (.invokevirtual 50, 3) := dk_182 0 50 (dk_at dksX3_text_1 15 rfl rfl)
theorem dX3_text_40 : decode cX3_text 40 = .ok (.invokevirtual 92, 3) := dk_182 0 92 (dk_at dksX3_text_1 18 rfl rfl)
theorem dX3_text_43 : decode cX3_text 43 = .ok (.ldc 95, 2) := dk_18 95 (dk_at dksX3_text_1 21 rfl rfl)
theorem dX3_text_45 : decode cX3_text 45 = .ok (.invokevirtual 88, 3) := dk_182 0 88 (dk_at dksX3_text_2 0 rfl rfl)
theorem dX3_text_48 : decode cX3_text 48 = .ok (.aload_n 0, 1) := dk_42 (dk_at dksX3_text_2 3 rfl rfl)
theorem dX3_text_49 : decode cX3_text 49 = .ok (.aload_n 0, 1) := dk_42 (dk_at dksX3_text_2 4 rfl rfl)
theorem dX3_text_50 : decode cX3_text 50 = .ok (.getfield 9, 3) := dk_180 0 9 (dk_at dksX3_text_2 5 rfl rfl)
theorem dX3_text_53 : decode cX3_text 53 = .ok (.iload_n 1, 1) := dk_27 (dk_at dksX3_text_2 8 rfl rfl)
theorem dX3_text_54 : decode cX3_text 54 = .ok (.laload, 1) := dk_47 (dk_at dksX3_text_2 9 rfl rfl)
theorem dX3_text_55 : decode cX3_text 55 = .ok (.invokevirtual 57, 3) := dk_182 0 57 (dk_at dksX3_text_2 10 rfl rfl)
theorem dX3_text_58 : decode cX3_text 58 = .ok (.invokevirtual 92, 3) := dk_182 0 92 (dk_at dksX3_text_2 13 rfl rfl)
theorem dX3_text_61 : decode cX3_text 61 = .ok (.invokevirtual 97, 3) := dk_182 0 97 (dk_at dksX3_text_2 16 rfl rfl)
theorem dX3_text_64 : decode cX3_text 64 = .ok (.areturn, 1) := dk_176 (dk_at dksX3_text_2 19 rfl rfl)
abbrev cX3_value : ByteArray := prog_5_method_12_code
def yX3_value : MethodName := ⟨RX3, "value", "(J)J"⟩
def dkwX3_value_0 : List UInt8 := [42, 31, 182, 0, 39, 153, 0, 12, 42, 31, 182, 0, 32, 117, 167, 0, 8, 42, 31, 182, 0, 32, 173]
abbrev dktX3_value_0 : List UInt8 := dkwX3_value_0 ++ []
theorem dksX3_value_0 : cX3_value.data.toList.drop 0 = dktX3_value_0 := by decide +kernel
theorem dX3_value_0 : decode cX3_value 0 = .ok (.aload_n 0, 1) := dk_42 (dk_at dksX3_value_0 0 rfl rfl)
theorem dX3_value_1 : decode cX3_value 1 = .ok (.lload_n 1, 1) := dk_31 (dk_at dksX3_value_0 1 rfl rfl)
theorem dX3_value_2 : decode cX3_value 2 = .ok (.invokevirtual 39, 3) := dk_182 0 39 (dk_at dksX3_value_0 2 rfl rfl)
theorem dX3_value_5 : decode cX3_value 5 = .ok (.ifCond .eq 12, 3) := dk_153 0 12 (dk_at dksX3_value_0 5 rfl rfl)
theorem dX3_value_8 : decode cX3_value 8 = .ok (.aload_n 0, 1) := dk_42 (dk_at dksX3_value_0 8 rfl rfl)
theorem dX3_value_9 : decode cX3_value 9 = .ok (.lload_n 1, 1) := dk_31 (dk_at dksX3_value_0 9 rfl rfl)
theorem dX3_value_10 : decode cX3_value 10 = .ok (.invokevirtual 32, 3) := dk_182 0 32 (dk_at dksX3_value_0 10 rfl rfl)
theorem dX3_value_13 : decode cX3_value 13 = .ok (.lneg, 1) := dk_117 (dk_at dksX3_value_0 13 rfl rfl)
theorem dX3_value_14 : decode cX3_value 14 = .ok (.goto 8, 3) := dk_167 0 8 (dk_at dksX3_value_0 14 rfl rfl)
theorem dX3_value_17 : decode cX3_value 17 = .ok (.aload_n 0, 1) := dk_42 (dk_at dksX3_value_0 17 rfl rfl)
theorem dX3_value_18 : decode cX3_value 18 = .ok (.lload_n 1, 1) := dk_31 (dk_at dksX3_value_0 18 rfl rfl)
theorem dX3_value_19 : decode cX3_value 19 = .ok (.invokevirtual 32, 3) := dk_182 0 32 (dk_at dksX3_value_0 19 rfl rfl)
theorem dX3_value_22 : decode cX3_value 22 = .ok (.lreturn, 1) := dk_173 (dk_at dksX3_value_0 22 rfl rfl)
abbrev cX3_find : ByteArray := prog_5_method_23_code
def yX3_find : MethodName := ⟨RX3, "find", "(JZ)I"⟩
def dkwX3_find_2 : List UInt8 := [172]
abbrev dktX3_find_2 : List UInt8 := dkwX3_find_2 ++ []
def dkwX3_find_1 : List UInt8 := [154, 0, 16, 29, 154, 0, 8, 21, 4, 156, 0, 7, 21, 5, 54, 4, 132, 5, 1, 167, 255, 221, 21, 4]
abbrev dktX3_find_1 : List UInt8 := dkwX3_find_1 ++ dktX3_find_2
def dkwX3_find_0 : List UInt8 := [2, 54, 4, 3, 54, 5, 21, 5, 16, 8, 162, 0, 34, 42, 180, 0, 9, 21, 5, 47, 31, 148]
abbrev dktX3_find_0 : List UInt8 := dkwX3_find_0 ++ dktX3_find_1
theorem dksX3_find_0 : cX3_find.data.toList.drop 0 = dktX3_find_0 := by decide +kernel
theorem dksX3_find_1 : cX3_find.data.toList.drop 22 = dktX3_find_1 := dk_seg dksX3_find_0 22 rfl rfl
theorem dksX3_find_2 : cX3_find.data.toList.drop 46 = dktX3_find_2 := dk_seg dksX3_find_1 24 rfl rfl
theorem dX3_find_0 : decode cX3_find 0 = .ok (.iconst (-1), 1) := dk_2 (dk_at dksX3_find_0 0 rfl rfl)
theorem dX3_find_1 : decode cX3_find 1 = .ok (.istore 4, 2) := dk_54 4 (dk_at dksX3_find_0 1 rfl rfl)
theorem dX3_find_3 : decode cX3_find 3 = .ok (.iconst 0, 1) := dk_3 (dk_at dksX3_find_0 3 rfl rfl)
theorem dX3_find_4 : decode cX3_find 4 = .ok (.istore 5, 2) := dk_54 5 (dk_at dksX3_find_0 4 rfl rfl)
theorem dX3_find_6 : decode cX3_find 6 = .ok (.iload 5, 2) := dk_21 5 (dk_at dksX3_find_0 6 rfl rfl)
theorem dX3_find_8 : decode cX3_find 8 = .ok (.bipush 8, 2) := dk_16 8 (dk_at dksX3_find_0 8 rfl rfl)
theorem dX3_find_10 : decode cX3_find 10 = .ok (.if_icmp .ge 34, 3) := dk_162 0 34 (dk_at dksX3_find_0 10 rfl rfl)
theorem dX3_find_13 : decode cX3_find 13 = .ok (.aload_n 0, 1) := dk_42 (dk_at dksX3_find_0 13 rfl rfl)
theorem dX3_find_14 : decode cX3_find 14 = .ok (.getfield 9, 3) := dk_180 0 9 (dk_at dksX3_find_0 14 rfl rfl)
theorem dX3_find_17 : decode cX3_find 17 = .ok (.iload 5, 2) := dk_21 5 (dk_at dksX3_find_0 17 rfl rfl)
theorem dX3_find_19 : decode cX3_find 19 = .ok (.laload, 1) := dk_47 (dk_at dksX3_find_0 19 rfl rfl)
theorem dX3_find_20 : decode cX3_find 20 = .ok (.lload_n 1, 1) := dk_31 (dk_at dksX3_find_0 20 rfl rfl)
theorem dX3_find_21 : decode cX3_find 21 = .ok (.lcmp, 1) := dk_148 (dk_at dksX3_find_0 21 rfl rfl)
theorem dX3_find_22 : decode cX3_find 22 = .ok (.ifCond .ne 16, 3) := dk_154 0 16 (dk_at dksX3_find_1 0 rfl rfl)
theorem dX3_find_25 : decode cX3_find 25 = .ok (.iload_n 3, 1) := dk_29 (dk_at dksX3_find_1 3 rfl rfl)
theorem dX3_find_26 : decode cX3_find 26 = .ok (.ifCond .ne 8, 3) := dk_154 0 8 (dk_at dksX3_find_1 4 rfl rfl)
theorem dX3_find_29 : decode cX3_find 29 = .ok (.iload 4, 2) := dk_21 4 (dk_at dksX3_find_1 7 rfl rfl)
theorem dX3_find_31 : decode cX3_find 31 = .ok (.ifCond .ge 7, 3) := dk_156 0 7 (dk_at dksX3_find_1 9 rfl rfl)
theorem dX3_find_34 : decode cX3_find 34 = .ok (.iload 5, 2) := dk_21 5 (dk_at dksX3_find_1 12 rfl rfl)
theorem dX3_find_36 : decode cX3_find 36 = .ok (.istore 4, 2) := dk_54 4 (dk_at dksX3_find_1 14 rfl rfl)
theorem dX3_find_38 : decode cX3_find 38 = .ok (.iinc 5 1, 3) := dk_132 5 1 (dk_at dksX3_find_1 16 rfl rfl)
theorem dX3_find_41 : decode cX3_find 41 = .ok (.goto (-35), 3) := dk_167 255 221 (dk_at dksX3_find_1 19 rfl rfl)
theorem dX3_find_44 : decode cX3_find 44 = .ok (.iload 4, 2) := dk_21 4 (dk_at dksX3_find_1 22 rfl rfl)
theorem dX3_find_46 : decode cX3_find 46 = .ok (.ireturn, 1) := dk_172 (dk_at dksX3_find_2 0 rfl rfl)
theorem q39 : (Jvm.Cond.initialized "EdgefloatsModel$Row") ∈ lw_all := lw_g (lw_at lw_m1 6 rfl) rfl
theorem q1200 : (Jvm.Cond.selects "EdgefloatsModel$Row" ({ cls := "java/lang/Object", name := "equals", desc := "(Ljava/lang/Object;)Z" } : Jvm.MethodName) ({ cls := "java/lang/Object", name := "equals", desc := "(Ljava/lang/Object;)Z" } : Jvm.MethodName)) ∈ lw_all := lw_g (lw_at lw_m5 207 rfl) rfl
theorem q1484 : (Jvm.Cond.instantiable "EdgefloatsModel$Row" (5 : Nat)) ∈ lw_all := lw_g (lw_at lw_m7 11 rfl) rfl
theorem q1487 : (Jvm.Cond.instanceMethod ({ cls := "EdgefloatsModel$Row", name := "<init>", desc := "(IIJ)V" } : Jvm.MethodName)) ∈ lw_all := lw_g (lw_at lw_m7 14 rfl) rfl
theorem q1488 : (Jvm.Cond.code ({ cls := "EdgefloatsModel$Row", name := "<init>", desc := "(IIJ)V" } : Jvm.MethodName) prog_5_method_1_code (5 : Nat) (Option.none : Option Jvm.ClassFile.FieldType)) ∈ lw_all := lw_g (lw_at lw_m7 15 rfl) rfl
theorem q1489 : (Jvm.Cond.methodLink "EdgefloatsModel$Row" (3 : Nat) ({ cls := "java/lang/Object", name := "<init>", desc := "()V" } : Jvm.MethodName)) ∈ lw_all := lw_g (lw_at lw_m7 16 rfl) rfl
theorem q1490 : (Jvm.Cond.fieldLink "EdgefloatsModel$Row" (15 : Nat) "EdgefloatsModel$Row" "exponents" "I") ∈ lw_all := lw_g (lw_at lw_m7 17 rfl) rfl
theorem q1491 : (Jvm.Cond.fieldLink "EdgefloatsModel$Row" (19 : Nat) "EdgefloatsModel$Row" "fractions" "I") ∈ lw_all := lw_g (lw_at lw_m7 18 rfl) rfl
theorem q1492 : (Jvm.Cond.fieldLink "EdgefloatsModel$Row" (22 : Nat) "EdgefloatsModel$Row" "most" "J") ∈ lw_all := lw_g (lw_at lw_m7 19 rfl) rfl
theorem q1494 : (Jvm.Cond.fieldLink "EdgefloatsModel$Row" (9 : Nat) "EdgefloatsModel$Row" "cells" "[J") ∈ lw_all := lw_g (lw_at lw_m7 21 rfl) rfl
theorem q1496 : (Jvm.Cond.fieldLink "EdgefloatsModel$Row" (70 : Nat) "EdgefloatsModel$Row" "acts" "I") ∈ lw_all := lw_g (lw_at lw_m7 23 rfl) rfl
theorem q1498 : (Jvm.Cond.laysFinal "EdgefloatsModel$Row" "EdgefloatsModel$Row" "exponents" "I") ∈ lw_all := lw_g (lw_at lw_m7 25 rfl) rfl
theorem q1499 : (Jvm.Cond.soleField "EdgefloatsModel$Row" "exponents") ∈ lw_all := lw_g (lw_at lw_m7 26 rfl) rfl
theorem q1500 : (Jvm.Cond.laysFinal "EdgefloatsModel$Row" "EdgefloatsModel$Row" "fractions" "I") ∈ lw_all := lw_g (lw_at lw_m7 27 rfl) rfl
theorem q1501 : (Jvm.Cond.soleField "EdgefloatsModel$Row" "fractions") ∈ lw_all := lw_g (lw_at lw_m7 28 rfl) rfl
theorem q1502 : (Jvm.Cond.laysFinal "EdgefloatsModel$Row" "EdgefloatsModel$Row" "most" "J") ∈ lw_all := lw_g (lw_at lw_m7 29 rfl) rfl
theorem q1503 : (Jvm.Cond.soleField "EdgefloatsModel$Row" "most") ∈ lw_all := lw_g (lw_at lw_m7 30 rfl) rfl
theorem q1504 : (Jvm.Cond.laysFinal "EdgefloatsModel$Row" "EdgefloatsModel$Row" "cells" "[J") ∈ lw_all := lw_g (lw_at lw_m7 31 rfl) rfl
theorem q1505 : (Jvm.Cond.soleField "EdgefloatsModel$Row" "cells") ∈ lw_all := lw_g (lw_at lw_m7 32 rfl) rfl
theorem q1506 : (Jvm.Cond.lays "EdgefloatsModel$Row" "EdgefloatsModel$Row" "acts" "I") ∈ lw_all := lw_g (lw_at lw_m7 33 rfl) rfl
theorem q1507 : (Jvm.Cond.soleField "EdgefloatsModel$Row" "acts") ∈ lw_all := lw_g (lw_at lw_m7 34 rfl) rfl
theorem q1508 : (Jvm.Cond.superclass "EdgefloatsModel$Row" "java/lang/Object") ∈ lw_all := lw_g (lw_at lw_m7 35 rfl) rfl
theorem q1551 : (Jvm.Cond.instanceMethod ({ cls := "EdgefloatsModel$Row", name := "isSpoiled", desc := "(J)Z" } : Jvm.MethodName)) ∈ lw_all := lw_g (lw_at lw_m7 78 rfl) rfl
theorem q1552 : (Jvm.Cond.selects "EdgefloatsModel$Row" ({ cls := "EdgefloatsModel$Row", name := "isSpoiled", desc := "(J)Z" } : Jvm.MethodName) ({ cls := "EdgefloatsModel$Row", name := "isSpoiled", desc := "(J)Z" } : Jvm.MethodName)) ∈ lw_all := lw_g (lw_at lw_m7 79 rfl) rfl
theorem q1553 : (Jvm.Cond.code ({ cls := "EdgefloatsModel$Row", name := "isSpoiled", desc := "(J)Z" } : Jvm.MethodName) prog_5_method_9_code (3 : Nat) (Option.some Jvm.ClassFile.FieldType.boolean)) ∈ lw_all := lw_g (lw_at lw_m7 80 rfl) rfl
theorem q1554 : (Jvm.Cond.methodLink "EdgefloatsModel$Row" (32 : Nat) ({ cls := "EdgefloatsModel$Row", name := "size", desc := "(J)J" } : Jvm.MethodName)) ∈ lw_all := lw_g (lw_at lw_m7 81 rfl) rfl
theorem q1555 : (Jvm.Cond.instanceMethod ({ cls := "EdgefloatsModel$Row", name := "size", desc := "(J)J" } : Jvm.MethodName)) ∈ lw_all := lw_g (lw_at lw_m7 82 rfl) rfl
theorem q1556 : (Jvm.Cond.selects "EdgefloatsModel$Row" ({ cls := "EdgefloatsModel$Row", name := "size", desc := "(J)J" } : Jvm.MethodName) ({ cls := "EdgefloatsModel$Row", name := "size", desc := "(J)J" } : Jvm.MethodName)) ∈ lw_all := lw_g (lw_at lw_m7 83 rfl) rfl
theorem q1557 : (Jvm.Cond.code ({ cls := "EdgefloatsModel$Row", name := "size", desc := "(J)J" } : Jvm.MethodName) prog_5_method_2_code (3 : Nat) (Option.some Jvm.ClassFile.FieldType.long)) ∈ lw_all := lw_g (lw_at lw_m7 84 rfl) rfl
theorem q1558 : (Jvm.Cond.methodLink "EdgefloatsModel$Row" (26 : Nat) ({ cls := "EdgefloatsModel$Row", name := "sign", desc := "()J" } : Jvm.MethodName)) ∈ lw_all := lw_g (lw_at lw_m7 85 rfl) rfl
theorem q1559 : (Jvm.Cond.instanceMethod ({ cls := "EdgefloatsModel$Row", name := "sign", desc := "()J" } : Jvm.MethodName)) ∈ lw_all := lw_g (lw_at lw_m7 86 rfl) rfl
theorem q1560 : (Jvm.Cond.selects "EdgefloatsModel$Row" ({ cls := "EdgefloatsModel$Row", name := "sign", desc := "()J" } : Jvm.MethodName) ({ cls := "EdgefloatsModel$Row", name := "sign", desc := "()J" } : Jvm.MethodName)) ∈ lw_all := lw_g (lw_at lw_m7 87 rfl) rfl
theorem q1561 : (Jvm.Cond.code ({ cls := "EdgefloatsModel$Row", name := "sign", desc := "()J" } : Jvm.MethodName) prog_5_method_3_code (1 : Nat) (Option.some Jvm.ClassFile.FieldType.long)) ∈ lw_all := lw_g (lw_at lw_m7 88 rfl) rfl
theorem q1562 : (Jvm.Cond.constantLong "EdgefloatsModel$Row" (30 : Nat) (-1 : Int64)) ∈ lw_all := lw_g (lw_at lw_m7 89 rfl) rfl
theorem q1563 : (Jvm.Cond.methodLink "EdgefloatsModel$Row" (36 : Nat) ({ cls := "EdgefloatsModel$Row", name := "endless", desc := "()J" } : Jvm.MethodName)) ∈ lw_all := lw_g (lw_at lw_m7 90 rfl) rfl
theorem q1564 : (Jvm.Cond.instanceMethod ({ cls := "EdgefloatsModel$Row", name := "endless", desc := "()J" } : Jvm.MethodName)) ∈ lw_all := lw_g (lw_at lw_m7 91 rfl) rfl
theorem q1565 : (Jvm.Cond.selects "EdgefloatsModel$Row" ({ cls := "EdgefloatsModel$Row", name := "endless", desc := "()J" } : Jvm.MethodName) ({ cls := "EdgefloatsModel$Row", name := "endless", desc := "()J" } : Jvm.MethodName)) ∈ lw_all := lw_g (lw_at lw_m7 92 rfl) rfl
theorem q1566 : (Jvm.Cond.code ({ cls := "EdgefloatsModel$Row", name := "endless", desc := "()J" } : Jvm.MethodName) prog_5_method_5_code (1 : Nat) (Option.some Jvm.ClassFile.FieldType.long)) ∈ lw_all := lw_g (lw_at lw_m7 93 rfl) rfl
theorem q1572 : (Jvm.Cond.instanceMethod ({ cls := "EdgefloatsModel$Row", name := "come", desc := "(IJ)I" } : Jvm.MethodName)) ∈ lw_all := lw_g (lw_at lw_m7 99 rfl) rfl
theorem q1573 : (Jvm.Cond.selects "EdgefloatsModel$Row" ({ cls := "EdgefloatsModel$Row", name := "come", desc := "(IJ)I" } : Jvm.MethodName) ({ cls := "EdgefloatsModel$Row", name := "come", desc := "(IJ)I" } : Jvm.MethodName)) ∈ lw_all := lw_g (lw_at lw_m7 100 rfl) rfl
theorem q1574 : (Jvm.Cond.code ({ cls := "EdgefloatsModel$Row", name := "come", desc := "(IJ)I" } : Jvm.MethodName) prog_5_method_19_code (5 : Nat) (Option.some Jvm.ClassFile.FieldType.int)) ∈ lw_all := lw_g (lw_at lw_m7 101 rfl) rfl
theorem q1584 : (Jvm.Cond.instanceMethod ({ cls := "EdgefloatsModel$Row", name := "made", desc := "(J)J" } : Jvm.MethodName)) ∈ lw_all := lw_g (lw_at lw_m7 111 rfl) rfl
theorem q1585 : (Jvm.Cond.selects "EdgefloatsModel$Row" ({ cls := "EdgefloatsModel$Row", name := "made", desc := "(J)J" } : Jvm.MethodName) ({ cls := "EdgefloatsModel$Row", name := "made", desc := "(J)J" } : Jvm.MethodName)) ∈ lw_all := lw_g (lw_at lw_m7 112 rfl) rfl
theorem q1586 : (Jvm.Cond.code ({ cls := "EdgefloatsModel$Row", name := "made", desc := "(J)J" } : Jvm.MethodName) prog_5_method_14_code (7 : Nat) (Option.some Jvm.ClassFile.FieldType.long)) ∈ lw_all := lw_g (lw_at lw_m7 113 rfl) rfl
theorem q1587 : (Jvm.Cond.constantLong "EdgefloatsModel$Row" (46 : Nat) (3 : Int64)) ∈ lw_all := lw_g (lw_at lw_m7 114 rfl) rfl
theorem q1588 : (Jvm.Cond.constantLong "EdgefloatsModel$Row" (48 : Nat) (2 : Int64)) ∈ lw_all := lw_g (lw_at lw_m7 115 rfl) rfl
theorem q1598 : (Jvm.Cond.instanceMethod ({ cls := "EdgefloatsModel$Row", name := "known", desc := "(I)J" } : Jvm.MethodName)) ∈ lw_all := lw_g (lw_at lw_m7 125 rfl) rfl
theorem q1599 : (Jvm.Cond.selects "EdgefloatsModel$Row" ({ cls := "EdgefloatsModel$Row", name := "known", desc := "(I)J" } : Jvm.MethodName) ({ cls := "EdgefloatsModel$Row", name := "known", desc := "(I)J" } : Jvm.MethodName)) ∈ lw_all := lw_g (lw_at lw_m7 126 rfl) rfl
theorem q1600 : (Jvm.Cond.code ({ cls := "EdgefloatsModel$Row", name := "known", desc := "(I)J" } : Jvm.MethodName) prog_5_method_13_code (2 : Nat) (Option.some Jvm.ClassFile.FieldType.long)) ∈ lw_all := lw_g (lw_at lw_m7 127 rfl) rfl
theorem q1621 : (Jvm.Cond.instanceMethod ({ cls := "EdgefloatsModel$Row", name := "swap", desc := "(II)I" } : Jvm.MethodName)) ∈ lw_all := lw_g (lw_at lw_m7 148 rfl) rfl
theorem q1622 : (Jvm.Cond.selects "EdgefloatsModel$Row" ({ cls := "EdgefloatsModel$Row", name := "swap", desc := "(II)I" } : Jvm.MethodName) ({ cls := "EdgefloatsModel$Row", name := "swap", desc := "(II)I" } : Jvm.MethodName)) ∈ lw_all := lw_g (lw_at lw_m7 149 rfl) rfl
theorem q1623 : (Jvm.Cond.code ({ cls := "EdgefloatsModel$Row", name := "swap", desc := "(II)I" } : Jvm.MethodName) prog_5_method_20_code (6 : Nat) (Option.some Jvm.ClassFile.FieldType.int)) ∈ lw_all := lw_g (lw_at lw_m7 150 rfl) rfl
theorem q1624 : (Jvm.Cond.methodLink "EdgefloatsModel$Row" (73 : Nat) ({ cls := "EdgefloatsModel$Row", name := "come", desc := "(IJ)I" } : Jvm.MethodName)) ∈ lw_all := lw_g (lw_at lw_m7 151 rfl) rfl
theorem q1634 : (Jvm.Cond.instanceMethod ({ cls := "EdgefloatsModel$Row", name := "order", desc := "(JJ)I" } : Jvm.MethodName)) ∈ lw_all := lw_g (lw_at lw_m7 161 rfl) rfl
theorem q1635 : (Jvm.Cond.selects "EdgefloatsModel$Row" ({ cls := "EdgefloatsModel$Row", name := "order", desc := "(JJ)I" } : Jvm.MethodName) ({ cls := "EdgefloatsModel$Row", name := "order", desc := "(JJ)I" } : Jvm.MethodName)) ∈ lw_all := lw_g (lw_at lw_m7 162 rfl) rfl
theorem q1636 : (Jvm.Cond.code ({ cls := "EdgefloatsModel$Row", name := "order", desc := "(JJ)I" } : Jvm.MethodName) prog_5_method_11_code (5 : Nat) (Option.some Jvm.ClassFile.FieldType.int)) ∈ lw_all := lw_g (lw_at lw_m7 163 rfl) rfl
theorem q1637 : (Jvm.Cond.methodLink "EdgefloatsModel$Row" (43 : Nat) ({ cls := "EdgefloatsModel$Row", name := "rank", desc := "(J)J" } : Jvm.MethodName)) ∈ lw_all := lw_g (lw_at lw_m7 164 rfl) rfl
theorem q1638 : (Jvm.Cond.instanceMethod ({ cls := "EdgefloatsModel$Row", name := "rank", desc := "(J)J" } : Jvm.MethodName)) ∈ lw_all := lw_g (lw_at lw_m7 165 rfl) rfl
theorem q1639 : (Jvm.Cond.selects "EdgefloatsModel$Row" ({ cls := "EdgefloatsModel$Row", name := "rank", desc := "(J)J" } : Jvm.MethodName) ({ cls := "EdgefloatsModel$Row", name := "rank", desc := "(J)J" } : Jvm.MethodName)) ∈ lw_all := lw_g (lw_at lw_m7 166 rfl) rfl
theorem q1640 : (Jvm.Cond.code ({ cls := "EdgefloatsModel$Row", name := "rank", desc := "(J)J" } : Jvm.MethodName) prog_5_method_10_code (3 : Nat) (Option.some Jvm.ClassFile.FieldType.long)) ∈ lw_all := lw_g (lw_at lw_m7 167 rfl) rfl
theorem q1641 : (Jvm.Cond.methodLink "EdgefloatsModel$Row" (39 : Nat) ({ cls := "EdgefloatsModel$Row", name := "isBelowZero", desc := "(J)Z" } : Jvm.MethodName)) ∈ lw_all := lw_g (lw_at lw_m7 168 rfl) rfl
theorem q1642 : (Jvm.Cond.instanceMethod ({ cls := "EdgefloatsModel$Row", name := "isBelowZero", desc := "(J)Z" } : Jvm.MethodName)) ∈ lw_all := lw_g (lw_at lw_m7 169 rfl) rfl
theorem q1643 : (Jvm.Cond.selects "EdgefloatsModel$Row" ({ cls := "EdgefloatsModel$Row", name := "isBelowZero", desc := "(J)Z" } : Jvm.MethodName) ({ cls := "EdgefloatsModel$Row", name := "isBelowZero", desc := "(J)Z" } : Jvm.MethodName)) ∈ lw_all := lw_g (lw_at lw_m7 170 rfl) rfl
theorem q1644 : (Jvm.Cond.code ({ cls := "EdgefloatsModel$Row", name := "isBelowZero", desc := "(J)Z" } : Jvm.MethodName) prog_5_method_4_code (3 : Nat) (Option.some Jvm.ClassFile.FieldType.boolean)) ∈ lw_all := lw_g (lw_at lw_m7 171 rfl) rfl
theorem q1658 : (Jvm.Cond.instanceMethod ({ cls := "EdgefloatsModel$Row", name := "haveSum", desc := "(JJ)Z" } : Jvm.MethodName)) ∈ lw_all := lw_g (lw_at lw_m7 185 rfl) rfl
theorem q1659 : (Jvm.Cond.selects "EdgefloatsModel$Row" ({ cls := "EdgefloatsModel$Row", name := "haveSum", desc := "(JJ)Z" } : Jvm.MethodName) ({ cls := "EdgefloatsModel$Row", name := "haveSum", desc := "(JJ)Z" } : Jvm.MethodName)) ∈ lw_all := lw_g (lw_at lw_m7 186 rfl) rfl
theorem q1660 : (Jvm.Cond.code ({ cls := "EdgefloatsModel$Row", name := "haveSum", desc := "(JJ)Z" } : Jvm.MethodName) prog_5_method_17_code (7 : Nat) (Option.some Jvm.ClassFile.FieldType.boolean)) ∈ lw_all := lw_g (lw_at lw_m7 187 rfl) rfl
theorem q1661 : (Jvm.Cond.methodLink "EdgefloatsModel$Row" (53 : Nat) ({ cls := "EdgefloatsModel$Row", name := "isEndless", desc := "(J)Z" } : Jvm.MethodName)) ∈ lw_all := lw_g (lw_at lw_m7 188 rfl) rfl
theorem q1662 : (Jvm.Cond.instanceMethod ({ cls := "EdgefloatsModel$Row", name := "isEndless", desc := "(J)Z" } : Jvm.MethodName)) ∈ lw_all := lw_g (lw_at lw_m7 189 rfl) rfl
theorem q1663 : (Jvm.Cond.selects "EdgefloatsModel$Row" ({ cls := "EdgefloatsModel$Row", name := "isEndless", desc := "(J)Z" } : Jvm.MethodName) ({ cls := "EdgefloatsModel$Row", name := "isEndless", desc := "(J)Z" } : Jvm.MethodName)) ∈ lw_all := lw_g (lw_at lw_m7 190 rfl) rfl
theorem q1664 : (Jvm.Cond.code ({ cls := "EdgefloatsModel$Row", name := "isEndless", desc := "(J)Z" } : Jvm.MethodName) prog_5_method_8_code (3 : Nat) (Option.some Jvm.ClassFile.FieldType.boolean)) ∈ lw_all := lw_g (lw_at lw_m7 191 rfl) rfl
theorem q1665 : (Jvm.Cond.methodLink "EdgefloatsModel$Row" (64 : Nat) ({ cls := "EdgefloatsModel$Row", name := "isQuarter", desc := "(J)Z" } : Jvm.MethodName)) ∈ lw_all := lw_g (lw_at lw_m7 192 rfl) rfl
theorem q1666 : (Jvm.Cond.instanceMethod ({ cls := "EdgefloatsModel$Row", name := "isQuarter", desc := "(J)Z" } : Jvm.MethodName)) ∈ lw_all := lw_g (lw_at lw_m7 193 rfl) rfl
theorem q1667 : (Jvm.Cond.selects "EdgefloatsModel$Row" ({ cls := "EdgefloatsModel$Row", name := "isQuarter", desc := "(J)Z" } : Jvm.MethodName) ({ cls := "EdgefloatsModel$Row", name := "isQuarter", desc := "(J)Z" } : Jvm.MethodName)) ∈ lw_all := lw_g (lw_at lw_m7 194 rfl) rfl
theorem q1668 : (Jvm.Cond.code ({ cls := "EdgefloatsModel$Row", name := "isQuarter", desc := "(J)Z" } : Jvm.MethodName) prog_5_method_16_code (3 : Nat) (Option.some Jvm.ClassFile.FieldType.boolean)) ∈ lw_all := lw_g (lw_at lw_m7 195 rfl) rfl
theorem q1669 : (Jvm.Cond.methodLink "EdgefloatsModel$Row" (60 : Nat) ({ cls := "EdgefloatsModel$Row", name := "count", desc := "(J)I" } : Jvm.MethodName)) ∈ lw_all := lw_g (lw_at lw_m7 196 rfl) rfl
theorem q1670 : (Jvm.Cond.instanceMethod ({ cls := "EdgefloatsModel$Row", name := "count", desc := "(J)I" } : Jvm.MethodName)) ∈ lw_all := lw_g (lw_at lw_m7 197 rfl) rfl
theorem q1671 : (Jvm.Cond.selects "EdgefloatsModel$Row" ({ cls := "EdgefloatsModel$Row", name := "count", desc := "(J)I" } : Jvm.MethodName) ({ cls := "EdgefloatsModel$Row", name := "count", desc := "(J)I" } : Jvm.MethodName)) ∈ lw_all := lw_g (lw_at lw_m7 198 rfl) rfl
theorem q1672 : (Jvm.Cond.code ({ cls := "EdgefloatsModel$Row", name := "count", desc := "(J)I" } : Jvm.MethodName) prog_5_method_15_code (9 : Nat) (Option.some Jvm.ClassFile.FieldType.int)) ∈ lw_all := lw_g (lw_at lw_m7 199 rfl) rfl
theorem q1673 : (Jvm.Cond.methodLink "EdgefloatsModel$Row" (50 : Nat) ({ cls := "EdgefloatsModel$Row", name := "exponent", desc := "(J)J" } : Jvm.MethodName)) ∈ lw_all := lw_g (lw_at lw_m7 200 rfl) rfl
theorem q1674 : (Jvm.Cond.instanceMethod ({ cls := "EdgefloatsModel$Row", name := "exponent", desc := "(J)J" } : Jvm.MethodName)) ∈ lw_all := lw_g (lw_at lw_m7 201 rfl) rfl
theorem q1675 : (Jvm.Cond.selects "EdgefloatsModel$Row" ({ cls := "EdgefloatsModel$Row", name := "exponent", desc := "(J)J" } : Jvm.MethodName) ({ cls := "EdgefloatsModel$Row", name := "exponent", desc := "(J)J" } : Jvm.MethodName)) ∈ lw_all := lw_g (lw_at lw_m7 202 rfl) rfl
theorem q1676 : (Jvm.Cond.code ({ cls := "EdgefloatsModel$Row", name := "exponent", desc := "(J)J" } : Jvm.MethodName) prog_5_method_6_code (3 : Nat) (Option.some Jvm.ClassFile.FieldType.long)) ∈ lw_all := lw_g (lw_at lw_m7 203 rfl) rfl
theorem q1677 : (Jvm.Cond.constant "EdgefloatsModel$Row" (56 : Nat) (-2147483648 : Int32)) ∈ lw_all := lw_g (lw_at lw_m7 204 rfl) rfl
theorem q1678 : (Jvm.Cond.methodLink "EdgefloatsModel$Row" (57 : Nat) ({ cls := "EdgefloatsModel$Row", name := "fraction", desc := "(J)J" } : Jvm.MethodName)) ∈ lw_all := lw_g (lw_at lw_m7 205 rfl) rfl
theorem q1679 : (Jvm.Cond.instanceMethod ({ cls := "EdgefloatsModel$Row", name := "fraction", desc := "(J)J" } : Jvm.MethodName)) ∈ lw_all := lw_g (lw_at lw_m7 206 rfl) rfl
theorem q1680 : (Jvm.Cond.selects "EdgefloatsModel$Row" ({ cls := "EdgefloatsModel$Row", name := "fraction", desc := "(J)J" } : Jvm.MethodName) ({ cls := "EdgefloatsModel$Row", name := "fraction", desc := "(J)J" } : Jvm.MethodName)) ∈ lw_all := lw_g (lw_at lw_m7 207 rfl) rfl
theorem q1681 : (Jvm.Cond.code ({ cls := "EdgefloatsModel$Row", name := "fraction", desc := "(J)J" } : Jvm.MethodName) prog_5_method_7_code (3 : Nat) (Option.some Jvm.ClassFile.FieldType.long)) ∈ lw_all := lw_g (lw_at lw_m7 208 rfl) rfl
theorem q1683 : (Jvm.Cond.instanceMethod ({ cls := "EdgefloatsModel$Row", name := "sum", desc := "(JJ)J" } : Jvm.MethodName)) ∈ lw_all := lw_g (lw_at lw_m7 210 rfl) rfl
theorem q1684 : (Jvm.Cond.selects "EdgefloatsModel$Row" ({ cls := "EdgefloatsModel$Row", name := "sum", desc := "(JJ)J" } : Jvm.MethodName) ({ cls := "EdgefloatsModel$Row", name := "sum", desc := "(JJ)J" } : Jvm.MethodName)) ∈ lw_all := lw_g (lw_at lw_m7 211 rfl) rfl
theorem q1685 : (Jvm.Cond.code ({ cls := "EdgefloatsModel$Row", name := "sum", desc := "(JJ)J" } : Jvm.MethodName) prog_5_method_18_code (5 : Nat) (Option.some Jvm.ClassFile.FieldType.long)) ∈ lw_all := lw_g (lw_at lw_m7 212 rfl) rfl
theorem q1686 : (Jvm.Cond.methodLink "EdgefloatsModel$Row" (67 : Nat) ({ cls := "EdgefloatsModel$Row", name := "made", desc := "(J)J" } : Jvm.MethodName)) ∈ lw_all := lw_g (lw_at lw_m7 213 rfl) rfl
theorem q1696 : (Jvm.Cond.instanceMethod ({ cls := "EdgefloatsModel$Row", name := "sort", desc := "()I" } : Jvm.MethodName)) ∈ lw_all := lw_g (lw_at lw_m7 223 rfl) rfl
theorem q1697 : (Jvm.Cond.selects "EdgefloatsModel$Row" ({ cls := "EdgefloatsModel$Row", name := "sort", desc := "()I" } : Jvm.MethodName) ({ cls := "EdgefloatsModel$Row", name := "sort", desc := "()I" } : Jvm.MethodName)) ∈ lw_all := lw_g (lw_at lw_m7 224 rfl) rfl
theorem q1698 : (Jvm.Cond.code ({ cls := "EdgefloatsModel$Row", name := "sort", desc := "()I" } : Jvm.MethodName) prog_5_method_22_code (6 : Nat) (Option.some Jvm.ClassFile.FieldType.int)) ∈ lw_all := lw_g (lw_at lw_m7 225 rfl) rfl
theorem q1699 : (Jvm.Cond.methodLink "EdgefloatsModel$Row" (77 : Nat) ({ cls := "EdgefloatsModel$Row", name := "order", desc := "(JJ)I" } : Jvm.MethodName)) ∈ lw_all := lw_g (lw_at lw_m7 226 rfl) rfl
theorem q1709 : (Jvm.Cond.instanceMethod ({ cls := "EdgefloatsModel$Row", name := "end", desc := "(Z)J" } : Jvm.MethodName)) ∈ lw_all := lw_g (lw_at lw_m7 236 rfl) rfl
theorem q1710 : (Jvm.Cond.selects "EdgefloatsModel$Row" ({ cls := "EdgefloatsModel$Row", name := "end", desc := "(Z)J" } : Jvm.MethodName) ({ cls := "EdgefloatsModel$Row", name := "end", desc := "(Z)J" } : Jvm.MethodName)) ∈ lw_all := lw_g (lw_at lw_m7 237 rfl) rfl
theorem q1711 : (Jvm.Cond.code ({ cls := "EdgefloatsModel$Row", name := "end", desc := "(Z)J" } : Jvm.MethodName) prog_5_method_21_code (9 : Nat) (Option.some Jvm.ClassFile.FieldType.long)) ∈ lw_all := lw_g (lw_at lw_m7 238 rfl) rfl
theorem q1730 : (Jvm.Cond.instanceMethod ({ cls := "EdgefloatsModel$Row", name := "text", desc := "(I)Ljava/lang/String;" } : Jvm.MethodName)) ∈ lw_all := lw_g (lw_at lw_m8 17 rfl) rfl
theorem q1731 : (Jvm.Cond.selects "EdgefloatsModel$Row" ({ cls := "EdgefloatsModel$Row", name := "text", desc := "(I)Ljava/lang/String;" } : Jvm.MethodName) ({ cls := "EdgefloatsModel$Row", name := "text", desc := "(I)Ljava/lang/String;" } : Jvm.MethodName)) ∈ lw_all := lw_g (lw_at lw_m8 18 rfl) rfl
theorem q1732 : (Jvm.Cond.code ({ cls := "EdgefloatsModel$Row", name := "text", desc := "(I)Ljava/lang/String;" } : Jvm.MethodName) prog_5_method_24_code (2 : Nat) (Option.some (Jvm.ClassFile.FieldType.object "java/lang/String"))) ∈ lw_all := lw_g (lw_at lw_m8 19 rfl) rfl
theorem q1733 : (Jvm.Cond.classLink "EdgefloatsModel$Row" (81 : Nat) "java/lang/StringBuilder") ∈ lw_all := lw_g (lw_at lw_m8 20 rfl) rfl
theorem q1734 : (Jvm.Cond.methodLink "EdgefloatsModel$Row" (83 : Nat) ({ cls := "java/lang/StringBuilder", name := "<init>", desc := "()V" } : Jvm.MethodName)) ∈ lw_all := lw_g (lw_at lw_m8 21 rfl) rfl
theorem q1735 : (Jvm.Cond.stringRef "EdgefloatsModel$Row" (84 : Nat) "1 ") ∈ lw_tbl := lw_at lw_m8 22 rfl
theorem q1736 : (Jvm.Cond.stringRef "EdgefloatsModel$Row" (86 : Nat) "0 ") ∈ lw_tbl := lw_at lw_m8 23 rfl
theorem q1737 : (Jvm.Cond.methodLink "EdgefloatsModel$Row" (88 : Nat) ({ cls := "java/lang/StringBuilder", name := "append", desc := "(Ljava/lang/String;)Ljava/lang/StringBuilder;" } : Jvm.MethodName)) ∈ lw_all := lw_g (lw_at lw_m8 24 rfl) rfl
theorem q1738 : (Jvm.Cond.methodLink "EdgefloatsModel$Row" (92 : Nat) ({ cls := "java/lang/StringBuilder", name := "append", desc := "(J)Ljava/lang/StringBuilder;" } : Jvm.MethodName)) ∈ lw_all := lw_g (lw_at lw_m8 25 rfl) rfl
theorem q1739 : (Jvm.Cond.stringRef "EdgefloatsModel$Row" (95 : Nat) " ") ∈ lw_tbl := lw_at lw_m8 26 rfl
theorem q1740 : (Jvm.Cond.methodLink "EdgefloatsModel$Row" (97 : Nat) ({ cls := "java/lang/StringBuilder", name := "toString", desc := "()Ljava/lang/String;" } : Jvm.MethodName)) ∈ lw_all := lw_g (lw_at lw_m8 27 rfl) rfl
theorem q1777 : (Jvm.Cond.instanceMethod ({ cls := "EdgefloatsModel$Row", name := "value", desc := "(J)J" } : Jvm.MethodName)) ∈ lw_all := lw_g (lw_at lw_m8 64 rfl) rfl
theorem q1778 : (Jvm.Cond.selects "EdgefloatsModel$Row" ({ cls := "EdgefloatsModel$Row", name := "value", desc := "(J)J" } : Jvm.MethodName) ({ cls := "EdgefloatsModel$Row", name := "value", desc := "(J)J" } : Jvm.MethodName)) ∈ lw_all := lw_g (lw_at lw_m8 65 rfl) rfl
theorem q1779 : (Jvm.Cond.code ({ cls := "EdgefloatsModel$Row", name := "value", desc := "(J)J" } : Jvm.MethodName) prog_5_method_12_code (3 : Nat) (Option.some Jvm.ClassFile.FieldType.long)) ∈ lw_all := lw_g (lw_at lw_m8 66 rfl) rfl
theorem q1823 : (Jvm.Cond.instanceMethod ({ cls := "EdgefloatsModel$Row", name := "find", desc := "(JZ)I" } : Jvm.MethodName)) ∈ lw_all := lw_g (lw_at lw_m8 110 rfl) rfl
theorem q1824 : (Jvm.Cond.selects "EdgefloatsModel$Row" ({ cls := "EdgefloatsModel$Row", name := "find", desc := "(JZ)I" } : Jvm.MethodName) ({ cls := "EdgefloatsModel$Row", name := "find", desc := "(JZ)I" } : Jvm.MethodName)) ∈ lw_all := lw_g (lw_at lw_m8 111 rfl) rfl
theorem q1825 : (Jvm.Cond.code ({ cls := "EdgefloatsModel$Row", name := "find", desc := "(JZ)I" } : Jvm.MethodName) prog_5_method_23_code (6 : Nat) (Option.some Jvm.ClassFile.FieldType.int)) ∈ lw_all := lw_g (lw_at lw_m8 112 rfl) rfl
theorem in_X3 : ∀ w ∈ wsX30, w ∈ lw_all := lw_in wsX30 [1498, 1500, 1502, 1504, 1506] (by decide +kernel) (by decide +kernel)
/-! EdgefloatsLaw$Out -/
set_option maxRecDepth 100000
def RX4 : String := "EdgefloatsLaw$Out"
def TX4 : u_T := fun k => match k with
  | 0 => ("EdgefloatsLaw$Out", "n", "J", false)
  | _ => ("EdgefloatsLaw$Out", "s", "Ljava/lang/String;", false)
def tyX4 : Nat → FieldType := fun k => match k with
  | 0 => .long
  | _ => .object "java/lang/String"
abbrev wsX40 : List Cond := u_ws RX4 TX4 2
theorem nmX4 : ∀ a, a < 2 → ∀ b, b < 2 → a ≠ b → (TX4 a).2.1 ≠ (TX4 b).2.1 := by decide +kernel
theorem tyX4_ok : ∀ k, k < 2 → parseFieldDescriptor (TX4 k).2.2.1 = some (tyX4 k) := by decide +kernel
abbrev cX4_init : ByteArray := prog_3_method_1_code
def yX4_init : MethodName := ⟨RX4, "<init>", "()V"⟩
theorem dX4_init_0 : decode cX4_init 0 = .ok (.aload_n 0, 1) := by decide +kernel
theorem dX4_init_1 : decode cX4_init 1 = .ok (.invokespecial 1, 3) := by decide +kernel
theorem dX4_init_4 : decode cX4_init 4 = .ok (.return_, 1) := by decide +kernel
theorem q40 : (Jvm.Cond.initialized "EdgefloatsLaw$Out") ∈ lw_all := lw_g (lw_at lw_m1 7 rfl) rfl
theorem q703 : (Jvm.Cond.instantiable "EdgefloatsLaw$Out" (2 : Nat)) ∈ lw_all := lw_g (lw_at lw_m3 190 rfl) rfl
theorem q705 : (Jvm.Cond.instanceMethod ({ cls := "EdgefloatsLaw$Out", name := "<init>", desc := "()V" } : Jvm.MethodName)) ∈ lw_all := lw_g (lw_at lw_m3 192 rfl) rfl
theorem q706 : (Jvm.Cond.code ({ cls := "EdgefloatsLaw$Out", name := "<init>", desc := "()V" } : Jvm.MethodName) prog_3_method_1_code (1 : Nat) (Option.none : Option Jvm.ClassFile.FieldType)) ∈ lw_all := lw_g (lw_at lw_m3 193 rfl) rfl
theorem q707 : (Jvm.Cond.methodLink "EdgefloatsLaw$Out" (1 : Nat) ({ cls := "java/lang/Object", name := "<init>", desc := "()V" } : Jvm.MethodName)) ∈ lw_all := lw_g (lw_at lw_m3 194 rfl) rfl
theorem q710 : (Jvm.Cond.lays "EdgefloatsLaw$Out" "EdgefloatsLaw$Out" "n" "J") ∈ lw_all := lw_g (lw_at lw_m3 197 rfl) rfl
theorem q711 : (Jvm.Cond.soleField "EdgefloatsLaw$Out" "n") ∈ lw_all := lw_g (lw_at lw_m3 198 rfl) rfl
theorem q712 : (Jvm.Cond.lays "EdgefloatsLaw$Out" "EdgefloatsLaw$Out" "s" "Ljava/lang/String;") ∈ lw_all := lw_g (lw_at lw_m3 199 rfl) rfl
theorem q713 : (Jvm.Cond.soleField "EdgefloatsLaw$Out" "s") ∈ lw_all := lw_g (lw_at lw_m3 200 rfl) rfl
theorem q714 : (Jvm.Cond.superclass "EdgefloatsLaw$Out" "java/lang/Object") ∈ lw_all := lw_g (lw_at lw_m3 201 rfl) rfl
theorem q1198 : (Jvm.Cond.selects "EdgefloatsLaw$Out" ({ cls := "java/lang/Object", name := "equals", desc := "(Ljava/lang/Object;)Z" } : Jvm.MethodName) ({ cls := "java/lang/Object", name := "equals", desc := "(Ljava/lang/Object;)Z" } : Jvm.MethodName)) ∈ lw_all := lw_g (lw_at lw_m5 205 rfl) rfl
theorem in_X4 : ∀ w ∈ wsX40, w ∈ lw_all := lw_in wsX40 [710, 712] (by decide +kernel) (by decide +kernel)
