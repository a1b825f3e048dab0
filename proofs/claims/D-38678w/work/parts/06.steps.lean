/-! THE z-LAYER, 2: the steps of the machine, each with its soundness out of a kit row -/
section ZS
variable {w : zG} {g : zM} {P : zPo} {own : String} {cc : ByteArray} {nL : Nat} {ret : Option FieldType} {nm : String} {hh : List (Nat × Nat × Nat × Nat)} {pc nx : Nat}
def s_iadd (nx : Nat) : zStep := fun P d rc rs lv st H K => match st with | .int y :: .int x :: rest => K nx rc rs lv (.int (x + y) :: rest) H | _ => False
theorem z_iadd (cx : zCx w g own cc nL ret nm hh) (hd0 : decode cc pc = .ok (.iadd, 1)) (hn : pc + 1 = nx) : zSnd w g P pc (s_iadd nx) := by
  intro d rc rs lv st H K hK hs
  unfold s_iadd at hs
  split at hs
  · subst hn
    intro hd hl ho k n locs ls hk hn9 hlo hlv
    exact lv_iadd cx.1 cx.2.1 hd0 (hK _ _ _ _ _ _ hs hd hl ho k n locs ls hk hn9 hlo hlv)
  · exact hs.elim
def s_isub (nx : Nat) : zStep := fun P d rc rs lv st H K => match st with | .int y :: .int x :: rest => K nx rc rs lv (.int (x - y) :: rest) H | _ => False
theorem z_isub (cx : zCx w g own cc nL ret nm hh) (hd0 : decode cc pc = .ok (.isub, 1)) (hn : pc + 1 = nx) : zSnd w g P pc (s_isub nx) := by
  intro d rc rs lv st H K hK hs
  unfold s_isub at hs
  split at hs
  · subst hn
    intro hd hl ho k n locs ls hk hn9 hlo hlv
    exact lv_isub cx.1 cx.2.1 hd0 (hK _ _ _ _ _ _ hs hd hl ho k n locs ls hk hn9 hlo hlv)
  · exact hs.elim
def s_imul (nx : Nat) : zStep := fun P d rc rs lv st H K => match st with | .int y :: .int x :: rest => K nx rc rs lv (.int (x * y) :: rest) H | _ => False
theorem z_imul (cx : zCx w g own cc nL ret nm hh) (hd0 : decode cc pc = .ok (.imul, 1)) (hn : pc + 1 = nx) : zSnd w g P pc (s_imul nx) := by
  intro d rc rs lv st H K hK hs
  unfold s_imul at hs
  split at hs
  · subst hn
    intro hd hl ho k n locs ls hk hn9 hlo hlv
    exact lv_imul cx.1 cx.2.1 hd0 (hK _ _ _ _ _ _ hs hd hl ho k n locs ls hk hn9 hlo hlv)
  · exact hs.elim
def s_iand (nx : Nat) : zStep := fun P d rc rs lv st H K => match st with | .int y :: .int x :: rest => K nx rc rs lv (.int (x &&& y) :: rest) H | _ => False
theorem z_iand (cx : zCx w g own cc nL ret nm hh) (hd0 : decode cc pc = .ok (.iand, 1)) (hn : pc + 1 = nx) : zSnd w g P pc (s_iand nx) := by
  intro d rc rs lv st H K hK hs
  unfold s_iand at hs
  split at hs
  · subst hn
    intro hd hl ho k n locs ls hk hn9 hlo hlv
    exact lv_iand cx.1 cx.2.1 hd0 (hK _ _ _ _ _ _ hs hd hl ho k n locs ls hk hn9 hlo hlv)
  · exact hs.elim
def s_ior (nx : Nat) : zStep := fun P d rc rs lv st H K => match st with | .int y :: .int x :: rest => K nx rc rs lv (.int (x ||| y) :: rest) H | _ => False
theorem z_ior (cx : zCx w g own cc nL ret nm hh) (hd0 : decode cc pc = .ok (.ior, 1)) (hn : pc + 1 = nx) : zSnd w g P pc (s_ior nx) := by
  intro d rc rs lv st H K hK hs
  unfold s_ior at hs
  split at hs
  · subst hn
    intro hd hl ho k n locs ls hk hn9 hlo hlv
    exact lv_ior cx.1 cx.2.1 hd0 (hK _ _ _ _ _ _ hs hd hl ho k n locs ls hk hn9 hlo hlv)
  · exact hs.elim
def s_ixor (nx : Nat) : zStep := fun P d rc rs lv st H K => match st with | .int y :: .int x :: rest => K nx rc rs lv (.int (x ^^^ y) :: rest) H | _ => False
theorem z_ixor (cx : zCx w g own cc nL ret nm hh) (hd0 : decode cc pc = .ok (.ixor, 1)) (hn : pc + 1 = nx) : zSnd w g P pc (s_ixor nx) := by
  intro d rc rs lv st H K hK hs
  unfold s_ixor at hs
  split at hs
  · subst hn
    intro hd hl ho k n locs ls hk hn9 hlo hlv
    exact lv_ixor cx.1 cx.2.1 hd0 (hK _ _ _ _ _ _ hs hd hl ho k n locs ls hk hn9 hlo hlv)
  · exact hs.elim
def s_idiv (nx : Nat) : zStep := fun P d rc rs lv st H K => match st with | .int y :: .int x :: rest => ¬ y = 0 ∧ K nx rc rs lv (.int (x / y) :: rest) H | _ => False
theorem z_idiv (cx : zCx w g own cc nL ret nm hh) (hd0 : decode cc pc = .ok (.idiv, 1)) (hn : pc + 1 = nx) : zSnd w g P pc (s_idiv nx) := by
  intro d rc rs lv st H K hK hs
  unfold s_idiv at hs
  split at hs
  · obtain ⟨hz, hs⟩ := hs
    subst hn
    intro hd hl ho k n locs ls hk hn9 hlo hlv
    exact lv_idiv cx.1 cx.2.1 hd0 hz (hK _ _ _ _ _ _ hs hd hl ho k n locs ls hk hn9 hlo hlv)
  · exact hs.elim
def s_irem (nx : Nat) : zStep := fun P d rc rs lv st H K => match st with | .int y :: .int x :: rest => ¬ y = 0 ∧ K nx rc rs lv (.int (x - x / y * y) :: rest) H | _ => False
theorem z_irem (cx : zCx w g own cc nL ret nm hh) (hd0 : decode cc pc = .ok (.irem, 1)) (hn : pc + 1 = nx) : zSnd w g P pc (s_irem nx) := by
  intro d rc rs lv st H K hK hs
  unfold s_irem at hs
  split at hs
  · obtain ⟨hz, hs⟩ := hs
    subst hn
    intro hd hl ho k n locs ls hk hn9 hlo hlv
    exact lv_irem cx.1 cx.2.1 hd0 hz (hK _ _ _ _ _ _ hs hd hl ho k n locs ls hk hn9 hlo hlv)
  · exact hs.elim
def s_ladd (nx : Nat) : zStep := fun P d rc rs lv st H K => match st with | .long y :: .long x :: rest => K nx rc rs lv (.long (x + y) :: rest) H | _ => False
theorem z_ladd (cx : zCx w g own cc nL ret nm hh) (hd0 : decode cc pc = .ok (.ladd, 1)) (hn : pc + 1 = nx) : zSnd w g P pc (s_ladd nx) := by
  intro d rc rs lv st H K hK hs
  unfold s_ladd at hs
  split at hs
  · subst hn
    intro hd hl ho k n locs ls hk hn9 hlo hlv
    exact lv_ladd cx.1 cx.2.1 hd0 (hK _ _ _ _ _ _ hs hd hl ho k n locs ls hk hn9 hlo hlv)
  · exact hs.elim
def s_lsub (nx : Nat) : zStep := fun P d rc rs lv st H K => match st with | .long y :: .long x :: rest => K nx rc rs lv (.long (x - y) :: rest) H | _ => False
theorem z_lsub (cx : zCx w g own cc nL ret nm hh) (hd0 : decode cc pc = .ok (.lsub, 1)) (hn : pc + 1 = nx) : zSnd w g P pc (s_lsub nx) := by
  intro d rc rs lv st H K hK hs
  unfold s_lsub at hs
  split at hs
  · subst hn
    intro hd hl ho k n locs ls hk hn9 hlo hlv
    exact lv_lsub cx.1 cx.2.1 hd0 (hK _ _ _ _ _ _ hs hd hl ho k n locs ls hk hn9 hlo hlv)
  · exact hs.elim
def s_lmul (nx : Nat) : zStep := fun P d rc rs lv st H K => match st with | .long y :: .long x :: rest => K nx rc rs lv (.long (x * y) :: rest) H | _ => False
theorem z_lmul (cx : zCx w g own cc nL ret nm hh) (hd0 : decode cc pc = .ok (.lmul, 1)) (hn : pc + 1 = nx) : zSnd w g P pc (s_lmul nx) := by
  intro d rc rs lv st H K hK hs
  unfold s_lmul at hs
  split at hs
  · subst hn
    intro hd hl ho k n locs ls hk hn9 hlo hlv
    exact lv_lmul cx.1 cx.2.1 hd0 (hK _ _ _ _ _ _ hs hd hl ho k n locs ls hk hn9 hlo hlv)
  · exact hs.elim
def s_land (nx : Nat) : zStep := fun P d rc rs lv st H K => match st with | .long y :: .long x :: rest => K nx rc rs lv (.long (x &&& y) :: rest) H | _ => False
theorem z_land (cx : zCx w g own cc nL ret nm hh) (hd0 : decode cc pc = .ok (.land, 1)) (hn : pc + 1 = nx) : zSnd w g P pc (s_land nx) := by
  intro d rc rs lv st H K hK hs
  unfold s_land at hs
  split at hs
  · subst hn
    intro hd hl ho k n locs ls hk hn9 hlo hlv
    exact lv_land cx.1 cx.2.1 hd0 (hK _ _ _ _ _ _ hs hd hl ho k n locs ls hk hn9 hlo hlv)
  · exact hs.elim
def s_lor (nx : Nat) : zStep := fun P d rc rs lv st H K => match st with | .long y :: .long x :: rest => K nx rc rs lv (.long (x ||| y) :: rest) H | _ => False
theorem z_lor (cx : zCx w g own cc nL ret nm hh) (hd0 : decode cc pc = .ok (.lor, 1)) (hn : pc + 1 = nx) : zSnd w g P pc (s_lor nx) := by
  intro d rc rs lv st H K hK hs
  unfold s_lor at hs
  split at hs
  · subst hn
    intro hd hl ho k n locs ls hk hn9 hlo hlv
    exact lv_lor cx.1 cx.2.1 hd0 (hK _ _ _ _ _ _ hs hd hl ho k n locs ls hk hn9 hlo hlv)
  · exact hs.elim
def s_lxor (nx : Nat) : zStep := fun P d rc rs lv st H K => match st with | .long y :: .long x :: rest => K nx rc rs lv (.long (x ^^^ y) :: rest) H | _ => False
theorem z_lxor (cx : zCx w g own cc nL ret nm hh) (hd0 : decode cc pc = .ok (.lxor, 1)) (hn : pc + 1 = nx) : zSnd w g P pc (s_lxor nx) := by
  intro d rc rs lv st H K hK hs
  unfold s_lxor at hs
  split at hs
  · subst hn
    intro hd hl ho k n locs ls hk hn9 hlo hlv
    exact lv_lxor cx.1 cx.2.1 hd0 (hK _ _ _ _ _ _ hs hd hl ho k n locs ls hk hn9 hlo hlv)
  · exact hs.elim
def s_ldiv (nx : Nat) : zStep := fun P d rc rs lv st H K => match st with | .long y :: .long x :: rest => ¬ y = 0 ∧ K nx rc rs lv (.long (x / y) :: rest) H | _ => False
theorem z_ldiv (cx : zCx w g own cc nL ret nm hh) (hd0 : decode cc pc = .ok (.ldiv, 1)) (hn : pc + 1 = nx) : zSnd w g P pc (s_ldiv nx) := by
  intro d rc rs lv st H K hK hs
  unfold s_ldiv at hs
  split at hs
  · obtain ⟨hz, hs⟩ := hs
    subst hn
    intro hd hl ho k n locs ls hk hn9 hlo hlv
    exact lv_ldiv cx.1 cx.2.1 hd0 hz (hK _ _ _ _ _ _ hs hd hl ho k n locs ls hk hn9 hlo hlv)
  · exact hs.elim
def s_lrem (nx : Nat) : zStep := fun P d rc rs lv st H K => match st with | .long y :: .long x :: rest => ¬ y = 0 ∧ K nx rc rs lv (.long (x - x / y * y) :: rest) H | _ => False
theorem z_lrem (cx : zCx w g own cc nL ret nm hh) (hd0 : decode cc pc = .ok (.lrem, 1)) (hn : pc + 1 = nx) : zSnd w g P pc (s_lrem nx) := by
  intro d rc rs lv st H K hK hs
  unfold s_lrem at hs
  split at hs
  · obtain ⟨hz, hs⟩ := hs
    subst hn
    intro hd hl ho k n locs ls hk hn9 hlo hlv
    exact lv_lrem cx.1 cx.2.1 hd0 hz (hK _ _ _ _ _ _ hs hd hl ho k n locs ls hk hn9 hlo hlv)
  · exact hs.elim
def s_ishl (nx : Nat) : zStep := fun P d rc rs lv st H K => match st with | .int y :: .int x :: rest => K nx rc rs lv (.int (x <<< (y &&& 31)) :: rest) H | _ => False
theorem z_ishl (cx : zCx w g own cc nL ret nm hh) (hd0 : decode cc pc = .ok (.ishl, 1)) (hn : pc + 1 = nx) : zSnd w g P pc (s_ishl nx) := by
  intro d rc rs lv st H K hK hs
  unfold s_ishl at hs
  split at hs
  · subst hn
    intro hd hl ho k n locs ls hk hn9 hlo hlv
    exact lv_ishl cx.1 cx.2.1 hd0 (hK _ _ _ _ _ _ hs hd hl ho k n locs ls hk hn9 hlo hlv)
  · exact hs.elim
def s_ishr (nx : Nat) : zStep := fun P d rc rs lv st H K => match st with | .int y :: .int x :: rest => K nx rc rs lv (.int (x >>> (y &&& 31)) :: rest) H | _ => False
theorem z_ishr (cx : zCx w g own cc nL ret nm hh) (hd0 : decode cc pc = .ok (.ishr, 1)) (hn : pc + 1 = nx) : zSnd w g P pc (s_ishr nx) := by
  intro d rc rs lv st H K hK hs
  unfold s_ishr at hs
  split at hs
  · subst hn
    intro hd hl ho k n locs ls hk hn9 hlo hlv
    exact lv_ishr cx.1 cx.2.1 hd0 (hK _ _ _ _ _ _ hs hd hl ho k n locs ls hk hn9 hlo hlv)
  · exact hs.elim
def s_iushr (nx : Nat) : zStep := fun P d rc rs lv st H K => match st with | .int y :: .int x :: rest => K nx rc rs lv (.int (x.toUInt32 >>> (y.toUInt32 &&& Int32.toUInt32 31)).toInt32 :: rest) H | _ => False
theorem z_iushr (cx : zCx w g own cc nL ret nm hh) (hd0 : decode cc pc = .ok (.iushr, 1)) (hn : pc + 1 = nx) : zSnd w g P pc (s_iushr nx) := by
  intro d rc rs lv st H K hK hs
  unfold s_iushr at hs
  split at hs
  · subst hn
    intro hd hl ho k n locs ls hk hn9 hlo hlv
    exact lv_iushr cx.1 cx.2.1 hd0 rfl (hK _ _ _ _ _ _ hs hd hl ho k n locs ls hk hn9 hlo hlv)
  · exact hs.elim
def s_lshl (nx : Nat) : zStep := fun P d rc rs lv st H K => match st with | .int y :: .long x :: rest => K nx rc rs lv (.long (x <<< (y.toInt64 &&& 63)) :: rest) H | _ => False
theorem z_lshl (cx : zCx w g own cc nL ret nm hh) (hd0 : decode cc pc = .ok (.lshl, 1)) (hn : pc + 1 = nx) : zSnd w g P pc (s_lshl nx) := by
  intro d rc rs lv st H K hK hs
  unfold s_lshl at hs
  split at hs
  · subst hn
    intro hd hl ho k n locs ls hk hn9 hlo hlv
    exact lv_lshl cx.1 cx.2.1 hd0 rfl (hK _ _ _ _ _ _ hs hd hl ho k n locs ls hk hn9 hlo hlv)
  · exact hs.elim
def s_lshr (nx : Nat) : zStep := fun P d rc rs lv st H K => match st with | .int y :: .long x :: rest => K nx rc rs lv (.long (x >>> (y.toInt64 &&& 63)) :: rest) H | _ => False
theorem z_lshr (cx : zCx w g own cc nL ret nm hh) (hd0 : decode cc pc = .ok (.lshr, 1)) (hn : pc + 1 = nx) : zSnd w g P pc (s_lshr nx) := by
  intro d rc rs lv st H K hK hs
  unfold s_lshr at hs
  split at hs
  · subst hn
    intro hd hl ho k n locs ls hk hn9 hlo hlv
    exact lv_lshr cx.1 cx.2.1 hd0 rfl (hK _ _ _ _ _ _ hs hd hl ho k n locs ls hk hn9 hlo hlv)
  · exact hs.elim
def s_lushr (nx : Nat) : zStep := fun P d rc rs lv st H K => match st with | .int y :: .long x :: rest => K nx rc rs lv (.long (x.toUInt64 >>> (y.toInt64.toUInt64 &&& Int64.toUInt64 63)).toInt64 :: rest) H | _ => False
theorem z_lushr (cx : zCx w g own cc nL ret nm hh) (hd0 : decode cc pc = .ok (.lushr, 1)) (hn : pc + 1 = nx) : zSnd w g P pc (s_lushr nx) := by
  intro d rc rs lv st H K hK hs
  unfold s_lushr at hs
  split at hs
  · subst hn
    intro hd hl ho k n locs ls hk hn9 hlo hlv
    exact lv_lushr cx.1 cx.2.1 hd0 rfl (hK _ _ _ _ _ _ hs hd hl ho k n locs ls hk hn9 hlo hlv)
  · exact hs.elim
def s_ineg (nx : Nat) : zStep := fun P d rc rs lv st H K => match st with | .int x :: rest => K nx rc rs lv (.int (-x) :: rest) H | _ => False
theorem z_ineg (cx : zCx w g own cc nL ret nm hh) (hd0 : decode cc pc = .ok (.ineg, 1)) (hn : pc + 1 = nx) : zSnd w g P pc (s_ineg nx) := by
  intro d rc rs lv st H K hK hs
  unfold s_ineg at hs
  split at hs
  · subst hn
    intro hd hl ho k n locs ls hk hn9 hlo hlv
    exact lv_ineg cx.1 cx.2.1 hd0 (hK _ _ _ _ _ _ hs hd hl ho k n locs ls hk hn9 hlo hlv)
  · exact hs.elim
def s_lneg (nx : Nat) : zStep := fun P d rc rs lv st H K => match st with | .long x :: rest => K nx rc rs lv (.long (-x) :: rest) H | _ => False
theorem z_lneg (cx : zCx w g own cc nL ret nm hh) (hd0 : decode cc pc = .ok (.lneg, 1)) (hn : pc + 1 = nx) : zSnd w g P pc (s_lneg nx) := by
  intro d rc rs lv st H K hK hs
  unfold s_lneg at hs
  split at hs
  · subst hn
    intro hd hl ho k n locs ls hk hn9 hlo hlv
    exact lv_lneg cx.1 cx.2.1 hd0 (hK _ _ _ _ _ _ hs hd hl ho k n locs ls hk hn9 hlo hlv)
  · exact hs.elim
def s_i2l (nx : Nat) : zStep := fun P d rc rs lv st H K => match st with | .int x :: rest => K nx rc rs lv (.long x.toInt64 :: rest) H | _ => False
theorem z_i2l (cx : zCx w g own cc nL ret nm hh) (hd0 : decode cc pc = .ok (.i2l, 1)) (hn : pc + 1 = nx) : zSnd w g P pc (s_i2l nx) := by
  intro d rc rs lv st H K hK hs
  unfold s_i2l at hs
  split at hs
  · subst hn
    intro hd hl ho k n locs ls hk hn9 hlo hlv
    exact lv_i2l cx.1 cx.2.1 hd0 rfl (hK _ _ _ _ _ _ hs hd hl ho k n locs ls hk hn9 hlo hlv)
  · exact hs.elim
def s_l2i (nx : Nat) : zStep := fun P d rc rs lv st H K => match st with | .long x :: rest => K nx rc rs lv (.int x.toInt32 :: rest) H | _ => False
theorem z_l2i (cx : zCx w g own cc nL ret nm hh) (hd0 : decode cc pc = .ok (.l2i, 1)) (hn : pc + 1 = nx) : zSnd w g P pc (s_l2i nx) := by
  intro d rc rs lv st H K hK hs
  unfold s_l2i at hs
  split at hs
  · subst hn
    intro hd hl ho k n locs ls hk hn9 hlo hlv
    exact lv_l2i cx.1 cx.2.1 hd0 rfl (hK _ _ _ _ _ _ hs hd hl ho k n locs ls hk hn9 hlo hlv)
  · exact hs.elim
def s_i2b (nx : Nat) : zStep := fun P d rc rs lv st H K => match st with | .int x :: rest => K nx rc rs lv (.int x.toInt8.toInt32 :: rest) H | _ => False
theorem z_i2b (cx : zCx w g own cc nL ret nm hh) (hd0 : decode cc pc = .ok (.i2b, 1)) (hn : pc + 1 = nx) : zSnd w g P pc (s_i2b nx) := by
  intro d rc rs lv st H K hK hs
  unfold s_i2b at hs
  split at hs
  · subst hn
    intro hd hl ho k n locs ls hk hn9 hlo hlv
    exact lv_i2b cx.1 cx.2.1 hd0 rfl (hK _ _ _ _ _ _ hs hd hl ho k n locs ls hk hn9 hlo hlv)
  · exact hs.elim
def s_i2c (nx : Nat) : zStep := fun P d rc rs lv st H K => match st with | .int x :: rest => K nx rc rs lv (.int (x.toUInt32 % 65536).toInt32 :: rest) H | _ => False
theorem z_i2c (cx : zCx w g own cc nL ret nm hh) (hd0 : decode cc pc = .ok (.i2c, 1)) (hn : pc + 1 = nx) : zSnd w g P pc (s_i2c nx) := by
  intro d rc rs lv st H K hK hs
  unfold s_i2c at hs
  split at hs
  · subst hn
    intro hd hl ho k n locs ls hk hn9 hlo hlv
    exact lv_i2c cx.1 cx.2.1 hd0 rfl (hK _ _ _ _ _ _ hs hd hl ho k n locs ls hk hn9 hlo hlv)
  · exact hs.elim
def s_i2d (nx : Nat) : zStep := fun P d rc rs lv st H K => match st with | .int x :: rest => K nx rc rs lv (.double (FP.i2d x) :: rest) H | _ => False
theorem z_i2d (cx : zCx w g own cc nL ret nm hh) (hd0 : decode cc pc = .ok (.i2d, 1)) (hn : pc + 1 = nx) : zSnd w g P pc (s_i2d nx) := by
  intro d rc rs lv st H K hK hs
  unfold s_i2d at hs
  split at hs
  · subst hn
    intro hd hl ho k n locs ls hk hn9 hlo hlv
    exact lv_i2d cx.1 cx.2.1 hd0 (hK _ _ _ _ _ _ hs hd hl ho k n locs ls hk hn9 hlo hlv)
  · exact hs.elim
def s_i2f (nx : Nat) : zStep := fun P d rc rs lv st H K => match st with | .int x :: rest => K nx rc rs lv (.float (FP.i2f x) :: rest) H | _ => False
theorem z_i2f (cx : zCx w g own cc nL ret nm hh) (hd0 : decode cc pc = .ok (.i2f, 1)) (hn : pc + 1 = nx) : zSnd w g P pc (s_i2f nx) := by
  intro d rc rs lv st H K hK hs
  unfold s_i2f at hs
  split at hs
  · subst hn
    intro hd hl ho k n locs ls hk hn9 hlo hlv
    exact lv_i2f cx.1 cx.2.1 hd0 (hK _ _ _ _ _ _ hs hd hl ho k n locs ls hk hn9 hlo hlv)
  · exact hs.elim
def s_lcmp (nx : Nat) : zStep := fun P d rc rs lv st H K => match st with | .long y :: .long x :: rest => K nx rc rs lv (.int (lg_cmp x y) :: rest) H | _ => False
theorem z_lcmp (cx : zCx w g own cc nL ret nm hh) (hd0 : decode cc pc = .ok (.lcmp, 1)) (hn : pc + 1 = nx) : zSnd w g P pc (s_lcmp nx) := by
  intro d rc rs lv st H K hK hs
  unfold s_lcmp at hs
  split at hs
  · subst hn
    intro hd hl ho k n locs ls hk hn9 hlo hlv
    exact W.lcmp cx.1 cx.2.1 hd0 (hK _ _ _ _ _ _ hs hd hl ho k n locs ls hk hn9 hlo hlv)
  · exact hs.elim
def s_dcmp (op : CmpOp) (nx : Nat) : zStep := fun P d rc rs lv st H K => match st with | .double y :: .double x :: rest => K nx rc rs lv (.int (Op.cmpValue (FP.dcmp x y) op) :: rest) H | _ => False
theorem z_dcmp (cx : zCx w g own cc nL ret nm hh) {op : CmpOp} (hd0 : decode cc pc = .ok (.dcmp op, 1)) (hn : pc + 1 = nx) : zSnd w g P pc (s_dcmp op nx) := by
  intro d rc rs lv st H K hK hs
  unfold s_dcmp at hs
  split at hs
  · subst hn
    intro hd hl ho k n locs ls hk hn9 hlo hlv
    exact lv_dcmp cx.1 cx.2.1 hd0 (hK _ _ _ _ _ _ hs hd hl ho k n locs ls hk hn9 hlo hlv)
  · exact hs.elim
def s_dadd (nx : Nat) : zStep := fun P d rc rs lv st H K => match st with | .double y :: .double x :: rest => vf_n64 (FP.dadd x y) ∧ K nx rc rs lv (.double (FP.dadd x y) :: rest) H | _ => False
theorem z_dadd (cx : zCx w g own cc nL ret nm hh) (hd0 : decode cc pc = .ok (.dadd, 1)) (hn : pc + 1 = nx) : zSnd w g P pc (s_dadd nx) := by
  intro d rc rs lv st H K hK hs
  unfold s_dadd at hs
  split at hs
  · obtain ⟨hz, hs⟩ := hs
    subst hn
    intro hd hl ho k n locs ls hk hn9 hlo hlv
    exact lv_dadd cx.1 cx.2.1 hd0 hz (hK _ _ _ _ _ _ hs hd hl ho k n locs ls hk hn9 hlo hlv)
  · exact hs.elim
def s_dmul (nx : Nat) : zStep := fun P d rc rs lv st H K => match st with | .double y :: .double x :: rest => vf_n64 (FP.dmul x y) ∧ K nx rc rs lv (.double (FP.dmul x y) :: rest) H | _ => False
theorem z_dmul (cx : zCx w g own cc nL ret nm hh) (hd0 : decode cc pc = .ok (.dmul, 1)) (hn : pc + 1 = nx) : zSnd w g P pc (s_dmul nx) := by
  intro d rc rs lv st H K hK hs
  unfold s_dmul at hs
  split at hs
  · obtain ⟨hz, hs⟩ := hs
    subst hn
    intro hd hl ho k n locs ls hk hn9 hlo hlv
    exact lv_dmul cx.1 cx.2.1 hd0 hz (hK _ _ _ _ _ _ hs hd hl ho k n locs ls hk hn9 hlo hlv)
  · exact hs.elim
def s_fcmp (op : CmpOp) (nx : Nat) : zStep := fun P d rc rs lv st H K => match st with | .float y :: .float x :: rest => K nx rc rs lv (.int (Op.cmpValue (FP.fcmp x y) op) :: rest) H | _ => False
theorem z_fcmp (cx : zCx w g own cc nL ret nm hh) {op : CmpOp} (hd0 : decode cc pc = .ok (.fcmp op, 1)) (hn : pc + 1 = nx) : zSnd w g P pc (s_fcmp op nx) := by
  intro d rc rs lv st H K hK hs
  unfold s_fcmp at hs
  split at hs
  · subst hn
    intro hd hl ho k n locs ls hk hn9 hlo hlv
    exact lv_fcmp cx.1 cx.2.1 hd0 (hK _ _ _ _ _ _ hs hd hl ho k n locs ls hk hn9 hlo hlv)
  · exact hs.elim
def s_fadd (nx : Nat) : zStep := fun P d rc rs lv st H K => match st with | .float y :: .float x :: rest => vf_n32 (FP.fadd x y) ∧ K nx rc rs lv (.float (FP.fadd x y) :: rest) H | _ => False
theorem z_fadd (cx : zCx w g own cc nL ret nm hh) (hd0 : decode cc pc = .ok (.fadd, 1)) (hn : pc + 1 = nx) : zSnd w g P pc (s_fadd nx) := by
  intro d rc rs lv st H K hK hs
  unfold s_fadd at hs
  split at hs
  · obtain ⟨hz, hs⟩ := hs
    subst hn
    intro hd hl ho k n locs ls hk hn9 hlo hlv
    exact lv_fadd cx.1 cx.2.1 hd0 hz (hK _ _ _ _ _ _ hs hd hl ho k n locs ls hk hn9 hlo hlv)
  · exact hs.elim
def s_fmul (nx : Nat) : zStep := fun P d rc rs lv st H K => match st with | .float y :: .float x :: rest => vf_n32 (FP.fmul x y) ∧ K nx rc rs lv (.float (FP.fmul x y) :: rest) H | _ => False
theorem z_fmul (cx : zCx w g own cc nL ret nm hh) (hd0 : decode cc pc = .ok (.fmul, 1)) (hn : pc + 1 = nx) : zSnd w g P pc (s_fmul nx) := by
  intro d rc rs lv st H K hK hs
  unfold s_fmul at hs
  split at hs
  · obtain ⟨hz, hs⟩ := hs
    subst hn
    intro hd hl ho k n locs ls hk hn9 hlo hlv
    exact lv_fmul cx.1 cx.2.1 hd0 hz (hK _ _ _ _ _ _ hs hd hl ho k n locs ls hk hn9 hlo hlv)
  · exact hs.elim
def s_pu (v : Value) (nx : Nat) : zStep := fun P d rc rs lv st H K => K nx rc rs lv (v :: st) H
theorem z_iconst (cx : zCx w g own cc nL ret nm hh) {i : Int} {v : Int32} (hv : Int32.ofInt i = v) (hd0 : decode cc pc = .ok (.iconst i, 1)) (hn : pc + 1 = nx) : zSnd w g P pc (s_pu (.int v) nx) := by
  intro d rc rs lv st H K hK hs
  unfold s_pu at hs
  subst hn
  intro hd hl ho k n locs ls hk hn9 hlo hlv
  exact lv_iconst cx.1 cx.2.1 hd0 hv (hK _ _ _ _ _ _ hs hd hl ho k n locs ls hk hn9 hlo hlv)
theorem z_bipush (cx : zCx w g own cc nL ret nm hh) {i : Int} {v : Int32} (hv : (Int8.ofInt i).toInt32 = v) (hd0 : decode cc pc = .ok (.bipush i, 2)) (hn : pc + 2 = nx) : zSnd w g P pc (s_pu (.int v) nx) := by
  intro d rc rs lv st H K hK hs
  unfold s_pu at hs
  subst hn
  intro hd hl ho k n locs ls hk hn9 hlo hlv
  exact lv_bipush cx.1 cx.2.1 hd0 hv (hK _ _ _ _ _ _ hs hd hl ho k n locs ls hk hn9 hlo hlv)
theorem z_sipush (cx : zCx w g own cc nL ret nm hh) {i : Int} {v : Int32} (hv : (Int16.ofInt i).toInt32 = v) (hd0 : decode cc pc = .ok (.sipush i, 3)) (hn : pc + 3 = nx) : zSnd w g P pc (s_pu (.int v) nx) := by
  intro d rc rs lv st H K hK hs
  unfold s_pu at hs
  subst hn
  intro hd hl ho k n locs ls hk hn9 hlo hlv
  exact lv_sipush cx.1 cx.2.1 hd0 hv (hK _ _ _ _ _ _ hs hd hl ho k n locs ls hk hn9 hlo hlv)
theorem z_lconst (cx : zCx w g own cc nL ret nm hh) {i : Fin 2} {v : Int64} (hv : Int64.ofNat (i : Nat) = v) (hd0 : decode cc pc = .ok (.lconst i, 1)) (hn : pc + 1 = nx) : zSnd w g P pc (s_pu (.long v) nx) := by
  intro d rc rs lv st H K hK hs
  unfold s_pu at hs
  subst hn
  intro hd hl ho k n locs ls hk hn9 hlo hlv
  exact lv_lconst cx.1 cx.2.1 hd0 hv (hK _ _ _ _ _ _ hs hd hl ho k n locs ls hk hn9 hlo hlv)
theorem z_dconst0 (cx : zCx w g own cc nL ret nm hh) (hd0 : decode cc pc = .ok (.dconst 0, 1)) (hn : pc + 1 = nx) : zSnd w g P pc (s_pu (.double FP.dconst0) nx) := by
  intro d rc rs lv st H K hK hs
  unfold s_pu at hs
  subst hn
  intro hd hl ho k n locs ls hk hn9 hlo hlv
  exact lv_dconst0 cx.1 cx.2.1 hd0 (hK _ _ _ _ _ _ hs hd hl ho k n locs ls hk hn9 hlo hlv)
theorem z_fconst0 (cx : zCx w g own cc nL ret nm hh) (hd0 : decode cc pc = .ok (.fconst 0, 1)) (hn : pc + 1 = nx) : zSnd w g P pc (s_pu (.float FP.fconst0) nx) := by
  intro d rc rs lv st H K hK hs
  unfold s_pu at hs
  subst hn
  intro hd hl ho k n locs ls hk hn9 hlo hlv
  exact lv_fconst0 cx.1 cx.2.1 hd0 (hK _ _ _ _ _ _ hs hd hl ho k n locs ls hk hn9 hlo hlv)
theorem z_null (cx : zCx w g own cc nL ret nm hh) (hd0 : decode cc pc = .ok (.aconst_null, 1)) (hn : pc + 1 = nx) : zSnd w g P pc (s_pu (.null) nx) := by
  intro d rc rs lv st H K hK hs
  unfold s_pu at hs
  subst hn
  intro hd hl ho k n locs ls hk hn9 hlo hlv
  exact lv_null cx.1 cx.2.1 hd0 (hK _ _ _ _ _ _ hs hd hl ho k n locs ls hk hn9 hlo hlv)
theorem z_ldc (cx : zCx w g own cc nL ret nm hh) {idx : Nat} {v : Int32} (hq : Cond.constant own idx v ∈ lw_all) (hd0 : decode cc pc = .ok (.ldc idx, 2)) (hn : pc + 2 = nx) : zSnd w g P pc (s_pu (.int v) nx) := by
  intro d rc rs lv st H K hK hs
  unfold s_pu at hs
  subst hn
  intro hd hl ho k n locs ls hk hn9 hlo hlv
  exact lv_ldc cx.1 cx.2.1 cx.2.2.2.2.1 (cx.2.2.2.2.2.1 _ hq) hd0 (hK _ _ _ _ _ _ hs hd hl ho k n locs ls hk hn9 hlo hlv)
theorem z_ldcw (cx : zCx w g own cc nL ret nm hh) {idx : Nat} {v : Int32} (hq : Cond.constant own idx v ∈ lw_all) (hd0 : decode cc pc = .ok (.ldc_w idx, 3)) (hn : pc + 3 = nx) : zSnd w g P pc (s_pu (.int v) nx) := by
  intro d rc rs lv st H K hK hs
  unfold s_pu at hs
  subst hn
  intro hd hl ho k n locs ls hk hn9 hlo hlv
  exact lv_ldcw cx.1 cx.2.1 cx.2.2.2.2.1 (cx.2.2.2.2.2.1 _ hq) hd0 (hK _ _ _ _ _ _ hs hd hl ho k n locs ls hk hn9 hlo hlv)
theorem z_ldcf (cx : zCx w g own cc nL ret nm hh) {idx : Nat} {v : UInt32} (hq : Cond.constantFloat own idx v ∈ lw_all) (hd0 : decode cc pc = .ok (.ldc idx, 2)) (hn : pc + 2 = nx) : zSnd w g P pc (s_pu (.float v) nx) := by
  intro d rc rs lv st H K hK hs
  unfold s_pu at hs
  subst hn
  intro hd hl ho k n locs ls hk hn9 hlo hlv
  exact lv_ldcf cx.1 cx.2.1 cx.2.2.2.2.1 (cx.2.2.2.2.2.1 _ hq) hd0 (hK _ _ _ _ _ _ hs hd hl ho k n locs ls hk hn9 hlo hlv)
theorem z_ldc2 (cx : zCx w g own cc nL ret nm hh) {idx : Nat} {v : Int64} (hq : Cond.constantLong own idx v ∈ lw_all) (hd0 : decode cc pc = .ok (.ldc2_w idx, 3)) (hn : pc + 3 = nx) : zSnd w g P pc (s_pu (.long v) nx) := by
  intro d rc rs lv st H K hK hs
  unfold s_pu at hs
  subst hn
  intro hd hl ho k n locs ls hk hn9 hlo hlv
  exact lv_ldc2 cx.1 cx.2.1 cx.2.2.2.2.1 (cx.2.2.2.2.2.1 _ hq) hd0 (hK _ _ _ _ _ _ hs hd hl ho k n locs ls hk hn9 hlo hlv)
theorem z_ldc2d (cx : zCx w g own cc nL ret nm hh) {idx : Nat} {v : UInt64} (hq : Cond.constantDouble own idx v ∈ lw_all) (hd0 : decode cc pc = .ok (.ldc2_w idx, 3)) (hn : pc + 3 = nx) : zSnd w g P pc (s_pu (.double v) nx) := by
  intro d rc rs lv st H K hK hs
  unfold s_pu at hs
  subst hn
  intro hd hl ho k n locs ls hk hn9 hlo hlv
  exact lv_ldc2d cx.1 cx.2.1 cx.2.2.2.2.1 (cx.2.2.2.2.2.1 _ hq) hd0 (hK _ _ _ _ _ _ hs hd hl ho k n locs ls hk hn9 hlo hlv)
theorem z_gets (cx : zCx w g own cc nL ret nm hh) {C n ds ref : String} {v : Value} {idx : Nat} (hz : (C, n, ds, v) ∈ zSt) (hq : Cond.fieldLink own idx C n ds ∈ lw_all) (hd0 : decode cc pc = .ok (.getstatic idx, 3)) (hn : pc + 3 = nx) : zSnd w g P pc (s_pu v nx) := by
  intro d rc rs lv st H K hK hs
  unfold s_pu at hs
  subst hn
  intro hd hl ho k n locs ls hk hn9 hlo hlv
  obtain ⟨cf, kf, fi, f, a, cell, h1, h2, h3, h4, h5, h6, h7, h8⟩ := (cx.2.2.2.2.2.2.2.1).2.1 _ hz
  exact W.gets cx.1 cx.2.1 cx.2.2.2.2.1 (cx.2.2.2.2.2.1 _ hq) h1 h2 h3 h4 (by rw [ho.2 a (Array.getElem?_eq_some_iff.mp h5).1]; exact h5) (fun e => by rw [e] at h6; cases h6) h7 rfl hd0 (hK _ _ _ _ _ _ hs hd hl ho k n locs ls hk hn9 hlo hlv)
def s_ild (i nx : Nat) : zStep := fun P d rc rs lv st H K => match zld lv i with | some (.int x) => K nx rc rs lv (.int x :: st) H | _ => False
theorem z_iload_n (cx : zCx w g own cc nL ret nm hh) {i : Nat} {k4 : Fin 4} (hi : (k4 : Nat) = i) (hd0 : decode cc pc = .ok (.iload_n k4, 1)) (hn : pc + 1 = nx) : zSnd w g P pc (s_ild i nx) := by
  intro d rc rs lv st H K hK hs
  unfold s_ild at hs
  split at hs
  · rename_i x hx
    subst hn
    intro hd hl ho k n locs ls hk hn9 hlo hlv
    exact lv_iload_n cx.1 cx.2.1 hd0 hi (hlv.2.2 _ (zld_mem hx)) (hK _ _ _ _ _ _ hs hd hl ho k n locs ls hk hn9 hlo hlv)
  · exact hs.elim
theorem z_iload (cx : zCx w g own cc nL ret nm hh) {i : Nat} (hd0 : decode cc pc = .ok (.iload i, 2)) (hn : pc + 2 = nx) : zSnd w g P pc (s_ild i nx) := by
  intro d rc rs lv st H K hK hs
  unfold s_ild at hs
  split at hs
  · rename_i x hx
    subst hn
    intro hd hl ho k n locs ls hk hn9 hlo hlv
    exact lv_iload cx.1 cx.2.1 hd0 (hlv.2.2 _ (zld_mem hx)) (hK _ _ _ _ _ _ hs hd hl ho k n locs ls hk hn9 hlo hlv)
  · exact hs.elim
def s_lld (i nx : Nat) : zStep := fun P d rc rs lv st H K => match zld lv i with | some (.long x) => K nx rc rs lv (.long x :: st) H | _ => False
theorem z_lload_n (cx : zCx w g own cc nL ret nm hh) {i : Nat} {k4 : Fin 4} (hi : (k4 : Nat) = i) (hd0 : decode cc pc = .ok (.lload_n k4, 1)) (hn : pc + 1 = nx) : zSnd w g P pc (s_lld i nx) := by
  intro d rc rs lv st H K hK hs
  unfold s_lld at hs
  split at hs
  · rename_i x hx
    subst hn
    intro hd hl ho k n locs ls hk hn9 hlo hlv
    exact lv_lload_n cx.1 cx.2.1 hd0 hi (hlv.2.2 _ (zld_mem hx)) (hK _ _ _ _ _ _ hs hd hl ho k n locs ls hk hn9 hlo hlv)
  · exact hs.elim
theorem z_lload (cx : zCx w g own cc nL ret nm hh) {i : Nat} (hd0 : decode cc pc = .ok (.lload i, 2)) (hn : pc + 2 = nx) : zSnd w g P pc (s_lld i nx) := by
  intro d rc rs lv st H K hK hs
  unfold s_lld at hs
  split at hs
  · rename_i x hx
    subst hn
    intro hd hl ho k n locs ls hk hn9 hlo hlv
    exact lv_lload cx.1 cx.2.1 hd0 (hlv.2.2 _ (zld_mem hx)) (hK _ _ _ _ _ _ hs hd hl ho k n locs ls hk hn9 hlo hlv)
  · exact hs.elim
def s_fld (i nx : Nat) : zStep := fun P d rc rs lv st H K => match zld lv i with | some (.float x) => K nx rc rs lv (.float x :: st) H | _ => False
theorem z_fload_n (cx : zCx w g own cc nL ret nm hh) {i : Nat} {k4 : Fin 4} (hi : (k4 : Nat) = i) (hd0 : decode cc pc = .ok (.fload_n k4, 1)) (hn : pc + 1 = nx) : zSnd w g P pc (s_fld i nx) := by
  intro d rc rs lv st H K hK hs
  unfold s_fld at hs
  split at hs
  · rename_i x hx
    subst hn
    intro hd hl ho k n locs ls hk hn9 hlo hlv
    exact lv_fload_n cx.1 cx.2.1 hd0 hi (hlv.2.2 _ (zld_mem hx)) (hK _ _ _ _ _ _ hs hd hl ho k n locs ls hk hn9 hlo hlv)
  · exact hs.elim
theorem z_fload (cx : zCx w g own cc nL ret nm hh) {i : Nat} (hd0 : decode cc pc = .ok (.fload i, 2)) (hn : pc + 2 = nx) : zSnd w g P pc (s_fld i nx) := by
  intro d rc rs lv st H K hK hs
  unfold s_fld at hs
  split at hs
  · rename_i x hx
    subst hn
    intro hd hl ho k n locs ls hk hn9 hlo hlv
    exact lv_fload cx.1 cx.2.1 hd0 (hlv.2.2 _ (zld_mem hx)) (hK _ _ _ _ _ _ hs hd hl ho k n locs ls hk hn9 hlo hlv)
  · exact hs.elim
def s_dld (i nx : Nat) : zStep := fun P d rc rs lv st H K => match zld lv i with | some (.double x) => K nx rc rs lv (.double x :: st) H | _ => False
theorem z_dload_n (cx : zCx w g own cc nL ret nm hh) {i : Nat} {k4 : Fin 4} (hi : (k4 : Nat) = i) (hd0 : decode cc pc = .ok (.dload_n k4, 1)) (hn : pc + 1 = nx) : zSnd w g P pc (s_dld i nx) := by
  intro d rc rs lv st H K hK hs
  unfold s_dld at hs
  split at hs
  · rename_i x hx
    subst hn
    intro hd hl ho k n locs ls hk hn9 hlo hlv
    exact lv_dload_n cx.1 cx.2.1 hd0 hi (hlv.2.2 _ (zld_mem hx)) (hK _ _ _ _ _ _ hs hd hl ho k n locs ls hk hn9 hlo hlv)
  · exact hs.elim
theorem z_dload (cx : zCx w g own cc nL ret nm hh) {i : Nat} (hd0 : decode cc pc = .ok (.dload i, 2)) (hn : pc + 2 = nx) : zSnd w g P pc (s_dld i nx) := by
  intro d rc rs lv st H K hK hs
  unfold s_dld at hs
  split at hs
  · rename_i x hx
    subst hn
    intro hd hl ho k n locs ls hk hn9 hlo hlv
    exact lv_dload cx.1 cx.2.1 hd0 (hlv.2.2 _ (zld_mem hx)) (hK _ _ _ _ _ _ hs hd hl ho k n locs ls hk hn9 hlo hlv)
  · exact hs.elim
def s_ald (i nx : Nat) : zStep := fun P d rc rs lv st H K => match zld lv i with | some (.ref x) => K nx rc rs lv (.ref x :: st) H | some .null => K nx rc rs lv (.null :: st) H | _ => False
theorem z_aload_n (cx : zCx w g own cc nL ret nm hh) {i : Nat} {k4 : Fin 4} (hi : (k4 : Nat) = i) (hd0 : decode cc pc = .ok (.aload_n k4, 1)) (hn : pc + 1 = nx) : zSnd w g P pc (s_ald i nx) := by
  intro d rc rs lv st H K hK hs
  unfold s_ald at hs
  split at hs
  · rename_i x hx
    subst hn
    intro hd hl ho k n locs ls hk hn9 hlo hlv
    exact lv_aload_n cx.1 cx.2.1 hd0 hi (hlv.2.2 _ (zld_mem hx)) (hK _ _ _ _ _ _ hs hd hl ho k n locs ls hk hn9 hlo hlv)
  · rename_i hx
    subst hn
    intro hd hl ho k n locs ls hk hn9 hlo hlv
    exact lv_aload_nN cx.1 cx.2.1 hd0 hi (hlv.2.2 _ (zld_mem hx)) (hK _ _ _ _ _ _ hs hd hl ho k n locs ls hk hn9 hlo hlv)
  · exact hs.elim
theorem z_aload (cx : zCx w g own cc nL ret nm hh) {i : Nat} (hd0 : decode cc pc = .ok (.aload i, 2)) (hn : pc + 2 = nx) : zSnd w g P pc (s_ald i nx) := by
  intro d rc rs lv st H K hK hs
  unfold s_ald at hs
  split at hs
  · rename_i x hx
    subst hn
    intro hd hl ho k n locs ls hk hn9 hlo hlv
    exact lv_aload cx.1 cx.2.1 hd0 (hlv.2.2 _ (zld_mem hx)) (hK _ _ _ _ _ _ hs hd hl ho k n locs ls hk hn9 hlo hlv)
  · rename_i hx
    subst hn
    intro hd hl ho k n locs ls hk hn9 hlo hlv
    exact lv_aloadN cx.1 cx.2.1 hd0 (hlv.2.2 _ (zld_mem hx)) (hK _ _ _ _ _ _ hs hd hl ho k n locs ls hk hn9 hlo hlv)
  · exact hs.elim
def s_ist (i nx : Nat) : zStep := fun P d rc rs lv st H K => match st with | .int x :: rest => zsto false i (.int x) lv (fun l => K nx rc rs l rest H) | _ => False
theorem z_istore_n (cx : zCx w g own cc nL ret nm hh) {i : Nat} {k4 : Fin 4} (hi : (k4 : Nat) = i) (hb : i < nL) (hd0 : decode cc pc = .ok (.istore_n k4, 1)) (hn : pc + 1 = nx) : zSnd w g P pc (s_ist i nx) := by
  intro d rc rs lv st H K hK hs
  unfold s_ist at hs
  split at hs
  · subst hn
    intro hd hl ho k n locs ls hk hn9 hlo hlv
    obtain ⟨l, hs, hm⟩ := zsto_1 hs
    exact lv_istore_n cx.1 cx.2.1 hd0 hi hlv (by rw [cx.2.2.2.1]; exact hb) rfl (fun ls2 hl2 => hK _ _ _ _ _ _ hs hd hl ho k n locs ls2 hk hn9 hlo (hl2.of hm))
  · exact hs.elim
theorem z_istore (cx : zCx w g own cc nL ret nm hh) {i : Nat} (hb : i < nL) (hd0 : decode cc pc = .ok (.istore i, 2)) (hn : pc + 2 = nx) : zSnd w g P pc (s_ist i nx) := by
  intro d rc rs lv st H K hK hs
  unfold s_ist at hs
  split at hs
  · subst hn
    intro hd hl ho k n locs ls hk hn9 hlo hlv
    obtain ⟨l, hs, hm⟩ := zsto_1 hs
    exact lv_istore cx.1 cx.2.1 hd0 hlv (by rw [cx.2.2.2.1]; exact hb) rfl (fun ls2 hl2 => hK _ _ _ _ _ _ hs hd hl ho k n locs ls2 hk hn9 hlo (hl2.of hm))
  · exact hs.elim
def s_lst (i nx : Nat) : zStep := fun P d rc rs lv st H K => match st with | .long x :: rest => zsto true i (.long x) lv (fun l => K nx rc rs l rest H) | _ => False
theorem z_lstore_n (cx : zCx w g own cc nL ret nm hh) {i : Nat} {k4 : Fin 4} (hi : (k4 : Nat) = i) (hb : i + 1 < nL) (hd0 : decode cc pc = .ok (.lstore_n k4, 1)) (hn : pc + 1 = nx) : zSnd w g P pc (s_lst i nx) := by
  intro d rc rs lv st H K hK hs
  unfold s_lst at hs
  split at hs
  · subst hn
    intro hd hl ho k n locs ls hk hn9 hlo hlv
    obtain ⟨l, hs, hm⟩ := zsto_2 hs
    exact lv_lstore_n cx.1 cx.2.1 hd0 hi hlv (by rw [cx.2.2.2.1]; exact hb) rfl (fun ls2 hl2 => hK _ _ _ _ _ _ hs hd hl ho k n locs ls2 hk hn9 hlo (hl2.of hm))
  · exact hs.elim
theorem z_lstore (cx : zCx w g own cc nL ret nm hh) {i : Nat} (hb : i + 1 < nL) (hd0 : decode cc pc = .ok (.lstore i, 2)) (hn : pc + 2 = nx) : zSnd w g P pc (s_lst i nx) := by
  intro d rc rs lv st H K hK hs
  unfold s_lst at hs
  split at hs
  · subst hn
    intro hd hl ho k n locs ls hk hn9 hlo hlv
    obtain ⟨l, hs, hm⟩ := zsto_2 hs
    exact lv_lstore cx.1 cx.2.1 hd0 hlv (by rw [cx.2.2.2.1]; exact hb) rfl (fun ls2 hl2 => hK _ _ _ _ _ _ hs hd hl ho k n locs ls2 hk hn9 hlo (hl2.of hm))
  · exact hs.elim
def s_fst (i nx : Nat) : zStep := fun P d rc rs lv st H K => match st with | .float x :: rest => zsto false i (.float x) lv (fun l => K nx rc rs l rest H) | _ => False
theorem z_fstore_n (cx : zCx w g own cc nL ret nm hh) {i : Nat} {k4 : Fin 4} (hi : (k4 : Nat) = i) (hb : i < nL) (hd0 : decode cc pc = .ok (.fstore_n k4, 1)) (hn : pc + 1 = nx) : zSnd w g P pc (s_fst i nx) := by
  intro d rc rs lv st H K hK hs
  unfold s_fst at hs
  split at hs
  · subst hn
    intro hd hl ho k n locs ls hk hn9 hlo hlv
    obtain ⟨l, hs, hm⟩ := zsto_1 hs
    exact lv_fstore_n cx.1 cx.2.1 hd0 hi hlv (by rw [cx.2.2.2.1]; exact hb) rfl (fun ls2 hl2 => hK _ _ _ _ _ _ hs hd hl ho k n locs ls2 hk hn9 hlo (hl2.of hm))
  · exact hs.elim
theorem z_fstore (cx : zCx w g own cc nL ret nm hh) {i : Nat} (hb : i < nL) (hd0 : decode cc pc = .ok (.fstore i, 2)) (hn : pc + 2 = nx) : zSnd w g P pc (s_fst i nx) := by
  intro d rc rs lv st H K hK hs
  unfold s_fst at hs
  split at hs
  · subst hn
    intro hd hl ho k n locs ls hk hn9 hlo hlv
    obtain ⟨l, hs, hm⟩ := zsto_1 hs
    exact lv_fstore cx.1 cx.2.1 hd0 hlv (by rw [cx.2.2.2.1]; exact hb) rfl (fun ls2 hl2 => hK _ _ _ _ _ _ hs hd hl ho k n locs ls2 hk hn9 hlo (hl2.of hm))
  · exact hs.elim
def s_dst (i nx : Nat) : zStep := fun P d rc rs lv st H K => match st with | .double x :: rest => zsto true i (.double x) lv (fun l => K nx rc rs l rest H) | _ => False
theorem z_dstore_n (cx : zCx w g own cc nL ret nm hh) {i : Nat} {k4 : Fin 4} (hi : (k4 : Nat) = i) (hb : i + 1 < nL) (hd0 : decode cc pc = .ok (.dstore_n k4, 1)) (hn : pc + 1 = nx) : zSnd w g P pc (s_dst i nx) := by
  intro d rc rs lv st H K hK hs
  unfold s_dst at hs
  split at hs
  · subst hn
    intro hd hl ho k n locs ls hk hn9 hlo hlv
    obtain ⟨l, hs, hm⟩ := zsto_2 hs
    exact lv_dstore_n cx.1 cx.2.1 hd0 hi hlv (by rw [cx.2.2.2.1]; exact hb) rfl (fun ls2 hl2 => hK _ _ _ _ _ _ hs hd hl ho k n locs ls2 hk hn9 hlo (hl2.of hm))
  · exact hs.elim
theorem z_dstore (cx : zCx w g own cc nL ret nm hh) {i : Nat} (hb : i + 1 < nL) (hd0 : decode cc pc = .ok (.dstore i, 2)) (hn : pc + 2 = nx) : zSnd w g P pc (s_dst i nx) := by
  intro d rc rs lv st H K hK hs
  unfold s_dst at hs
  split at hs
  · subst hn
    intro hd hl ho k n locs ls hk hn9 hlo hlv
    obtain ⟨l, hs, hm⟩ := zsto_2 hs
    exact lv_dstore cx.1 cx.2.1 hd0 hlv (by rw [cx.2.2.2.1]; exact hb) rfl (fun ls2 hl2 => hK _ _ _ _ _ _ hs hd hl ho k n locs ls2 hk hn9 hlo (hl2.of hm))
  · exact hs.elim
def s_ast (i nx : Nat) : zStep := fun P d rc rs lv st H K => match st with | .ref x :: rest => zsto false i (.ref x) lv (fun l => K nx rc rs l rest H) | .null :: rest => zsto false i .null lv (fun l => K nx rc rs l rest H) | _ => False
theorem z_astore_n (cx : zCx w g own cc nL ret nm hh) {i : Nat} {k4 : Fin 4} (hi : (k4 : Nat) = i) (hb : i < nL) (hd0 : decode cc pc = .ok (.astore_n k4, 1)) (hn : pc + 1 = nx) : zSnd w g P pc (s_ast i nx) := by
  intro d rc rs lv st H K hK hs
  unfold s_ast at hs
  split at hs
  · subst hn
    intro hd hl ho k n locs ls hk hn9 hlo hlv
    obtain ⟨l, hs, hm⟩ := zsto_1 hs
    exact lv_astore_n cx.1 cx.2.1 hd0 hi hlv (by rw [cx.2.2.2.1]; exact hb) rfl (fun ls2 hl2 => hK _ _ _ _ _ _ hs hd hl ho k n locs ls2 hk hn9 hlo (hl2.of hm))
  · subst hn
    intro hd hl ho k n locs ls hk hn9 hlo hlv
    obtain ⟨l, hs, hm⟩ := zsto_1 hs
    exact lv_astore_nN cx.1 cx.2.1 hd0 hi hlv (by rw [cx.2.2.2.1]; exact hb) rfl (fun ls2 hl2 => hK _ _ _ _ _ _ hs hd hl ho k n locs ls2 hk hn9 hlo (hl2.of hm))
  · exact hs.elim
theorem z_astore (cx : zCx w g own cc nL ret nm hh) {i : Nat} (hb : i < nL) (hd0 : decode cc pc = .ok (.astore i, 2)) (hn : pc + 2 = nx) : zSnd w g P pc (s_ast i nx) := by
  intro d rc rs lv st H K hK hs
  unfold s_ast at hs
  split at hs
  · subst hn
    intro hd hl ho k n locs ls hk hn9 hlo hlv
    obtain ⟨l, hs, hm⟩ := zsto_1 hs
    exact lv_astore cx.1 cx.2.1 hd0 hlv (by rw [cx.2.2.2.1]; exact hb) rfl (fun ls2 hl2 => hK _ _ _ _ _ _ hs hd hl ho k n locs ls2 hk hn9 hlo (hl2.of hm))
  · subst hn
    intro hd hl ho k n locs ls hk hn9 hlo hlv
    obtain ⟨l, hs, hm⟩ := zsto_1 hs
    exact lv_astoreN cx.1 cx.2.1 hd0 hlv (by rw [cx.2.2.2.1]; exact hb) rfl (fun ls2 hl2 => hK _ _ _ _ _ _ hs hd hl ho k n locs ls2 hk hn9 hlo (hl2.of hm))
  · exact hs.elim
def s_iinc (i : Nat) (c : Int32) (nx : Nat) : zStep := fun P d rc rs lv st H K => match zld lv i with | some (.int x) => zsto false i (.int (x + c)) lv (fun l => K nx rc rs l st H) | _ => False
theorem z_iinc (cx : zCx w g own cc nL ret nm hh) {i : Nat} {j : Int} {v : Int32} (hv : Int32.ofInt j = v) (hb : i < nL) (hd0 : decode cc pc = .ok (.iinc i j, 3)) (hn : pc + 3 = nx) : zSnd w g P pc (s_iinc i v nx) := by
  intro d rc rs lv st H K hK hs
  unfold s_iinc at hs
  split at hs
  · rename_i x hx
    subst hn
    intro hd hl ho k n locs ls hk hn9 hlo hlv
    obtain ⟨l, hs, hm⟩ := zsto_1 hs
    obtain ⟨q, hq⟩ := List.getElem?_of_mem (zld_mem hx)
    exact lv_iinc cx.1 cx.2.1 hd0 hlv (k := q) hq (by rw [hv]) (by rw [cx.2.2.2.1]; exact hb) rfl (fun ls2 hl2 => hK _ _ _ _ _ _ hs hd hl ho k n locs ls2 hk hn9 hlo (hl2.of hm))
  · exact hs.elim
def s_dup (nx : Nat) : zStep := fun P d rc rs lv st H K => match st with | .ref x :: rest => K nx rc rs lv (.ref x :: .ref x :: rest) H | _ => False
theorem z_dup (cx : zCx w g own cc nL ret nm hh) (hd0 : decode cc pc = .ok (.dup, 1)) (hn : pc + 1 = nx) : zSnd w g P pc (s_dup nx) := by
  intro d rc rs lv st H K hK hs
  unfold s_dup at hs
  split at hs
  · subst hn
    intro hd hl ho k n locs ls hk hn9 hlo hlv
    exact lv_dup cx.1 cx.2.1 hd0 rfl (hK _ _ _ _ _ _ hs hd hl ho k n locs ls hk hn9 hlo hlv)
  · exact hs.elim
def s_dupi (nx : Nat) : zStep := fun P d rc rs lv st H K => match st with | .int x :: rest => K nx rc rs lv (.int x :: .int x :: rest) H | _ => False
theorem z_dupi (cx : zCx w g own cc nL ret nm hh) (hd0 : decode cc pc = .ok (.dup, 1)) (hn : pc + 1 = nx) : zSnd w g P pc (s_dupi nx) := by
  intro d rc rs lv st H K hK hs
  unfold s_dupi at hs
  split at hs
  · subst hn
    intro hd hl ho k n locs ls hk hn9 hlo hlv
    exact lv_dup cx.1 cx.2.1 hd0 rfl (hK _ _ _ _ _ _ hs hd hl ho k n locs ls hk hn9 hlo hlv)
  · exact hs.elim
def s_pop (nx : Nat) : zStep := fun P d rc rs lv st H K => match st with | .ref x :: rest => K nx rc rs lv (rest) H | _ => False
theorem z_pop (cx : zCx w g own cc nL ret nm hh) (hd0 : decode cc pc = .ok (.pop, 1)) (hn : pc + 1 = nx) : zSnd w g P pc (s_pop nx) := by
  intro d rc rs lv st H K hK hs
  unfold s_pop at hs
  split at hs
  · subst hn
    intro hd hl ho k n locs ls hk hn9 hlo hlv
    exact lv_pop cx.1 cx.2.1 hd0 rfl (hK _ _ _ _ _ _ hs hd hl ho k n locs ls hk hn9 hlo hlv)
  · exact hs.elim
def s_popi (nx : Nat) : zStep := fun P d rc rs lv st H K => match st with | .int x :: rest => K nx rc rs lv (rest) H | _ => False
theorem z_popi (cx : zCx w g own cc nL ret nm hh) (hd0 : decode cc pc = .ok (.pop, 1)) (hn : pc + 1 = nx) : zSnd w g P pc (s_popi nx) := by
  intro d rc rs lv st H K hK hs
  unfold s_popi at hs
  split at hs
  · subst hn
    intro hd hl ho k n locs ls hk hn9 hlo hlv
    exact lv_pop cx.1 cx.2.1 hd0 rfl (hK _ _ _ _ _ _ hs hd hl ho k n locs ls hk hn9 hlo hlv)
  · exact hs.elim
def s_dup_x1i (nx : Nat) : zStep := fun P d rc rs lv st H K => match st with | .int x :: .ref y :: rest => K nx rc rs lv (.int x :: .ref y :: .int x :: rest) H | _ => False
theorem z_dup_x1i (cx : zCx w g own cc nL ret nm hh) (hd0 : decode cc pc = .ok (.dup_x1, 1)) (hn : pc + 1 = nx) : zSnd w g P pc (s_dup_x1i nx) := by
  intro d rc rs lv st H K hK hs
  unfold s_dup_x1i at hs
  split at hs
  · subst hn
    intro hd hl ho k n locs ls hk hn9 hlo hlv
    exact lv_dup_x1 cx.1 cx.2.1 hd0 rfl rfl (hK _ _ _ _ _ _ hs hd hl ho k n locs ls hk hn9 hlo hlv)
  · exact hs.elim
def s_if_eq (tg nx : Nat) : zStep := fun P d rc rs lv st H K => match st with | .int x :: rest => (x = 0 → K tg rc rs lv rest H) ∧ (¬ x = 0 → K nx rc rs lv rest H) | _ => False
theorem z_if_eq (cx : zCx w g own cc nL ret nm hh) {off : Int} {tg : Nat} (ht : (pc : Int) + off = (tg : Int)) (hd0 : decode cc pc = .ok (.ifCond .eq off, 3)) (hn : pc + 3 = nx) : zSnd w g P pc (s_if_eq tg nx) := by
  intro d rc rs lv st H K hK hs
  unfold s_if_eq at hs
  split at hs
  · subst hn
    intro hd hl ho k n locs ls hk hn9 hlo hlv
    exact lv_if_eq cx.1 cx.2.1 hd0 ht (fun q => hK _ _ _ _ _ _ (hs.1 q) hd hl ho k n locs ls hk hn9 hlo hlv) (fun q => hK _ _ _ _ _ _ (hs.2 q) hd hl ho k n locs ls hk hn9 hlo hlv)
  · exact hs.elim
def s_ic_eq (tg nx : Nat) : zStep := fun P d rc rs lv st H K => match st with | .int y :: .int x :: rest => (x = y → K tg rc rs lv rest H) ∧ (¬ x = y → K nx rc rs lv rest H) | _ => False
theorem z_ic_eq (cx : zCx w g own cc nL ret nm hh) {off : Int} {tg : Nat} (ht : (pc : Int) + off = (tg : Int)) (hd0 : decode cc pc = .ok (.if_icmp .eq off, 3)) (hn : pc + 3 = nx) : zSnd w g P pc (s_ic_eq tg nx) := by
  intro d rc rs lv st H K hK hs
  unfold s_ic_eq at hs
  split at hs
  · subst hn
    intro hd hl ho k n locs ls hk hn9 hlo hlv
    exact lv_icmp_eq cx.1 cx.2.1 hd0 ht (fun q => hK _ _ _ _ _ _ (hs.1 q) hd hl ho k n locs ls hk hn9 hlo hlv) (fun q => hK _ _ _ _ _ _ (hs.2 q) hd hl ho k n locs ls hk hn9 hlo hlv)
  · exact hs.elim
def s_if_ne (tg nx : Nat) : zStep := fun P d rc rs lv st H K => match st with | .int x :: rest => (¬ x = 0 → K tg rc rs lv rest H) ∧ (x = 0 → K nx rc rs lv rest H) | _ => False
theorem z_if_ne (cx : zCx w g own cc nL ret nm hh) {off : Int} {tg : Nat} (ht : (pc : Int) + off = (tg : Int)) (hd0 : decode cc pc = .ok (.ifCond .ne off, 3)) (hn : pc + 3 = nx) : zSnd w g P pc (s_if_ne tg nx) := by
  intro d rc rs lv st H K hK hs
  unfold s_if_ne at hs
  split at hs
  · subst hn
    intro hd hl ho k n locs ls hk hn9 hlo hlv
    exact lv_if_ne cx.1 cx.2.1 hd0 ht (fun q => hK _ _ _ _ _ _ (hs.1 q) hd hl ho k n locs ls hk hn9 hlo hlv) (fun q => hK _ _ _ _ _ _ (hs.2 q) hd hl ho k n locs ls hk hn9 hlo hlv)
  · exact hs.elim
def s_ic_ne (tg nx : Nat) : zStep := fun P d rc rs lv st H K => match st with | .int y :: .int x :: rest => (¬ x = y → K tg rc rs lv rest H) ∧ (x = y → K nx rc rs lv rest H) | _ => False
theorem z_ic_ne (cx : zCx w g own cc nL ret nm hh) {off : Int} {tg : Nat} (ht : (pc : Int) + off = (tg : Int)) (hd0 : decode cc pc = .ok (.if_icmp .ne off, 3)) (hn : pc + 3 = nx) : zSnd w g P pc (s_ic_ne tg nx) := by
  intro d rc rs lv st H K hK hs
  unfold s_ic_ne at hs
  split at hs
  · subst hn
    intro hd hl ho k n locs ls hk hn9 hlo hlv
    exact lv_icmp_ne cx.1 cx.2.1 hd0 ht (fun q => hK _ _ _ _ _ _ (hs.1 q) hd hl ho k n locs ls hk hn9 hlo hlv) (fun q => hK _ _ _ _ _ _ (hs.2 q) hd hl ho k n locs ls hk hn9 hlo hlv)
  · exact hs.elim
def s_if_lt (tg nx : Nat) : zStep := fun P d rc rs lv st H K => match st with | .int x :: rest => (x < 0 → K tg rc rs lv rest H) ∧ (¬ x < 0 → K nx rc rs lv rest H) | _ => False
theorem z_if_lt (cx : zCx w g own cc nL ret nm hh) {off : Int} {tg : Nat} (ht : (pc : Int) + off = (tg : Int)) (hd0 : decode cc pc = .ok (.ifCond .lt off, 3)) (hn : pc + 3 = nx) : zSnd w g P pc (s_if_lt tg nx) := by
  intro d rc rs lv st H K hK hs
  unfold s_if_lt at hs
  split at hs
  · subst hn
    intro hd hl ho k n locs ls hk hn9 hlo hlv
    exact lv_if_lt cx.1 cx.2.1 hd0 ht (fun q => hK _ _ _ _ _ _ (hs.1 q) hd hl ho k n locs ls hk hn9 hlo hlv) (fun q => hK _ _ _ _ _ _ (hs.2 q) hd hl ho k n locs ls hk hn9 hlo hlv)
  · exact hs.elim
def s_ic_lt (tg nx : Nat) : zStep := fun P d rc rs lv st H K => match st with | .int y :: .int x :: rest => (x < y → K tg rc rs lv rest H) ∧ (¬ x < y → K nx rc rs lv rest H) | _ => False
theorem z_ic_lt (cx : zCx w g own cc nL ret nm hh) {off : Int} {tg : Nat} (ht : (pc : Int) + off = (tg : Int)) (hd0 : decode cc pc = .ok (.if_icmp .lt off, 3)) (hn : pc + 3 = nx) : zSnd w g P pc (s_ic_lt tg nx) := by
  intro d rc rs lv st H K hK hs
  unfold s_ic_lt at hs
  split at hs
  · subst hn
    intro hd hl ho k n locs ls hk hn9 hlo hlv
    exact lv_icmp_lt cx.1 cx.2.1 hd0 ht (fun q => hK _ _ _ _ _ _ (hs.1 q) hd hl ho k n locs ls hk hn9 hlo hlv) (fun q => hK _ _ _ _ _ _ (hs.2 q) hd hl ho k n locs ls hk hn9 hlo hlv)
  · exact hs.elim
def s_if_ge (tg nx : Nat) : zStep := fun P d rc rs lv st H K => match st with | .int x :: rest => (0 ≤ x → K tg rc rs lv rest H) ∧ (¬ 0 ≤ x → K nx rc rs lv rest H) | _ => False
theorem z_if_ge (cx : zCx w g own cc nL ret nm hh) {off : Int} {tg : Nat} (ht : (pc : Int) + off = (tg : Int)) (hd0 : decode cc pc = .ok (.ifCond .ge off, 3)) (hn : pc + 3 = nx) : zSnd w g P pc (s_if_ge tg nx) := by
  intro d rc rs lv st H K hK hs
  unfold s_if_ge at hs
  split at hs
  · subst hn
    intro hd hl ho k n locs ls hk hn9 hlo hlv
    exact lv_if_ge cx.1 cx.2.1 hd0 ht (fun q => hK _ _ _ _ _ _ (hs.1 q) hd hl ho k n locs ls hk hn9 hlo hlv) (fun q => hK _ _ _ _ _ _ (hs.2 q) hd hl ho k n locs ls hk hn9 hlo hlv)
  · exact hs.elim
def s_ic_ge (tg nx : Nat) : zStep := fun P d rc rs lv st H K => match st with | .int y :: .int x :: rest => (y ≤ x → K tg rc rs lv rest H) ∧ (¬ y ≤ x → K nx rc rs lv rest H) | _ => False
theorem z_ic_ge (cx : zCx w g own cc nL ret nm hh) {off : Int} {tg : Nat} (ht : (pc : Int) + off = (tg : Int)) (hd0 : decode cc pc = .ok (.if_icmp .ge off, 3)) (hn : pc + 3 = nx) : zSnd w g P pc (s_ic_ge tg nx) := by
  intro d rc rs lv st H K hK hs
  unfold s_ic_ge at hs
  split at hs
  · subst hn
    intro hd hl ho k n locs ls hk hn9 hlo hlv
    exact lv_icmp_ge cx.1 cx.2.1 hd0 ht (fun q => hK _ _ _ _ _ _ (hs.1 q) hd hl ho k n locs ls hk hn9 hlo hlv) (fun q => hK _ _ _ _ _ _ (hs.2 q) hd hl ho k n locs ls hk hn9 hlo hlv)
  · exact hs.elim
def s_if_gt (tg nx : Nat) : zStep := fun P d rc rs lv st H K => match st with | .int x :: rest => (0 < x → K tg rc rs lv rest H) ∧ (¬ 0 < x → K nx rc rs lv rest H) | _ => False
theorem z_if_gt (cx : zCx w g own cc nL ret nm hh) {off : Int} {tg : Nat} (ht : (pc : Int) + off = (tg : Int)) (hd0 : decode cc pc = .ok (.ifCond .gt off, 3)) (hn : pc + 3 = nx) : zSnd w g P pc (s_if_gt tg nx) := by
  intro d rc rs lv st H K hK hs
  unfold s_if_gt at hs
  split at hs
  · subst hn
    intro hd hl ho k n locs ls hk hn9 hlo hlv
    exact lv_if_gt cx.1 cx.2.1 hd0 ht (fun q => hK _ _ _ _ _ _ (hs.1 q) hd hl ho k n locs ls hk hn9 hlo hlv) (fun q => hK _ _ _ _ _ _ (hs.2 q) hd hl ho k n locs ls hk hn9 hlo hlv)
  · exact hs.elim
def s_ic_gt (tg nx : Nat) : zStep := fun P d rc rs lv st H K => match st with | .int y :: .int x :: rest => (y < x → K tg rc rs lv rest H) ∧ (¬ y < x → K nx rc rs lv rest H) | _ => False
theorem z_ic_gt (cx : zCx w g own cc nL ret nm hh) {off : Int} {tg : Nat} (ht : (pc : Int) + off = (tg : Int)) (hd0 : decode cc pc = .ok (.if_icmp .gt off, 3)) (hn : pc + 3 = nx) : zSnd w g P pc (s_ic_gt tg nx) := by
  intro d rc rs lv st H K hK hs
  unfold s_ic_gt at hs
  split at hs
  · subst hn
    intro hd hl ho k n locs ls hk hn9 hlo hlv
    exact lv_icmp_gt cx.1 cx.2.1 hd0 ht (fun q => hK _ _ _ _ _ _ (hs.1 q) hd hl ho k n locs ls hk hn9 hlo hlv) (fun q => hK _ _ _ _ _ _ (hs.2 q) hd hl ho k n locs ls hk hn9 hlo hlv)
  · exact hs.elim
def s_if_le (tg nx : Nat) : zStep := fun P d rc rs lv st H K => match st with | .int x :: rest => (x ≤ 0 → K tg rc rs lv rest H) ∧ (¬ x ≤ 0 → K nx rc rs lv rest H) | _ => False
theorem z_if_le (cx : zCx w g own cc nL ret nm hh) {off : Int} {tg : Nat} (ht : (pc : Int) + off = (tg : Int)) (hd0 : decode cc pc = .ok (.ifCond .le off, 3)) (hn : pc + 3 = nx) : zSnd w g P pc (s_if_le tg nx) := by
  intro d rc rs lv st H K hK hs
  unfold s_if_le at hs
  split at hs
  · subst hn
    intro hd hl ho k n locs ls hk hn9 hlo hlv
    exact lv_if_le cx.1 cx.2.1 hd0 ht (fun q => hK _ _ _ _ _ _ (hs.1 q) hd hl ho k n locs ls hk hn9 hlo hlv) (fun q => hK _ _ _ _ _ _ (hs.2 q) hd hl ho k n locs ls hk hn9 hlo hlv)
  · exact hs.elim
def s_ic_le (tg nx : Nat) : zStep := fun P d rc rs lv st H K => match st with | .int y :: .int x :: rest => (x ≤ y → K tg rc rs lv rest H) ∧ (¬ x ≤ y → K nx rc rs lv rest H) | _ => False
theorem z_ic_le (cx : zCx w g own cc nL ret nm hh) {off : Int} {tg : Nat} (ht : (pc : Int) + off = (tg : Int)) (hd0 : decode cc pc = .ok (.if_icmp .le off, 3)) (hn : pc + 3 = nx) : zSnd w g P pc (s_ic_le tg nx) := by
  intro d rc rs lv st H K hK hs
  unfold s_ic_le at hs
  split at hs
  · subst hn
    intro hd hl ho k n locs ls hk hn9 hlo hlv
    exact lv_icmp_le cx.1 cx.2.1 hd0 ht (fun q => hK _ _ _ _ _ _ (hs.1 q) hd hl ho k n locs ls hk hn9 hlo hlv) (fun q => hK _ _ _ _ _ _ (hs.2 q) hd hl ho k n locs ls hk hn9 hlo hlv)
  · exact hs.elim
def s_ac_eq (tg nx : Nat) : zStep := fun P d rc rs lv st H K => match st with | .ref y :: .ref x :: rest => (x = y → K tg rc rs lv rest H) ∧ (¬ x = y → K nx rc rs lv rest H) | _ => False
theorem z_ac_eq (cx : zCx w g own cc nL ret nm hh) {off : Int} {tg : Nat} (ht : (pc : Int) + off = (tg : Int)) (hd0 : decode cc pc = .ok (.if_acmp .eq off, 3)) (hn : pc + 3 = nx) : zSnd w g P pc (s_ac_eq tg nx) := by
  intro d rc rs lv st H K hK hs
  unfold s_ac_eq at hs
  split at hs
  · rename_i y x rest
    subst hn
    intro hd hl ho k n locs ls hk hn9 hlo hlv
    exact lv_acmp_eq (rx := some x) (ry := some y) cx.1 cx.2.1 hd0 ht (fun q => hK _ _ _ _ _ _ (hs.1 (Option.some.inj q)) hd hl ho k n locs ls hk hn9 hlo hlv) (fun q => hK _ _ _ _ _ _ (hs.2 (fun e => q (congrArg some e))) hd hl ho k n locs ls hk hn9 hlo hlv)
  · exact hs.elim
def s_ac_ne (tg nx : Nat) : zStep := fun P d rc rs lv st H K => match st with | .ref y :: .ref x :: rest => (¬ x = y → K tg rc rs lv rest H) ∧ (x = y → K nx rc rs lv rest H) | _ => False
theorem z_ac_ne (cx : zCx w g own cc nL ret nm hh) {off : Int} {tg : Nat} (ht : (pc : Int) + off = (tg : Int)) (hd0 : decode cc pc = .ok (.if_acmp .ne off, 3)) (hn : pc + 3 = nx) : zSnd w g P pc (s_ac_ne tg nx) := by
  intro d rc rs lv st H K hK hs
  unfold s_ac_ne at hs
  split at hs
  · rename_i y x rest
    subst hn
    intro hd hl ho k n locs ls hk hn9 hlo hlv
    exact lv_acmp_ne (rx := some x) (ry := some y) cx.1 cx.2.1 hd0 ht (fun q => hK _ _ _ _ _ _ (hs.1 (fun e => q (congrArg some e))) hd hl ho k n locs ls hk hn9 hlo hlv) (fun q => hK _ _ _ _ _ _ (hs.2 (Option.some.inj q)) hd hl ho k n locs ls hk hn9 hlo hlv)
  · exact hs.elim
def s_goto (tg : Nat) : zStep := fun P d rc rs lv st H K => K tg rc rs lv st H
theorem z_goto (cx : zCx w g own cc nL ret nm hh) {off : Int} {tg : Nat} (ht : (pc : Int) + off = (tg : Int)) (hd0 : decode cc pc = .ok (.goto off, 3)) : zSnd w g P pc (s_goto tg) := by
  intro d rc rs lv st H K hK hs
  unfold s_goto at hs
  intro hd hl ho k n locs ls hk hn9 hlo hlv
  exact lv_goto cx.1 cx.2.1 hd0 ht (hK _ _ _ _ _ _ hs hd hl ho k n locs ls hk hn9 hlo hlv)
def s_ifnull (tg nx : Nat) : zStep := fun P d rc rs lv st H K => match st with | .ref _ :: rest => K nx rc rs lv rest H | .null :: rest => K tg rc rs lv rest H | _ => False
theorem z_ifnull (cx : zCx w g own cc nL ret nm hh) {off : Int} {tg : Nat} (ht : (pc : Int) + off = (tg : Int)) (hd0 : decode cc pc = .ok (.ifnull off, 3)) (hn : pc + 3 = nx) : zSnd w g P pc (s_ifnull tg nx) := by
  intro d rc rs lv st H K hK hs
  unfold s_ifnull at hs
  split at hs
  · subst hn
    intro hd hl ho k n locs ls hk hn9 hlo hlv
    exact lv_ifnull cx.1 cx.2.1 hd0 (hK _ _ _ _ _ _ hs hd hl ho k n locs ls hk hn9 hlo hlv)
  · subst hn
    intro hd hl ho k n locs ls hk hn9 hlo hlv
    exact lv_ifnullN cx.1 cx.2.1 hd0 ht (hK _ _ _ _ _ _ hs hd hl ho k n locs ls hk hn9 hlo hlv)
  · exact hs.elim
def s_ifnonnull (tg nx : Nat) : zStep := fun P d rc rs lv st H K => match st with | .ref _ :: rest => K tg rc rs lv rest H | .null :: rest => K nx rc rs lv rest H | _ => False
theorem z_ifnonnull (cx : zCx w g own cc nL ret nm hh) {off : Int} {tg : Nat} (ht : (pc : Int) + off = (tg : Int)) (hd0 : decode cc pc = .ok (.ifnonnull off, 3)) (hn : pc + 3 = nx) : zSnd w g P pc (s_ifnonnull tg nx) := by
  intro d rc rs lv st H K hK hs
  unfold s_ifnonnull at hs
  split at hs
  · subst hn
    intro hd hl ho k n locs ls hk hn9 hlo hlv
    exact lv_ifnonnull cx.1 cx.2.1 hd0 ht (hK _ _ _ _ _ _ hs hd hl ho k n locs ls hk hn9 hlo hlv)
  · subst hn
    intro hd hl ho k n locs ls hk hn9 hlo hlv
    exact lv_ifnonnullN cx.1 cx.2.1 hd0 (hK _ _ _ _ _ _ hs hd hl ho k n locs ls hk hn9 hlo hlv)
  · exact hs.elim
def zsw (x : Int32) (K : Nat → Prop) : Int → List Nat → Prop
  | _, [] => True
  | i, t :: ts => (x.toInt = i → K t) ∧ zsw x K (i + 1) ts
theorem zsw_at {x : Int32} {K : Nat → Prop} : ∀ (ts : List Nat) (i : Int), zsw x K i ts → ∀ (j t : Nat), ts[j]? = some t → x.toInt = i + j → K t
  | [], i, h, j, t, hj, e => by simp at hj
  | t0 :: ts, i, h, 0, t, hj, e => by
    simp at hj
    subst hj
    exact h.1 (by simpa using e)
  | t0 :: ts, i, h, j + 1, t, hj, e => zsw_at ts (i + 1) h.2 j t (by simpa using hj) (by omega)
def s_tsw (lo hi : Int) (ts : List Nat) (df : Nat) : zStep := fun P d rc rs lv st H K => match st with | .int x :: rest => zsw x (fun t => K t rc rs lv rest H) lo ts ∧ ((x.toInt < lo ∨ hi < x.toInt) → K df rc rs lv rest H) | _ => False
theorem z_tsw (cx : zCx w g own cc nL ret nm hh) {lo hi dfo : Int} {offs : Array Int} {ts : List Nat} {df len : Nat} (hlen : (offs.size : Int) = hi - lo + 1) (hts : ts.map (fun (t : Nat) => (t : Int) - pc) = offs.toList) (hdf : (pc : Int) + dfo = (df : Int)) (hd0 : decode cc pc = .ok (.tableswitch dfo lo hi offs, len)) : zSnd w g P pc (s_tsw lo hi ts df) := by
  intro d rc rs lv st H K hK hs
  unfold s_tsw at hs
  split at hs
  · rename_i x rest
    intro hd hl ho k n locs ls hk hn9 hlo hlv
    by_cases h1 : x.toInt < lo
    · exact lv_tableOut cx.1 cx.2.1 hd0 (Or.inl h1) hdf (hK _ _ _ _ _ _ (hs.2 (Or.inl h1)) hd hl ho k n locs ls hk hn9 hlo hlv)
    · by_cases h2 : hi < x.toInt
      · exact lv_tableOut cx.1 cx.2.1 hd0 (Or.inr h2) hdf (hK _ _ _ _ _ _ (hs.2 (Or.inr h2)) hd hl ho k n locs ls hk hn9 hlo hlv)
      · have hsz : (x.toInt - lo).toNat < offs.size := by omega
        have hl2 : offs.toList.length = ts.length := by rw [← hts, List.length_map]
        rw [Array.length_toList] at hl2
        have e0 : ts[(x.toInt - lo).toNat]? = some (ts[(x.toInt - lo).toNat]'(by omega)) := List.getElem?_eq_getElem _
        have e1 : offs[(x.toInt - lo).toNat]? = some (((ts[(x.toInt - lo).toNat]'(by omega) : Nat) : Int) - pc) := by
          rw [← Array.getElem?_toList, ← hts, List.getElem?_map, e0]
          rfl
        exact lv_tableIn cx.1 cx.2.1 hd0 h1 h2 e1 (by omega) (hK _ _ _ _ _ _ (zsw_at ts lo hs.1 _ _ e0 (by omega)) hd hl ho k n locs ls hk hn9 hlo hlv)
  · exact hs.elim
def s_ret (nx : Nat) : zStep := fun P d rc rs lv st H K => match st with | [v] => P.1 (some v) H | _ => False
def s_reti : zStep := fun P d rc rs lv st H K => match st with | [.int v] => P.1 (some (.int v)) H | _ => False
theorem z_ireturn (cx : zCx w g own cc nL ret nm hh) (hq : zCq w g P) (hr : ret = some .int) (hd0 : decode cc pc = .ok (.ireturn, 1)) : zSnd w g P pc (s_reti) := by
  intro d rc rs lv st H K hK hs
  unfold s_reti at hs
  split at hs
  · intro hd hl ho k n locs ls hk hn9 hlo hlv
    refine zW_size (fun hsz => ?_)
    unfold zW
    rw [hq]
    refine W.widen (k := (zgR g).cells) (n := (zgR g).slots) (by omega) (by omega) (vx_ret ?_)
    exact W.iret cx.1 cx.2.1 (by rw [cx.2.2.1]; exact hr) (fun t ht hW => ⟨⟨_, rfl, by rw [ht]; exact hs⟩, by rw [ht]; exact hsz⟩) hlo hd0 cx.2.2.2.2.2.2.1
  · exact hs.elim
def s_retz : zStep := fun P d rc rs lv st H K => match st with | [.int v] => (v = 0 ∨ v = 1) ∧ P.1 (some (.int v)) H | _ => False
theorem z_zreturn (cx : zCx w g own cc nL ret nm hh) (hq : zCq w g P) (hr : ret = some .boolean) (hd0 : decode cc pc = .ok (.ireturn, 1)) : zSnd w g P pc (s_retz) := by
  intro d rc rs lv st H K hK hs
  unfold s_retz at hs
  split at hs
  · obtain ⟨hv, hs⟩ := hs
    intro hd hl ho k n locs ls hk hn9 hlo hlv
    refine zW_size (fun hsz => ?_)
    unfold zW
    rw [hq]
    refine W.widen (k := (zgR g).cells) (n := (zgR g).slots) (by omega) (by omega) (vx_ret ?_)
    exact W.zret cx.1 cx.2.1 (by rw [cx.2.2.1]; exact hr) (by rcases hv with rfl | rfl <;> rfl) (fun t ht hW => ⟨⟨_, rfl, by rw [ht]; exact hs⟩, by rw [ht]; exact hsz⟩) hlo hd0 cx.2.2.2.2.2.2.1
  · exact hs.elim
def s_retb (ty : FieldType) : zStep := fun P d rc rs lv st H K => match st with | [.int v] => narrow ty (.int v) = .int v ∧ P.1 (some (.int v)) H | _ => False
theorem z_breturn (cx : zCx w g own cc nL ret nm hh) {ty : FieldType} (hq : zCq w g P) (hr : ret = some ty) (hd0 : decode cc pc = .ok (.ireturn, 1)) : zSnd w g P pc (s_retb ty) := by
  intro d rc rs lv st H K hK hs
  unfold s_retb at hs
  split at hs
  · obtain ⟨hv, hs⟩ := hs
    intro hd hl ho k n locs ls hk hn9 hlo hlv
    refine zW_size (fun hsz => ?_)
    unfold zW
    rw [hq]
    refine W.widen (k := (zgR g).cells) (n := (zgR g).slots) (by omega) (by omega) (vx_ret ?_)
    exact W.zret cx.1 cx.2.1 (by rw [cx.2.2.1]; exact hr) hv (fun t ht hW => ⟨⟨_, rfl, by rw [ht]; exact hs⟩, by rw [ht]; exact hsz⟩) hlo hd0 cx.2.2.2.2.2.2.1
  · exact hs.elim
def s_retl : zStep := fun P d rc rs lv st H K => match st with | [.long v] => P.1 (some (.long v)) H | _ => False
theorem z_lreturn (cx : zCx w g own cc nL ret nm hh) (hq : zCq w g P) (hr : ret = some .long) (hd0 : decode cc pc = .ok (.lreturn, 1)) : zSnd w g P pc (s_retl) := by
  intro d rc rs lv st H K hK hs
  unfold s_retl at hs
  split at hs
  · intro hd hl ho k n locs ls hk hn9 hlo hlv
    refine zW_size (fun hsz => ?_)
    unfold zW
    rw [hq]
    refine W.widen (k := (zgR g).cells) (n := (zgR g).slots) (by omega) (by omega) (vx_ret ?_)
    exact W.lret cx.1 cx.2.1 (by rw [cx.2.2.1]; exact hr) (fun t ht hW => ⟨⟨_, rfl, by rw [ht]; exact hs⟩, by rw [ht]; exact hsz⟩) hlo hd0 cx.2.2.2.2.2.2.1
  · exact hs.elim
def s_retf : zStep := fun P d rc rs lv st H K => match st with | [.float v] => P.1 (some (.float v)) H | _ => False
theorem z_freturn (cx : zCx w g own cc nL ret nm hh) (hq : zCq w g P) (hr : ret = some .float) (hd0 : decode cc pc = .ok (.freturn, 1)) : zSnd w g P pc (s_retf) := by
  intro d rc rs lv st H K hK hs
  unfold s_retf at hs
  split at hs
  · intro hd hl ho k n locs ls hk hn9 hlo hlv
    refine zW_size (fun hsz => ?_)
    unfold zW
    rw [hq]
    refine W.widen (k := (zgR g).cells) (n := (zgR g).slots) (by omega) (by omega) (vx_ret ?_)
    exact W.fret cx.1 cx.2.1 (by rw [cx.2.2.1]; exact hr) (fun t ht hW => ⟨⟨_, rfl, by rw [ht]; exact hs⟩, by rw [ht]; exact hsz⟩) hlo hd0 cx.2.2.2.2.2.2.1
  · exact hs.elim
def s_retd : zStep := fun P d rc rs lv st H K => match st with | [.double v] => P.1 (some (.double v)) H | _ => False
theorem z_dreturn (cx : zCx w g own cc nL ret nm hh) (hq : zCq w g P) (hr : ret = some .double) (hd0 : decode cc pc = .ok (.dreturn, 1)) : zSnd w g P pc (s_retd) := by
  intro d rc rs lv st H K hK hs
  unfold s_retd at hs
  split at hs
  · intro hd hl ho k n locs ls hk hn9 hlo hlv
    refine zW_size (fun hsz => ?_)
    unfold zW
    rw [hq]
    refine W.widen (k := (zgR g).cells) (n := (zgR g).slots) (by omega) (by omega) (vx_ret ?_)
    exact W.dret cx.1 cx.2.1 (by rw [cx.2.2.1]; exact hr) (fun t ht hW => ⟨⟨_, rfl, by rw [ht]; exact hs⟩, by rw [ht]; exact hsz⟩) hlo hd0 cx.2.2.2.2.2.2.1
  · exact hs.elim
def s_retv : zStep := fun P d rc rs lv st H K => match st with | [] => P.1 (none) H | _ => False
theorem z_return (cx : zCx w g own cc nL ret nm hh) (hq : zCq w g P) (hr : ret = none) (hd0 : decode cc pc = .ok (.return_, 1)) : zSnd w g P pc (s_retv) := by
  intro d rc rs lv st H K hK hs
  unfold s_retv at hs
  split at hs
  · intro hd hl ho k n locs ls hk hn9 hlo hlv
    refine zW_size (fun hsz => ?_)
    unfold zW
    rw [hq]
    refine W.widen (k := (zgR g).cells) (n := (zgR g).slots) (by omega) (by omega) (vx_ret ?_)
    exact W.vret cx.1 cx.2.1 (by rw [cx.2.2.1]; exact hr) (fun t ht hW => ⟨⟨_, rfl, by rw [ht]; exact hs⟩, by rw [ht]; exact hsz⟩) hlo hd0 cx.2.2.2.2.2.2.1
  · exact hs.elim
def s_reta : zStep := fun P d rc rs lv st H K => match st with | [.ref v] => P.1 (some (.ref v)) H | _ => False
theorem z_areturn (cx : zCx w g own cc nL ret nm hh) {rt : FieldType} (hq : zCq w g P) (hr : ret = some rt) (hrt : (∃ n, rt = .object n) ∨ ∃ t, rt = .array t) (hd0 : decode cc pc = .ok (.areturn, 1)) : zSnd w g P pc (s_reta) := by
  intro d rc rs lv st H K hK hs
  unfold s_reta at hs
  split at hs
  · intro hd hl ho k n locs ls hk hn9 hlo hlv
    refine zW_size (fun hsz => ?_)
    unfold zW
    rw [hq]
    refine W.widen (k := (zgR g).cells) (n := (zgR g).slots) (by omega) (by omega) (vx_ret ?_)
    exact W.aret cx.1 cx.2.1 (by rw [cx.2.2.1]; exact hr) hrt (Or.inr ⟨_, rfl⟩) (fun t ht hW => ⟨⟨_, rfl, by rw [ht]; exact hs⟩, by rw [ht]; exact hsz⟩) hlo hd0 cx.2.2.2.2.2.2.1
  · exact hs.elim
end ZS
