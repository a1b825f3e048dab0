/-! THE z-LAYER, 3: fields, arrays, new objects, texts of types -/
def zOb (w : zG) (a ci : Nat) (fs : List Value) (H : Heap) : Prop := va_at w.2.2.1 zCl (a, .inr (ci, fs)) H
def zAr (w : zG) (a t : Nat) (x : vp_A) (H : Heap) : Prop := va_at w.2.2.1 zCl (a, .inl (w.2.2.2.1 t, x)) H
def zUpd (H H' : Heap) (a : Nat) : Prop := H'.size = H.size ∧ ∀ q : Nat, q ≠ a → H'[q]? = H[q]?
def zPush (H H' : Heap) : Prop := H'.size = H.size + 1 ∧ ∀ q : Nat, q < H.size → H'[q]? = H[q]?
theorem zOb.kept {w : zG} {a ci : Nat} {fs : List Value} {H H' : Heap} (h : zOb w a ci fs H) (e : H'[a]? = H[a]?) : zOb w a ci fs H' := va_at.kept h e
theorem zAr.kept {w : zG} {a t : Nat} {x : vp_A} {H H' : Heap} (h : zAr w a t x H) (e : H'[a]? = H[a]?) : zAr w a t x H' := va_at.kept h e
theorem zOb.lt {w : zG} {a ci : Nat} {fs : List Value} {H : Heap} (h : zOb w a ci fs H) : a < H.size := va_at.lt h
theorem zAr.lt {w : zG} {a t : Nat} {x : vp_A} {H : Heap} (h : zAr w a t x H) : a < H.size := va_at.lt h
theorem zOld.upd {w : zG} {H H' : Heap} {a : Nat} (h : zOld w H) (u : zUpd H H' a) (ha : zNew w a) : zOld w H' := ⟨by rw [u.1]; exact h.1, fun q hq => by rw [u.2 q (fun e => by subst e; exact absurd hq (Nat.not_lt.mpr ha))]; exact h.2 q hq⟩
theorem zOld.push {w : zG} {H H' : Heap} (h : zOld w H) (u : zPush H H') : zOld w H' := ⟨by rw [u.1]; exact Nat.le_succ_of_le h.1, fun q hq => by rw [u.2 q (Nat.lt_of_lt_of_le hq h.1)]; exact h.2 q hq⟩
theorem zP1 {D : va_G} {cl : List vw_C} {q : Nat × va_E} {H : Heap} (h : va_at D cl q H) : va_P D cl [q] H := by
  intro k x hx
  cases k with
  | zero => cases hx; exact h
  | succ k => simp at hx
def zset : List Value → Nat → Value → (List Value → Prop) → Prop
  | [], _, _, _ => False
  | _ :: t, 0, v, K => K (v :: t)
  | u :: t, k + 1, v, K => zset t k v (fun l => K (u :: l))
theorem zset_spec : ∀ (fs : List Value) (k : Nat) (v : Value) (K : List Value → Prop), zset fs k v K → k < fs.length ∧ K (fs.set k v)
  | [], k, v, K, h => h.elim
  | u :: t, 0, v, K, h => ⟨by simp, h⟩
  | u :: t, k + 1, v, K, h => by
    obtain ⟨h1, h2⟩ := zset_spec t k v _ h
    exact ⟨by simpa using h1, h2⟩
def zget : List Value → Nat → (Value → Prop) → Prop
  | [], _, _ => False
  | v :: _, 0, K => K v
  | _ :: t, k + 1, K => zget t k K
theorem zget_spec : ∀ (fs : List Value) (k : Nat) (K : Value → Prop), zget fs k K → ∃ v, fs[k]? = some v ∧ K v
  | [], k, K, h => h.elim
  | u :: t, 0, K, h => ⟨u, rfl, h⟩
  | u :: t, k + 1, K, h => by
    obtain ⟨v, h1, h2⟩ := zget_spec t k K h
    exact ⟨v, by simpa using h1, h2⟩
def zfit (ty : FieldType) (v : Value) (Kp : Prop) : Prop := match ty, v with
  | .int, .int _ => Kp
  | .long, .long _ => Kp
  | .float, .float _ => Kp
  | .double, .double _ => Kp
  | .object _, .ref _ => Kp
  | .object _, .null => Kp
  | .array _, .ref _ => Kp
  | .array _, .null => Kp
  | .byte, .int x => (narrow .byte (.int x) = .int x ∧ fits .byte (.int x) = true) ∧ Kp
  | .boolean, .int x => (narrow .boolean (.int x) = .int x ∧ fits .boolean (.int x) = true) ∧ Kp
  | _, _ => False
theorem zfit_spec {ty : FieldType} {v : Value} {Kp : Prop} (h : zfit ty v Kp) : (narrow ty v = v ∧ fits ty v = true) ∧ Kp := by
  unfold zfit at h
  split at h <;> first | exact ⟨⟨rfl, rfl⟩, h⟩ | exact h | exact h.elim
section ZH
variable {w : zG} {g : zM} {P : zPo} {own : String} {cc : ByteArray} {nL : Nat} {ret : Option FieldType} {nm : String} {hh : List (Nat × Nat × Nat × Nat)} {pc nx : Nat}
def s_gf (w : zG) (ci k nx : Nat) : zStep := fun P d rc rs lv st H K => match st with | .ref a :: rest => ∃ fs, zOb w a ci fs H ∧ zget fs k (fun v => K nx rc rs lv (v :: rest) H) | _ => False
theorem z_getf (cx : zCx w g own cc nL ret nm hh) {ci k idx : Nat} {C ref : String} {T : u_T} {N : Nat} (hc : zCl[ci]? = some (C, T, N)) (hin : ∀ x ∈ u_ws C T N, x ∈ lw_all) (hk9 : k < N) (hq : Cond.fieldLink own idx ref (T k).2.1 (T k).2.2.1 ∈ lw_all) (href : ref = (T k).1) (hd0 : decode cc pc = .ok (.getfield idx, 3)) (hn : pc + 3 = nx) : zSnd w g P pc (s_gf w ci k nx) := by
  intro d rc rs lv st H K hK hs
  unfold s_gf at hs
  split at hs
  · obtain ⟨fs, h1, h2⟩ := hs
    obtain ⟨v, h3, h4⟩ := zget_spec _ _ _ h2
    subst hn
    subst href
    intro hd hl ho k n locs ls hk hn9 hlo hlv
    exact va_get cx.1 cx.2.1 cx.2.2.2.2.2.1 hin cx.2.2.2.2.1 (cx.2.2.2.2.2.2.2.1).1 (zP1 h1) 0 rfl hc _ hk9 (cx.2.2.2.2.2.1 _ hq) (fun _ h => h) h3 hd0 (hK _ _ _ _ _ _ h4 hd hl ho k n locs ls hk hn9 hlo hlv)
  · exact hs.elim
def s_pf (w : zG) (ci k : Nat) (ty : FieldType) (nx : Nat) : zStep := fun P d rc rs lv st H K => match st with | v :: .ref a :: rest => zfit ty v (∃ fs, zOb w a ci fs H ∧ zNew w a ∧ zset fs k v (fun fs' => ∀ H', zUpd H H' a → zOb w a ci fs' H' → K nx rc rs lv rest H')) | _ => False
theorem z_putf (cx : zCx w g own cc nL ret nm hh) {ci k idx : Nat} {C ref : String} {T : u_T} {N : Nat} {ty : FieldType} (hc : zCl[ci]? = some (C, T, N)) (hin : ∀ x ∈ u_ws C T N, x ∈ lw_all) (ty0 : Nat → FieldType) (hty : ∀ k, k < N → parseFieldDescriptor (T k).2.2.1 = some (ty0 k)) (hnm : ∀ a, a < N → ∀ b, b < N → a ≠ b → (T a).2.1 ≠ (T b).2.1) (hk9 : k < N) (hq : Cond.fieldLink own idx ref (T k).2.1 (T k).2.2.1 ∈ lw_all) (href : ref = (T k).1) (hfin : (T k).2.2.2 = false) (hty2 : ty0 k = ty) (hd0 : decode cc pc = .ok (.putfield idx, 3)) (hn : pc + 3 = nx) : zSnd w g P pc (s_pf w ci k ty nx) := by
  intro d rc rs lv st H K hK hs
  unfold s_pf at hs
  split at hs
  · rename_i v a rest
    obtain ⟨⟨hnw, hft⟩, fs, hob, hnew, hs4⟩ := zfit_spec hs
    obtain ⟨hl0, hs5⟩ := zset_spec _ _ _ _ hs4
    clear hs hs4
    subst hn
    subst href
    subst hty2
    intro hd hl ho k9 n locs ls hk hn9 hlo hlv
    have hts := cx.2.2.2.2.2.1
    have hGK := (cx.2.2.2.2.2.2.2.1).1
    have hap := va_apart (own := own) hts hin ty0 hty hnm hGK hc
    obtain ⟨r, h1, cell, q1, q2, q3, q4⟩ := hob
    have hr : r = (C, T, N) := Option.some.inj (h1.symm.trans hc)
    subst hr
    obtain ⟨hS, hfc, kC, hkC, hkind⟩ := hGK.1 ci _ hc
    obtain ⟨cf, kf, fi, f, hi, hsl⟩ := hS k hk9
    have hlay := hts _ (hin _ (u_in_lay hk9))
    unfold u_lay at hlay
    rw [if_neg (by rw [hfin]; decide)] at hlay
    have hst := (u_facts hfc hkC (u_lays hts hin hk9) hi).1
    have h6 := u_store hfc hkC hkind hlay hi (hty k hk9) hnw hft
    refine W.putK cx.1 cx.2.1 (f := f) ⟨cx.2.2.2.2.1, hts _ hq, ⟨_, _, _, hi⟩, hst⟩ (by rw [q2]; exact h6) q1 q3 (by rw [hsl]; exact k2_hasslot (q4 k hk9)) rfl rfl hd0 fun H' e1 e2 e3 => ?_
    rw [hsl] at e1
    have hu : zUpd H H' a := ⟨e2, e3⟩
    refine hK _ _ _ _ _ _ (hs5 H' hu ?_) hd hl (ho.upd hu hnew) k9 n _ ls hk hn9 (fun z hz => ?_) hlv
    · exact ⟨_, hc, t_OB.to (V := updV (vp_V fs) k v) ⟨_, e1, q2, q3, t_set q4 hap hk9 v⟩ (fun j _ => vp_updV_set hl0 v j)⟩
    · rcases List.mem_append.mp hz with h | h
      · exact hlo z h
      · rw [List.mem_singleton.mp h]; exact hnew
  · exact hs.elim
theorem z_putfin (cx : zCx w g own cc nL ret nm hh) {ci k idx : Nat} {C ref : String} {T : u_T} {N : Nat} {ty : FieldType} (hc : zCl[ci]? = some (C, T, N)) (hin : ∀ x ∈ u_ws C T N, x ∈ lw_all) (ty0 : Nat → FieldType) (hty : ∀ k, k < N → parseFieldDescriptor (T k).2.2.1 = some (ty0 k)) (hnm : ∀ a, a < N → ∀ b, b < N → a ≠ b → (T a).2.1 ≠ (T b).2.1) (hk9 : k < N) (hq : Cond.fieldLink own idx ref (T k).2.1 (T k).2.2.1 ∈ lw_all) (href : ref = (T k).1) (hfin : (T k).2.2.2 = true) (hin2 : nm = "<init>") (hdecl : (T k).1 = own) (hty2 : ty0 k = ty) (hd0 : decode cc pc = .ok (.putfield idx, 3)) (hn : pc + 3 = nx) : zSnd w g P pc (s_pf w ci k ty nx) := by
  intro d rc rs lv st H K hK hs
  unfold s_pf at hs
  split at hs
  · rename_i v a rest
    obtain ⟨⟨hnw, hft⟩, fs, hob, hnew, hs4⟩ := zfit_spec hs
    obtain ⟨hl0, hs5⟩ := zset_spec _ _ _ _ hs4
    clear hs hs4
    subst hn
    subst href
    subst hty2
    intro hd hl ho k9 n locs ls hk hn9 hlo hlv
    have hts := cx.2.2.2.2.2.1
    have hown := cx.2.2.2.2.1
    have hGK := (cx.2.2.2.2.2.2.2.1).1
    have hap := va_apart (own := own) hts hin ty0 hty hnm hGK hc
    obtain ⟨r, h1, cell, q1, q2, q3, q4⟩ := hob
    have hr : r = (C, T, N) := Option.some.inj (h1.symm.trans hc)
    subst hr
    obtain ⟨hS, hfc, kC, hkC, hkind⟩ := hGK.1 ci _ hc
    obtain ⟨cf, kf, fi, f, hi, hsl⟩ := hS k hk9
    have hlay := hts _ (hin _ (u_in_lay hk9))
    unfold u_lay at hlay
    rw [if_pos hfin] at hlay
    have hst := (u_facts hfc hkC (u_lays hts hin hk9) hi).1
    have hcf : (zgm g).cls = cf := by
      obtain ⟨_, _, c', _, _, _, -, -, hf', -, -, -, hown2, -⟩ := Cond.laysFinal_spec hlay
      have e1 : c' = cf := by have := hi.symm.trans hf'; simp at this; exact this.1.symm
      rw [hdecl] at hown2
      rw [← e1]; exact Option.some.inj (hown.symm.trans hown2)
    have h6 := u_fits hfc hkC hkind (Or.inr hlay) hi (hty k hk9) hnw hft
    refine W.putFinK cx.1 cx.2.1 hown (hts _ hq) hi hst hcf (by rw [cx.2.2.2.2.2.2.2.2.1]; exact hin2) (by rw [q2]; exact h6) q1 q3 (by rw [hsl]; exact k2_hasslot (q4 k hk9)) rfl rfl hd0 fun H' e1 e2 e3 => ?_
    rw [hsl] at e1
    have hu : zUpd H H' a := ⟨e2, e3⟩
    refine hK _ _ _ _ _ _ (hs5 H' hu ?_) hd hl (ho.upd hu hnew) k9 n _ ls hk hn9 (fun z hz => ?_) hlv
    · exact ⟨_, hc, t_OB.to (V := updV (vp_V fs) k v) ⟨_, e1, q2, q3, t_set q4 hap hk9 v⟩ (fun j _ => vp_updV_set hl0 v j)⟩
    · rcases List.mem_append.mp hz with h | h
      · exact hlo z h
      · rw [List.mem_singleton.mp h]; exact hnew
  · exact hs.elim
/-! nest mates' fields -/
theorem z_getfN (cx : zCx w g own cc nL ret nm hh) {ci k idx : Nat} {C ref host : String} {T : u_T} {N : Nat} (hc : zCl[ci]? = some (C, T, N)) (hin : ∀ x ∈ u_ws C T N, x ∈ lw_all) (hk9 : k < N) (hq : zGK w (zgS g) → va_Nw (.fieldLinkNest own idx ref (T k).2.1 (T k).2.2.1 host) (zgS g)) (href : ref = (T k).1) (hd0 : decode cc pc = .ok (.getfield idx, 3)) (hn : pc + 3 = nx) : zSnd w g P pc (s_gf w ci k nx) := by
  intro d rc rs lv st H K hK hs
  unfold s_gf at hs
  split at hs
  · obtain ⟨fs, h1, h2⟩ := hs
    obtain ⟨v, h3, h4⟩ := zget_spec _ _ _ h2
    subst hn
    subst href
    intro hd hl ho k n locs ls hk hn9 hlo hlv
    exact va_getN cx.1 cx.2.1 cx.2.2.2.2.2.1 hin cx.2.2.2.2.1 (cx.2.2.2.2.2.2.2.1).1 (zP1 h1) 0 rfl hc _ hk9 (va_Nw.use rfl (hq cx.2.2.2.2.2.2.2.1)) (fun _ h => h) h3 hd0 (hK _ _ _ _ _ _ h4 hd hl ho k n locs ls hk hn9 hlo hlv)
  · exact hs.elim
/-! arrays -/
theorem zin {i : Int32} {j n : Nat} (e : i = nI j) (h : j < n) (hn : n ≤ 2147483647) : vp_in i n ∧ i.toNatClampNeg = j := by
  subst e
  exact ⟨vp_in_nI h (by omega), nI_clamp (by omega)⟩
def s_aln (w : zG) (nx : Nat) : zStep := fun P d rc rs lv st H K => match st with | .ref a :: rest => ∃ t x, t < 6 ∧ zAr w a t x H ∧ K nx rc rs lv (.int (nI x.1) :: rest) H | _ => False
theorem zTys_at {w : zG} {t : Nat} (h : t < 6) : (zTys w)[t]? = some (w.2.2.2.1 t, zTy t) := by
  match t, h with
  | 0, _ => rfl
  | 1, _ => rfl
  | 2, _ => rfl
  | 3, _ => rfl
  | 4, _ => rfl
  | 5, _ => rfl
theorem z_alen (cx : zCx w g own cc nL ret nm hh) (hd0 : decode cc pc = .ok (.arraylength, 1)) (hn : pc + 1 = nx) : zSnd w g P pc (s_aln w nx) := by
  intro d rc rs lv st H K hK hs
  unfold s_aln at hs
  split at hs
  · obtain ⟨t, x, ht, h1, h2⟩ := hs
    subst hn
    intro hd hl ho k n locs ls hk hn9 hlo hlv
    exact va_alen cx.1 cx.2.1 (cx.2.2.2.2.2.2.2.1).1 (zP1 h1) 0 t rfl (zTys_at ht) rfl hd0 (hK _ _ _ _ _ _ h2 hd hl ho k n locs ls hk hn9 hlo hlv)
  · exact hs.elim
def s_iald (w : zG) (nx : Nat) : zStep := fun P d rc rs lv st H K => match st with | .int i :: .ref a :: rest => ∃ n f j, zAr w a 0 (n, .inl f) H ∧ i = nI j ∧ j < n ∧ n ≤ 2147483647 ∧ K nx rc rs lv (.int (f j) :: rest) H | _ => False
theorem z_iald (cx : zCx w g own cc nL ret nm hh) (hd0 : decode cc pc = .ok (.iaload, 1)) (hn : pc + 1 = nx) : zSnd w g P pc (s_iald w nx) := by
  intro d rc rs lv st H K hK hs
  unfold s_iald at hs
  split at hs
  · obtain ⟨n0, f, j, h1, e, hj, hb, h2⟩ := hs
    obtain ⟨z1, z2⟩ := zin e hj hb
    subst hn
    intro hd hl ho k n locs ls hk hn9 hlo hlv
    exact va_iald cx.1 cx.2.1 (cx.2.2.2.2.2.2.2.1).1 (zP1 h1) 0 0 rfl rfl z1 hd0 (by rw [z2]; exact hK _ _ _ _ _ _ h2 hd hl ho k n locs ls hk hn9 hlo hlv)
  · exact hs.elim
def s_bald (w : zG) (nx : Nat) : zStep := fun P d rc rs lv st H K => match st with | .int i :: .ref a :: rest => ∃ n f j, zAr w a 2 (n, .inl f) H ∧ i = nI j ∧ j < n ∧ n ≤ 2147483647 ∧ K nx rc rs lv (.int (f j) :: rest) H | _ => False
theorem z_bald (cx : zCx w g own cc nL ret nm hh) (hd0 : decode cc pc = .ok (.baload, 1)) (hn : pc + 1 = nx) : zSnd w g P pc (s_bald w nx) := by
  intro d rc rs lv st H K hK hs
  unfold s_bald at hs
  split at hs
  · obtain ⟨n0, f, j, h1, e, hj, hb, h2⟩ := hs
    obtain ⟨z1, z2⟩ := zin e hj hb
    subst hn
    intro hd hl ho k n locs ls hk hn9 hlo hlv
    exact va_bald cx.1 cx.2.1 (cx.2.2.2.2.2.2.2.1).1 (zP1 h1) 0 2 rfl rfl z1 hd0 (by rw [z2]; exact hK _ _ _ _ _ _ h2 hd hl ho k n locs ls hk hn9 hlo hlv)
  · exact hs.elim
def s_lald (w : zG) (nx : Nat) : zStep := fun P d rc rs lv st H K => match st with | .int i :: .ref a :: rest => ∃ n f j, zAr w a 1 (n, .inr (.inl f)) H ∧ i = nI j ∧ j < n ∧ n ≤ 2147483647 ∧ K nx rc rs lv (.long (f j) :: rest) H | _ => False
theorem z_lald (cx : zCx w g own cc nL ret nm hh) (hd0 : decode cc pc = .ok (.laload, 1)) (hn : pc + 1 = nx) : zSnd w g P pc (s_lald w nx) := by
  intro d rc rs lv st H K hK hs
  unfold s_lald at hs
  split at hs
  · obtain ⟨n0, f, j, h1, e, hj, hb, h2⟩ := hs
    obtain ⟨z1, z2⟩ := zin e hj hb
    subst hn
    intro hd hl ho k n locs ls hk hn9 hlo hlv
    exact va_lald cx.1 cx.2.1 (cx.2.2.2.2.2.2.2.1).1 (zP1 h1) 0 1 rfl rfl z1 hd0 (by rw [z2]; exact hK _ _ _ _ _ _ h2 hd hl ho k n locs ls hk hn9 hlo hlv)
  · exact hs.elim
def s_dald (w : zG) (nx : Nat) : zStep := fun P d rc rs lv st H K => match st with | .int i :: .ref a :: rest => ∃ n f j, zAr w a 3 (n, .inr (.inr (.inr (.inl f)))) H ∧ i = nI j ∧ j < n ∧ n ≤ 2147483647 ∧ K nx rc rs lv (.double (f j) :: rest) H | _ => False
theorem z_dald (cx : zCx w g own cc nL ret nm hh) (hd0 : decode cc pc = .ok (.daload, 1)) (hn : pc + 1 = nx) : zSnd w g P pc (s_dald w nx) := by
  intro d rc rs lv st H K hK hs
  unfold s_dald at hs
  split at hs
  · obtain ⟨n0, f, j, h1, e, hj, hb, h2⟩ := hs
    obtain ⟨z1, z2⟩ := zin e hj hb
    subst hn
    intro hd hl ho k n locs ls hk hn9 hlo hlv
    exact va_dald cx.1 cx.2.1 (cx.2.2.2.2.2.2.2.1).1 (zP1 h1) 0 3 rfl rfl z1 hd0 (by rw [z2]; exact hK _ _ _ _ _ _ h2 hd hl ho k n locs ls hk hn9 hlo hlv)
  · exact hs.elim
/-- an array of Doubles (t = 4) or Floats (t = 5) -/
def s_aald (w : zG) (t nx : Nat) : zStep := fun P d rc rs lv st H K => match st with | .int i :: .ref a :: rest => ∃ n f j r, zAr w a t (n, .inr (.inr (.inr (.inr f)))) H ∧ i = nI j ∧ j < n ∧ n ≤ 2147483647 ∧ f j = some r ∧ K nx rc rs lv (.ref r :: rest) H | _ => False
theorem z_aald (cx : zCx w g own cc nL ret nm hh) {t : Nat} {C : String} (ht : t < 6) (hty : zTy t = .object C) (hd0 : decode cc pc = .ok (.aaload, 1)) (hn : pc + 1 = nx) : zSnd w g P pc (s_aald w t nx) := by
  intro d rc rs lv st H K hK hs
  unfold s_aald at hs
  split at hs
  · obtain ⟨n0, f, j, r, h1, e, hj, hb, hr, h2⟩ := hs
    obtain ⟨z1, z2⟩ := zin e hj hb
    subst hn
    intro hd hl ho k n locs ls hk hn9 hlo hlv
    exact va_aldq cx.1 cx.2.1 (cx.2.2.2.2.2.2.2.1).1 (zP1 h1) 0 t rfl (by rw [zTys_at ht, hty]) z1 hd0 (by rw [z2, hr]; exact hK _ _ _ _ _ _ h2 hd hl ho k n locs ls hk hn9 hlo hlv)
  · exact hs.elim
theorem zloc1 {w : zG} {locs : List Loc} {a j : Nat} (hlo : ∀ z ∈ locs, zNew w z.base) (h : zNew w a) : ∀ z ∈ locs ++ [⟨a, j⟩], zNew w z.base := fun z hz => (List.mem_append.mp hz).elim (hlo z) (fun e => by rw [List.mem_singleton.mp e]; exact h)
def s_iast (w : zG) (nx : Nat) : zStep := fun P d rc rs lv st H K => match st with | .int x :: .int i :: .ref a :: rest => ∃ n f j, zAr w a 0 (n, .inl f) H ∧ i = nI j ∧ j < n ∧ n ≤ 2147483647 ∧ zNew w a ∧ ∀ H', zUpd H H' a → zAr w a 0 (n, .inl (upd f j x)) H' → K nx rc rs lv rest H' | _ => False
theorem z_iast (cx : zCx w g own cc nL ret nm hh) (hd0 : decode cc pc = .ok (.iastore, 1)) (hn : pc + 1 = nx) : zSnd w g P pc (s_iast w nx) := by
  intro d rc rs lv st H K hK hs
  unfold s_iast at hs
  split at hs
  · rename_i x i a rest
    obtain ⟨n0, f, j, h1, e, hj, hb, hnw, h2⟩ := hs
    obtain ⟨z1, z2⟩ := zin e hj hb
    subst hn
    intro hd hl ho k n locs ls hk hn9 hlo hlv
    refine W.iast cx.1 cx.2.1 h1 (((cx.2.2.2.2.2.2.2.1).1.2 0 _ rfl).1 n0 (fun j => .int (f j))) (fun q => by cases q) (by show ¬ (i < 0 ∨ (arrV _ _ _).slots.size ≤ _); rw [arrV_size]; exact z1) rfl rfl hd0 fun H1 e z oq => ?_
    have hu : zUpd H H1 a := ⟨z, oq⟩
    refine hK _ _ _ _ _ _ (h2 H1 hu ?_) hd hl (ho.upd hu hnw) k n _ ls hk hn9 (zloc1 hlo hnw) hlv
    show H1[a]? = some (vp_cell _ _)
    rw [e, z2]
    rw [vp_cell_i, vp_cell_i, arrV_store]
    congr 2
    funext q
    by_cases hq : q = j
    · subst hq
      simp [updV, upd]
    · simp [updV, upd, hq]
  · exact hs.elim
def s_bast (w : zG) (nx : Nat) : zStep := fun P d rc rs lv st H K => match st with | .int x :: .int i :: .ref a :: rest => ∃ n f j, zAr w a 2 (n, .inl f) H ∧ i = nI j ∧ j < n ∧ n ≤ 2147483647 ∧ zNew w a ∧ ∀ H', zUpd H H' a → zAr w a 2 (n, .inl (upd f j (vp_nar .byte x))) H' → K nx rc rs lv rest H' | _ => False
theorem z_bast (cx : zCx w g own cc nL ret nm hh) (hd0 : decode cc pc = .ok (.bastore, 1)) (hn : pc + 1 = nx) : zSnd w g P pc (s_bast w nx) := by
  intro d rc rs lv st H K hK hs
  unfold s_bast at hs
  split at hs
  · rename_i x i a rest
    obtain ⟨n0, f, j, h1, e, hj, hb, hnw, h2⟩ := hs
    obtain ⟨z1, z2⟩ := zin e hj hb
    subst hn
    intro hd hl ho k n locs ls hk hn9 hlo hlv
    refine W.bast cx.1 cx.2.1 h1 (((cx.2.2.2.2.2.2.2.1).1.2 2 _ rfl).1 n0 (fun j => .int (f j))) (fun q => by cases q) (by show ¬ (i < 0 ∨ (arrV _ _ _).slots.size ≤ _); rw [arrV_size]; exact z1) rfl rfl hd0 fun H1 e z oq => ?_
    have hu : zUpd H H1 a := ⟨z, oq⟩
    refine hK _ _ _ _ _ _ (h2 H1 hu ?_) hd hl (ho.upd hu hnw) k n _ ls hk hn9 (zloc1 hlo hnw) hlv
    show H1[a]? = some (vp_cell _ _)
    rw [e, z2]
    rw [vp_cell_i, vp_cell_i, arrV_store]
    congr 2
    funext q
    by_cases hq : q = j
    · subst hq
      simp [updV, upd, vp_nar]
      try rfl
    · simp [updV, upd, hq]
  · exact hs.elim
def s_last (w : zG) (nx : Nat) : zStep := fun P d rc rs lv st H K => match st with | .long x :: .int i :: .ref a :: rest => ∃ n f j, zAr w a 1 (n, .inr (.inl f)) H ∧ i = nI j ∧ j < n ∧ n ≤ 2147483647 ∧ zNew w a ∧ ∀ H', zUpd H H' a → zAr w a 1 (n, .inr (.inl (vp_updL f j x))) H' → K nx rc rs lv rest H' | _ => False
theorem z_last (cx : zCx w g own cc nL ret nm hh) (hd0 : decode cc pc = .ok (.lastore, 1)) (hn : pc + 1 = nx) : zSnd w g P pc (s_last w nx) := by
  intro d rc rs lv st H K hK hs
  unfold s_last at hs
  split at hs
  · rename_i x i a rest
    obtain ⟨n0, f, j, h1, e, hj, hb, hnw, h2⟩ := hs
    obtain ⟨z1, z2⟩ := zin e hj hb
    subst hn
    intro hd hl ho k n locs ls hk hn9 hlo hlv
    refine W.last cx.1 cx.2.1 h1 (((cx.2.2.2.2.2.2.2.1).1.2 1 _ rfl).1 n0 (fun j => .long (f j))) (fun q => by cases q) (by show ¬ (i < 0 ∨ (arrV _ _ _).slots.size ≤ _); rw [arrV_size]; exact z1) rfl rfl hd0 fun H1 e z oq => ?_
    have hu : zUpd H H1 a := ⟨z, oq⟩
    refine hK _ _ _ _ _ _ (h2 H1 hu ?_) hd hl (ho.upd hu hnw) k n _ ls hk hn9 (zloc1 hlo hnw) hlv
    show H1[a]? = some (vp_cell _ _)
    rw [e, z2]
    rw [vp_cell_l, vp_cell_l, arrV_store]
    congr 2
    funext q
    by_cases hq : q = j
    · subst hq
      simp [updV, vp_updL]
    · simp [updV, vp_updL, hq]
  · exact hs.elim
def s_dast (w : zG) (nx : Nat) : zStep := fun P d rc rs lv st H K => match st with | .double x :: .int i :: .ref a :: rest => ∃ n f j, zAr w a 3 (n, .inr (.inr (.inr (.inl f)))) H ∧ i = nI j ∧ j < n ∧ n ≤ 2147483647 ∧ zNew w a ∧ ∀ H', zUpd H H' a → zAr w a 3 (n, .inr (.inr (.inr (.inl (vf_upd f j x))))) H' → K nx rc rs lv rest H' | _ => False
theorem z_dast (cx : zCx w g own cc nL ret nm hh) (hd0 : decode cc pc = .ok (.dastore, 1)) (hn : pc + 1 = nx) : zSnd w g P pc (s_dast w nx) := by
  intro d rc rs lv st H K hK hs
  unfold s_dast at hs
  split at hs
  · rename_i x i a rest
    obtain ⟨n0, f, j, h1, e, hj, hb, hnw, h2⟩ := hs
    obtain ⟨z1, z2⟩ := zin e hj hb
    subst hn
    intro hd hl ho k n locs ls hk hn9 hlo hlv
    refine W.dast cx.1 cx.2.1 h1 (((cx.2.2.2.2.2.2.2.1).1.2 3 _ rfl).1 n0 (fun j => .double (f j))) (fun q => by cases q) (by show ¬ (i < 0 ∨ (arrV _ _ _).slots.size ≤ _); rw [arrV_size]; exact z1) rfl rfl hd0 fun H1 e z oq => ?_
    have hu : zUpd H H1 a := ⟨z, oq⟩
    refine hK _ _ _ _ _ _ (h2 H1 hu ?_) hd hl (ho.upd hu hnw) k n _ ls hk hn9 (zloc1 hlo hnw) hlv
    show H1[a]? = some (vp_cell _ _)
    rw [e, z2]
    rw [vp_cell_d, vp_cell_d, arrV_store]
    congr 2
    funext q
    by_cases hq : q = j
    · subst hq
      simp [updV, vf_upd]
    · simp [updV, vf_upd, hq]
  · exact hs.elim
def s_aast (w : zG) (t ci nx : Nat) : zStep := fun P d rc rs lv st H K => match st with | .ref v :: .int i :: .ref a :: rest => ∃ n f j, zAr w a t (n, .inr (.inr (.inr (.inr f)))) H ∧ i = nI j ∧ j < n ∧ n ≤ 2147483647 ∧ zNew w a ∧ (∃ fs, zOb w v ci fs H) ∧ ∀ H', zUpd H H' a → zAr w a t (n, .inr (.inr (.inr (.inr (va_up f j (some v)))))) H' → K nx rc rs lv rest H' | _ => False
theorem z_aast (cx : zCx w g own cc nL ret nm hh) {t ci : Nat} {r : vw_C} (ht : t < 6) (hc : zCl[ci]? = some r) (hty : zTy t = .object r.1) (hd0 : decode cc pc = .ok (.aastore, 1)) (hn : pc + 1 = nx) : zSnd w g P pc (s_aast w t ci nx) := by
  intro d rc rs lv st H K hK hs
  unfold s_aast at hs
  split at hs
  · rename_i v i a rest
    obtain ⟨n0, f, j, h1, e, hj, hb, hnw, ⟨fs, hv⟩, h2⟩ := hs
    obtain ⟨z1, z2⟩ := zin e hj hb
    subst hn
    intro hd hl ho k n locs ls hk hn9 hlo hlv
    have hGK := (cx.2.2.2.2.2.2.2.1).1
    have hlt : i.toNatClampNeg < n0 := Nat.not_le.mp fun q => z1 (Or.inr q)
    have h0 : ¬ i < 0 := fun q => z1 (Or.inl q)
    obtain ⟨r', hr', cellV, g1, g2, g3, -⟩ := hv
    have hcls := (hGK.1 ci r hc).2
    have h9 := (hGK.2 t _ (zTys_at ht)).2
    rw [hty] at h9
    obtain ⟨kA, comp, k1, k2, k3, -⟩ := h9
    have hcomp : comp = w.2.2.1.1 ci := Option.some.inj (k3.symm.trans hcls.1)
    subst hcomp
    obtain ⟨kC, hkC, -⟩ := hcls.2
    refine W.aast cx.1 cx.2.1 h1 (fun q h => by cases h) (fun h => by cases h) k1 k2 rfl hkC ⟨h0, by show _ < (arrV _ _ _).slots.size; rw [arrV_size]; exact hlt⟩ g1 (fun q h => by rw [g3] at h; cases h) (by rw [g2]; exact hkC) (by rw [g2]; exact va_assign hcls) rfl rfl hd0 fun H1 e z oq => ?_
    have hu : zUpd H H1 a := ⟨z, oq⟩
    refine hK _ _ _ _ _ _ (h2 H1 hu ?_) hd hl (ho.upd hu hnw) k n _ ls hk hn9 (zloc1 hlo hnw) hlv
    show H1[a]? = some (vp_cell _ _)
    rw [e, z2]
    rw [vp_cell_q, vp_cell_q, arrV_store]
    congr 2
    funext q
    by_cases hq : q = j
    · subst hq
      simp [updV, va_up, va_rf]
    · simp [updV, va_up, hq]
  · exact hs.elim
/-! new -/
def s_new (w : zG) (ci N : Nat) (fs : List Value) (nx : Nat) : zStep := fun P d rc rs lv st H K => 1 ≤ rc ∧ N ≤ rs ∧ ∀ H', zPush H H' → zOb w H.size ci fs H' → K nx (rc - 1) (rs - N) lv (.ref H.size :: st) H'
theorem z_new (cx : zCx w g own cc nL ret nm hh) {ci idx : Nat} {C : String} {T : u_T} {N : Nat} {fs : List Value} (hc : zCl[ci]? = some (C, T, N)) (hin : ∀ x ∈ u_ws C T N, x ∈ lw_all) (ty0 : Nat → FieldType) (hty : ∀ k, k < N → parseFieldDescriptor (T k).2.2.1 = some (ty0 k)) (hq1 : Cond.classLink own idx C ∈ lw_all) (hq2 : Cond.instantiable C N ∈ lw_all) (hq3 : Cond.initialized C ∈ lw_all) (hfs : ∀ j, j < N → defaultValue (ty0 j) = vp_V fs j) (hd0 : decode cc pc = .ok (.new idx, 3)) (hn : pc + 3 = nx) : zSnd w g P pc (s_new w ci N fs nx) := by
  intro d rc rs lv st H K hK hs
  obtain ⟨hr1, hr2, hs⟩ := hs
  subst hn
  intro hd hl ho k n locs ls hk hn9 hlo hlv
  have hts := cx.2.2.2.2.2.1
  have hKn := (cx.2.2.2.2.2.2.2.1).1.1 ci _ hc
  refine W.newcK cx.1 cx.2.1 cx.2.2.2.2.1 (hts _ hq1) (hts _ hq2) (hts _ hq3) rfl hd0 (by omega) (by omega) hKn.2.1 rfl fun H1 kC hkC e1 z1 o1 => ?_
  have hu : zPush H H1 := ⟨z1, o1⟩
  exact hK _ _ _ _ _ _ (hs H1 hu ⟨_, hc, (u_born ty0 hts hin hKn hkC e1 hty).to hfs⟩) hd hl (ho.push hu) (k + 1) (n + N) locs ls (by omega) (by omega) hlo hlv
/-- a new array of numbers: t its kind, x its contents -/
def s_newa (w : zG) (t : Nat) (x : Nat → vp_A) (nx : Nat) : zStep := fun P d rc rs lv st H K => match st with | .int i :: rest => ∃ n : Nat, i = nI n ∧ n ≤ 1000000 ∧ 1 ≤ rc ∧ n ≤ rs ∧ ∀ H', zPush H H' → zAr w H.size t (x n) H' → K nx (rc - 1) (rs - n) lv (.ref H.size :: rest) H' | _ => False
theorem z_newa (cx : zCx w g own cc nL ret nm hh) {t : Nat} {atype : ArrayType} {x : Nat → vp_A} (ht : t < 6) (hq : Cond.arrayClass (newarray.typeOf atype) ∈ lw_all) (hty : newarray.typeOf atype = zTy t) (hRA : ∀ (U : State) (cA : ClassId), va_RA U cA (zTy t) → U.vm.findClass ("[" ++ (zTy t).toString) = some cA) (hb : componentBytes (newarray.typeOf atype) ≤ 8) (hx : ∀ (cA : ClassId) (n : Nat), vp_cell cA (x n) = arrV cA n (fun _ => defaultValue (zTy t))) (hd0 : decode cc pc = .ok (.newarray atype, 2)) (hn : pc + 2 = nx) : zSnd w g P pc (s_newa w t x nx) := by
  intro d rc rs lv st H K hK hs
  unfold s_newa at hs
  split at hs
  · rename_i i rest
    obtain ⟨n0, e, hb9, hr1, hr2, hs⟩ := hs
    subst hn
    subst e
    intro hd hl ho k n locs ls hk hn9 hlo hlv
    have hGK := (cx.2.2.2.2.2.2.2.1).1
    refine va_newaK cx.1 cx.2.1 (cx.2.2.2.2.2.1 _ hq) rfl hd0 rfl (nI_pos (by omega)) (nI_clamp (by omega)) (Nat.le_trans (Nat.mul_le_mul hb9 hb) (Nat.le_of_ble_eq_true rfl)) (by omega) (by omega) rfl fun H1 cA e1 z1 o1 hAr hNm => ?_
    have hu : zPush H H1 := ⟨z1, o1⟩
    have hcA : cA = w.2.2.2.1 t := by
      have h8 := hRA _ _ (hGK.2 t _ (zTys_at ht)).2
      rw [hty] at hNm
      exact Option.some.inj (hNm.symm.trans h8)
    subst hcA
    refine hK _ _ _ _ _ _ (hs H1 hu ?_) hd hl (ho.push hu) (k + 1) (n + n0) locs ls (by omega) (by omega) hlo hlv
    show H1[H.size]? = some (vp_cell _ _)
    rw [hx, ← hty]
    exact e1
  · exact hs.elim
def s_newq (w : zG) (t : Nat) (nx : Nat) : zStep := fun P d rc rs lv st H K => match st with | .int i :: rest => ∃ n : Nat, i = nI n ∧ n ≤ 1000000 ∧ 1 ≤ rc ∧ n ≤ rs ∧ ∀ H', zPush H H' → zAr w H.size t (n, .inr (.inr (.inr (.inr (fun _ => none))))) H' → K nx (rc - 1) (rs - n) lv (.ref H.size :: rest) H' | _ => False
theorem z_newq (cx : zCx w g own cc nL ret nm hh) {t idx : Nat} {C : String} (ht : t < 6) (hty : zTy t = .object C) (hq : Cond.classLink own idx C ∈ lw_all) (hao : zGK w (zgS g) → va_AO C (zgS g)) (hd0 : decode cc pc = .ok (.anewarray idx, 3)) (hn : pc + 3 = nx) : zSnd w g P pc (s_newq w t nx) := by
  intro d rc rs lv st H K hK hs
  unfold s_newq at hs
  split at hs
  · rename_i i rest
    obtain ⟨n0, e, hb9, hr1, hr2, hs⟩ := hs
    subst hn
    subst e
    intro hd hl ho k n locs ls hk hn9 hlo hlv
    have hGK := (cx.2.2.2.2.2.2.2.1).1
    have hN : (nI n0).toNatClampNeg = n0 := nI_clamp (by omega)
    refine W.anew cx.1 cx.2.1 cx.2.2.2.2.1 (cx.2.2.2.2.2.1 _ hq) (va_AO.use (hao cx.2.2.2.2.2.2.2.1)) rfl hd0 rfl (nI_pos (by omega)) (by rw [hN]; omega) (by omega) (by rw [hN]; omega) fun cA kA comp f1 f2 f3 f4 => ?_
    rw [hN]
    generalize hH1 : H.push ({ cls := cA, slots := Array.replicate n0 .null, vm := .none } : Cell) = H1
    have z1 : H1.size = H.size + 1 := by rw [← hH1, Array.size_push]
    have e1 : H1[H.size]? = some (arrV cA n0 (fun _ => .null)) := by rw [← hH1, Array.getElem?_push_size, ← arrV_new]
    have o1 : ∀ q : Nat, q < H.size → H1[q]? = H[q]? := fun q hq => by rw [← hH1, Array.getElem?_push, if_neg (Nat.ne_of_lt hq)]
    have hu : zPush H H1 := ⟨z1, o1⟩
    have hcA : cA = w.2.2.2.1 t := by
      have h8 := (hGK.2 t _ (zTys_at ht)).2
      rw [hty] at h8
      obtain ⟨kA', comp', k1, k2, k3, k4⟩ := h8
      exact Option.some.inj (f1.symm.trans k4)
    subst hcA
    refine hK _ _ _ _ _ _ (hs H1 hu ?_) hd hl (ho.push hu) (k + 1) (n + n0) locs ls (by omega) (by omega) hlo hlv
    show H1[H.size]? = some (vp_cell _ _)
    rw [vp_cell_q]
    exact e1
  · exact hs.elim
/-! types of objects -/
theorem zrecv {s : State} {ci b : Nat} {q : vw_C} {fs : List Value} {H : Heap} (hK : va_K w.2.2.1 zCl (zTys w) s) (hc : zCl[ci]? = some q) (h : zOb w b ci fs H) : ∃ cell : Cell, H[b]? = some cell ∧ cell.vm.isStatics = false ∧ s.vm.findClass q.1 = some cell.cls := va_recv hK (zP1 h) hc (q0 := 0) rfl
/-- checkcast: to the object's own type, or to one that the tables allow; null goes on -/
def s_cast (w : zG) (ci nx : Nat) : zStep := fun P d rc rs lv st H K => match st with | .ref a :: rest => (∃ fs, zOb w a ci fs H) ∧ K nx rc rs lv (.ref a :: rest) H | .null :: rest => K nx rc rs lv (.null :: rest) H | _ => False
theorem z_castS (cx : zCx w g own cc nL ret nm hh) {ci idx : Nat} {q : vw_C} (hc : zCl[ci]? = some q) (hq : Cond.classLink own idx q.1 ∈ lw_all) (hd0 : decode cc pc = .ok (.checkcast idx, 3)) (hn : pc + 3 = nx) : zSnd w g P pc (s_cast w ci nx) := by
  intro d rc rs lv st H K hK hs
  unfold s_cast at hs
  split at hs
  · obtain ⟨⟨fs, h1⟩, hs⟩ := hs
    subst hn
    intro hd hl ho k n locs ls hk hn9 hlo hlv
    exact va_castS cx.1 cx.2.1 cx.2.2.2.2.1 (cx.2.2.2.2.2.1 _ hq) ((cx.2.2.2.2.2.2.2.1).1.1 ci _ hc).2 (zrecv (cx.2.2.2.2.2.2.2.1).1 hc h1) hd0 (hK _ _ _ _ _ _ hs hd hl ho k n locs ls hk hn9 hlo hlv)
  · subst hn
    intro hd hl ho k n locs ls hk hn9 hlo hlv
    exact lv_castN cx.1 cx.2.1 hd0 (hK _ _ _ _ _ _ hs hd hl ho k n locs ls hk hn9 hlo hlv)
  · exact hs.elim
theorem z_castY (cx : zCx w g own cc nL ret nm hh) {ci idx : Nat} {q : vw_C} {tn : String} (hc : zCl[ci]? = some q) (hca : (q.1, tn) ∈ zCa) (hq : Cond.classLink own idx tn ∈ lw_all) (hd0 : decode cc pc = .ok (.checkcast idx, 3)) (hn : pc + 3 = nx) : zSnd w g P pc (s_cast w ci nx) := by
  intro d rc rs lv st H K hK hs
  unfold s_cast at hs
  split at hs
  · obtain ⟨⟨fs, h1⟩, hs⟩ := hs
    subst hn
    intro hd hl ho k n locs ls hk hn9 hlo hlv
    exact va_castY cx.1 cx.2.1 cx.2.2.2.2.1 (cx.2.2.2.2.2.1 _ hq) ((cx.2.2.2.2.2.2.2.1).2.2.2.1.1 _ hca) (zrecv (cx.2.2.2.2.2.2.2.1).1 hc h1) hd0 (hK _ _ _ _ _ _ hs hd hl ho k n locs ls hk hn9 hlo hlv)
  · subst hn
    intro hd hl ho k n locs ls hk hn9 hlo hlv
    exact lv_castN cx.1 cx.2.1 hd0 (hK _ _ _ _ _ _ hs hd hl ho k n locs ls hk hn9 hlo hlv)
  · exact hs.elim
/-- an object of the kind ci, of whose contents nothing is said -/
def zIs (w : zG) (a ci : Nat) (H : Heap) : Prop := ∃ cell : Cell, H[a]? = some cell ∧ cell.vm.isStatics = false ∧ cell.cls = w.2.2.1.1 ci
theorem zOb.is {w : zG} {a ci : Nat} {fs : List Value} {H : Heap} (h : zOb w a ci fs H) : zIs w a ci H := by
  obtain ⟨r, -, cell, h1, h2, h3, -⟩ := h
  exact ⟨cell, h1, by rw [h3]; rfl, h2⟩
theorem zIs.recv {w : zG} {s : State} {ci b : Nat} {q : vw_C} {H : Heap} (hK : va_K w.2.2.1 zCl (zTys w) s) (hc : zCl[ci]? = some q) (h : zIs w b ci H) : ∃ cell : Cell, H[b]? = some cell ∧ cell.vm.isStatics = false ∧ s.vm.findClass q.1 = some cell.cls := by
  obtain ⟨cell, h1, h2, h3⟩ := h
  exact ⟨cell, h1, h2, by rw [h3]; exact (hK.1 ci q hc).2.1⟩
theorem zIs.kept {w : zG} {a ci : Nat} {H H' : Heap} (h : zIs w a ci H) (e : H'[a]? = H[a]?) : zIs w a ci H' := by
  obtain ⟨cell, h1, h2⟩ := h
  exact ⟨cell, by rw [e]; exact h1, h2⟩
/-- instanceof the type ci: its own objects, null, or an object of a type that the tables deny -/
def s_inst (w : zG) (ci : Nat) (tn : String) (nx : Nat) : zStep := fun P d rc rs lv st H K => match st with | .ref a :: rest => ((∃ fs, zOb w a ci fs H) ∧ K nx rc rs lv (.int 1 :: rest) H) ∨ ((∃ cj q, zCl[cj]? = some q ∧ (q.1, tn) ∈ zNc ∧ zIs w a cj H) ∧ K nx rc rs lv (.int 0 :: rest) H) | .null :: rest => K nx rc rs lv (.int 0 :: rest) H | _ => False
theorem z_inst (cx : zCx w g own cc nL ret nm hh) {ci idx : Nat} {q : vw_C} (hc : zCl[ci]? = some q) (hq : Cond.classLink own idx q.1 ∈ lw_all) (hd0 : decode cc pc = .ok (.instanceof idx, 3)) (hn : pc + 3 = nx) : zSnd w g P pc (s_inst w ci q.1 nx) := by
  intro d rc rs lv st H K hK hs
  unfold s_inst at hs
  split at hs
  · subst hn
    intro hd hl ho k n locs ls hk hn9 hlo hlv
    rcases hs with ⟨⟨fs, h1⟩, hs⟩ | ⟨⟨cj, q2, hc2, hnc, h1⟩, hs⟩
    · exact va_instS cx.1 cx.2.1 cx.2.2.2.2.1 (cx.2.2.2.2.2.1 _ hq) ((cx.2.2.2.2.2.2.2.1).1.1 ci _ hc).2 (zrecv (cx.2.2.2.2.2.2.2.1).1 hc h1) hd0 (hK _ _ _ _ _ _ hs hd hl ho k n locs ls hk hn9 hlo hlv)
    · exact va_instNo cx.1 cx.2.1 cx.2.2.2.2.1 (cx.2.2.2.2.2.1 _ hq) ((cx.2.2.2.2.2.2.2.1).2.2.2.2.1 _ hnc) (zIs.recv (cx.2.2.2.2.2.2.2.1).1 hc2 h1) hd0 (hK _ _ _ _ _ _ hs hd hl ho k n locs ls hk hn9 hlo hlv)
  · subst hn
    intro hd hl ho k n locs ls hk hn9 hlo hlv
    exact lv_instN cx.1 cx.2.1 hd0 (hK _ _ _ _ _ _ hs hd hl ho k n locs ls hk hn9 hlo hlv)
  · exact hs.elim
end ZH
