/-! contracts: Double, Float, Math -/
def zWf (w : zG) : Prop := w.1.stackTraces = false ∧ (∀ i j : Nat, i < 9 → j < 9 → w.2.2.1.1 i = w.2.2.1.1 j → i = j) ∧ (∀ i t : Nat, i < 9 → t < 6 → w.2.2.1.1 i ≠ w.2.2.2.1 t) ∧ (∀ t u : Nat, t < 6 → u < 6 → w.2.2.2.1 t = w.2.2.2.1 u → t = u)
theorem zCl_lt {i : Nat} {r : vw_C} (h : zCl[i]? = some r) : i < 9 := (List.getElem?_eq_some_iff.mp h).1
theorem zvp_cls (cA : ClassId) (x : vp_A) : (vp_cell cA x).cls = cA := by
  obtain ⟨n, f | f | f | f | f⟩ := x <;> rfl
theorem zOb.ne {w : zG} {a b i j : Nat} {fs gs : List Value} {H : Heap} (hw : zWf w) (h1 : zOb w a i fs H) (h2 : zOb w b j gs H) (hij : i ≠ j) : a ≠ b := by
  rintro rfl
  obtain ⟨r, e1, c1, p1, q1, -⟩ := h1
  obtain ⟨s, e2, c2, p2, q2, -⟩ := h2
  cases Option.some.inj (p1.symm.trans p2)
  exact hij (hw.2.1 i j (zCl_lt e1) (zCl_lt e2) (q1.symm.trans q2))
theorem zOb.neA {w : zG} {a b i t : Nat} {fs : List Value} {x : vp_A} {H : Heap} (hw : zWf w) (h1 : zOb w a i fs H) (h2 : zAr w b t x H) (ht : t < 6) : a ≠ b := by
  rintro rfl
  obtain ⟨r, e1, c1, p1, q1, -⟩ := h1
  have e2 : H[a]? = some (vp_cell (w.2.2.2.1 t) x) := h2
  cases Option.some.inj (p1.symm.trans e2)
  exact hw.2.2.1 i t (zCl_lt e1) ht (q1.symm.trans (zvp_cls _ _))
theorem zAr.ne {w : zG} {a b t u : Nat} {x y : vp_A} {H : Heap} (hw : zWf w) (h1 : zAr w a t x H) (h2 : zAr w b u y H) (ht : t < 6) (hu : u < 6) (htu : t ≠ u) : a ≠ b := by
  rintro rfl
  have e1 : H[a]? = some (vp_cell (w.2.2.2.1 t) x) := h1
  have e2 : H[a]? = some (vp_cell (w.2.2.2.1 u) y) := h2
  have e3 := Option.some.inj (e1.symm.trans e2)
  exact htu (hw.2.2.2 t u ht hu (by rw [← zvp_cls (w.2.2.2.1 t) x, e3, zvp_cls]))
/-- a contract out of a body, of a member of a type that has other members of the machine's own -/
theorem zMetF {l : Launch} {y : MethodName} {ws ws' : List Cond} {rm : Room} {Pc : Array Value → State → Prop} {Qc : Array Value → State → Outcome → State → Prop} {XC : String → State → State → Prop} {mc ms : Nat} {free : Addr → Prop} {cc : ByteArray} {maxL : Nat} {ret : Option FieldType}
    (hy : plainFor y = true) (hw : ws = Cond.code y cc maxL ret :: ws')
    (body : ∀ p e s m args below meth c s₁, BodyLoose p l y (headSpec ws rm) cc maxL ret e s m args below meth c s₁ → c.maxLocals = maxL → (∀ x ∈ c.exceptionTable.toList, False) → Pc args s →
      W p l e (headSpec ws rm).room s m args below meth c s.heap [] 0 0 (vx_MQ below Qc XC args s mc ms free) (entryFrame m args maxL)) : vx_Met l y ws rm Pc Qc XC mc ms free := by
  refine MetFree.of_bodySF (code := cc) (maxLocals := maxL) (ret := ret) hy ?_ ?_
  · intro args s m h hn
    obtain ⟨meth, c, h1, h2, h3, h4, h5, h6, -, -⟩ := Cond.code_spec hn (atoms_spec (ws := ws) h _ (by rw [hw]; exact List.mem_cons_self))
    exact ⟨meth, c, h1, h2, h3, h4, h5, h6⟩
  · intro p e s m args below meth c s₁ B hml hP _
    have hh0 : s₁.heap = s.heap := by rw [B.state]; rfl
    have ht : ∀ x ∈ c.exceptionTable.toList, False := by
      obtain ⟨meth9, c9, h1, h2, -, -, -, -, h7, -⟩ := Cond.code_spec B.named (atoms_spec (ws := ws) B.pre _ (by rw [hw]; exact List.mem_cons_self))
      cases Option.some.inj (h1.symm.trans B.method)
      cases Option.some.inj (h2.symm.trans (Stand.of_body B).code)
      intro x hx
      rw [Array.isEmpty_iff.mp h7] at hx
      cases hx
    obtain ⟨t, a1, o, b1, b2, b3⟩ := body p e s m args below meth c s₁ B hml ht hP s₁ hh0 (Stand.of_body B)
    exact ⟨t, o, a1, b1, b2, b3⟩
theorem zCt.ofVF {w : zG} {y : MethodName} {cc : ByteArray} {nL : Nat} {ret : Option FieldType} {d mc ms : Nat} {av : List Value} {H : Heap} {Q : Option Value → Heap → Prop} {X : String → Heap → Prop} (lv : zL)
    (hfl : w.1.stackTraces = false) (hy : plainFor y = true) (hlen : (lg_sl av).length ≤ nL) (hlv : lv_args 0 av = lv)
    (body : ∀ g : zM, zCx w g y.cls cc nL ret y.name [] → zCq w g (Q, X) → zOld w H → zV w g d mc ms 0 lv [] H) : zCt w y (ws_ y cc nL ret) d mc ms av H Q X := by
  refine zMetF (cc := cc) (maxL := nL) (ret := ret) hy rfl ?_
  intro p e s m args below meth c s₁ B hml htab hP
  obtain ⟨ha, hH, hGK, hold⟩ := hP
  have hts := atoms_spec (ws := ws_ y cc nL ret) B.pre
  have hts : ∀ x ∈ lw_all, x.before args s = true := fun x h => hts x (List.mem_cons_of_mem _ h)
  have hown : s.vm.findClass y.cls = some m.cls := findClass_of_methodNamed B.named
  have hnm : meth.name = y.name := (name_of_methodNamed B.named B.method).1
  have htb : c.exceptionTable.toList = tableOf [] := by
    cases hc : c.exceptionTable.toList with
    | nil => rfl
    | cons x t => exact (htab x (by rw [hc]; exact List.mem_cons_self)).elim
  subst ha
  subst hH
  have key := body (p, e, { frames := d, cells := mc, slots := ms, locals := 64 * d }, s, m, av.toArray, below, meth, c, vx_MQ below (zQc (Q, X)) (zXC (Q, X)) av.toArray s mc ms (zNew w)) ⟨B.exec, B.bytes, B.returns, hml, hown, hts, B.notSynchronized, hGK, hnm, htb, hfl, hold⟩ rfl hold
  rw [lg_entry_eq]
  have hl := lv_entry av hlen
  generalize (lg_sl av ++ List.replicate (nL - (lg_sl av).length) Slot.unset).toArray = ls at hl ⊢
  exact key (Nat.le_refl _) (Nat.le_refl _) hold 0 0 [] ls (by show 0 + mc ≤ mc; omega) (by show 0 + ms ≤ ms; omega) (fun z hz => nomatch hz) (by show lv_has ls c.maxLocals lv; rw [hml]; exact zlv_of hl hlv)
abbrev dv (n : Nat) : Value := .double (UInt64.ofNat n)
abbrev fv (n : Nat) : Value := .float (UInt32.ofNat n)
abbrev dl (n : Nat) : Int64 := (UInt64.ofNat n).toInt64
abbrev fl (n : Nat) : Int32 := (UInt32.ofNat n).toInt32
def zcmp (i j : Int) : Int32 := if i < j then -1 else if i = j then 0 else 1
theorem zcv (i j : Int) (op : CmpOp) : Op.cmpValue (some (compare i j)) op = zcmp i j := by
  rw [zcmp_int]
  unfold zcmp
  split
  · rfl
  · split <;> rfl
theorem zcmp_lt {i j : Int} : zcmp i j < 0 ↔ i < j := by
  unfold zcmp
  split
  · rename_i h; exact ⟨fun _ => h, fun _ => by decide⟩
  · rename_i h
    split
    · exact ⟨fun q => absurd q (by decide), fun q => absurd q h⟩
    · exact ⟨fun q => absurd q (by decide), fun q => absurd q h⟩
theorem zcmp_gt {i j : Int} : 0 < zcmp i j ↔ j < i := by
  unfold zcmp
  split
  · rename_i h; exact ⟨fun q => absurd q (by decide), fun q => by omega⟩
  · rename_i h
    split
    · exact ⟨fun q => absurd q (by decide), fun q => by omega⟩
    · exact ⟨fun _ => by omega, fun _ => by decide⟩
theorem zcmp_eq {i j : Int} : zcmp i j = 0 ↔ i = j := by
  unfold zcmp
  split
  · rename_i h; exact ⟨fun q => absurd q (by decide), fun q => by omega⟩
  · rename_i h
    split
    · rename_i h2; exact ⟨fun _ => h2, fun _ => rfl⟩
    · rename_i h2; exact ⟨fun q => absurd q (by decide), fun q => absurd q h2⟩
theorem zcmp_le {i j : Int} : zcmp i j ≤ 0 ↔ i ≤ j := by
  rw [← Int32.not_lt, zcmp_gt]; omega
theorem zcmp_ge {i j : Int} : 0 ≤ zcmp i j ↔ j ≤ i := by
  rw [← Int32.not_lt, zcmp_lt]; omega
theorem zkey_eq {k a b : Nat} (ha : a < 2 ^ (k + 1)) (hb : b < 2 ^ (k + 1)) (h : zkey k a = zkey k b) (hne : a ≠ b) : (a = 0 ∧ b = 2 ^ k) ∨ (a = 2 ^ k ∧ b = 0) := by
  have hp := Nat.two_pow_pos k
  rw [Nat.pow_succ] at ha hb
  unfold zkey at h
  have ea := Nat.div_add_mod a (2 ^ k)
  have eb := Nat.div_add_mod b (2 ^ k)
  have la := Nat.mod_lt a hp
  have lb := Nat.mod_lt b hp
  by_cases h1 : 2 ^ k ≤ a
  · have d1 : a / 2 ^ k = 1 := Nat.div_eq_of_lt_le (by omega) (by omega)
    rw [d1, Nat.mul_one] at ea
    by_cases h2 : 2 ^ k ≤ b
    · have d2 : b / 2 ^ k = 1 := Nat.div_eq_of_lt_le (by omega) (by omega)
      rw [d2, Nat.mul_one] at eb
      rw [if_pos h1, if_pos h2] at h
      omega
    · have d2 : b / 2 ^ k = 0 := Nat.div_eq_of_lt (by omega)
      rw [d2, Nat.mul_zero] at eb
      rw [if_pos h1, if_neg h2] at h
      omega
  · have d1 : a / 2 ^ k = 0 := Nat.div_eq_of_lt (by omega)
    rw [d1, Nat.mul_zero] at ea
    by_cases h2 : 2 ^ k ≤ b
    · have d2 : b / 2 ^ k = 1 := Nat.div_eq_of_lt_le (by omega) (by omega)
      rw [d2, Nat.mul_one] at eb
      rw [if_neg h1, if_pos h2] at h
      omega
    · have d2 : b / 2 ^ k = 0 := Nat.div_eq_of_lt (by omega)
      rw [d2, Nat.mul_zero] at eb
      rw [if_neg h1, if_neg h2] at h
      omega
theorem zkey_rnk {k a b : Nat} : (zkey k a < zkey k b → zrnk k a < zrnk k b) ∧ (zkey k a = zkey k b → a = b → zrnk k a = zrnk k b) := by
  refine ⟨fun h => ?_, fun _ e => by rw [e]⟩
  unfold zkey at h
  unfold zrnk
  (repeat' split at h) <;> (repeat' split) <;> omega
theorem zrnk_z (k : Nat) : zrnk k 0 = 0 ∧ zrnk k (2 ^ k) = -1 := by
  have hp := Nat.two_pow_pos k
  unfold zrnk
  rw [if_neg (by omega), if_pos (Nat.le_refl _), Nat.zero_mod, Nat.mod_self]
  exact ⟨rfl, rfl⟩
theorem zkey_z (k : Nat) : zkey k 0 = 0 ∧ zkey k (2 ^ k) = 0 := by
  have hp := Nat.two_pow_pos k
  unfold zkey
  rw [if_neg (by omega), if_pos (Nat.le_refl _), Nat.zero_mod, Nat.mod_self]
  exact ⟨rfl, rfl⟩
theorem dl_inj {a b : Nat} (ha : a < 2 ^ 64) (hb : b < 2 ^ 64) (h : dl a = dl b) : a = b := by
  have h1 : UInt64.ofNat a = UInt64.ofNat b := by have := congrArg Int64.toUInt64 h; simpa using this
  have h2 := congrArg UInt64.toNat h1
  rwa [UInt64.toNat_ofNat', UInt64.toNat_ofNat', Nat.mod_eq_of_lt ha, Nat.mod_eq_of_lt hb] at h2
theorem fl_inj {a b : Nat} (ha : a < 2 ^ 32) (hb : b < 2 ^ 32) (h : fl a = fl b) : a = b := by
  have h1 : UInt32.ofNat a = UInt32.ofNat b := by have := congrArg Int32.toUInt32 h; simpa using this
  have h2 := congrArg UInt32.toNat h1
  rwa [UInt32.toNat_ofNat', UInt32.toNat_ofNat', Nat.mod_eq_of_lt ha, Nat.mod_eq_of_lt hb] at h2
theorem zlg0 {x y : Int64} : lg_cmp x y = 0 ↔ x = y := by
  unfold lg_cmp
  split
  · rename_i h; exact ⟨fun q => absurd q (by decide), fun q => by subst q; exact absurd h Int64.lt_irrefl⟩
  · split
    · rename_i h; exact ⟨fun _ => h, fun _ => rfl⟩
    · rename_i h; exact ⟨fun q => absurd q (by decide), fun q => absurd q h⟩
abbrev c_0 : String → Heap → Prop := zNoX
theorem zb1 : (0 : Int32) = 0 ∨ (0 : Int32) = 1 := Or.inl rfl
theorem zb2 : (1 : Int32) = 0 ∨ (1 : Int32) = 1 := Or.inr rfl
theorem c0_Number_init {w : zG} (hw : zWf w) (a : Nat) (H : Heap) : zCt w yJ0_init wc_J0_init 1 0 0 [.ref a] H (zPure none H) zNoX :=
  zCt.ofV [(0, .ref a)] hw.1 (by decide +kernel) (Nat.le_of_ble_eq_true rfl) rfl fun g cx hq _ => zwp_sound (tk_J0_init cx hq) [] 40 ⟨by decide, rfl, rfl⟩
/-- the hash, of the wide and of the narrow -/
def zhsh (n : Nat) : Int32 := (dl n ^^^ ((dl n).toUInt64 >>> ((32 : Int32).toInt64.toUInt64 &&& Int64.toUInt64 63)).toInt64).toInt32
theorem c0_Long_hashCode {w : zG} (hw : zWf w) (n : Nat) (H : Heap) : zCt w yJ20_hashCode wc_J20_hashCode 0 0 0 [.long (dl n)] H (zPure (some (.int (zhsh n))) H) zNoX :=
  zCt.ofV [(0, .long (dl n))] hw.1 (by decide +kernel) (Nat.le_of_ble_eq_true rfl) rfl fun g cx hq _ => zwp_sound (tk_J20_hashCode cx hq) [] 40 ⟨rfl, rfl⟩

theorem c1_isNaN {w : zG} (hw : zWf w) {n : Nat} (hn : zok 63 n) (H : Heap) : zCt w yJ1_isNaN wc_J1_isNaN 0 0 0 [dv n] H (zPure (some (.int 0)) H) zNoX :=
  zCt.ofV [(0, dv n)] hw.1 (by decide +kernel) (Nat.le_of_ble_eq_true rfl) rfl fun g cx hq _ => zwp_sound (tk_J1_isNaN cx hq) [] 40
    ⟨fun _ => ⟨zb1, rfl, rfl⟩, fun h => absurd (by rw [zdcmp hn hn, zcv]; exact zcmp_eq.mpr rfl) h⟩
theorem c1_bits {w : zG} (hw : zWf w) {n : Nat} (hn : zok 63 n) (H : Heap) : zCt w yJ1_doubleToLongBits wc_J1_doubleToLongBits 1 0 0 [dv n] H (zPure (some (.long (dl n))) H) zNoX :=
  zCt.ofV [(0, dv n)] hw.1 (by decide +kernel) (Nat.le_of_ble_eq_true rfl) rfl fun g cx hq _ => zwp_sound (tk_J1_doubleToLongBits cx hq) [] 40
    (zcall.pure (c1_isNaN hw hn H) (by decide) ⟨fun h => absurd rfl h, fun _ => ⟨by decide, rfl, rfl⟩⟩)
theorem c1_init {w : zG} (hw : zWf w) {n a : Nat} {v : Value} {H : Heap} (ha : zOb w a 1 [v] H) (hnew : zNew w a) : zCt w yJ1_init wc_J1_init 2 0 0 [.ref a, dv n] H (fun r H' => r = none ∧ zUpd H H' a ∧ zOb w a 1 [dv n] H') zNoX :=
  zCt.ofV [(0, .ref a), (1, dv n)] hw.1 (by decide +kernel) (Nat.le_of_ble_eq_true rfl) rfl fun g cx hq _ => zwp_sound (tk_J1_init cx hq) [] 40
    (zcall.pure (c0_Number_init hw a H) (by decide) ⟨_, ha, hnew, fun H' h1 h2 => ⟨rfl, h1, h2⟩⟩)
theorem c1_valueOf {w : zG} (hw : zWf w) {n : Nat} (H : Heap) : zCt w yJ1_valueOf wc_J1_valueOf 3 1 1 [dv n] H (fun r H' => r = some (.ref H.size) ∧ zPush H H' ∧ zOb w H.size 1 [dv n] H') zNoX :=
  zCt.ofV [(0, dv n)] hw.1 (by decide +kernel) (Nat.le_of_ble_eq_true rfl) rfl fun g cx hq ho => zwp_sound (tk_J1_valueOf cx hq) [] 40
    ⟨by decide, by decide, fun H1 p1 o1 => zcall.ret (c1_init hw o1 ho.1) (by decide) (by decide) (by decide) (by
      rintro _ H2 ⟨rfl, u2, o2⟩ _
      exact ⟨rfl, ⟨u2.1.trans p1.1, fun q hq2 => (u2.2 q (by omega)).trans (p1.2 q hq2)⟩, o2⟩)⟩
theorem c1_value {w : zG} (hw : zWf w) {n a : Nat} {H : Heap} (ha : zOb w a 1 [dv n] H) : zCt w yJ1_doubleValue wc_J1_doubleValue 0 0 0 [.ref a] H (zPure (some (dv n)) H) zNoX :=
  zCt.ofV [(0, .ref a)] hw.1 (by decide +kernel) (Nat.le_of_ble_eq_true rfl) rfl fun g cx hq _ => zwp_sound (tk_J1_doubleValue cx hq) [] 40 ⟨_, ha, rfl, rfl⟩
theorem c1_compare {w : zG} (hw : zWf w) {a b : Nat} (ha : zok 63 a) (hb : zok 63 b) (H : Heap) : zCt w yJ1_compare wc_J1_compare 2 0 0 [dv a, dv b] H (zPure (some (.int (zcmp (zrnk 63 a) (zrnk 63 b)))) H) zNoX :=
  zCt.ofV [(0, dv a), (2, dv b)] hw.1 (by decide +kernel) (Nat.le_of_ble_eq_true rfl) rfl fun g cx hq _ => zwp_sound (tk_J1_compare cx hq) [] 40 (by
    have e1 : ∀ op, Op.cmpValue (FP.dcmp (.ofNat a) (.ofNat b)) op = zcmp (zkey 63 a) (zkey 63 b) := fun op => by rw [zdcmp ha hb, zcv]
    refine ⟨fun h => ⟨fun h2 => ?_, fun h2 => ?_⟩, fun h => ?_⟩
    · rw [e1, zcmp_ge] at h
      rw [e1, zcmp_le] at h2
      have hk : zkey 63 a = zkey 63 b := by omega
      refine zcall.pure (c1_bits hw ha H) (by decide) (zcall.pure (c1_bits hw hb H) (by decide) ?_)
      by_cases hab : a = b
      · subst hab
        exact ⟨fun h9 => absurd (zlg0.mpr rfl) h9, fun _ => ⟨by rw [show zcmp (zrnk 63 a) (zrnk 63 a) = 0 from zcmp_eq.mpr rfl], rfl⟩⟩
      · refine ⟨fun _ => ?_, fun h9 => absurd (dl_inj ha.1 hb.1 (zlg0.mp h9)) hab⟩
        rcases zkey_eq ha.1 hb.1 hk hab with ⟨rfl, rfl⟩ | ⟨rfl, rfl⟩
        · exact ⟨fun _ => ⟨by rw [(zrnk_z 63).1, (zrnk_z 63).2]; rfl, rfl⟩, fun h9 => absurd (by decide) h9⟩
        · exact ⟨fun h9 => absurd h9 (by decide), fun _ => ⟨by rw [(zrnk_z 63).1, (zrnk_z 63).2]; rfl, rfl⟩⟩
    · rw [e1, ← Int32.not_lt, Classical.not_not, zcmp_gt] at h2
      have := zkey_rnk.1 h2
      exact ⟨by rw [show zcmp (zrnk 63 a) (zrnk 63 b) = 1 from by unfold zcmp; rw [if_neg (by omega), if_neg (by omega)]], rfl⟩
    · rw [e1, ← Int32.not_lt, Classical.not_not, zcmp_lt] at h
      have := zkey_rnk.1 h
      exact ⟨by rw [show zcmp (zrnk 63 a) (zrnk 63 b) = -1 from by unfold zcmp; rw [if_pos (by omega)]], rfl⟩)
theorem c1_compareTo {w : zG} (hw : zWf w) {p q a b : Nat} {H : Heap} (ha : zok 63 a) (hb : zok 63 b) (hp : zOb w p 1 [dv a] H) (hq2 : zOb w q 1 [dv b] H) : zCt w yJ1_compareTo wc_J1_compareTo 3 0 0 [.ref p, .ref q] H (zPure (some (.int (zcmp (zrnk 63 a) (zrnk 63 b)))) H) zNoX :=
  zCt.ofV [(0, .ref p), (1, .ref q)] hw.1 (by decide +kernel) (Nat.le_of_ble_eq_true rfl) rfl fun g cx hq _ => zwp_sound (tk_J1_compareTo cx hq) [] 40
    ⟨_, hp, _, hq2, zcall.pure (c1_compare hw ha hb H) (by decide) ⟨rfl, rfl⟩⟩
theorem c1_compareTo2 {w : zG} (hw : zWf w) {p q a b : Nat} {H : Heap} (ha : zok 63 a) (hb : zok 63 b) (hp : zOb w p 1 [dv a] H) (hq2 : zOb w q 1 [dv b] H) : zCt w yJ1_compareTo_2 wc_J1_compareTo_2 4 0 0 [.ref p, .ref q] H (zPure (some (.int (zcmp (zrnk 63 a) (zrnk 63 b)))) H) zNoX :=
  zCt.ofV [(0, .ref p), (1, .ref q)] hw.1 (by decide +kernel) (Nat.le_of_ble_eq_true rfl) rfl fun g cx hq _ => zwp_sound (tk_J1_compareTo_2 cx hq) [] 40
    ⟨⟨_, hq2⟩, ⟨_, hp⟩, zcall.pure (c1_compareTo hw ha hb hp hq2) (by decide) ⟨rfl, rfl⟩⟩
theorem c1_equals {w : zG} (hw : zWf w) {p q a b : Nat} {H : Heap} (ha : zok 63 a) (hb : zok 63 b) (hp : zOb w p 1 [dv a] H) (hq2 : zOb w q 1 [dv b] H) : zCt w yJ1_equals wc_J1_equals 2 0 0 [.ref p, .ref q] H (zPure (some (.int (if a = b then 1 else 0))) H) zNoX :=
  zCt.ofV [(0, .ref p), (1, .ref q)] hw.1 (by decide +kernel) (Nat.le_of_ble_eq_true rfl) rfl fun g cx hq _ => zwp_sound (tk_J1_equals cx hq) [] 40
    (Or.inl ⟨⟨_, hq2⟩, fun h => absurd h (by decide), fun _ => ⟨⟨_, hq2⟩, _, hq2, zcall.pure (c1_bits hw hb H) (by decide) ⟨_, hp, zcall.pure (c1_bits hw ha H) (by decide) ⟨fun h => ⟨zb1, by rw [if_neg (fun e => h (zlg0.mpr (by rw [e])))], rfl⟩, fun h => ⟨zb2, by rw [if_pos (dl_inj ha.1 hb.1 (zlg0.mp h).symm)], rfl⟩⟩⟩⟩⟩)
theorem c1_equalsN {w : zG} (hw : zWf w) {p : Nat} {H : Heap} : zCt w yJ1_equals wc_J1_equals 2 0 0 [.ref p, .null] H (zPure (some (.int 0)) H) zNoX :=
  zCt.ofV [(0, .ref p), (1, .null)] hw.1 (by decide +kernel) (Nat.le_of_ble_eq_true rfl) rfl fun g cx hq _ => zwp_sound (tk_J1_equals cx hq) [] 40
    ⟨fun _ => ⟨zb1, rfl, rfl⟩, fun h => absurd rfl h⟩
theorem c1_equalsO {w : zG} (hw : zWf w) {p q cj : Nat} {r : vw_C} {H : Heap} (hc : zCl[cj]? = some r) (hn : (r.1, "java/lang/Double") ∈ zNc) (hq2 : zIs w q cj H) : zCt w yJ1_equals wc_J1_equals 2 0 0 [.ref p, .ref q] H (zPure (some (.int 0)) H) zNoX :=
  zCt.ofV [(0, .ref p), (1, .ref q)] hw.1 (by decide +kernel) (Nat.le_of_ble_eq_true rfl) rfl fun g cx hq _ => zwp_sound (tk_J1_equals cx hq) [] 40
    (Or.inr ⟨⟨cj, r, hc, hn, hq2⟩, fun _ => ⟨zb1, rfl, rfl⟩, fun h => absurd rfl h⟩)
theorem zabs63 {n : Nat} (hn : zok 63 n) : vf_n64 (UInt64.ofNat n) ∧ UInt64.ofNat n &&& 9223372036854775807 = UInt64.ofNat (n % 2 ^ 63) := by
  have e : UInt64.ofNat n &&& 9223372036854775807 = UInt64.ofNat (n % 2 ^ 63) := by
    apply UInt64.toNat_inj.mp
    rw [UInt64.toNat_and, UInt64.toNat_ofNat', UInt64.toNat_ofNat', Nat.mod_eq_of_lt hn.1]
    rw [show (9223372036854775807 : UInt64).toNat = 2 ^ 63 - 1 from rfl, Nat.and_two_pow_sub_one_eq_mod]
    exact (Nat.mod_eq_of_lt (by have := Nat.mod_lt n (Nat.two_pow_pos 63); omega)).symm
  refine ⟨?_, e⟩
  show UInt64.ofNat n &&& 9223372036854775807 ≤ 9218868437227405312
  rw [e, UInt64.le_iff_toNat_le, UInt64.toNat_ofNat']
  have h2 : n % 2 ^ 63 ≤ 9218868437227405312 := hn.2
  have h3 := Nat.mod_le (n % 2 ^ 63) (2 ^ 64)
  rw [show (9218868437227405312 : UInt64).toNat = 9218868437227405312 from rfl]
  omega
theorem zok_abs {n : Nat} (hn : zok 63 n) : zok 63 (n % 2 ^ 63) := by
  have hp := Nat.two_pow_pos 63
  have := Nat.mod_lt n hp
  exact ⟨by rw [Nat.pow_succ]; omega, by rw [Nat.mod_mod]; exact hn.2⟩
theorem zinf63 {n : Nat} (hn : zok 63 n) : zkey 63 (n % 2 ^ 63) = ((n % 2 ^ 63 : Nat) : Int) := by
  have := Nat.mod_lt n (Nat.two_pow_pos 63)
  unfold zkey
  rw [if_neg (by omega), Nat.mod_mod]
theorem c1_isInfinite2 {w : zG} (hw : zWf w) {n : Nat} (hn : zok 63 n) (H : Heap) : zCt w yJ1_isInfinite_2 wc_J1_isInfinite_2 2 0 0 [dv n] H (zPure (some (.int (if n % 2 ^ 63 = 9218868437227405312 then 1 else 0))) H) zNoX :=
  zCt.ofV [(0, dv n)] hw.1 (by decide +kernel) (Nat.le_of_ble_eq_true rfl) rfl fun g cx hq _ => zwp_sound (tk_J1_isInfinite_2 cx hq) [] 40 (by
    have hm : zok 63 9218868437227405311 := ⟨by decide, by decide⟩
    have e1 : Op.cmpValue (FP.dcmp (UInt64.ofNat n &&& 9223372036854775807) (.ofNat 9218868437227405311)) .l = zcmp (n % 2 ^ 63 : Nat) 9218868437227405311 := by rw [(zabs63 hn).2, zdcmp (zok_abs hn) hm, zcv, zinf63 hn]; rfl
    have hle : n % 2 ^ 63 ≤ 9218868437227405312 := hn.2
    refine ⟨by decide, (zabs63 hn).1, fun h => ?_, fun h => ?_⟩
    · have h2 : zcmp (n % 2 ^ 63 : Nat) 9218868437227405311 ≤ 0 := by rw [← e1]; exact h
      have h1 := zcmp_le.mp h2
      exact ⟨zb1, by rw [if_neg (by omega)], rfl⟩
    · have h2 : ¬ zcmp (n % 2 ^ 63 : Nat) 9218868437227405311 ≤ 0 := by rw [← e1]; exact h
      have h1 : ¬ ((n % 2 ^ 63 : Nat) : Int) ≤ 9218868437227405311 := fun q => h2 (zcmp_le.mpr q)
      exact ⟨zb2, by rw [if_pos (by omega)], rfl⟩)
theorem c1_isFinite {w : zG} (hw : zWf w) {n : Nat} (hn : zok 63 n) (H : Heap) : zCt w yJ1_isFinite wc_J1_isFinite 2 0 0 [dv n] H (zPure (some (.int (if n % 2 ^ 63 = 9218868437227405312 then 0 else 1))) H) zNoX :=
  zCt.ofV [(0, dv n)] hw.1 (by decide +kernel) (Nat.le_of_ble_eq_true rfl) rfl fun g cx hq _ => zwp_sound (tk_J1_isFinite cx hq) [] 40 (by
    have hm : zok 63 9218868437227405311 := ⟨by decide, by decide⟩
    have e1 : Op.cmpValue (FP.dcmp (UInt64.ofNat n &&& 9223372036854775807) (.ofNat 9218868437227405311)) .g = zcmp (n % 2 ^ 63 : Nat) 9218868437227405311 := by rw [(zabs63 hn).2, zdcmp (zok_abs hn) hm, zcv, zinf63 hn]; rfl
    have hle : n % 2 ^ 63 ≤ 9218868437227405312 := hn.2
    refine ⟨by decide, (zabs63 hn).1, fun h => ?_, fun h => ?_⟩
    · have h2 : 0 < zcmp (n % 2 ^ 63 : Nat) 9218868437227405311 := by rw [← e1]; exact h
      have h1 := zcmp_gt.mp h2
      exact ⟨zb1, by rw [if_pos (by omega)], rfl⟩
    · have h2 : ¬ 0 < zcmp (n % 2 ^ 63 : Nat) 9218868437227405311 := by rw [← e1]; exact h
      have h1 : ¬ (9218868437227405311 : Int) < ((n % 2 ^ 63 : Nat) : Int) := fun q => h2 (zcmp_gt.mpr q)
      exact ⟨zb2, by rw [if_neg (by omega)], rfl⟩)
theorem c1_isInfinite {w : zG} (hw : zWf w) {n p : Nat} {H : Heap} (hn : zok 63 n) (hp : zOb w p 1 [dv n] H) : zCt w yJ1_isInfinite wc_J1_isInfinite 3 0 0 [.ref p] H (zPure (some (.int (if n % 2 ^ 63 = 9218868437227405312 then 1 else 0))) H) zNoX :=
  zCt.ofV [(0, .ref p)] hw.1 (by decide +kernel) (Nat.le_of_ble_eq_true rfl) rfl fun g cx hq _ => zwp_sound (tk_J1_isInfinite cx hq) [] 40
    ⟨_, hp, zcall.pure (c1_isInfinite2 hw hn H) (by decide) ⟨by split; exact zb2; exact zb1, rfl, rfl⟩⟩
theorem zpick63 {a b : Nat} (ha : zok 63 a) (hb : zok 63 b) : Native.java_lang_Math.nans.pick64 true (.ofNat a) (.ofNat b) = .ofNat (if zrnk 63 b ≤ zrnk 63 a then a else b) ∧ Native.java_lang_Math.nans.pick64 false (.ofNat a) (.ofNat b) = .ofNat (if zrnk 63 a ≤ zrnk 63 b then a else b) := by
  unfold Native.java_lang_Math.nans.pick64
  rw [zdcmp ha hb, zcmp_int]
  rcases Int.lt_trichotomy (zkey 63 a) (zkey 63 b) with h | h | h
  · have := zkey_rnk.1 h
    rw [if_pos h, if_neg (show ¬ zrnk 63 b ≤ zrnk 63 a by omega), if_pos (show zrnk 63 a ≤ zrnk 63 b by omega)]
    exact ⟨rfl, rfl⟩
  · rw [if_neg (show ¬ zkey 63 a < zkey 63 b by omega), if_pos h]
    by_cases hab : a = b
    · subst hab
      rw [if_pos (Int.le_refl _)]
      dsimp only
      constructor <;> split <;> rfl
    · rcases zkey_eq ha.1 hb.1 h hab with ⟨rfl, rfl⟩ | ⟨rfl, rfl⟩
      · rw [(zrnk_z 63).1, (zrnk_z 63).2]; exact ⟨by decide, by decide⟩
      · rw [(zrnk_z 63).1, (zrnk_z 63).2]; exact ⟨by decide, by decide⟩
  · have := zkey_rnk.1 h
    rw [if_neg (show ¬ zkey 63 a < zkey 63 b by omega), if_neg (show ¬ zkey 63 a = zkey 63 b by omega), if_pos (show zrnk 63 b ≤ zrnk 63 a by omega), if_neg (show ¬ zrnk 63 a ≤ zrnk 63 b by omega)]
    exact ⟨rfl, rfl⟩
theorem znan63 {a : Nat} (ha : zok 63 a) : FP.dIsNaN (.ofNat a) = false := by
  have e1 : (UInt64.ofNat a).toNat = a := by rw [UInt64.toNat_ofNat']; exact Nat.mod_eq_of_lt ha.1
  show decide (FP.Core.decode FP.Core.b64 (UInt64.ofNat a).toNat = .nan) = false
  rw [e1]
  obtain ⟨x1, x2⟩ := zdecode (f := FP.Core.b64) (n := a) ha.1 (by decide) (by decide)
  rcases Nat.lt_or_eq_of_le ha.2 with h | h
  · rw [x1 h]; rfl
  · rw [x2 h]; rfl
theorem c1_max {w : zG} (hw : zWf w) {a b : Nat} (ha : zok 63 a) (hb : zok 63 b) (H : Heap) : zCt w yJ1_max wc_J1_max 2 0 0 [dv a, dv b] H (zPure (some (dv (if zrnk 63 b ≤ zrnk 63 a then a else b))) H) zNoX :=
  zCt.ofV [(0, dv a), (2, dv b)] hw.1 (by decide +kernel) (Nat.le_of_ble_eq_true rfl) rfl fun g cx hq _ => zwp_sound (tk_J1_max cx hq) [] 40 ⟨by decide, ⟨znan63 ha, znan63 hb⟩, congrArg (fun q => some (Value.double q)) (zpick63 ha hb).1, rfl⟩
theorem c1_min {w : zG} (hw : zWf w) {a b : Nat} (ha : zok 63 a) (hb : zok 63 b) (H : Heap) : zCt w yJ1_min wc_J1_min 2 0 0 [dv a, dv b] H (zPure (some (dv (if zrnk 63 a ≤ zrnk 63 b then a else b))) H) zNoX :=
  zCt.ofV [(0, dv a), (2, dv b)] hw.1 (by decide +kernel) (Nat.le_of_ble_eq_true rfl) rfl fun g cx hq _ => zwp_sound (tk_J1_min cx hq) [] 40 ⟨by decide, ⟨znan63 ha, znan63 hb⟩, congrArg (fun q => some (Value.double q)) (zpick63 ha hb).2, rfl⟩
theorem c1_hashCode2 {w : zG} (hw : zWf w) {n : Nat} (hn : zok 63 n) (H : Heap) : zCt w yJ1_hashCode_2 wc_J1_hashCode_2 2 0 0 [dv n] H (zPure (some (.int (zhsh n))) H) zNoX :=
  zCt.ofV [(0, dv n)] hw.1 (by decide +kernel) (Nat.le_of_ble_eq_true rfl) rfl fun g cx hq _ => zwp_sound (tk_J1_hashCode_2 cx hq) [] 40
    (zcall.pure (c1_bits hw hn H) (by decide) (zcall.pure (c0_Long_hashCode hw n H) (by decide) ⟨rfl, rfl⟩))
theorem c1_hashCode {w : zG} (hw : zWf w) {n p : Nat} {H : Heap} (hn : zok 63 n) (hp : zOb w p 1 [dv n] H) : zCt w yJ1_hashCode wc_J1_hashCode 3 0 0 [.ref p] H (zPure (some (.int (zhsh n))) H) zNoX :=
  zCt.ofV [(0, .ref p)] hw.1 (by decide +kernel) (Nat.le_of_ble_eq_true rfl) rfl fun g cx hq _ => zwp_sound (tk_J1_hashCode cx hq) [] 40
    ⟨_, hp, zcall.pure (c1_hashCode2 hw hn H) (by decide) ⟨rfl, rfl⟩⟩
theorem c1_sum {w : zG} (hw : zWf w) {a b c : Nat} (hc : FP.dadd (.ofNat a) (.ofNat b) = .ofNat c) (hn : vf_n64 (.ofNat c)) (H : Heap) : zCt w yJ1_sum wc_J1_sum 0 0 0 [dv a, dv b] H (zPure (some (dv c)) H) zNoX :=
  zCt.ofV [(0, dv a), (2, dv b)] hw.1 (by decide +kernel) (Nat.le_of_ble_eq_true rfl) rfl fun g cx hq _ => zwp_sound (tk_J1_sum cx hq) [] 40
    ⟨by rw [hc]; exact hn, by rw [hc], rfl⟩

theorem c2_isNaN {w : zG} (hw : zWf w) {n : Nat} (hn : zok 31 n) (H : Heap) : zCt w yJ2_isNaN wc_J2_isNaN 0 0 0 [fv n] H (zPure (some (.int 0)) H) zNoX :=
  zCt.ofVF [(0, fv n)] hw.1 (by decide +kernel) (Nat.le_of_ble_eq_true rfl) rfl fun g cx hq _ => zwp_sound (tk_J2_isNaN cx hq) [] 40
    ⟨fun _ => ⟨zb1, rfl, rfl⟩, fun h => absurd (by rw [zfcmp hn hn, zcv]; exact zcmp_eq.mpr rfl) h⟩
theorem c2_bits {w : zG} (hw : zWf w) {n : Nat} (hn : zok 31 n) (H : Heap) : zCt w yJ2_floatToIntBits wc_J2_floatToIntBits 1 0 0 [fv n] H (zPure (some (.int (fl n))) H) zNoX :=
  zCt.ofVF [(0, fv n)] hw.1 (by decide +kernel) (Nat.le_of_ble_eq_true rfl) rfl fun g cx hq _ => zwp_sound (tk_J2_floatToIntBits cx hq) [] 40
    (zcall.pure (c2_isNaN hw hn H) (by decide) ⟨fun h => absurd rfl h, fun _ => ⟨by decide, rfl, rfl⟩⟩)
theorem c2_init {w : zG} (hw : zWf w) {n a : Nat} {v : Value} {H : Heap} (ha : zOb w a 2 [v] H) (hnew : zNew w a) : zCt w yJ2_init wc_J2_init 2 0 0 [.ref a, fv n] H (fun r H' => r = none ∧ zUpd H H' a ∧ zOb w a 2 [fv n] H') zNoX :=
  zCt.ofVF [(0, .ref a), (1, fv n)] hw.1 (by decide +kernel) (Nat.le_of_ble_eq_true rfl) rfl fun g cx hq _ => zwp_sound (tk_J2_init cx hq) [] 40
    (zcall.pure (c0_Number_init hw a H) (by decide) ⟨_, ha, hnew, fun H' h1 h2 => ⟨rfl, h1, h2⟩⟩)
theorem c2_valueOf {w : zG} (hw : zWf w) {n : Nat} (H : Heap) : zCt w yJ2_valueOf wc_J2_valueOf 3 1 1 [fv n] H (fun r H' => r = some (.ref H.size) ∧ zPush H H' ∧ zOb w H.size 2 [fv n] H') zNoX :=
  zCt.ofVF [(0, fv n)] hw.1 (by decide +kernel) (Nat.le_of_ble_eq_true rfl) rfl fun g cx hq ho => zwp_sound (tk_J2_valueOf cx hq) [] 40
    ⟨by decide, by decide, fun H1 p1 o1 => zcall.ret (c2_init hw o1 ho.1) (by decide) (by decide) (by decide) (by
      rintro _ H2 ⟨rfl, u2, o2⟩ _
      exact ⟨rfl, ⟨u2.1.trans p1.1, fun q hq2 => (u2.2 q (by omega)).trans (p1.2 q hq2)⟩, o2⟩)⟩
theorem c2_value {w : zG} (hw : zWf w) {n a : Nat} {H : Heap} (ha : zOb w a 2 [fv n] H) : zCt w yJ2_floatValue wc_J2_floatValue 0 0 0 [.ref a] H (zPure (some (fv n)) H) zNoX :=
  zCt.ofVF [(0, .ref a)] hw.1 (by decide +kernel) (Nat.le_of_ble_eq_true rfl) rfl fun g cx hq _ => zwp_sound (tk_J2_floatValue cx hq) [] 40 ⟨_, ha, rfl, rfl⟩
theorem c2_compare {w : zG} (hw : zWf w) {a b : Nat} (ha : zok 31 a) (hb : zok 31 b) (H : Heap) : zCt w yJ2_compare wc_J2_compare 2 0 0 [fv a, fv b] H (zPure (some (.int (zcmp (zrnk 31 a) (zrnk 31 b)))) H) zNoX :=
  zCt.ofVF [(0, fv a), (1, fv b)] hw.1 (by decide +kernel) (Nat.le_of_ble_eq_true rfl) rfl fun g cx hq _ => zwp_sound (tk_J2_compare cx hq) [] 40 (by
    have e1 : ∀ op, Op.cmpValue (FP.fcmp (.ofNat a) (.ofNat b)) op = zcmp (zkey 31 a) (zkey 31 b) := fun op => by rw [zfcmp ha hb, zcv]
    refine ⟨fun h => ⟨fun h2 => ?_, fun h2 => ?_⟩, fun h => ?_⟩
    · rw [e1, zcmp_ge] at h
      rw [e1, zcmp_le] at h2
      have hk : zkey 31 a = zkey 31 b := by omega
      refine zcall.pure (c2_bits hw ha H) (by decide) (zcall.pure (c2_bits hw hb H) (by decide) ?_)
      by_cases hab : a = b
      · subst hab
        exact ⟨fun h9 => absurd rfl h9, fun _ => ⟨by rw [show zcmp (zrnk 31 a) (zrnk 31 a) = 0 from zcmp_eq.mpr rfl], rfl⟩⟩
      · refine ⟨fun _ => ?_, fun h9 => absurd (fl_inj ha.1 hb.1 h9) hab⟩
        rcases zkey_eq ha.1 hb.1 hk hab with ⟨rfl, rfl⟩ | ⟨rfl, rfl⟩
        · exact ⟨fun _ => ⟨by rw [(zrnk_z 31).1, (zrnk_z 31).2]; rfl, rfl⟩, fun h9 => absurd (by decide) h9⟩
        · exact ⟨fun h9 => absurd h9 (by decide), fun _ => ⟨by rw [(zrnk_z 31).1, (zrnk_z 31).2]; rfl, rfl⟩⟩
    · rw [e1, ← Int32.not_lt, Classical.not_not, zcmp_gt] at h2
      have := zkey_rnk.1 h2
      exact ⟨by rw [show zcmp (zrnk 31 a) (zrnk 31 b) = 1 from by unfold zcmp; rw [if_neg (by omega), if_neg (by omega)]], rfl⟩
    · rw [e1, ← Int32.not_lt, Classical.not_not, zcmp_lt] at h
      have := zkey_rnk.1 h
      exact ⟨by rw [show zcmp (zrnk 31 a) (zrnk 31 b) = -1 from by unfold zcmp; rw [if_pos (by omega)]], rfl⟩)
theorem c2_compareTo {w : zG} (hw : zWf w) {p q a b : Nat} {H : Heap} (ha : zok 31 a) (hb : zok 31 b) (hp : zOb w p 2 [fv a] H) (hq2 : zOb w q 2 [fv b] H) : zCt w yJ2_compareTo_2 wc_J2_compareTo_2 3 0 0 [.ref p, .ref q] H (zPure (some (.int (zcmp (zrnk 31 a) (zrnk 31 b)))) H) zNoX :=
  zCt.ofVF [(0, .ref p), (1, .ref q)] hw.1 (by decide +kernel) (Nat.le_of_ble_eq_true rfl) rfl fun g cx hq _ => zwp_sound (tk_J2_compareTo_2 cx hq) [] 40
    ⟨_, hp, _, hq2, zcall.pure (c2_compare hw ha hb H) (by decide) ⟨rfl, rfl⟩⟩
theorem c2_compareTo2 {w : zG} (hw : zWf w) {p q a b : Nat} {H : Heap} (ha : zok 31 a) (hb : zok 31 b) (hp : zOb w p 2 [fv a] H) (hq2 : zOb w q 2 [fv b] H) : zCt w yJ2_compareTo wc_J2_compareTo 4 0 0 [.ref p, .ref q] H (zPure (some (.int (zcmp (zrnk 31 a) (zrnk 31 b)))) H) zNoX :=
  zCt.ofVF [(0, .ref p), (1, .ref q)] hw.1 (by decide +kernel) (Nat.le_of_ble_eq_true rfl) rfl fun g cx hq _ => zwp_sound (tk_J2_compareTo cx hq) [] 40
    ⟨⟨_, hq2⟩, ⟨_, hp⟩, zcall.pure (c2_compareTo hw ha hb hp hq2) (by decide) ⟨rfl, rfl⟩⟩
theorem c2_equals {w : zG} (hw : zWf w) {p q a b : Nat} {H : Heap} (ha : zok 31 a) (hb : zok 31 b) (hp : zOb w p 2 [fv a] H) (hq2 : zOb w q 2 [fv b] H) : zCt w yJ2_equals wc_J2_equals 2 0 0 [.ref p, .ref q] H (zPure (some (.int (if a = b then 1 else 0))) H) zNoX :=
  zCt.ofVF [(0, .ref p), (1, .ref q)] hw.1 (by decide +kernel) (Nat.le_of_ble_eq_true rfl) rfl fun g cx hq _ => zwp_sound (tk_J2_equals cx hq) [] 40
    (Or.inl ⟨⟨_, hq2⟩, fun h => absurd h (by decide), fun _ => ⟨⟨_, hq2⟩, _, hq2, zcall.pure (c2_bits hw hb H) (by decide) ⟨_, hp, zcall.pure (c2_bits hw ha H) (by decide) ⟨fun h => ⟨zb1, by rw [if_neg (fun e => h (by rw [e]))], rfl⟩, fun h => ⟨zb2, by rw [if_pos (fl_inj ha.1 hb.1 h.symm)], rfl⟩⟩⟩⟩⟩)
theorem c2_equalsN {w : zG} (hw : zWf w) {p : Nat} {H : Heap} : zCt w yJ2_equals wc_J2_equals 2 0 0 [.ref p, .null] H (zPure (some (.int 0)) H) zNoX :=
  zCt.ofVF [(0, .ref p), (1, .null)] hw.1 (by decide +kernel) (Nat.le_of_ble_eq_true rfl) rfl fun g cx hq _ => zwp_sound (tk_J2_equals cx hq) [] 40
    ⟨fun _ => ⟨zb1, rfl, rfl⟩, fun h => absurd rfl h⟩
theorem c2_equalsO {w : zG} (hw : zWf w) {p q cj : Nat} {r : vw_C} {H : Heap} (hc : zCl[cj]? = some r) (hn : (r.1, "java/lang/Float") ∈ zNc) (hq2 : zIs w q cj H) : zCt w yJ2_equals wc_J2_equals 2 0 0 [.ref p, .ref q] H (zPure (some (.int 0)) H) zNoX :=
  zCt.ofVF [(0, .ref p), (1, .ref q)] hw.1 (by decide +kernel) (Nat.le_of_ble_eq_true rfl) rfl fun g cx hq _ => zwp_sound (tk_J2_equals cx hq) [] 40
    (Or.inr ⟨⟨cj, r, hc, hn, hq2⟩, fun _ => ⟨zb1, rfl, rfl⟩, fun h => absurd rfl h⟩)
theorem zabs31 {n : Nat} (hn : zok 31 n) : vf_n32 (UInt32.ofNat n) ∧ UInt32.ofNat n &&& 2147483647 = UInt32.ofNat (n % 2 ^ 31) := by
  have e : UInt32.ofNat n &&& 2147483647 = UInt32.ofNat (n % 2 ^ 31) := by
    apply UInt32.toNat_inj.mp
    rw [UInt32.toNat_and, UInt32.toNat_ofNat', UInt32.toNat_ofNat', Nat.mod_eq_of_lt hn.1]
    rw [show (2147483647 : UInt32).toNat = 2 ^ 31 - 1 from rfl, Nat.and_two_pow_sub_one_eq_mod]
    exact (Nat.mod_eq_of_lt (by have := Nat.mod_lt n (Nat.two_pow_pos 31); omega)).symm
  refine ⟨?_, e⟩
  show UInt32.ofNat n &&& 2147483647 ≤ 2139095040
  rw [e, UInt32.le_iff_toNat_le, UInt32.toNat_ofNat']
  have h2 : n % 2 ^ 31 ≤ 2139095040 := hn.2
  have h3 := Nat.mod_le (n % 2 ^ 31) (2 ^ 32)
  rw [show (2139095040 : UInt32).toNat = 2139095040 from rfl]
  omega
theorem zok_abs31 {n : Nat} (hn : zok 31 n) : zok 31 (n % 2 ^ 31) := by
  have hp := Nat.two_pow_pos 31
  have := Nat.mod_lt n hp
  exact ⟨by rw [Nat.pow_succ]; omega, by rw [Nat.mod_mod]; exact hn.2⟩
theorem zinf31 {n : Nat} (hn : zok 31 n) : zkey 31 (n % 2 ^ 31) = ((n % 2 ^ 31 : Nat) : Int) := by
  have := Nat.mod_lt n (Nat.two_pow_pos 31)
  unfold zkey
  rw [if_neg (by omega), Nat.mod_mod]
theorem c2_isInfinite2 {w : zG} (hw : zWf w) {n : Nat} (hn : zok 31 n) (H : Heap) : zCt w yJ2_isInfinite_2 wc_J2_isInfinite_2 2 0 0 [fv n] H (zPure (some (.int (if n % 2 ^ 31 = 2139095040 then 1 else 0))) H) zNoX :=
  zCt.ofVF [(0, fv n)] hw.1 (by decide +kernel) (Nat.le_of_ble_eq_true rfl) rfl fun g cx hq _ => zwp_sound (tk_J2_isInfinite_2 cx hq) [] 40 (by
    have hm : zok 31 2139095039 := ⟨by decide, by decide⟩
    have e1 : Op.cmpValue (FP.fcmp (UInt32.ofNat n &&& 2147483647) (.ofNat 2139095039)) .l = zcmp (n % 2 ^ 31 : Nat) 2139095039 := by rw [(zabs31 hn).2, zfcmp (zok_abs31 hn) hm, zcv, zinf31 hn]; rfl
    have hle : n % 2 ^ 31 ≤ 2139095040 := hn.2
    refine ⟨by decide, (zabs31 hn).1, fun h => ?_, fun h => ?_⟩
    · have h2 : zcmp (n % 2 ^ 31 : Nat) 2139095039 ≤ 0 := by rw [← e1]; exact h
      have h1 := zcmp_le.mp h2
      exact ⟨zb1, by rw [if_neg (by omega)], rfl⟩
    · have h2 : ¬ zcmp (n % 2 ^ 31 : Nat) 2139095039 ≤ 0 := by rw [← e1]; exact h
      have h1 : ¬ ((n % 2 ^ 31 : Nat) : Int) ≤ 2139095039 := fun q => h2 (zcmp_le.mpr q)
      exact ⟨zb2, by rw [if_pos (by omega)], rfl⟩)
theorem c2_isFinite {w : zG} (hw : zWf w) {n : Nat} (hn : zok 31 n) (H : Heap) : zCt w yJ2_isFinite wc_J2_isFinite 2 0 0 [fv n] H (zPure (some (.int (if n % 2 ^ 31 = 2139095040 then 0 else 1))) H) zNoX :=
  zCt.ofVF [(0, fv n)] hw.1 (by decide +kernel) (Nat.le_of_ble_eq_true rfl) rfl fun g cx hq _ => zwp_sound (tk_J2_isFinite cx hq) [] 40 (by
    have hm : zok 31 2139095039 := ⟨by decide, by decide⟩
    have e1 : Op.cmpValue (FP.fcmp (UInt32.ofNat n &&& 2147483647) (.ofNat 2139095039)) .g = zcmp (n % 2 ^ 31 : Nat) 2139095039 := by rw [(zabs31 hn).2, zfcmp (zok_abs31 hn) hm, zcv, zinf31 hn]; rfl
    have hle : n % 2 ^ 31 ≤ 2139095040 := hn.2
    refine ⟨by decide, (zabs31 hn).1, fun h => ?_, fun h => ?_⟩
    · have h2 : 0 < zcmp (n % 2 ^ 31 : Nat) 2139095039 := by rw [← e1]; exact h
      have h1 := zcmp_gt.mp h2
      exact ⟨zb1, by rw [if_pos (by omega)], rfl⟩
    · have h2 : ¬ 0 < zcmp (n % 2 ^ 31 : Nat) 2139095039 := by rw [← e1]; exact h
      have h1 : ¬ (2139095039 : Int) < ((n % 2 ^ 31 : Nat) : Int) := fun q => h2 (zcmp_gt.mpr q)
      exact ⟨zb2, by rw [if_neg (by omega)], rfl⟩)
theorem c2_isInfinite {w : zG} (hw : zWf w) {n p : Nat} {H : Heap} (hn : zok 31 n) (hp : zOb w p 2 [fv n] H) : zCt w yJ2_isInfinite wc_J2_isInfinite 3 0 0 [.ref p] H (zPure (some (.int (if n % 2 ^ 31 = 2139095040 then 1 else 0))) H) zNoX :=
  zCt.ofVF [(0, .ref p)] hw.1 (by decide +kernel) (Nat.le_of_ble_eq_true rfl) rfl fun g cx hq _ => zwp_sound (tk_J2_isInfinite cx hq) [] 40
    ⟨_, hp, zcall.pure (c2_isInfinite2 hw hn H) (by decide) ⟨by split; exact zb2; exact zb1, rfl, rfl⟩⟩
theorem zpick31 {a b : Nat} (ha : zok 31 a) (hb : zok 31 b) : Native.java_lang_Math.nans.pick32 true (.ofNat a) (.ofNat b) = .ofNat (if zrnk 31 b ≤ zrnk 31 a then a else b) ∧ Native.java_lang_Math.nans.pick32 false (.ofNat a) (.ofNat b) = .ofNat (if zrnk 31 a ≤ zrnk 31 b then a else b) := by
  unfold Native.java_lang_Math.nans.pick32
  rw [zfcmp ha hb, zcmp_int]
  rcases Int.lt_trichotomy (zkey 31 a) (zkey 31 b) with h | h | h
  · have := zkey_rnk.1 h
    rw [if_pos h, if_neg (show ¬ zrnk 31 b ≤ zrnk 31 a by omega), if_pos (show zrnk 31 a ≤ zrnk 31 b by omega)]
    exact ⟨rfl, rfl⟩
  · rw [if_neg (show ¬ zkey 31 a < zkey 31 b by omega), if_pos h]
    by_cases hab : a = b
    · subst hab
      rw [if_pos (Int.le_refl _)]
      dsimp only
      constructor <;> split <;> rfl
    · rcases zkey_eq ha.1 hb.1 h hab with ⟨rfl, rfl⟩ | ⟨rfl, rfl⟩
      · rw [(zrnk_z 31).1, (zrnk_z 31).2]; exact ⟨by decide, by decide⟩
      · rw [(zrnk_z 31).1, (zrnk_z 31).2]; exact ⟨by decide, by decide⟩
  · have := zkey_rnk.1 h
    rw [if_neg (show ¬ zkey 31 a < zkey 31 b by omega), if_neg (show ¬ zkey 31 a = zkey 31 b by omega), if_pos (show zrnk 31 b ≤ zrnk 31 a by omega), if_neg (show ¬ zrnk 31 a ≤ zrnk 31 b by omega)]
    exact ⟨rfl, rfl⟩
theorem znan31 {a : Nat} (ha : zok 31 a) : FP.fIsNaN (.ofNat a) = false := by
  have e1 : (UInt32.ofNat a).toNat = a := by rw [UInt32.toNat_ofNat']; exact Nat.mod_eq_of_lt ha.1
  show decide (FP.Core.decode FP.Core.b32 (UInt32.ofNat a).toNat = .nan) = false
  rw [e1]
  obtain ⟨x1, x2⟩ := zdecode (f := FP.Core.b32) (n := a) ha.1 (by decide) (by decide)
  rcases Nat.lt_or_eq_of_le ha.2 with h | h
  · rw [x1 h]; rfl
  · rw [x2 h]; rfl
theorem c2_max {w : zG} (hw : zWf w) {a b : Nat} (ha : zok 31 a) (hb : zok 31 b) (H : Heap) : zCt w yJ2_max wc_J2_max 2 0 0 [fv a, fv b] H (zPure (some (fv (if zrnk 31 b ≤ zrnk 31 a then a else b))) H) zNoX :=
  zCt.ofVF [(0, fv a), (1, fv b)] hw.1 (by decide +kernel) (Nat.le_of_ble_eq_true rfl) rfl fun g cx hq _ => zwp_sound (tk_J2_max cx hq) [] 40 ⟨by decide, ⟨znan31 ha, znan31 hb⟩, congrArg (fun q => some (Value.float q)) (zpick31 ha hb).1, rfl⟩
theorem c2_min {w : zG} (hw : zWf w) {a b : Nat} (ha : zok 31 a) (hb : zok 31 b) (H : Heap) : zCt w yJ2_min wc_J2_min 2 0 0 [fv a, fv b] H (zPure (some (fv (if zrnk 31 a ≤ zrnk 31 b then a else b))) H) zNoX :=
  zCt.ofVF [(0, fv a), (1, fv b)] hw.1 (by decide +kernel) (Nat.le_of_ble_eq_true rfl) rfl fun g cx hq _ => zwp_sound (tk_J2_min cx hq) [] 40 ⟨by decide, ⟨znan31 ha, znan31 hb⟩, congrArg (fun q => some (Value.float q)) (zpick31 ha hb).2, rfl⟩
theorem c2_hashCode2 {w : zG} (hw : zWf w) {n : Nat} (hn : zok 31 n) (H : Heap) : zCt w yJ2_hashCode_2 wc_J2_hashCode_2 2 0 0 [fv n] H (zPure (some (.int (fl n))) H) zNoX :=
  zCt.ofVF [(0, fv n)] hw.1 (by decide +kernel) (Nat.le_of_ble_eq_true rfl) rfl fun g cx hq _ => zwp_sound (tk_J2_hashCode_2 cx hq) [] 40
    (zcall.pure (c2_bits hw hn H) (by decide) ⟨rfl, rfl⟩)
theorem c2_hashCode {w : zG} (hw : zWf w) {n p : Nat} {H : Heap} (hn : zok 31 n) (hp : zOb w p 2 [fv n] H) : zCt w yJ2_hashCode wc_J2_hashCode 3 0 0 [.ref p] H (zPure (some (.int (fl n))) H) zNoX :=
  zCt.ofVF [(0, .ref p)] hw.1 (by decide +kernel) (Nat.le_of_ble_eq_true rfl) rfl fun g cx hq _ => zwp_sound (tk_J2_hashCode cx hq) [] 40
    ⟨_, hp, zcall.pure (c2_hashCode2 hw hn H) (by decide) ⟨rfl, rfl⟩⟩
theorem c2_sum {w : zG} (hw : zWf w) {a b c : Nat} (hc : FP.fadd (.ofNat a) (.ofNat b) = .ofNat c) (hn : vf_n32 (.ofNat c)) (H : Heap) : zCt w yJ2_sum wc_J2_sum 0 0 0 [fv a, fv b] H (zPure (some (fv c)) H) zNoX :=
  zCt.ofVF [(0, fv a), (1, fv b)] hw.1 (by decide +kernel) (Nat.le_of_ble_eq_true rfl) rfl fun g cx hq _ => zwp_sound (tk_J2_sum cx hq) [] 40
    ⟨by rw [hc]; exact hn, by rw [hc], rfl⟩
