/-! THE z-LAYER, 4: a contract out of a body; calls; what is thrown -/
theorem zlv_of {ls : Array Slot} {n : Nat} {vs : List Value} {lv : zL} (h : lv_has ls n (lv_args 0 vs)) (e : lv_args 0 vs = lv) : lv_has ls n lv := e ▸ h
/-- a contract, out of its body -/
theorem zCt.ofV {w : zG} {y : MethodName} {cc : ByteArray} {nL : Nat} {ret : Option FieldType} {d mc ms : Nat} {av : List Value} {H : Heap} {Q : Option Value → Heap → Prop} {X : String → Heap → Prop} (lv : zL)
    (hfl : w.1.stackTraces = false) (hy : plainName y.cls = true) (hlen : (lg_sl av).length ≤ nL) (hlv : lv_args 0 av = lv)
    (body : ∀ g : zM, zCx w g y.cls cc nL ret y.name [] → zCq w g (Q, X) → zOld w H → zV w g d mc ms 0 lv [] H) : zCt w y (ws_ y cc nL ret) d mc ms av H Q X := by
  refine vx_ofW (cc := cc) (maxL := nL) (ret := ret) hy rfl ?_
  intro p e s m args below meth c s₁ B hml htab hP
  obtain ⟨ha, hH, hGK, hold⟩ := hP
  have hts := atoms_spec (ws := ws_ y cc nL ret) B.pre
  have hts : ∀ x ∈ lw_all, x.before args s = true := fun x h => hts x (List.mem_cons_of_mem _ h)
  have hown : s.vm.findClass y.cls = some m.cls := findClass_of_methodNamed B.named
  have hnm : meth.name = y.name := (name_of_methodNamed B.named B.method).1
  have htb : c.exceptionTable.toList = tableOf [] := by
    cases hc : c.exceptionTable.toList with
    | nil => rfl
    | cons x t => exact (htab x (by rw [hc]; exact List.mem_cons_self)).elim
  subst ha
  subst hH
  have key := body (p, e, { frames := d, cells := mc, slots := ms, locals := 64 * d }, s, m, av.toArray, below, meth, c, vx_MQ below (zQc (Q, X)) (zXC (Q, X)) av.toArray s mc ms (zNew w)) ⟨B.exec, B.bytes, B.returns, hml, hown, hts, B.notSynchronized, hGK, hnm, htb, hfl, hold⟩ rfl hold
  rw [lg_entry_eq]
  have hl := lv_entry av hlen
  generalize (lg_sl av ++ List.replicate (nL - (lg_sl av).length) Slot.unset).toArray = ls at hl ⊢
  exact key (Nat.le_refl _) (Nat.le_refl _) hold 0 0 [] ls (by show 0 + mc ≤ mc; omega) (by show 0 + ms ≤ ms; omega) (fun z hz => nomatch hz) (by show lv_has ls c.maxLocals lv; rw [hml]; exact zlv_of hl hlv)
/-- .. of a method with handlers -/
theorem zCt.ofVH {w : zG} {y : MethodName} {cc : ByteArray} {nL : Nat} {ret : Option FieldType} {hh : List (Nat × Nat × Nat × Nat)} {d mc ms : Nat} {av : List Value} {H : Heap} {Q : Option Value → Heap → Prop} {X : String → Heap → Prop} (lv : zL)
    (hfl : w.1.stackTraces = false) (hy : plainName y.cls = true) (hlen : (lg_sl av).length ≤ nL) (hlv : lv_args 0 av = lv)
    (body : ∀ g : zM, zCx w g y.cls cc nL ret y.name hh → zCq w g (Q, X) → zOld w H → zV w g d mc ms 0 lv [] H) : zCt w y (wsW_ y cc nL ret hh) d mc ms av H Q X := by
  refine vx_ofWH (cc := cc) (maxL := nL) (ret := ret) (hh := hh) hy rfl ?_
  intro p e s m args below meth c s₁ B hml hP
  obtain ⟨ha, hH, hGK, hold⟩ := hP
  have hts0 := atoms_spec (ws := wsW_ y cc nL ret hh) B.pre
  have hts : ∀ x ∈ lw_all, x.before args s = true := fun x h => hts0 x (List.mem_cons_of_mem _ h)
  have hown : s.vm.findClass y.cls = some m.cls := findClass_of_methodNamed B.named
  have hnm : meth.name = y.name := (name_of_methodNamed B.named B.method).1
  have htb : c.exceptionTable.toList = tableOf hh := vx_table (x := y) B (hts0 _ List.mem_cons_self)
  subst ha
  subst hH
  have key := body (p, e, { frames := d, cells := mc, slots := ms, locals := 64 * d }, s, m, av.toArray, below, meth, c, vx_MQ below (zQc (Q, X)) (zXC (Q, X)) av.toArray s mc ms (zNew w)) ⟨B.exec, B.bytes, B.returns, hml, hown, hts, B.notSynchronized, hGK, hnm, htb, hfl, hold⟩ rfl hold
  rw [lg_entry_eq]
  have hl := lv_entry av hlen
  generalize (lg_sl av ++ List.replicate (nL - (lg_sl av).length) Slot.unset).toArray = ls at hl ⊢
  exact key (Nat.le_refl _) (Nat.le_refl _) hold 0 0 [] ls (by show 0 + mc ≤ mc; omega) (by show 0 + ms ≤ ms; omega) (fun z hz => nomatch hz) (by show lv_has ls c.maxLocals lv; rw [hml]; exact zlv_of hl hlv)
/-! what a call asks -/
def zcG (C : Nat → Nat → Nat → (Option Value → Heap → Prop) → (String → Heap → Prop) → Prop) (H : Heap) (d rc rs : Nat) (K : Nat → Nat → Option Value → Heap → Prop) (KX : Nat → Nat → String → Heap → Prop) : Prop :=
  ∃ (d' mc ms : Nat) (Q : Option Value → Heap → Prop) (X : String → Heap → Prop), d' + 1 ≤ d ∧ mc ≤ rc ∧ ms ≤ rs ∧ C d' mc ms Q X ∧ (∀ v H', Q v H' → H.size ≤ H'.size → K mc ms v H') ∧ (∀ E H', X E H' → H.size ≤ H'.size → KX mc ms E H')
abbrev zcall (w : zG) (y : MethodName) (ws : List Cond) (av : List Value) (H : Heap) (d rc rs : Nat) (K : Nat → Nat → Option Value → Heap → Prop) (KX : Nat → Nat → String → Heap → Prop) : Prop :=
  zcG (fun d' mc ms Q X => zCt w y ws d' mc ms av H Q X) H d rc rs K KX
/-- a callee that returns: its answer and its heap -/
theorem zcall.ret {w : zG} {y : MethodName} {ws : List Cond} {av : List Value} {H : Heap} {d rc rs d' mc ms : Nat} {Q : Option Value → Heap → Prop} {K : Nat → Nat → Option Value → Heap → Prop} {KX : Nat → Nat → String → Heap → Prop} (h : zCt w y ws d' mc ms av H Q (fun _ _ => False)) (h1 : d' + 1 ≤ d) (h2 : mc ≤ rc) (h3 : ms ≤ rs) (k : ∀ v H', Q v H' → H.size ≤ H'.size → K mc ms v H') : zcall w y ws av H d rc rs K KX :=
  ⟨d', mc, ms, Q, _, h1, h2, h3, h, k, fun _ _ h _ => h.elim⟩
theorem zcall.mk {w : zG} {y : MethodName} {ws : List Cond} {av : List Value} {H : Heap} {d rc rs d' mc ms : Nat} {Q : Option Value → Heap → Prop} {X : String → Heap → Prop} {K : Nat → Nat → Option Value → Heap → Prop} {KX : Nat → Nat → String → Heap → Prop} (h : zCt w y ws d' mc ms av H Q X) (h1 : d' + 1 ≤ d) (h2 : mc ≤ rc) (h3 : ms ≤ rs) (k : ∀ v H', Q v H' → H.size ≤ H'.size → K mc ms v H') (kx : ∀ E H', X E H' → H.size ≤ H'.size → KX mc ms E H') : zcall w y ws av H d rc rs K KX :=
  ⟨d', mc, ms, Q, X, h1, h2, h3, h, k, kx⟩
/-- a callee that makes nothing and changes nothing -/
theorem zcall.pure {w : zG} {y : MethodName} {ws : List Cond} {av : List Value} {H : Heap} {d rc rs d' : Nat} {v : Option Value} {K : Nat → Nat → Option Value → Heap → Prop} {KX : Nat → Nat → String → Heap → Prop} (h : zCt w y ws d' 0 0 av H (fun r H' => r = v ∧ H' = H) (fun _ _ => False)) (h1 : d' + 1 ≤ d) (k : K 0 0 v H) : zcall w y ws av H d rc rs K KX :=
  zcall.ret h h1 (Nat.zero_le _) (Nat.zero_le _) (fun r H' e _ => by obtain ⟨e1, e2⟩ := e; subst e1; subst e2; exact k)
def zpop : Nat → List Value → List Value → (List Value → List Value → Prop) → Prop
  | 0, st, acc, K => K acc st
  | n + 1, v :: st, acc, K => zpop n st (v :: acc) K
  | _ + 1, [], _, _ => False
theorem zpop_spec : ∀ (n : Nat) (st acc : List Value) (K : List Value → List Value → Prop), zpop n st acc K → ∃ l rest, l.length = n ∧ st = l ++ rest ∧ K (l.reverse ++ acc) rest
  | 0, st, acc, K, h => ⟨[], st, rfl, rfl, h⟩
  | n + 1, v :: st, acc, K, h => by
    obtain ⟨l, rest, h1, h2, h3⟩ := zpop_spec n st (v :: acc) K h
    exact ⟨v :: l, rest, by simp [h1], by rw [h2]; rfl, by simpa using h3⟩
  | n + 1, [], acc, K, h => h.elim
def zsum : List Value → Nat
  | [] => 0
  | v :: t => (bif zc2 v then 2 else 1) + zsum t
theorem zsum_spec : ∀ (l : List Value), (l.map fun v => v.category).sum = zsum l
  | [] => rfl
  | v :: t => by
    have h := zsum_spec t
    rw [List.map_cons, List.sum_cons, h]
    exact congrArg (fun n => n + zsum t) (show v.category = (bif zc2 v then 2 else 1) by cases v <;> rfl)
def zres (v : Option Value) (rest : List Value) (K : List Value → Prop) : Prop := match v with
  | some x => K (x :: rest)
  | none => K rest
theorem zres_spec {v : Option Value} {rest : List Value} {K : List Value → Prop} (h : zres v rest K) : K (v.toList ++ rest) := by
  cases v <;> exact h
def zfl (rest : List Value) (Kp : Prop) : Prop := bif Nat.ble (zsum rest) 8 then Kp else False
theorem zfl_spec {rest : List Value} {Kp : Prop} (h : zfl rest Kp) : (rest.map fun v => v.category).sum ≤ 8 ∧ Kp := by
  unfold zfl at h
  cases hb : Nat.ble (zsum rest) 8 with
  | true => rw [hb] at h; exact ⟨by rw [zsum_spec]; exact Nat.le_of_ble_eq_true hb, h⟩
  | false => rw [hb] at h; exact h.elim
/-- 'post' and world of a throw at the caller: leaves the method -/
def zthrow (P : zPo) (E : String) (H : Heap) : Prop := P.2 E H
def s_cS (w : zG) (y : MethodName) (ws : List Cond) (n nx : Nat) : zStep := fun P d rc rs lv st H K => zpop n st [] (fun av rest => zfl rest (zcall w y ws av H d rc rs (fun mc ms v H' => zres v rest (fun st' => K nx (rc - mc) (rs - ms) lv st' H')) (fun _ _ E H' => P.2 E H')))
/-- through an object of the kind ci -/
def s_cV (w : zG) (ci : Nat) (y : MethodName) (ws : List Cond) (n nx : Nat) : zStep := fun P d rc rs lv st H K => zpop n st [] (fun av st2 => match st2 with
  | .ref b :: rest => zfl rest ((∃ fs, zOb w b ci fs H) ∧ zcall w y ws (.ref b :: av) H d rc rs (fun mc ms v H' => zres v rest (fun st' => K nx (rc - mc) (rs - ms) lv st' H')) (fun _ _ E H' => P.2 E H'))
  | _ => False)
/-- a constructor -/
def s_cI (w : zG) (y : MethodName) (ws : List Cond) (n nx : Nat) : zStep := fun P d rc rs lv st H K => zpop n st [] (fun av st2 => match st2 with
  | .ref b :: rest => zfl rest (zcall w y ws (.ref b :: av) H d rc rs (fun mc ms v H' => zres v rest (fun st' => K nx (rc - mc) (rs - ms) lv st' H')) (fun _ _ E H' => P.2 E H'))
  | _ => False)
/-- with handlers: which names go where -/
def zhnd : List (String × Nat) → String → (Nat → Prop) → Prop → Prop
  | [], _, _, o => o
  | (nm, h) :: t, E, K, o => (E = nm ∧ K h) ∨ ((E, nm) ∈ zNc ∧ zhnd t E K o)
def s_cVH (w : zG) (ci : Nat) (y : MethodName) (ws : List Cond) (n : Nat) (hs : List (String × Nat)) (nx : Nat) : zStep := fun P d rc rs lv st H K => zpop n st [] (fun av st2 => match st2 with
  | .ref b :: rest => zfl rest ((∃ fs, zOb w b ci fs H) ∧ zcall w y ws (.ref b :: av) H d rc rs (fun mc ms v H' => zres v rest (fun st' => K nx (rc - mc) (rs - ms) lv st' H')) (fun mc ms E H' => zhnd hs E (fun h => ∀ q, K h (rc - mc) (rs - ms) lv [.ref q] H') False))
  | _ => False)
section ZC
variable {w : zG} {g : zM} {P : zPo} {own : String} {cc : ByteArray} {nL : Nat} {ret : Option FieldType} {nm : String} {hh : List (Nat × Nat × Nat × Nat)} {pc nx p3 p4 p7 : Nat}
/-- a run of a callee, told in the layer's words -/
theorem zrun {d rc rs : Nat} {lv : zL} {rest st : List Value} {H : Heap} {mc ms ln : Nat} {Q : Option Value → Heap → Prop} {X : String → Heap → Prop} (cx : zCx w g own cc nL ret nm hh)
    (hr : d ≤ (zgR g).frames → 64 * d ≤ (zgR g).locals → zOld w H → ∀ (k n : Nat) (locs : List Loc) (ls : Array Slot), k + mc ≤ (zgR g).cells → n + ms ≤ (zgR g).slots → ls.size = (zgC g).maxLocals → ∀ T : State, T.heap = H → Stand g.1 w.1 g.2.1 (zgR g) (zgS g) (zgm g) (zgA g) (zgB g) (zgM g) (zgC g) T locs k n →
      (∃ (v : Option Value) (st₀ t T' : State) (L : List Loc), st₀.heap = H ∧ Stand g.1 w.1 g.2.1 (zgR g) (zgS g) (zgm g) (zgA g) (zgB g) (zgM g) (zgC g) T' (locs ++ L) (k + mc) (n + ms) ∧ (∀ q ∈ L, zNew w q.base) ∧ T'.heap = t.heap ∧ T'.vm = t.vm ∧ zQc (Q, X) (zgA g) st₀ (.returned v) t ∧ Goes g.1 g.2.1 (zgB g) T (F0 (zgm g) pc ls st) T' (F0 (zgm g) (pc + ln) ls (v.toList ++ rest))) ∨
      (∃ (q : Addr) (st₀ t T' : State) (L : List Loc) (E : String) (ce : Cell), st₀.heap = H ∧ Stand g.1 w.1 g.2.1 (zgR g) (zgS g) (zgm g) (zgA g) (zgB g) (zgM g) (zgC g) T' (locs ++ L) (k + mc) (n + ms) ∧ (∀ z ∈ L, zNew w z.base) ∧ T'.heap = t.heap ∧ T'.vm = t.vm ∧ zXC (Q, X) E st₀ t ∧ t.heap[q]? = some ce ∧ ce.vm = .none ∧ (zgS g).vm.findClass E = some ce.cls ∧ Steps g.1.tables g.2.1 (zgB g) (T.setTop (F0 (zgm g) pc ls st)) ((T'.setTop (F0 (zgm g) pc ls rest)).pushFrame (.throwing q))))
    (hmc : mc ≤ rc) (hms : ms ≤ rs)
    (kk : ∀ v H', Q v H' → H.size ≤ H'.size → zV w g d (rc - mc) (rs - ms) (pc + ln) lv (v.toList ++ rest) H')
    (kx : ∀ E H', X E H' → H.size ≤ H'.size → zOld w H' → (zgS g).heap.size ≤ H'.size → ∀ (k n : Nat) (locs : List Loc) (ls : Array Slot) (q : Addr) (ce : Cell), d ≤ (zgR g).frames → 64 * d ≤ (zgR g).locals → k + (rc - mc) ≤ (zgR g).cells → n + (rs - ms) ≤ (zgR g).slots → (∀ z ∈ locs, zNew w z.base) → lv_has ls (zgC g).maxLocals lv → H'[q]? = some ce → ce.vm = .none → (zgS g).vm.findClass E = some ce.cls →
      vx_W g.1 w.1 g.2.1 (zgR g) (zgS g) (zgm g) (zgA g) (zgB g) (zgM g) (zgC g) H' locs k n (zgQ g) (F0 (zgm g) pc ls rest) q) : zV w g d rc rs pc lv st H := by
  intro hd hl ho k n locs ls hk hn9 hlo hlv T hT X0
  have hframe : ∀ (T' : State) (L : List Loc), Stand g.1 w.1 g.2.1 (zgR g) (zgS g) (zgm g) (zgA g) (zgB g) (zgM g) (zgC g) T' (locs ++ L) (k + mc) (n + ms) → (∀ z ∈ L, zNew w z.base) → zOld w T'.heap := by
    intro T' L X' hL
    have hloc : ∀ z ∈ locs ++ L, zNew w z.base := fun z hz => (List.mem_append.mp hz).elim (hlo z) (hL z)
    obtain ⟨f1, f2⟩ := vx_frame (s := zgS g) (U := T') X'.same
    have h9 : zOld w (zgS g).heap := cx.2.2.2.2.2.2.2.2.2.2.2
    refine ⟨Nat.le_trans h9.1 f1, fun q hq => ?_⟩
    rw [f2 q (Nat.lt_of_lt_of_le hq h9.1) (fun z hz e => absurd hq (Nat.not_lt.mpr (by rw [← e]; exact hloc z hz)))]
    exact h9.2 q hq
  rcases hr hd hl ho k n locs ls (by omega) (by omega) hlv.1 T hT X0 with ⟨v, st₀, t, T', L, h0, X', hL, e1, e2, ⟨⟨v', hv, hQ⟩, hsz⟩, go⟩ | ⟨q, st₀, t, T', L, E, ce, h0, X', hL, e1, e2, ⟨hX, hsz⟩, hce, hcv, hcl, stp⟩
  · cases hv
    have ho' := hframe T' L X' hL
    rw [h0, ← e1] at hsz
    obtain ⟨t2, a1, b1⟩ := kk v T'.heap (by rw [e1]; exact hQ) hsz hd hl ho' (k + mc) (n + ms) (locs ++ L) ls (by omega) (by omega) (fun z hz => (List.mem_append.mp hz).elim (hlo z) (hL z)) hlv T' rfl X'
    exact ⟨t2, go t2 a1, b1⟩
  · have ho' := hframe T' L X' hL
    rw [h0, ← e1] at hsz
    obtain ⟨t2, a1, b1⟩ := kx E T'.heap (by rw [e1]; exact hX) hsz ho' (vx_frame (U := T') X'.same).1 (k + mc) (n + ms) (locs ++ L) ls q ce hd hl (by omega) (by omega) (fun z hz => (List.mem_append.mp hz).elim (hlo z) (hL z)) hlv (by rw [e1]; exact hce) hcv hcl T' rfl X'
    exact ⟨t2, stp.trans a1, b1⟩
theorem zblind {w : zG} {av : List Value} {H : Heap} : FrameBlind (fun a U => a = av.toArray ∧ U.heap = H ∧ zGK w U ∧ zOld w U.heap) := fun a U f mk h => ⟨h.1, h.2.1, zGK.moved (U := U.calling f mk a) (State.WarmedH.refl U) h.2.2.1, h.2.2.2⟩
theorem zpre {av : List Value} {H : Heap} (cx : zCx w g own cc nL ret nm hh) (ho : zOld w H) : ∀ U : State, U.heap = H → (zgS g).WarmedH U.vm → av.toArray = av.toArray ∧ U.heap = H ∧ zGK w U ∧ zOld w U.heap := fun U hU hW => ⟨rfl, hU, zGK.moved hW cx.2.2.2.2.2.2.2.1, by rw [hU]; exact ho⟩
/-- thrown at a call, not caught here -/
theorem zout {pc : Nat} {d rc rs : Nat} {lv : zL} {rest : List Value} {X : String → Heap → Prop} {H : Heap} (cx : zCx w g own cc nL ret nm hh) (hq : zCq w g P) (hout : ∀ x ∈ tableOf hh, covers x pc = false) (k2 : ∀ E H', X E H' → H.size ≤ H'.size → P.2 E H') :
    ∀ E H', X E H' → H.size ≤ H'.size → zOld w H' → (zgS g).heap.size ≤ H'.size → ∀ (k n : Nat) (locs : List Loc) (ls : Array Slot) (q : Addr) (ce : Cell), d ≤ (zgR g).frames → 64 * d ≤ (zgR g).locals → k + rc ≤ (zgR g).cells → n + rs ≤ (zgR g).slots → (∀ z ∈ locs, zNew w z.base) → lv_has ls (zgC g).maxLocals lv → H'[q]? = some ce → ce.vm = .none → (zgS g).vm.findClass E = some ce.cls →
      vx_W g.1 w.1 g.2.1 (zgR g) (zgS g) (zgm g) (zgA g) (zgB g) (zgM g) (zgC g) H' locs k n (zgQ g) (F0 (zgm g) pc ls rest) q := by
  intro E H' hX hz ho hs9 k n locs ls q ce hd hl hk hn hlo hlv hce hcv hcl
  rw [hq]
  exact vx_out (by rw [cx.2.2.2.2.2.2.2.2.2.1]; exact hout) cx.2.2.2.2.2.2.1 hce hcv hcl (fun t ht _ => ⟨by rw [ht]; exact k2 E H' hX hz, by rw [ht]; exact hs9⟩) hlo (by omega) (by omega)
theorem z_cS (cx : zCx w g own cc nL ret nm hh) (hq : zCq w g P) {y : MethodName} {bytes : ByteArray} {maxL n0 idx : Nat} {ry : Option FieldType} (hG : GoodIn lw_all (va_wsS own idx y (ws_ y bytes maxL ry))) (hd9 : y.cls ≠ "java/lang/invoke/MethodHandle" ∧ y.cls ≠ "java/lang/invoke/VarHandle" ∧ (parseMethodDescriptor y.desc).map (fun d => d.parameters.length) = some n0) (hmL : maxL ≤ 45) (hout : ∀ x ∈ tableOf hh, covers x pc = false) (hd0 : decode cc pc = .ok (.invokestatic idx, 3)) (hn : pc + 3 = nx) : zSnd w g P pc (s_cS w y (ws_ y bytes maxL ry) n0 nx) := by
  intro d rc rs lv st H K hK hs
  obtain ⟨l, rest, hl1, hst, hs⟩ := zpop_spec _ _ _ _ hs
  rw [List.append_nil] at hs
  obtain ⟨hfl, d', mc, ms, Q, X, h1, h2, h3, hct, k1, k2⟩ := zfl_spec hs
  subst hst
  subst hn
  refine zrun (ln := 3) (Q := Q) (X := X) (rest := rest) cx (fun hd hl ho k n locs ls hk hn9 hsz T hT X0 => ?_) h2 h3 (fun v H' a b => hK _ _ _ _ _ _ (zres_spec (k1 v H' a b))) (zout cx hq hout k2)
  exact vx_runS (As := l.reverse) (rest := rest) (nL := (zgC g).maxLocals) ⟨cx.1, cx.2.1, rfl, cx.2.2.2.2.1, cx.2.2.2.2.2.1⟩ hct (va_cwS n0 cx.2.2.2.2.2.1 hG rfl rfl rfl hd9 ⟨by show d' + 1 ≤ _; omega, by show 8 + (maxL + 11) + 64 * d' ≤ _; omega⟩) ⟨zblind, zpre cx ho⟩ rfl (by rw [List.length_reverse]; exact hl1) hsz (by rw [List.reverse_reverse]) (lv_room hfl) hd0 ⟨hk, hn9⟩ T hT X0
theorem z_cV (cx : zCx w g own cc nL ret nm hh) (hq : zCq w g P) {y : MethodName} {bytes : ByteArray} {maxL n0 idx ci : Nat} {ry : Option FieldType} {q0 : vw_C} (hc : zCl[ci]? = some q0) (hG : GoodIn lw_all (wsV own idx q0.1 y (ws_ y bytes maxL ry))) (hd9 : y.cls = q0.1 ∧ y.cls ≠ "java/lang/invoke/MethodHandle" ∧ y.cls ≠ "java/lang/invoke/VarHandle" ∧ (parseMethodDescriptor y.desc).map (fun d => d.parameters.length) = some n0) (hmL : maxL ≤ 45) (hout : ∀ x ∈ tableOf hh, covers x pc = false) (hd0 : decode cc pc = .ok (.invokevirtual idx, 3)) (hn : pc + 3 = nx) : zSnd w g P pc (s_cV w ci y (ws_ y bytes maxL ry) n0 nx) := by
  intro d rc rs lv st H K hK hs
  obtain ⟨l, st2, hl1, hst, hs⟩ := zpop_spec _ _ _ _ hs
  rw [List.append_nil] at hs
  split at hs
  · rename_i b rest
    obtain ⟨hfl, ⟨fs, hob⟩, d', mc, ms, Q, X, h1, h2, h3, hct, k1, k2⟩ := zfl_spec hs
    subst hst
    subst hn
    refine zrun (ln := 3) (Q := Q) (X := X) (rest := rest) cx (fun hd hl ho k n locs ls hk hn9 hsz T hT X0 => ?_) h2 h3 (fun v H' a b => hK _ _ _ _ _ _ (zres_spec (k1 v H' a b))) (zout cx hq hout k2)
    exact vx_runV (As := l.reverse) (rest := rest) (nL := (zgC g).maxLocals) ⟨cx.1, cx.2.1, rfl, cx.2.2.2.2.1, cx.2.2.2.2.2.1⟩ hct (cwV n0 cx.2.2.2.2.2.1 hG rfl rfl rfl hd9 ⟨by show d' + 1 ≤ _; omega, by show 8 + (maxL + 11) + 64 * d' ≤ _; omega⟩) ⟨zblind, zrecv (cx.2.2.2.2.2.2.2.1).1 hc hob, zpre cx ho⟩ rfl (by rw [List.length_reverse]; exact hl1) hsz (by rw [List.reverse_reverse]) (lv_room hfl) hd0 ⟨hk, hn9⟩ T hT X0
  · exact hs.elim
theorem z_cU (cx : zCx w g own cc nL ret nm hh) (hq : zCq w g P) {x y : MethodName} {owner : String} {bytes : ByteArray} {maxL n0 idx ci : Nat} {ry : Option FieldType} {q0 : vw_C} (hc : zCl[ci]? = some q0) (hcu : ∀ (rm : Room), rm.frames + 1 ≤ (zgR g).frames ∧ 8 + (maxL + 11) + rm.locals ≤ (zgR g).locals → va_CU (zgR g) (zgS g) (zgA g) own q0.1 owner idx x y bytes maxL ry (ws_ y bytes maxL ry) rm rm.cells rm.slots n0) (hmL : maxL ≤ 45) (hout : ∀ x ∈ tableOf hh, covers x pc = false) (hd0 : decode cc pc = .ok (.invokevirtual idx, 3)) (hn : pc + 3 = nx) : zSnd w g P pc (s_cV w ci y (ws_ y bytes maxL ry) n0 nx) := by
  intro d rc rs lv st H K hK hs
  obtain ⟨l, st2, hl1, hst, hs⟩ := zpop_spec _ _ _ _ hs
  rw [List.append_nil] at hs
  split at hs
  · rename_i b rest
    obtain ⟨hfl, ⟨fs, hob⟩, d', mc, ms, Q, X, h1, h2, h3, hct, k1, k2⟩ := zfl_spec hs
    subst hst
    subst hn
    refine zrun (ln := 3) (Q := Q) (X := X) (rest := rest) cx (fun hd hl ho k n locs ls hk hn9 hsz T hT X0 => ?_) h2 h3 (fun v H' a b => hK _ _ _ _ _ _ (zres_spec (k1 v H' a b))) (zout cx hq hout k2)
    exact vx_runU (As := l.reverse) (rest := rest) (nL := (zgC g).maxLocals) ⟨cx.1, cx.2.1, rfl, cx.2.2.2.2.1, cx.2.2.2.2.2.1⟩ hct (hcu _ ⟨by show d' + 1 ≤ _; omega, by show 8 + (maxL + 11) + 64 * d' ≤ _; omega⟩) ⟨zblind, zrecv (cx.2.2.2.2.2.2.2.1).1 hc hob, zpre cx ho⟩ rfl (by rw [List.length_reverse]; exact hl1) hsz (by rw [List.reverse_reverse]) (lv_room hfl) hd0 ⟨hk, hn9⟩ T hT X0
  · exact hs.elim
theorem z_cF (cx : zCx w g own cc nL ret nm hh) (hq : zCq w g P) {x y : MethodName} {bytes : ByteArray} {maxL n0 idx cnt ci : Nat} {ry : Option FieldType} {q0 : vw_C} (hc : zCl[ci]? = some q0) (hG : GoodIn lw_all (va_wsF own idx q0.1 x y (ws_ y bytes maxL ry))) (hF : zGK w (zgS g) → va_Fw q0.1 x y (zgS g)) (hd9 : x.cls ≠ "java/lang/invoke/MethodHandle" ∧ x.cls ≠ "java/lang/invoke/VarHandle" ∧ (parseMethodDescriptor x.desc).map (fun d => d.parameters.length) = some n0) (hmL : maxL ≤ 45) (hout : ∀ x ∈ tableOf hh, covers x pc = false) (hd0 : decode cc pc = .ok (.invokeinterface idx cnt, 5)) (hn : pc + 5 = nx) : zSnd w g P pc (s_cV w ci y (ws_ y bytes maxL ry) n0 nx) := by
  intro d rc rs lv st H K hK hs
  obtain ⟨l, st2, hl1, hst, hs⟩ := zpop_spec _ _ _ _ hs
  rw [List.append_nil] at hs
  split at hs
  · rename_i b rest
    obtain ⟨hfl, ⟨fs, hob⟩, d', mc, ms, Q, X, h1, h2, h3, hct, k1, k2⟩ := zfl_spec hs
    subst hst
    subst hn
    refine zrun (ln := 5) (Q := Q) (X := X) (rest := rest) cx (fun hd hl ho k n locs ls hk hn9 hsz T hT X0 => ?_) h2 h3 (fun v H' a b => hK _ _ _ _ _ _ (zres_spec (k1 v H' a b))) (zout cx hq hout k2)
    exact vx_runF ((cx.2.2.2.2.2.2.2.1).1.1 ci _ hc).2 (As := l.reverse) (rest := rest) (nL := (zgC g).maxLocals) ⟨cx.1, cx.2.1, rfl, cx.2.2.2.2.1, cx.2.2.2.2.2.1⟩ hct (va_cwF n0 cx.2.2.2.2.2.1 hG rfl rfl rfl (hF cx.2.2.2.2.2.2.2.1) hd9 ⟨by show d' + 1 ≤ _; omega, by show 8 + (maxL + 11) + 64 * d' ≤ _; omega⟩) ⟨zblind, zrecv (cx.2.2.2.2.2.2.2.1).1 hc hob, zpre cx ho⟩ rfl (by rw [List.length_reverse]; exact hl1) hsz (by rw [List.reverse_reverse]) (lv_room hfl) hd0 ⟨hk, hn9⟩ T hT X0
  · exact hs.elim
theorem z_cI (cx : zCx w g own cc nL ret nm hh) (hq : zCq w g P) {y : MethodName} {bytes : ByteArray} {maxL n0 idx : Nat} (hq1 : Cond.code y bytes maxL none ∈ lw_all) (hq2 : Cond.initialized y.cls ∈ lw_all) (hq3 : Cond.methodLink own idx y ∈ lw_all) (hq4 : Cond.instanceMethod y ∈ lw_all) (hy1 : y.name = "<init>") (hd9 : y.cls ≠ "java/lang/invoke/MethodHandle" ∧ y.cls ≠ "java/lang/invoke/VarHandle" ∧ (parseMethodDescriptor y.desc).map (fun d => d.parameters.length) = some n0) (hmL : maxL ≤ 45) (hout : ∀ x ∈ tableOf hh, covers x pc = false) (hd0 : decode cc pc = .ok (.invokespecial idx, 3)) (hn : pc + 3 = nx) : zSnd w g P pc (s_cI w y (ws_ y bytes maxL none) n0 nx) := by
  intro d rc rs lv st H K hK hs
  obtain ⟨l, st2, hl1, hst, hs⟩ := zpop_spec _ _ _ _ hs
  rw [List.append_nil] at hs
  split at hs
  · rename_i b rest
    obtain ⟨hfl, d', mc, ms, Q, X, h1, h2, h3, hct, k1, k2⟩ := zfl_spec hs
    subst hst
    subst hn
    have hts := cx.2.2.2.2.2.1
    refine zrun (ln := 3) (Q := Q) (X := X) (rest := rest) cx (fun hd hl ho k n locs ls hk hn9 hsz T hT X0 => ?_) h2 h3 (fun v H' a b => hK _ _ _ _ _ _ (zres_spec (k1 v H' a b))) (zout cx hq hout k2)
    exact vx_runI (As := l.reverse) (rest := rest) (nL := (zgC g).maxLocals) ⟨cx.1, cx.2.1, rfl, cx.2.2.2.2.1, cx.2.2.2.2.2.1⟩ hct (cwI n0 hts (lw_meth hq1) rfl rfl rfl (hts _ hq2) (hts _ hq3) (hts _ hq4) hy1 hd9 ⟨by show d' + 1 ≤ _; omega, by show 8 + (maxL + 11) + 64 * d' ≤ _; omega⟩) ⟨zblind, zpre cx ho⟩ rfl (by rw [List.length_reverse]; exact hl1) hsz (by rw [List.reverse_reverse]) (lv_room hfl) hd0 ⟨hk, hn9⟩ T hT X0
  · exact hs.elim
/-- a nest mate's constructor -/
theorem z_cIN (cx : zCx w g own cc nL ret nm hh) (hq : zCq w g P) {y : MethodName} {host : String} {bytes : ByteArray} {maxL n0 idx : Nat} (hq1 : Cond.code y bytes maxL none ∈ lw_all) (hq2 : Cond.initialized y.cls ∈ lw_all) (hq3 : zGK w (zgS g) → va_Nw (.methodLinkNest own idx y host) (zgS g)) (hq4 : Cond.instanceMethod y ∈ lw_all) (hy1 : y.name = "<init>") (hd9 : y.cls ≠ "java/lang/invoke/MethodHandle" ∧ y.cls ≠ "java/lang/invoke/VarHandle" ∧ (parseMethodDescriptor y.desc).map (fun d => d.parameters.length) = some n0) (hmL : maxL ≤ 45) (hout : ∀ x ∈ tableOf hh, covers x pc = false) (hd0 : decode cc pc = .ok (.invokespecial idx, 3)) (hn : pc + 3 = nx) : zSnd w g P pc (s_cI w y (ws_ y bytes maxL none) n0 nx) := by
  intro d rc rs lv st H K hK hs
  obtain ⟨l, st2, hl1, hst, hs⟩ := zpop_spec _ _ _ _ hs
  rw [List.append_nil] at hs
  split at hs
  · rename_i b rest
    obtain ⟨hfl, d', mc, ms, Q, X, h1, h2, h3, hct, k1, k2⟩ := zfl_spec hs
    subst hst
    subst hn
    have hts := cx.2.2.2.2.2.1
    refine zrun (ln := 3) (Q := Q) (X := X) (rest := rest) cx (fun hd hl ho k n locs ls hk hn9 hsz T hT X0 => ?_) h2 h3 (fun v H' a b => hK _ _ _ _ _ _ (zres_spec (k1 v H' a b))) (zout cx hq hout k2)
    exact vx_runIN (As := l.reverse) (rest := rest) (nL := (zgC g).maxLocals) ⟨cx.1, cx.2.1, rfl, cx.2.2.2.2.1, cx.2.2.2.2.2.1⟩ hct ⟨va_cnB n0 hts (lw_meth hq1) rfl rfl rfl (hq3 cx.2.2.2.2.2.2.2.1) (hts _ hq2) hd9 ⟨by show d' + 1 ≤ _; omega, by show 8 + (maxL + 11) + 64 * d' ≤ _; omega⟩, hy1, hts _ hq4⟩ ⟨zblind, zpre cx ho⟩ rfl (by rw [List.length_reverse]; exact hl1) hsz (by rw [List.reverse_reverse]) (lv_room hfl) hd0 ⟨hk, hn9⟩ T hT X0
  · exact hs.elim
/-- super.m(..) of an object of the kind ci -/
theorem z_cSU (cx : zCx w g own cc nL ret nm hh) (hq : zCq w g P) {y : MethodName} {bytes : ByteArray} {maxL n0 idx ci : Nat} {ry : Option FieldType} {q0 : vw_C} (hc : zCl[ci]? = some q0) (hG : GoodIn lw_all (va_wsSU own idx y (ws_ y bytes maxL ry))) (hd9 : y.name ≠ "<init>" ∧ (parseMethodDescriptor y.desc).map (fun d => d.parameters.length) = some n0) (hmL : maxL ≤ 45) (hout : ∀ x ∈ tableOf hh, covers x pc = false) (hd0 : decode cc pc = .ok (.invokespecial idx, 3)) (hn : pc + 3 = nx) : zSnd w g P pc (s_cV w ci y (ws_ y bytes maxL ry) n0 nx) := by
  intro d rc rs lv st H K hK hs
  obtain ⟨l, st2, hl1, hst, hs⟩ := zpop_spec _ _ _ _ hs
  rw [List.append_nil] at hs
  split at hs
  · rename_i b rest
    obtain ⟨hfl, ⟨fs, hob⟩, d', mc, ms, Q, X, h1, h2, h3, hct, k1, k2⟩ := zfl_spec hs
    subst hst
    subst hn
    refine zrun (ln := 3) (Q := Q) (X := X) (rest := rest) cx (fun hd hl ho k n locs ls hk hn9 hsz T hT X0 => ?_) h2 h3 (fun v H' a b => hK _ _ _ _ _ _ (zres_spec (k1 v H' a b))) (zout cx hq hout k2)
    exact vx_runSU ((cx.2.2.2.2.2.2.2.1).1.1 ci _ hc).2 (As := l.reverse) (rest := rest) (nL := (zgC g).maxLocals) ⟨cx.1, cx.2.1, rfl, cx.2.2.2.2.1, cx.2.2.2.2.2.1⟩ hct (va_cwSU n0 cx.2.2.2.2.2.1 hG rfl rfl rfl hd9 ⟨by show d' + 1 ≤ _; omega, by show 8 + (maxL + 11) + 64 * d' ≤ _; omega⟩) ⟨zblind, zrecv (cx.2.2.2.2.2.2.2.1).1 hc hob, zpre cx ho⟩ rfl (by rw [List.length_reverse]; exact hl1) hsz (by rw [List.reverse_reverse]) (lv_room hfl) hd0 ⟨hk, hn9⟩ T hT X0
  · exact hs.elim
def zhOK (own : String) (pc : Nat) : List (String × Nat) → List ExceptionTableEntry → Prop
  | [], [] => True
  | (n, h) :: t, x :: xs => (covers x pc = true ∧ x.catchType ≠ 0 ∧ x.handlerPc = h ∧ Cond.classLink own x.catchType n ∈ lw_all ∧ (n, n) ∈ zCa) ∧ zhOK own pc t xs
  | _, _ => False
theorem zhrun {pc : Nat} {ls : Array Slot} {rest : List Value} {H : Heap} {locs : List Loc} {k n : Nat} {E : String} {q : Addr} {ce : Cell} (cx : zCx w g own cc nL ret nm hh) (hce : H[q]? = some ce) (hcv : ce.vm = .none) (hcl : (zgS g).vm.findClass E = some ce.cls) {K : Nat → Prop} (hK : ∀ h, K h → zW w g H locs k n (F0 (zgm g) h ls [.ref q])) :
    ∀ (hs : List (String × Nat)) (xs pre : List ExceptionTableEntry), (zgC g).exceptionTable.toList = pre ++ xs → (∀ z ∈ pre, covers z pc = false ∨ (z.catchType ≠ 0 ∧ ∃ nm : String, (Cond.classLink own z.catchType nm).before (zgA g) (zgS g) = true ∧ va_Nc E nm (zgS g))) → zhOK own pc hs xs → zhnd hs E K False →
      vx_W g.1 w.1 g.2.1 (zgR g) (zgS g) (zgm g) (zgA g) (zgB g) (zgM g) (zgC g) H locs k n (zgQ g) (F0 (zgm g) pc ls rest) q
  | [], _, _, _, _, _, h => h.elim
  | (_, _) :: _, [], _, _, _, ho, _ => ho.elim
  | (n0, h0) :: t, x :: xs, pre, htab, hpass, ho, h => by
    obtain ⟨⟨o1, o2, o3, o4, o5⟩, o6⟩ := ho
    rcases h with ⟨e, h⟩ | ⟨hnc, h⟩
    · subst e
      subst o3
      exact vx_catch cx.2.2.2.2.1 pre x xs htab hpass o1 o2 (cx.2.2.2.2.2.1 _ o4) (va_Nw.use rfl ((cx.2.2.2.2.2.2.2.1).2.2.2.1.1 _ o5)) hce hcv hcl (hK _ h)
    · refine zhrun cx hce hcv hcl hK t xs (pre ++ [x]) (by rw [htab]; simp) (fun z hz => ?_) o6 h
      rcases List.mem_append.mp hz with hz | hz
      · exact hpass z hz
      · rw [List.mem_singleton.mp hz]
        exact Or.inr ⟨o2, n0, cx.2.2.2.2.2.1 _ o4, (cx.2.2.2.2.2.2.2.1).2.2.2.2.1 _ hnc⟩
theorem z_cVH (cx : zCx w g own cc nL ret nm hh) {y : MethodName} {bytes : ByteArray} {maxL n0 idx ci : Nat} {ry : Option FieldType} {q0 : vw_C} {hs9 : List (String × Nat)} (hc : zCl[ci]? = some q0) (hG : GoodIn lw_all (wsV own idx q0.1 y (ws_ y bytes maxL ry))) (hd9 : y.cls = q0.1 ∧ y.cls ≠ "java/lang/invoke/MethodHandle" ∧ y.cls ≠ "java/lang/invoke/VarHandle" ∧ (parseMethodDescriptor y.desc).map (fun d => d.parameters.length) = some n0) (hmL : maxL ≤ 45) (hok : zhOK own pc hs9 (tableOf hh)) (hd0 : decode cc pc = .ok (.invokevirtual idx, 3)) (hn : pc + 3 = nx) : zSnd w g P pc (s_cVH w ci y (ws_ y bytes maxL ry) n0 hs9 nx) := by
  intro d rc rs lv st H K hK hs
  obtain ⟨l, st2, hl1, hst, hs⟩ := zpop_spec _ _ _ _ hs
  rw [List.append_nil] at hs
  split at hs
  · rename_i b rest
    obtain ⟨hfl, ⟨fs, hob⟩, d', mc, ms, Q, X, h1, h2, h3, hct, k1, k2⟩ := zfl_spec hs
    subst hst
    subst hn
    refine zrun (ln := 3) (Q := Q) (X := X) (rest := rest) cx (fun hd hl ho k n locs ls hk hn9 hsz T hT X0 => ?_) h2 h3 (fun v H' a b => hK _ _ _ _ _ _ (zres_spec (k1 v H' a b))) ?_
    · exact vx_runV (As := l.reverse) (rest := rest) (nL := (zgC g).maxLocals) ⟨cx.1, cx.2.1, rfl, cx.2.2.2.2.1, cx.2.2.2.2.2.1⟩ hct (cwV n0 cx.2.2.2.2.2.1 hG rfl rfl rfl hd9 ⟨by show d' + 1 ≤ _; omega, by show 8 + (maxL + 11) + 64 * d' ≤ _; omega⟩) ⟨zblind, zrecv (cx.2.2.2.2.2.2.2.1).1 hc hob, zpre cx ho⟩ rfl (by rw [List.length_reverse]; exact hl1) hsz (by rw [List.reverse_reverse]) (lv_room hfl) hd0 ⟨hk, hn9⟩ T hT X0
    · intro E H' hX hz ho hs0 k n locs ls q ce hd hl hk hn hlo hlv hce hcv hcl
      exact zhrun cx hce hcv hcl (K := fun h => ∀ q, K h (rc - mc) (rs - ms) lv [.ref q] H') (fun h hKh => hK _ _ _ _ _ _ (hKh q) hd hl ho k n locs ls hk hn hlo hlv) hs9 _ [] (by rw [cx.2.2.2.2.2.2.2.2.2.1]; rfl) (fun z hz => nomatch hz) hok (k2 E H' hX hz)
  · exact hs.elim
/-! Object's constructor; the bits of numbers; a throw -/
def s_oinit (nx : Nat) : zStep := fun P d rc rs lv st H K => match st with | .ref _ :: rest => 1 ≤ d ∧ zfl rest (K nx rc rs lv rest H) | _ => False
theorem z_oinit (cx : zCx w g own cc nL ret nm hh) {idx : Nat} (hq1 : Cond.methodLink own idx Lib.objectInit ∈ lw_all) (hq2 : Cond.instanceMethod Lib.objectInit ∈ lw_all) (hq3 : Cond.code Lib.objectInit ⟨#[0xb1]⟩ 1 none ∈ lw_all) (hd0 : decode cc pc = .ok (.invokespecial idx, 3)) (hn : pc + 3 = nx) : zSnd w g P pc (s_oinit nx) := by
  intro d rc rs lv st H K hK hs
  unfold s_oinit at hs
  split at hs
  · rename_i a rest
    obtain ⟨h1, hs⟩ := hs
    obtain ⟨hfl, hs⟩ := zfl_spec hs
    subst hn
    intro hd hl ho k n locs ls hk hn9 hlo hlv
    have hts := cx.2.2.2.2.2.1
    exact W.objInit cx.1 cx.2.1 cx.2.2.2.2.1 (hts _ hq1) (hts _ hq2) (hts _ hq3) rfl hlv.1 rfl hd0 (by omega) (by show 2 * 0 + _ + 12 ≤ _; omega) (hK _ _ _ _ _ _ hs hd hl ho k n locs ls hk hn9 hlo hlv)
  · exact hs.elim
def s_nd2l (nx : Nat) : zStep := fun P d rc rs lv st H K => match st with | .double b :: rest => 1 ≤ d ∧ zfl rest (K nx rc rs lv (.long b.toInt64 :: rest) H) | _ => False
theorem z_nd2l (cx : zCx w g own cc nL ret nm hh) {idx : Nat} (hq1 : Cond.methodLink own idx ⟨"java/lang/Double", "doubleToRawLongBits", "(D)J"⟩ ∈ lw_all) (hq2 : Cond.native ⟨"java/lang/Double", "doubleToRawLongBits", "(D)J"⟩ ∈ lw_all) (hq3 : Cond.static ⟨"java/lang/Double", "doubleToRawLongBits", "(D)J"⟩ ∈ lw_all) (hq4 : Cond.initialized "java/lang/Double" ∈ lw_all) (hd0 : decode cc pc = .ok (.invokestatic idx, 3)) (hn : pc + 3 = nx) : zSnd w g P pc (s_nd2l nx) := by
  intro d rc rs lv st H K hK hs
  unfold s_nd2l at hs
  split at hs
  · obtain ⟨h1, hs⟩ := hs
    obtain ⟨hfl, hs⟩ := zfl_spec hs
    subst hn
    intro hd hl ho k n locs ls hk hn9 hlo hlv
    have hts := cx.2.2.2.2.2.1
    exact vn_d2l cx.1 cx.2.1 hlv.1.symm cx.2.2.2.2.1 (hts _ hq1) (hts _ hq2) (hts _ hq3) (hts _ hq4) (by omega) (by omega) hd0 (hK _ _ _ _ _ _ hs hd hl ho k n locs ls hk hn9 hlo hlv)
  · exact hs.elim
def s_nl2d (nx : Nat) : zStep := fun P d rc rs lv st H K => match st with | .long b :: rest => 1 ≤ d ∧ vn_snl2d b = false ∧ zfl rest (K nx rc rs lv (.double b.toUInt64 :: rest) H) | _ => False
theorem z_nl2d (cx : zCx w g own cc nL ret nm hh) {idx : Nat} (hq1 : Cond.methodLink own idx ⟨"java/lang/Double", "longBitsToDouble", "(J)D"⟩ ∈ lw_all) (hq2 : Cond.native ⟨"java/lang/Double", "longBitsToDouble", "(J)D"⟩ ∈ lw_all) (hq3 : Cond.static ⟨"java/lang/Double", "longBitsToDouble", "(J)D"⟩ ∈ lw_all) (hq4 : Cond.initialized "java/lang/Double" ∈ lw_all) (hd0 : decode cc pc = .ok (.invokestatic idx, 3)) (hn : pc + 3 = nx) : zSnd w g P pc (s_nl2d nx) := by
  intro d rc rs lv st H K hK hs
  unfold s_nl2d at hs
  split at hs
  · obtain ⟨h1, hv, hs⟩ := hs
    obtain ⟨hfl, hs⟩ := zfl_spec hs
    subst hn
    intro hd hl ho k n locs ls hk hn9 hlo hlv
    have hts := cx.2.2.2.2.2.1
    exact vn_l2d cx.1 cx.2.1 hlv.1.symm cx.2.2.2.2.1 (hts _ hq1) (hts _ hq2) (hts _ hq3) (hts _ hq4) hv (by omega) (by omega) hd0 (hK _ _ _ _ _ _ hs hd hl ho k n locs ls hk hn9 hlo hlv)
  · exact hs.elim
def s_nf2i (nx : Nat) : zStep := fun P d rc rs lv st H K => match st with | .float b :: rest => 1 ≤ d ∧ zfl rest (K nx rc rs lv (.int b.toInt32 :: rest) H) | _ => False
theorem z_nf2i (cx : zCx w g own cc nL ret nm hh) {idx : Nat} (hq1 : Cond.methodLink own idx ⟨"java/lang/Float", "floatToRawIntBits", "(F)I"⟩ ∈ lw_all) (hq2 : Cond.native ⟨"java/lang/Float", "floatToRawIntBits", "(F)I"⟩ ∈ lw_all) (hq3 : Cond.static ⟨"java/lang/Float", "floatToRawIntBits", "(F)I"⟩ ∈ lw_all) (hq4 : Cond.initialized "java/lang/Float" ∈ lw_all) (hd0 : decode cc pc = .ok (.invokestatic idx, 3)) (hn : pc + 3 = nx) : zSnd w g P pc (s_nf2i nx) := by
  intro d rc rs lv st H K hK hs
  unfold s_nf2i at hs
  split at hs
  · obtain ⟨h1, hs⟩ := hs
    obtain ⟨hfl, hs⟩ := zfl_spec hs
    subst hn
    intro hd hl ho k n locs ls hk hn9 hlo hlv
    have hts := cx.2.2.2.2.2.1
    exact vn_f2i cx.1 cx.2.1 hlv.1.symm cx.2.2.2.2.1 (hts _ hq1) (hts _ hq2) (hts _ hq3) (hts _ hq4) (by omega) (by omega) hd0 (hK _ _ _ _ _ _ hs hd hl ho k n locs ls hk hn9 hlo hlv)
  · exact hs.elim
def s_ni2f (nx : Nat) : zStep := fun P d rc rs lv st H K => match st with | .int b :: rest => 1 ≤ d ∧ vn_sni2f b = false ∧ zfl rest (K nx rc rs lv (.float b.toUInt32 :: rest) H) | _ => False
theorem z_ni2f (cx : zCx w g own cc nL ret nm hh) {idx : Nat} (hq1 : Cond.methodLink own idx ⟨"java/lang/Float", "intBitsToFloat", "(I)F"⟩ ∈ lw_all) (hq2 : Cond.native ⟨"java/lang/Float", "intBitsToFloat", "(I)F"⟩ ∈ lw_all) (hq3 : Cond.static ⟨"java/lang/Float", "intBitsToFloat", "(I)F"⟩ ∈ lw_all) (hq4 : Cond.initialized "java/lang/Float" ∈ lw_all) (hd0 : decode cc pc = .ok (.invokestatic idx, 3)) (hn : pc + 3 = nx) : zSnd w g P pc (s_ni2f nx) := by
  intro d rc rs lv st H K hK hs
  unfold s_ni2f at hs
  split at hs
  · obtain ⟨h1, hv, hs⟩ := hs
    obtain ⟨hfl, hs⟩ := zfl_spec hs
    subst hn
    intro hd hl ho k n locs ls hk hn9 hlo hlv
    have hts := cx.2.2.2.2.2.1
    exact vn_i2f cx.1 cx.2.1 hlv.1.symm cx.2.2.2.2.1 (hts _ hq1) (hts _ hq2) (hts _ hq3) (hts _ hq4) hv (by omega) (by omega) hd0 (hK _ _ _ _ _ _ hs hd hl ho k n locs ls hk hn9 hlo hlv)
  · exact hs.elim
/-- 'throw new E()' -/
def s_thr (E : String) : zStep := fun P d rc rs lv st H K => 6 ≤ d ∧ 1 ≤ rc ∧ 6 ≤ rs ∧ zfl st (∀ H', H.size ≤ H'.size → (∀ q : Nat, q < H.size → H'[q]? = H[q]?) → P.2 E H')
theorem z_thr (cx : zCx w g own cc nL ret nm hh) (hq : zCq w g P) {E : String} {names : List String} {ik ic : Nat} (hcls : Bundle.fit E = true) (hnames : ∀ n ∈ names, Bundle.fit n = true) (hln : names.length ≤ 2) (hq1 : Cond.classLink own ik E ∈ lw_all) (hq2 : Cond.initialized E ∈ lw_all) (hat : zGK w (zgS g) → ∀ x ∈ vx_at0 own ic E names, x.before (zgA g) (zgS g) = true) (hgd : ∀ x ∈ Cond.classLink own ik E :: Cond.initialized E :: vx_at0 own ic E names, vx_ot x = true)
    (hp3 : pc + 3 = p3) (hp4 : pc + 4 = p4) (hp7 : pc + 7 = p7) (d0 : decode cc pc = .ok (.new ik, 3)) (d3 : decode cc p3 = .ok (.dup, 1)) (d4 : decode cc p4 = .ok (.invokespecial ic, 3)) (d7 : decode cc p7 = .ok (.athrow, 1)) (hout : ∀ x ∈ tableOf hh, covers x p7 = false) : zSnd w g P pc (s_thr E) := by
  intro d rc rs lv st H K hK hs
  obtain ⟨h1, h2, h3, hs⟩ := hs
  obtain ⟨hfl, hs⟩ := zfl_spec hs
  subst hp3
  subst hp4
  subst hp7
  intro hd hl ho k n locs ls hk hn9 hlo hlv
  have hts := cx.2.2.2.2.2.1
  have hGK := cx.2.2.2.2.2.2.2.1
  have h9 : zOld w (zgS g).heap := cx.2.2.2.2.2.2.2.2.2.2.2
  refine zW_size (fun hsz => ?_)
  unfold zW
  rw [hq]
  have hkeep : ∀ a : Nat, a < w.2.1.size → ¬ zNew w a → (zgS g).heap[a]? = w.2.1[a]? := fun a ha _ => h9.2 a ha
  have hS : va_S (zNew w) (zgS g).heap H locs := ⟨hsz, fun q hq hnq => by
    have hq2 : q < w.2.1.size := Nat.not_le.mp hnq
    rw [ho.2 q hq2, h9.2 q hq2], hlo⟩
  exact vx_throw0 cx.1 cx.2.1 cx.2.2.2.2.2.2.2.2.2.2.1 cx.2.2.2.2.1 hcls hnames (hts _ hq1) (hts _ hq2) (hat hGK) hgd (hGK.2.2.1.1.kept hkeep) (hGK.2.2.1.2.kept hkeep) hS hlv.1 d0 d3 d4 d7 (by rw [cx.2.2.2.2.2.2.2.2.2.1]; exact hout) (by omega) (by omega) (by omega) (by omega) cx.2.2.2.2.2.2.1
    (fun t _ hz hk9 => ⟨hs t.heap hz hk9, Nat.le_trans hsz hz⟩) hlo (by omega) (by omega)
end ZC
