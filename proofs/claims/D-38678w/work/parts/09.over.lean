/-! Math.abs, max, min of doubles and floats: the machine has entries of its own for them (entered, then the entry at place 0) -/
theorem zoverridden {tb : Tables} {e : Env} {s : State} {f : JFrame} {k : Class} {x : Method} {row : NativeRow} (h0 : f.pc = 0) (hk : s.vm.classes[f.method.cls]? = some k) (hn : overriddenIn.contains k.name = true) (hb : k.loader = none) (hx : k.methods[f.method.idx]? = some x) (hr : NativeRow.find? tb.natives k.name x.name x.desc = some row) : overridden tb e s f = some row := by
  unfold overridden
  simp only [h0, hk, hn, hb, hx, hr]
  simp
theorem zov_D (p : Program) {e : Env} {below : List Frame} {s target : State} {g : JFrame} {c : Code} {row : NativeRow} {nm : String} {v : Value}
    (h1 : s.topJava?.isSome) (h2 : ∃ mid, s.frames.tail = mid ++ below) (h3 : s.status = .running) (h4 : s.curStatus? = some .runnable) (h5 : s.alone = true) (h6 : s.code? g.method = some c)
    {m : MethodId} {meth : Method} {k : Class} {cm : Code} {a : UInt64} (acts : List Action) (hk : s.vm.classes[m.cls]? = some k) (hx : k.methods[m.idx]? = some meth) (hboot : k.loader = none) (hkn : k.name = "java/lang/Math") (hmn : meth.name = nm) (hmd : meth.desc = "(D)D") (hsig : parseMethodDescriptor "(D)D" = some meth.sig) (hc : meth.code = some cm) (hml : cm.maxLocals = 2) (hl : meth.locks = false)
    (hroom : (s.calling g m #[.double a]).hasRoom e.platform {} = true) (hrow : NativeRow.find? p.tables.natives "java/lang/Math" nm "(D)D" = some row) (hrun : ∀ S : State, ∃ acts, (row.sem #[.double a]).run e S = .ok (some v) S acts) {ig : Instr} {len : Nat} (hdg : decode c.code g.pc = .ok (ig, len))
    (hrest : Steps p.tables e below (s.setTop { g with pc := g.pc + len, stack := v :: g.stack }) target) : Steps p.tables e below (doInvoke e (s.setTop g) acts m #[.double a]).1 target := by
  obtain ⟨g₀, hg⟩ := Option.isSome_iff_exists.mp h1
  obtain ⟨r, hr⟩ := State.topJava?_eq_some.mp hg
  obtain ⟨mid, hmid⟩ := h2
  have hcur : s.cur < s.threads.size := State.cur_lt_of_frames hr
  have hm : s.vm.method? m = some meth := by simp [Vm.method?, hk, hx]
  have htop : s.setTop g = s.setFrames (.java g :: r) := State.setTop_of_frames _ hr
  have hfull : e.platform.stackFull (s.setTop g).me (s.setTop g).frames cm.maxLocals = false := by
    have htail : s.frames.tail = r := by rw [hr]; rfl
    have hfc := State.frames_calling h1 g m #[.double a]
    obtain ⟨-, r2, -, r4⟩ := State.hasRoom_stack hroom
    rw [State.localsInUse_invoking hfc (meth := meth) (c := cm) hm hc] at r4
    rw [hfc, htail] at r2
    rw [htail] at r4
    have hw := stackUse_le_stackWeight (.java g :: r)
    rw [State.calling_eq h1, State.stackLimits_setFrames] at r2 r4
    rw [htop, State.frames_setFrames _ hcur]
    refine Platform.stackFull_eq_false (by rw [State.stackLimits_setFrames]; simp only [List.length_cons] at r2 ⊢; have : ({} : Room).frames = 0 := rfl; omega) (by rw [State.stackLimits_setFrames]; have : ({} : Room).locals = 0 := rfl; omega)
  rw [(doInvoke_java (s := s.setTop g) (e := e) (acts := acts) (args := #[.double a]) (meth := meth) (code := cm) hm hc hl hfull).1, hml]
  have hU : (s.setTop g).pushFrame (.java { method := m, pc := 0, locals := argsToLocals #[.double a] 2, stack := [], locked := none }) = s.setFrames (.java (entryFrame m #[.double a] 2) :: .java g :: r) := by
    rw [State.pushFrame, State.frames_setTop _ hr, htop, State.setFrames_setFrames]
    rfl
  rw [hU]
  have hf1 : (s.setFrames (.java (entryFrame m #[.double a] 2) :: .java g :: r)).frames = .java (entryFrame m #[.double a] 2) :: .java g :: r := State.frames_setFrames _ hcur
  have hov : overridden p.tables e (s.setFrames (.java (entryFrame m #[.double a] 2) :: .java g :: r)) (entryFrame m #[.double a] 2) = some row := zoverridden (k := k) (x := meth) rfl hk (by rw [hkn]; decide) hboot hx (by rw [hkn, hmn, hmd]; exact hrow)
  have hb2 : ∀ F : List Frame, ((s.setFrames F).vm.classes[m.cls]?.bind fun y => y.methods[m.idx]?) = some meth := by
    intro F
    show (s.vm.classes[m.cls]?.bind fun y => y.methods[m.idx]?) = some meth
    simp [hk, hx]
  have hparams : meth.sig.parameters.length = 1 := by
    have h9 : parseMethodDescriptor "(D)D" = some { parameters := [.double], returnType := some .double } := by decide +kernel
    rw [← Option.some.inj (h9.symm.trans hsig)]
    rfl
  have htake : ∀ n : Nat, List.take (1 + n) [Value.double a] = [Value.double a] := fun n => List.take_of_length_le (Nat.le_add_right 1 n)
  have hb3 : (s.vm.classes[m.cls]?.bind fun y => y.methods[m.idx]?) = some meth := by simp [hk, hx]
  obtain ⟨acts₂, hr2⟩ := hrun (s.setFrames (.native { method := m, args := #[.double a] } :: .java g :: r))
  have hcode : ∀ F : List Frame, (s.setFrames F).code? g.method = some c := by
    intro F
    have := h6
    rw [State.code?_eq] at this ⊢
    simpa [State.setFrames] using this
  have hfs : handOver (s.setFrames (.native { method := m, args := #[.double a] } :: .java g :: r)) (some v) (.java g :: r) = some (.java { g with pc := g.pc + len, stack := v :: g.stack } :: r) := by
    simp [handOver, hcode, hdg, Except.toOption]
  have hstep2 : (stepThread p.tables e (s.setFrames (.java (entryFrame m #[.double a] 2) :: .java g :: r))).1 = s.setTop { g with pc := g.pc + len, stack := v :: g.stack } := by
    unfold stepThread
    simp only [hf1, hov]
    simp [entryFrame, argsToLocals, Value.category, argCount, hb2, hb3, hparams, htake, hr2, afterNative]
    rw [doReturn_native (f := { method := m, args := #[.double a] }) (below := .java g :: r) (State.frames_setFrames _ hcur) rfl hfs, State.setFrames_setFrames, ← State.setTop_of_frames _ hr]
  refine Steps.head ⟨h3, by simpa using h4, by simpa using h5⟩ ⟨.java (entryFrame m #[.double a] 2) :: .java g :: mid, by rw [hf1]; rw [hr] at hmid; simp at hmid; simp [hmid], by simp, by simp⟩ ?_
  rw [hstep2]
  exact hrest
theorem zov_DD (p : Program) {e : Env} {below : List Frame} {s target : State} {g : JFrame} {c : Code} {row : NativeRow} {nm : String} {v : Value}
    (h1 : s.topJava?.isSome) (h2 : ∃ mid, s.frames.tail = mid ++ below) (h3 : s.status = .running) (h4 : s.curStatus? = some .runnable) (h5 : s.alone = true) (h6 : s.code? g.method = some c)
    {m : MethodId} {meth : Method} {k : Class} {cm : Code} {a b : UInt64} (acts : List Action) (hk : s.vm.classes[m.cls]? = some k) (hx : k.methods[m.idx]? = some meth) (hboot : k.loader = none) (hkn : k.name = "java/lang/Math") (hmn : meth.name = nm) (hmd : meth.desc = "(DD)D") (hsig : parseMethodDescriptor "(DD)D" = some meth.sig) (hc : meth.code = some cm) (hml : cm.maxLocals = 4) (hl : meth.locks = false)
    (hroom : (s.calling g m #[.double a, .double b]).hasRoom e.platform {} = true) (hrow : NativeRow.find? p.tables.natives "java/lang/Math" nm "(DD)D" = some row) (hrun : ∀ S : State, ∃ acts, (row.sem #[.double a, .double b]).run e S = .ok (some v) S acts) {ig : Instr} {len : Nat} (hdg : decode c.code g.pc = .ok (ig, len))
    (hrest : Steps p.tables e below (s.setTop { g with pc := g.pc + len, stack := v :: g.stack }) target) : Steps p.tables e below (doInvoke e (s.setTop g) acts m #[.double a, .double b]).1 target := by
  obtain ⟨g₀, hg⟩ := Option.isSome_iff_exists.mp h1
  obtain ⟨r, hr⟩ := State.topJava?_eq_some.mp hg
  obtain ⟨mid, hmid⟩ := h2
  have hcur : s.cur < s.threads.size := State.cur_lt_of_frames hr
  have hm : s.vm.method? m = some meth := by simp [Vm.method?, hk, hx]
  have htop : s.setTop g = s.setFrames (.java g :: r) := State.setTop_of_frames _ hr
  have hfull : e.platform.stackFull (s.setTop g).me (s.setTop g).frames cm.maxLocals = false := by
    have htail : s.frames.tail = r := by rw [hr]; rfl
    have hfc := State.frames_calling h1 g m #[.double a, .double b]
    obtain ⟨-, r2, -, r4⟩ := State.hasRoom_stack hroom
    rw [State.localsInUse_invoking hfc (meth := meth) (c := cm) hm hc] at r4
    rw [hfc, htail] at r2
    rw [htail] at r4
    have hw := stackUse_le_stackWeight (.java g :: r)
    rw [State.calling_eq h1, State.stackLimits_setFrames] at r2 r4
    rw [htop, State.frames_setFrames _ hcur]
    refine Platform.stackFull_eq_false (by rw [State.stackLimits_setFrames]; simp only [List.length_cons] at r2 ⊢; have : ({} : Room).frames = 0 := rfl; omega) (by rw [State.stackLimits_setFrames]; have : ({} : Room).locals = 0 := rfl; omega)
  rw [(doInvoke_java (s := s.setTop g) (e := e) (acts := acts) (args := #[.double a, .double b]) (meth := meth) (code := cm) hm hc hl hfull).1, hml]
  have hU : (s.setTop g).pushFrame (.java { method := m, pc := 0, locals := argsToLocals #[.double a, .double b] 4, stack := [], locked := none }) = s.setFrames (.java (entryFrame m #[.double a, .double b] 4) :: .java g :: r) := by
    rw [State.pushFrame, State.frames_setTop _ hr, htop, State.setFrames_setFrames]
    rfl
  rw [hU]
  have hf1 : (s.setFrames (.java (entryFrame m #[.double a, .double b] 4) :: .java g :: r)).frames = .java (entryFrame m #[.double a, .double b] 4) :: .java g :: r := State.frames_setFrames _ hcur
  have hov : overridden p.tables e (s.setFrames (.java (entryFrame m #[.double a, .double b] 4) :: .java g :: r)) (entryFrame m #[.double a, .double b] 4) = some row := zoverridden (k := k) (x := meth) rfl hk (by rw [hkn]; decide) hboot hx (by rw [hkn, hmn, hmd]; exact hrow)
  have hb2 : ∀ F : List Frame, ((s.setFrames F).vm.classes[m.cls]?.bind fun y => y.methods[m.idx]?) = some meth := by
    intro F
    show (s.vm.classes[m.cls]?.bind fun y => y.methods[m.idx]?) = some meth
    simp [hk, hx]
  have hparams : meth.sig.parameters.length = 2 := by
    have h9 : parseMethodDescriptor "(DD)D" = some { parameters := [.double, .double], returnType := some .double } := by decide +kernel
    rw [← Option.some.inj (h9.symm.trans hsig)]
    rfl
  have htake : ∀ n : Nat, List.take (2 + n) [Value.double a, Value.double b] = [Value.double a, Value.double b] := fun n => List.take_of_length_le (Nat.le_add_right 2 n)
  have hb3 : (s.vm.classes[m.cls]?.bind fun y => y.methods[m.idx]?) = some meth := by simp [hk, hx]
  obtain ⟨acts₂, hr2⟩ := hrun (s.setFrames (.native { method := m, args := #[.double a, .double b] } :: .java g :: r))
  have hcode : ∀ F : List Frame, (s.setFrames F).code? g.method = some c := by
    intro F
    have := h6
    rw [State.code?_eq] at this ⊢
    simpa [State.setFrames] using this
  have hfs : handOver (s.setFrames (.native { method := m, args := #[.double a, .double b] } :: .java g :: r)) (some v) (.java g :: r) = some (.java { g with pc := g.pc + len, stack := v :: g.stack } :: r) := by
    simp [handOver, hcode, hdg, Except.toOption]
  have hstep2 : (stepThread p.tables e (s.setFrames (.java (entryFrame m #[.double a, .double b] 4) :: .java g :: r))).1 = s.setTop { g with pc := g.pc + len, stack := v :: g.stack } := by
    unfold stepThread
    simp only [hf1, hov]
    simp [entryFrame, argsToLocals, Value.category, argCount, hb2, hb3, hparams, htake, hr2, afterNative]
    rw [doReturn_native (f := { method := m, args := #[.double a, .double b] }) (below := .java g :: r) (State.frames_setFrames _ hcur) rfl hfs, State.setFrames_setFrames, ← State.setTop_of_frames _ hr]
  refine Steps.head ⟨h3, by simpa using h4, by simpa using h5⟩ ⟨.java (entryFrame m #[.double a, .double b] 4) :: .java g :: mid, by rw [hf1]; rw [hr] at hmid; simp at hmid; simp [hmid], by simp, by simp⟩ ?_
  rw [hstep2]
  exact hrest
theorem zov_F (p : Program) {e : Env} {below : List Frame} {s target : State} {g : JFrame} {c : Code} {row : NativeRow} {nm : String} {v : Value}
    (h1 : s.topJava?.isSome) (h2 : ∃ mid, s.frames.tail = mid ++ below) (h3 : s.status = .running) (h4 : s.curStatus? = some .runnable) (h5 : s.alone = true) (h6 : s.code? g.method = some c)
    {m : MethodId} {meth : Method} {k : Class} {cm : Code} {a : UInt32} (acts : List Action) (hk : s.vm.classes[m.cls]? = some k) (hx : k.methods[m.idx]? = some meth) (hboot : k.loader = none) (hkn : k.name = "java/lang/Math") (hmn : meth.name = nm) (hmd : meth.desc = "(F)F") (hsig : parseMethodDescriptor "(F)F" = some meth.sig) (hc : meth.code = some cm) (hml : cm.maxLocals = 1) (hl : meth.locks = false)
    (hroom : (s.calling g m #[.float a]).hasRoom e.platform {} = true) (hrow : NativeRow.find? p.tables.natives "java/lang/Math" nm "(F)F" = some row) (hrun : ∀ S : State, ∃ acts, (row.sem #[.float a]).run e S = .ok (some v) S acts) {ig : Instr} {len : Nat} (hdg : decode c.code g.pc = .ok (ig, len))
    (hrest : Steps p.tables e below (s.setTop { g with pc := g.pc + len, stack := v :: g.stack }) target) : Steps p.tables e below (doInvoke e (s.setTop g) acts m #[.float a]).1 target := by
  obtain ⟨g₀, hg⟩ := Option.isSome_iff_exists.mp h1
  obtain ⟨r, hr⟩ := State.topJava?_eq_some.mp hg
  obtain ⟨mid, hmid⟩ := h2
  have hcur : s.cur < s.threads.size := State.cur_lt_of_frames hr
  have hm : s.vm.method? m = some meth := by simp [Vm.method?, hk, hx]
  have htop : s.setTop g = s.setFrames (.java g :: r) := State.setTop_of_frames _ hr
  have hfull : e.platform.stackFull (s.setTop g).me (s.setTop g).frames cm.maxLocals = false := by
    have htail : s.frames.tail = r := by rw [hr]; rfl
    have hfc := State.frames_calling h1 g m #[.float a]
    obtain ⟨-, r2, -, r4⟩ := State.hasRoom_stack hroom
    rw [State.localsInUse_invoking hfc (meth := meth) (c := cm) hm hc] at r4
    rw [hfc, htail] at r2
    rw [htail] at r4
    have hw := stackUse_le_stackWeight (.java g :: r)
    rw [State.calling_eq h1, State.stackLimits_setFrames] at r2 r4
    rw [htop, State.frames_setFrames _ hcur]
    refine Platform.stackFull_eq_false (by rw [State.stackLimits_setFrames]; simp only [List.length_cons] at r2 ⊢; have : ({} : Room).frames = 0 := rfl; omega) (by rw [State.stackLimits_setFrames]; have : ({} : Room).locals = 0 := rfl; omega)
  rw [(doInvoke_java (s := s.setTop g) (e := e) (acts := acts) (args := #[.float a]) (meth := meth) (code := cm) hm hc hl hfull).1, hml]
  have hU : (s.setTop g).pushFrame (.java { method := m, pc := 0, locals := argsToLocals #[.float a] 1, stack := [], locked := none }) = s.setFrames (.java (entryFrame m #[.float a] 1) :: .java g :: r) := by
    rw [State.pushFrame, State.frames_setTop _ hr, htop, State.setFrames_setFrames]
    rfl
  rw [hU]
  have hf1 : (s.setFrames (.java (entryFrame m #[.float a] 1) :: .java g :: r)).frames = .java (entryFrame m #[.float a] 1) :: .java g :: r := State.frames_setFrames _ hcur
  have hov : overridden p.tables e (s.setFrames (.java (entryFrame m #[.float a] 1) :: .java g :: r)) (entryFrame m #[.float a] 1) = some row := zoverridden (k := k) (x := meth) rfl hk (by rw [hkn]; decide) hboot hx (by rw [hkn, hmn, hmd]; exact hrow)
  have hb2 : ∀ F : List Frame, ((s.setFrames F).vm.classes[m.cls]?.bind fun y => y.methods[m.idx]?) = some meth := by
    intro F
    show (s.vm.classes[m.cls]?.bind fun y => y.methods[m.idx]?) = some meth
    simp [hk, hx]
  have hparams : meth.sig.parameters.length = 1 := by
    have h9 : parseMethodDescriptor "(F)F" = some { parameters := [.float], returnType := some .float } := by decide +kernel
    rw [← Option.some.inj (h9.symm.trans hsig)]
    rfl
  have htake : ∀ n : Nat, List.take (1 + n) [Value.float a] = [Value.float a] := fun n => List.take_of_length_le (Nat.le_add_right 1 n)
  have hb3 : (s.vm.classes[m.cls]?.bind fun y => y.methods[m.idx]?) = some meth := by simp [hk, hx]
  obtain ⟨acts₂, hr2⟩ := hrun (s.setFrames (.native { method := m, args := #[.float a] } :: .java g :: r))
  have hcode : ∀ F : List Frame, (s.setFrames F).code? g.method = some c := by
    intro F
    have := h6
    rw [State.code?_eq] at this ⊢
    simpa [State.setFrames] using this
  have hfs : handOver (s.setFrames (.native { method := m, args := #[.float a] } :: .java g :: r)) (some v) (.java g :: r) = some (.java { g with pc := g.pc + len, stack := v :: g.stack } :: r) := by
    simp [handOver, hcode, hdg, Except.toOption]
  have hstep2 : (stepThread p.tables e (s.setFrames (.java (entryFrame m #[.float a] 1) :: .java g :: r))).1 = s.setTop { g with pc := g.pc + len, stack := v :: g.stack } := by
    unfold stepThread
    simp only [hf1, hov]
    simp [entryFrame, argsToLocals, Value.category, argCount, hb2, hb3, hparams, htake, hr2, afterNative]
    rw [doReturn_native (f := { method := m, args := #[.float a] }) (below := .java g :: r) (State.frames_setFrames _ hcur) rfl hfs, State.setFrames_setFrames, ← State.setTop_of_frames _ hr]
  refine Steps.head ⟨h3, by simpa using h4, by simpa using h5⟩ ⟨.java (entryFrame m #[.float a] 1) :: .java g :: mid, by rw [hf1]; rw [hr] at hmid; simp at hmid; simp [hmid], by simp, by simp⟩ ?_
  rw [hstep2]
  exact hrest
theorem zov_FF (p : Program) {e : Env} {below : List Frame} {s target : State} {g : JFrame} {c : Code} {row : NativeRow} {nm : String} {v : Value}
    (h1 : s.topJava?.isSome) (h2 : ∃ mid, s.frames.tail = mid ++ below) (h3 : s.status = .running) (h4 : s.curStatus? = some .runnable) (h5 : s.alone = true) (h6 : s.code? g.method = some c)
    {m : MethodId} {meth : Method} {k : Class} {cm : Code} {a b : UInt32} (acts : List Action) (hk : s.vm.classes[m.cls]? = some k) (hx : k.methods[m.idx]? = some meth) (hboot : k.loader = none) (hkn : k.name = "java/lang/Math") (hmn : meth.name = nm) (hmd : meth.desc = "(FF)F") (hsig : parseMethodDescriptor "(FF)F" = some meth.sig) (hc : meth.code = some cm) (hml : cm.maxLocals = 2) (hl : meth.locks = false)
    (hroom : (s.calling g m #[.float a, .float b]).hasRoom e.platform {} = true) (hrow : NativeRow.find? p.tables.natives "java/lang/Math" nm "(FF)F" = some row) (hrun : ∀ S : State, ∃ acts, (row.sem #[.float a, .float b]).run e S = .ok (some v) S acts) {ig : Instr} {len : Nat} (hdg : decode c.code g.pc = .ok (ig, len))
    (hrest : Steps p.tables e below (s.setTop { g with pc := g.pc + len, stack := v :: g.stack }) target) : Steps p.tables e below (doInvoke e (s.setTop g) acts m #[.float a, .float b]).1 target := by
  obtain ⟨g₀, hg⟩ := Option.isSome_iff_exists.mp h1
  obtain ⟨r, hr⟩ := State.topJava?_eq_some.mp hg
  obtain ⟨mid, hmid⟩ := h2
  have hcur : s.cur < s.threads.size := State.cur_lt_of_frames hr
  have hm : s.vm.method? m = some meth := by simp [Vm.method?, hk, hx]
  have htop : s.setTop g = s.setFrames (.java g :: r) := State.setTop_of_frames _ hr
  have hfull : e.platform.stackFull (s.setTop g).me (s.setTop g).frames cm.maxLocals = false := by
    have htail : s.frames.tail = r := by rw [hr]; rfl
    have hfc := State.frames_calling h1 g m #[.float a, .float b]
    obtain ⟨-, r2, -, r4⟩ := State.hasRoom_stack hroom
    rw [State.localsInUse_invoking hfc (meth := meth) (c := cm) hm hc] at r4
    rw [hfc, htail] at r2
    rw [htail] at r4
    have hw := stackUse_le_stackWeight (.java g :: r)
    rw [State.calling_eq h1, State.stackLimits_setFrames] at r2 r4
    rw [htop, State.frames_setFrames _ hcur]
    refine Platform.stackFull_eq_false (by rw [State.stackLimits_setFrames]; simp only [List.length_cons] at r2 ⊢; have : ({} : Room).frames = 0 := rfl; omega) (by rw [State.stackLimits_setFrames]; have : ({} : Room).locals = 0 := rfl; omega)
  rw [(doInvoke_java (s := s.setTop g) (e := e) (acts := acts) (args := #[.float a, .float b]) (meth := meth) (code := cm) hm hc hl hfull).1, hml]
  have hU : (s.setTop g).pushFrame (.java { method := m, pc := 0, locals := argsToLocals #[.float a, .float b] 2, stack := [], locked := none }) = s.setFrames (.java (entryFrame m #[.float a, .float b] 2) :: .java g :: r) := by
    rw [State.pushFrame, State.frames_setTop _ hr, htop, State.setFrames_setFrames]
    rfl
  rw [hU]
  have hf1 : (s.setFrames (.java (entryFrame m #[.float a, .float b] 2) :: .java g :: r)).frames = .java (entryFrame m #[.float a, .float b] 2) :: .java g :: r := State.frames_setFrames _ hcur
  have hov : overridden p.tables e (s.setFrames (.java (entryFrame m #[.float a, .float b] 2) :: .java g :: r)) (entryFrame m #[.float a, .float b] 2) = some row := zoverridden (k := k) (x := meth) rfl hk (by rw [hkn]; decide) hboot hx (by rw [hkn, hmn, hmd]; exact hrow)
  have hb2 : ∀ F : List Frame, ((s.setFrames F).vm.classes[m.cls]?.bind fun y => y.methods[m.idx]?) = some meth := by
    intro F
    show (s.vm.classes[m.cls]?.bind fun y => y.methods[m.idx]?) = some meth
    simp [hk, hx]
  have hparams : meth.sig.parameters.length = 2 := by
    have h9 : parseMethodDescriptor "(FF)F" = some { parameters := [.float, .float], returnType := some .float } := by decide +kernel
    rw [← Option.some.inj (h9.symm.trans hsig)]
    rfl
  have htake : ∀ n : Nat, List.take (2 + n) [Value.float a, Value.float b] = [Value.float a, Value.float b] := fun n => List.take_of_length_le (Nat.le_add_right 2 n)
  have hb3 : (s.vm.classes[m.cls]?.bind fun y => y.methods[m.idx]?) = some meth := by simp [hk, hx]
  obtain ⟨acts₂, hr2⟩ := hrun (s.setFrames (.native { method := m, args := #[.float a, .float b] } :: .java g :: r))
  have hcode : ∀ F : List Frame, (s.setFrames F).code? g.method = some c := by
    intro F
    have := h6
    rw [State.code?_eq] at this ⊢
    simpa [State.setFrames] using this
  have hfs : handOver (s.setFrames (.native { method := m, args := #[.float a, .float b] } :: .java g :: r)) (some v) (.java g :: r) = some (.java { g with pc := g.pc + len, stack := v :: g.stack } :: r) := by
    simp [handOver, hcode, hdg, Except.toOption]
  have hstep2 : (stepThread p.tables e (s.setFrames (.java (entryFrame m #[.float a, .float b] 2) :: .java g :: r))).1 = s.setTop { g with pc := g.pc + len, stack := v :: g.stack } := by
    unfold stepThread
    simp only [hf1, hov]
    simp [entryFrame, argsToLocals, Value.category, argCount, hb2, hb3, hparams, htake, hr2, afterNative]
    rw [doReturn_native (f := { method := m, args := #[.float a, .float b] }) (below := .java g :: r) (State.frames_setFrames _ hcur) rfl hfs, State.setFrames_setFrames, ← State.setTop_of_frames _ hr]
  refine Steps.head ⟨h3, by simpa using h4, by simpa using h5⟩ ⟨.java (entryFrame m #[.float a, .float b] 2) :: .java g :: mid, by rw [hf1]; rw [hr] at hmid; simp at hmid; simp [hmid], by simp, by simp⟩ ?_
  rw [hstep2]
  exact hrest
/-- a call of such a member: its answer is f of its arguments, where ok holds -/
def s_ovD (ok : UInt64 → Prop) (f : UInt64 → UInt64) (nx : Nat) : zStep := fun P d rc rs lv st H K => match st with | .double a :: rest => 1 ≤ d ∧ ok a ∧ zfl rest (K nx rc rs lv (.double (f a) :: rest) H) | _ => False
theorem z_ovD {w : zG} {g : zM} {P : zPo} {own : String} {cc : ByteArray} {nL : Nat} {ret : Option FieldType} {nm : String} {hh : List (Nat × Nat × Nat × Nat)} {pc nx : Nat} (cx : zCx w g own cc nL ret nm hh) {idx : Nat} {mn : String} {bytes : ByteArray} {ok : UInt64 → Prop} {f : UInt64 → UInt64} {row : NativeRow}
    (hq1 : Cond.methodLink own idx ⟨"java/lang/Math", mn, "(D)D"⟩ ∈ lw_all) (hq2 : Cond.static ⟨"java/lang/Math", mn, "(D)D"⟩ ∈ lw_all) (hq3 : Cond.initialized "java/lang/Math" ∈ lw_all) (hq4 : Cond.code ⟨"java/lang/Math", mn, "(D)D"⟩ bytes 2 (some .double) ∈ lw_all) (hrow : ∀ p : Program, NativeRow.find? p.tables.natives "java/lang/Math" mn "(D)D" = some row) (hrun : ∀ (e : Env) (a : UInt64), ok a → ∀ S : State, ∃ acts, (row.sem #[.double a]).run e S = .ok (some (.double (f a))) S acts) (hd0 : decode cc pc = .ok (.invokestatic idx, 3)) (hn : pc + 3 = nx) : zSnd w g P pc (s_ovD ok f nx) := by
  intro d rc rs lv st H K hK hs
  unfold s_ovD at hs
  split at hs
  · rename_i a rest
    obtain ⟨hd1, hok, hs⟩ := hs
    obtain ⟨hfl, hs⟩ := zfl_spec hs
    subst hn
    intro hd hl ho k n locs ls hk hn9 hlo hlv T hT X
    have hts := cx.2.2.2.2.2.1
    obtain ⟨mk, hnamed⟩ := Cond.code_named (hts _ hq4)
    obtain ⟨methM, cM, hmethM, hcodeM, -, hlocM, -, hlkM, -, hsigM⟩ := Cond.code_spec hnamed (hts _ hq4)
    obtain ⟨kP, hkP, -⟩ := className_of_methodNamed hnamed
    have hinitP : kP.init = .initialized := Cond.initialized_spec (findClass_of_methodNamed hnamed) hkP (hts _ hq3)
    have hlenP : ∀ sig, parseMethodDescriptor "(D)D" = some sig → ([Value.double a] : List Value).length = sig.parameters.length := fun sig h => by
      have h9 : parseMethodDescriptor "(D)D" = some { parameters := [.double], returnType := some .double } := by decide +kernel
      rw [← Option.some.inj (h9.symm.trans h)]; rfl
    obtain ⟨vm₁, X₁, hstep₁⟩ := X.invokestatic cx.1 cx.2.2.2.2.1 (hts _ hq1) hnamed hmethM (Cond.static_spec hnamed hmethM (hts _ hq2)) hkP hinitP ⟨by show ("java/lang/Math" : String) ≠ _; decide, by show ("java/lang/Math" : String) ≠ _; decide⟩ (g := F0 (zgm g) pc ls (.double a :: rest)) rfl (argsL := [Value.double a]) (rest := rest) (hlenP _ hsigM) rfl (by rw [cx.2.1]; exact hd0)
    have hn1 := X₁.named hnamed
    have hcU : (Cond.code ⟨"java/lang/Math", mn, "(D)D"⟩ bytes 2 (some .double)).before (zgA g) (T.setVm vm₁) = true := word_at X₁.warmed (Or.inl (by first | rfl | simp [Cond.onTables, Cond.keeps, Cond.steady])) (hts _ hq4)
    obtain ⟨meth1, c1, hm1, hc1, -, hloc1, -, hlk1, -, hsig1⟩ := Cond.code_spec hn1 hcU
    obtain ⟨k1, hk1, hkn1⟩ := className_of_methodNamed hn1
    obtain ⟨hmn1, hmd1⟩ := name_of_methodNamed hn1 hm1
    have hx1 : k1.methods[mk.idx]? = some meth1 := by
      have hm1b : vm₁.method? mk = some meth1 := hm1
      have hk1b : vm₁.classes[mk.cls]? = some k1 := hk1
      simpa [Vm.method?, hk1b] using hm1b
    obtain ⟨t, a1, b1⟩ := hK _ _ _ _ _ _ hs hd hl ho k n locs ls hk hn9 hlo hlv (T.setVm vm₁) hT X₁
    refine ⟨t, hstep₁ t fun acts => ?_, b1⟩
    exact zov_D g.1 X₁.here.top X₁.here.above X₁.here.running X₁.here.runnable X₁.here.alone X₁.here.code acts hk1 hx1 (Vm.bootOf_findClass (findClass_of_methodNamed hn1) hk1) hkn1 hmn1 hmd1 hsig1 hc1 hloc1 hlk1
      (X₁.room_calling (g := { F0 (zgm g) pc ls (.double a :: rest) with stack := rest }) hlv.1 hm1 hc1 (R' := {}) (by show 0 + 1 ≤ (zgR g).frames; omega) (by rw [hloc1]; show 2 * 0 + (rest.map fun v => v.category).sum + (2 + 11) + 0 ≤ (zgR g).locals; omega) (by show k + 0 ≤ (zgR g).cells; omega) (by show n + 0 ≤ (zgR g).slots; omega)) (hrow g.1) (hrun g.2.1 a hok) (ig := .invokestatic idx) (len := 3) (by rw [cx.2.1]; exact hd0) a1
  · exact hs.elim
/-- a call of such a member: its answer is f of its arguments, where ok holds -/
def s_ovDD (ok : UInt64 → UInt64 → Prop) (f : UInt64 → UInt64 → UInt64) (nx : Nat) : zStep := fun P d rc rs lv st H K => match st with | .double b :: .double a :: rest => 1 ≤ d ∧ ok a b ∧ zfl rest (K nx rc rs lv (.double (f a b) :: rest) H) | _ => False
theorem z_ovDD {w : zG} {g : zM} {P : zPo} {own : String} {cc : ByteArray} {nL : Nat} {ret : Option FieldType} {nm : String} {hh : List (Nat × Nat × Nat × Nat)} {pc nx : Nat} (cx : zCx w g own cc nL ret nm hh) {idx : Nat} {mn : String} {bytes : ByteArray} {ok : UInt64 → UInt64 → Prop} {f : UInt64 → UInt64 → UInt64} {row : NativeRow}
    (hq1 : Cond.methodLink own idx ⟨"java/lang/Math", mn, "(DD)D"⟩ ∈ lw_all) (hq2 : Cond.static ⟨"java/lang/Math", mn, "(DD)D"⟩ ∈ lw_all) (hq3 : Cond.initialized "java/lang/Math" ∈ lw_all) (hq4 : Cond.code ⟨"java/lang/Math", mn, "(DD)D"⟩ bytes 4 (some .double) ∈ lw_all) (hrow : ∀ p : Program, NativeRow.find? p.tables.natives "java/lang/Math" mn "(DD)D" = some row) (hrun : ∀ (e : Env) (a b : UInt64), ok a b → ∀ S : State, ∃ acts, (row.sem #[.double a, .double b]).run e S = .ok (some (.double (f a b))) S acts) (hd0 : decode cc pc = .ok (.invokestatic idx, 3)) (hn : pc + 3 = nx) : zSnd w g P pc (s_ovDD ok f nx) := by
  intro d rc rs lv st H K hK hs
  unfold s_ovDD at hs
  split at hs
  · rename_i b a rest
    obtain ⟨hd1, hok, hs⟩ := hs
    obtain ⟨hfl, hs⟩ := zfl_spec hs
    subst hn
    intro hd hl ho k n locs ls hk hn9 hlo hlv T hT X
    have hts := cx.2.2.2.2.2.1
    obtain ⟨mk, hnamed⟩ := Cond.code_named (hts _ hq4)
    obtain ⟨methM, cM, hmethM, hcodeM, -, hlocM, -, hlkM, -, hsigM⟩ := Cond.code_spec hnamed (hts _ hq4)
    obtain ⟨kP, hkP, -⟩ := className_of_methodNamed hnamed
    have hinitP : kP.init = .initialized := Cond.initialized_spec (findClass_of_methodNamed hnamed) hkP (hts _ hq3)
    have hlenP : ∀ sig, parseMethodDescriptor "(DD)D" = some sig → ([Value.double a, Value.double b] : List Value).length = sig.parameters.length := fun sig h => by
      have h9 : parseMethodDescriptor "(DD)D" = some { parameters := [.double, .double], returnType := some .double } := by decide +kernel
      rw [← Option.some.inj (h9.symm.trans h)]; rfl
    obtain ⟨vm₁, X₁, hstep₁⟩ := X.invokestatic cx.1 cx.2.2.2.2.1 (hts _ hq1) hnamed hmethM (Cond.static_spec hnamed hmethM (hts _ hq2)) hkP hinitP ⟨by show ("java/lang/Math" : String) ≠ _; decide, by show ("java/lang/Math" : String) ≠ _; decide⟩ (g := F0 (zgm g) pc ls (.double b :: .double a :: rest)) rfl (argsL := [Value.double a, Value.double b]) (rest := rest) (hlenP _ hsigM) rfl (by rw [cx.2.1]; exact hd0)
    have hn1 := X₁.named hnamed
    have hcU : (Cond.code ⟨"java/lang/Math", mn, "(DD)D"⟩ bytes 4 (some .double)).before (zgA g) (T.setVm vm₁) = true := word_at X₁.warmed (Or.inl (by first | rfl | simp [Cond.onTables, Cond.keeps, Cond.steady])) (hts _ hq4)
    obtain ⟨meth1, c1, hm1, hc1, -, hloc1, -, hlk1, -, hsig1⟩ := Cond.code_spec hn1 hcU
    obtain ⟨k1, hk1, hkn1⟩ := className_of_methodNamed hn1
    obtain ⟨hmn1, hmd1⟩ := name_of_methodNamed hn1 hm1
    have hx1 : k1.methods[mk.idx]? = some meth1 := by
      have hm1b : vm₁.method? mk = some meth1 := hm1
      have hk1b : vm₁.classes[mk.cls]? = some k1 := hk1
      simpa [Vm.method?, hk1b] using hm1b
    obtain ⟨t, a1, b1⟩ := hK _ _ _ _ _ _ hs hd hl ho k n locs ls hk hn9 hlo hlv (T.setVm vm₁) hT X₁
    refine ⟨t, hstep₁ t fun acts => ?_, b1⟩
    exact zov_DD g.1 X₁.here.top X₁.here.above X₁.here.running X₁.here.runnable X₁.here.alone X₁.here.code acts hk1 hx1 (Vm.bootOf_findClass (findClass_of_methodNamed hn1) hk1) hkn1 hmn1 hmd1 hsig1 hc1 hloc1 hlk1
      (X₁.room_calling (g := { F0 (zgm g) pc ls (.double b :: .double a :: rest) with stack := rest }) hlv.1 hm1 hc1 (R' := {}) (by show 0 + 1 ≤ (zgR g).frames; omega) (by rw [hloc1]; show 2 * 0 + (rest.map fun v => v.category).sum + (4 + 11) + 0 ≤ (zgR g).locals; omega) (by show k + 0 ≤ (zgR g).cells; omega) (by show n + 0 ≤ (zgR g).slots; omega)) (hrow g.1) (hrun g.2.1 a b hok) (ig := .invokestatic idx) (len := 3) (by rw [cx.2.1]; exact hd0) a1
  · exact hs.elim
/-- a call of such a member: its answer is f of its arguments, where ok holds -/
def s_ovF (ok : UInt32 → Prop) (f : UInt32 → UInt32) (nx : Nat) : zStep := fun P d rc rs lv st H K => match st with | .float a :: rest => 1 ≤ d ∧ ok a ∧ zfl rest (K nx rc rs lv (.float (f a) :: rest) H) | _ => False
theorem z_ovF {w : zG} {g : zM} {P : zPo} {own : String} {cc : ByteArray} {nL : Nat} {ret : Option FieldType} {nm : String} {hh : List (Nat × Nat × Nat × Nat)} {pc nx : Nat} (cx : zCx w g own cc nL ret nm hh) {idx : Nat} {mn : String} {bytes : ByteArray} {ok : UInt32 → Prop} {f : UInt32 → UInt32} {row : NativeRow}
    (hq1 : Cond.methodLink own idx ⟨"java/lang/Math", mn, "(F)F"⟩ ∈ lw_all) (hq2 : Cond.static ⟨"java/lang/Math", mn, "(F)F"⟩ ∈ lw_all) (hq3 : Cond.initialized "java/lang/Math" ∈ lw_all) (hq4 : Cond.code ⟨"java/lang/Math", mn, "(F)F"⟩ bytes 1 (some .float) ∈ lw_all) (hrow : ∀ p : Program, NativeRow.find? p.tables.natives "java/lang/Math" mn "(F)F" = some row) (hrun : ∀ (e : Env) (a : UInt32), ok a → ∀ S : State, ∃ acts, (row.sem #[.float a]).run e S = .ok (some (.float (f a))) S acts) (hd0 : decode cc pc = .ok (.invokestatic idx, 3)) (hn : pc + 3 = nx) : zSnd w g P pc (s_ovF ok f nx) := by
  intro d rc rs lv st H K hK hs
  unfold s_ovF at hs
  split at hs
  · rename_i a rest
    obtain ⟨hd1, hok, hs⟩ := hs
    obtain ⟨hfl, hs⟩ := zfl_spec hs
    subst hn
    intro hd hl ho k n locs ls hk hn9 hlo hlv T hT X
    have hts := cx.2.2.2.2.2.1
    obtain ⟨mk, hnamed⟩ := Cond.code_named (hts _ hq4)
    obtain ⟨methM, cM, hmethM, hcodeM, -, hlocM, -, hlkM, -, hsigM⟩ := Cond.code_spec hnamed (hts _ hq4)
    obtain ⟨kP, hkP, -⟩ := className_of_methodNamed hnamed
    have hinitP : kP.init = .initialized := Cond.initialized_spec (findClass_of_methodNamed hnamed) hkP (hts _ hq3)
    have hlenP : ∀ sig, parseMethodDescriptor "(F)F" = some sig → ([Value.float a] : List Value).length = sig.parameters.length := fun sig h => by
      have h9 : parseMethodDescriptor "(F)F" = some { parameters := [.float], returnType := some .float } := by decide +kernel
      rw [← Option.some.inj (h9.symm.trans h)]; rfl
    obtain ⟨vm₁, X₁, hstep₁⟩ := X.invokestatic cx.1 cx.2.2.2.2.1 (hts _ hq1) hnamed hmethM (Cond.static_spec hnamed hmethM (hts _ hq2)) hkP hinitP ⟨by show ("java/lang/Math" : String) ≠ _; decide, by show ("java/lang/Math" : String) ≠ _; decide⟩ (g := F0 (zgm g) pc ls (.float a :: rest)) rfl (argsL := [Value.float a]) (rest := rest) (hlenP _ hsigM) rfl (by rw [cx.2.1]; exact hd0)
    have hn1 := X₁.named hnamed
    have hcU : (Cond.code ⟨"java/lang/Math", mn, "(F)F"⟩ bytes 1 (some .float)).before (zgA g) (T.setVm vm₁) = true := word_at X₁.warmed (Or.inl (by first | rfl | simp [Cond.onTables, Cond.keeps, Cond.steady])) (hts _ hq4)
    obtain ⟨meth1, c1, hm1, hc1, -, hloc1, -, hlk1, -, hsig1⟩ := Cond.code_spec hn1 hcU
    obtain ⟨k1, hk1, hkn1⟩ := className_of_methodNamed hn1
    obtain ⟨hmn1, hmd1⟩ := name_of_methodNamed hn1 hm1
    have hx1 : k1.methods[mk.idx]? = some meth1 := by
      have hm1b : vm₁.method? mk = some meth1 := hm1
      have hk1b : vm₁.classes[mk.cls]? = some k1 := hk1
      simpa [Vm.method?, hk1b] using hm1b
    obtain ⟨t, a1, b1⟩ := hK _ _ _ _ _ _ hs hd hl ho k n locs ls hk hn9 hlo hlv (T.setVm vm₁) hT X₁
    refine ⟨t, hstep₁ t fun acts => ?_, b1⟩
    exact zov_F g.1 X₁.here.top X₁.here.above X₁.here.running X₁.here.runnable X₁.here.alone X₁.here.code acts hk1 hx1 (Vm.bootOf_findClass (findClass_of_methodNamed hn1) hk1) hkn1 hmn1 hmd1 hsig1 hc1 hloc1 hlk1
      (X₁.room_calling (g := { F0 (zgm g) pc ls (.float a :: rest) with stack := rest }) hlv.1 hm1 hc1 (R' := {}) (by show 0 + 1 ≤ (zgR g).frames; omega) (by rw [hloc1]; show 2 * 0 + (rest.map fun v => v.category).sum + (1 + 11) + 0 ≤ (zgR g).locals; omega) (by show k + 0 ≤ (zgR g).cells; omega) (by show n + 0 ≤ (zgR g).slots; omega)) (hrow g.1) (hrun g.2.1 a hok) (ig := .invokestatic idx) (len := 3) (by rw [cx.2.1]; exact hd0) a1
  · exact hs.elim
/-- a call of such a member: its answer is f of its arguments, where ok holds -/
def s_ovFF (ok : UInt32 → UInt32 → Prop) (f : UInt32 → UInt32 → UInt32) (nx : Nat) : zStep := fun P d rc rs lv st H K => match st with | .float b :: .float a :: rest => 1 ≤ d ∧ ok a b ∧ zfl rest (K nx rc rs lv (.float (f a b) :: rest) H) | _ => False
theorem z_ovFF {w : zG} {g : zM} {P : zPo} {own : String} {cc : ByteArray} {nL : Nat} {ret : Option FieldType} {nm : String} {hh : List (Nat × Nat × Nat × Nat)} {pc nx : Nat} (cx : zCx w g own cc nL ret nm hh) {idx : Nat} {mn : String} {bytes : ByteArray} {ok : UInt32 → UInt32 → Prop} {f : UInt32 → UInt32 → UInt32} {row : NativeRow}
    (hq1 : Cond.methodLink own idx ⟨"java/lang/Math", mn, "(FF)F"⟩ ∈ lw_all) (hq2 : Cond.static ⟨"java/lang/Math", mn, "(FF)F"⟩ ∈ lw_all) (hq3 : Cond.initialized "java/lang/Math" ∈ lw_all) (hq4 : Cond.code ⟨"java/lang/Math", mn, "(FF)F"⟩ bytes 2 (some .float) ∈ lw_all) (hrow : ∀ p : Program, NativeRow.find? p.tables.natives "java/lang/Math" mn "(FF)F" = some row) (hrun : ∀ (e : Env) (a b : UInt32), ok a b → ∀ S : State, ∃ acts, (row.sem #[.float a, .float b]).run e S = .ok (some (.float (f a b))) S acts) (hd0 : decode cc pc = .ok (.invokestatic idx, 3)) (hn : pc + 3 = nx) : zSnd w g P pc (s_ovFF ok f nx) := by
  intro d rc rs lv st H K hK hs
  unfold s_ovFF at hs
  split at hs
  · rename_i b a rest
    obtain ⟨hd1, hok, hs⟩ := hs
    obtain ⟨hfl, hs⟩ := zfl_spec hs
    subst hn
    intro hd hl ho k n locs ls hk hn9 hlo hlv T hT X
    have hts := cx.2.2.2.2.2.1
    obtain ⟨mk, hnamed⟩ := Cond.code_named (hts _ hq4)
    obtain ⟨methM, cM, hmethM, hcodeM, -, hlocM, -, hlkM, -, hsigM⟩ := Cond.code_spec hnamed (hts _ hq4)
    obtain ⟨kP, hkP, -⟩ := className_of_methodNamed hnamed
    have hinitP : kP.init = .initialized := Cond.initialized_spec (findClass_of_methodNamed hnamed) hkP (hts _ hq3)
    have hlenP : ∀ sig, parseMethodDescriptor "(FF)F" = some sig → ([Value.float a, Value.float b] : List Value).length = sig.parameters.length := fun sig h => by
      have h9 : parseMethodDescriptor "(FF)F" = some { parameters := [.float, .float], returnType := some .float } := by decide +kernel
      rw [← Option.some.inj (h9.symm.trans h)]; rfl
    obtain ⟨vm₁, X₁, hstep₁⟩ := X.invokestatic cx.1 cx.2.2.2.2.1 (hts _ hq1) hnamed hmethM (Cond.static_spec hnamed hmethM (hts _ hq2)) hkP hinitP ⟨by show ("java/lang/Math" : String) ≠ _; decide, by show ("java/lang/Math" : String) ≠ _; decide⟩ (g := F0 (zgm g) pc ls (.float b :: .float a :: rest)) rfl (argsL := [Value.float a, Value.float b]) (rest := rest) (hlenP _ hsigM) rfl (by rw [cx.2.1]; exact hd0)
    have hn1 := X₁.named hnamed
    have hcU : (Cond.code ⟨"java/lang/Math", mn, "(FF)F"⟩ bytes 2 (some .float)).before (zgA g) (T.setVm vm₁) = true := word_at X₁.warmed (Or.inl (by first | rfl | simp [Cond.onTables, Cond.keeps, Cond.steady])) (hts _ hq4)
    obtain ⟨meth1, c1, hm1, hc1, -, hloc1, -, hlk1, -, hsig1⟩ := Cond.code_spec hn1 hcU
    obtain ⟨k1, hk1, hkn1⟩ := className_of_methodNamed hn1
    obtain ⟨hmn1, hmd1⟩ := name_of_methodNamed hn1 hm1
    have hx1 : k1.methods[mk.idx]? = some meth1 := by
      have hm1b : vm₁.method? mk = some meth1 := hm1
      have hk1b : vm₁.classes[mk.cls]? = some k1 := hk1
      simpa [Vm.method?, hk1b] using hm1b
    obtain ⟨t, a1, b1⟩ := hK _ _ _ _ _ _ hs hd hl ho k n locs ls hk hn9 hlo hlv (T.setVm vm₁) hT X₁
    refine ⟨t, hstep₁ t fun acts => ?_, b1⟩
    exact zov_FF g.1 X₁.here.top X₁.here.above X₁.here.running X₁.here.runnable X₁.here.alone X₁.here.code acts hk1 hx1 (Vm.bootOf_findClass (findClass_of_methodNamed hn1) hk1) hkn1 hmn1 hmd1 hsig1 hc1 hloc1 hlk1
      (X₁.room_calling (g := { F0 (zgm g) pc ls (.float b :: .float a :: rest) with stack := rest }) hlv.1 hm1 hc1 (R' := {}) (by show 0 + 1 ≤ (zgR g).frames; omega) (by rw [hloc1]; show 2 * 0 + (rest.map fun v => v.category).sum + (2 + 11) + 0 ≤ (zgR g).locals; omega) (by show k + 0 ≤ (zgR g).cells; omega) (by show n + 0 ≤ (zgR g).slots; omega)) (hrow g.1) (hrun g.2.1 a b hok) (ig := .invokestatic idx) (len := 3) (by rw [cx.2.1]; exact hd0) a1
  · exact hs.elim
def zr_abs64 : NativeRow := (NativeRow.find? Native.java_lang_Math.nans.rows "java/lang/Math" "abs" "(D)D").get (by decide +kernel)
set_option maxRecDepth 100000 in
theorem zrf_abs64 (p : Program) : NativeRow.find? p.tables.natives "java/lang/Math" "abs" "(D)D" = some zr_abs64 := by cases p <;> rfl
theorem zrr_abs64 (e : Env) (a : UInt64) (ha : vf_n64 a) (S : State) : ∃ acts, (zr_abs64.sem #[.double a]).run e S = .ok (some (.double (a &&& 0x7fffffffffffffff))) S acts := by
  have hsem : zr_abs64.sem #[.double a] = (do
      let r ← anyNaN64 (a &&& 0x7fffffffffffffff)
      mark "nat.java_lang_Math.abs"
      Pure.pure (some (.double r))) := rfl
  have hn : (a &&& 0x7fffffffffffffff) &&& 0x7fffffffffffffff ≤ 0x7ff0000000000000 := by rw [UInt64.and_assoc, UInt64.and_self]; exact ha
  have hw : wpRun (zr_abs64.sem #[.double a]) (fun v s₂ _ => v = some (.double (a &&& 0x7fffffffffffffff)) ∧ s₂ = S) (fun _ _ _ => False) e S := by
    rw [hsem]
    simp [jvm, wpRun, anyNaN64, hn]
  have hw' := (wpRun_iff_run _ _ _ _ _).mp hw
  cases hr : (zr_abs64.sem #[.double a]).run e S with
  | ok v s₂ acts₂ => rw [hr] at hw'; obtain ⟨rfl, rfl⟩ := hw'; exact ⟨_, rfl⟩
  | ctl x s₂ acts₂ => rw [hr] at hw'; cases x <;> exact hw'.elim
abbrev s_abs64 (nx : Nat) : zStep := s_ovD (fun a => vf_n64 a) (fun a => a &&& 0x7fffffffffffffff) nx
def zr_abs32 : NativeRow := (NativeRow.find? Native.java_lang_Math.nans.rows "java/lang/Math" "abs" "(F)F").get (by decide +kernel)
set_option maxRecDepth 100000 in
theorem zrf_abs32 (p : Program) : NativeRow.find? p.tables.natives "java/lang/Math" "abs" "(F)F" = some zr_abs32 := by cases p <;> rfl
theorem zrr_abs32 (e : Env) (a : UInt32) (ha : vf_n32 a) (S : State) : ∃ acts, (zr_abs32.sem #[.float a]).run e S = .ok (some (.float (a &&& 0x7fffffff))) S acts := by
  have hsem : zr_abs32.sem #[.float a] = (do
      let r ← anyNaN32 (a &&& 0x7fffffff)
      mark "nat.java_lang_Math.abs/float"
      Pure.pure (some (.float r))) := rfl
  have hn : (a &&& 0x7fffffff) &&& 0x7fffffff ≤ 0x7f800000 := by rw [UInt32.and_assoc, UInt32.and_self]; exact ha
  have hw : wpRun (zr_abs32.sem #[.float a]) (fun v s₂ _ => v = some (.float (a &&& 0x7fffffff)) ∧ s₂ = S) (fun _ _ _ => False) e S := by
    rw [hsem]
    simp [jvm, wpRun, anyNaN32, hn]
  have hw' := (wpRun_iff_run _ _ _ _ _).mp hw
  cases hr : (zr_abs32.sem #[.float a]).run e S with
  | ok v s₂ acts₂ => rw [hr] at hw'; obtain ⟨rfl, rfl⟩ := hw'; exact ⟨_, rfl⟩
  | ctl x s₂ acts₂ => rw [hr] at hw'; cases x <;> exact hw'.elim
abbrev s_abs32 (nx : Nat) : zStep := s_ovF (fun a => vf_n32 a) (fun a => a &&& 0x7fffffff) nx
def zr_max64 : NativeRow := (NativeRow.find? Native.java_lang_Math.nans.rows "java/lang/Math" "max" "(DD)D").get (by decide +kernel)
set_option maxRecDepth 100000 in
theorem zrf_max64 (p : Program) : NativeRow.find? p.tables.natives "java/lang/Math" "max" "(DD)D" = some zr_max64 := by cases p <;> rfl
theorem zrr_max64 (e : Env) (a b : UInt64) (hab : FP.dIsNaN a = false ∧ FP.dIsNaN b = false) (S : State) : ∃ acts, (zr_max64.sem #[.double a, .double b]).run e S = .ok (some (.double (Native.java_lang_Math.nans.pick64 true a b))) S acts := by
  obtain ⟨ha, hb⟩ := hab
  have hsem : zr_max64.sem #[.double a, .double b] = (do
      let r ← if FP.dIsNaN a then anyNaN64 a else if FP.dIsNaN b then anyNaN64 b else Pure.pure (Native.java_lang_Math.nans.pick64 true a b)
      mark "nat.java_lang_Math.max"
      Pure.pure (some (.double r))) := rfl
  have hw : wpRun (zr_max64.sem #[.double a, .double b]) (fun v s₂ _ => v = some (.double (Native.java_lang_Math.nans.pick64 true a b)) ∧ s₂ = S) (fun _ _ _ => False) e S := by
    rw [hsem, if_neg (by rw [ha]; decide), if_neg (by rw [hb]; decide)]
    simp [jvm, wpRun]
  have hw' := (wpRun_iff_run _ _ _ _ _).mp hw
  cases hr : (zr_max64.sem #[.double a, .double b]).run e S with
  | ok v s₂ acts₂ => rw [hr] at hw'; obtain ⟨rfl, rfl⟩ := hw'; exact ⟨_, rfl⟩
  | ctl x s₂ acts₂ => rw [hr] at hw'; cases x <;> exact hw'.elim
abbrev s_max64 (nx : Nat) : zStep := s_ovDD (fun a b => FP.dIsNaN a = false ∧ FP.dIsNaN b = false) (fun a b => Native.java_lang_Math.nans.pick64 true a b) nx
def zr_max32 : NativeRow := (NativeRow.find? Native.java_lang_Math.nans.rows "java/lang/Math" "max" "(FF)F").get (by decide +kernel)
set_option maxRecDepth 100000 in
theorem zrf_max32 (p : Program) : NativeRow.find? p.tables.natives "java/lang/Math" "max" "(FF)F" = some zr_max32 := by cases p <;> rfl
theorem zrr_max32 (e : Env) (a b : UInt32) (hab : FP.fIsNaN a = false ∧ FP.fIsNaN b = false) (S : State) : ∃ acts, (zr_max32.sem #[.float a, .float b]).run e S = .ok (some (.float (Native.java_lang_Math.nans.pick32 true a b))) S acts := by
  obtain ⟨ha, hb⟩ := hab
  have hsem : zr_max32.sem #[.float a, .float b] = (do
      let r ← if FP.fIsNaN a then anyNaN32 a else if FP.fIsNaN b then anyNaN32 b else Pure.pure (Native.java_lang_Math.nans.pick32 true a b)
      mark "nat.java_lang_Math.max/float"
      Pure.pure (some (.float r))) := rfl
  have hw : wpRun (zr_max32.sem #[.float a, .float b]) (fun v s₂ _ => v = some (.float (Native.java_lang_Math.nans.pick32 true a b)) ∧ s₂ = S) (fun _ _ _ => False) e S := by
    rw [hsem, if_neg (by rw [ha]; decide), if_neg (by rw [hb]; decide)]
    simp [jvm, wpRun]
  have hw' := (wpRun_iff_run _ _ _ _ _).mp hw
  cases hr : (zr_max32.sem #[.float a, .float b]).run e S with
  | ok v s₂ acts₂ => rw [hr] at hw'; obtain ⟨rfl, rfl⟩ := hw'; exact ⟨_, rfl⟩
  | ctl x s₂ acts₂ => rw [hr] at hw'; cases x <;> exact hw'.elim
abbrev s_max32 (nx : Nat) : zStep := s_ovFF (fun a b => FP.fIsNaN a = false ∧ FP.fIsNaN b = false) (fun a b => Native.java_lang_Math.nans.pick32 true a b) nx
def zr_min64 : NativeRow := (NativeRow.find? Native.java_lang_Math.nans.rows "java/lang/Math" "min" "(DD)D").get (by decide +kernel)
set_option maxRecDepth 100000 in
theorem zrf_min64 (p : Program) : NativeRow.find? p.tables.natives "java/lang/Math" "min" "(DD)D" = some zr_min64 := by cases p <;> rfl
theorem zrr_min64 (e : Env) (a b : UInt64) (hab : FP.dIsNaN a = false ∧ FP.dIsNaN b = false) (S : State) : ∃ acts, (zr_min64.sem #[.double a, .double b]).run e S = .ok (some (.double (Native.java_lang_Math.nans.pick64 false a b))) S acts := by
  obtain ⟨ha, hb⟩ := hab
  have hsem : zr_min64.sem #[.double a, .double b] = (do
      let r ← if FP.dIsNaN a then anyNaN64 a else if FP.dIsNaN b then anyNaN64 b else Pure.pure (Native.java_lang_Math.nans.pick64 false a b)
      mark "nat.java_lang_Math.min"
      Pure.pure (some (.double r))) := rfl
  have hw : wpRun (zr_min64.sem #[.double a, .double b]) (fun v s₂ _ => v = some (.double (Native.java_lang_Math.nans.pick64 false a b)) ∧ s₂ = S) (fun _ _ _ => False) e S := by
    rw [hsem, if_neg (by rw [ha]; decide), if_neg (by rw [hb]; decide)]
    simp [jvm, wpRun]
  have hw' := (wpRun_iff_run _ _ _ _ _).mp hw
  cases hr : (zr_min64.sem #[.double a, .double b]).run e S with
  | ok v s₂ acts₂ => rw [hr] at hw'; obtain ⟨rfl, rfl⟩ := hw'; exact ⟨_, rfl⟩
  | ctl x s₂ acts₂ => rw [hr] at hw'; cases x <;> exact hw'.elim
abbrev s_min64 (nx : Nat) : zStep := s_ovDD (fun a b => FP.dIsNaN a = false ∧ FP.dIsNaN b = false) (fun a b => Native.java_lang_Math.nans.pick64 false a b) nx
def zr_min32 : NativeRow := (NativeRow.find? Native.java_lang_Math.nans.rows "java/lang/Math" "min" "(FF)F").get (by decide +kernel)
set_option maxRecDepth 100000 in
theorem zrf_min32 (p : Program) : NativeRow.find? p.tables.natives "java/lang/Math" "min" "(FF)F" = some zr_min32 := by cases p <;> rfl
theorem zrr_min32 (e : Env) (a b : UInt32) (hab : FP.fIsNaN a = false ∧ FP.fIsNaN b = false) (S : State) : ∃ acts, (zr_min32.sem #[.float a, .float b]).run e S = .ok (some (.float (Native.java_lang_Math.nans.pick32 false a b))) S acts := by
  obtain ⟨ha, hb⟩ := hab
  have hsem : zr_min32.sem #[.float a, .float b] = (do
      let r ← if FP.fIsNaN a then anyNaN32 a else if FP.fIsNaN b then anyNaN32 b else Pure.pure (Native.java_lang_Math.nans.pick32 false a b)
      mark "nat.java_lang_Math.min/float"
      Pure.pure (some (.float r))) := rfl
  have hw : wpRun (zr_min32.sem #[.float a, .float b]) (fun v s₂ _ => v = some (.float (Native.java_lang_Math.nans.pick32 false a b)) ∧ s₂ = S) (fun _ _ _ => False) e S := by
    rw [hsem, if_neg (by rw [ha]; decide), if_neg (by rw [hb]; decide)]
    simp [jvm, wpRun]
  have hw' := (wpRun_iff_run _ _ _ _ _).mp hw
  cases hr : (zr_min32.sem #[.float a, .float b]).run e S with
  | ok v s₂ acts₂ => rw [hr] at hw'; obtain ⟨rfl, rfl⟩ := hw'; exact ⟨_, rfl⟩
  | ctl x s₂ acts₂ => rw [hr] at hw'; cases x <;> exact hw'.elim
abbrev s_min32 (nx : Nat) : zStep := s_ovFF (fun a b => FP.fIsNaN a = false ∧ FP.fIsNaN b = false) (fun a b => Native.java_lang_Math.nans.pick32 false a b) nx
