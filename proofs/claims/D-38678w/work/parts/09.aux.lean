/-! the z-layer, 5: what the tables lean on -/
set_option maxRecDepth 100000 in
theorem thr_Edgefloats_38 {w : zG} {a : Array Value} {s : State} (hts : ∀ x ∈ lw_all, x.before a s = true) (h : zGK w s) : ∀ x ∈ vx_at0 "Edgefloats" 38 "java/lang/IndexOutOfBoundsException" ["java/lang/RuntimeException", "java/lang/Exception"], x.before a s = true := vx_hat (fun x hx => hts _ (lw_in _ [41, 216, 225, 229, 232, 234, 217, 218, 70, 71, 219, 224, 230, 247, 206, 248, 208, 249, 210, 220, 222, 212, 236, 237, 238, 239, 239, 240, 241, 242, 242, 243, 244, 217, 235, 195, 203, 204, 205, 207, 209, 211, 215, 214, 213] (by decide +kernel) (by decide +kernel) x hx)) (B := [.castable "java/lang/IndexOutOfBoundsException" "java/lang/IndexOutOfBoundsException", .declares ⟨"java/lang/RuntimeException", "<init>", "()V"⟩, .declares ⟨"java/lang/Exception", "<init>", "()V"⟩, .declares ⟨"java/lang/Throwable", "<init>", "()V"⟩]) (by decide +kernel) (vx_c (va_Nw.use rfl (h.2.2.2.1.1 ("java/lang/IndexOutOfBoundsException", "java/lang/IndexOutOfBoundsException") (by simp [zCa]))) (vx_c (va_Nw.use rfl (h.2.2.2.1.2 _ (by simp [zDe]))) (vx_c (va_Nw.use rfl (h.2.2.2.1.2 _ (by simp [zDe]))) (vx_c (va_Nw.use rfl (h.2.2.2.1.2 _ (by simp [zDe]))) (vx_n)))))
set_option maxRecDepth 100000 in
theorem thr_Edgefloats_41 {w : zG} {a : Array Value} {s : State} (hts : ∀ x ∈ lw_all, x.before a s = true) (h : zGK w s) : ∀ x ∈ vx_at0 "Edgefloats" 41 "java/lang/IllegalArgumentException" ["java/lang/RuntimeException", "java/lang/Exception"], x.before a s = true := vx_hat (fun x hx => hts _ (lw_in _ [41, 216, 225, 229, 232, 234, 217, 218, 70, 71, 219, 224, 230, 247, 206, 248, 208, 249, 210, 220, 222, 212, 271, 272, 273, 239, 239, 240, 241, 242, 242, 243, 244, 217, 270, 262, 264, 228, 265, 266, 267, 268, 215, 214, 269] (by decide +kernel) (by decide +kernel) x hx)) (B := [.castable "java/lang/IllegalArgumentException" "java/lang/IllegalArgumentException", .declares ⟨"java/lang/RuntimeException", "<init>", "()V"⟩, .declares ⟨"java/lang/Exception", "<init>", "()V"⟩, .declares ⟨"java/lang/Throwable", "<init>", "()V"⟩]) (by decide +kernel) (vx_c (va_Nw.use rfl (h.2.2.2.1.1 ("java/lang/IllegalArgumentException", "java/lang/IllegalArgumentException") (by simp [zCa]))) (vx_c (va_Nw.use rfl (h.2.2.2.1.2 _ (by simp [zDe]))) (vx_c (va_Nw.use rfl (h.2.2.2.1.2 _ (by simp [zDe]))) (vx_c (va_Nw.use rfl (h.2.2.2.1.2 _ (by simp [zDe]))) (vx_n)))))
theorem nd_X1 : ∀ j, j < 6 → defaultValue (tyX1 j) = vp_V [.null, .null, .int 0, .int 0, .int 0, .int 0] j := fun j hj => by rcases (show j = 0 ∨ j = 1 ∨ j = 2 ∨ j = 3 ∨ j = 4 ∨ j = 5 by omega) with rfl | rfl | rfl | rfl | rfl | rfl <;> rfl
theorem nd_J1 : ∀ j, j < 1 → defaultValue (tyJ1 j) = vp_V [.double 0] j := fun j hj => by rcases (show j = 0 by omega) with rfl <;> rfl
theorem nd_J2 : ∀ j, j < 1 → defaultValue (tyJ2 j) = vp_V [.float 0] j := fun j hj => by rcases (show j = 0 by omega) with rfl <;> rfl
theorem nd_X2 : ∀ j, j < 5 → defaultValue (tyX2 j) = vp_V [.null, .null, .int 0, .int 0, .int 0] j := fun j hj => by rcases (show j = 0 ∨ j = 1 ∨ j = 2 ∨ j = 3 ∨ j = 4 by omega) with rfl | rfl | rfl | rfl | rfl <;> rfl
theorem nd_X3 : ∀ j, j < 5 → defaultValue (tyX3 j) = vp_V [.int 0, .int 0, .long 0, .null, .int 0] j := fun j hj => by rcases (show j = 0 ∨ j = 1 ∨ j = 2 ∨ j = 3 ∨ j = 4 by omega) with rfl | rfl | rfl | rfl | rfl <;> rfl
theorem nd_X4 : ∀ j, j < 2 → defaultValue (tyX4 j) = vp_V [.long 0, .null] j := fun j hj => by rcases (show j = 0 ∨ j = 1 by omega) with rfl | rfl <;> rfl
theorem nd_J14 : ∀ j, j < 4 → defaultValue (tyJ14 j) = vp_V [.null, .int 0, .int 0, .int 0] j := fun j hj => by rcases (show j = 0 ∨ j = 1 ∨ j = 2 ∨ j = 3 by omega) with rfl | rfl | rfl | rfl <;> rfl
theorem nd_J16 : ∀ j, j < 1 → defaultValue (tyJ16 j) = vp_V [.int 0] j := fun j hj => by rcases (show j = 0 by omega) with rfl <;> rfl
theorem zna_0 {w : zG} {g : zM} {P : zPo} {own : String} {cc : ByteArray} {nL : Nat} {ret : Option FieldType} {nm : String} {hh : List (Nat × Nat × Nat × Nat)} {pc nx : Nat} (cx : zCx w g own cc nL ret nm hh) (hd0 : decode cc pc = .ok (.newarray .int, 2)) (hn : pc + 2 = nx) : zSnd w g P pc (s_newa w 0 (fun n => (n, .inl (fun _ => 0))) nx) := z_newa cx (t := 0) (atype := .int) (by decide) q701 rfl (fun U cA h => h) (by decide) (fun cA n => vp_cell_i cA n _) hd0 hn
theorem zna_1 {w : zG} {g : zM} {P : zPo} {own : String} {cc : ByteArray} {nL : Nat} {ret : Option FieldType} {nm : String} {hh : List (Nat × Nat × Nat × Nat)} {pc nx : Nat} (cx : zCx w g own cc nL ret nm hh) (hd0 : decode cc pc = .ok (.newarray .long, 2)) (hn : pc + 2 = nx) : zSnd w g P pc (s_newa w 1 (fun n => (n, .inr (.inl (fun _ => 0)))) nx) := z_newa cx (t := 1) (atype := .long) (by decide) q1509 rfl (fun U cA h => h) (by decide) (fun cA n => vp_cell_l cA n _) hd0 hn
theorem zna_2 {w : zG} {g : zM} {P : zPo} {own : String} {cc : ByteArray} {nL : Nat} {ret : Option FieldType} {nm : String} {hh : List (Nat × Nat × Nat × Nat)} {pc nx : Nat} (cx : zCx w g own cc nL ret nm hh) (hd0 : decode cc pc = .ok (.newarray .byte, 2)) (hn : pc + 2 = nx) : zSnd w g P pc (s_newa w 2 (fun n => (n, .inl (fun _ => 0))) nx) := z_newa cx (t := 2) (atype := .byte) (by decide) q746 rfl (fun U cA h => h) (by decide) (fun cA n => vp_cell_i cA n _) hd0 hn
theorem zna_3 {w : zG} {g : zM} {P : zPo} {own : String} {cc : ByteArray} {nL : Nat} {ret : Option FieldType} {nm : String} {hh : List (Nat × Nat × Nat × Nat)} {pc nx : Nat} (cx : zCx w g own cc nL ret nm hh) (hd0 : decode cc pc = .ok (.newarray .double, 2)) (hn : pc + 2 = nx) : zSnd w g P pc (s_newa w 3 (fun n => (n, .inr (.inr (.inr (.inl (fun _ => 0)))))) nx) := z_newa cx (t := 3) (atype := .double) (by decide) q908 rfl (fun U cA h => h) (by decide) (fun cA n => vp_cell_d cA n _) hd0 hn
theorem lw_F {own : String} {idx : Nat} {C : String} {x y : MethodName} {b : ByteArray} {L : Nat} {r : Option FieldType} (h1 : Cond.methodLink own idx x ∈ lw_all) (h2 : Cond.selects C x y ∈ lw_all) (h3 : Cond.instanceMethod y ∈ lw_all) (h4 : Cond.initialized y.cls ∈ lw_all) (h5 : Cond.code y b L r ∈ lw_all) : GoodIn lw_all (va_wsF own idx C x y (ws_ y b L r)) := by
  refine lw_app ?_ (lw_meth h5)
  intro w hw
  simp only [List.mem_cons, List.not_mem_nil, or_false] at hw
  rcases hw with e | e | e | e
  · rw [e]; exact h1
  · rw [e]; exact h2
  · rw [e]; exact h3
  · rw [e]; exact h4
theorem lw_O {own : String} {idx : Nat} {C owner : String} {x y : MethodName} {b : ByteArray} {L : Nat} {r : Option FieldType} (h1 : Cond.methodLink own idx x ∈ lw_all) (h2 : Cond.sameMethod x.cls owner x.name x.desc ∈ lw_all) (h3 : Cond.instanceMethod ⟨owner, x.name, x.desc⟩ ∈ lw_all) (h4 : Cond.selects C x y ∈ lw_all) (h5 : Cond.instanceMethod y ∈ lw_all) (h6 : Cond.initialized y.cls ∈ lw_all) (h7 : Cond.code y b L r ∈ lw_all) : GoodIn lw_all (va_wsO own idx C owner x y (ws_ y b L r)) := by
  refine lw_app ?_ (lw_meth h7)
  intro w hw
  simp only [List.mem_cons, List.not_mem_nil, or_false] at hw
  rcases hw with e | e | e | e | e | e
  · rw [e]; exact h1
  · rw [e]; exact h2
  · rw [e]; exact h3
  · rw [e]; exact h4
  · rw [e]; exact h5
  · rw [e]; exact h6
/-- a String constant, by its place -/
def zSC (w : zG) (own : String) (idx : Nat) (tx : String) (a : Nat) : Prop := (∀ U, w.2.2.2.2 U → vk_R own idx tx a U) ∧ zIs w a 6 w.2.1
theorem z_ldcs {w : zG} {g : zM} {P : zPo} {own : String} {cc : ByteArray} {nL : Nat} {ret : Option FieldType} {nm : String} {hh : List (Nat × Nat × Nat × Nat)} {pc nx : Nat} (cx : zCx w g own cc nL ret nm hh) {idx a : Nat} {tx : String} (h : zSC w own idx tx a) (hd0 : decode cc pc = .ok (.ldc idx, 2)) (hn : pc + 2 = nx) : zSnd w g P pc (s_pu (.ref a) nx) := by
  intro d rc rs lv st H K hK hs
  unfold s_pu at hs
  subst hn
  intro hd hl ho k n locs ls hk hn9 hlo hlv
  exact va_ldcS cx.1 cx.2.1 cx.2.2.2.2.1 (h.1 _ (cx.2.2.2.2.2.2.2.1).2.2.2.2.2.2.2.2.1) hd0 (hK _ _ _ _ _ _ hs hd hl ho k n locs ls hk hn9 hlo hlv)
theorem z_ldcfw {w : zG} {g : zM} {P : zPo} {own : String} {cc : ByteArray} {nL : Nat} {ret : Option FieldType} {nm : String} {hh : List (Nat × Nat × Nat × Nat)} {pc nx : Nat} (cx : zCx w g own cc nL ret nm hh) {idx : Nat} {v : UInt32} (hq : Cond.constantFloat own idx v ∈ lw_all) (hd0 : decode cc pc = .ok (.ldc_w idx, 3)) (hn : pc + 3 = nx) : zSnd w g P pc (s_pu (.float v) nx) := by
  intro d rc rs lv st H K hK hs
  unfold s_pu at hs
  subst hn
  intro hd hl ho k n locs ls hk hn9 hlo hlv T hT X
  obtain ⟨t, a1, b1⟩ := hK _ _ _ _ _ _ hs hd hl ho k n locs ls hk hn9 hlo hlv T hT X
  refine ⟨t, ?_, b1⟩
  obtain ⟨kk, cf, hkk, hcf, hcp⟩ := Cond.constantFloat_spec cx.2.2.2.2.1 (cx.2.2.2.2.2.1 _ hq)
  obtain ⟨k', hk', he⟩ := X.warmed.alike.2.2 _ _ hkk
  have hdg : decode (zgC g).code pc = .ok (.ldc_w idx, 3) := by rw [cx.2.1]; exact hd0
  jvm_step X.here [cx.1, hdg, ldc_w.wp_float (s := T) (f := F0 (zgm g) pc ls st) X.here.top hk' (by rw [he]; exact hcf) hcp]
  exact a1
