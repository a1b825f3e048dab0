/-! contracts: Edgefloats, other -/
theorem c0_valueOf0 {w : zG} (hw : zWf w) {t0 : Nat} {ad : Nat → Nat} (h0 : zIC w t0 ad) (H : Heap) : zCt w yJ16_valueOf wc_J16_valueOf 2 0 0 [.int 0] H (zPure (some (.ref (ad 128))) H) zNoX :=
  zCt.ofV [(0, .int 0)] hw.1 (by decide +kernel) (Nat.le_of_ble_eq_true rfl) rfl fun g cx hq _ => zwp_sound (tk_J16_valueOf h0 cx hq) [] 40
    ⟨fun h => absurd h (by decide), fun _ => ⟨fun h => absurd h (by decide), fun _ => ⟨rfl, 128, rfl, by decide, rfl, rfl⟩⟩⟩
theorem c0_intValue {w : zG} (hw : zWf w) {q : Nat} {v : Int32} {H : Heap} (h : zOb w q 8 [.int v] H) : zCt w yJ16_intValue wc_J16_intValue 0 0 0 [.ref q] H (zPure (some (.int v)) H) zNoX :=
  zCt.ofV [(0, .ref q)] hw.1 (by decide +kernel) (Nat.le_of_ble_eq_true rfl) rfl fun g cx hq _ => zwp_sound (tk_J16_intValue cx hq) [] 40 ⟨_, h, rfl, rfl⟩
theorem zIs.old {w : zG} {a ci : Nat} {H : Heap} (h : zIs w a ci w.2.1) (ho : zOld w H) : zIs w a ci H := h.kept (ho.2 a (by obtain ⟨c, h1, -⟩ := h; exact (Array.getElem?_eq_some_iff.mp h1).1))
theorem zOb.old {w : zG} {a ci : Nat} {fs : List Value} {H : Heap} (h : zOb w a ci fs w.2.1) (ho : zOld w H) : zOb w a ci fs H := h.kept (ho.2 a h.lt)

theorem c4_wideOther {w : zG} (hw : zWf w) {x aw an : Nat} {W N : Nat → Nat} {wa na rf kn : Int32} {H : Heap} (hI : zXI w x aw an W N wa na rf kn H) {a0 t0 : Nat} {ad : Nat → Nat} (hs : zSC w "Edgefloats" 209 "0" a0) (hc : zIC w t0 ad) (c i : Int32) : zCt w yX1_wideOther wc_X1_wideOther 9 3 13 [.ref x, .int c, .int i] H (fun v H' => zGr H H' ∧ (0 ≤ c ∧ c ≤ 7) ∧ (0 ≤ i ∧ i ≤ 3) ∧ v = some (.int 0)) (fun E H' => ((E = zIO ∧ ¬ (0 ≤ c ∧ c ≤ 7)) ∨ (E = zIA ∧ (0 ≤ c ∧ c ≤ 7) ∧ ¬ (0 ≤ i ∧ i ≤ 3))) ∧ zGr H H') :=
  zCt.ofV [(0, .ref x), (1, .int c), (2, .int i)] hw.1 (by decide +kernel) (Nat.le_of_ble_eq_true rfl) rfl fun g cx hq hold => zwp_sound (tk_X1_wideOtherB hs cx hq) [] 80 (by
    have ox9 := hI.choose_spec.choose_spec.2.1
    refine ⟨⟨_, ox9⟩, zat1 hw hI c (by decide) (by decide) (by decide) (fun j r e1 e2 e3 e4 => zcall.pure (ct_X1_isIn w hw.1 i 0 3 H) (by decide) (zfitq hw (by decide) (by decide) (by decide) (fun hh => ?_) (fun E H' g1 g2 g3 => ⟨Or.inr ⟨g1, by rw [e2]; exact zcellI e1, g2⟩, g3⟩))) (fun E H' f1 f2 f3 => ⟨Or.inl ⟨f1, f2⟩, f3⟩)⟩
    have hcc : 0 ≤ c ∧ c ≤ 7 := by rw [e2]; exact zcellI e1
    refine ⟨fun _ => ⟨fun _ => ⟨fun _ => ?_, fun _ => ?_⟩, fun _ => ?_⟩, fun _ => ?_⟩
    · refine zcall.pure (c0_valueOf0 hw hc H) (by decide) ⟨⟨_, hc.2.old hold⟩, zcall.pure (c0_intValue hw (hc.2.old hold)) (by decide) (zcall.ret (c2_valueOf hw (n := 0) H) (by decide) (by decide) (by decide) ?_)⟩
      rintro _ H1 ⟨rfl, p1, o1⟩ _
      exact ⟨⟨_, p1.gr.ob e3⟩, zcall.pure (c1_equalsO hw (cj := 2) rfl (by decide +kernel) o1.is) (by decide) ⟨zb1, p1.gr, hcc, hh, rfl⟩⟩
    · obtain ⟨dw, dn, h0, ox, ow, on, hw8, hn8⟩ := hI
      obtain ⟨s, h1, h2, h3⟩ := hn8 j e1
      refine ⟨_, ox, _, _, j, s, on, e2, e1, by decide, h1, ⟨_, h2⟩, zcall.pure (c2_value hw h2) (by decide) (zcall.ret (c2_valueOf hw H) (by decide) (by decide) (by decide) ?_)⟩
      rintro _ H1 ⟨rfl, p1, o1⟩ _
      exact ⟨⟨_, p1.gr.ob e3⟩, zcall.pure (c1_equalsO hw (cj := 2) rfl (by decide +kernel) o1.is) (by decide) ⟨zb1, p1.gr, hcc, hh, rfl⟩⟩
    · exact ⟨⟨_, e3⟩, zcall.pure (c1_equalsO hw (cj := 6) rfl (by decide +kernel) (hs.2.old hold)) (by decide) ⟨zb1, zGr.rf, hcc, hh, rfl⟩⟩
    · exact ⟨⟨_, e3⟩, zcall.pure (c1_equalsN hw) (by decide) ⟨zb1, zGr.rf, hcc, hh, rfl⟩⟩)

theorem c4_narrowOther {w : zG} (hw : zWf w) {x aw an : Nat} {W N : Nat → Nat} {wa na rf kn : Int32} {H : Heap} (hI : zXI w x aw an W N wa na rf kn H) {a0 t0 : Nat} {ad : Nat → Nat} (hs : zSC w "Edgefloats" 209 "0" a0) (hc : zIC w t0 ad) (c i : Int32) : zCt w yX1_narrowOther wc_X1_narrowOther 9 3 13 [.ref x, .int c, .int i] H (fun v H' => zGr H H' ∧ (0 ≤ c ∧ c ≤ 7) ∧ (0 ≤ i ∧ i ≤ 3) ∧ v = some (.int 0)) (fun E H' => ((E = zIO ∧ ¬ (0 ≤ c ∧ c ≤ 7)) ∨ (E = zIA ∧ (0 ≤ c ∧ c ≤ 7) ∧ ¬ (0 ≤ i ∧ i ≤ 3))) ∧ zGr H H') :=
  zCt.ofV [(0, .ref x), (1, .int c), (2, .int i)] hw.1 (by decide +kernel) (Nat.le_of_ble_eq_true rfl) rfl fun g cx hq hold => zwp_sound (tk_X1_narrowOtherB hs cx hq) [] 80 (by
    have ox9 := hI.choose_spec.choose_spec.2.1
    refine ⟨⟨_, ox9⟩, zat2 hw hI c (by decide) (by decide) (by decide) (fun j r e1 e2 e3 e4 => zcall.pure (ct_X1_isIn w hw.1 i 0 3 H) (by decide) (zfitq hw (by decide) (by decide) (by decide) (fun hh => ?_) (fun E H' g1 g2 g3 => ⟨Or.inr ⟨g1, by rw [e2]; exact zcellI e1, g2⟩, g3⟩))) (fun E H' f1 f2 f3 => ⟨Or.inl ⟨f1, f2⟩, f3⟩)⟩
    have hcc : 0 ≤ c ∧ c ≤ 7 := by rw [e2]; exact zcellI e1
    refine ⟨fun _ => ⟨fun _ => ⟨fun _ => ?_, fun _ => ?_⟩, fun _ => ?_⟩, fun _ => ?_⟩
    · refine zcall.pure (c0_valueOf0 hw hc H) (by decide) ⟨⟨_, hc.2.old hold⟩, zcall.pure (c0_intValue hw (hc.2.old hold)) (by decide) (zcall.ret (c1_valueOf hw (n := 0) H) (by decide) (by decide) (by decide) ?_)⟩
      rintro _ H1 ⟨rfl, p1, o1⟩ _
      exact ⟨⟨_, p1.gr.ob e3⟩, zcall.pure (c2_equalsO hw (cj := 1) rfl (by decide +kernel) o1.is) (by decide) ⟨zb1, p1.gr, hcc, hh, rfl⟩⟩
    · obtain ⟨dw, dn, h0, ox, ow, on, hw8, hn8⟩ := hI
      obtain ⟨s, h1, h2, h3⟩ := hw8 j e1
      refine ⟨_, ox, _, _, j, s, ow, e2, e1, by decide, h1, ⟨_, h2⟩, zcall.pure (c1_value hw h2) (by decide) (zcall.ret (c1_valueOf hw H) (by decide) (by decide) (by decide) ?_)⟩
      rintro _ H1 ⟨rfl, p1, o1⟩ _
      exact ⟨⟨_, p1.gr.ob e3⟩, zcall.pure (c2_equalsO hw (cj := 1) rfl (by decide +kernel) o1.is) (by decide) ⟨zb1, p1.gr, hcc, hh, rfl⟩⟩
    · exact ⟨⟨_, e3⟩, zcall.pure (c2_equalsO hw (cj := 6) rfl (by decide +kernel) (hs.2.old hold)) (by decide) ⟨zb1, zGr.rf, hcc, hh, rfl⟩⟩
    · exact ⟨⟨_, e3⟩, zcall.pure (c2_equalsN hw) (by decide) ⟨zb1, zGr.rf, hcc, hh, rfl⟩⟩)
