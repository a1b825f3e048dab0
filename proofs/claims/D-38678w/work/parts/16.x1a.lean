/-! contracts: Edgefloats, what all ops stand on -/
def zup {α : Type} (C : Nat → α) (j : Nat) (n : α) : Nat → α := fun k => if k = j then n else C k
abbrev zrefs (d : Nat → Option Nat) : vp_A := (8, .inr (.inr (.inr (.inr d))))
/-- the object x with its rows at aw, an; their numbers W, N; the four counts -/
def zXI (w : zG) (x aw an : Nat) (W N : Nat → Nat) (wa na rf kn : Int32) (H : Heap) : Prop :=
  ∃ dw dn : Nat → Option Nat, (zNew w x ∧ zNew w aw ∧ zNew w an) ∧ zOb w x 0 [.ref aw, .ref an, .int wa, .int na, .int rf, .int kn] H ∧ zAr w aw 4 (zrefs dw) H ∧ zAr w an 5 (zrefs dn) H ∧
    (∀ k, k < 8 → ∃ r, dw k = some r ∧ zOb w r 1 [dv (W k)] H ∧ zok 63 (W k)) ∧ (∀ k, k < 8 → ∃ r, dn k = some r ∧ zOb w r 2 [fv (N k)] H ∧ zok 31 (N k))
theorem zGr.rf {H : Heap} : zGr H H := ⟨Nat.le_refl _, fun _ _ => rfl⟩
theorem zGr.trans {H H1 H2 : Heap} (a : zGr H H1) (b : zGr H1 H2) : zGr H H2 := ⟨Nat.le_trans a.1 b.1, fun q hq => (b.2 q (Nat.lt_of_lt_of_le hq a.1)).trans (a.2 q hq)⟩
theorem zPush.gr {H H' : Heap} (h : zPush H H') : zGr H H' := ⟨by rw [h.1]; omega, h.2⟩
theorem zGr.ob {w : zG} {a ci : Nat} {fs : List Value} {H H' : Heap} (h : zGr H H') (o : zOb w a ci fs H) : zOb w a ci fs H' := o.kept (h.2 a o.lt)
theorem zGr.ar {w : zG} {a t : Nat} {x : vp_A} {H H' : Heap} (h : zGr H H') (o : zAr w a t x H) : zAr w a t x H' := o.kept (h.2 a o.lt)
theorem zUpd.ob {w : zG} {a b ci : Nat} {fs : List Value} {H H' : Heap} (h : zUpd H H' b) (o : zOb w a ci fs H) (hne : a ≠ b) : zOb w a ci fs H' := o.kept (h.2 a hne)
theorem zUpd.ar {w : zG} {a b t : Nat} {x : vp_A} {H H' : Heap} (h : zUpd H H' b) (o : zAr w a t x H) (hne : a ≠ b) : zAr w a t x H' := o.kept (h.2 a hne)
theorem zXI.gr {w : zG} {x aw an : Nat} {W N : Nat → Nat} {wa na rf kn : Int32} {H H' : Heap} (g : zGr H H') (h : zXI w x aw an W N wa na rf kn H) : zXI w x aw an W N wa na rf kn H' := by
  obtain ⟨dw, dn, h0, ox, ow, on, hw8, hn8⟩ := h
  refine ⟨dw, dn, h0, g.ob ox, g.ar ow, g.ar on, fun k hk => ?_, fun k hk => ?_⟩
  · obtain ⟨r, h1, h2, h3⟩ := hw8 k hk; exact ⟨r, h1, g.ob h2, h3⟩
  · obtain ⟨r, h1, h2, h3⟩ := hn8 k hk; exact ⟨r, h1, g.ob h2, h3⟩
/-- what an op leaves alone -/
def zFr (x aw an : Nat) (H H' : Heap) : Prop := H.size ≤ H'.size ∧ ∀ q : Nat, q < H.size → q ≠ x → q ≠ aw → q ≠ an → H'[q]? = H[q]?
theorem zFr.rf {x aw an : Nat} {H : Heap} : zFr x aw an H H := ⟨Nat.le_refl _, fun _ _ _ _ _ => rfl⟩
theorem zGr.fr {x aw an : Nat} {H H' : Heap} (g : zGr H H') : zFr x aw an H H' := ⟨g.1, fun q hq _ _ _ => g.2 q hq⟩
theorem zFr.trans {x aw an : Nat} {H H1 H2 : Heap} (a : zFr x aw an H H1) (b : zFr x aw an H1 H2) : zFr x aw an H H2 := ⟨Nat.le_trans a.1 b.1, fun q hq h1 h2 h3 => (b.2 q (Nat.lt_of_lt_of_le hq a.1) h1 h2 h3).trans (a.2 q hq h1 h2 h3)⟩
theorem zUpd.fr {x aw an b : Nat} {H H' : Heap} (h : zUpd H H' b) (hb : b = x ∨ b = aw ∨ b = an) : zFr x aw an H H' := ⟨by rw [h.1]; exact Nat.le_refl _, fun q _ h1 h2 h3 => h.2 q (by rintro rfl; rcases hb with e | e | e; exact h1 e; exact h2 e; exact h3 e)⟩
theorem zcell {c : Int32} (h : 0 ≤ c ∧ c ≤ 7) : ∃ j, j < 8 ∧ c = nI j := by
  obtain ⟨j, h1, h2⟩ := nI_of2 (M := 7) (n := 7) rfl (Int32.not_lt.mpr h.1) h.2
  exact ⟨j, by omega, h2⟩
theorem zcellI {j : Nat} (h : j < 8) : 0 ≤ nI j ∧ nI j ≤ 7 := ⟨nI_pos' (by omega), (nI_leI (a := j) (b := 7) (by omega) (by decide)).mpr (by omega)⟩
theorem znIi {i j : Nat} (hi : i < 8) (hj : j < 8) (h : nI i = nI j) : i = j := (nI_eq (by omega) (by omega)).mp h
abbrev zT (b : Bool) : Int32 := if b then 1 else 0
theorem c4_bit {w : zG} (hw : zWf w) (b : Int32) (H : Heap) : zCt w yX1_bit wc_X1_bit 0 0 0 [.int b] H (zPure (some (.int (if b = 0 then 0 else 1))) H) zNoX :=
  zCt.ofV [(0, .int b)] hw.1 (by decide +kernel) (Nat.le_of_ble_eq_true rfl) rfl fun g cx hq _ => zwp_sound (tk_X1_bit cx hq) [] 40
    ⟨fun h => ⟨by rw [if_pos h], rfl⟩, fun h => ⟨by rw [if_neg h], rfl⟩⟩
theorem c4_mustFit {w : zG} (hw : zWf w) (b : Int32) (H : Heap) : zCt w yX1_mustFit wc_X1_mustFit 6 1 6 [.int b] H (fun r H' => r = none ∧ H' = H ∧ b ≠ 0) (fun E H' => E = zIA ∧ b = 0 ∧ zGr H H') :=
  zCt.ofV [(0, .int b)] hw.1 (by decide +kernel) (Nat.le_of_ble_eq_true rfl) rfl fun g cx hq _ => zwp_sound (tk_X1_mustFit cx hq) [] 40
    ⟨fun h => ⟨rfl, rfl, h⟩, fun h => ⟨by decide, by decide, by decide, fun H' h1 h2 => ⟨rfl, h, h1, h2⟩⟩⟩
theorem c4_refused {w : zG} (hw : zWf w) {x aw an : Nat} {W N : Nat → Nat} {wa na rf kn : Int32} {H : Heap} (hI : zXI w x aw an W N wa na rf kn H) : zCt w yX1_refused wc_X1_refused 0 0 0 [.ref x] H (fun r H' => r = some (.int (-9)) ∧ zXI w x aw an W N wa na (rf + 1) kn H' ∧ zFr x aw an H H') zNoX :=
  zCt.ofV [(0, .ref x)] hw.1 (by decide +kernel) (Nat.le_of_ble_eq_true rfl) rfl fun g cx hq _ => zwp_sound (tk_X1_refused cx hq) [] 40 (by
    obtain ⟨dw, dn, h0, ox, ow, on, hw8, hn8⟩ := hI
    refine ⟨_, ox, _, ox, h0.1, fun H1 u1 o1 => ⟨rfl, ⟨dw, dn, h0, o1, u1.ar ow (fun e => (ox.neA hw ow (by decide)) e.symm), u1.ar on (fun e => (ox.neA hw on (by decide)) e.symm), fun k hk => ?_, fun k hk => ?_⟩, u1.fr (Or.inl rfl)⟩⟩
    · obtain ⟨r, h1, h2, h3⟩ := hw8 k hk; exact ⟨r, h1, u1.ob h2 (h2.ne hw ox (by decide)), h3⟩
    · obtain ⟨r, h1, h2, h3⟩ := hn8 k hk; exact ⟨r, h1, u1.ob h2 (h2.ne hw ox (by decide)), h3⟩)
theorem c4_knock {w : zG} (hw : zWf w) {x aw an : Nat} {W N : Nat → Nat} {wa na rf kn : Int32} {H : Heap} (hI : zXI w x aw an W N wa na rf kn H) : zCt w yX1_knock wc_X1_knock 0 0 0 [.ref x] H (fun r H' => r = some (.int (kn + 1)) ∧ zXI w x aw an W N wa na rf (kn + 1) H' ∧ zFr x aw an H H') zNoX :=
  zCt.ofV [(0, .ref x)] hw.1 (by decide +kernel) (Nat.le_of_ble_eq_true rfl) rfl fun g cx hq _ => zwp_sound (tk_X1_knock cx hq) [] 40 (by
    obtain ⟨dw, dn, h0, ox, ow, on, hw8, hn8⟩ := hI
    refine ⟨_, ox, _, ox, h0.1, fun H1 u1 o1 => ⟨_, o1, rfl, ⟨dw, dn, h0, o1, u1.ar ow (fun e => (ox.neA hw ow (by decide)) e.symm), u1.ar on (fun e => (ox.neA hw on (by decide)) e.symm), fun k hk => ?_, fun k hk => ?_⟩, u1.fr (Or.inl rfl)⟩⟩
    · obtain ⟨r, h1, h2, h3⟩ := hw8 k hk; exact ⟨r, h1, u1.ob h2 (h2.ne hw ox (by decide)), h3⟩
    · obtain ⟨r, h1, h2, h3⟩ := hn8 k hk; exact ⟨r, h1, u1.ob h2 (h2.ne hw ox (by decide)), h3⟩)
theorem c4_signum {w : zG} (hw : zWf w) (i j : Int) (H : Heap) : zCt w yJ16_signum wc_J16_signum 0 0 0 [.int (zcmp i j)] H (zPure (some (.int (zcmp i j))) H) zNoX :=
  zCt.ofV [(0, .int (zcmp i j))] hw.1 (by decide +kernel) (Nat.le_of_ble_eq_true rfl) rfl fun g cx hq _ => zwp_sound (tk_J16_signum cx hq) [] 40 ⟨by unfold zcmp; split; rfl; split; rfl; rfl, rfl⟩

theorem c4_wideAt {w : zG} (hw : zWf w) {x aw an : Nat} {W N : Nat → Nat} {wa na rf kn : Int32} {H : Heap} (hI : zXI w x aw an W N wa na rf kn H) (c : Int32) : zCt w yX1_wideAt wc_X1_wideAt 7 1 6 [.ref x, .int c] H (fun v H' => H' = H ∧ ∃ j r, j < 8 ∧ c = nI j ∧ v = some (.ref r) ∧ zOb w r 1 [dv (W j)] H ∧ zok 63 (W j)) (fun E H' => E = zIO ∧ ¬ (0 ≤ c ∧ c ≤ 7) ∧ zGr H H') :=
  zCt.ofV [(0, .ref x), (1, .int c)] hw.1 (by decide +kernel) (Nat.le_of_ble_eq_true rfl) rfl fun g cx hq _ => zwp_sound (tk_X1_wideAt cx hq) [] 80 (by
    obtain ⟨dw, dn, h0, ox, ow, on, hw8, hn8⟩ := hI
    refine zcall.mk (ct_X1_mustBeCell w hw.1 c H) (by decide) (by decide) (by decide) ?_ (fun E H' h _ => h)
    rintro _ _ ⟨rfl, rfl, hc⟩ _
    obtain ⟨j, hj, rfl⟩ := zcell hc
    obtain ⟨r, h1, h2, h3⟩ := hw8 j hj
    exact ⟨_, ox, _, _, j, r, ow, rfl, hj, by decide, h1, rfl, j, r, hj, rfl, rfl, h2, h3⟩)
theorem c4_widePut {w : zG} (hw : zWf w) {x aw an : Nat} {W N : Nat → Nat} {wa na rf kn : Int32} {H : Heap} (hI : zXI w x aw an W N wa na rf kn H) (c : Int32) {r n : Nat} (hr : zOb w r 1 [dv n] H) (hn : zok 63 n) : zCt w yX1_widePut wc_X1_widePut 7 1 6 [.ref x, .int c, .ref r] H (fun v H' => ∃ j, j < 8 ∧ c = nI j ∧ v = some (.int (if W j = n then 0 else 1)) ∧ zXI w x aw an (zup W j n) N (wa + 1) na rf kn H' ∧ zFr x aw an H H') (fun E H' => E = zIO ∧ ¬ (0 ≤ c ∧ c ≤ 7) ∧ zGr H H') :=
  zCt.ofV [(0, .ref x), (1, .int c), (2, .ref r)] hw.1 (by decide +kernel) (Nat.le_of_ble_eq_true rfl) rfl fun g cx hq _ => zwp_sound (tk_X1_widePut cx hq) [] 80 (by
    obtain ⟨dw, dn, h0, ox, ow, on, hw8, hn8⟩ := hI
    refine zcall.mk (ct_X1_mustBeCell w hw.1 c H) (by decide) (by decide) (by decide) ?_ (fun E H' h _ => h)
    rintro _ _ ⟨rfl, rfl, hc⟩ _
    obtain ⟨j, hj, rfl⟩ := zcell hc
    obtain ⟨q, h1, h2, h3⟩ := hw8 j hj
    refine ⟨_, ox, _, _, j, q, ow, rfl, hj, by decide, h1, _, ox, _, _, j, ow, rfl, hj, by decide, h0.2.1, ⟨_, hr⟩, fun H1 u1 a1 => ?_⟩
    have ox1 := u1.ob ox (ox.neA hw ow (by decide))
    have hr1 := u1.ob hr (hr.neA hw ow (by decide))
    have hq1 := u1.ob h2 (h2.neA hw ow (by decide))
    refine ⟨_, ox1, _, ox1, h0.1, fun H2 u2 o2 => ?_⟩
    have hr2 := u2.ob hr1 (hr1.ne hw ox1 (by decide))
    have hq2 := u2.ob hq1 (hq1.ne hw ox1 (by decide))
    have fin : zXI w x aw an (zup W j n) N (wa + 1) na rf kn H2 := by
      refine ⟨va_up dw j (some r), dn, h0, o2, u2.ar a1 (fun e => (ox1.neA hw a1 (by decide)) e.symm), u2.ar (u1.ar on (on.ne hw ow (by decide) (by decide) (by decide))) (fun e => (ox1.neA hw (u1.ar on (on.ne hw ow (by decide) (by decide) (by decide))) (by decide)) e.symm), fun k hk => ?_, fun k hk => ?_⟩
      · unfold zup va_up
        by_cases e : k = j
        · rw [if_pos e, if_pos e]; exact ⟨r, rfl, hr2, hn⟩
        · rw [if_neg e, if_neg e]
          obtain ⟨s, g1, g2, g3⟩ := hw8 k hk
          have g4 := u1.ob g2 (g2.neA hw ow (by decide))
          exact ⟨s, g1, u2.ob g4 (g4.ne hw ox1 (by decide)), g3⟩
      · obtain ⟨s, g1, g2, g3⟩ := hn8 k hk
        have g4 := u1.ob g2 (g2.neA hw ow (by decide))
        exact ⟨s, g1, u2.ob g4 (g4.ne hw ox1 (by decide)), g3⟩
    have hfr : zFr x aw an _ H2 := (u1.fr (Or.inr (Or.inl rfl))).trans (u2.fr (Or.inl rfl))
    refine ⟨⟨_, hq2⟩, zcall.pure (c1_equals hw h3 hn hq2 hr2) (by decide) ?_⟩
    by_cases he : W j = n
    · rw [if_pos he]
      exact ⟨fun _ => zcall.pure (c4_bit hw 0 H2) (by decide) ⟨j, hj, rfl, by rw [if_pos he]; rfl, fin, hfr⟩, fun h => absurd h (by decide)⟩
    · rw [if_neg he]
      exact ⟨fun h => absurd rfl h, fun _ => zcall.pure (c4_bit hw 1 H2) (by decide) ⟨j, hj, rfl, by rw [if_neg he]; rfl, fin, hfr⟩⟩)

/-- a step that reads a cell -/
theorem zat1 {w : zG} (hw : zWf w) {x aw an : Nat} {W N : Nat → Nat} {wa na rf kn : Int32} {H : Heap} (hI : zXI w x aw an W N wa na rf kn H) (c : Int32) {d rc rs : Nat} {K : Nat → Nat → Option Value → Heap → Prop} {KX : Nat → Nat → String → Heap → Prop} (hd : 8 ≤ d) (h1 : 1 ≤ rc) (h2 : 6 ≤ rs) (k : ∀ j r, j < 8 → c = nI j → zOb w r 1 [dv (W j)] H → zok 63 (W j) → K 1 6 (some (.ref r)) H) (kx : ∀ E H', E = zIO → ¬ (0 ≤ c ∧ c ≤ 7) → zGr H H' → KX 1 6 E H') : zcall w yX1_wideAt wc_X1_wideAt [.ref x, .int c] H d rc rs K KX :=
  zcall.mk (c4_wideAt hw hI c) (by omega) h1 h2 (by rintro v _ ⟨rfl, j, r, e1, e2, rfl, e4, e5⟩ _; exact k j r e1 e2 e4 e5) (by rintro E H' ⟨e1, e2, e3⟩ _; exact kx E H' e1 e2 e3)
/-- a step that writes a cell -/
theorem zput1 {w : zG} (hw : zWf w) {x aw an : Nat} {W N : Nat → Nat} {wa na rf kn : Int32} {H : Heap} (hI : zXI w x aw an W N wa na rf kn H) (c : Int32) {r n d rc rs : Nat} (hr : zOb w r 1 [dv n] H) (hn : zok 63 n) {K : Nat → Nat → Option Value → Heap → Prop} {KX : Nat → Nat → String → Heap → Prop} (hd : 8 ≤ d) (h1 : 1 ≤ rc) (h2 : 6 ≤ rs) (k : ∀ j H', j < 8 → c = nI j → zXI w x aw an (zup W j n) N (wa + 1) na rf kn H' → zFr x aw an H H' → K 1 6 (some (.int (if W j = n then 0 else 1))) H') (kx : ∀ E H', E = zIO → ¬ (0 ≤ c ∧ c ≤ 7) → zGr H H' → KX 1 6 E H') : zcall w yX1_widePut wc_X1_widePut [.ref x, .int c, .ref r] H d rc rs K KX :=
  zcall.mk (c4_widePut hw hI c hr hn) (by omega) h1 h2 (by rintro v H' ⟨j, e1, e2, rfl, e4, e5⟩ _; exact k j H' e1 e2 e4 e5) (by rintro E H' ⟨e1, e2, e3⟩ _; exact kx E H' e1 e2 e3)
theorem c4_wideCopy {w : zG} (hw : zWf w) {x aw an : Nat} {W N : Nat → Nat} {wa na rf kn : Int32} {H : Heap} (hI : zXI w x aw an W N wa na rf kn H) (c i : Int32) : zCt w yX1_wideCopy wc_X1_wideCopy 9 2 12 [.ref x, .int c, .int i] H (fun v H' => ∃ j k, j < 8 ∧ k < 8 ∧ c = nI j ∧ i = nI k ∧ v = some (.int (if W k = W j then 0 else 1)) ∧ zXI w x aw an (zup W k (W j)) N (wa + 1) na rf kn H' ∧ zFr x aw an H H') (fun E H' => E = zIO ∧ (¬ (0 ≤ c ∧ c ≤ 7) ∨ ¬ (0 ≤ i ∧ i ≤ 7)) ∧ zGr H H') :=
  zCt.ofV [(0, .ref x), (1, .int c), (2, .int i)] hw.1 (by decide +kernel) (Nat.le_of_ble_eq_true rfl) rfl fun g cx hq _ => zwp_sound (tk_X1_wideCopy cx hq) [] 80 
    ⟨⟨_, hI.choose_spec.choose_spec.2.1⟩, zat1 hw hI c (by decide) (by decide) (by decide) (fun j r e1 e2 e3 e4 => ⟨⟨_, hI.choose_spec.choose_spec.2.1⟩, zput1 hw hI i e3 e4 (by decide) (by decide) (by decide) (fun k H' f1 f2 f3 f4 => ⟨j, k, e1, f1, e2, f2, rfl, f3, f4⟩) (fun E H' f1 f2 f3 => ⟨f1, Or.inr f2, f3⟩)⟩) (fun E H' f1 f2 f3 => ⟨f1, Or.inl f2, f3⟩)⟩
theorem c4_wideSwap {w : zG} (hw : zWf w) {x aw an : Nat} {W N : Nat → Nat} {wa na rf kn : Int32} {H : Heap} (hI : zXI w x aw an W N wa na rf kn H) (c i : Int32) : zCt w yX1_wideSwap wc_X1_wideSwap 9 3 18 [.ref x, .int c, .int i] H (fun v H' => ∃ j k, j < 8 ∧ k < 8 ∧ c = nI j ∧ i = nI k ∧ v = some (.int (if W j = W k then 0 else 1)) ∧ zXI w x aw an (zup (zup W k (W j)) j (W k)) N (wa + 1) na rf kn H' ∧ zFr x aw an H H') (fun E H' => E = zIO ∧ (¬ (0 ≤ c ∧ c ≤ 7) ∨ ¬ (0 ≤ i ∧ i ≤ 7)) ∧ zGr H H') :=
  zCt.ofV [(0, .ref x), (1, .int c), (2, .int i)] hw.1 (by decide +kernel) (Nat.le_of_ble_eq_true rfl) rfl fun g cx hq _ => zwp_sound (tk_X1_wideSwap cx hq) [] 80 (by
    have ox9 := hI.choose_spec.choose_spec.2.1
    refine ⟨⟨_, ox9⟩, zat1 hw hI c (by decide) (by decide) (by decide) (fun j r e1 e2 e3 e4 => ⟨⟨_, ox9⟩, zat1 hw hI i (by decide) (by decide) (by decide) (fun k s f1 f2 f3 f4 => ?_) (fun E H' f1 f2 f3 => ⟨f1, Or.inr f2, f3⟩)⟩) (fun E H' f1 f2 f3 => ⟨f1, Or.inl f2, f3⟩)⟩
    obtain ⟨dw, dn, h0, ox, ow, on, hw8, hn8⟩ := hI
    refine ⟨_, ox, _, _, k, ow, f2, f1, by decide, h0.2.1, ⟨_, e3⟩, fun H1 u1 a1 => ?_⟩
    have ox1 := u1.ob ox (ox.neA hw ow (by decide))
    have I1 : zXI w x aw an (zup W k (W j)) N (wa) na rf kn H1 := by
      refine ⟨va_up dw k (some r), dn, h0, ox1, a1, u1.ar on (on.ne hw ow (by decide) (by decide) (by decide)), fun m hm => ?_, fun m hm => ?_⟩
      · unfold zup va_up
        by_cases e : m = k
        · rw [if_pos e, if_pos e]; exact ⟨r, rfl, u1.ob e3 (e3.neA hw ow (by decide)), e4⟩
        · rw [if_neg e, if_neg e]
          obtain ⟨s, g1, g2, g3⟩ := hw8 m hm
          exact ⟨s, g1, u1.ob g2 (g2.neA hw ow (by decide)), g3⟩
      · obtain ⟨s, g1, g2, g3⟩ := hn8 m hm
        exact ⟨s, g1, u1.ob g2 (g2.neA hw ow (by decide)), g3⟩
    refine ⟨⟨_, ox1⟩, zput1 hw I1 c (u1.ob f3 (f3.neA hw ow (by decide))) f4 (by decide) (by decide) (by decide) (fun l H' g1 g2 g3 g4 => ?_) (fun E H' g1 g2 g3 => absurd (by rw [e2]; exact zcellI e1) g2)⟩
    obtain rfl := znIi e1 g1 (e2.symm.trans g2)
    refine ⟨j, k, e1, f1, e2, f2, ?_, g3, (u1.fr (Or.inr (Or.inl rfl))).trans g4⟩
    unfold zup
    by_cases hjk : j = k
    · subst hjk; rw [if_pos rfl]
    · rw [if_neg hjk])
theorem c4_wideMax {w : zG} (hw : zWf w) {x aw an : Nat} {W N : Nat → Nat} {wa na rf kn : Int32} {H : Heap} (hI : zXI w x aw an W N wa na rf kn H) (c i o : Int32) : zCt w yX1_wideMax wc_X1_wideMax 9 4 20 [.ref x, .int c, .int i, .int o] H (fun v H' => ∃ j k m, j < 8 ∧ k < 8 ∧ m < 8 ∧ c = nI j ∧ i = nI k ∧ o = nI m ∧ v = some (.int (if W m = (if zrnk 63 (W k) ≤ zrnk 63 (W j) then W j else W k) then 0 else 1)) ∧ zXI w x aw an (zup W m (if zrnk 63 (W k) ≤ zrnk 63 (W j) then W j else W k)) N (wa + 1) na rf kn H' ∧ zFr x aw an H H') (fun E H' => E = zIO ∧ (¬ (0 ≤ c ∧ c ≤ 7) ∨ ¬ (0 ≤ i ∧ i ≤ 7) ∨ ¬ (0 ≤ o ∧ o ≤ 7)) ∧ zGr H H') :=
  zCt.ofV [(0, .ref x), (1, .int c), (2, .int i), (3, .int o)] hw.1 (by decide +kernel) (Nat.le_of_ble_eq_true rfl) rfl fun g cx hq _ => zwp_sound (tk_X1_wideMax cx hq) [] 80 (by
    have ox9 := hI.choose_spec.choose_spec.2.1
    refine ⟨⟨_, ox9⟩, zat1 hw hI c (by decide) (by decide) (by decide) (fun j r e1 e2 e3 e4 => ⟨⟨_, e3⟩, zcall.pure (c1_value hw e3) (by decide) ⟨⟨_, ox9⟩, zat1 hw hI i (by decide) (by decide) (by decide) (fun k s f1 f2 f3 f4 => ⟨⟨_, f3⟩, zcall.pure (c1_value hw f3) (by decide) (zcall.pure (c1_max hw e4 f4 H) (by decide) (zcall.ret (c1_valueOf hw H) (by decide) (by decide) (by decide) ?_))⟩) (fun E H' f1 f2 f3 => ⟨f1, Or.inr (Or.inl f2), f3⟩)⟩⟩) (fun E H' f1 f2 f3 => ⟨f1, Or.inl f2, f3⟩)⟩
    rintro _ H1 ⟨rfl, p1, o1⟩ _
    have hz : zok 63 (if zrnk 63 (W k) ≤ zrnk 63 (W j) then W j else W k) := by split; exact e4; exact f4
    exact ⟨⟨_, p1.gr.ob ox9⟩, zput1 hw (hI.gr p1.gr) o o1 hz (by decide) (by decide) (by decide) (fun m H' g1 g2 g3 g4 => ⟨j, k, m, e1, f1, g1, e2, f2, g2, rfl, g3, p1.gr.fr.trans g4⟩) (fun E H' g1 g2 g3 => ⟨g1, Or.inr (Or.inr g2), p1.gr.trans g3⟩)⟩)
theorem c4_wideMin {w : zG} (hw : zWf w) {x aw an : Nat} {W N : Nat → Nat} {wa na rf kn : Int32} {H : Heap} (hI : zXI w x aw an W N wa na rf kn H) (c i o : Int32) : zCt w yX1_wideMin wc_X1_wideMin 9 4 20 [.ref x, .int c, .int i, .int o] H (fun v H' => ∃ j k m, j < 8 ∧ k < 8 ∧ m < 8 ∧ c = nI j ∧ i = nI k ∧ o = nI m ∧ v = some (.int (if W m = (if zrnk 63 (W j) ≤ zrnk 63 (W k) then W j else W k) then 0 else 1)) ∧ zXI w x aw an (zup W m (if zrnk 63 (W j) ≤ zrnk 63 (W k) then W j else W k)) N (wa + 1) na rf kn H' ∧ zFr x aw an H H') (fun E H' => E = zIO ∧ (¬ (0 ≤ c ∧ c ≤ 7) ∨ ¬ (0 ≤ i ∧ i ≤ 7) ∨ ¬ (0 ≤ o ∧ o ≤ 7)) ∧ zGr H H') :=
  zCt.ofV [(0, .ref x), (1, .int c), (2, .int i), (3, .int o)] hw.1 (by decide +kernel) (Nat.le_of_ble_eq_true rfl) rfl fun g cx hq _ => zwp_sound (tk_X1_wideMin cx hq) [] 80 (by
    have ox9 := hI.choose_spec.choose_spec.2.1
    refine ⟨⟨_, ox9⟩, zat1 hw hI c (by decide) (by decide) (by decide) (fun j r e1 e2 e3 e4 => ⟨⟨_, e3⟩, zcall.pure (c1_value hw e3) (by decide) ⟨⟨_, ox9⟩, zat1 hw hI i (by decide) (by decide) (by decide) (fun k s f1 f2 f3 f4 => ⟨⟨_, f3⟩, zcall.pure (c1_value hw f3) (by decide) (zcall.pure (c1_min hw e4 f4 H) (by decide) (zcall.ret (c1_valueOf hw H) (by decide) (by decide) (by decide) ?_))⟩) (fun E H' f1 f2 f3 => ⟨f1, Or.inr (Or.inl f2), f3⟩)⟩⟩) (fun E H' f1 f2 f3 => ⟨f1, Or.inl f2, f3⟩)⟩
    rintro _ H1 ⟨rfl, p1, o1⟩ _
    have hz : zok 63 (if zrnk 63 (W j) ≤ zrnk 63 (W k) then W j else W k) := by split; exact e4; exact f4
    exact ⟨⟨_, p1.gr.ob ox9⟩, zput1 hw (hI.gr p1.gr) o o1 hz (by decide) (by decide) (by decide) (fun m H' g1 g2 g3 g4 => ⟨j, k, m, e1, f1, g1, e2, f2, g2, rfl, g3, p1.gr.fr.trans g4⟩) (fun E H' g1 g2 g3 => ⟨g1, Or.inr (Or.inr g2), p1.gr.trans g3⟩)⟩)

theorem c4_narrowAt {w : zG} (hw : zWf w) {x aw an : Nat} {W N : Nat → Nat} {wa na rf kn : Int32} {H : Heap} (hI : zXI w x aw an W N wa na rf kn H) (c : Int32) : zCt w yX1_narrowAt wc_X1_narrowAt 7 1 6 [.ref x, .int c] H (fun v H' => H' = H ∧ ∃ j r, j < 8 ∧ c = nI j ∧ v = some (.ref r) ∧ zOb w r 2 [fv (N j)] H ∧ zok 31 (N j)) (fun E H' => E = zIO ∧ ¬ (0 ≤ c ∧ c ≤ 7) ∧ zGr H H') :=
  zCt.ofV [(0, .ref x), (1, .int c)] hw.1 (by decide +kernel) (Nat.le_of_ble_eq_true rfl) rfl fun g cx hq _ => zwp_sound (tk_X1_narrowAt cx hq) [] 80 (by
    obtain ⟨dw, dn, h0, ox, ow, on, hw8, hn8⟩ := hI
    refine zcall.mk (ct_X1_mustBeCell w hw.1 c H) (by decide) (by decide) (by decide) ?_ (fun E H' h _ => h)
    rintro _ _ ⟨rfl, rfl, hc⟩ _
    obtain ⟨j, hj, rfl⟩ := zcell hc
    obtain ⟨r, h1, h2, h3⟩ := hn8 j hj
    exact ⟨_, ox, _, _, j, r, on, rfl, hj, by decide, h1, rfl, j, r, hj, rfl, rfl, h2, h3⟩)
theorem c4_narrowPut {w : zG} (hw : zWf w) {x aw an : Nat} {W N : Nat → Nat} {wa na rf kn : Int32} {H : Heap} (hI : zXI w x aw an W N wa na rf kn H) (c : Int32) {r n : Nat} (hr : zOb w r 2 [fv n] H) (hn : zok 31 n) : zCt w yX1_narrowPut wc_X1_narrowPut 7 1 6 [.ref x, .int c, .ref r] H (fun v H' => ∃ j, j < 8 ∧ c = nI j ∧ v = some (.int (if N j = n then 0 else 1)) ∧ zXI w x aw an W (zup N j n) wa (na + 1) rf kn H' ∧ zFr x aw an H H') (fun E H' => E = zIO ∧ ¬ (0 ≤ c ∧ c ≤ 7) ∧ zGr H H') :=
  zCt.ofV [(0, .ref x), (1, .int c), (2, .ref r)] hw.1 (by decide +kernel) (Nat.le_of_ble_eq_true rfl) rfl fun g cx hq _ => zwp_sound (tk_X1_narrowPut cx hq) [] 80 (by
    obtain ⟨dw, dn, h0, ox, ow, on, hw8, hn8⟩ := hI
    refine zcall.mk (ct_X1_mustBeCell w hw.1 c H) (by decide) (by decide) (by decide) ?_ (fun E H' h _ => h)
    rintro _ _ ⟨rfl, rfl, hc⟩ _
    obtain ⟨j, hj, rfl⟩ := zcell hc
    obtain ⟨q, h1, h2, h3⟩ := hn8 j hj
    refine ⟨_, ox, _, _, j, q, on, rfl, hj, by decide, h1, _, ox, _, _, j, on, rfl, hj, by decide, h0.2.2, ⟨_, hr⟩, fun H1 u1 a1 => ?_⟩
    have ox1 := u1.ob ox (ox.neA hw on (by decide))
    have hr1 := u1.ob hr (hr.neA hw on (by decide))
    have hq1 := u1.ob h2 (h2.neA hw on (by decide))
    refine ⟨_, ox1, _, ox1, h0.1, fun H2 u2 o2 => ?_⟩
    have hr2 := u2.ob hr1 (hr1.ne hw ox1 (by decide))
    have hq2 := u2.ob hq1 (hq1.ne hw ox1 (by decide))
    have fin : zXI w x aw an W (zup N j n) wa (na + 1) rf kn H2 := by
      refine ⟨dw, va_up dn j (some r), h0, o2, u2.ar (u1.ar ow (ow.ne hw on (by decide) (by decide) (by decide))) (fun e => (ox1.neA hw (u1.ar ow (ow.ne hw on (by decide) (by decide) (by decide))) (by decide)) e.symm), u2.ar a1 (fun e => (ox1.neA hw a1 (by decide)) e.symm), fun k hk => ?_, fun k hk => ?_⟩
      · obtain ⟨s, g1, g2, g3⟩ := hw8 k hk
        have g4 := u1.ob g2 (g2.neA hw on (by decide))
        exact ⟨s, g1, u2.ob g4 (g4.ne hw ox1 (by decide)), g3⟩
      · unfold zup va_up
        by_cases e : k = j
        · rw [if_pos e, if_pos e]; exact ⟨r, rfl, hr2, hn⟩
        · rw [if_neg e, if_neg e]
          obtain ⟨s, g1, g2, g3⟩ := hn8 k hk
          have g4 := u1.ob g2 (g2.neA hw on (by decide))
          exact ⟨s, g1, u2.ob g4 (g4.ne hw ox1 (by decide)), g3⟩
    have hfr : zFr x aw an _ H2 := (u1.fr (Or.inr (Or.inr rfl))).trans (u2.fr (Or.inl rfl))
    refine ⟨⟨_, hq2⟩, zcall.pure (c2_equals hw h3 hn hq2 hr2) (by decide) ?_⟩
    by_cases he : N j = n
    · rw [if_pos he]
      exact ⟨fun _ => zcall.pure (c4_bit hw 0 H2) (by decide) ⟨j, hj, rfl, by rw [if_pos he]; rfl, fin, hfr⟩, fun h => absurd h (by decide)⟩
    · rw [if_neg he]
      exact ⟨fun h => absurd rfl h, fun _ => zcall.pure (c4_bit hw 1 H2) (by decide) ⟨j, hj, rfl, by rw [if_neg he]; rfl, fin, hfr⟩⟩)

/-- a step that reads a cell -/
theorem zat2 {w : zG} (hw : zWf w) {x aw an : Nat} {W N : Nat → Nat} {wa na rf kn : Int32} {H : Heap} (hI : zXI w x aw an W N wa na rf kn H) (c : Int32) {d rc rs : Nat} {K : Nat → Nat → Option Value → Heap → Prop} {KX : Nat → Nat → String → Heap → Prop} (hd : 8 ≤ d) (h1 : 1 ≤ rc) (h2 : 6 ≤ rs) (k : ∀ j r, j < 8 → c = nI j → zOb w r 2 [fv (N j)] H → zok 31 (N j) → K 1 6 (some (.ref r)) H) (kx : ∀ E H', E = zIO → ¬ (0 ≤ c ∧ c ≤ 7) → zGr H H' → KX 1 6 E H') : zcall w yX1_narrowAt wc_X1_narrowAt [.ref x, .int c] H d rc rs K KX :=
  zcall.mk (c4_narrowAt hw hI c) (by omega) h1 h2 (by rintro v _ ⟨rfl, j, r, e1, e2, rfl, e4, e5⟩ _; exact k j r e1 e2 e4 e5) (by rintro E H' ⟨e1, e2, e3⟩ _; exact kx E H' e1 e2 e3)
/-- a step that writes a cell -/
theorem zput2 {w : zG} (hw : zWf w) {x aw an : Nat} {W N : Nat → Nat} {wa na rf kn : Int32} {H : Heap} (hI : zXI w x aw an W N wa na rf kn H) (c : Int32) {r n d rc rs : Nat} (hr : zOb w r 2 [fv n] H) (hn : zok 31 n) {K : Nat → Nat → Option Value → Heap → Prop} {KX : Nat → Nat → String → Heap → Prop} (hd : 8 ≤ d) (h1 : 1 ≤ rc) (h2 : 6 ≤ rs) (k : ∀ j H', j < 8 → c = nI j → zXI w x aw an W (zup N j n) wa (na + 1) rf kn H' → zFr x aw an H H' → K 1 6 (some (.int (if N j = n then 0 else 1))) H') (kx : ∀ E H', E = zIO → ¬ (0 ≤ c ∧ c ≤ 7) → zGr H H' → KX 1 6 E H') : zcall w yX1_narrowPut wc_X1_narrowPut [.ref x, .int c, .ref r] H d rc rs K KX :=
  zcall.mk (c4_narrowPut hw hI c hr hn) (by omega) h1 h2 (by rintro v H' ⟨j, e1, e2, rfl, e4, e5⟩ _; exact k j H' e1 e2 e4 e5) (by rintro E H' ⟨e1, e2, e3⟩ _; exact kx E H' e1 e2 e3)
theorem c4_narrowCopy {w : zG} (hw : zWf w) {x aw an : Nat} {W N : Nat → Nat} {wa na rf kn : Int32} {H : Heap} (hI : zXI w x aw an W N wa na rf kn H) (c i : Int32) : zCt w yX1_narrowCopy wc_X1_narrowCopy 9 2 12 [.ref x, .int c, .int i] H (fun v H' => ∃ j k, j < 8 ∧ k < 8 ∧ c = nI j ∧ i = nI k ∧ v = some (.int (if N k = N j then 0 else 1)) ∧ zXI w x aw an W (zup N k (N j)) wa (na + 1) rf kn H' ∧ zFr x aw an H H') (fun E H' => E = zIO ∧ (¬ (0 ≤ c ∧ c ≤ 7) ∨ ¬ (0 ≤ i ∧ i ≤ 7)) ∧ zGr H H') :=
  zCt.ofV [(0, .ref x), (1, .int c), (2, .int i)] hw.1 (by decide +kernel) (Nat.le_of_ble_eq_true rfl) rfl fun g cx hq _ => zwp_sound (tk_X1_narrowCopy cx hq) [] 80 
    ⟨⟨_, hI.choose_spec.choose_spec.2.1⟩, zat2 hw hI c (by decide) (by decide) (by decide) (fun j r e1 e2 e3 e4 => ⟨⟨_, hI.choose_spec.choose_spec.2.1⟩, zput2 hw hI i e3 e4 (by decide) (by decide) (by decide) (fun k H' f1 f2 f3 f4 => ⟨j, k, e1, f1, e2, f2, rfl, f3, f4⟩) (fun E H' f1 f2 f3 => ⟨f1, Or.inr f2, f3⟩)⟩) (fun E H' f1 f2 f3 => ⟨f1, Or.inl f2, f3⟩)⟩
theorem c4_narrowSwap {w : zG} (hw : zWf w) {x aw an : Nat} {W N : Nat → Nat} {wa na rf kn : Int32} {H : Heap} (hI : zXI w x aw an W N wa na rf kn H) (c i : Int32) : zCt w yX1_narrowSwap wc_X1_narrowSwap 9 3 18 [.ref x, .int c, .int i] H (fun v H' => ∃ j k, j < 8 ∧ k < 8 ∧ c = nI j ∧ i = nI k ∧ v = some (.int (if N j = N k then 0 else 1)) ∧ zXI w x aw an W (zup (zup N k (N j)) j (N k)) wa (na + 1) rf kn H' ∧ zFr x aw an H H') (fun E H' => E = zIO ∧ (¬ (0 ≤ c ∧ c ≤ 7) ∨ ¬ (0 ≤ i ∧ i ≤ 7)) ∧ zGr H H') :=
  zCt.ofV [(0, .ref x), (1, .int c), (2, .int i)] hw.1 (by decide +kernel) (Nat.le_of_ble_eq_true rfl) rfl fun g cx hq _ => zwp_sound (tk_X1_narrowSwap cx hq) [] 80 (by
    have ox9 := hI.choose_spec.choose_spec.2.1
    refine ⟨⟨_, ox9⟩, zat2 hw hI c (by decide) (by decide) (by decide) (fun j r e1 e2 e3 e4 => ⟨⟨_, ox9⟩, zat2 hw hI i (by decide) (by decide) (by decide) (fun k s f1 f2 f3 f4 => ?_) (fun E H' f1 f2 f3 => ⟨f1, Or.inr f2, f3⟩)⟩) (fun E H' f1 f2 f3 => ⟨f1, Or.inl f2, f3⟩)⟩
    obtain ⟨dw, dn, h0, ox, ow, on, hw8, hn8⟩ := hI
    refine ⟨_, ox, _, _, k, on, f2, f1, by decide, h0.2.2, ⟨_, e3⟩, fun H1 u1 a1 => ?_⟩
    have ox1 := u1.ob ox (ox.neA hw on (by decide))
    have I1 : zXI w x aw an W (zup N k (N j)) wa (na) rf kn H1 := by
      refine ⟨dw, va_up dn k (some r), h0, ox1, u1.ar ow (ow.ne hw on (by decide) (by decide) (by decide)), a1, fun m hm => ?_, fun m hm => ?_⟩
      · obtain ⟨s, g1, g2, g3⟩ := hw8 m hm
        exact ⟨s, g1, u1.ob g2 (g2.neA hw on (by decide)), g3⟩
      · unfold zup va_up
        by_cases e : m = k
        · rw [if_pos e, if_pos e]; exact ⟨r, rfl, u1.ob e3 (e3.neA hw on (by decide)), e4⟩
        · rw [if_neg e, if_neg e]
          obtain ⟨s, g1, g2, g3⟩ := hn8 m hm
          exact ⟨s, g1, u1.ob g2 (g2.neA hw on (by decide)), g3⟩
    refine ⟨⟨_, ox1⟩, zput2 hw I1 c (u1.ob f3 (f3.neA hw on (by decide))) f4 (by decide) (by decide) (by decide) (fun l H' g1 g2 g3 g4 => ?_) (fun E H' g1 g2 g3 => absurd (by rw [e2]; exact zcellI e1) g2)⟩
    obtain rfl := znIi e1 g1 (e2.symm.trans g2)
    refine ⟨j, k, e1, f1, e2, f2, ?_, g3, (u1.fr (Or.inr (Or.inr rfl))).trans g4⟩
    unfold zup
    by_cases hjk : j = k
    · subst hjk; rw [if_pos rfl]
    · rw [if_neg hjk])
theorem c4_narrowMax {w : zG} (hw : zWf w) {x aw an : Nat} {W N : Nat → Nat} {wa na rf kn : Int32} {H : Heap} (hI : zXI w x aw an W N wa na rf kn H) (c i o : Int32) : zCt w yX1_narrowMax wc_X1_narrowMax 9 4 20 [.ref x, .int c, .int i, .int o] H (fun v H' => ∃ j k m, j < 8 ∧ k < 8 ∧ m < 8 ∧ c = nI j ∧ i = nI k ∧ o = nI m ∧ v = some (.int (if N m = (if zrnk 31 (N k) ≤ zrnk 31 (N j) then N j else N k) then 0 else 1)) ∧ zXI w x aw an W (zup N m (if zrnk 31 (N k) ≤ zrnk 31 (N j) then N j else N k)) wa (na + 1) rf kn H' ∧ zFr x aw an H H') (fun E H' => E = zIO ∧ (¬ (0 ≤ c ∧ c ≤ 7) ∨ ¬ (0 ≤ i ∧ i ≤ 7) ∨ ¬ (0 ≤ o ∧ o ≤ 7)) ∧ zGr H H') :=
  zCt.ofV [(0, .ref x), (1, .int c), (2, .int i), (3, .int o)] hw.1 (by decide +kernel) (Nat.le_of_ble_eq_true rfl) rfl fun g cx hq _ => zwp_sound (tk_X1_narrowMax cx hq) [] 80 (by
    have ox9 := hI.choose_spec.choose_spec.2.1
    refine ⟨⟨_, ox9⟩, zat2 hw hI c (by decide) (by decide) (by decide) (fun j r e1 e2 e3 e4 => ⟨⟨_, e3⟩, zcall.pure (c2_value hw e3) (by decide) ⟨⟨_, ox9⟩, zat2 hw hI i (by decide) (by decide) (by decide) (fun k s f1 f2 f3 f4 => ⟨⟨_, f3⟩, zcall.pure (c2_value hw f3) (by decide) (zcall.pure (c2_max hw e4 f4 H) (by decide) (zcall.ret (c2_valueOf hw H) (by decide) (by decide) (by decide) ?_))⟩) (fun E H' f1 f2 f3 => ⟨f1, Or.inr (Or.inl f2), f3⟩)⟩⟩) (fun E H' f1 f2 f3 => ⟨f1, Or.inl f2, f3⟩)⟩
    rintro _ H1 ⟨rfl, p1, o1⟩ _
    have hz : zok 31 (if zrnk 31 (N k) ≤ zrnk 31 (N j) then N j else N k) := by split; exact e4; exact f4
    exact ⟨⟨_, p1.gr.ob ox9⟩, zput2 hw (hI.gr p1.gr) o o1 hz (by decide) (by decide) (by decide) (fun m H' g1 g2 g3 g4 => ⟨j, k, m, e1, f1, g1, e2, f2, g2, rfl, g3, p1.gr.fr.trans g4⟩) (fun E H' g1 g2 g3 => ⟨g1, Or.inr (Or.inr g2), p1.gr.trans g3⟩)⟩)
theorem c4_narrowMin {w : zG} (hw : zWf w) {x aw an : Nat} {W N : Nat → Nat} {wa na rf kn : Int32} {H : Heap} (hI : zXI w x aw an W N wa na rf kn H) (c i o : Int32) : zCt w yX1_narrowMin wc_X1_narrowMin 9 4 20 [.ref x, .int c, .int i, .int o] H (fun v H' => ∃ j k m, j < 8 ∧ k < 8 ∧ m < 8 ∧ c = nI j ∧ i = nI k ∧ o = nI m ∧ v = some (.int (if N m = (if zrnk 31 (N j) ≤ zrnk 31 (N k) then N j else N k) then 0 else 1)) ∧ zXI w x aw an W (zup N m (if zrnk 31 (N j) ≤ zrnk 31 (N k) then N j else N k)) wa (na + 1) rf kn H' ∧ zFr x aw an H H') (fun E H' => E = zIO ∧ (¬ (0 ≤ c ∧ c ≤ 7) ∨ ¬ (0 ≤ i ∧ i ≤ 7) ∨ ¬ (0 ≤ o ∧ o ≤ 7)) ∧ zGr H H') :=
  zCt.ofV [(0, .ref x), (1, .int c), (2, .int i), (3, .int o)] hw.1 (by decide +kernel) (Nat.le_of_ble_eq_true rfl) rfl fun g cx hq _ => zwp_sound (tk_X1_narrowMin cx hq) [] 80 (by
    have ox9 := hI.choose_spec.choose_spec.2.1
    refine ⟨⟨_, ox9⟩, zat2 hw hI c (by decide) (by decide) (by decide) (fun j r e1 e2 e3 e4 => ⟨⟨_, e3⟩, zcall.pure (c2_value hw e3) (by decide) ⟨⟨_, ox9⟩, zat2 hw hI i (by decide) (by decide) (by decide) (fun k s f1 f2 f3 f4 => ⟨⟨_, f3⟩, zcall.pure (c2_value hw f3) (by decide) (zcall.pure (c2_min hw e4 f4 H) (by decide) (zcall.ret (c2_valueOf hw H) (by decide) (by decide) (by decide) ?_))⟩) (fun E H' f1 f2 f3 => ⟨f1, Or.inr (Or.inl f2), f3⟩)⟩⟩) (fun E H' f1 f2 f3 => ⟨f1, Or.inl f2, f3⟩)⟩
    rintro _ H1 ⟨rfl, p1, o1⟩ _
    have hz : zok 31 (if zrnk 31 (N j) ≤ zrnk 31 (N k) then N j else N k) := by split; exact e4; exact f4
    exact ⟨⟨_, p1.gr.ob ox9⟩, zput2 hw (hI.gr p1.gr) o o1 hz (by decide) (by decide) (by decide) (fun m H' g1 g2 g3 g4 => ⟨j, k, m, e1, f1, g1, e2, f2, g2, rfl, g3, p1.gr.fr.trans g4⟩) (fun E H' g1 g2 g3 => ⟨g1, Or.inr (Or.inr g2), p1.gr.trans g3⟩)⟩)
