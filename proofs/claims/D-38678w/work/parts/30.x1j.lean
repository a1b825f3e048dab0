/-! contracts: Edgefloats, sort, whole -/
abbrev zdbl (f : Nat → UInt64) : vp_A := (8, .inr (.inr (.inr (.inl f))))
/-- what the sort of doubles does -/
def zDS (w : zG) : Prop := ∀ (a : Nat) (f : Nat → UInt64) (C : Nat → Nat) (H : Heap), zAr w a 3 (zdbl f) H → zNew w a → (∀ m, m < 8 → f m = UInt64.ofNat (C m) ∧ zok 63 (C m)) →
  zCt w yJ11_sort wc_J11_sort 7 0 0 [.ref a] H (fun v H' => v = none ∧ zUpd H H' a ∧ ∃ (f' : Nat → UInt64) (C' : Nat → Nat), zAr w a 3 (zdbl f') H' ∧ (∀ m, m < 8 → f' m = UInt64.ofNat (C' m) ∧ zok 63 (C' m)) ∧ zsrt 63 C' 8 ∧ ∀ v, zc C' v 8 = zc C v 8) zNoX
theorem zsrt1 {K : Nat} {W : Nat → Nat} : zsrt K W 1 := fun i j h1 h2 => by omega
theorem c4_narrowSort {w : zG} (hw : zWf w) {x aw an : Nat} {W N : Nat → Nat} {wa na rf kn : Int32} {H : Heap} (hI : zXI w x aw an W N wa na rf kn H) (how : Int32) : zCt w yX1_narrowSort wc_X1_narrowSort 9 2 14 [.ref x, .int how] H (fun v H' => (0 ≤ how ∧ how ≤ 1) ∧ ∃ V, zXI w x aw an W V wa (na + 1) rf kn H' ∧ zFr x aw an H H' ∧ zsrt 31 V 8 ∧ (∀ v, zc V v 8 = zc N v 8) ∧ v = some (.int (nI (zdf N V 8)))) (fun E H' => E = zIA ∧ ¬ (0 ≤ how ∧ how ≤ 1) ∧ zGr H H') :=
  zCt.ofV [(0, .ref x), (1, .int how)] hw.1 (by decide +kernel) (Nat.le_of_ble_eq_true rfl) rfl fun g cx hq hold => zwp_sound (tk_X1_narrowSort cx hq) [(17, [0, 1, 2, 3])] 80 (by
    refine zcall.pure (ct_X1_isIn w hw.1 how 0 1 _) (by decide) (zfitq hw (by decide) (by decide) (by decide) (fun hh => ?_) (fun E H' g1 g2 g3 => ⟨g1, g2, g3⟩))
    refine ⟨8, rfl, by decide, by decide, by decide, fun H1 p1 a1 => ?_⟩
    refine zfillN hw cx hq hI hold.1 (fun H2 d2 hg ha hm => ?_) 8 0 H1 _ rfl p1.gr a1 (fun m h => absurd h (Nat.not_lt_zero m))
    refine zwp_sound (tk_X1_narrowSort cx hq) [(40, [0, 1, 2, 3])] 40 ?_
    refine zinsN hw cx hq (H2 := H2) (fun V H3 hS hs => ?_) 7 1 N H2 rfl (Nat.le_refl _) ⟨hI.gr hg, zFr.rf, fun _ => rfl⟩ zsrt1
    refine zwp_sound (tk_X1_narrowSort cx hq) [(103, [0, 2, 3, 4])] 40 ?_
    obtain ⟨hI3, hF, hC⟩ := hS
    obtain ⟨dw, dn, h0, ox, ow, on, hw8, hn8⟩ := hI
    have l1 := ox.lt
    have l2 := ow.lt
    have l3 := on.lt
    exact zcntN hw cx hq hI3 (hF.ar ha (by omega) (by omega) (by omega)) (fun m hm9 => by
      obtain ⟨r, r1, r2, r3⟩ := hm m hm9
      exact ⟨r, r1, hF.ob (hg.ob r2) (r2.ne hw ox (by decide)) (r2.neA hw ow (by decide)) (r2.neA hw on (by decide)), r3⟩) (fun H4 hI4 u4 => ⟨hh, V, hI4, (hg.fr.trans hF).trans (u4.fr (Or.inl rfl)), hs, hC, rfl⟩) 8 0 rfl)
section ZS2
variable {w : zG} {g : zM} {P : zPo} {x aw an a2 a3 : Nat} {W N : Nat → Nat} {wa na rf kn : Int32} {H : Heap}
theorem zfillD (hw : zWf w) (cx : zCx w g "Edgefloats" cX1_wideSort 5 (some FieldType.int) "wideSort" []) (hq : zCq w g P) {rc rs : Nat} (hI : zXI w x aw an W N wa na rf kn H) (hN : zNew w a3) (ha3 : H.size ≤ a3)
    (rest : ∀ H1 f, zGr H H1 → (∀ q, q < a3 → H1[q]? = H[q]?) → zAr w a3 3 (zdbl f) H1 → (∀ m, m < 8 → f m = UInt64.ofNat (W m) ∧ zok 63 (W m)) → zV w g 9 rc rs 145 [(0, .ref x), (2, .ref a2), (3, .ref a3)] [] H1) :
    ∀ n k H1 f, k + n = 8 → zGr H H1 → (∀ q, q < a3 → H1[q]? = H[q]?) → zAr w a3 3 (zdbl f) H1 → (∀ m, m < k → f m = UInt64.ofNat (W m) ∧ zok 63 (W m)) → zV w g 9 rc rs 118 [(0, .ref x), (2, .ref a2), (3, .ref a3), (4, .int (nI k))] [] H1 := by
  intro n
  induction n with
  | zero =>
    intro k H1 f h8 hg hl ha hm
    obtain rfl : k = 8 := by omega
    exact zwp_sound (tk_X1_wideSort cx hq) [(145, [0, 2, 3])] 40 ⟨fun _ => rest H1 f hg hl ha hm, fun h => absurd (by decide) h⟩
  | succ n ih =>
    intro k H1 f h8 hg hl ha hm
    obtain ⟨dw, dn, h0, ox, ow, on, hw8, hn8⟩ := hI
    obtain ⟨s, h1, h2, h3⟩ := hw8 k (by omega)
    refine zwp_sound (tk_X1_wideSort cx hq) [(118, [0, 2, 3, 4])] 40 ⟨fun h => absurd h (zLE8 (by omega)), fun _ => ⟨_, hg.ob ox, _, _, k, s, hg.ar ow, rfl, by omega, by decide, h1, ⟨_, hg.ob h2⟩, zcall.pure (c1_value hw (hg.ob h2)) (by decide) ⟨_, _, k, ha, rfl, by omega, by decide, hN, fun H2 u2 a2 => ?_⟩⟩⟩
    have hz := ih (k + 1) H2 _ (by omega) (hg.upd u2 ha3) (fun q hq9 => (u2.2 q (by omega)).trans (hl q hq9)) a2 (fun m hm2 => by
      unfold vf_upd
      by_cases e : m = k
      · rw [if_pos e]; subst e; exact ⟨rfl, h3⟩
      · rw [if_neg e]; exact hm m (by omega))
    rw [← nI_1] at hz
    exact hz
theorem zbackD (hw : zWf w) (cx : zCx w g "Edgefloats" cX1_wideSort 5 (some FieldType.int) "wideSort" []) (hq : zCq w g P) {rc rs : Nat} {f : Nat → UInt64} {C : Nat → Nat} {H0 : Heap} (hax : a3 ≠ x ∧ a3 ≠ aw ∧ a3 ≠ an) (hf : ∀ m, m < 8 → f m = UInt64.ofNat (C m) ∧ zok 63 (C m)) (ha3 : zAr w a3 3 (zdbl f) H0)
    (rest : ∀ V H1, zXI w x aw an V N wa na rf kn H1 → zFr x aw an H0 H1 → (∀ m, m < 8 → V m = C m) → zV w g 9 rc rs 179 [(0, .ref x), (2, .ref a2)] [] H1) :
    ∀ n k V H1, k + n = 8 → zXI w x aw an V N wa na rf kn H1 → zFr x aw an H0 H1 → (∀ m, m < k → V m = C m) → zV w g 9 (rc + n) (rs + n) 152 [(0, .ref x), (2, .ref a2), (3, .ref a3), (4, .int (nI k))] [] H1 := by
  intro n
  induction n with
  | zero =>
    intro k V H1 h8 hI hF hm
    obtain rfl : k = 8 := by omega
    exact zwp_sound (tk_X1_wideSort cx hq) [(179, [0, 2])] 40 ⟨fun _ => rest V H1 hI hF hm, fun h => absurd (by decide) h⟩
  | succ n ih =>
    intro k V H1 h8 hI hF hm
    obtain ⟨dw, dn, h0, ox, ow, on, hw8, hn8⟩ := hI
    have b3 := hF.ar ha3 hax.1 hax.2.1 hax.2.2
    refine zwp_sound (tk_X1_wideSort cx hq) [(152, [0, 2, 3, 4])] 40 ⟨fun h => absurd h (zLE8 (by omega)), fun _ => ⟨_, ox, _, _, k, b3, rfl, by omega, by decide, ?_⟩⟩
    rw [(hf k (by omega)).1]
    refine zcall.ret (c1_valueOf hw H1) (by decide) (by omega) (by omega) ?_
    rintro _ H2 ⟨rfl, p2, o2⟩ _
    refine ⟨_, _, k, p2.gr.ar ow, rfl, by omega, by decide, h0.2.1, ⟨_, o2⟩, fun H3 u3 a3' => ?_⟩
    have kob : ∀ {b ci : Nat} {fs : List Value}, zOb w b ci fs H1 → zOb w b ci fs H3 := fun o => u3.ob (p2.gr.ob o) (o.neA hw ow (by decide))
    have on2 := p2.gr.ar on
    have hz := ih (k + 1) (fun m => if m = k then C k else V m) H3 (by omega) ⟨va_up dw k (some H1.size), dn, h0, kob ox, a3', u3.ar on2 (on.ne hw ow (by decide) (by decide) (by decide)), fun m hm9 => by
        unfold va_up
        by_cases e : m = k
        · rw [if_pos e]
          show ∃ r, some H1.size = some r ∧ zOb w r 1 [dv (if m = k then C k else V m)] H3 ∧ zok 63 (if m = k then C k else V m)
          rw [if_pos e]
          exact ⟨_, rfl, u3.ob o2 (fun e9 => by have := ow.lt; omega), (hf k (by omega)).2⟩
        · rw [if_neg e]
          show ∃ r, dw m = some r ∧ zOb w r 1 [dv (if m = k then C k else V m)] H3 ∧ zok 63 (if m = k then C k else V m)
          rw [if_neg e]
          obtain ⟨r, r1, r2, r3⟩ := hw8 m hm9
          exact ⟨r, r1, kob r2, r3⟩, fun m hm9 => by obtain ⟨r, r1, r2, r3⟩ := hn8 m hm9; exact ⟨r, r1, kob r2, r3⟩⟩ (hF.trans (p2.gr.fr.trans (u3.fr (Or.inr (Or.inl rfl))))) (fun m hm2 => by
      show (if m = k then C k else V m) = C m
      by_cases e : m = k
      · rw [if_pos e, e]
      · rw [if_neg e]; exact hm m (by omega))
    rw [← nI_1] at hz
    exact hz.mono (by omega) (by omega)
end ZS2
theorem c4_wideSort {w : zG} (hw : zWf w) {x aw an : Nat} {W N : Nat → Nat} {wa na rf kn : Int32} {H : Heap} (hI : zXI w x aw an W N wa na rf kn H) (hDS : zDS w) (how : Int32) : zCt w yX1_wideSort wc_X1_wideSort 9 11 30 [.ref x, .int how] H (fun v H' => (0 ≤ how ∧ how ≤ 1) ∧ ∃ V, zXI w x aw an V N (wa + 1) na rf kn H' ∧ zFr x aw an H H' ∧ zsrt 63 V 8 ∧ (∀ v, zc V v 8 = zc W v 8) ∧ v = some (.int (nI (zdf W V 8)))) (fun E H' => E = zIA ∧ ¬ (0 ≤ how ∧ how ≤ 1) ∧ zGr H H') :=
  zCt.ofV [(0, .ref x), (1, .int how)] hw.1 (by decide +kernel) (Nat.le_of_ble_eq_true rfl) rfl fun g cx hq hold => zwp_sound (tk_X1_wideSort cx hq) [(17, [0, 1, 2, 3])] 80 (by
    refine zcall.pure (ct_X1_isIn w hw.1 how 0 1 _) (by decide) (zfitq hw (by decide) (by decide) (by decide) (fun hh => ?_) (fun E H' g1 g2 g3 => ⟨g1, g2, g3⟩))
    refine ⟨8, rfl, by decide, by decide, by decide, fun H1 p1 a1 => ?_⟩
    refine zfillW hw cx hq hI hold.1 (fun H2 d2 hg ha hm => ?_) 8 0 H1 _ rfl p1.gr a1 (fun m h => absurd h (Nat.not_lt_zero m))
    have hI0 := hI
    obtain ⟨dw, dn, h0, ox, ow, on, hw8, hn8⟩ := hI
    have l1 := ox.lt
    have l2 := ow.lt
    have l3 := on.lt
    have fin : ∀ {rc rs : Nat} V H3, zXI w x aw an V N wa na rf kn H3 → zFr x aw an H2 H3 → zsrt 63 V 8 → (∀ v, zc V v 8 = zc W v 8) → zV w g 9 rc rs 179 [(0, .ref x), (2, .ref H.size)] [] H3 := by
      intro rc rs V H3 hI3 hF hs hC
      refine zwp_sound (tk_X1_wideSort cx hq) [(184, [0, 2, 3, 4])] 40 ?_
      exact zcntW hw cx hq hI3 (hF.ar ha (by omega) (by omega) (by omega)) (fun m hm9 => by
        obtain ⟨r, r1, r2, r3⟩ := hm m hm9
        exact ⟨r, r1, hF.ob (hg.ob r2) (r2.ne hw ox (by decide)) (r2.neA hw ow (by decide)) (r2.neA hw on (by decide)), r3⟩) (fun H4 hI4 u4 => ⟨hh, V, hI4, (hg.fr.trans hF).trans (u4.fr (Or.inl rfl)), hs, hC, rfl⟩) 8 0 rfl
    refine zwp_sound (tk_X1_wideSort cx hq) [(44, [0, 1, 2, 3]), (118, [0, 2, 3, 4])] 40 ⟨fun _ => ?_, fun _ => ?_⟩
    · refine ⟨8, rfl, by decide, by decide, by decide, fun H3 p3 a3 => ?_⟩
      have hI2 := hI0.gr hg
      have hN3 : zNew w H2.size := Nat.le_trans hold.1 hg.1
      have hs2 := ha.lt
      refine zfillD hw cx hq (a3 := H2.size) hI2 hN3 (Nat.le_refl _) (fun H4 f hg4 hl4 a4 hf => ?_) 8 0 H3 _ rfl p3.gr (fun q hq9 => p3.2 q hq9) a3 (fun m h => absurd h (Nat.not_lt_zero m))
      refine zwp_sound (tk_X1_wideSort cx hq) [(152, [0, 2, 3, 4])] 40 (zcall.ret (hDS _ f W H4 a4 hN3 hf) (by decide) (Nat.zero_le _) (Nat.zero_le _) ?_)
      rintro _ H5 ⟨rfl, u5, f', C', a5, hf', hs', hc'⟩ _
      have hg5 : zGr H2 H5 := hg4.upd u5 (Nat.le_refl _)
      have hx3 : H2.size ≠ x ∧ H2.size ≠ aw ∧ H2.size ≠ an := by have := hg.1; exact ⟨by omega, by omega, by omega⟩
      refine (zbackD hw cx hq (rc := 0) (rs := 0) hx3 hf' a5 (fun V H6 hI6 hF6 hV => ?_) 8 0 W H5 rfl (hI2.gr hg5) zFr.rf (fun m h => absurd h (Nat.not_lt_zero m))).mono (by decide) (by decide)
      exact fin V H6 hI6 (hg5.fr.trans hF6) (fun i j h1 h2 => by rw [hV i (by omega), hV j h2]; exact hs' i j h1 h2) (fun v => (zc_cg 8 hV).trans (hc' v))
    · exact zinsW hw cx hq (H2 := H2) (fun V H3 hS hs => fin V H3 hS.1 hS.2.1 hs hS.2.2) 7 1 W H2 rfl (Nat.le_refl _) ⟨hI0.gr hg, zFr.rf, fun _ => rfl⟩ zsrt1)
