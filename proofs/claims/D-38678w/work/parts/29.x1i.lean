/-! contracts: Edgefloats, sort -/
theorem zGr.upd {H H1 H2 : Heap} {a : Nat} (h : zGr H H1) (u : zUpd H1 H2 a) (ha : H.size ≤ a) : zGr H H2 := ⟨by rw [u.1]; exact h.1, fun q hq => (u.2 q (by omega)).trans (h.2 q hq)⟩
theorem zFr.ob {w : zG} {x aw an r ci : Nat} {fs : List Value} {H H' : Heap} (h : zFr x aw an H H') (o : zOb w r ci fs H) (h1 : r ≠ x) (h2 : r ≠ aw) (h3 : r ≠ an) : zOb w r ci fs H' := o.kept (h.2 r o.lt h1 h2 h3)
theorem zFr.ar {w : zG} {x aw an r t : Nat} {c : vp_A} {H H' : Heap} (h : zFr x aw an H H') (o : zAr w r t c H) (h1 : r ≠ x) (h2 : r ≠ aw) (h3 : r ≠ an) : zAr w r t c H' := o.kept (h.2 r o.lt h1 h2 h3)
theorem zLE1 {k : Nat} (h : k + 1 < 9) : ¬ nI (k + 1) ≤ 0 := by
  rw [Int32.le_iff_toInt_le, ziT (by omega), if_pos (by omega), show (0 : Int32).toInt = 0 from by decide]; omega
theorem c4_isNarrowAhead {w : zG} (hw : zWf w) {p q a b : Nat} {H : Heap} (ha : zok 31 a) (hb : zok 31 b) (hp : zOb w p 2 [fv a] H) (hq2 : zOb w q 2 [fv b] H) (how : Int32) : zCt w yX1_isNarrowAhead wc_X1_isNarrowAhead 6 0 0 [.ref p, .ref q, .int how] H (zPure (some (.int (if zrnk 31 a < zrnk 31 b then 1 else 0))) H) zNoX :=
  zCt.ofV [(0, .ref p), (1, .ref q), (2, .int how)] hw.1 (by decide +kernel) (Nat.le_of_ble_eq_true rfl) rfl fun g cx hq _ => zwp_sound (tk_X1_isNarrowAhead cx hq) [] 40 (by
    refine ⟨fun _ => ⟨⟨_, hp⟩, zcall.pure (c2_compareTo hw ha hb hp hq2) (by decide) ⟨fun h => ?_, fun h => ?_⟩⟩, fun _ => ⟨⟨_, hp⟩, zcall.pure (c2_value hw hp) (by decide) ⟨⟨_, hq2⟩, zcall.pure (c2_value hw hq2) (by decide) (zcall.pure (c2_compare hw ha hb H) (by decide) ⟨fun h => ?_, fun h => ?_⟩)⟩⟩⟩
    · rw [zcmp_ge] at h
      exact ⟨zb1, by rw [if_neg (by omega)], rfl⟩
    · rw [zcmp_ge] at h
      exact ⟨zb2, by rw [if_pos (by omega)], rfl⟩
    · rw [zcmp_ge] at h
      exact ⟨zb1, by rw [if_neg (by omega)], rfl⟩
    · rw [zcmp_ge] at h
      exact ⟨zb2, by rw [if_pos (by omega)], rfl⟩)

section ZS
variable {w : zG} {g : zM} {P : zPo} {x aw an a2 : Nat} {W N : Nat → Nat} {wa na rf kn : Int32} {H : Heap}
/-- what a sort keeps -/
def zSN (w : zG) (x aw an : Nat) (W : Nat → Nat) (N : Nat → Nat) (wa na rf kn : Int32) (H2 : Heap) (V : Nat → Nat) (H1 : Heap) : Prop := zXI w x aw an W V wa na rf kn H1 ∧ zFr x aw an H2 H1 ∧ ∀ v, zc V v 8 = zc N v 8
theorem zfillN (hw : zWf w) (cx : zCx w g "Edgefloats" cX1_narrowSort 5 (some FieldType.int) "narrowSort" []) (hq : zCq w g P) {d rc rs : Nat} {how : Int32} (hI : zXI w x aw an W N wa na rf kn H) (hN : zNew w H.size)
    (rest : ∀ H1 d2, zGr H H1 → zAr w H.size 5 (zrefs d2) H1 → (∀ m, m < 8 → ∃ r, d2 m = some r ∧ zOb w r 2 [fv (N m)] H ∧ zok 31 (N m)) → zV w g d rc rs 38 [(0, .ref x), (1, .int how), (2, .ref H.size)] [] H1) :
    ∀ f k H1 d2, k + f = 8 → zGr H H1 → zAr w H.size 5 (zrefs d2) H1 → (∀ m, m < k → ∃ r, d2 m = some r ∧ zOb w r 2 [fv (N m)] H ∧ zok 31 (N m)) → zV w g d rc rs 17 [(0, .ref x), (1, .int how), (2, .ref H.size), (3, .int (nI k))] [] H1 := by
  intro f
  induction f with
  | zero =>
    intro k H1 d2 h8 hg ha hm
    obtain rfl : k = 8 := by omega
    exact zwp_sound (tk_X1_narrowSort cx hq) [(38, [0, 1, 2])] 40 ⟨fun _ => rest H1 d2 hg ha hm, fun h => absurd (by decide) h⟩
  | succ f ih =>
    intro k H1 d2 h8 hg ha hm
    obtain ⟨dw, dn, h0, ox, ow, on, hw8, hn8⟩ := hI
    obtain ⟨s, h1, h2, h3⟩ := hn8 k (by omega)
    refine zwp_sound (tk_X1_narrowSort cx hq) [(17, [0, 1, 2, 3])] 40 ⟨fun h => absurd h (zLE8 (by omega)), fun _ => ⟨_, hg.ob ox, _, _, k, s, hg.ar on, rfl, by omega, by decide, h1, _, _, k, ha, rfl, by omega, by decide, hN, ⟨_, hg.ob h2⟩, fun H2 u2 a2 => ?_⟩⟩
    have hz := ih (k + 1) H2 _ (by omega) (hg.upd u2 (Nat.le_refl _)) a2 (fun m hm2 => by
      unfold va_up
      by_cases e : m = k
      · rw [if_pos e]; subst e; exact ⟨s, rfl, h2, h3⟩
      · rw [if_neg e]; exact hm m (by omega))
    rw [← nI_1] at hz
    exact hz
theorem zinsN (hw : zWf w) (cx : zCx w g "Edgefloats" cX1_narrowSort 5 (some FieldType.int) "narrowSort" []) (hq : zCq w g P) {rc rs : Nat} {how : Int32} {H2 : Heap}
    (rest : ∀ V H1, zSN w x aw an W N wa na rf kn H2 V H1 → zsrt 31 V 8 → zV w g 9 rc rs 98 [(0, .ref x), (2, .ref a2)] [] H1) :
    ∀ f k V H1, k + f = 8 → 1 ≤ k → zSN w x aw an W N wa na rf kn H2 V H1 → zsrt 31 V k → zV w g 9 rc rs 40 [(0, .ref x), (1, .int how), (2, .ref a2), (3, .int (nI k))] [] H1 := by
  intro f
  induction f with
  | zero =>
    intro k V H1 h8 h1 hS hs
    obtain rfl : k = 8 := by omega
    exact zwp_sound (tk_X1_narrowSort cx hq) [(98, [0, 2])] 40 ⟨fun _ => rest V H1 hS hs, fun h => absurd (by decide) h⟩
  | succ f ih =>
    intro k V H1 h8 hk1 hS hs
    have inner : ∀ p V H1, p ≤ k → zSN w x aw an W N wa na rf kn H2 V H1 → zinv 31 V k p → zV w g 9 rc rs 49 [(0, .ref x), (1, .int how), (2, .ref a2), (3, .int (nI k)), (4, .int (nI p))] [] H1 := by
      intro p
      induction p with
      | zero =>
        intro V H1 hp hS hi
        have hz := ih (k + 1) V H1 (by omega) (by omega) hS (zinv_z hi)
        rw [← nI_1] at hz
        exact zwp_sound (tk_X1_narrowSort cx hq) [(40, [0, 1, 2, 3])] 40 ⟨fun _ => hz, fun h => absurd (by decide) h⟩
      | succ p ihp =>
        intro V H1 hp hS hi
        obtain ⟨hI1, hF, hC⟩ := hS
        have hI9 := hI1
        obtain ⟨dw, dn, h0, ox, ow, on, hw8, hn8⟩ := hI1
        obtain ⟨s, s1, s2, s3⟩ := hn8 (p + 1) (by omega)
        obtain ⟨r, r1, r2, r3⟩ := hn8 p (by omega)
        have go : ¬ zrnk 31 (V (p + 1)) < zrnk 31 (V p) → zV w g 9 rc rs 92 [(0, .ref x), (1, .int how), (2, .ref a2), (3, .int (nI k))] [] H1 := fun hlt => by
          have hz := ih (k + 1) V H1 (by omega) (by omega) ⟨hI9, hF, hC⟩ (zinv_d hi hlt)
          rw [← nI_1] at hz
          exact zwp_sound (tk_X1_narrowSort cx hq) [(40, [0, 1, 2, 3])] 40 hz
        have sw : zrnk 31 (V (p + 1)) < zrnk 31 (V p) → zV w g 9 rc rs 77 [(0, .ref x), (1, .int how), (2, .ref a2), (3, .int (nI k)), (4, .int (nI (p + 1)))] [] H1 := fun hlt => by
          refine zwp_sound (tk_X1_narrowSort cx hq) [(49, [0, 1, 2, 3, 4])] 40 ⟨_, ox, zcall.ret (c4_change_2 hw hI9 (j := p) (by omega)) (by decide) (Nat.zero_le _) (Nat.zero_le _) ?_⟩
          rintro _ H3 ⟨rfl, q1, q2⟩ _
          have hz := ihp _ H3 (by omega) ⟨q1, hF.trans (q2.fr (Or.inr (Or.inr rfl))), fun v => (@zc_swap V v (p + 1) p 8 (by omega) (by omega)).trans (hC v)⟩ (zinv_s (by omega) hi hlt)
          rw [← pk_m1 p] at hz
          exact hz
        refine zwp_sound (tk_X1_narrowSort cx hq) [(92, [0, 1, 2, 3]), (77, [0, 1, 2, 3, 4])] 60 ⟨fun h => absurd h (zLE1 (by omega)), fun _ => ⟨_, ox, _, _, p + 1, s, on, rfl, by omega, by decide, s1, _, ox, _, _, p, r, on, nI_s1 p, by omega, by decide, r1, zcall.pure (c4_isNarrowAhead hw s3 r3 s2 r2 how) (by decide) ⟨fun h => go (zite h), fun h => sw (zitb h)⟩⟩⟩
    have hz := inner k V H1 (Nat.le_refl _) hS (zinv_0 hs)
    exact zwp_sound (tk_X1_narrowSort cx hq) [(49, [0, 1, 2, 3, 4])] 40 ⟨fun h => absurd h (zLE8 (by omega)), fun _ => hz⟩
theorem zcntN (hw : zWf w) (cx : zCx w g "Edgefloats" cX1_narrowSort 5 (some FieldType.int) "narrowSort" []) (hq : zCq w g P) {rc rs : Nat} {V : Nat → Nat} {d2 : Nat → Option Nat} {H1 : Heap} (hI1 : zXI w x aw an W V wa na rf kn H1) (ha2 : zAr w a2 5 (zrefs d2) H1) (h2 : ∀ m, m < 8 → ∃ r, d2 m = some r ∧ zOb w r 2 [fv (N m)] H1 ∧ zok 31 (N m))
    (fin : ∀ H3, zXI w x aw an W V wa (na + 1) rf kn H3 → zUpd H1 H3 x → P.1 (some (.int (nI (zdf N V 8)))) H3) :
    ∀ f k, k + f = 8 → zV w g 9 rc rs 103 [(0, .ref x), (2, .ref a2), (3, .int (nI (zdf N V k))), (4, .int (nI k))] [] H1 := by
  intro f
  induction f with
  | zero =>
    intro k h8
    obtain rfl : k = 8 := by omega
    obtain ⟨dw, dn, h0, ox, ow, on, hw8, hn8⟩ := hI1
    refine zwp_sound (tk_X1_narrowSort cx hq) [] 40 ⟨fun _ => ⟨_, ox, _, ox, h0.1, fun H3 u3 o3 => fin H3 ⟨dw, dn, h0, o3, u3.ar ow (fun e => (zOb.neA hw ox ow (by decide)) e.symm), u3.ar on (fun e => (zOb.neA hw ox on (by decide)) e.symm), fun k hk => ?_, fun k hk => ?_⟩ u3⟩, fun h => absurd (by decide) h⟩
    · obtain ⟨r, h1, h2, h3⟩ := hw8 k hk; exact ⟨r, h1, u3.ob h2 (h2.ne hw ox (by decide)), h3⟩
    · obtain ⟨r, h1, h2, h3⟩ := hn8 k hk; exact ⟨r, h1, u3.ob h2 (h2.ne hw ox (by decide)), h3⟩
  | succ f ih =>
    intro k h8
    obtain ⟨dw, dn, h0, ox, ow, on, hw8, hn8⟩ := hI1
    obtain ⟨s, s1, s2, s3⟩ := hn8 k (by omega)
    obtain ⟨r, r1, r2, r3⟩ := h2 k (by omega)
    have hz := ih (k + 1) (by omega)
    refine zwp_sound (tk_X1_narrowSort cx hq) [(103, [0, 2, 3, 4])] 60 ⟨fun h => absurd h (zLE8 (by omega)), fun _ => ⟨_, _, k, r, ha2, rfl, by omega, by decide, r1, _, ox, _, _, k, s, on, rfl, by omega, by decide, s1, ⟨_, r2⟩, zcall.pure (c2_equals hw r3 s3 r2 s2) (by decide) ⟨fun h => ?_, fun h => ?_⟩⟩⟩
    · refine zcall.pure (c4_bit hw 0 H1) (by decide) ?_
      rw [show zdf N V (k + 1) = zdf N V k from by show _ + _ = _; rw [if_pos (zitb h)]; rfl, ← nI_1] at hz
      show zV w g 9 rc rs 103 [(0, .ref x), (2, .ref a2), (3, .int (nI (zdf N V k) + 0)), (4, .int (nI k + 1))] [] H1
      rw [Int32.add_zero]
      exact hz
    · refine zcall.pure (c4_bit hw 1 H1) (by decide) ?_
      rw [show zdf N V (k + 1) = zdf N V k + 1 from by show _ + _ = _; rw [if_neg (zite h)], ← nI_1, ← nI_1] at hz
      exact hz
end ZS

section ZS
variable {w : zG} {g : zM} {P : zPo} {x aw an a2 : Nat} {W N : Nat → Nat} {wa na rf kn : Int32} {H : Heap}
/-- what a sort keeps -/
def zSW (w : zG) (x aw an : Nat) (W : Nat → Nat) (N : Nat → Nat) (wa na rf kn : Int32) (H2 : Heap) (V : Nat → Nat) (H1 : Heap) : Prop := zXI w x aw an V N wa na rf kn H1 ∧ zFr x aw an H2 H1 ∧ ∀ v, zc V v 8 = zc W v 8
theorem zfillW (hw : zWf w) (cx : zCx w g "Edgefloats" cX1_wideSort 5 (some FieldType.int) "wideSort" []) (hq : zCq w g P) {d rc rs : Nat} {how : Int32} (hI : zXI w x aw an W N wa na rf kn H) (hN : zNew w H.size)
    (rest : ∀ H1 d2, zGr H H1 → zAr w H.size 4 (zrefs d2) H1 → (∀ m, m < 8 → ∃ r, d2 m = some r ∧ zOb w r 1 [dv (W m)] H ∧ zok 63 (W m)) → zV w g d rc rs 38 [(0, .ref x), (1, .int how), (2, .ref H.size)] [] H1) :
    ∀ f k H1 d2, k + f = 8 → zGr H H1 → zAr w H.size 4 (zrefs d2) H1 → (∀ m, m < k → ∃ r, d2 m = some r ∧ zOb w r 1 [dv (W m)] H ∧ zok 63 (W m)) → zV w g d rc rs 17 [(0, .ref x), (1, .int how), (2, .ref H.size), (3, .int (nI k))] [] H1 := by
  intro f
  induction f with
  | zero =>
    intro k H1 d2 h8 hg ha hm
    obtain rfl : k = 8 := by omega
    exact zwp_sound (tk_X1_wideSort cx hq) [(38, [0, 1, 2])] 40 ⟨fun _ => rest H1 d2 hg ha hm, fun h => absurd (by decide) h⟩
  | succ f ih =>
    intro k H1 d2 h8 hg ha hm
    obtain ⟨dw, dn, h0, ox, ow, on, hw8, hn8⟩ := hI
    obtain ⟨s, h1, h2, h3⟩ := hw8 k (by omega)
    refine zwp_sound (tk_X1_wideSort cx hq) [(17, [0, 1, 2, 3])] 40 ⟨fun h => absurd h (zLE8 (by omega)), fun _ => ⟨_, hg.ob ox, _, _, k, s, hg.ar ow, rfl, by omega, by decide, h1, _, _, k, ha, rfl, by omega, by decide, hN, ⟨_, hg.ob h2⟩, fun H2 u2 a2 => ?_⟩⟩
    have hz := ih (k + 1) H2 _ (by omega) (hg.upd u2 (Nat.le_refl _)) a2 (fun m hm2 => by
      unfold va_up
      by_cases e : m = k
      · rw [if_pos e]; subst e; exact ⟨s, rfl, h2, h3⟩
      · rw [if_neg e]; exact hm m (by omega))
    rw [← nI_1] at hz
    exact hz
theorem zinsW (hw : zWf w) (cx : zCx w g "Edgefloats" cX1_wideSort 5 (some FieldType.int) "wideSort" []) (hq : zCq w g P) {rc rs : Nat} {how : Int32} {H2 : Heap}
    (rest : ∀ V H1, zSW w x aw an W N wa na rf kn H2 V H1 → zsrt 63 V 8 → zV w g 9 rc rs 179 [(0, .ref x), (2, .ref a2)] [] H1) :
    ∀ f k V H1, k + f = 8 → 1 ≤ k → zSW w x aw an W N wa na rf kn H2 V H1 → zsrt 63 V k → zV w g 9 rc rs 44 [(0, .ref x), (1, .int how), (2, .ref a2), (3, .int (nI k))] [] H1 := by
  intro f
  induction f with
  | zero =>
    intro k V H1 h8 h1 hS hs
    obtain rfl : k = 8 := by omega
    exact zwp_sound (tk_X1_wideSort cx hq) [(179, [0, 2])] 40 ⟨fun _ => rest V H1 hS hs, fun h => absurd (by decide) h⟩
  | succ f ih =>
    intro k V H1 h8 hk1 hS hs
    have inner : ∀ p V H1, p ≤ k → zSW w x aw an W N wa na rf kn H2 V H1 → zinv 63 V k p → zV w g 9 rc rs 53 [(0, .ref x), (1, .int how), (2, .ref a2), (3, .int (nI k)), (4, .int (nI p))] [] H1 := by
      intro p
      induction p with
      | zero =>
        intro V H1 hp hS hi
        have hz := ih (k + 1) V H1 (by omega) (by omega) hS (zinv_z hi)
        rw [← nI_1] at hz
        exact zwp_sound (tk_X1_wideSort cx hq) [(44, [0, 1, 2, 3])] 40 ⟨fun _ => hz, fun h => absurd (by decide) h⟩
      | succ p ihp =>
        intro V H1 hp hS hi
        obtain ⟨hI1, hF, hC⟩ := hS
        have hI9 := hI1
        obtain ⟨dw, dn, h0, ox, ow, on, hw8, hn8⟩ := hI1
        obtain ⟨s, s1, s2, s3⟩ := hw8 (p + 1) (by omega)
        obtain ⟨r, r1, r2, r3⟩ := hw8 p (by omega)
        have go : ¬ zrnk 63 (V (p + 1)) < zrnk 63 (V p) → zV w g 9 rc rs 101 [(0, .ref x), (1, .int how), (2, .ref a2), (3, .int (nI k))] [] H1 := fun hlt => by
          have hz := ih (k + 1) V H1 (by omega) (by omega) ⟨hI9, hF, hC⟩ (zinv_d hi hlt)
          rw [← nI_1] at hz
          exact zwp_sound (tk_X1_wideSort cx hq) [(44, [0, 1, 2, 3])] 40 hz
        have sw : zrnk 63 (V (p + 1)) < zrnk 63 (V p) → zV w g 9 rc rs 86 [(0, .ref x), (1, .int how), (2, .ref a2), (3, .int (nI k)), (4, .int (nI (p + 1)))] [] H1 := fun hlt => by
          refine zwp_sound (tk_X1_wideSort cx hq) [(53, [0, 1, 2, 3, 4])] 40 ⟨_, ox, zcall.ret (c4_change hw hI9 (j := p) (by omega)) (by decide) (Nat.zero_le _) (Nat.zero_le _) ?_⟩
          rintro _ H3 ⟨rfl, q1, q2⟩ _
          have hz := ihp _ H3 (by omega) ⟨q1, hF.trans (q2.fr (Or.inr (Or.inl rfl))), fun v => (@zc_swap V v (p + 1) p 8 (by omega) (by omega)).trans (hC v)⟩ (zinv_s (by omega) hi hlt)
          rw [← pk_m1 p] at hz
          exact hz
        refine zwp_sound (tk_X1_wideSort cx hq) [(101, [0, 1, 2, 3]), (86, [0, 1, 2, 3, 4])] 60 ⟨fun h => absurd h (zLE1 (by omega)), fun _ => ⟨_, ox, _, _, p + 1, s, ow, rfl, by omega, by decide, s1, ⟨_, s2⟩, zcall.pure (c1_value hw s2) (by decide) ⟨_, ox, _, _, p, r, ow, nI_s1 p, by omega, by decide, r1, ⟨_, r2⟩, zcall.pure (c1_value hw r2) (by decide) (zcall.pure (c1_compare hw s3 r3 H1) (by decide) ⟨fun h => go (by rw [zcmp_ge] at h; omega), fun h => sw (by rw [zcmp_ge] at h; omega)⟩)⟩⟩⟩
    have hz := inner k V H1 (Nat.le_refl _) hS (zinv_0 hs)
    exact zwp_sound (tk_X1_wideSort cx hq) [(53, [0, 1, 2, 3, 4])] 40 ⟨fun h => absurd h (zLE8 (by omega)), fun _ => hz⟩
theorem zcntW (hw : zWf w) (cx : zCx w g "Edgefloats" cX1_wideSort 5 (some FieldType.int) "wideSort" []) (hq : zCq w g P) {rc rs : Nat} {V : Nat → Nat} {d2 : Nat → Option Nat} {H1 : Heap} (hI1 : zXI w x aw an V N wa na rf kn H1) (ha2 : zAr w a2 4 (zrefs d2) H1) (h2 : ∀ m, m < 8 → ∃ r, d2 m = some r ∧ zOb w r 1 [dv (W m)] H1 ∧ zok 63 (W m))
    (fin : ∀ H3, zXI w x aw an V N (wa + 1) na rf kn H3 → zUpd H1 H3 x → P.1 (some (.int (nI (zdf W V 8)))) H3) :
    ∀ f k, k + f = 8 → zV w g 9 rc rs 184 [(0, .ref x), (2, .ref a2), (3, .int (nI (zdf W V k))), (4, .int (nI k))] [] H1 := by
  intro f
  induction f with
  | zero =>
    intro k h8
    obtain rfl : k = 8 := by omega
    obtain ⟨dw, dn, h0, ox, ow, on, hw8, hn8⟩ := hI1
    refine zwp_sound (tk_X1_wideSort cx hq) [] 40 ⟨fun _ => ⟨_, ox, _, ox, h0.1, fun H3 u3 o3 => fin H3 ⟨dw, dn, h0, o3, u3.ar ow (fun e => (zOb.neA hw ox ow (by decide)) e.symm), u3.ar on (fun e => (zOb.neA hw ox on (by decide)) e.symm), fun k hk => ?_, fun k hk => ?_⟩ u3⟩, fun h => absurd (by decide) h⟩
    · obtain ⟨r, h1, h2, h3⟩ := hw8 k hk; exact ⟨r, h1, u3.ob h2 (h2.ne hw ox (by decide)), h3⟩
    · obtain ⟨r, h1, h2, h3⟩ := hn8 k hk; exact ⟨r, h1, u3.ob h2 (h2.ne hw ox (by decide)), h3⟩
  | succ f ih =>
    intro k h8
    obtain ⟨dw, dn, h0, ox, ow, on, hw8, hn8⟩ := hI1
    obtain ⟨s, s1, s2, s3⟩ := hw8 k (by omega)
    obtain ⟨r, r1, r2, r3⟩ := h2 k (by omega)
    have hz := ih (k + 1) (by omega)
    refine zwp_sound (tk_X1_wideSort cx hq) [(184, [0, 2, 3, 4])] 60 ⟨fun h => absurd h (zLE8 (by omega)), fun _ => ⟨_, _, k, r, ha2, rfl, by omega, by decide, r1, _, ox, _, _, k, s, ow, rfl, by omega, by decide, s1, ⟨_, r2⟩, zcall.pure (c1_equals hw r3 s3 r2 s2) (by decide) ⟨fun h => ?_, fun h => ?_⟩⟩⟩
    · refine zcall.pure (c4_bit hw 0 H1) (by decide) ?_
      rw [show zdf W V (k + 1) = zdf W V k from by show _ + _ = _; rw [if_pos (zitb h)]; rfl, ← nI_1] at hz
      show zV w g 9 rc rs 184 [(0, .ref x), (2, .ref a2), (3, .int (nI (zdf W V k) + 0)), (4, .int (nI k + 1))] [] H1
      rw [Int32.add_zero]
      exact hz
    · refine zcall.pure (c4_bit hw 1 H1) (by decide) ?_
      rw [show zdf W V (k + 1) = zdf W V k + 1 from by show _ + _ = _; rw [if_neg (zite h)], ← nI_1, ← nI_1] at hz
      exact hz
end ZS
