/-! contracts: Edgefloats, has and change and house -/
theorem nI_s1 (j : Nat) : nI (j + 1) - 1 = nI j := by rw [← nI_1]; exact Int32.add_sub_cancel _ _

theorem c4_wideHas {w : zG} (hw : zWf w) {x aw an : Nat} {W N : Nat → Nat} {wa na rf kn : Int32} {H : Heap} (hI : zXI w x aw an W N wa na rf kn H) (i : Int32) : zCt w yX1_wideHas wc_X1_wideHas 9 2 7 [.ref x, .int i] H (fun v H' => zGr H H' ∧ (0 ≤ i ∧ i ≤ 6) ∧ v = some (.int (if zan W (zkn 63 52 9218868437227405312 i) 8 then 1 else 0))) (fun E H' => E = zIA ∧ ¬ (0 ≤ i ∧ i ≤ 6) ∧ zGr H H') :=
  zCt.ofV [(0, .ref x), (1, .int i)] hw.1 (by decide +kernel) (Nat.le_of_ble_eq_true rfl) rfl fun g cx hq _ => zwp_sound (tk_X1_wideHas cx hq) [(31, [2, 3, 4, 5, 6])] 80 (by
    refine zcall.pure (ct_X1_isIn w hw.1 i 0 6 _) (by decide) (zfitq hw (by decide) (by decide) (by decide) (fun hh => ?_) (fun E H' g1 g2 g3 => ⟨g1, g2, g3⟩))
    refine zcall.ret (c4_wideKnownOne hw i _) (by decide) (by decide) (by decide) ?_
    rintro _ H1 ⟨rfl, p1, o1⟩ _
    obtain ⟨dw, dn, h0, ox, ow, on, hw8, hn8⟩ := hI.gr p1.gr
    have hkn : zok 63 (zkn 63 52 9218868437227405312 i) := zkok63 i
    have key : ∀ f k, k + f = 8 → zV w g 9 0 0 31 [(2, .ref H.size), (3, .int (if zan W (zkn 63 52 9218868437227405312 i) k then 1 else 0)), (4, .ref aw), (5, .int 8), (6, .int (nI k))] [] H1 := by
      intro f
      induction f with
      | zero =>
        intro k h8
        obtain rfl : k = 8 := by omega
        exact zwp_sound (tk_X1_wideHas cx hq) [] 40 ⟨fun _ => ⟨zbt, p1.gr, hh, rfl⟩, fun h => absurd (by decide) h⟩
      | succ f ih =>
        intro k h8
        obtain ⟨s, h1, h2, h3⟩ := hw8 k (by omega)
        refine zwp_sound (tk_X1_wideHas cx hq) [(31, [2, 3, 4, 5, 6])] 80 ⟨fun h => absurd h (zLE8 (by omega)), fun _ => ⟨_, _, k, s, ow, rfl, by omega, by decide, h1, ⟨_, h2⟩, zcall.pure (c1_equals hw h3 hkn h2 o1) (by decide) ?_⟩⟩
        have hz := ih (k + 1) (by omega)
        rw [← nI_1, show zan W (zkn 63 52 9218868437227405312 i) (k + 1) = (zan W (zkn 63 52 9218868437227405312 i) k || W k == zkn 63 52 9218868437227405312 i) from rfl, ← zior, show (if (W k == zkn 63 52 9218868437227405312 i) = true then (1 : Int32) else 0) = if W k = zkn 63 52 9218868437227405312 i then 1 else 0 from by simp only [beq_iff_eq]] at hz
        exact hz
    exact ⟨_, ox, 4, _, by decide, ow, (key 8 0 rfl).mono (Nat.zero_le _) (Nat.zero_le _)⟩)
theorem c4_change {w : zG} (hw : zWf w) {x aw an : Nat} {W N : Nat → Nat} {wa na rf kn : Int32} {H : Heap} (hI : zXI w x aw an W N wa na rf kn H) {j : Nat} (hj : j + 1 < 8) : zCt w yX1_change wc_X1_change 0 0 0 [.ref aw, .int (nI (j + 1))] H (fun v H' => v = none ∧ zXI w x aw an (zup (zup W (j + 1) (W j)) j (W (j + 1))) N (wa) na rf kn H' ∧ zUpd H H' aw) zNoX :=
  zCt.ofV [(0, .ref aw), (1, .int (nI (j + 1)))] hw.1 (by decide +kernel) (Nat.le_of_ble_eq_true rfl) rfl fun g cx hq _ => zwp_sound (tk_X1_change cx hq) [] 80 (by
    obtain ⟨dw, dn, h0, ox, ow, on, hw8, hn8⟩ := hI
    obtain ⟨r, r1, r2, r3⟩ := hw8 j (by omega)
    obtain ⟨s, s1, s2, s3⟩ := hw8 (j + 1) (by omega)
    refine ⟨_, _, j + 1, s, ow, rfl, hj, by decide, s1, _, _, j, r, ow, nI_s1 j, by omega, by decide, r1, _, _, j + 1, ow, rfl, hj, by decide, h0.2.1, ⟨_, r2⟩, fun H1 u1 a1 => ⟨_, _, j, a1, nI_s1 j, by omega, by decide, h0.2.1, ⟨_, u1.ob s2 (s2.neA hw ow (by decide))⟩, fun H2 u2 a2 => ⟨rfl, ?_, ⟨u2.1.trans u1.1, fun q hq => (u2.2 q hq).trans (u1.2 q hq)⟩⟩⟩⟩
    have kob : ∀ {b ci : Nat} {fs : List Value}, ci < 9 → zOb w b ci fs H → zOb w b ci fs H2 := fun hc o => u2.ob (u1.ob o (o.neA hw ow (by decide))) ((u1.ob o (o.neA hw ow (by decide))).neA hw a1 (by decide))
    refine ⟨va_up (va_up dw (j + 1) (some r)) j (some s), dn, h0, kob (by decide) ox, a2, u2.ar (u1.ar on (on.ne hw ow (by decide) (by decide) (by decide))) ((u1.ar on (on.ne hw ow (by decide) (by decide) (by decide))).ne hw a1 (by decide) (by decide) (by decide)), fun k hk => ?_, fun k hk => ?_⟩
    · unfold zup va_up
      by_cases e1 : k = j
      · rw [if_pos e1, if_pos e1]; exact ⟨s, rfl, kob (by decide) s2, s3⟩
      · rw [if_neg e1, if_neg e1]
        by_cases e2 : k = j + 1
        · rw [if_pos e2, if_pos e2]; exact ⟨r, rfl, kob (by decide) r2, r3⟩
        · rw [if_neg e2, if_neg e2]
          obtain ⟨q, q1, q2, q3⟩ := hw8 k hk
          exact ⟨q, q1, kob (by decide) q2, q3⟩
    · obtain ⟨q, q1, q2, q3⟩ := hn8 k hk
      exact ⟨q, q1, kob (by decide) q2, q3⟩)

theorem c4_narrowHas {w : zG} (hw : zWf w) {x aw an : Nat} {W N : Nat → Nat} {wa na rf kn : Int32} {H : Heap} (hI : zXI w x aw an W N wa na rf kn H) (i : Int32) : zCt w yX1_narrowHas wc_X1_narrowHas 9 2 7 [.ref x, .int i] H (fun v H' => zGr H H' ∧ (0 ≤ i ∧ i ≤ 6) ∧ v = some (.int (if zan N (zkn 31 23 2139095040 i) 8 then 1 else 0))) (fun E H' => E = zIA ∧ ¬ (0 ≤ i ∧ i ≤ 6) ∧ zGr H H') :=
  zCt.ofV [(0, .ref x), (1, .int i)] hw.1 (by decide +kernel) (Nat.le_of_ble_eq_true rfl) rfl fun g cx hq _ => zwp_sound (tk_X1_narrowHas cx hq) [(31, [2, 3, 4, 5, 6])] 80 (by
    refine zcall.pure (ct_X1_isIn w hw.1 i 0 6 _) (by decide) (zfitq hw (by decide) (by decide) (by decide) (fun hh => ?_) (fun E H' g1 g2 g3 => ⟨g1, g2, g3⟩))
    refine zcall.ret (c4_narrowKnownOne hw i _) (by decide) (by decide) (by decide) ?_
    rintro _ H1 ⟨rfl, p1, o1⟩ _
    obtain ⟨dw, dn, h0, ox, ow, on, hw8, hn8⟩ := hI.gr p1.gr
    have hkn : zok 31 (zkn 31 23 2139095040 i) := zkok31 i
    have key : ∀ f k, k + f = 8 → zV w g 9 0 0 31 [(2, .ref H.size), (3, .int (if zan N (zkn 31 23 2139095040 i) k then 1 else 0)), (4, .ref an), (5, .int 8), (6, .int (nI k))] [] H1 := by
      intro f
      induction f with
      | zero =>
        intro k h8
        obtain rfl : k = 8 := by omega
        exact zwp_sound (tk_X1_narrowHas cx hq) [] 40 ⟨fun _ => ⟨zbt, p1.gr, hh, rfl⟩, fun h => absurd (by decide) h⟩
      | succ f ih =>
        intro k h8
        obtain ⟨s, h1, h2, h3⟩ := hn8 k (by omega)
        refine zwp_sound (tk_X1_narrowHas cx hq) [(31, [2, 3, 4, 5, 6])] 80 ⟨fun h => absurd h (zLE8 (by omega)), fun _ => ⟨_, _, k, s, on, rfl, by omega, by decide, h1, ⟨_, h2⟩, zcall.pure (c2_equals hw h3 hkn h2 o1) (by decide) ?_⟩⟩
        have hz := ih (k + 1) (by omega)
        rw [← nI_1, show zan N (zkn 31 23 2139095040 i) (k + 1) = (zan N (zkn 31 23 2139095040 i) k || N k == zkn 31 23 2139095040 i) from rfl, ← zior, show (if (N k == zkn 31 23 2139095040 i) = true then (1 : Int32) else 0) = if N k = zkn 31 23 2139095040 i then 1 else 0 from by simp only [beq_iff_eq]] at hz
        exact hz
    exact ⟨_, ox, 5, _, by decide, on, (key 8 0 rfl).mono (Nat.zero_le _) (Nat.zero_le _)⟩)
theorem c4_change_2 {w : zG} (hw : zWf w) {x aw an : Nat} {W N : Nat → Nat} {wa na rf kn : Int32} {H : Heap} (hI : zXI w x aw an W N wa na rf kn H) {j : Nat} (hj : j + 1 < 8) : zCt w yX1_change_2 wc_X1_change_2 0 0 0 [.ref an, .int (nI (j + 1))] H (fun v H' => v = none ∧ zXI w x aw an W (zup (zup N (j + 1) (N j)) j (N (j + 1))) wa (na) rf kn H' ∧ zUpd H H' an) zNoX :=
  zCt.ofV [(0, .ref an), (1, .int (nI (j + 1)))] hw.1 (by decide +kernel) (Nat.le_of_ble_eq_true rfl) rfl fun g cx hq _ => zwp_sound (tk_X1_change_2 cx hq) [] 80 (by
    obtain ⟨dw, dn, h0, ox, ow, on, hw8, hn8⟩ := hI
    obtain ⟨r, r1, r2, r3⟩ := hn8 j (by omega)
    obtain ⟨s, s1, s2, s3⟩ := hn8 (j + 1) (by omega)
    refine ⟨_, _, j + 1, s, on, rfl, hj, by decide, s1, _, _, j, r, on, nI_s1 j, by omega, by decide, r1, _, _, j + 1, on, rfl, hj, by decide, h0.2.2, ⟨_, r2⟩, fun H1 u1 a1 => ⟨_, _, j, a1, nI_s1 j, by omega, by decide, h0.2.2, ⟨_, u1.ob s2 (s2.neA hw on (by decide))⟩, fun H2 u2 a2 => ⟨rfl, ?_, ⟨u2.1.trans u1.1, fun q hq => (u2.2 q hq).trans (u1.2 q hq)⟩⟩⟩⟩
    have kob : ∀ {b ci : Nat} {fs : List Value}, ci < 9 → zOb w b ci fs H → zOb w b ci fs H2 := fun hc o => u2.ob (u1.ob o (o.neA hw on (by decide))) ((u1.ob o (o.neA hw on (by decide))).neA hw a1 (by decide))
    refine ⟨dw, va_up (va_up dn (j + 1) (some r)) j (some s), h0, kob (by decide) ox, u2.ar (u1.ar ow (ow.ne hw on (by decide) (by decide) (by decide))) ((u1.ar ow (ow.ne hw on (by decide) (by decide) (by decide))).ne hw a1 (by decide) (by decide) (by decide)), a2, fun k hk => ?_, fun k hk => ?_⟩
    · obtain ⟨q, q1, q2, q3⟩ := hw8 k hk
      exact ⟨q, q1, kob (by decide) q2, q3⟩
    · unfold zup va_up
      by_cases e1 : k = j
      · rw [if_pos e1, if_pos e1]; exact ⟨s, rfl, kob (by decide) s2, s3⟩
      · rw [if_neg e1, if_neg e1]
        by_cases e2 : k = j + 1
        · rw [if_pos e2, if_pos e2]; exact ⟨r, rfl, kob (by decide) r2, r3⟩
        · rw [if_neg e2, if_neg e2]
          obtain ⟨q, q1, q2, q3⟩ := hn8 k hk
          exact ⟨q, q1, kob (by decide) q2, q3⟩)

/-- the four counts -/
def zho (wa na rf kn i : Int32) : Int32 := if i = 0 then wa else if i = 1 then na else if i = 2 then rf else kn
theorem c4_house {w : zG} (hw : zWf w) {x aw an : Nat} {W N : Nat → Nat} {wa na rf kn : Int32} {H : Heap} (hI : zXI w x aw an W N wa na rf kn H) (i : Int32) : zCt w yX1_house wc_X1_house 9 2 10 [.ref x, .int i] H (fun v H' => zGr H H' ∧ (0 ≤ i ∧ i ≤ 3) ∧ v = some (.int (zho wa na rf kn i))) (fun E H' => E = zIA ∧ ¬ (0 ≤ i ∧ i ≤ 3) ∧ zGr H H') :=
  zCt.ofV [(0, .ref x), (1, .int i)] hw.1 (by decide +kernel) (Nat.le_of_ble_eq_true rfl) rfl fun g cx hq hold => zwp_sound (tk_X1_house cx hq) [] 80 (by
    refine zcall.pure (ct_X1_isIn w hw.1 i 0 3 _) (by decide) (zfitq hw (by decide) (by decide) (by decide) (fun hh => ?_) (fun E H' g1 g2 g3 => ⟨g1, g2, g3⟩))
    obtain ⟨dw, dn, h0, ox, ow, on, hw8, hn8⟩ := hI
    obtain ⟨j, hj, rfl⟩ := nI_of2 (M := 3) (n := 3) rfl (Int32.not_lt.mpr hh.1) hh.2
    have hN : zNew w H.size := hold.1
    refine ⟨4, rfl, by decide, by decide, by decide, fun H1 p1 a1 => ?_⟩
    have hx1 : H.size ≠ x := fun e => by have := ox.lt; omega
    have ox1 := p1.gr.ob ox
    refine ⟨_, ox1, _, _, 0, a1, rfl, by decide, by decide, hN, fun H2 u2 a2 => ?_⟩
    have ox2 := u2.ob ox1 (fun e => hx1 e.symm)
    refine ⟨_, ox2, _, _, 1, a2, rfl, by decide, by decide, hN, fun H3 u3 a3 => ?_⟩
    have ox3 := u3.ob ox2 (fun e => hx1 e.symm)
    refine ⟨_, ox3, _, _, 2, a3, rfl, by decide, by decide, hN, fun H4 u4 a4 => ?_⟩
    have ox4 := u4.ob ox3 (fun e => hx1 e.symm)
    refine ⟨_, ox4, _, _, 3, a4, rfl, by decide, by decide, hN, fun H5 u5 a5 => ⟨_, _, j, a5, rfl, by omega, by decide, ⟨?_, ?_⟩, hh, ?_⟩⟩
    · have := p1.1; have := u2.1; have := u3.1; have := u4.1; have := u5.1; omega
    · intro q hq
      have hne : q ≠ H.size := by omega
      rw [u5.2 q hne, u4.2 q hne, u3.2 q hne, u2.2 q hne, p1.2 q hq]
    · have hj4 : j = 0 ∨ j = 1 ∨ j = 2 ∨ j = 3 := by omega
      rcases hj4 with rfl | rfl | rfl | rfl <;> rfl)
