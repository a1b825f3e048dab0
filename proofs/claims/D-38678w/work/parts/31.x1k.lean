/-! contracts: Edgefloats, pair and three -/
theorem zcmp_neg {i j : Int} : zcmp i j = -(zcmp j i) := by
  unfold zcmp
  by_cases h : i < j
  · rw [if_pos h, if_neg (by omega), if_neg (by omega)]
  · rw [if_neg h]
    by_cases h2 : i = j
    · rw [if_pos h2, if_neg (by omega), if_pos h2.symm]; decide
    · rw [if_neg h2, if_pos (by omega)]; decide
theorem zkrk {K a b : Nat} (h : zkey K a < zkey K b) : zrnk K a < zrnk K b := by
  unfold zkey at h
  unfold zrnk
  split at h <;> split at h <;> rename_i p1 p2
  · rw [if_pos p1, if_pos p2]; omega
  · rw [if_pos p1, if_neg p2]; omega
  · rw [if_neg p1, if_pos p2]; omega
  · rw [if_neg p1, if_neg p2]; omega
theorem zkeq {K a b : Nat} (ha : a < 2 ^ (K + 1)) (hb : b < 2 ^ (K + 1)) (h : zkey K a = zkey K b) (hne : a ≠ b) : a % 2 ^ K = 0 ∧ b % 2 ^ K = 0 := by
  have h1 := Nat.div_add_mod a (2 ^ K)
  have h2 := Nat.div_add_mod b (2 ^ K)
  have h3 := Nat.mod_lt a (Nat.two_pow_pos K)
  have h4 := Nat.mod_lt b (Nat.two_pow_pos K)
  have q : ∀ n, n < 2 ^ K * 2 → 2 ^ K ≤ n → n % 2 ^ K = n - 2 ^ K := by
    intro n h1 h2
    rw [Nat.mod_eq_sub_mod h2, Nat.mod_eq_of_lt (by omega)]
  rw [Nat.pow_succ] at ha hb
  unfold zkey at h
  split at h <;> split at h <;> rename_i p1 p2
  · have := q a ha p1; have := q b hb p2; omega
  · have := q a ha p1; omega
  · have := q b hb p2; omega
  · rw [Nat.mod_eq_of_lt (by omega), Nat.mod_eq_of_lt (by omega)] at h; omega
theorem zqI_z {K fr one most n : Nat} (h : n % 2 ^ K = 0) : zqI K fr one most n = 0 := by unfold zqI zcnt; rw [if_pos h]; rfl

theorem zord1 {w : zG} (hw : zWf w) {x aw an : Nat} {W N : Nat → Nat} {wa na rf kn : Int32} {H : Heap} (hI : zXI w x aw an W N wa na rf kn H) {j k : Nat} (hj : j < 8) (hk : k < 8) {h : Int32} {d rc rs : Nat} {K : Nat → Nat → Option Value → Heap → Prop} {KX : Nat → Nat → String → Heap → Prop} (hd : 10 ≤ d) (h1 : 3 ≤ rc) (h2 : 18 ≤ rs) (hh : 0 ≤ h ∧ h ≤ 2) (kk : K 3 18 (some (.int (zcmp (zrnk 63 (W j)) (zrnk 63 (W k))))) H) : zcall w yX1_wideOrder wc_X1_wideOrder [.ref x, .int (nI j), .int (nI k), .int h] H d rc rs K KX :=
  zcall.mk (c4_wideOrder hw hI _ _ _) (by omega) h1 h2 (by
    rintro v _ ⟨rfl, j', k', e1, e2, e3, e4, _, rfl⟩ _
    obtain rfl := znIi hj e1 e3
    obtain rfl := znIi hk e2 e4
    exact kk) (by
    rintro E H' ⟨q | q, _⟩ _
    · rcases q.2 with q | q
      · exact absurd (zcellI hj) q
      · exact absurd (zcellI hk) q
    · exact absurd hh q.2.2)
theorem c4_isWidePair {w : zG} (hw : zWf w) {x aw an : Nat} {W N : Nat → Nat} {wa na rf kn : Int32} {H : Heap} (hI : zXI w x aw an W N wa na rf kn H) {j k : Nat} (hj : j < 8) (hk : k < 8) : zCt w yX1_isWidePair wc_X1_isWidePair 11 12 62 [.ref x, .int (nI j), .int (nI k)] H (fun v H' => v = some (.int 1) ∧ zGr H H') zNoX :=
  zCt.ofV [(0, .ref x), (1, .int (nI j)), (2, .int (nI k))] hw.1 (by decide +kernel) (Nat.le_of_ble_eq_true rfl) rfl fun g cx hq _ => zwp_sound (tk_X1_isWidePair cx hq) [(41, [0, 1, 2, 3, 4, 5])] 60 (by
    have hI9 := hI
    obtain ⟨dw, dn, h0, ox, ow, on, hw8, hn8⟩ := hI
    obtain ⟨r, r1, r2, r3⟩ := hw8 j hj
    obtain ⟨s, s1, s2, s3⟩ := hw8 k hk
    have hinj : zrnk 63 (W j) = zrnk 63 (W k) ↔ W j = W k := ⟨zrnk_inj r3.1 s3.1, fun e => by rw [e]⟩
    have hs01 : ∀ b : Int32, b = (if W j = W k then 1 else 0) → (b = 0 ∧ ¬ W j = W k) ∨ (b = 1 ∧ W j = W k) := by
      rintro b rfl
      by_cases e : W j = W k
      · rw [if_pos e]; exact Or.inr ⟨rfl, e⟩
      · rw [if_neg e]; exact Or.inl ⟨rfl, e⟩
    have seg1 : ∀ b : Int32, b = (if W j = W k then 1 else 0) → zV w g 11 12 62 41 [(0, .ref x), (1, .int (nI j)), (2, .int (nI k)), (3, .ref r), (4, .ref s), (5, .int b)] [] H := by
      intro b hb
      have seg2 : zV w g 11 6 26 96 [(0, .ref x), (1, .int (nI j)), (2, .int (nI k)), (3, .ref r), (4, .ref s), (5, .int b), (6, .int (zcmp (zrnk 63 (W j)) (zrnk 63 (W k)))), (7, .int 1)] [] H := by
        have seg3 : zV w g 11 6 26 123 [(0, .ref x), (1, .int (nI j)), (2, .int (nI k)), (3, .ref r), (4, .ref s), (5, .int b), (6, .int (zcmp (zrnk 63 (W j)) (zrnk 63 (W k)))), (7, .int 1)] [] H := by
          have seg4 : zV w g 11 4 14 168 [(0, .ref x), (1, .int (nI j)), (2, .int (nI k)), (3, .ref r), (4, .ref s), (6, .int (zcmp (zrnk 63 (W j)) (zrnk 63 (W k)))), (7, .int 1)] [] H := by
            refine zwp_sound (tk_X1_isWidePair cx hq) [(202, [0, 1, 2, 3, 4, 6, 7, 8, 9])] 60 ⟨⟨_, r2⟩, zcall.pure (c1_value hw r2) (by decide) ⟨⟨_, s2⟩, zcall.pure (c1_value hw s2) (by decide) (zcall.pure (c1_max hw r3 s3 H) (by decide) (zcall.ret (c1_valueOf hw H) (by decide) (by decide) (by decide) ?_))⟩⟩
            rintro _ H1 ⟨rfl, p1, o1⟩ _
            refine ⟨⟨_, p1.gr.ob r2⟩, zcall.pure (c1_value hw (p1.gr.ob r2)) (by decide) ⟨⟨_, p1.gr.ob s2⟩, zcall.pure (c1_value hw (p1.gr.ob s2)) (by decide) (zcall.pure (c1_min hw r3 s3 H1) (by decide) (zcall.ret (c1_valueOf hw H1) (by decide) (by decide) (by decide) ?_))⟩⟩
            rintro _ H2 ⟨rfl, p2, o2⟩ _
            have g2 := p1.gr.trans p2.gr
            have seg5 : zV w g 11 2 12 250 [(0, .ref x), (1, .int (nI j)), (2, .int (nI k)), (6, .int (zcmp (zrnk 63 (W j)) (zrnk 63 (W k)))), (7, .int 1)] [] H2 := by
              refine zwp_sound (tk_X1_isWidePair cx hq) [] 60 ⟨fun h => absurd h (by decide), fun _ => ⟨⟨_, g2.ob ox⟩, zcall.mk (c4_wideBelow hw (hI9.gr g2) _ _ _) (by decide) (by decide) (by decide) ?_ ?_⟩⟩
              · rintro v _ ⟨rfl, j', k', e1, e2, e3, e4, rfl⟩ _
                obtain rfl := znIi hj e1 e3
                obtain rfl := znIi hk e2 e4
                refine ⟨fun _ => ⟨zb2, rfl, g2⟩, fun h => ⟨fun h5 => ?_, fun h5 => ⟨zb2, rfl, g2⟩⟩⟩
                rw [zcmp_ge] at h5
                rcases zitb h with q | q
                · have := zkrk q; omega
                · exact absurd rfl q.1
              · rintro E H' ⟨_, q | q, _⟩ _
                · exact absurd (zcellI hj) q
                · exact absurd (zcellI hk) q
            refine zwp_sound (tk_X1_isWidePair cx hq) [(250, [0, 1, 2, 6, 7])] 60 ⟨fun h => ⟨⟨_, p2.gr.ob o1⟩, zcall.pure (c1_equals hw (by split; exact r3; exact s3) r3 (p2.gr.ob o1) (g2.ob r2)) (by decide) ?_⟩, fun h => ⟨⟨_, p2.gr.ob o1⟩, zcall.pure (c1_equals hw (by split; exact r3; exact s3) s3 (p2.gr.ob o1) (g2.ob s2)) (by decide) ?_⟩⟩
            · rw [zcmp_ge] at h
              rw [if_pos h]
              refine ⟨fun h5 => absurd rfl (zite h5), fun _ => ⟨fun h6 => ⟨⟨_, o2⟩, zcall.pure (c1_equals hw (by split; exact r3; exact s3) s3 o2 (g2.ob s2)) (by decide) ?_⟩, fun h6 => absurd (zcmp_ge.mpr h) h6⟩⟩
              have e : (if zrnk 63 (W j) ≤ zrnk 63 (W k) then W j else W k) = W k := by
                by_cases q : zrnk 63 (W j) ≤ zrnk 63 (W k)
                · rw [if_pos q]; exact hinj.mp (by omega)
                · rw [if_neg q]
              rw [e]
              exact ⟨fun h5 => absurd rfl (zite h5), fun _ => seg5⟩
            · rw [zcmp_ge] at h
              rw [if_neg h]
              refine ⟨fun h5 => absurd rfl (zite h5), fun _ => ⟨fun h6 => absurd (zcmp_ge.mp h6) h, fun h6 => ⟨⟨_, o2⟩, zcall.pure (c1_equals hw (by split; exact r3; exact s3) r3 o2 (g2.ob r2)) (by decide) ?_⟩⟩⟩
              rw [if_pos (show zrnk 63 (W j) ≤ zrnk 63 (W k) by omega)]
              exact ⟨fun h5 => absurd rfl (zite h5), fun _ => seg5⟩
          refine zwp_sound (tk_X1_isWidePair cx hq) [(168, [0, 1, 2, 3, 4, 6, 7])] 60 ⟨⟨_, ox⟩, zcall.mk (c4_wideLike hw hI9 _ _) (by decide) (by decide) (by decide) ?_ ?_⟩
          · rintro v _ ⟨rfl, j', k', e1, e2, e3, e4, rfl⟩ _
            obtain rfl := znIi hj e1 e3
            obtain rfl := znIi hk e2 e4
            refine ⟨fun _ => seg4, fun h => ⟨fun _ => seg4, fun h5 => ?_⟩⟩
            rcases hs01 b hb with ⟨rfl, hne⟩ | ⟨rfl, -⟩
            · obtain ⟨za, zb⟩ := zkeq r3.1 s3.1 (zitb h) hne
              exact ⟨⟨_, r2⟩, zcall.pure (c1_value hw r2) (by decide) (zcall.pure (c4_quartersOf hw r3 _) (by decide) ⟨fun q => absurd (zqI_z za) q, fun _ => ⟨⟨_, s2⟩, zcall.pure (c1_value hw s2) (by decide) (zcall.pure (c4_quartersOf hw s3 _) (by decide) ⟨fun q => absurd (zqI_z zb) q, fun _ => seg4⟩)⟩⟩)⟩
            · exact absurd h5 (by decide)
          · rintro E H' ⟨_, q | q, _⟩ _
            · exact absurd (zcellI hj) q
            · exact absurd (zcellI hk) q
        refine zwp_sound (tk_X1_isWidePair cx hq) [(123, [0, 1, 2, 3, 4, 5, 6, 7])] 60 ⟨fun _ => seg3, fun h => ?_⟩
        rcases hs01 b hb with ⟨rfl, hne⟩ | ⟨-, he⟩
        · exact absurd rfl h
        · refine ⟨⟨_, r2⟩, zcall.pure (c1_hashCode hw r3 r2) (by decide) ⟨⟨_, s2⟩, zcall.pure (c1_hashCode hw s3 s2) (by decide) ⟨fun q => absurd (by rw [he]) q, fun _ => seg3⟩⟩⟩
      refine zwp_sound (tk_X1_isWidePair cx hq) [(96, [0, 1, 2, 3, 4, 5, 6, 7])] 60 ⟨⟨_, ox⟩, zord1 hw hI9 hj hk (by decide) (by decide) (by decide) (by decide) ⟨⟨_, ox⟩, zord1 hw hI9 hk hj (by decide) (by decide) (by decide) (by decide) ⟨fun h => absurd zcmp_neg h, fun _ => ⟨fun h => ?_, fun h => ?_⟩⟩⟩⟩
      · rw [zcmp_eq, hinj] at h
        rcases hs01 b hb with ⟨rfl, hne⟩ | ⟨rfl, he⟩
        · refine ⟨fun q => absurd rfl q, fun _ => ⟨⟨_, r2⟩, zcall.pure (c1_equals hw r3 s3 r2 s2) (by decide) ⟨fun q => absurd (if_neg hne) q, fun _ => seg2⟩⟩⟩
        · exact absurd he h
      · rw [zcmp_eq, hinj] at h
        rcases hs01 b hb with ⟨rfl, hne⟩ | ⟨rfl, he⟩
        · exact absurd h hne
        · refine ⟨fun q => absurd rfl q, fun _ => ⟨⟨_, r2⟩, zcall.pure (c1_equals hw r3 s3 r2 s2) (by decide) ⟨fun q => absurd (if_pos he) q, fun _ => seg2⟩⟩⟩
    refine ⟨_, ox, _, _, j, r, ow, rfl, hj, by decide, r1, _, ox, _, _, k, s, ow, rfl, hk, by decide, s1, ⟨_, r2⟩, zcall.pure (c1_value hw r2) (by decide) (zcall.pure (c4_digitsOf hw r3 H) (by decide) ⟨⟨_, s2⟩, zcall.pure (c1_value hw s2) (by decide) (zcall.pure (c4_digitsOf hw s3 H) (by decide) ⟨fun h => ?_, fun h => ?_⟩)⟩)⟩
    · exact seg1 0 (by rw [if_neg (fun e => h (by rw [zlg, zcmp_eq, e]))])
    · exact seg1 1 (by rw [if_pos (by exact dl_inj r3.1 s3.1 (Int64.toInt_inj.mp (by rw [zlg, zcmp_eq] at h; exact h)))]))
theorem c4_isWideThree {w : zG} (hw : zWf w) {x aw an : Nat} {W N : Nat → Nat} {wa na rf kn : Int32} {H : Heap} (hI : zXI w x aw an W N wa na rf kn H) {i j k : Nat} (hi : i < 8) (hj : j < 8) (hk : k < 8) : zCt w yX1_isWideThree wc_X1_isWideThree 11 9 54 [.ref x, .int (nI i), .int (nI j), .int (nI k)] H (fun v H' => v = some (.int 1) ∧ zGr H H') zNoX :=
  zCt.ofV [(0, .ref x), (1, .int (nI i)), (2, .int (nI j)), (3, .int (nI k))] hw.1 (by decide +kernel) (Nat.le_of_ble_eq_true rfl) rfl fun g cx hq _ => zwp_sound (tk_X1_isWideThree cx hq) [] 60 (by
    have ox := hI.choose_spec.choose_spec.2.1
    refine ⟨⟨_, ox⟩, zord1 hw hI hi hj (by decide) (by decide) (by decide) (by decide) ⟨fun _ => ⟨zb2, rfl, zGr.rf⟩, fun h1 => ⟨⟨_, ox⟩, zord1 hw hI hj hk (by decide) (by decide) (by decide) (by decide) ⟨fun _ => ⟨zb2, rfl, zGr.rf⟩, fun h2 => ⟨⟨_, ox⟩, zord1 hw hI hi hk (by decide) (by decide) (by decide) (by decide) ⟨fun h3 => ?_, fun _ => ⟨zb2, rfl, zGr.rf⟩⟩⟩⟩⟩⟩⟩
    rw [zcmp_ge] at h1 h2 h3
    omega)

theorem zord2 {w : zG} (hw : zWf w) {x aw an : Nat} {W N : Nat → Nat} {wa na rf kn : Int32} {H : Heap} (hI : zXI w x aw an W N wa na rf kn H) {j k : Nat} (hj : j < 8) (hk : k < 8) {h : Int32} {d rc rs : Nat} {K : Nat → Nat → Option Value → Heap → Prop} {KX : Nat → Nat → String → Heap → Prop} (hd : 10 ≤ d) (h1 : 3 ≤ rc) (h2 : 18 ≤ rs) (hh : 0 ≤ h ∧ h ≤ 2) (kk : K 3 18 (some (.int (zcmp (zrnk 31 (N j)) (zrnk 31 (N k))))) H) : zcall w yX1_narrowOrder wc_X1_narrowOrder [.ref x, .int (nI j), .int (nI k), .int h] H d rc rs K KX :=
  zcall.mk (c4_narrowOrder hw hI _ _ _) (by omega) h1 h2 (by
    rintro v _ ⟨rfl, j', k', e1, e2, e3, e4, _, rfl⟩ _
    obtain rfl := znIi hj e1 e3
    obtain rfl := znIi hk e2 e4
    exact kk) (by
    rintro E H' ⟨q | q, _⟩ _
    · rcases q.2 with q | q
      · exact absurd (zcellI hj) q
      · exact absurd (zcellI hk) q
    · exact absurd hh q.2.2)
theorem c4_isNarrowPair {w : zG} (hw : zWf w) {x aw an : Nat} {W N : Nat → Nat} {wa na rf kn : Int32} {H : Heap} (hI : zXI w x aw an W N wa na rf kn H) {j k : Nat} (hj : j < 8) (hk : k < 8) : zCt w yX1_isNarrowPair wc_X1_isNarrowPair 11 12 62 [.ref x, .int (nI j), .int (nI k)] H (fun v H' => v = some (.int 1) ∧ zGr H H') zNoX :=
  zCt.ofV [(0, .ref x), (1, .int (nI j)), (2, .int (nI k))] hw.1 (by decide +kernel) (Nat.le_of_ble_eq_true rfl) rfl fun g cx hq _ => zwp_sound (tk_X1_isNarrowPair cx hq) [(40, [0, 1, 2, 3, 4, 5])] 60 (by
    have hI9 := hI
    obtain ⟨dw, dn, h0, ox, ow, on, hw8, hn8⟩ := hI
    obtain ⟨r, r1, r2, r3⟩ := hn8 j hj
    obtain ⟨s, s1, s2, s3⟩ := hn8 k hk
    have hinj : zrnk 31 (N j) = zrnk 31 (N k) ↔ N j = N k := ⟨zrnk_inj r3.1 s3.1, fun e => by rw [e]⟩
    have hs01 : ∀ b : Int32, b = (if N j = N k then 1 else 0) → (b = 0 ∧ ¬ N j = N k) ∨ (b = 1 ∧ N j = N k) := by
      rintro b rfl
      by_cases e : N j = N k
      · rw [if_pos e]; exact Or.inr ⟨rfl, e⟩
      · rw [if_neg e]; exact Or.inl ⟨rfl, e⟩
    have seg1 : ∀ b : Int32, b = (if N j = N k then 1 else 0) → zV w g 11 12 62 40 [(0, .ref x), (1, .int (nI j)), (2, .int (nI k)), (3, .ref r), (4, .ref s), (5, .int b)] [] H := by
      intro b hb
      have seg2 : zV w g 11 6 26 95 [(0, .ref x), (1, .int (nI j)), (2, .int (nI k)), (3, .ref r), (4, .ref s), (5, .int b), (6, .int (zcmp (zrnk 31 (N j)) (zrnk 31 (N k)))), (7, .int 1)] [] H := by
        have seg3 : zV w g 11 6 26 122 [(0, .ref x), (1, .int (nI j)), (2, .int (nI k)), (3, .ref r), (4, .ref s), (5, .int b), (6, .int (zcmp (zrnk 31 (N j)) (zrnk 31 (N k)))), (7, .int 1)] [] H := by
          have seg4 : zV w g 11 4 14 167 [(0, .ref x), (1, .int (nI j)), (2, .int (nI k)), (3, .ref r), (4, .ref s), (6, .int (zcmp (zrnk 31 (N j)) (zrnk 31 (N k)))), (7, .int 1)] [] H := by
            refine zwp_sound (tk_X1_isNarrowPair cx hq) [(201, [0, 1, 2, 3, 4, 6, 7, 8, 9])] 60 ⟨⟨_, r2⟩, zcall.pure (c2_value hw r2) (by decide) ⟨⟨_, s2⟩, zcall.pure (c2_value hw s2) (by decide) (zcall.pure (c2_max hw r3 s3 H) (by decide) (zcall.ret (c2_valueOf hw H) (by decide) (by decide) (by decide) ?_))⟩⟩
            rintro _ H1 ⟨rfl, p1, o1⟩ _
            refine ⟨⟨_, p1.gr.ob r2⟩, zcall.pure (c2_value hw (p1.gr.ob r2)) (by decide) ⟨⟨_, p1.gr.ob s2⟩, zcall.pure (c2_value hw (p1.gr.ob s2)) (by decide) (zcall.pure (c2_min hw r3 s3 H1) (by decide) (zcall.ret (c2_valueOf hw H1) (by decide) (by decide) (by decide) ?_))⟩⟩
            rintro _ H2 ⟨rfl, p2, o2⟩ _
            have g2 := p1.gr.trans p2.gr
            have seg5 : zV w g 11 2 12 249 [(0, .ref x), (1, .int (nI j)), (2, .int (nI k)), (6, .int (zcmp (zrnk 31 (N j)) (zrnk 31 (N k)))), (7, .int 1)] [] H2 := by
              refine zwp_sound (tk_X1_isNarrowPair cx hq) [] 60 ⟨fun h => absurd h (by decide), fun _ => ⟨⟨_, g2.ob ox⟩, zcall.mk (c4_narrowBelow hw (hI9.gr g2) _ _ _) (by decide) (by decide) (by decide) ?_ ?_⟩⟩
              · rintro v _ ⟨rfl, j', k', e1, e2, e3, e4, rfl⟩ _
                obtain rfl := znIi hj e1 e3
                obtain rfl := znIi hk e2 e4
                refine ⟨fun _ => ⟨zb2, rfl, g2⟩, fun h => ⟨fun h5 => ?_, fun h5 => ⟨zb2, rfl, g2⟩⟩⟩
                rw [zcmp_ge] at h5
                rcases zitb h with q | q
                · have := zkrk q; omega
                · exact absurd rfl q.1
              · rintro E H' ⟨_, q | q, _⟩ _
                · exact absurd (zcellI hj) q
                · exact absurd (zcellI hk) q
            refine zwp_sound (tk_X1_isNarrowPair cx hq) [(249, [0, 1, 2, 6, 7])] 60 ⟨fun h => ⟨⟨_, p2.gr.ob o1⟩, zcall.pure (c2_equals hw (by split; exact r3; exact s3) r3 (p2.gr.ob o1) (g2.ob r2)) (by decide) ?_⟩, fun h => ⟨⟨_, p2.gr.ob o1⟩, zcall.pure (c2_equals hw (by split; exact r3; exact s3) s3 (p2.gr.ob o1) (g2.ob s2)) (by decide) ?_⟩⟩
            · rw [zcmp_ge] at h
              rw [if_pos h]
              refine ⟨fun h5 => absurd rfl (zite h5), fun _ => ⟨fun h6 => ⟨⟨_, o2⟩, zcall.pure (c2_equals hw (by split; exact r3; exact s3) s3 o2 (g2.ob s2)) (by decide) ?_⟩, fun h6 => absurd (zcmp_ge.mpr h) h6⟩⟩
              have e : (if zrnk 31 (N j) ≤ zrnk 31 (N k) then N j else N k) = N k := by
                by_cases q : zrnk 31 (N j) ≤ zrnk 31 (N k)
                · rw [if_pos q]; exact hinj.mp (by omega)
                · rw [if_neg q]
              rw [e]
              exact ⟨fun h5 => absurd rfl (zite h5), fun _ => seg5⟩
            · rw [zcmp_ge] at h
              rw [if_neg h]
              refine ⟨fun h5 => absurd rfl (zite h5), fun _ => ⟨fun h6 => absurd (zcmp_ge.mp h6) h, fun h6 => ⟨⟨_, o2⟩, zcall.pure (c2_equals hw (by split; exact r3; exact s3) r3 o2 (g2.ob r2)) (by decide) ?_⟩⟩⟩
              rw [if_pos (show zrnk 31 (N j) ≤ zrnk 31 (N k) by omega)]
              exact ⟨fun h5 => absurd rfl (zite h5), fun _ => seg5⟩
          refine zwp_sound (tk_X1_isNarrowPair cx hq) [(167, [0, 1, 2, 3, 4, 6, 7])] 60 ⟨⟨_, ox⟩, zcall.mk (c4_narrowLike hw hI9 _ _) (by decide) (by decide) (by decide) ?_ ?_⟩
          · rintro v _ ⟨rfl, j', k', e1, e2, e3, e4, rfl⟩ _
            obtain rfl := znIi hj e1 e3
            obtain rfl := znIi hk e2 e4
            refine ⟨fun _ => seg4, fun h => ⟨fun _ => seg4, fun h5 => ?_⟩⟩
            rcases hs01 b hb with ⟨rfl, hne⟩ | ⟨rfl, -⟩
            · obtain ⟨za, zb⟩ := zkeq r3.1 s3.1 (zitb h) hne
              exact ⟨⟨_, r2⟩, zcall.pure (c2_value hw r2) (by decide) (zcall.pure (c4_quartersOf_2 hw r3 _) (by decide) ⟨fun q => absurd (zqI_z za) q, fun _ => ⟨⟨_, s2⟩, zcall.pure (c2_value hw s2) (by decide) (zcall.pure (c4_quartersOf_2 hw s3 _) (by decide) ⟨fun q => absurd (zqI_z zb) q, fun _ => seg4⟩)⟩⟩)⟩
            · exact absurd h5 (by decide)
          · rintro E H' ⟨_, q | q, _⟩ _
            · exact absurd (zcellI hj) q
            · exact absurd (zcellI hk) q
        refine zwp_sound (tk_X1_isNarrowPair cx hq) [(122, [0, 1, 2, 3, 4, 5, 6, 7])] 60 ⟨fun _ => seg3, fun h => ?_⟩
        rcases hs01 b hb with ⟨rfl, hne⟩ | ⟨-, he⟩
        · exact absurd rfl h
        · refine ⟨⟨_, r2⟩, zcall.pure (c2_hashCode hw r3 r2) (by decide) ⟨⟨_, s2⟩, zcall.pure (c2_hashCode hw s3 s2) (by decide) ⟨fun q => absurd (by rw [he]) q, fun _ => seg3⟩⟩⟩
      refine zwp_sound (tk_X1_isNarrowPair cx hq) [(95, [0, 1, 2, 3, 4, 5, 6, 7])] 60 ⟨⟨_, ox⟩, zord2 hw hI9 hj hk (by decide) (by decide) (by decide) (by decide) ⟨⟨_, ox⟩, zord2 hw hI9 hk hj (by decide) (by decide) (by decide) (by decide) ⟨fun h => absurd zcmp_neg h, fun _ => ⟨fun h => ?_, fun h => ?_⟩⟩⟩⟩
      · rw [zcmp_eq, hinj] at h
        rcases hs01 b hb with ⟨rfl, hne⟩ | ⟨rfl, he⟩
        · refine ⟨fun q => absurd rfl q, fun _ => ⟨⟨_, r2⟩, zcall.pure (c2_equals hw r3 s3 r2 s2) (by decide) ⟨fun q => absurd (if_neg hne) q, fun _ => seg2⟩⟩⟩
        · exact absurd he h
      · rw [zcmp_eq, hinj] at h
        rcases hs01 b hb with ⟨rfl, hne⟩ | ⟨rfl, he⟩
        · exact absurd h hne
        · refine ⟨fun q => absurd rfl q, fun _ => ⟨⟨_, r2⟩, zcall.pure (c2_equals hw r3 s3 r2 s2) (by decide) ⟨fun q => absurd (if_pos he) q, fun _ => seg2⟩⟩⟩
    refine ⟨_, ox, _, _, j, r, on, rfl, hj, by decide, r1, _, ox, _, _, k, s, on, rfl, hk, by decide, s1, ⟨_, r2⟩, zcall.pure (c2_value hw r2) (by decide) (zcall.pure (c4_digitsOf_2 hw r3 H) (by decide) ⟨⟨_, s2⟩, zcall.pure (c2_value hw s2) (by decide) (zcall.pure (c4_digitsOf_2 hw s3 H) (by decide) ⟨fun h => ?_, fun h => ?_⟩)⟩)⟩
    · exact seg1 0 (by rw [if_neg (fun e => h (by rw [e]))])
    · exact seg1 1 (by rw [if_pos (by exact fl_inj r3.1 s3.1 h)]))
theorem c4_isNarrowThree {w : zG} (hw : zWf w) {x aw an : Nat} {W N : Nat → Nat} {wa na rf kn : Int32} {H : Heap} (hI : zXI w x aw an W N wa na rf kn H) {i j k : Nat} (hi : i < 8) (hj : j < 8) (hk : k < 8) : zCt w yX1_isNarrowThree wc_X1_isNarrowThree 11 9 54 [.ref x, .int (nI i), .int (nI j), .int (nI k)] H (fun v H' => v = some (.int 1) ∧ zGr H H') zNoX :=
  zCt.ofV [(0, .ref x), (1, .int (nI i)), (2, .int (nI j)), (3, .int (nI k))] hw.1 (by decide +kernel) (Nat.le_of_ble_eq_true rfl) rfl fun g cx hq _ => zwp_sound (tk_X1_isNarrowThree cx hq) [] 60 (by
    have ox := hI.choose_spec.choose_spec.2.1
    refine ⟨⟨_, ox⟩, zord2 hw hI hi hj (by decide) (by decide) (by decide) (by decide) ⟨fun _ => ⟨zb2, rfl, zGr.rf⟩, fun h1 => ⟨⟨_, ox⟩, zord2 hw hI hj hk (by decide) (by decide) (by decide) (by decide) ⟨fun _ => ⟨zb2, rfl, zGr.rf⟩, fun h2 => ⟨⟨_, ox⟩, zord2 hw hI hi hk (by decide) (by decide) (by decide) (by decide) ⟨fun h3 => ?_, fun _ => ⟨zb2, rfl, zGr.rf⟩⟩⟩⟩⟩⟩⟩
    rw [zcmp_ge] at h1 h2 h3
    omega)
