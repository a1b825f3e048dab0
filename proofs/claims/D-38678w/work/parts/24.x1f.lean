/-! contracts: Edgefloats, end and has and house -/
def zpk (K : Nat) (g : Bool) (a b : Nat) : Nat := if g then (if zrnk K b ≤ zrnk K a then a else b) else (if zrnk K a ≤ zrnk K b then a else b)
theorem zpk_t {K : Nat} {g : Bool} {a b : Nat} (h : g = true) : zpk K g a b = if zrnk K b ≤ zrnk K a then a else b := by subst h; rfl
theorem zpk_f {K : Nat} {g : Bool} {a b : Nat} (h : g = false) : zpk K g a b = if zrnk K a ≤ zrnk K b then a else b := by subst h; rfl
def zbe (K : Nat) (g : Bool) (C : Nat → Nat) : Nat → Nat
  | 0 => C 0
  | k + 1 => zpk K g (zbe K g C k) (C k)
def zan (C : Nat → Nat) (v : Nat) : Nat → Bool
  | 0 => false
  | k + 1 => zan C v k || C k == v
theorem zior {a b : Bool} : (if a then (1 : Int32) else 0) ||| (if b then 1 else 0) = if (a || b) then 1 else 0 := by cases a <;> cases b <;> rfl
theorem zbt {b : Bool} : (if b then (1 : Int32) else 0) = 0 ∨ (if b then (1 : Int32) else 0) = 1 := by cases b; exact Or.inl rfl; exact Or.inr rfl
theorem zpk_ok {K : Nat} {g : Bool} {a b : Nat} {p : Nat → Prop} (ha : p a) (hb : p b) : p (zpk K g a b) := by
  unfold zpk; repeat' split
  all_goals assumption
theorem zLE8 {k : Nat} (h : k < 8) : ¬ (8 : Int32) ≤ nI k := by
  rw [Int32.le_iff_toInt_le, ziT (by omega), if_pos (by omega), show (8 : Int32).toInt = 8 from by decide]; omega

theorem c4_wideEnd {w : zG} (hw : zWf w) {x aw an : Nat} {W N : Nat → Nat} {wa na rf kn : Int32} {H : Heap} (hI : zXI w x aw an W N wa na rf kn H) (gr c : Int32) : zCt w yX1_wideEnd wc_X1_wideEnd 9 10 20 [.ref x, .int gr, .int c] H (fun v H' => ∃ j, j < 8 ∧ c = nI j ∧ v = some (.int (if W j = zbe 63 (decide (¬ gr = 0)) W 8 then 0 else 1)) ∧ zXI w x aw an (zup W j (zbe 63 (decide (¬ gr = 0)) W 8)) N (wa + 1) na rf kn H' ∧ zFr x aw an H H') (fun E H' => E = zIO ∧ ¬ (0 ≤ c ∧ c ≤ 7) ∧ zGr H H') :=
  zCt.ofV [(0, .ref x), (1, .int gr), (2, .int c)] hw.1 (by decide +kernel) (Nat.le_of_ble_eq_true rfl) rfl fun g cx hq _ => zwp_sound (tk_X1_wideEnd cx hq) [(25, [0, 1, 2, 3, 4, 5, 6])] 80 (by
    have ox9 := hI.choose_spec.choose_spec.2.1
    refine zcall.mk (ct_X1_mustBeCell w hw.1 c H) (by decide) (by decide) (by decide) ?_ (fun E H' h _ => h)
    rintro v9 H9 ⟨e8, e9, hc⟩ _
    subst e8
    have e9 := e9.symm
    subst e9
    have key : ∀ f k H1 r, k + f = 8 → zGr H H1 → zOb w r 1 [dv (zbe 63 (decide (¬ gr = 0)) W k)] H1 → zok 63 (zbe 63 (decide (¬ gr = 0)) W k) → zV w g 9 (1 + f) (6 + f) 25 [(0, .ref x), (1, .int gr), (2, .int c), (3, .ref r), (4, .ref aw), (5, .int 8), (6, .int (nI k))] [] H1 := by
      intro f
      induction f with
      | zero =>
        intro k H1 r h8 hg ho hk
        obtain rfl : k = 8 := by omega
        refine zwp_sound (tk_X1_wideEnd cx hq) [] 40 ⟨fun _ => ⟨⟨_, hg.ob ox9⟩, zput1 hw (hI.gr hg) c ho hk (by decide) (by decide) (by decide) (fun j H' g1 g2 g3 g4 => ⟨j, g1, g2, rfl, g3, hg.fr.trans g4⟩) (fun E H' g1 g2 g3 => absurd hc g2)⟩, fun h => absurd (by decide) h⟩
      | succ f ih =>
        intro k H1 r h8 hg ho hk
        obtain ⟨dw, dn, h0, ox, ow, on, hw8, hn8⟩ := hI.gr hg
        obtain ⟨s, h1, h2, h3⟩ := hw8 k (by omega)
        have nx : ∀ b, b = zpk 63 (decide (¬ gr = 0)) (zbe 63 (decide (¬ gr = 0)) W k) (W k) → zV w g 9 (1 + (f + 1)) (6 + (f + 1)) 70 [(0, .ref x), (1, .int gr), (2, .int c), (4, .ref aw), (5, .int 8), (6, .int (nI k))] [dv b] H1 := by
          rintro _ rfl
          refine zwp_sound (tk_X1_wideEnd cx hq) [(25, [0, 1, 2, 3, 4, 5, 6])] 40 (zcall.ret (c1_valueOf hw _) (by decide) (by omega) (by omega) ?_)
          rintro _ H2 ⟨rfl, p1, o1⟩ _
          have hz := ih (k + 1) H2 _ (by omega) (hg.trans p1.gr) o1 (zpk_ok (p := zok 63) hk h3)
          rw [← nI_1] at hz
          exact hz.mono (by omega) (by omega)
        refine zwp_sound (tk_X1_wideEnd cx hq) [(25, [0, 1, 2, 3, 4, 5, 6]), (70, [0, 1, 2, 4, 5, 6])] 80 ⟨fun h => absurd h (zLE8 (by omega)), fun _ => ⟨_, _, k, s, ow, rfl, by omega, by decide, h1, fun hg0 => ?_, fun hg0 => ?_⟩⟩
        · exact ⟨⟨_, ho⟩, zcall.pure (c1_value hw ho) (by decide) ⟨⟨_, h2⟩, zcall.pure (c1_value hw h2) (by decide) (zcall.pure (c1_min hw hk h3 _) (by decide) (nx _ (zpk_f (decide_eq_false (fun q => q hg0))).symm))⟩⟩
        · exact ⟨⟨_, ho⟩, zcall.pure (c1_value hw ho) (by decide) ⟨⟨_, h2⟩, zcall.pure (c1_value hw h2) (by decide) (zcall.pure (c1_max hw hk h3 _) (by decide) (nx _ (zpk_t (decide_eq_true hg0)).symm))⟩⟩
    obtain ⟨dw, dn, h0, ox, ow, on, hw8, hn8⟩ := hI
    obtain ⟨s, h1, h2, h3⟩ := hw8 0 (by decide)
    exact ⟨_, ox, _, _, 0, s, ow, rfl, by decide, by decide, h1, _, ox, 4, _, by decide, ow, key 8 0 H s rfl zGr.rf h2 h3⟩)

theorem c4_narrowEnd {w : zG} (hw : zWf w) {x aw an : Nat} {W N : Nat → Nat} {wa na rf kn : Int32} {H : Heap} (hI : zXI w x aw an W N wa na rf kn H) (gr c : Int32) : zCt w yX1_narrowEnd wc_X1_narrowEnd 9 10 20 [.ref x, .int gr, .int c] H (fun v H' => ∃ j, j < 8 ∧ c = nI j ∧ v = some (.int (if N j = zbe 31 (decide (¬ gr = 0)) N 8 then 0 else 1)) ∧ zXI w x aw an W (zup N j (zbe 31 (decide (¬ gr = 0)) N 8)) wa (na + 1) rf kn H' ∧ zFr x aw an H H') (fun E H' => E = zIO ∧ ¬ (0 ≤ c ∧ c ≤ 7) ∧ zGr H H') :=
  zCt.ofV [(0, .ref x), (1, .int gr), (2, .int c)] hw.1 (by decide +kernel) (Nat.le_of_ble_eq_true rfl) rfl fun g cx hq _ => zwp_sound (tk_X1_narrowEnd cx hq) [(25, [0, 1, 2, 3, 4, 5, 6])] 80 (by
    have ox9 := hI.choose_spec.choose_spec.2.1
    refine zcall.mk (ct_X1_mustBeCell w hw.1 c H) (by decide) (by decide) (by decide) ?_ (fun E H' h _ => h)
    rintro v9 H9 ⟨e8, e9, hc⟩ _
    subst e8
    have e9 := e9.symm
    subst e9
    have key : ∀ f k H1 r, k + f = 8 → zGr H H1 → zOb w r 2 [fv (zbe 31 (decide (¬ gr = 0)) N k)] H1 → zok 31 (zbe 31 (decide (¬ gr = 0)) N k) → zV w g 9 (1 + f) (6 + f) 25 [(0, .ref x), (1, .int gr), (2, .int c), (3, .ref r), (4, .ref an), (5, .int 8), (6, .int (nI k))] [] H1 := by
      intro f
      induction f with
      | zero =>
        intro k H1 r h8 hg ho hk
        obtain rfl : k = 8 := by omega
        refine zwp_sound (tk_X1_narrowEnd cx hq) [] 40 ⟨fun _ => ⟨⟨_, hg.ob ox9⟩, zput2 hw (hI.gr hg) c ho hk (by decide) (by decide) (by decide) (fun j H' g1 g2 g3 g4 => ⟨j, g1, g2, rfl, g3, hg.fr.trans g4⟩) (fun E H' g1 g2 g3 => absurd hc g2)⟩, fun h => absurd (by decide) h⟩
      | succ f ih =>
        intro k H1 r h8 hg ho hk
        obtain ⟨dw, dn, h0, ox, ow, on, hw8, hn8⟩ := hI.gr hg
        obtain ⟨s, h1, h2, h3⟩ := hn8 k (by omega)
        have nx : ∀ b, b = zpk 31 (decide (¬ gr = 0)) (zbe 31 (decide (¬ gr = 0)) N k) (N k) → zV w g 9 (1 + (f + 1)) (6 + (f + 1)) 70 [(0, .ref x), (1, .int gr), (2, .int c), (4, .ref an), (5, .int 8), (6, .int (nI k))] [fv b] H1 := by
          rintro _ rfl
          refine zwp_sound (tk_X1_narrowEnd cx hq) [(25, [0, 1, 2, 3, 4, 5, 6])] 40 (zcall.ret (c2_valueOf hw _) (by decide) (by omega) (by omega) ?_)
          rintro _ H2 ⟨rfl, p1, o1⟩ _
          have hz := ih (k + 1) H2 _ (by omega) (hg.trans p1.gr) o1 (zpk_ok (p := zok 31) hk h3)
          rw [← nI_1] at hz
          exact hz.mono (by omega) (by omega)
        refine zwp_sound (tk_X1_narrowEnd cx hq) [(25, [0, 1, 2, 3, 4, 5, 6]), (70, [0, 1, 2, 4, 5, 6])] 80 ⟨fun h => absurd h (zLE8 (by omega)), fun _ => ⟨_, _, k, s, on, rfl, by omega, by decide, h1, fun hg0 => ?_, fun hg0 => ?_⟩⟩
        · exact ⟨⟨_, ho⟩, zcall.pure (c2_value hw ho) (by decide) ⟨⟨_, h2⟩, zcall.pure (c2_value hw h2) (by decide) (zcall.pure (c2_min hw hk h3 _) (by decide) (nx _ (zpk_f (decide_eq_false (fun q => q hg0))).symm))⟩⟩
        · exact ⟨⟨_, ho⟩, zcall.pure (c2_value hw ho) (by decide) ⟨⟨_, h2⟩, zcall.pure (c2_value hw h2) (by decide) (zcall.pure (c2_max hw hk h3 _) (by decide) (nx _ (zpk_t (decide_eq_true hg0)).symm))⟩⟩
    obtain ⟨dw, dn, h0, ox, ow, on, hw8, hn8⟩ := hI
    obtain ⟨s, h1, h2, h3⟩ := hn8 0 (by decide)
    exact ⟨_, ox, _, _, 0, s, on, rfl, by decide, by decide, h1, _, ox, 5, _, by decide, on, key 8 0 H s rfl zGr.rf h2 h3⟩)
