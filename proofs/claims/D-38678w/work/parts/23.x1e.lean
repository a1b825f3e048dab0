/-! contracts: Edgefloats, sum and end and has and house -/
theorem c0_absL {w : zG} (hw : zWf w) {x : Int64} (hx : -9223372036854775808 < x.toInt) (H : Heap) : zCt w yJ10_abs_2 wc_J10_abs_2 0 0 0 [.long x] H (zPure (some (.long (Int64.ofInt x.toInt.natAbs))) H) zNoX :=
  zCt.ofVF [(0, .long x)] hw.1 (by decide +kernel) (Nat.le_of_ble_eq_true rfl) rfl fun g cx hq _ => zwp_sound (tk_J10_abs_2 cx hq) [] 40 (by
    have z0 : (0 : Int64).toInt = 0 := by decide
    refine ⟨fun h => ⟨?_, rfl⟩, fun h => ⟨?_, rfl⟩⟩
    · rw [zlg, zcmp_ge, z0] at h
      rw [z64e (i := x.toInt.natAbs) (x := x) (by omega)]
      rw [zlofI (by omega) (by have := x.toInt_lt; omega)]; rfl
    · rw [zlg, zcmp_ge, z0] at h
      rw [z64e (i := x.toInt.natAbs) (x := -x) (by rw [zlneg hx]; omega)])
theorem c0_absI {w : zG} (hw : zWf w) {x : Int32} (hx : -2147483648 < x.toInt) (H : Heap) : zCt w yJ10_abs_4 wc_J10_abs_4 0 0 0 [.int x] H (zPure (some (.int (Int32.ofInt x.toInt.natAbs))) H) zNoX :=
  zCt.ofVF [(0, .int x)] hw.1 (by decide +kernel) (Nat.le_of_ble_eq_true rfl) rfl fun g cx hq _ => zwp_sound (tk_J10_abs_4 cx hq) [] 40 (by
    have z0 : (0 : Int32).toInt = 0 := by decide
    refine ⟨fun h => ⟨?_, rfl⟩, fun h => ⟨?_, rfl⟩⟩
    · rw [Int32.le_iff_toInt_le, z0] at h
      rw [z32e (i := x.toInt.natAbs) (x := x) (by omega)]
      rw [ziofI (by omega) (by have := x.toInt_lt; omega)]; rfl
    · rw [Int32.le_iff_toInt_le, z0] at h
      rw [z32e (i := x.toInt.natAbs) (x := -x) (by rw [zineg hx]; omega)])
/-- whether a sum is some; the sum -/
def zhv (K fr one most inf a b : Nat) : Bool := if a % 2 ^ K = inf then (zcnt K fr one most b).isSome || a == b else if b % 2 ^ K = inf then (zcnt K fr one most a).isSome else match zcnt K fr one most a, zcnt K fr one most b with
  | some p, some q => decide ((p + q).natAbs ≤ most)
  | _, _ => false
def zsv (K fr one most inf a b : Nat) : Nat := if a % 2 ^ K = inf then a else if b % 2 ^ K = inf then b else if a = 2 ^ K ∧ b = 2 ^ K then 2 ^ K else match zcnt K fr one most a, zcnt K fr one most b with
  | some p, some q => zmade K fr one (p + q)
  | _, _ => 0
theorem zcnt_b {K fr one most n : Nat} {F : FP.Core.Fmt} {x : Int} (hF : zFm F K fr one x) (hm : most < 2 ^ (fr + 1)) (hn : n < 2 ^ (K + 1)) {q : Int} (h : zcnt K fr one most n = some q) : q.natAbs ≤ most := by
  rcases zcnt_some hF hm hn h with ⟨rfl, -⟩ | ⟨-, h, -⟩
  · exact Nat.zero_le _
  · exact h
theorem zsv_add {K fr one most inf a b : Nat} {F : FP.Core.Fmt} (hF : zFm F K fr one (-2)) (hm : most < 2 ^ (fr + 1)) (hi : (F.exps - 1) * 2 ^ fr = inf) (ha : a < 2 ^ (K + 1)) (hb : b < 2 ^ (K + 1)) (h : zhv K fr one most inf a b = true) : FP.Core.add F a b = zsv K fr one most inf a b := by
  have fin : ∀ {n : Nat}, n < 2 ^ (K + 1) → (zcnt K fr one most n).isSome = true → ∃ s c q, FP.Core.decode F n = .fin s c q := by
    intro n hn hs
    obtain ⟨p, hp⟩ := Option.isSome_iff_exists.mp hs
    obtain ⟨s, c, q, h1, -⟩ := zunits hF hm hn hp
    exact ⟨s, c, q, h1⟩
  unfold zhv at h
  unfold zsv
  by_cases h1 : a % 2 ^ K = inf
  · rw [if_pos h1] at h ⊢
    rw [Bool.or_eq_true, beq_iff_eq] at h
    exact zadd_inf hF ha (by rw [h1, hi]) (h.imp (fin hb) (fun e => e.symm))
  · rw [if_neg h1] at h ⊢
    by_cases h2 : b % 2 ^ K = inf
    · rw [if_pos h2] at h ⊢
      exact zadd_inf2 hF hb (by rw [h2, hi]) (fin ha h)
    · rw [if_neg h2] at h ⊢
      cases h3 : zcnt K fr one most a with
      | none => rw [h3] at h; cases h
      | some p =>
        cases h4 : zcnt K fr one most b with
        | none => rw [h3, h4] at h; cases h
        | some q =>
          rw [h3, h4] at h
          exact zadd_q hF hm ha hb h3 h4 (of_decide_eq_true h)
theorem zsv_lt {K fr one most inf a b : Nat} {F : FP.Core.Fmt} (hF : zFm F K fr one (-2)) (hm : most < 2 ^ (fr + 1)) (hi : (F.exps - 1) * 2 ^ fr = inf) (ha : a < 2 ^ (K + 1) ∧ a % 2 ^ K ≤ inf) (hb : b < 2 ^ (K + 1) ∧ b % 2 ^ K ≤ inf) (h : zhv K fr one most inf a b = true) : zsv K fr one most inf a b < 2 ^ (K + 1) ∧ zsv K fr one most inf a b % 2 ^ K ≤ inf := by
  unfold zhv at h
  unfold zsv
  by_cases h1 : a % 2 ^ K = inf
  · rw [if_pos h1]; exact ha
  · rw [if_neg h1] at h ⊢
    by_cases h2 : b % 2 ^ K = inf
    · rw [if_pos h2]; exact hb
    · rw [if_neg h2] at h ⊢
      by_cases h5 : a = 2 ^ K ∧ b = 2 ^ K
      · rw [if_pos h5]
        rw [h5.1] at ha
        exact ha
      · rw [if_neg h5]
        cases h3 : zcnt K fr one most a with
        | none => rw [h3] at h; cases h
        | some p =>
          cases h4 : zcnt K fr one most b with
          | none => rw [h3, h4] at h; cases h
          | some q =>
            rw [h3, h4] at h
            have h6 := of_decide_eq_true h
            have h7 := zmlt hF (i := p + q) (Nat.lt_of_le_of_lt h6 hm)
            exact ⟨h7.1, by rw [← hi]; exact Nat.le_of_lt h7.2⟩
/-- what the count says, as one word -/
theorem zqI_none {K fr one most n : Nat} {F : FP.Core.Fmt} {x : Int} (hF : zFm F K fr one x) (hm : most < 2 ^ (fr + 1)) (hl : most < 2147483648) (hn : n < 2 ^ (K + 1)) : zqI K fr one most n = -2147483648 ↔ (zcnt K fr one most n).isSome = false := by
  unfold zqI
  cases h : zcnt K fr one most n with
  | none => exact ⟨fun _ => rfl, fun _ => rfl⟩
  | some q =>
    have hb := zcnt_b hF hm hn h
    refine ⟨fun e => ?_, fun e => nomatch e⟩
    have e2 := congrArg Int32.toInt e
    rw [show Int32.toInt (match some q with | none => (-2147483648 : Int32) | some q => Int32.ofInt q) = (Int32.ofInt q).toInt from rfl, ziofI (by omega) (by omega), show (-2147483648 : Int32).toInt = -2147483648 from by decide] at e2
    omega
theorem zqI_some {K fr one most n : Nat} {q : Int} (h : zcnt K fr one most n = some q) : zqI K fr one most n = Int32.ofInt q := by unfold zqI; rw [h]
theorem zo_b {p : Prop} {q : Bool} [Decidable p] (h : p ↔ q = true) : (if p then (1 : Int32) else 0) = if q then 1 else 0 := by
  by_cases hp : p
  · rw [if_pos hp, if_pos (h.mp hp)]
  · rw [if_neg hp, if_neg (fun e => hp (h.mpr e))]
theorem zrb {q : Bool} (h : q = true) : (1 : Int32) = if q then 1 else 0 := by rw [if_pos h]
theorem zrc {q : Bool} (h : q = false) : (0 : Int32) = if q then 1 else 0 := by rw [if_neg (by rw [h]; decide)]

theorem c4_haveSum {w : zG} (hw : zWf w) {p q a b : Nat} {H : Heap} (ha : zok 63 a) (hb : zok 63 b) (hp : zOb w p 1 [dv a] H) (hq2 : zOb w q 1 [dv b] H) : zCt w yX1_haveSum wc_X1_haveSum 6 0 0 [.ref p, .ref q] H (zPure (some (.int (if zhv 63 52 1073 1000000000 9218868437227405312 a b then 1 else 0))) H) zNoX :=
  zCt.ofV [(0, .ref p), (1, .ref q)] hw.1 (by decide +kernel) (Nat.le_of_ble_eq_true rfl) rfl fun g cx hq _ => zwp_sound (tk_X1_haveSum cx hq) [] 80 (by
    have na := zqI_none zFm64 (most := 1000000000) (by decide) (by decide) ha.1
    have nb := zqI_none zFm64 (most := 1000000000) (by decide) (by decide) hb.1
    refine ⟨⟨_, hp⟩, zcall.pure (c1_value hw hp) (by decide) (zcall.pure (c4_quartersOf hw ha H) (by decide) ⟨⟨_, hq2⟩, zcall.pure (c1_value hw hq2) (by decide) (zcall.pure (c4_quartersOf hw hb H) (by decide) ⟨⟨_, hp⟩, zcall.pure (c1_isInfinite hw ha hp) (by decide) ⟨fun h0 => ?_, fun h0 => ?_⟩⟩)⟩)⟩
    · have h0' := zite h0
      refine ⟨⟨_, hq2⟩, zcall.pure (c1_isInfinite hw hb hq2) (by decide) ⟨fun h1 => ?_, fun h1 => ?_⟩⟩
      · have h1' := zite h1
        have hv : zhv 63 52 1073 1000000000 9218868437227405312 a b = (match zcnt 63 52 1073 1000000000 a, zcnt 63 52 1073 1000000000 b with
          | some p, some q => decide ((p + q).natAbs ≤ 1000000000)
          | _, _ => false) := by unfold zhv; rw [if_neg h0', if_neg h1']
        refine ⟨fun h2 => ?_, fun h2 => ⟨fun h3 => ?_, fun h3 => ?_⟩⟩
        · have h2' := na.mp h2
          cases hcp : zcnt 63 52 1073 1000000000 a with
          | some p' => rw [hcp] at h2'; cases h2'
          | none =>
            rw [hcp] at hv
            exact ⟨zb1, by rw [← zrc hv], rfl⟩
        · have h3' := nb.mp h3
          cases hcp : zcnt 63 52 1073 1000000000 a with
          | none =>
            rw [hcp] at hv
            exact ⟨zb1, by rw [← zrc hv], rfl⟩
          | some p' =>
            cases hcq : zcnt 63 52 1073 1000000000 b with
            | some q' => rw [hcq] at h3'; cases h3'
            | none =>
              rw [hcp, hcq] at hv
              exact ⟨zb1, by rw [← zrc hv], rfl⟩
        obtain ⟨p', hcp⟩ : ∃ p', zcnt 63 52 1073 1000000000 a = some p' := by
          cases hcp : zcnt 63 52 1073 1000000000 a with
          | none => exact absurd (na.mpr (by rw [hcp]; rfl)) h2
          | some p' => exact ⟨p', rfl⟩
        obtain ⟨q', hcq⟩ : ∃ q', zcnt 63 52 1073 1000000000 b = some q' := by
          cases hcq : zcnt 63 52 1073 1000000000 b with
          | none => exact absurd (nb.mpr (by rw [hcq]; rfl)) h3
          | some q' => exact ⟨q', rfl⟩
        rw [hcp, hcq] at hv
        have hp2 := zqI_some hcp
        have hq3 := zqI_some hcq
        have bp := zcnt_b zFm64 (by decide) ha.1 hcp
        have bq := zcnt_b zFm64 (by decide) hb.1 hcq
        have es : ((zqI 63 52 1073 1000000000 a).toInt64 + (zqI 63 52 1073 1000000000 b).toInt64).toInt = p' + q' := by
          rw [hp2, hq3, zladd, Int32.toInt_toInt64, Int32.toInt_toInt64, ziofI (by omega) (by omega), ziofI (by omega) (by omega)]
          · rw [Int32.toInt_toInt64, Int32.toInt_toInt64, ziofI (by omega) (by omega), ziofI (by omega) (by omega)]; omega
          · rw [Int32.toInt_toInt64, Int32.toInt_toInt64, ziofI (by omega) (by omega), ziofI (by omega) (by omega)]; omega
        refine zcall.pure (c0_absL hw (by rw [es]; omega) H) (by decide) ⟨fun h4 => ?_, fun h4 => ?_⟩
        · rw [es, zlg, zcmp_gt, zlofI (by omega) (by omega), show (1000000000 : Int64).toInt = 1000000000 from by decide] at h4
          exact ⟨zb1, by rw [← zrc (hv.trans (decide_eq_false (by omega)))], rfl⟩
        · rw [es, zlg, zcmp_gt, zlofI (by omega) (by omega), show (1000000000 : Int64).toInt = 1000000000 from by decide] at h4
          exact ⟨zb2, by rw [← zrb (hv.trans (decide_eq_true (by omega)))], rfl⟩
      · have h1' := zitb h1
        have hv : zhv 63 52 1073 1000000000 9218868437227405312 a b = (zcnt 63 52 1073 1000000000 a).isSome := by unfold zhv; rw [if_neg h0', if_pos h1']
        refine ⟨fun h2 => ?_, fun h2 => ?_⟩
        · exact ⟨zb1, by rw [← zrc (hv.trans (na.mp h2))], rfl⟩
        · exact ⟨zb2, by rw [← zrb (hv.trans (by cases h9 : (zcnt 63 52 1073 1000000000 a).isSome; exact absurd (na.mpr h9) h2; rfl))], rfl⟩
    · have h0' := zitb h0
      have hv : zhv 63 52 1073 1000000000 9218868437227405312 a b = ((zcnt 63 52 1073 1000000000 b).isSome || a == b) := by unfold zhv; rw [if_pos h0']
      refine ⟨fun h2 => ?_, fun h2 => ⟨⟨_, hp⟩, zcall.pure (c1_equals hw ha hb hp hq2) (by decide) ⟨fun h3 => ?_, fun h3 => ?_⟩⟩⟩
      · exact ⟨zb2, by rw [← zrb (hv.trans (by cases h9 : (zcnt 63 52 1073 1000000000 b).isSome; exact absurd (nb.mpr h9) h2; rfl))], rfl⟩
      · exact ⟨zb1, by rw [← zrc (hv.trans (by rw [nb.mp h2, Bool.false_or]; exact beq_eq_false_iff_ne.mpr (zite h3)))], rfl⟩
      · exact ⟨zb2, by rw [← zrb (hv.trans (by rw [zitb h3, BEq.rfl, Bool.or_true]))], rfl⟩)
theorem c4_wideSum {w : zG} (hw : zWf w) {x aw an : Nat} {W N : Nat → Nat} {wa na rf kn : Int32} {H : Heap} (hI : zXI w x aw an W N wa na rf kn H) (c i o : Int32) : zCt w yX1_wideSum wc_X1_wideSum 9 5 26 [.ref x, .int c, .int i, .int o] H (fun v H' => ∃ j k m, j < 8 ∧ k < 8 ∧ m < 8 ∧ c = nI j ∧ i = nI k ∧ o = nI m ∧ ((zhv 63 52 1073 1000000000 9218868437227405312 (W j) (W k) = true ∧ v = some (.int (if W m = zsv 63 52 1073 1000000000 9218868437227405312 (W j) (W k) then 0 else 1)) ∧ zXI w x aw an (zup W m (zsv 63 52 1073 1000000000 9218868437227405312 (W j) (W k))) N (wa + 1) na rf kn H' ∧ zFr x aw an H H') ∨ (zhv 63 52 1073 1000000000 9218868437227405312 (W j) (W k) = false ∧ v = some (.int (-9)) ∧ zXI w x aw an W N wa na (rf + 1) kn H' ∧ zFr x aw an H H'))) (fun E H' => E = zIO ∧ (¬ (0 ≤ c ∧ c ≤ 7) ∨ ¬ (0 ≤ i ∧ i ≤ 7) ∨ ¬ (0 ≤ o ∧ o ≤ 7)) ∧ zGr H H') :=
  zCt.ofV [(0, .ref x), (1, .int c), (2, .int i), (3, .int o)] hw.1 (by decide +kernel) (Nat.le_of_ble_eq_true rfl) rfl fun g cx hq _ => zwp_sound (tk_X1_wideSum cx hq) [] 80 (by
    have ox9 := hI.choose_spec.choose_spec.2.1
    refine ⟨⟨_, ox9⟩, zat1 hw hI c (by decide) (by decide) (by decide) (fun j r e1 e2 e3 e4 => ⟨⟨_, ox9⟩, zat1 hw hI i (by decide) (by decide) (by decide) (fun k s f1 f2 f3 f4 => zcall.mk (ct_X1_mustBeCell w hw.1 o H) (by decide) (by decide) (by decide) ?_ (fun E H' h _ => ⟨h.1, Or.inr (Or.inr h.2.1), h.2.2⟩)) (fun E H' f1 f2 f3 => ⟨f1, Or.inr (Or.inl f2), f3⟩)⟩) (fun E H' f1 f2 f3 => ⟨f1, Or.inl f2, f3⟩)⟩
    rintro _ _ ⟨rfl, rfl, hc⟩ _
    obtain ⟨m, g1, g2⟩ := zcell hc
    refine zcall.pure (c4_haveSum hw e4 f4 e3 f3) (by decide) ⟨fun h => ?_, fun h => ?_⟩
    · have h' : zhv 63 52 1073 1000000000 9218868437227405312 (W j) (W k) = false := by
        have := zite h
        cases h9 : zhv 63 52 1073 1000000000 9218868437227405312 (W j) (W k)
        · rfl
        · exact absurd h9 this
      exact ⟨⟨_, ox9⟩, zcall.ret (c4_refused hw hI) (by decide) (by decide) (by decide) (by rintro _ H1 ⟨rfl, h1, h2⟩ _; exact ⟨j, k, m, e1, f1, g1, e2, f2, g2, Or.inr ⟨h', rfl, h1, h2⟩⟩)⟩
    · have h' : zhv 63 52 1073 1000000000 9218868437227405312 (W j) (W k) = true := zitb h
      have ho : zok 63 (zsv 63 52 1073 1000000000 9218868437227405312 (W j) (W k)) := zsv_lt zFm64 (by decide) (by decide) e4 f4 h'
      have hadd : FP.dadd (.ofNat (W j)) (.ofNat (W k)) = .ofNat (zsv 63 52 1073 1000000000 9218868437227405312 (W j) (W k)) := by
        show UInt64.ofNat (FP.Core.add FP.Core.b64 (UInt64.ofNat (W j)).toNat (UInt64.ofNat (W k)).toNat) = _
        rw [UInt64.toNat_ofNat', UInt64.toNat_ofNat', Nat.mod_eq_of_lt e4.1, Nat.mod_eq_of_lt f4.1, zsv_add zFm64 (by decide) (by decide) e4.1 f4.1 h']
      refine ⟨⟨_, e3⟩, zcall.pure (c1_value hw e3) (by decide) ⟨⟨_, f3⟩, zcall.pure (c1_value hw f3) (by decide) (zcall.pure (c1_sum hw hadd (zabs63 ho).1 _) (by decide) (zcall.ret (c1_valueOf hw _) (by decide) (by decide) (by decide) ?_))⟩⟩
      rintro _ H1 ⟨rfl, p1, o1⟩ _
      exact ⟨⟨_, p1.gr.ob ox9⟩, zput1 hw (hI.gr p1.gr) o o1 ho (by decide) (by decide) (by decide) (fun m H' q1 q2 q3 q4 => ⟨j, k, m, e1, f1, q1, e2, f2, q2, Or.inl ⟨h', rfl, q3, p1.gr.fr.trans q4⟩⟩) (fun E H' q1 q2 q3 => absurd hc q2)⟩)

theorem c4_haveSum_2 {w : zG} (hw : zWf w) {p q a b : Nat} {H : Heap} (ha : zok 31 a) (hb : zok 31 b) (hp : zOb w p 2 [fv a] H) (hq2 : zOb w q 2 [fv b] H) : zCt w yX1_haveSum_2 wc_X1_haveSum_2 6 0 0 [.ref p, .ref q] H (zPure (some (.int (if zhv 31 23 148 16000000 2139095040 a b then 1 else 0))) H) zNoX :=
  zCt.ofV [(0, .ref p), (1, .ref q)] hw.1 (by decide +kernel) (Nat.le_of_ble_eq_true rfl) rfl fun g cx hq _ => zwp_sound (tk_X1_haveSum_2 cx hq) [] 80 (by
    have na := zqI_none zFm32 (most := 16000000) (by decide) (by decide) ha.1
    have nb := zqI_none zFm32 (most := 16000000) (by decide) (by decide) hb.1
    refine ⟨⟨_, hp⟩, zcall.pure (c2_value hw hp) (by decide) (zcall.pure (c4_quartersOf_2 hw ha H) (by decide) ⟨⟨_, hq2⟩, zcall.pure (c2_value hw hq2) (by decide) (zcall.pure (c4_quartersOf_2 hw hb H) (by decide) ⟨⟨_, hp⟩, zcall.pure (c2_isInfinite hw ha hp) (by decide) ⟨fun h0 => ?_, fun h0 => ?_⟩⟩)⟩)⟩
    · have h0' := zite h0
      refine ⟨⟨_, hq2⟩, zcall.pure (c2_isInfinite hw hb hq2) (by decide) ⟨fun h1 => ?_, fun h1 => ?_⟩⟩
      · have h1' := zite h1
        have hv : zhv 31 23 148 16000000 2139095040 a b = (match zcnt 31 23 148 16000000 a, zcnt 31 23 148 16000000 b with
          | some p, some q => decide ((p + q).natAbs ≤ 16000000)
          | _, _ => false) := by unfold zhv; rw [if_neg h0', if_neg h1']
        refine ⟨fun h2 => ?_, fun h2 => ⟨fun h3 => ?_, fun h3 => ?_⟩⟩
        · have h2' := na.mp h2
          cases hcp : zcnt 31 23 148 16000000 a with
          | some p' => rw [hcp] at h2'; cases h2'
          | none =>
            rw [hcp] at hv
            exact ⟨zb1, by rw [← zrc hv], rfl⟩
        · have h3' := nb.mp h3
          cases hcp : zcnt 31 23 148 16000000 a with
          | none =>
            rw [hcp] at hv
            exact ⟨zb1, by rw [← zrc hv], rfl⟩
          | some p' =>
            cases hcq : zcnt 31 23 148 16000000 b with
            | some q' => rw [hcq] at h3'; cases h3'
            | none =>
              rw [hcp, hcq] at hv
              exact ⟨zb1, by rw [← zrc hv], rfl⟩
        obtain ⟨p', hcp⟩ : ∃ p', zcnt 31 23 148 16000000 a = some p' := by
          cases hcp : zcnt 31 23 148 16000000 a with
          | none => exact absurd (na.mpr (by rw [hcp]; rfl)) h2
          | some p' => exact ⟨p', rfl⟩
        obtain ⟨q', hcq⟩ : ∃ q', zcnt 31 23 148 16000000 b = some q' := by
          cases hcq : zcnt 31 23 148 16000000 b with
          | none => exact absurd (nb.mpr (by rw [hcq]; rfl)) h3
          | some q' => exact ⟨q', rfl⟩
        rw [hcp, hcq] at hv
        have hp2 := zqI_some hcp
        have hq3 := zqI_some hcq
        have bp := zcnt_b zFm32 (by decide) ha.1 hcp
        have bq := zcnt_b zFm32 (by decide) hb.1 hcq
        have es : (zqI 31 23 148 16000000 a + zqI 31 23 148 16000000 b).toInt = p' + q' := by
          rw [hp2, hq3, ziadd, ziofI (by omega) (by omega), ziofI (by omega) (by omega)]
          · rw [ziofI (by omega) (by omega), ziofI (by omega) (by omega)]; omega
          · rw [ziofI (by omega) (by omega), ziofI (by omega) (by omega)]; omega
        refine zcall.pure (c0_absI hw (by rw [es]; omega) H) (by decide) ⟨fun h4 => ?_, fun h4 => ?_⟩
        · rw [es, Int32.lt_iff_toInt_lt, ziofI (by omega) (by omega), show (16000000 : Int32).toInt = 16000000 from by decide] at h4
          exact ⟨zb1, by rw [← zrc (hv.trans (decide_eq_false (by omega)))], rfl⟩
        · rw [es, Int32.lt_iff_toInt_lt, ziofI (by omega) (by omega), show (16000000 : Int32).toInt = 16000000 from by decide] at h4
          exact ⟨zb2, by rw [← zrb (hv.trans (decide_eq_true (by omega)))], rfl⟩
      · have h1' := zitb h1
        have hv : zhv 31 23 148 16000000 2139095040 a b = (zcnt 31 23 148 16000000 a).isSome := by unfold zhv; rw [if_neg h0', if_pos h1']
        refine ⟨fun h2 => ?_, fun h2 => ?_⟩
        · exact ⟨zb1, by rw [← zrc (hv.trans (na.mp h2))], rfl⟩
        · exact ⟨zb2, by rw [← zrb (hv.trans (by cases h9 : (zcnt 31 23 148 16000000 a).isSome; exact absurd (na.mpr h9) h2; rfl))], rfl⟩
    · have h0' := zitb h0
      have hv : zhv 31 23 148 16000000 2139095040 a b = ((zcnt 31 23 148 16000000 b).isSome || a == b) := by unfold zhv; rw [if_pos h0']
      refine ⟨fun h2 => ?_, fun h2 => ⟨⟨_, hp⟩, zcall.pure (c2_equals hw ha hb hp hq2) (by decide) ⟨fun h3 => ?_, fun h3 => ?_⟩⟩⟩
      · exact ⟨zb2, by rw [← zrb (hv.trans (by cases h9 : (zcnt 31 23 148 16000000 b).isSome; exact absurd (nb.mpr h9) h2; rfl))], rfl⟩
      · exact ⟨zb1, by rw [← zrc (hv.trans (by rw [nb.mp h2, Bool.false_or]; exact beq_eq_false_iff_ne.mpr (zite h3)))], rfl⟩
      · exact ⟨zb2, by rw [← zrb (hv.trans (by rw [zitb h3, BEq.rfl, Bool.or_true]))], rfl⟩)
theorem c4_narrowSum {w : zG} (hw : zWf w) {x aw an : Nat} {W N : Nat → Nat} {wa na rf kn : Int32} {H : Heap} (hI : zXI w x aw an W N wa na rf kn H) (c i o : Int32) : zCt w yX1_narrowSum wc_X1_narrowSum 9 5 26 [.ref x, .int c, .int i, .int o] H (fun v H' => ∃ j k m, j < 8 ∧ k < 8 ∧ m < 8 ∧ c = nI j ∧ i = nI k ∧ o = nI m ∧ ((zhv 31 23 148 16000000 2139095040 (N j) (N k) = true ∧ v = some (.int (if N m = zsv 31 23 148 16000000 2139095040 (N j) (N k) then 0 else 1)) ∧ zXI w x aw an W (zup N m (zsv 31 23 148 16000000 2139095040 (N j) (N k))) wa (na + 1) rf kn H' ∧ zFr x aw an H H') ∨ (zhv 31 23 148 16000000 2139095040 (N j) (N k) = false ∧ v = some (.int (-9)) ∧ zXI w x aw an W N wa na (rf + 1) kn H' ∧ zFr x aw an H H'))) (fun E H' => E = zIO ∧ (¬ (0 ≤ c ∧ c ≤ 7) ∨ ¬ (0 ≤ i ∧ i ≤ 7) ∨ ¬ (0 ≤ o ∧ o ≤ 7)) ∧ zGr H H') :=
  zCt.ofV [(0, .ref x), (1, .int c), (2, .int i), (3, .int o)] hw.1 (by decide +kernel) (Nat.le_of_ble_eq_true rfl) rfl fun g cx hq _ => zwp_sound (tk_X1_narrowSum cx hq) [] 80 (by
    have ox9 := hI.choose_spec.choose_spec.2.1
    refine ⟨⟨_, ox9⟩, zat2 hw hI c (by decide) (by decide) (by decide) (fun j r e1 e2 e3 e4 => ⟨⟨_, ox9⟩, zat2 hw hI i (by decide) (by decide) (by decide) (fun k s f1 f2 f3 f4 => zcall.mk (ct_X1_mustBeCell w hw.1 o H) (by decide) (by decide) (by decide) ?_ (fun E H' h _ => ⟨h.1, Or.inr (Or.inr h.2.1), h.2.2⟩)) (fun E H' f1 f2 f3 => ⟨f1, Or.inr (Or.inl f2), f3⟩)⟩) (fun E H' f1 f2 f3 => ⟨f1, Or.inl f2, f3⟩)⟩
    rintro _ _ ⟨rfl, rfl, hc⟩ _
    obtain ⟨m, g1, g2⟩ := zcell hc
    refine zcall.pure (c4_haveSum_2 hw e4 f4 e3 f3) (by decide) ⟨fun h => ?_, fun h => ?_⟩
    · have h' : zhv 31 23 148 16000000 2139095040 (N j) (N k) = false := by
        have := zite h
        cases h9 : zhv 31 23 148 16000000 2139095040 (N j) (N k)
        · rfl
        · exact absurd h9 this
      exact ⟨⟨_, ox9⟩, zcall.ret (c4_refused hw hI) (by decide) (by decide) (by decide) (by rintro _ H1 ⟨rfl, h1, h2⟩ _; exact ⟨j, k, m, e1, f1, g1, e2, f2, g2, Or.inr ⟨h', rfl, h1, h2⟩⟩)⟩
    · have h' : zhv 31 23 148 16000000 2139095040 (N j) (N k) = true := zitb h
      have ho : zok 31 (zsv 31 23 148 16000000 2139095040 (N j) (N k)) := zsv_lt zFm32 (by decide) (by decide) e4 f4 h'
      have hadd : FP.fadd (.ofNat (N j)) (.ofNat (N k)) = .ofNat (zsv 31 23 148 16000000 2139095040 (N j) (N k)) := by
        show UInt32.ofNat (FP.Core.add FP.Core.b32 (UInt32.ofNat (N j)).toNat (UInt32.ofNat (N k)).toNat) = _
        rw [UInt32.toNat_ofNat', UInt32.toNat_ofNat', Nat.mod_eq_of_lt e4.1, Nat.mod_eq_of_lt f4.1, zsv_add zFm32 (by decide) (by decide) e4.1 f4.1 h']
      refine ⟨⟨_, e3⟩, zcall.pure (c2_value hw e3) (by decide) ⟨⟨_, f3⟩, zcall.pure (c2_value hw f3) (by decide) (zcall.pure (c2_sum hw hadd (zabs31 ho).1 _) (by decide) (zcall.ret (c2_valueOf hw _) (by decide) (by decide) (by decide) ?_))⟩⟩
      rintro _ H1 ⟨rfl, p1, o1⟩ _
      exact ⟨⟨_, p1.gr.ob ox9⟩, zput2 hw (hI.gr p1.gr) o o1 ho (by decide) (by decide) (by decide) (fun m H' q1 q2 q3 q4 => ⟨j, k, m, e1, f1, q1, e2, f2, q2, Or.inl ⟨h', rfl, q3, p1.gr.fr.trans q4⟩⟩) (fun E H' q1 q2 q3 => absurd hc q2)⟩)
