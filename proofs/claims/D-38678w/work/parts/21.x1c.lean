/-! contracts: Edgefloats, quarters -/
def zqI (K fr one most n : Nat) : Int32 := match zcnt K fr one most n with
  | none => -2147483648
  | some q => Int32.ofInt q
theorem c4_isSpoiled {w : zG} (hw : zWf w) {n : Nat} (hn : n < 2 ^ 64) (H : Heap) : zCt w yX1_isSpoiled wc_X1_isSpoiled 0 0 0 [.long (dl n)] H (zPure (some (.int (if 9218868437227405312 < n % 2 ^ 63 then 1 else 0))) H) zNoX :=
  zCt.ofV [(0, .long (dl n))] hw.1 (by decide +kernel) (Nat.le_of_ble_eq_true rfl) rfl fun g cx hq _ => zwp_sound (tk_X1_isSpoiled cx hq) [] 40 (by
    have key : lg_cmp (dl n &&& 9223372036854775807) 9218868437227405312 ≤ 0 ↔ ¬ 9218868437227405312 < n % 2 ^ 63 := by
      rw [dl_lN, zl63 hn, zlg, zcmp_le, pk_lT (Nat.mod_lt _ (by decide)), show (9218868437227405312 : Int64).toInt = 9218868437227405312 from by decide]
      omega
    refine ⟨fun h => ?_, fun h => ?_⟩
    · exact ⟨zb1, by rw [if_neg (key.mp h)], rfl⟩
    · exact ⟨zb2, by rw [if_pos (Classical.byContradiction fun q => h (key.mpr q))], rfl⟩)
theorem c4_isSpoiled_2 {w : zG} (hw : zWf w) {n : Nat} (hn : n < 2 ^ 32) (H : Heap) : zCt w yX1_isSpoiled_2 wc_X1_isSpoiled_2 0 0 0 [.int (fl n)] H (zPure (some (.int (if 2139095040 < n % 2 ^ 31 then 1 else 0))) H) zNoX :=
  zCt.ofV [(0, .int (fl n))] hw.1 (by decide +kernel) (Nat.le_of_ble_eq_true rfl) rfl fun g cx hq _ => zwp_sound (tk_X1_isSpoiled_2 cx hq) [] 40 (by
    have key : (fl n &&& 2147483647) ≤ 2139095040 ↔ ¬ 2139095040 < n % 2 ^ 31 := by
      rw [fl_nI, zi31 hn, Int32.le_iff_toInt_le, ziT (Nat.lt_trans (Nat.mod_lt n (by decide : 0 < 2 ^ 31)) (by decide)), if_pos (Nat.mod_lt _ (by decide)), show (2139095040 : Int32).toInt = 2139095040 from by decide]
      omega
    refine ⟨fun h => ?_, fun h => ?_⟩
    · exact ⟨zb1, by rw [if_neg (key.mp h)], rfl⟩
    · exact ⟨zb2, by rw [if_pos (Classical.byContradiction fun q => h (key.mpr q))], rfl⟩)

theorem c4_quartersOf {w : zG} (hw : zWf w) {n : Nat} (hn : zok 63 n) (H : Heap) : zCt w yX1_quartersOf wc_X1_quartersOf 3 0 0 [dv n] H (zPure (some (.int (zqI 63 52 1073 1000000000 n))) H) zNoX :=
  zCt.ofV [(0, dv n)] hw.1 (by decide +kernel) (Nat.le_of_ble_eq_true rfl) rfl fun g cx hq _ => zwp_sound (tk_X1_quartersOf cx hq) [(19, [0, 2, 4])] 40 (zcall.pure (c4_digitsOf hw hn H) (by decide) (by
    have hs : n % 2 ^ 63 < 2 ^ 63 := Nat.mod_lt _ (by decide)
    have e1 : dl n &&& 9223372036854775807 = lN (n % 2 ^ 63) := zl63 hn.1
    show zV w g 3 0 0 19 [(0, dv n), (2, .long (dl n &&& 9223372036854775807)), (4, .long (1073 - ((dl n &&& 9223372036854775807).toUInt64 >>> ((52 : Int32).toInt64.toUInt64 &&& Int64.toUInt64 63)).toInt64))] [] H
    rw [e1, show ((lN (n % 2 ^ 63)).toUInt64 >>> ((52 : Int32).toInt64.toUInt64 &&& Int64.toUInt64 63)).toInt64 = lN (n % 2 ^ 63 / 2 ^ 52) from wb_shr (k := 52) (by omega) (by decide)]
    have hv : zqI 63 52 1073 1000000000 n = zqI 63 52 1073 1000000000 n := rfl
    conv at hv => rhs; unfold zqI zcnt
    generalize n % 2 ^ 63 = s at *
    have hE : s / 2 ^ 52 < 2048 := by omega
    have hT : s % 2 ^ 52 < 2 ^ 52 := Nat.mod_lt _ (by decide)
    have hA : ((1073 : Int64) - lN (s / 2 ^ 52)).toInt = 1073 - (s / 2 ^ 52 : Nat) := by
      have h1 : (1073 : Int64).toInt = 1073 := by decide
      have h2 := pk_lT (n := s / 2 ^ 52) (by omega)
      rw [zlsub (by omega) (by omega), h1, h2]
    have hA2 : s / 2 ^ 52 ≤ 1073 → (1073 : Int64) - lN (s / 2 ^ 52) = lN (1073 - s / 2 ^ 52) := fun h => lN_sub (a := 1073) h
    generalize (1073 : Int64) - lN (s / 2 ^ 52) = A at *
    have h0 : lg_cmp (lN s) 0 = 0 ↔ s = 0 := by
      rw [zlg, zcmp_eq, pk_lT hs, show (0 : Int64).toInt = 0 from by decide]; omega
    refine zwp_sound (tk_X1_quartersOf cx hq) [(57, [0, 4, 6])] 60 ⟨fun hz => ⟨fun hl => ?_, fun hl => ⟨fun hm => ?_, fun hm => ?_⟩⟩, fun hz => ?_⟩
    · rw [zlg, zcmp_lt, hA, show (0 : Int64).toInt = 0 from by decide] at hl
      exact ⟨by rw [hv, if_neg (fun q => hz (h0.mpr q)), if_pos (Or.inl (by omega))], rfl⟩
    · rw [zlg, zcmp_lt, hA, show (0 : Int64).toInt = 0 from by decide] at hl
      rw [zlg, zcmp_le, hA, show (52 : Int64).toInt = 52 from by decide] at hm
      have hs0 : ¬ s = 0 := fun q => hz (h0.mpr q)
      have hE2 : ¬ (1073 < s / 2 ^ 52 ∨ s / 2 ^ 52 + 52 < 1073) := by omega
      rw [hA2 (by omega)]
      rw [if_neg hs0, if_neg hE2] at hv
      generalize hAa : 1073 - s / 2 ^ 52 = a at *
      have ha : a ≤ 52 := by omega
      have e4 : (4503599627370496 : Int64) ||| (lN s &&& 4503599627370495) = lN (2 ^ 52 + s % 2 ^ 52) := by
        rw [show lN s &&& 4503599627370495 = lN (s % 2 ^ 52) from g_mask (p := 2 ^ 52) (s := 52) rfl (by decide) (by omega)]
        have := g_or (k := 52) (p := 2 ^ 52) (a := s % 2 ^ 52) (b := 1) rfl hT (by omega)
        rw [Nat.one_mul] at this
        exact this
      show zV w g 3 0 0 57 [(0, dv n), (4, .long (lN a)), (6, .long (4503599627370496 ||| (lN s &&& 4503599627370495)))] [] H
      rw [e4]
      have hWl : 2 ^ 52 + s % 2 ^ 52 < 2 ^ 53 := by omega
      generalize 2 ^ 52 + s % 2 ^ 52 = W at *
      refine zwp_sound (tk_X1_quartersOf cx hq) [(65, [0, 4, 6, 8])] 60 ?_
      show zV w g 3 0 0 65 [(0, dv n), (4, .long (lN a)), (6, .long (lN W)), (8, .long (lN W >>> ((lN a).toInt32.toInt64 &&& 63)))] [] H
      rw [lN_i, zlshr (by omega) (by omega)]
      have hml : W / 2 ^ a ≤ W := Nat.div_le_self _ _
      have hmw : W / 2 ^ a * 2 ^ a ≤ W := Nat.div_mul_le_self _ _
      generalize hM : W / 2 ^ a = M at *
      have hr : ∀ x : Int64, x = lN M <<< ((lN a).toInt32.toInt64 &&& 63) → (lg_cmp x (lN W) = 0 ↔ M * 2 ^ a = W) := by
        rintro x rfl
        rw [lN_i, wb_shl M (by omega), zlg, zcmp_eq, pk_lT (by omega), pk_lT (by omega)]
        omega
      have hb : lg_cmp (lN M) 1000000000 ≤ 0 ↔ ¬ 1000000000 < M := by
        rw [zlg, zcmp_le, pk_lT (by omega), show (1000000000 : Int64).toInt = 1000000000 from by decide]; omega
      refine zwp_sound (tk_X1_quartersOf cx hq) [] 60 ⟨fun h1 => ?_, fun h1 => ⟨fun h2 => ?_, fun h2 => ?_⟩⟩
      · rw [hr _ rfl] at h1
        exact ⟨by rw [hv, if_pos (Or.inl h1)], rfl⟩
      · rw [hr _ rfl] at h1
        rw [hb] at h2
        have hc : ¬ (¬ M * 2 ^ a = W ∨ 1000000000 < M) := by omega
        rw [if_neg hc] at hv
        have hMi : (lN M).toInt = M := pk_lT (by omega)
        refine zcall.pure (c4_digitsOf hw hn H) (by decide) ⟨fun h3 => ?_, fun h3 => ?_⟩
        · rw [zlg, zcmp_ge, dl_lN, zlT hn.1, show (0 : Int64).toInt = 0 from by decide] at h3
          rw [if_neg (by have := hn.1; split at h3 <;> omega)] at hv
          exact ⟨by rw [hv, zl2i (by omega) (by omega), hMi], rfl⟩
        · rw [zlg, zcmp_ge, dl_lN, zlT hn.1, show (0 : Int64).toInt = 0 from by decide] at h3
          rw [if_pos (by split at h3 <;> omega)] at hv
          have hMn : (-(lN M)).toInt = -(M : Int) := by rw [zlneg (by omega), hMi]
          exact ⟨by rw [hv, zl2i (by omega) (by omega), hMn], rfl⟩
      · rw [hb] at h2
        exact ⟨by rw [hv, if_pos (Or.inr (by omega))], rfl⟩
    · rw [zlg, zcmp_le, hA, show (52 : Int64).toInt = 52 from by decide] at hm
      exact ⟨by rw [hv, if_neg (fun q => hz (h0.mpr q)), if_pos (Or.inr (by omega))], rfl⟩
    · exact ⟨by rw [hv, if_pos (h0.mp hz)]; rfl, rfl⟩))

theorem c4_quartersOf_2 {w : zG} (hw : zWf w) {n : Nat} (hn : zok 31 n) (H : Heap) : zCt w yX1_quartersOf_2 wc_X1_quartersOf_2 3 0 0 [fv n] H (zPure (some (.int (zqI 31 23 148 16000000 n))) H) zNoX :=
  zCt.ofV [(0, fv n)] hw.1 (by decide +kernel) (Nat.le_of_ble_eq_true rfl) rfl fun g cx hq _ => zwp_sound (tk_X1_quartersOf_2 cx hq) [(17, [0, 1, 2])] 40 (zcall.pure (c4_digitsOf_2 hw hn H) (by decide) (by
    have hs : n % 2 ^ 31 < 2 ^ 31 := Nat.mod_lt _ (by decide)
    have e1 : fl n &&& 2147483647 = nI (n % 2 ^ 31) := zi31 hn.1
    have zT0 : (0 : Int32).toInt = 0 := by decide
    show zV w g 3 0 0 17 [(0, fv n), (1, .int (fl n &&& 2147483647)), (2, .int (148 - ((fl n &&& 2147483647).toUInt32 >>> ((23 : Int32).toUInt32 &&& Int32.toUInt32 31)).toInt32))] [] H
    rw [e1, show ((nI (n % 2 ^ 31)).toUInt32 >>> ((23 : Int32).toUInt32 &&& Int32.toUInt32 31)).toInt32 = nI (n % 2 ^ 31 / 2 ^ 23) from ziushr (k := 23) (by omega) (by decide)]
    have hv : zqI 31 23 148 16000000 n = zqI 31 23 148 16000000 n := rfl
    conv at hv => rhs; unfold zqI zcnt
    generalize n % 2 ^ 31 = s at *
    have hE : s / 2 ^ 23 < 256 := by omega
    have hT : s % 2 ^ 23 < 2 ^ 23 := Nat.mod_lt _ (by decide)
    have hA : ((148 : Int32) - nI (s / 2 ^ 23)).toInt = 148 - (s / 2 ^ 23 : Nat) := by
      have h1 : (148 : Int32).toInt = 148 := by decide
      have h2 := ziT (m := s / 2 ^ 23) (by omega)
      rw [if_pos (by omega)] at h2
      rw [zisub (by omega) (by omega), h1, h2]
    have hA2 : s / 2 ^ 23 ≤ 148 → (148 : Int32) - nI (s / 2 ^ 23) = nI (148 - s / 2 ^ 23) := fun h => by
      apply Int32.toInt_inj.mp
      rw [hA, ziT (by omega), if_pos (by omega)]; omega
    generalize (148 : Int32) - nI (s / 2 ^ 23) = A at *
    have h0 : nI s = 0 ↔ s = 0 := nI_eq (b := 0) (by omega) (by decide)
    refine zwp_sound (tk_X1_quartersOf_2 cx hq) [(44, [0, 2, 3])] 60 ⟨fun hz => ⟨fun hl => ?_, fun hl => ⟨fun hm => ?_, fun hm => ?_⟩⟩, fun hz => ?_⟩
    · rw [Int32.lt_iff_toInt_lt, hA, zT0] at hl
      exact ⟨by rw [hv, if_neg (fun q => hz (h0.mpr q)), if_pos (Or.inl (by omega))], rfl⟩
    · rw [Int32.lt_iff_toInt_lt, hA, zT0] at hl
      rw [Int32.le_iff_toInt_le, hA, show (23 : Int32).toInt = 23 from by decide] at hm
      have hs0 : ¬ s = 0 := fun q => hz (h0.mpr q)
      have hE2 : ¬ (148 < s / 2 ^ 23 ∨ s / 2 ^ 23 + 23 < 148) := by omega
      rw [hA2 (by omega)]
      rw [if_neg hs0, if_neg hE2] at hv
      generalize hAa : 148 - s / 2 ^ 23 = a at *
      have ha : a ≤ 23 := by omega
      have e4 : (8388608 : Int32) ||| (nI s &&& 8388607) = nI (2 ^ 23 + s % 2 ^ 23) := by
        rw [show nI s &&& 8388607 = nI (s % 2 ^ 23) from zi_mask s 23, show (8388608 : Int32) = nI (2 ^ 23 * 1) from rfl, zi_or, zor_add hT]
      show zV w g 3 0 0 44 [(0, fv n), (2, .int (nI a)), (3, .int (8388608 ||| (nI s &&& 8388607)))] [] H
      rw [e4]
      have hWl : 2 ^ 23 + s % 2 ^ 23 < 2 ^ 24 := by omega
      generalize 2 ^ 23 + s % 2 ^ 23 = W at *
      refine zwp_sound (tk_X1_quartersOf_2 cx hq) [(49, [0, 2, 3, 4])] 60 ?_
      show zV w g 3 0 0 49 [(0, fv n), (2, .int (nI a)), (3, .int (nI W)), (4, .int (nI W >>> (nI a &&& 31)))] [] H
      rw [zishr (by omega) (by omega)]
      have hml : W / 2 ^ a ≤ W := Nat.div_le_self _ _
      have hmw : W / 2 ^ a * 2 ^ a ≤ W := Nat.div_mul_le_self _ _
      generalize hM : W / 2 ^ a = M at *
      have hr : nI M <<< (nI a &&& 31) = nI W ↔ M * 2 ^ a = W := by
        rw [zishl M (by omega)]
        exact nI_eq (by omega) (by omega)
      have hb : nI M ≤ 16000000 ↔ ¬ 16000000 < M := by
        rw [Int32.le_iff_toInt_le, ziT (by omega), if_pos (by omega), show (16000000 : Int32).toInt = 16000000 from by decide]; omega
      refine zwp_sound (tk_X1_quartersOf_2 cx hq) [] 60 ⟨fun h1 => ?_, fun h1 => ⟨fun h2 => ?_, fun h2 => ?_⟩⟩
      · rw [hr] at h1
        exact ⟨by rw [hv, if_pos (Or.inl h1)], rfl⟩
      · rw [hr] at h1
        rw [hb] at h2
        have hc : ¬ (¬ M * 2 ^ a = W ∨ 16000000 < M) := by omega
        rw [if_neg hc] at hv
        have hMi : (nI M).toInt = M := by rw [ziT (by omega), if_pos (by omega)]
        refine zcall.pure (c4_digitsOf_2 hw hn H) (by decide) ⟨fun h3 => ?_, fun h3 => ?_⟩
        · rw [fl_nI, Int32.le_iff_toInt_le, ziT hn.1, zT0] at h3
          rw [if_neg (by have := hn.1; split at h3 <;> omega)] at hv
          exact ⟨by rw [hv]; show _ = some (Value.int (Int32.ofInt (M : Int))); rw [← hMi, Int32.ofInt_toInt], rfl⟩
        · rw [fl_nI, Int32.le_iff_toInt_le, ziT hn.1, zT0] at h3
          rw [if_pos (by split at h3 <;> omega)] at hv
          have hMn : (-(nI M)).toInt = -(M : Int) := by rw [zineg (by omega), hMi]
          exact ⟨by rw [hv]; show _ = some (Value.int (Int32.ofInt (-(M : Int)))); rw [← hMn, Int32.ofInt_toInt], rfl⟩
      · rw [hb] at h2
        exact ⟨by rw [hv, if_pos (Or.inr (by omega))], rfl⟩
    · rw [Int32.le_iff_toInt_le, hA, show (23 : Int32).toInt = 23 from by decide] at hm
      exact ⟨by rw [hv, if_neg (fun q => hz (h0.mpr q)), if_pos (Or.inr (by omega))], rfl⟩
    · exact ⟨by rw [hv, if_pos (h0.mp hz)]; rfl, rfl⟩))
