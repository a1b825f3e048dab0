/-! contracts: Edgefloats, put and made -/
theorem zfromI {K fr one : Nat} {F : FP.Core.Fmt} (hF : zFm F K fr one 0) {i : Int} (hi : i.natAbs < 2 ^ (fr + 1)) : FP.Core.fromInt F i = zmade K fr one i := by
  by_cases h0 : i = 0
  · subst h0
    show FP.Core.encode F (FP.Core.round F (.fin (decide ((0 : Int) < 0)) 0 0)) = 0
    rw [zround_zero hF]; rfl
  · have h9 := zround_made hF h0 (zlog_le h0 hi) (j := 0) (e := 0) rfl
    rw [Nat.pow_zero, Nat.mul_one] at h9
    exact h9
theorem zmlt {K fr one : Nat} {F : FP.Core.Fmt} {x : Int} (hF : zFm F K fr one x) {i : Int} (hi : i.natAbs < 2 ^ (fr + 1)) : zmade K fr one i < 2 ^ (K + 1) ∧ zmade K fr one i % 2 ^ K < (F.exps - 1) * 2 ^ fr := by
  by_cases h0 : i = 0
  · subst h0
    obtain ⟨f1, f2, f3, f4, f5, f6, f7, f8, f9⟩ := hF
    show 0 < 2 ^ (K + 1) ∧ 0 % 2 ^ K < (F.exps - 1) * 2 ^ fr
    exact ⟨Nat.two_pow_pos _, by rw [Nat.zero_mod]; exact Nat.mul_pos (by omega) (Nat.two_pow_pos _)⟩
  · exact (zmade_dec hF h0 (zlog_le h0 hi)).2
theorem zmok63 {i : Int} (hi : i.natAbs < 2 ^ 53) : zok 63 (zmade 63 52 1073 i) := by
  have h := zmlt zFm64 hi
  refine ⟨h.1, Nat.le_of_lt (Nat.lt_of_lt_of_le h.2 ?_)⟩
  decide
theorem zmok31 {i : Int} (hi : i.natAbs < 2 ^ 24) : zok 31 (zmade 31 23 148 i) := by
  have h := zmlt zFm32 hi
  refine ⟨h.1, Nat.le_of_lt (Nat.lt_of_lt_of_le h.2 ?_)⟩
  decide
theorem zqmd {x : Int32} (hi : x.toInt.natAbs < 2 ^ 53) : FP.dmul (FP.i2d x) 4598175219545276416 = UInt64.ofNat (zmade 63 52 1073 x.toInt) := by
  show UInt64.ofNat (FP.Core.mul FP.Core.b64 (UInt64.ofNat (FP.Core.fromInt FP.Core.b64 x.toInt)).toNat 4598175219545276416) = _
  rw [UInt64.toNat_ofNat', Nat.mod_eq_of_lt (by rw [zfromI zFm64i hi]; exact (zmlt zFm64i hi).1), zprod zFm64 zFm64i hi (by decide +kernel)]
theorem zqmf {x : Int32} (hi : x.toInt.natAbs < 2 ^ 24) : FP.fmul (FP.i2f x) 1048576000 = UInt32.ofNat (zmade 31 23 148 x.toInt) := by
  show UInt32.ofNat (FP.Core.mul FP.Core.b32 (UInt32.ofNat (FP.Core.fromInt FP.Core.b32 x.toInt)).toNat 1048576000) = _
  rw [UInt32.toNat_ofNat', Nat.mod_eq_of_lt (by rw [zfromI zFm32i hi]; exact (zmlt zFm32i hi).1), zprod zFm32 zFm32i hi (by decide +kernel)]
/-- the known ones -/
def zkn (K fr inf : Nat) (i : Int32) : Nat := if i = 0 then 0 else if i = 1 then 2 ^ K else if i = 2 then inf else if i = 3 then 2 ^ K + inf else if i = 4 then inf - 1 else if i = 5 then 1 else 2 ^ fr
theorem zkok63 (i : Int32) : zok 63 (zkn 63 52 9218868437227405312 i) := by
  unfold zkn; repeat' split
  all_goals exact ⟨by decide, by decide⟩
theorem zkok31 (i : Int32) : zok 31 (zkn 31 23 2139095040 i) := by
  unfold zkn; repeat' split
  all_goals exact ⟨by decide, by decide⟩
theorem zi_e {i : Int32} {k : Nat} (hk : k < 2 ^ 31) (h : i.toInt = k) : i = nI k := Int32.toInt_inj.mp (by rw [h, ziT (by omega), if_pos hk])
/-- a cell, then a way, both of this range -/
theorem zbv (p : Prop) [Decidable p] : (if p then (1 : Int32) else 0) = if p then 1 else 0 := rfl

theorem c4_wideKnownOne {w : zG} (hw : zWf w) (i : Int32) (H : Heap) : zCt w yX1_wideKnownOne wc_X1_wideKnownOne 4 1 1 [.int i] H (fun r H' => r = some (.ref H.size) ∧ zPush H H' ∧ zOb w H.size 1 [dv (zkn 63 52 9218868437227405312 i)] H') zNoX :=
  zCt.ofV [(0, .int i)] hw.1 (by decide +kernel) (Nat.le_of_ble_eq_true rfl) rfl fun g cx hq _ => zwp_sound (tk_X1_wideKnownOne cx hq) [] 40 (by
    have fin : ∀ {n : Nat}, zkn 63 52 9218868437227405312 i = n → ∀ (r : Option Value) (H' : Heap), (r = some (.ref H.size) ∧ zPush H H' ∧ zOb w H.size 1 [dv n] H') → (r = some (.ref H.size) ∧ zPush H H' ∧ zOb w H.size 1 [dv (zkn 63 52 9218868437227405312 i)] H') := by
      rintro _ rfl r H' h; exact h
    refine ⟨⟨fun h => ?_, fun h => ?_, fun h => ?_, fun h => ?_, fun h => ?_, fun h => ?_, trivial⟩, fun h => ?_⟩
    · obtain rfl := zi_e (k := 0) (by decide) h
      exact zcall.ret (c1_valueOf hw (n := 0) H) (by decide) (by decide) (by decide) (by rintro r H' ⟨rfl, h⟩ _; exact fin rfl _ _ ⟨rfl, h⟩)
    · obtain rfl := zi_e (k := 1) (by decide) h
      exact zcall.ret (c1_valueOf hw (n := 2 ^ 63) H) (by decide) (by decide) (by decide) (by rintro r H' ⟨rfl, h⟩ _; exact fin rfl _ _ ⟨rfl, h⟩)
    · obtain rfl := zi_e (k := 2) (by decide) h
      exact zcall.ret (c1_valueOf hw (n := 9218868437227405312) H) (by decide) (by decide) (by decide) (by rintro r H' ⟨rfl, h⟩ _; exact fin rfl _ _ ⟨rfl, h⟩)
    · obtain rfl := zi_e (k := 3) (by decide) h
      exact zcall.ret (c1_valueOf hw (n := 2 ^ 63 + 9218868437227405312) H) (by decide) (by decide) (by decide) (by rintro r H' ⟨rfl, h⟩ _; exact fin rfl _ _ ⟨rfl, h⟩)
    · obtain rfl := zi_e (k := 4) (by decide) h
      exact zcall.ret (c1_valueOf hw (n := 9218868437227405312 - 1) H) (by decide) (by decide) (by decide) (by rintro r H' ⟨rfl, h⟩ _; exact fin rfl _ _ ⟨rfl, h⟩)
    · obtain rfl := zi_e (k := 5) (by decide) h
      exact zcall.ret (c1_valueOf hw (n := 1) H) (by decide) (by decide) (by decide) (by rintro r H' ⟨rfl, h⟩ _; exact fin rfl _ _ ⟨rfl, h⟩)
    · have ne : ∀ k : Nat, k < 6 → ¬ i = nI k := by
        rintro k hk rfl
        rw [ziT (by omega), if_pos (by omega)] at h
        omega
      exact zcall.ret (c1_valueOf hw H) (by decide) (by decide) (by decide) (by
        rintro r H' ⟨rfl, h⟩ _
        exact fin (by unfold zkn; exact (if_neg (ne 0 (by decide))).trans ((if_neg (ne 1 (by decide))).trans ((if_neg (ne 2 (by decide))).trans ((if_neg (ne 3 (by decide))).trans ((if_neg (ne 4 (by decide))).trans (if_neg (ne 5 (by decide)))))))) _ _ ⟨rfl, h⟩))
theorem c4_wideKnown {w : zG} (hw : zWf w) {x aw an : Nat} {W N : Nat → Nat} {wa na rf kn : Int32} {H : Heap} (hI : zXI w x aw an W N wa na rf kn H) (c i : Int32) : zCt w yX1_wideKnown wc_X1_wideKnown 9 4 20 [.ref x, .int c, .int i] H (fun v H' => ∃ j, j < 8 ∧ c = nI j ∧ (0 ≤ i ∧ i ≤ 6) ∧ v = some (.int (if W j = zkn 63 52 9218868437227405312 i then 0 else 1)) ∧ zXI w x aw an (zup W j (zkn 63 52 9218868437227405312 i)) N (wa + 1) na rf kn H' ∧ zFr x aw an H H') (fun E H' => ((E = zIO ∧ ¬ (0 ≤ c ∧ c ≤ 7)) ∨ (E = zIA ∧ (0 ≤ c ∧ c ≤ 7) ∧ ¬ (0 ≤ i ∧ i ≤ 6))) ∧ zGr H H') :=
  zCt.ofV [(0, .ref x), (1, .int c), (2, .int i)] hw.1 (by decide +kernel) (Nat.le_of_ble_eq_true rfl) rfl fun g cx hq _ => zwp_sound (tk_X1_wideKnown cx hq) [] 80 (by
    have ox9 := hI.choose_spec.choose_spec.2.1
    refine zcall.mk (ct_X1_mustBeCell w hw.1 c H) (by decide) (by decide) (by decide) ?_ (fun E H' h _ => ⟨Or.inl ⟨h.1, h.2.1⟩, h.2.2⟩)
    rintro _ _ ⟨rfl, rfl, hc⟩ _
    refine zcall.pure (ct_X1_isIn w hw.1 i 0 6 _) (by decide) (zfitq hw (by decide) (by decide) (by decide) (fun hh => ?_) (fun E H' g1 g2 g3 => ⟨Or.inr ⟨g1, hc, g2⟩, g3⟩))
    refine zcall.ret (c4_wideKnownOne hw i _) (by decide) (by decide) (by decide) ?_
    rintro _ H1 ⟨rfl, p1, o1⟩ _
    exact ⟨⟨_, p1.gr.ob ox9⟩, zput1 hw (hI.gr p1.gr) c o1 (zkok63 i) (by decide) (by decide) (by decide) (fun j H' g1 g2 g3 g4 => ⟨j, g1, g2, hh, rfl, g3, p1.gr.fr.trans g4⟩) (fun E H' g1 g2 g3 => absurd hc g2)⟩)
theorem c4_wideQuarters {w : zG} (hw : zWf w) {x aw an : Nat} {W N : Nat → Nat} {wa na rf kn : Int32} {H : Heap} (hI : zXI w x aw an W N wa na rf kn H) (c i : Int32) : zCt w yX1_wideQuarters wc_X1_wideQuarters 9 4 20 [.ref x, .int c, .int i] H (fun v H' => ∃ j, j < 8 ∧ c = nI j ∧ (-1000000000 ≤ i ∧ i ≤ 1000000000) ∧ v = some (.int (if W j = zmade 63 52 1073 i.toInt then 0 else 1)) ∧ zXI w x aw an (zup W j (zmade 63 52 1073 i.toInt)) N (wa + 1) na rf kn H' ∧ zFr x aw an H H') (fun E H' => ((E = zIO ∧ ¬ (0 ≤ c ∧ c ≤ 7)) ∨ (E = zIA ∧ (0 ≤ c ∧ c ≤ 7) ∧ ¬ (-1000000000 ≤ i ∧ i ≤ 1000000000))) ∧ zGr H H') :=
  zCt.ofV [(0, .ref x), (1, .int c), (2, .int i)] hw.1 (by decide +kernel) (Nat.le_of_ble_eq_true rfl) rfl fun g cx hq _ => zwp_sound (tk_X1_wideQuarters cx hq) [] 80 (by
    have ox9 := hI.choose_spec.choose_spec.2.1
    refine zcall.mk (ct_X1_mustBeCell w hw.1 c H) (by decide) (by decide) (by decide) ?_ (fun E H' h _ => ⟨Or.inl ⟨h.1, h.2.1⟩, h.2.2⟩)
    rintro _ _ ⟨rfl, rfl, hc⟩ _
    refine zcall.pure (ct_X1_isIn w hw.1 i (-1000000000) 1000000000 _) (by decide) (zfitq hw (by decide) (by decide) (by decide) (fun hh => ?_) (fun E H' g1 g2 g3 => ⟨Or.inr ⟨g1, hc, g2⟩, g3⟩))
    have hb := hh
    rw [Int32.le_iff_toInt_le, Int32.le_iff_toInt_le, show (-1000000000 : Int32).toInt = -1000000000 from by decide, show (1000000000 : Int32).toInt = 1000000000 from by decide] at hb
    have hz : zok 63 (zmade 63 52 1073 i.toInt) := zmok63 (by omega)
    refine ⟨by rw [zqmd (by omega)]; exact (zabs63 hz).1, ?_⟩
    rw [zqmd (by omega)]
    refine zcall.ret (c1_valueOf hw _) (by decide) (by decide) (by decide) ?_
    rintro _ H1 ⟨rfl, p1, o1⟩ _
    exact ⟨⟨_, p1.gr.ob ox9⟩, zput1 hw (hI.gr p1.gr) c o1 hz (by decide) (by decide) (by decide) (fun j H' g1 g2 g3 g4 => ⟨j, g1, g2, hh, rfl, g3, p1.gr.fr.trans g4⟩) (fun E H' g1 g2 g3 => absurd hc g2)⟩)
theorem c4_wideCount {w : zG} (hw : zWf w) {x aw an : Nat} {W N : Nat → Nat} {wa na rf kn : Int32} {H : Heap} (hI : zXI w x aw an W N wa na rf kn H) (c : Int32) : zCt w yX1_wideCount wc_X1_wideCount 9 1 6 [.ref x, .int c] H (fun v H' => H' = H ∧ ∃ j, j < 8 ∧ c = nI j ∧ v = some (.int (zqI 63 52 1073 1000000000 (W j)))) (fun E H' => E = zIO ∧ ¬ (0 ≤ c ∧ c ≤ 7) ∧ zGr H H') :=
  zCt.ofV [(0, .ref x), (1, .int c)] hw.1 (by decide +kernel) (Nat.le_of_ble_eq_true rfl) rfl fun g cx hq _ => zwp_sound (tk_X1_wideCount cx hq) [] 80 
    ⟨⟨_, hI.choose_spec.choose_spec.2.1⟩, zat1 hw hI c (by decide) (by decide) (by decide) (fun j r e1 e2 e3 e4 => ⟨⟨_, e3⟩, zcall.pure (c1_value hw e3) (by decide) (zcall.pure (c4_quartersOf hw e4 H) (by decide) ⟨rfl, j, e1, e2, rfl⟩)⟩) (fun E H' f1 f2 f3 => ⟨f1, f2, f3⟩)⟩

theorem c4_narrowKnownOne {w : zG} (hw : zWf w) (i : Int32) (H : Heap) : zCt w yX1_narrowKnownOne wc_X1_narrowKnownOne 4 1 1 [.int i] H (fun r H' => r = some (.ref H.size) ∧ zPush H H' ∧ zOb w H.size 2 [fv (zkn 31 23 2139095040 i)] H') zNoX :=
  zCt.ofV [(0, .int i)] hw.1 (by decide +kernel) (Nat.le_of_ble_eq_true rfl) rfl fun g cx hq _ => zwp_sound (tk_X1_narrowKnownOne cx hq) [] 40 (by
    have fin : ∀ {n : Nat}, zkn 31 23 2139095040 i = n → ∀ (r : Option Value) (H' : Heap), (r = some (.ref H.size) ∧ zPush H H' ∧ zOb w H.size 2 [fv n] H') → (r = some (.ref H.size) ∧ zPush H H' ∧ zOb w H.size 2 [fv (zkn 31 23 2139095040 i)] H') := by
      rintro _ rfl r H' h; exact h
    refine ⟨⟨fun h => ?_, fun h => ?_, fun h => ?_, fun h => ?_, fun h => ?_, fun h => ?_, trivial⟩, fun h => ?_⟩
    · obtain rfl := zi_e (k := 0) (by decide) h
      exact zcall.ret (c2_valueOf hw (n := 0) H) (by decide) (by decide) (by decide) (by rintro r H' ⟨rfl, h⟩ _; exact fin rfl _ _ ⟨rfl, h⟩)
    · obtain rfl := zi_e (k := 1) (by decide) h
      exact zcall.ret (c2_valueOf hw (n := 2 ^ 31) H) (by decide) (by decide) (by decide) (by rintro r H' ⟨rfl, h⟩ _; exact fin rfl _ _ ⟨rfl, h⟩)
    · obtain rfl := zi_e (k := 2) (by decide) h
      exact zcall.ret (c2_valueOf hw (n := 2139095040) H) (by decide) (by decide) (by decide) (by rintro r H' ⟨rfl, h⟩ _; exact fin rfl _ _ ⟨rfl, h⟩)
    · obtain rfl := zi_e (k := 3) (by decide) h
      exact zcall.ret (c2_valueOf hw (n := 2 ^ 31 + 2139095040) H) (by decide) (by decide) (by decide) (by rintro r H' ⟨rfl, h⟩ _; exact fin rfl _ _ ⟨rfl, h⟩)
    · obtain rfl := zi_e (k := 4) (by decide) h
      exact zcall.ret (c2_valueOf hw (n := 2139095040 - 1) H) (by decide) (by decide) (by decide) (by rintro r H' ⟨rfl, h⟩ _; exact fin rfl _ _ ⟨rfl, h⟩)
    · obtain rfl := zi_e (k := 5) (by decide) h
      exact zcall.ret (c2_valueOf hw (n := 1) H) (by decide) (by decide) (by decide) (by rintro r H' ⟨rfl, h⟩ _; exact fin rfl _ _ ⟨rfl, h⟩)
    · have ne : ∀ k : Nat, k < 6 → ¬ i = nI k := by
        rintro k hk rfl
        rw [ziT (by omega), if_pos (by omega)] at h
        omega
      exact zcall.ret (c2_valueOf hw H) (by decide) (by decide) (by decide) (by
        rintro r H' ⟨rfl, h⟩ _
        exact fin (by unfold zkn; exact (if_neg (ne 0 (by decide))).trans ((if_neg (ne 1 (by decide))).trans ((if_neg (ne 2 (by decide))).trans ((if_neg (ne 3 (by decide))).trans ((if_neg (ne 4 (by decide))).trans (if_neg (ne 5 (by decide)))))))) _ _ ⟨rfl, h⟩))
theorem c4_narrowKnown {w : zG} (hw : zWf w) {x aw an : Nat} {W N : Nat → Nat} {wa na rf kn : Int32} {H : Heap} (hI : zXI w x aw an W N wa na rf kn H) (c i : Int32) : zCt w yX1_narrowKnown wc_X1_narrowKnown 9 4 20 [.ref x, .int c, .int i] H (fun v H' => ∃ j, j < 8 ∧ c = nI j ∧ (0 ≤ i ∧ i ≤ 6) ∧ v = some (.int (if N j = zkn 31 23 2139095040 i then 0 else 1)) ∧ zXI w x aw an W (zup N j (zkn 31 23 2139095040 i)) wa (na + 1) rf kn H' ∧ zFr x aw an H H') (fun E H' => ((E = zIO ∧ ¬ (0 ≤ c ∧ c ≤ 7)) ∨ (E = zIA ∧ (0 ≤ c ∧ c ≤ 7) ∧ ¬ (0 ≤ i ∧ i ≤ 6))) ∧ zGr H H') :=
  zCt.ofV [(0, .ref x), (1, .int c), (2, .int i)] hw.1 (by decide +kernel) (Nat.le_of_ble_eq_true rfl) rfl fun g cx hq _ => zwp_sound (tk_X1_narrowKnown cx hq) [] 80 (by
    have ox9 := hI.choose_spec.choose_spec.2.1
    refine zcall.mk (ct_X1_mustBeCell w hw.1 c H) (by decide) (by decide) (by decide) ?_ (fun E H' h _ => ⟨Or.inl ⟨h.1, h.2.1⟩, h.2.2⟩)
    rintro _ _ ⟨rfl, rfl, hc⟩ _
    refine zcall.pure (ct_X1_isIn w hw.1 i 0 6 _) (by decide) (zfitq hw (by decide) (by decide) (by decide) (fun hh => ?_) (fun E H' g1 g2 g3 => ⟨Or.inr ⟨g1, hc, g2⟩, g3⟩))
    refine zcall.ret (c4_narrowKnownOne hw i _) (by decide) (by decide) (by decide) ?_
    rintro _ H1 ⟨rfl, p1, o1⟩ _
    exact ⟨⟨_, p1.gr.ob ox9⟩, zput2 hw (hI.gr p1.gr) c o1 (zkok31 i) (by decide) (by decide) (by decide) (fun j H' g1 g2 g3 g4 => ⟨j, g1, g2, hh, rfl, g3, p1.gr.fr.trans g4⟩) (fun E H' g1 g2 g3 => absurd hc g2)⟩)
theorem c4_narrowQuarters {w : zG} (hw : zWf w) {x aw an : Nat} {W N : Nat → Nat} {wa na rf kn : Int32} {H : Heap} (hI : zXI w x aw an W N wa na rf kn H) (c i : Int32) : zCt w yX1_narrowQuarters wc_X1_narrowQuarters 9 4 20 [.ref x, .int c, .int i] H (fun v H' => ∃ j, j < 8 ∧ c = nI j ∧ (-16000000 ≤ i ∧ i ≤ 16000000) ∧ v = some (.int (if N j = zmade 31 23 148 i.toInt then 0 else 1)) ∧ zXI w x aw an W (zup N j (zmade 31 23 148 i.toInt)) wa (na + 1) rf kn H' ∧ zFr x aw an H H') (fun E H' => ((E = zIO ∧ ¬ (0 ≤ c ∧ c ≤ 7)) ∨ (E = zIA ∧ (0 ≤ c ∧ c ≤ 7) ∧ ¬ (-16000000 ≤ i ∧ i ≤ 16000000))) ∧ zGr H H') :=
  zCt.ofV [(0, .ref x), (1, .int c), (2, .int i)] hw.1 (by decide +kernel) (Nat.le_of_ble_eq_true rfl) rfl fun g cx hq _ => zwp_sound (tk_X1_narrowQuarters cx hq) [] 80 (by
    have ox9 := hI.choose_spec.choose_spec.2.1
    refine zcall.mk (ct_X1_mustBeCell w hw.1 c H) (by decide) (by decide) (by decide) ?_ (fun E H' h _ => ⟨Or.inl ⟨h.1, h.2.1⟩, h.2.2⟩)
    rintro _ _ ⟨rfl, rfl, hc⟩ _
    refine zcall.pure (ct_X1_isIn w hw.1 i (-16000000) 16000000 _) (by decide) (zfitq hw (by decide) (by decide) (by decide) (fun hh => ?_) (fun E H' g1 g2 g3 => ⟨Or.inr ⟨g1, hc, g2⟩, g3⟩))
    have hb := hh
    rw [Int32.le_iff_toInt_le, Int32.le_iff_toInt_le, show (-16000000 : Int32).toInt = -16000000 from by decide, show (16000000 : Int32).toInt = 16000000 from by decide] at hb
    have hz : zok 31 (zmade 31 23 148 i.toInt) := zmok31 (by omega)
    refine ⟨by rw [zqmf (by omega)]; exact (zabs31 hz).1, ?_⟩
    rw [zqmf (by omega)]
    refine zcall.ret (c2_valueOf hw _) (by decide) (by decide) (by decide) ?_
    rintro _ H1 ⟨rfl, p1, o1⟩ _
    exact ⟨⟨_, p1.gr.ob ox9⟩, zput2 hw (hI.gr p1.gr) c o1 hz (by decide) (by decide) (by decide) (fun j H' g1 g2 g3 g4 => ⟨j, g1, g2, hh, rfl, g3, p1.gr.fr.trans g4⟩) (fun E H' g1 g2 g3 => absurd hc g2)⟩)
theorem c4_narrowCount {w : zG} (hw : zWf w) {x aw an : Nat} {W N : Nat → Nat} {wa na rf kn : Int32} {H : Heap} (hI : zXI w x aw an W N wa na rf kn H) (c : Int32) : zCt w yX1_narrowCount wc_X1_narrowCount 9 1 6 [.ref x, .int c] H (fun v H' => H' = H ∧ ∃ j, j < 8 ∧ c = nI j ∧ v = some (.int (zqI 31 23 148 16000000 (N j)))) (fun E H' => E = zIO ∧ ¬ (0 ≤ c ∧ c ≤ 7) ∧ zGr H H') :=
  zCt.ofV [(0, .ref x), (1, .int c)] hw.1 (by decide +kernel) (Nat.le_of_ble_eq_true rfl) rfl fun g cx hq _ => zwp_sound (tk_X1_narrowCount cx hq) [] 80 
    ⟨⟨_, hI.choose_spec.choose_spec.2.1⟩, zat2 hw hI c (by decide) (by decide) (by decide) (fun j r e1 e2 e3 e4 => ⟨⟨_, e3⟩, zcall.pure (c2_value hw e3) (by decide) (zcall.pure (c4_quartersOf_2 hw e4 H) (by decide) ⟨rfl, j, e1, e2, rfl⟩)⟩) (fun E H' f1 f2 f3 => ⟨f1, f2, f3⟩)⟩

theorem zokS {n : Nat} (h : n < 2 ^ 64) (hs : ¬ 9218868437227405312 < n % 2 ^ 63) : zok 63 n := ⟨h, by show n % 2 ^ 63 ≤ 2047 * 2 ^ 52; omega⟩
theorem zokS2 {n : Nat} (h : n < 2 ^ 32) (hs : ¬ 2139095040 < n % 2 ^ 31) : zok 31 n := ⟨h, by show n % 2 ^ 31 ≤ 255 * 2 ^ 23; omega⟩
theorem znl2d {n : Nat} (hn : zok 63 n) : vn_snl2d (lN n) = false := by
  have h := (zabs63 hn).1
  unfold vn_snl2d
  have e : decide ((lN n).toUInt64 &&& 9223372036854775807 > 9218868437227405312) = false := decide_eq_false (by
    intro q
    have h2 : UInt64.ofNat n &&& 9223372036854775807 ≤ 9218868437227405312 := h
    have h3 : (9218868437227405312 : UInt64) < UInt64.ofNat n &&& 9223372036854775807 := q
    rw [UInt64.le_iff_toNat_le] at h2
    rw [UInt64.lt_iff_toNat_lt] at h3
    omega)
  rw [e]; rfl
theorem zni2f {n : Nat} (hn : zok 31 n) : vn_sni2f (nI n) = false := by
  have h := (zabs31 hn).1
  unfold vn_sni2f
  have e : decide ((nI n).toUInt32 &&& 2147483647 > 2139095040) = false := decide_eq_false (by
    intro q
    have h2 : UInt32.ofNat n &&& 2147483647 ≤ 2139095040 := h
    have h3 : (2139095040 : UInt32) < UInt32.ofNat n &&& 2147483647 := q
    rw [UInt32.le_iff_toNat_le] at h2
    rw [UInt32.lt_iff_toNat_lt] at h3
    omega)
  rw [e]; rfl
/-- a number of 64 digits out of two of 32 -/
def zjoin (a b : Int32) : Nat := a.toBitVec.toNat * 4294967296 + b.toBitVec.toNat
theorem zjoin_lt (a b : Int32) : zjoin a b < 2 ^ 64 := by
  have h1 := a.toBitVec.isLt
  have h2 := b.toBitVec.isLt
  unfold zjoin
  omega
theorem zj1 (t n : Nat) : (t * 4294967296 + n) * 4294967296 % 2 ^ 64 = n * 4294967296 % 2 ^ 64 := by
  rw [Nat.add_mul, Nat.mul_assoc, Nat.add_comm, show 4294967296 * 4294967296 = 2 ^ 64 from rfl, Nat.add_mul_mod_self_right]
theorem zj2 {n m : Nat} (hn : n < 4294967296) (hm : m < 4294967296) : n * 4294967296 + m < 2 ^ 64 := by omega
theorem zjoin_e (a b : Int32) : (a.toInt64 <<< ((32 : Int32).toInt64 &&& 63)) ||| (b.toInt64 &&& 4294967295) = lN (zjoin a b) := by
  obtain ⟨n, hn, rfl⟩ := wb_of32 a
  obtain ⟨m, hm, rfl⟩ := wb_of32 b
  have key : ∀ k, k < 4294967296 → ∃ t, (nI k).toInt64 = lN (t * 4294967296 + k) ∧ t * 4294967296 + k < 2 ^ 64 := by
    intro k hk
    by_cases h : k < 2 ^ 31
    · exact ⟨0, by rw [nI_l h]; simp, by omega⟩
    · refine ⟨4294967296 - 1, Int64.toInt_inj.mp ?_, by omega⟩
      rw [Int32.toInt_toInt64, ziT hk, if_neg h, zlT (by omega), if_neg (by omega)]
      omega
  obtain ⟨t, h1, h1'⟩ := key n hn
  obtain ⟨s, h2, h2'⟩ := key m hm
  rw [h1, h2, show lN (t * 4294967296 + n) <<< ((32 : Int32).toInt64 &&& 63) = lN ((t * 4294967296 + n) * 4294967296) from wb_shl _ (k := 32) (by decide), show lN (s * 4294967296 + m) &&& 4294967295 = lN ((s * 4294967296 + m) % 4294967296) from g_mask (p := 4294967296) (s := 32) (by decide) (by decide) h2']
  have e1 : (s * 4294967296 + m) % 4294967296 = m := by omega
  have e2 : lN ((t * 4294967296 + n) * 4294967296) = lN (n * 4294967296) := by
    rw [wb_mod, wb_mod (n * 4294967296)]
    exact congrArg lN (zj1 t n)
  have hz : zjoin (nI n) (nI m) = n * 4294967296 + m := by
    unfold zjoin
    rw [zi_tb, zi_tb, BitVec.toNat_ofNat, BitVec.toNat_ofNat, Nat.mod_eq_of_lt hn, Nat.mod_eq_of_lt hm]
  rw [e1, e2, hz]
  exact g_or (k := 32) (p := 4294967296) (a := m) (b := n) (by decide) hm (zj2 hn hm)
theorem c4_putWide {w : zG} (hw : zWf w) {x aw an : Nat} {W N : Nat → Nat} {wa na rf kn : Int32} {H : Heap} (hI : zXI w x aw an W N wa na rf kn H) (c a b : Int32) : zCt w yX1_putWide wc_X1_putWide 9 3 18 [.ref x, .int c, .int a, .int b] H (fun v H' => (0 ≤ c ∧ c ≤ 7) ∧ ((9218868437227405312 < zjoin a b % 2 ^ 63 ∧ v = some (.int (-9)) ∧ zXI w x aw an W N wa na (rf + 1) kn H' ∧ zFr x aw an H H') ∨ (¬ 9218868437227405312 < zjoin a b % 2 ^ 63 ∧ ∃ j, j < 8 ∧ c = nI j ∧ v = some (.int (if W j = zjoin a b then 0 else 1)) ∧ zXI w x aw an (zup W j (zjoin a b)) N (wa + 1) na rf kn H' ∧ zFr x aw an H H'))) (fun E H' => E = zIO ∧ ¬ (0 ≤ c ∧ c ≤ 7) ∧ zGr H H') :=
  zCt.ofV [(0, .ref x), (1, .int c), (2, .int a), (3, .int b)] hw.1 (by decide +kernel) (Nat.le_of_ble_eq_true rfl) rfl fun g cx hq _ => zwp_sound (tk_X1_putWide cx hq) [(18, [0, 1, 4])] 80 (by
    have ox9 := hI.choose_spec.choose_spec.2.1
    refine zcall.mk (ct_X1_mustBeCell w hw.1 c H) (by decide) (by decide) (by decide) ?_ (fun E H' h _ => h)
    rintro _ _ ⟨rfl, rfl, hc⟩ _
    show zV w g 9 (3 - 1) (18 - 6) 18 [(0, .ref x), (1, .int c), (4, .long ((a.toInt64 <<< ((32 : Int32).toInt64 &&& 63)) ||| (b.toInt64 &&& 4294967295)))] [] _
    rw [zjoin_e]
    have hn := zjoin_lt a b
    generalize zjoin a b = n at *
    refine zwp_sound (tk_X1_putWide cx hq) [] 80 (zcall.pure (c4_isSpoiled hw hn _) (by decide) ⟨fun h => ?_, fun h => ?_⟩)
    · have hs := zite h
      have ho := zokS hn hs
      refine ⟨by decide, znl2d ho, zcall.ret (c1_valueOf hw _) (by decide) (by decide) (by decide) ?_⟩
      rintro _ H1 ⟨rfl, p1, o1⟩ _
      exact ⟨⟨_, p1.gr.ob ox9⟩, zput1 hw (hI.gr p1.gr) c o1 ho (by decide) (by decide) (by decide) (fun j H' g1 g2 g3 g4 => ⟨hc, Or.inr ⟨hs, j, g1, g2, rfl, g3, p1.gr.fr.trans g4⟩⟩) (fun E H' g1 g2 g3 => absurd hc g2)⟩
    · exact ⟨⟨_, ox9⟩, zcall.ret (c4_refused hw hI) (by decide) (by decide) (by decide) (by rintro _ H1 ⟨rfl, h1, h2⟩ _; exact ⟨hc, Or.inl ⟨zitb h, rfl, h1, h2⟩⟩)⟩)
theorem c4_putNarrow {w : zG} (hw : zWf w) {x aw an : Nat} {W N : Nat → Nat} {wa na rf kn : Int32} {H : Heap} (hI : zXI w x aw an W N wa na rf kn H) (c a : Int32) : zCt w yX1_putNarrow wc_X1_putNarrow 9 3 18 [.ref x, .int c, .int a] H (fun v H' => (0 ≤ c ∧ c ≤ 7) ∧ ((2139095040 < a.toBitVec.toNat % 2 ^ 31 ∧ v = some (.int (-9)) ∧ zXI w x aw an W N wa na (rf + 1) kn H' ∧ zFr x aw an H H') ∨ (¬ 2139095040 < a.toBitVec.toNat % 2 ^ 31 ∧ ∃ j, j < 8 ∧ c = nI j ∧ v = some (.int (if N j = a.toBitVec.toNat then 0 else 1)) ∧ zXI w x aw an W (zup N j a.toBitVec.toNat) wa (na + 1) rf kn H' ∧ zFr x aw an H H'))) (fun E H' => E = zIO ∧ ¬ (0 ≤ c ∧ c ≤ 7) ∧ zGr H H') :=
  zCt.ofV [(0, .ref x), (1, .int c), (2, .int a)] hw.1 (by decide +kernel) (Nat.le_of_ble_eq_true rfl) rfl fun g cx hq _ => zwp_sound (tk_X1_putNarrow cx hq) [] 80 (by
    have ox9 := hI.choose_spec.choose_spec.2.1
    obtain ⟨n, hn, rfl⟩ := wb_of32 a
    have hz : (nI n).toBitVec.toNat = n := by rw [zi_tb, BitVec.toNat_ofNat, Nat.mod_eq_of_lt hn]
    rw [hz] at *
    refine zcall.mk (ct_X1_mustBeCell w hw.1 c H) (by decide) (by decide) (by decide) ?_ (fun E H' h _ => h)
    rintro _ _ ⟨rfl, rfl, hc⟩ _
    refine zcall.pure (c4_isSpoiled_2 hw hn _) (by decide) ⟨fun h => ?_, fun h => ?_⟩
    · have hs := zite h
      have ho := zokS2 hn hs
      refine ⟨by decide, zni2f ho, zcall.ret (c2_valueOf hw _) (by decide) (by decide) (by decide) ?_⟩
      rintro _ H1 ⟨rfl, p1, o1⟩ _
      exact ⟨⟨_, p1.gr.ob ox9⟩, zput2 hw (hI.gr p1.gr) c o1 ho (by decide) (by decide) (by decide) (fun j H' g1 g2 g3 g4 => ⟨hc, Or.inr ⟨by rw [hz]; exact hs, j, g1, g2, by rw [hz], by rw [hz]; exact g3, p1.gr.fr.trans g4⟩⟩) (fun E H' g1 g2 g3 => absurd hc g2)⟩
    · exact ⟨⟨_, ox9⟩, zcall.ret (c4_refused hw hI) (by decide) (by decide) (by decide) (by rintro _ H1 ⟨rfl, h1, h2⟩ _; exact ⟨hc, Or.inl ⟨by rw [hz]; exact zitb h, rfl, h1, h2⟩⟩)⟩)
