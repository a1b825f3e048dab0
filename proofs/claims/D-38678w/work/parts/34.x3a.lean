/-! contracts: a row of the reference, its leaves -/
def zKd (K e fr one most inf : Nat) : Prop := (K = 63 ∧ e = 11 ∧ fr = 52 ∧ one = 1073 ∧ most = 1000000000 ∧ inf = 9218868437227405312) ∨ (K = 31 ∧ e = 8 ∧ fr = 23 ∧ one = 148 ∧ most = 16000000 ∧ inf = 2139095040)
theorem zKd63 : zKd 63 11 52 1073 1000000000 9218868437227405312 := Or.inl ⟨rfl, rfl, rfl, rfl, rfl, rfl⟩
theorem zKd31 : zKd 31 8 23 148 16000000 2139095040 := Or.inr ⟨rfl, rfl, rfl, rfl, rfl, rfl⟩
/-- a row's object -/
abbrev zRO (w : zG) (r c e fr most : Nat) (ac : Int32) (H : Heap) : Prop := zOb w r 4 [.int (nI e), .int (nI fr), .long (lN most), .ref c, .int ac] H
theorem zk_sign {K e fr one most inf : Nat} (hk : zKd K e fr one most inf) : (1 : Int64) <<< ((nI e + nI fr).toInt64 &&& 63) = lN (2 ^ K) := by
  rcases hk with ⟨rfl, rfl, rfl, rfl, rfl, rfl⟩ | ⟨rfl, rfl, rfl, rfl, rfl, rfl⟩ <;> decide +kernel
theorem zk_end {K e fr one most inf : Nat} (hk : zKd K e fr one most inf) : ((1 : Int64) <<< ((nI e).toInt64 &&& 63) - 1) <<< ((nI fr).toInt64 &&& 63) = lN inf := by
  rcases hk with ⟨rfl, rfl, rfl, rfl, rfl, rfl⟩ | ⟨rfl, rfl, rfl, rfl, rfl, rfl⟩ <;> decide +kernel
theorem zk_fr {K e fr one most inf : Nat} (hk : zKd K e fr one most inf) : (1 : Int64) <<< ((nI fr).toInt64 &&& 63) = lN (2 ^ fr) := by
  rcases hk with ⟨rfl, rfl, rfl, rfl, rfl, rfl⟩ | ⟨rfl, rfl, rfl, rfl, rfl, rfl⟩ <;> decide +kernel
theorem zk_frm {K e fr one most inf : Nat} (hk : zKd K e fr one most inf) : lN (2 ^ fr) - 1 = lN (2 ^ fr - 1) := by
  rcases hk with ⟨rfl, rfl, rfl, rfl, rfl, rfl⟩ | ⟨rfl, rfl, rfl, rfl, rfl, rfl⟩ <;> decide +kernel
theorem zm31 : ∀ i, i < 64 → Nat.testBit 18446744071562067967 i = decide (i ≠ 31) := by decide +kernel
theorem zk_size {K e fr one most inf n : Nat} (hk : zKd K e fr one most inf) (hn : n < 2 ^ (K + 1)) : lN n &&& (lN (2 ^ K) ^^^ (-1)) = lN (n % 2 ^ K) := by
  rcases hk with ⟨rfl, rfl, rfl, rfl, rfl, rfl⟩ | ⟨rfl, rfl, rfl, rfl, rfl, rfl⟩
  · rw [show lN (2 ^ 63) ^^^ (-1) = 9223372036854775807 from by decide +kernel]
    exact zl63 hn
  · rw [show lN (2 ^ 31) ^^^ (-1) = lN 18446744071562067967 from by decide +kernel, wb_and (by omega) (by decide)]
    apply congrArg
    apply Nat.eq_of_testBit_eq
    intro i
    rw [Nat.testBit_and, Nat.testBit_mod_two_pow]
    rcases Nat.lt_or_ge i 32 with h | h
    · rw [zm31 i (by omega)]
      by_cases e : i = 31
      · subst e; simp
      · rw [decide_eq_true e, decide_eq_true (by omega : i < 31), Bool.and_true, Bool.true_and]
    · have : n.testBit i = false := Nat.testBit_lt_two_pow (Nat.lt_of_lt_of_le hn (Nat.pow_le_pow_right (by decide) h))
      rw [this, Bool.false_and, Bool.and_false]
theorem zk_neg {K e fr one most inf n : Nat} (hk : zKd K e fr one most inf) (hn : n < 2 ^ (K + 1)) : lN n &&& lN (2 ^ K) = 0 ↔ ¬ 2 ^ K ≤ n := by
  have hn64 : n < 2 ^ 64 := by rcases hk with ⟨rfl, -⟩ | ⟨rfl, -⟩ <;> omega
  have hK64 : 2 ^ K < 2 ^ 64 := by rcases hk with ⟨rfl, -⟩ | ⟨rfl, -⟩ <;> decide
  have hp := Nat.two_pow_pos K
  rw [wb_and hn64 hK64]
  have ht : n.testBit K = decide (2 ^ K ≤ n) := by
    rw [Nat.testBit_eq_decide_div_mod_eq]
    by_cases h : 2 ^ K ≤ n
    · have : n / 2 ^ K = 1 := Nat.div_eq_of_lt_le (by omega) (by rw [Nat.pow_succ] at hn; omega)
      rw [this, decide_eq_true h]; rfl
    · rw [Nat.div_eq_of_lt (by omega), decide_eq_false h]; rfl
  have e : n &&& 2 ^ K = if 2 ^ K ≤ n then 2 ^ K else 0 := by
    apply Nat.eq_of_testBit_eq
    intro i
    rw [Nat.testBit_and, Nat.testBit_two_pow]
    by_cases hi : K = i
    · subst hi
      rw [ht]
      by_cases h : 2 ^ K ≤ n
      · rw [if_pos h, decide_eq_true h, Nat.testBit_two_pow, decide_eq_true rfl]; rfl
      · rw [if_neg h, decide_eq_false h, Nat.zero_testBit]; rfl
    · rw [decide_eq_false hi, Bool.and_false]
      by_cases h : 2 ^ K ≤ n
      · rw [if_pos h, Nat.testBit_two_pow, decide_eq_false hi]
      · rw [if_neg h, Nat.zero_testBit]
  rw [e]
  by_cases h : 2 ^ K ≤ n
  · rw [if_pos h]
    refine ⟨fun e => ?_, fun e => absurd h e⟩
    have e3 := congrArg (fun z => (Int64.toBitVec z).toNat) e
    have e4 : (lN (2 ^ K)).toBitVec.toNat = (0 : Int64).toBitVec.toNat := e3
    rw [wb_tn hK64, show (0 : Int64).toBitVec.toNat = 0 from rfl] at e4
    omega
  · rw [if_neg h]
    exact ⟨fun _ => h, fun _ => rfl⟩
theorem c5_sign {w : zG} (hw : zWf w) {r c K e fr one most inf : Nat} (hk : zKd K e fr one most inf) {ac : Int32} {H : Heap} (ho : zRO w r c e fr most ac H) : zCt w yX3_sign wc_X3_sign 0 0 0 [.ref r] H (zPure (some (.long (lN (2 ^ K)))) H) zNoX :=
  zCt.ofV [(0, .ref r)] hw.1 (by decide +kernel) (Nat.le_of_ble_eq_true rfl) rfl fun g cx hq _ => zwp_sound (tk_X3_sign cx hq) [] 40 ⟨_, ho, _, ho, by rw [zk_sign hk], rfl⟩
theorem c5_endless {w : zG} (hw : zWf w) {r c K e fr one most inf : Nat} (hk : zKd K e fr one most inf) {ac : Int32} {H : Heap} (ho : zRO w r c e fr most ac H) : zCt w yX3_endless wc_X3_endless 0 0 0 [.ref r] H (zPure (some (.long (lN inf))) H) zNoX :=
  zCt.ofV [(0, .ref r)] hw.1 (by decide +kernel) (Nat.le_of_ble_eq_true rfl) rfl fun g cx hq _ => zwp_sound (tk_X3_endless cx hq) [] 40 ⟨_, ho, _, ho, by rw [zk_end hk], rfl⟩
theorem c5_size {w : zG} (hw : zWf w) {r c K e fr one most inf : Nat} (hk : zKd K e fr one most inf) {ac : Int32} {H : Heap} (ho : zRO w r c e fr most ac H) {n : Nat} (hn : n < 2 ^ (K + 1)) : zCt w yX3_size wc_X3_size 1 0 0 [.ref r, .long (lN n)] H (zPure (some (.long (lN (n % 2 ^ K)))) H) zNoX :=
  zCt.ofV [(0, .ref r), (1, .long (lN n))] hw.1 (by decide +kernel) (Nat.le_of_ble_eq_true rfl) rfl fun g cx hq _ => zwp_sound (tk_X3_size cx hq) [] 40 ⟨⟨_, ho⟩, zcall.pure (c5_sign hw hk ho) (by decide) ⟨by rw [zk_size hk hn], rfl⟩⟩
theorem c5_isBelowZero {w : zG} (hw : zWf w) {r c K e fr one most inf : Nat} (hk : zKd K e fr one most inf) {ac : Int32} {H : Heap} (ho : zRO w r c e fr most ac H) {n : Nat} (hn : n < 2 ^ (K + 1)) : zCt w yX3_isBelowZero wc_X3_isBelowZero 1 0 0 [.ref r, .long (lN n)] H (zPure (some (.int (if 2 ^ K ≤ n then 1 else 0))) H) zNoX :=
  zCt.ofV [(0, .ref r), (1, .long (lN n))] hw.1 (by decide +kernel) (Nat.le_of_ble_eq_true rfl) rfl fun g cx hq _ => zwp_sound (tk_X3_isBelowZero cx hq) [] 40 (by
    have key : lg_cmp (lN n &&& lN (2 ^ K)) 0 = 0 ↔ ¬ 2 ^ K ≤ n := by
      rw [← zk_neg hk hn, zlg, zcmp_eq]
      exact Int64.toInt_inj
    refine ⟨⟨_, ho⟩, zcall.pure (c5_sign hw hk ho) (by decide) ⟨fun h => ?_, fun h => ?_⟩⟩
    · exact ⟨zb1, by rw [if_neg (key.mp h)], rfl⟩
    · exact ⟨zb2, by rw [if_pos (Classical.byContradiction fun q => h (key.mpr q))], rfl⟩)
theorem c5_exponent {w : zG} (hw : zWf w) {r c K e fr one most inf : Nat} (hk : zKd K e fr one most inf) {ac : Int32} {H : Heap} (ho : zRO w r c e fr most ac H) {n : Nat} (hn : n < 2 ^ (K + 1)) : zCt w yX3_exponent wc_X3_exponent 2 0 0 [.ref r, .long (lN n)] H (zPure (some (.long (lN (n % 2 ^ K / 2 ^ fr)))) H) zNoX :=
  zCt.ofV [(0, .ref r), (1, .long (lN n))] hw.1 (by decide +kernel) (Nat.le_of_ble_eq_true rfl) rfl fun g cx hq _ => zwp_sound (tk_X3_exponent cx hq) [] 40 (by
    refine ⟨⟨_, ho⟩, zcall.pure (c5_size hw hk ho hn) (by decide) ⟨_, ho, ?_, rfl⟩⟩
    have h1 : n % 2 ^ K < 2 ^ 63 := Nat.lt_of_lt_of_le (Nat.mod_lt _ (Nat.two_pow_pos K)) (Nat.pow_le_pow_right (by decide) (by rcases hk with ⟨rfl, -⟩ | ⟨rfl, -⟩ <;> decide))
    have h2 : fr < 64 := by rcases hk with ⟨-, -, rfl, -⟩ | ⟨-, -, rfl, -⟩ <;> decide
    rw [zlshr h1 h2])
theorem c5_fraction {w : zG} (hw : zWf w) {r c K e fr one most inf : Nat} (hk : zKd K e fr one most inf) {ac : Int32} {H : Heap} (ho : zRO w r c e fr most ac H) {n : Nat} (hn : n < 2 ^ (K + 1)) : zCt w yX3_fraction wc_X3_fraction 0 0 0 [.ref r, .long (lN n)] H (zPure (some (.long (lN (n % 2 ^ fr)))) H) zNoX :=
  zCt.ofV [(0, .ref r), (1, .long (lN n))] hw.1 (by decide +kernel) (Nat.le_of_ble_eq_true rfl) rfl fun g cx hq _ => zwp_sound (tk_X3_fraction cx hq) [] 40 (by
    refine ⟨_, ho, ?_, rfl⟩
    have hn64 : n < 2 ^ 64 := by rcases hk with ⟨rfl, -⟩ | ⟨rfl, -⟩ <;> omega
    have h2 : fr < 64 := by rcases hk with ⟨-, -, rfl, -⟩ | ⟨-, -, rfl, -⟩ <;> decide
    rw [zk_fr hk, zk_frm hk, wb_mask hn64 h2])
theorem zk_m63 {K e fr one most inf : Nat} (hk : zKd K e fr one most inf) {n : Nat} : n % 2 ^ K < 2 ^ 63 := Nat.lt_of_lt_of_le (Nat.mod_lt _ (Nat.two_pow_pos K)) (Nat.pow_le_pow_right (by decide) (by rcases hk with ⟨rfl, -⟩ | ⟨rfl, -⟩ <;> decide))
theorem zk_i63 {K e fr one most inf : Nat} (hk : zKd K e fr one most inf) : inf < 2 ^ 63 := by rcases hk with ⟨rfl, rfl, rfl, rfl, rfl, rfl⟩ | ⟨rfl, rfl, rfl, rfl, rfl, rfl⟩ <;> decide
theorem c5_isEndless {w : zG} (hw : zWf w) {r c K e fr one most inf : Nat} (hk : zKd K e fr one most inf) {ac : Int32} {H : Heap} (ho : zRO w r c e fr most ac H) {n : Nat} (hn : n < 2 ^ (K + 1)) : zCt w yX3_isEndless wc_X3_isEndless 2 0 0 [.ref r, .long (lN n)] H (zPure (some (.int (if n % 2 ^ K = inf then 1 else 0))) H) zNoX :=
  zCt.ofV [(0, .ref r), (1, .long (lN n))] hw.1 (by decide +kernel) (Nat.le_of_ble_eq_true rfl) rfl fun g cx hq _ => zwp_sound (tk_X3_isEndless cx hq) [] 40 (by
    have key : lg_cmp (lN (n % 2 ^ K)) (lN inf) = 0 ↔ n % 2 ^ K = inf := by
      rw [zlg, zcmp_eq, pk_lT (zk_m63 hk), pk_lT (zk_i63 hk)]; omega
    refine ⟨⟨_, ho⟩, zcall.pure (c5_size hw hk ho hn) (by decide) ⟨⟨_, ho⟩, zcall.pure (c5_endless hw hk ho) (by decide) ⟨fun h => ?_, fun h => ?_⟩⟩⟩
    · exact ⟨zb1, by rw [if_neg (fun q => h (key.mpr q))], rfl⟩
    · exact ⟨zb2, by rw [if_pos (key.mp h)], rfl⟩)
theorem c5_isSpoiled {w : zG} (hw : zWf w) {r c K e fr one most inf : Nat} (hk : zKd K e fr one most inf) {ac : Int32} {H : Heap} (ho : zRO w r c e fr most ac H) {n : Nat} (hn : n < 2 ^ (K + 1)) : zCt w yX3_isSpoiled wc_X3_isSpoiled 2 0 0 [.ref r, .long (lN n)] H (zPure (some (.int (if inf < n % 2 ^ K then 1 else 0))) H) zNoX :=
  zCt.ofV [(0, .ref r), (1, .long (lN n))] hw.1 (by decide +kernel) (Nat.le_of_ble_eq_true rfl) rfl fun g cx hq _ => zwp_sound (tk_X3_isSpoiled cx hq) [] 40 (by
    have key : lg_cmp (lN (n % 2 ^ K)) (lN inf) ≤ 0 ↔ ¬ inf < n % 2 ^ K := by
      rw [zlg, zcmp_le, pk_lT (zk_m63 hk), pk_lT (zk_i63 hk)]; omega
    refine ⟨⟨_, ho⟩, zcall.pure (c5_size hw hk ho hn) (by decide) ⟨⟨_, ho⟩, zcall.pure (c5_endless hw hk ho) (by decide) ⟨fun h => ?_, fun h => ?_⟩⟩⟩
    · exact ⟨zb1, by rw [if_neg (key.mp h)], rfl⟩
    · exact ⟨zb2, by rw [if_pos (Classical.byContradiction fun q => h (key.mpr q))], rfl⟩)
theorem c5_rank {w : zG} (hw : zWf w) {r c K e fr one most inf : Nat} (hk : zKd K e fr one most inf) {ac : Int32} {H : Heap} (ho : zRO w r c e fr most ac H) {n : Nat} (hn : n < 2 ^ (K + 1)) : zCt w yX3_rank wc_X3_rank 2 0 0 [.ref r, .long (lN n)] H (zPure (some (.long (Int64.ofInt (zrnk K n)))) H) zNoX :=
  zCt.ofV [(0, .ref r), (1, .long (lN n))] hw.1 (by decide +kernel) (Nat.le_of_ble_eq_true rfl) rfl fun g cx hq _ => zwp_sound (tk_X3_rank cx hq) [] 40 (by
    have hm := zk_m63 hk (n := n)
    have hT := pk_lT hm
    have h1 : (-1 : Int64).toInt = -1 := by decide
    refine ⟨⟨_, ho⟩, zcall.pure (c5_isBelowZero hw hk ho hn) (by decide) ⟨fun h => ⟨⟨_, ho⟩, zcall.pure (c5_size hw hk ho hn) (by decide) ⟨?_, rfl⟩⟩, fun h => ⟨⟨_, ho⟩, zcall.pure (c5_size hw hk ho hn) (by decide) ⟨?_, rfl⟩⟩⟩⟩
    · unfold zrnk; rw [if_neg (zite h), ← z64e hT]
    · unfold zrnk; rw [if_pos (zitb h), z64e (i := -1 - ((n % 2 ^ K : Nat) : Int)) (x := -1 - lN (n % 2 ^ K)) (by rw [zlsub (by omega) (by omega), hT, h1])])
theorem c5_value {w : zG} (hw : zWf w) {r c K e fr one most inf : Nat} (hk : zKd K e fr one most inf) {ac : Int32} {H : Heap} (ho : zRO w r c e fr most ac H) {n : Nat} (hn : n < 2 ^ (K + 1)) : zCt w yX3_value wc_X3_value 2 0 0 [.ref r, .long (lN n)] H (zPure (some (.long (Int64.ofInt (zkey K n)))) H) zNoX :=
  zCt.ofV [(0, .ref r), (1, .long (lN n))] hw.1 (by decide +kernel) (Nat.le_of_ble_eq_true rfl) rfl fun g cx hq _ => zwp_sound (tk_X3_value cx hq) [] 40 (by
    have hm := zk_m63 hk (n := n)
    have hT := pk_lT hm
    refine ⟨⟨_, ho⟩, zcall.pure (c5_isBelowZero hw hk ho hn) (by decide) ⟨fun h => ⟨⟨_, ho⟩, zcall.pure (c5_size hw hk ho hn) (by decide) ⟨?_, rfl⟩⟩, fun h => ⟨⟨_, ho⟩, zcall.pure (c5_size hw hk ho hn) (by decide) ⟨?_, rfl⟩⟩⟩⟩
    · unfold zkey; rw [if_neg (zite h), ← z64e hT]
    · unfold zkey; rw [if_pos (zitb h), z64e (i := -((n % 2 ^ K : Nat) : Int)) (x := -lN (n % 2 ^ K)) (by rw [zlneg (by omega), hT])])
theorem zk_rb {K e fr one most inf : Nat} (hk : zKd K e fr one most inf) {n : Nat} : -9223372036854775808 ≤ zrnk K n ∧ zrnk K n < 9223372036854775808 ∧ -9223372036854775808 < zkey K n ∧ zkey K n < 9223372036854775808 := by
  have hm := zk_m63 hk (n := n)
  unfold zrnk zkey
  split <;> omega
theorem c5_order {w : zG} (hw : zWf w) {r c K e fr one most inf : Nat} (hk : zKd K e fr one most inf) {ac : Int32} {H : Heap} (ho : zRO w r c e fr most ac H) {a b : Nat} (ha : a < 2 ^ (K + 1)) (hb : b < 2 ^ (K + 1)) : zCt w yX3_order wc_X3_order 3 0 0 [.ref r, .long (lN a), .long (lN b)] H (zPure (some (.int (zcmp (zrnk K a) (zrnk K b)))) H) zNoX :=
  zCt.ofV [(0, .ref r), (1, .long (lN a)), (3, .long (lN b))] hw.1 (by decide +kernel) (Nat.le_of_ble_eq_true rfl) rfl fun g cx hq _ => zwp_sound (tk_X3_order cx hq) [] 40 (by
    have h1 := zk_rb hk (n := a)
    have h2 := zk_rb hk (n := b)
    have key : lg_cmp (Int64.ofInt (zrnk K a)) (Int64.ofInt (zrnk K b)) = zcmp (zrnk K a) (zrnk K b) := by rw [zlg, zlofI h1.1 h1.2.1, zlofI h2.1 h2.2.1]
    refine ⟨⟨_, ho⟩, zcall.pure (c5_rank hw hk ho ha) (by decide) ⟨⟨_, ho⟩, zcall.pure (c5_rank hw hk ho hb) (by decide) ⟨fun h => ⟨⟨_, ho⟩, zcall.pure (c5_rank hw hk ho ha) (by decide) ⟨⟨_, ho⟩, zcall.pure (c5_rank hw hk ho hb) (by decide) ⟨fun h2 => ?_, fun h2 => ?_⟩⟩⟩, fun h => ?_⟩⟩⟩
    · rw [key, zcmp_ge] at h
      rw [key, zcmp_le] at h2
      exact ⟨by rw [zcmp_eq.mpr (by omega)], rfl⟩
    · rw [key, zcmp_le] at h2
      exact ⟨by unfold zcmp; rw [if_neg (by omega), if_neg (by omega)], rfl⟩
    · rw [key, zcmp_ge] at h
      exact ⟨by unfold zcmp; rw [if_pos (by omega)], rfl⟩)
