/-! products with a quarter, sums of quarters -/
theorem zsgn_mul (s : Bool) (a k : Nat) : FP.Core.signed s (a * k) = FP.Core.signed s a * (k : Int) := by
  unfold FP.Core.signed
  cases s
  · simp
  · simp [Int.neg_mul]
theorem zsgn_abs {q : Int} : FP.Core.signed (decide (q < 0)) q.natAbs = q := by
  unfold FP.Core.signed
  by_cases h : q < 0
  · simp only [h, decide_true, if_true]; omega
  · simp only [h, decide_false, Bool.false_eq_true, if_false]; omega
theorem zprod {K fr one one2 : Nat} {F : FP.Core.Fmt} (hF : zFm F K fr one (-2)) (hG : zFm F K fr one2 0) {i : Int} {C : Nat} (hi : i.natAbs < 2 ^ (fr + 1)) (hC : FP.Core.decode F C = .fin false (2 ^ fr) (-(fr : Int) - 2)) :
    FP.Core.mul F (FP.Core.fromInt F i) C = zmade K fr one i := by
  have hdec0 : FP.Core.decode F 0 = .fin false 0 F.qmin := by
    obtain ⟨f1, f2, f3, f4, f5, f6, f7, f8, f9⟩ := hF
    have hz := (zdecode (f := F) (n := 0) (by rw [Nat.mul_assoc, f3]; have := Nat.two_pow_pos K; omega) (by omega) (by rw [f2]; exact Nat.two_pow_pos _)).1 (by rw [Nat.zero_mod]; exact Nat.mul_pos (by omega) (by rw [f2]; exact Nat.two_pow_pos _))
    rw [hz, f3]
    have hK := Nat.two_pow_pos K
    rw [Nat.zero_mod]
    unfold zC zE
    simp
  unfold FP.Core.mul
  rw [hC]
  by_cases h0 : i = 0
  · subst h0
    have e1 : FP.Core.fromInt F 0 = 0 := by
      show FP.Core.encode F (FP.Core.round F (.fin (decide ((0 : Int) < 0)) 0 0)) = 0
      rw [zround_zero hG]; rfl
    rw [e1, hdec0]
    show FP.Core.encode F (FP.Core.round F (.fin _ (0 * 2 ^ fr) _)) = _
    rw [Nat.zero_mul, zround_zero hF]
    rfl
  · have hL := zlog_le h0 hi
    have e1 : FP.Core.fromInt F i = zmade K fr one2 i := by
      have h9 := zround_made hG h0 hL (j := 0) (e := 0) rfl
      rw [Nat.pow_zero, Nat.mul_one] at h9
      exact h9
    rw [e1, (zmade_dec hG h0 hL).1]
    have h9 := zround_made hF h0 hL (j := fr - i.natAbs.log2 + fr) (e := (i.natAbs.log2 : Int) - fr + 0 + (-(fr : Int) - 2)) (by omega)
    rw [Nat.pow_add, ← Nat.mul_assoc] at h9
    rw [← h9]
    show FP.Core.encode F (FP.Core.round F (.fin (decide (i < 0) != false) _ _)) = _
    rw [Bool.bne_false]
theorem zdec_z {K fr one : Nat} {F : FP.Core.Fmt} {x : Int} (hF : zFm F K fr one x) {n : Nat} (h : n = 0 ∨ n = 2 ^ K) : FP.Core.decode F n = .fin (decide (n = 2 ^ K)) 0 F.qmin := by
  obtain ⟨f1, f2, f3, f4, f5, f6, f7, f8, f9⟩ := hF
  have hK := Nat.two_pow_pos K
  have hmod : n % 2 ^ K = 0 := by rcases h with e | e <;> subst e <;> simp
  have hz := (zdecode (f := F) (n := n) (by rw [Nat.mul_assoc, f3]; rcases h with e | e <;> omega) (by omega) (by rw [f2]; exact Nat.two_pow_pos _)).1 (by rw [f3, hmod]; exact Nat.mul_pos (by omega) (by rw [f2]; exact Nat.two_pow_pos _))
  rw [hz, f3, hmod]
  have hd : decide (2 ^ K ≤ n) = decide (n = 2 ^ K) := by
    rcases h with e | e
    · subst e; simp only [decide_eq_decide]; omega
    · subst e; simp
  rw [hd]
  unfold zC zE
  simp
theorem zdec_inf {K fr one : Nat} {F : FP.Core.Fmt} {x : Int} (hF : zFm F K fr one x) {n : Nat} (hn : n < 2 ^ (K + 1)) (h : n % 2 ^ K = (F.exps - 1) * 2 ^ fr) : FP.Core.decode F n = .inf (decide (2 ^ K ≤ n)) ∧ FP.Core.encode F (.inf (decide (2 ^ K ≤ n))) = n := by
  have hexp := zexpos hF
  obtain ⟨f1, f2, f3, f4, f5, f6, f7, f8, f9⟩ := hF
  have hK := Nat.two_pow_pos K
  rw [Nat.pow_succ] at hn
  have hz := (zdecode (f := F) (n := n) (by rw [Nat.mul_assoc, f3]; omega) (by omega) (by rw [f2]; exact Nat.two_pow_pos _)).2 (by rw [f3, f2]; exact h)
  rw [f3] at hz
  refine ⟨hz, ?_⟩
  have hnm := Nat.div_add_mod n (2 ^ K)
  rw [h] at hnm
  unfold FP.Core.encode FP.Core.assemble
  dsimp only
  rw [f2, Nat.add_zero, Nat.add_mul]
  rw [f2] at f3
  by_cases hh : 2 ^ K ≤ n
  · have hd : n / 2 ^ K = 1 := Nat.div_eq_of_lt_le (by omega) (by omega)
    rw [hd, Nat.mul_one] at hnm
    simp only [hh, decide_true, Bool.toNat_true, Nat.one_mul]
    rw [f3]; exact hnm
  · have hd : n / 2 ^ K = 0 := Nat.div_eq_of_lt (by omega)
    rw [hd, Nat.mul_zero] at hnm
    simp only [hh, decide_false, Bool.toNat_false, Nat.zero_mul]
    exact hnm
/-- a number of so many quarters, in units -/
theorem zunits {K fr one most n : Nat} {F : FP.Core.Fmt} (hF : zFm F K fr one (-2)) (hm : most < 2 ^ (fr + 1)) (hn : n < 2 ^ (K + 1)) {p : Int} (h : zcnt K fr one most n = some p) :
    ∃ (s : Bool) (c : Nat) (q : Int), FP.Core.decode F n = .fin s c q ∧ q ≤ -2 ∧ (∀ e : Int, e ≤ q → FP.Core.signed s (FP.Core.inUnits c q e) = p * ((2 ^ (-2 - e).toNat : Nat) : Int)) ∧ (p = 0 → s = decide (n = 2 ^ K)) ∧ (p ≠ 0 → s = decide (p < 0)) := by
  rcases zcnt_some hF hm hn h with ⟨rfl, hz⟩ | ⟨h0, hle, hz⟩
  · refine ⟨_, _, _, zdec_z hF hz, ?_, fun e he => ?_, fun _ => rfl, fun q => absurd rfl q⟩
    · obtain ⟨f1, f2, f3, f4, f5, f6, f7, f8, f9⟩ := hF; omega
    · unfold FP.Core.inUnits FP.Core.signed
      simp
  · have hL := zlog_le (fr := fr) h0 (by omega)
    subst hz
    refine ⟨_, _, _, (zmade_dec hF h0 hL).1, by omega, fun e he => ?_, fun q => absurd q h0, fun _ => rfl⟩
    unfold FP.Core.inUnits
    rw [Nat.mul_assoc, ← Nat.pow_add, zsgn_mul, zsgn_abs, show fr - p.natAbs.log2 + ((p.natAbs.log2 : Int) - fr + -2 - e).toNat = (-2 - e).toNat by omega]
theorem zadd_q {K fr one most a b : Nat} {F : FP.Core.Fmt} (hF : zFm F K fr one (-2)) (hm : most < 2 ^ (fr + 1)) (ha : a < 2 ^ (K + 1)) (hb : b < 2 ^ (K + 1)) {p q : Int} (h1 : zcnt K fr one most a = some p) (h2 : zcnt K fr one most b = some q) (hpq : (p + q).natAbs ≤ most) :
    FP.Core.add F a b = if a = 2 ^ K ∧ b = 2 ^ K then 2 ^ K else zmade K fr one (p + q) := by
  obtain ⟨s, c, u, d1, l1, v1, s1, s1'⟩ := zunits hF hm ha h1
  obtain ⟨t, d, r, d2, l2, v2, s2, s2'⟩ := zunits hF hm hb h2
  unfold FP.Core.add
  rw [d1, d2]
  show FP.Core.encode F (FP.Core.round F (.fin (FP.Core.sumSign s t (FP.Core.sumUnits s c u t d r (min u r))) (FP.Core.sumUnits s c u t d r (min u r)).natAbs (min u r))) = _
  have hsum : FP.Core.sumUnits s c u t d r (min u r) = (p + q) * ((2 ^ (-2 - min u r).toNat : Nat) : Int) := by
    unfold FP.Core.sumUnits
    rw [v1 _ (by omega), v2 _ (by omega), Int.add_mul]
  rw [hsum]
  have hpow := Nat.two_pow_pos (-2 - min u r).toNat
  by_cases h0 : p + q = 0
  · rw [h0, Int.zero_mul]
    show FP.Core.encode F (FP.Core.round F (.fin (FP.Core.sumSign s t 0) 0 _)) = _
    rw [zround_zero hF]
    unfold FP.Core.sumSign
    rw [if_pos rfl]
    by_cases hp : p = 0
    · have hq : q = 0 := by omega
      rw [s1 hp, s2 hq, zmade0]
      by_cases ea : a = 2 ^ K <;> by_cases eb : b = 2 ^ K <;> simp [ea, eb]
    · have hq : ¬ q = 0 := by omega
      rw [s1' hp, s2' hq, zmade0]
      have ea : ¬ (a = 2 ^ K ∧ b = 2 ^ K) := by
        rintro ⟨e1, -⟩
        have hp0 : zcnt K fr one most a = some 0 := by unfold zcnt; rw [e1, Nat.mod_self, if_pos rfl]
        exact hp (Option.some.inj (h1.symm.trans hp0))
      rw [if_neg ea]
      by_cases hp9 : p < 0
      · have : ¬ q < 0 := by omega
        simp [this]
      · simp [hp9]
  · have hne : (p + q) * ((2 ^ (-2 - min u r).toNat : Nat) : Int) ≠ 0 := Int.mul_ne_zero h0 (by omega)
    have ea : ¬ (a = 2 ^ K ∧ b = 2 ^ K) := by
      rintro ⟨e1, e2⟩
      have hp0 : zcnt K fr one most a = some 0 := by unfold zcnt; rw [e1, Nat.mod_self, if_pos rfl]
      have hq0 : zcnt K fr one most b = some 0 := by unfold zcnt; rw [e2, Nat.mod_self, if_pos rfl]
      have e3 := Option.some.inj (h1.symm.trans hp0)
      have e4 := Option.some.inj (h2.symm.trans hq0)
      omega
    rw [if_neg ea]
    unfold FP.Core.sumSign
    rw [if_neg hne, Int.natAbs_mul, Int.natAbs_natCast]
    have hsg : decide ((p + q) * ((2 ^ (-2 - min u r).toNat : Nat) : Int) < 0) = decide (p + q < 0) := by
      rw [decide_eq_decide]
      constructor
      · intro hh
        exact Int.not_le.mp fun hz => absurd hh (Int.not_lt.mpr (Int.mul_nonneg hz (by omega)))
      · intro hh
        exact Int.mul_neg_of_neg_of_pos hh (by omega)
    rw [hsg]
    exact zround_made hF h0 (zlog_le h0 (by omega)) (by omega)
theorem zadd_inf {K fr one a b : Nat} {F : FP.Core.Fmt} {x : Int} (hF : zFm F K fr one x) (ha : a < 2 ^ (K + 1)) (hi : a % 2 ^ K = (F.exps - 1) * 2 ^ fr) (h : (∃ s c q, FP.Core.decode F b = .fin s c q) ∨ b = a) : FP.Core.add F a b = a := by
  obtain ⟨d1, e1⟩ := zdec_inf hF ha hi
  unfold FP.Core.add
  rcases h with ⟨s, c, q, d2⟩ | rfl
  · rw [d1, d2]; exact e1
  · rw [d1]
    show FP.Core.encode F (FP.Core.round F (if decide (2 ^ K ≤ b) = decide (2 ^ K ≤ b) then .inf (decide (2 ^ K ≤ b)) else .nan)) = _
    rw [if_pos rfl]; exact e1
theorem zadd_inf2 {K fr one a b : Nat} {F : FP.Core.Fmt} {x : Int} (hF : zFm F K fr one x) (hb : b < 2 ^ (K + 1)) (hi : b % 2 ^ K = (F.exps - 1) * 2 ^ fr) (h : ∃ s c q, FP.Core.decode F a = .fin s c q) : FP.Core.add F a b = b := by
  obtain ⟨d1, e1⟩ := zdec_inf hF hb hi
  obtain ⟨s, c, q, d2⟩ := h
  unfold FP.Core.add
  rw [d1, d2]; exact e1
