/-! quarters: how many a number is, which number so many are; sums and products that are exact -/
theorem zlog2 {c j : Nat} (h : 0 < c) : (c * 2 ^ j).log2 = c.log2 + j := by
  have hj := Nat.two_pow_pos j
  have h0 : c * 2 ^ j ≠ 0 := Nat.mul_ne_zero (by omega) (by omega)
  have e1 : 2 ^ c.log2 ≤ c := (Nat.le_log2 (by omega)).mp (Nat.le_refl _)
  have e2 : c < 2 ^ (c.log2 + 1) := (Nat.log2_lt (by omega)).mp (Nat.lt_succ_self _)
  apply Nat.le_antisymm
  · apply Nat.le_of_lt_succ
    rw [Nat.log2_lt h0]
    show c * 2 ^ j < 2 ^ (c.log2 + j + 1)
    rw [show c.log2 + j + 1 = (c.log2 + 1) + j by omega, Nat.pow_add]
    exact Nat.mul_lt_mul_of_pos_right e2 hj
  · rw [Nat.le_log2 h0, Nat.pow_add]
    exact Nat.mul_le_mul_right _ e1
theorem znearest {M B : Nat} (hB : 0 < B) : FP.Core.nearest (M * B) B = M := by
  unfold FP.Core.nearest
  rw [Nat.mul_mod_left, Nat.mul_div_cancel _ hB, if_pos (by omega)]
theorem zround {F : FP.Core.Fmt} {fr : Nat} (hp : F.p = fr + 1) {s : Bool} {c0 j : Nat} {e q : Int} (h0 : 0 < c0) (hL : c0.log2 ≤ fr) (hq : q = (c0.log2 : Int) + j + e - fr) (h1 : F.qmin ≤ q) (h2 : q ≤ F.qmax) :
    FP.Core.round F (.fin s (c0 * 2 ^ j) e) = .fin s (c0 * 2 ^ (fr - c0.log2)) q := by
  have hj := Nat.two_pow_pos j
  have hn0 : c0 * 2 ^ j ≠ 0 := Nat.mul_ne_zero (by omega) (by omega)
  have e1 : 2 ^ c0.log2 ≤ c0 := (Nat.le_log2 (by omega)).mp (Nat.le_refl _)
  have e2 : c0 < 2 ^ (c0.log2 + 1) := (Nat.log2_lt (by omega)).mp (Nat.lt_succ_self _)
  have hlead : FP.Core.leading (c0 * 2 ^ j) 1 = (c0.log2 : Int) + j := by
    unfold FP.Core.leading
    dsimp only
    rw [zlog2 h0, show Nat.log2 1 = 0 from by decide]
    have t1 : (((c0.log2 + j : Nat) : Int) - ((0 : Nat) : Int)).toNat = c0.log2 + j := by omega
    have t2 : (-(((c0.log2 + j : Nat) : Int) - ((0 : Nat) : Int))).toNat = 0 := by omega
    rw [t1, t2, if_pos]
    · omega
    · rw [Nat.pow_zero, Nat.mul_one, Nat.one_mul, Nat.pow_add]
      exact Nat.mul_le_mul_right _ e1
  have hquant : FP.Core.quantum F (c0 * 2 ^ j) 1 e = q := by
    unfold FP.Core.quantum
    rw [hlead, hp]
    omega
  show FP.Core.roundRatio F s (c0 * 2 ^ j) 1 e = _
  unfold FP.Core.roundRatio
  rw [if_neg hn0, hquant]
  unfold FP.Core.roundAt
  have hnear : FP.Core.nearest (FP.Core.unitsNum (c0 * 2 ^ j) e q) (FP.Core.unitsDen 1 e q) = c0 * 2 ^ (fr - c0.log2) := by
    unfold FP.Core.unitsNum FP.Core.unitsDen
    by_cases hh : j ≤ fr - c0.log2
    · rw [show (e - q).toNat = fr - c0.log2 - j by omega, show (q - e).toNat = 0 by omega, Nat.pow_zero, Nat.mul_one, Nat.mul_assoc, ← Nat.pow_add, show j + (fr - c0.log2 - j) = fr - c0.log2 by omega]
      have := znearest (M := c0 * 2 ^ (fr - c0.log2)) (B := 1) (by decide)
      rw [Nat.mul_one] at this
      exact this
    · rw [show (e - q).toNat = 0 by omega, show (q - e).toNat = j - (fr - c0.log2) by omega, Nat.pow_zero, Nat.mul_one, Nat.one_mul]
      have hs : c0 * 2 ^ j = c0 * 2 ^ (fr - c0.log2) * 2 ^ (j - (fr - c0.log2)) := by rw [Nat.mul_assoc, ← Nat.pow_add]; congr 2; omega
      rw [hs]
      exact znearest (Nat.two_pow_pos _)
  rw [hnear]
  unfold FP.Core.settle
  have hlt : c0 * 2 ^ (fr - c0.log2) < 2 ^ F.p := by
    rw [hp, show fr + 1 = (c0.log2 + 1) + (fr - c0.log2) by omega, Nat.pow_add]
    exact Nat.mul_lt_mul_of_pos_right e2 (Nat.two_pow_pos _)
  rw [if_pos hlt]
  unfold FP.Core.bound
  rw [if_pos h2]
/-- the number of so many quarters -/
def zmade (K fr one : Nat) (q : Int) : Nat := if q = 0 then 0 else (if q < 0 then 2 ^ K else 0) + ((one + q.natAbs.log2 - fr) * 2 ^ fr + (q.natAbs * 2 ^ (fr - q.natAbs.log2) - 2 ^ fr))
/-- how many quarters a number is, if it is some -/
def zcnt (K fr one most n : Nat) : Option Int :=
  if n % 2 ^ K = 0 then some 0
  else if one < n % 2 ^ K / 2 ^ fr ∨ n % 2 ^ K / 2 ^ fr + fr < one then none
  else if ¬ (2 ^ fr + n % 2 ^ K % 2 ^ fr) / 2 ^ (one - n % 2 ^ K / 2 ^ fr) * 2 ^ (one - n % 2 ^ K / 2 ^ fr) = 2 ^ fr + n % 2 ^ K % 2 ^ fr ∨ most < (2 ^ fr + n % 2 ^ K % 2 ^ fr) / 2 ^ (one - n % 2 ^ K / 2 ^ fr) then none
  else some (if 2 ^ K ≤ n then -(((2 ^ fr + n % 2 ^ K % 2 ^ fr) / 2 ^ (one - n % 2 ^ K / 2 ^ fr) : Nat) : Int) else (((2 ^ fr + n % 2 ^ K % 2 ^ fr) / 2 ^ (one - n % 2 ^ K / 2 ^ fr) : Nat) : Int))
/-- what a format must be for these laws -/
def zFm (F : FP.Core.Fmt) (K fr one : Nat) (x : Int) : Prop := F.p = fr + 1 ∧ F.tails = 2 ^ fr ∧ F.exps * F.tails = 2 ^ K ∧ F.qmin + one = x + 1 ∧ fr < one ∧ one + 1 < F.exps - 1 ∧ fr ≤ K ∧ F.qmax = F.qmin + ((F.exps : Int) - 3) ∧ 3 ≤ F.exps
theorem zFm64 : zFm FP.Core.b64 63 52 1073 (-2) := by refine ⟨by decide, by decide, by decide, by decide, by decide, by decide, by decide, by decide, by decide⟩
theorem zFm64i : zFm FP.Core.b64 63 52 1075 0 := by refine ⟨by decide, by decide, by decide, by decide, by decide, by decide, by decide, by decide, by decide⟩
theorem zFm32i : zFm FP.Core.b32 31 23 150 0 := by refine ⟨by decide, by decide, by decide, by decide, by decide, by decide, by decide, by decide, by decide⟩
theorem zFm32 : zFm FP.Core.b32 31 23 148 (-2) := by refine ⟨by decide, by decide, by decide, by decide, by decide, by decide, by decide, by decide, by decide⟩
theorem zmade_parts {K fr one : Nat} {F : FP.Core.Fmt} {x : Int} (hF : zFm F K fr one x) {q : Int} (h0 : q ≠ 0) (hL : q.natAbs.log2 ≤ fr) :
    zmade K fr one q = (if q < 0 then 2 ^ K else 0) + ((one + q.natAbs.log2 - fr) * 2 ^ fr + (q.natAbs * 2 ^ (fr - q.natAbs.log2) - 2 ^ fr)) ∧
    2 ^ fr ≤ q.natAbs * 2 ^ (fr - q.natAbs.log2) ∧ q.natAbs * 2 ^ (fr - q.natAbs.log2) < 2 ^ fr + 2 ^ fr ∧
    (one + q.natAbs.log2 - fr) * 2 ^ fr + (q.natAbs * 2 ^ (fr - q.natAbs.log2) - 2 ^ fr) < 2 ^ K := by
  obtain ⟨f1, f2, f3, f4, f5, f6, f7, f8, f9⟩ := hF
  have hpos : 0 < q.natAbs := by omega
  have e1 : 2 ^ q.natAbs.log2 ≤ q.natAbs := (Nat.le_log2 (by omega)).mp (Nat.le_refl _)
  have e2 : q.natAbs < 2 ^ (q.natAbs.log2 + 1) := (Nat.log2_lt (by omega)).mp (Nat.lt_succ_self _)
  have g1 : 2 ^ fr ≤ q.natAbs * 2 ^ (fr - q.natAbs.log2) := by
    have : 2 ^ fr = 2 ^ q.natAbs.log2 * 2 ^ (fr - q.natAbs.log2) := by rw [← Nat.pow_add]; congr 1; omega
    rw [this]
    exact Nat.mul_le_mul_right _ e1
  have g2 : q.natAbs * 2 ^ (fr - q.natAbs.log2) < 2 ^ fr + 2 ^ fr := by
    have : 2 ^ fr + 2 ^ fr = 2 ^ (q.natAbs.log2 + 1) * 2 ^ (fr - q.natAbs.log2) := by rw [← Nat.pow_add, show q.natAbs.log2 + 1 + (fr - q.natAbs.log2) = fr + 1 by omega, Nat.pow_succ]; omega
    rw [this]
    exact Nat.mul_lt_mul_of_pos_right e2 (Nat.two_pow_pos _)
  refine ⟨by unfold zmade; rw [if_neg h0], g1, g2, ?_⟩
  have h3 : (one + q.natAbs.log2 - fr + 1) * 2 ^ fr ≤ F.exps * 2 ^ fr := Nat.mul_le_mul_right _ (by omega)
  rw [f2] at f3
  rw [f3, Nat.add_mul, Nat.one_mul] at h3
  omega
theorem zexpos {F : FP.Core.Fmt} {K fr one : Nat} {x : Int} (hF : zFm F K fr one x) : (F.exps - 1) * 2 ^ fr + 2 ^ fr = 2 ^ K := by
  obtain ⟨f1, f2, f3, f4, f5, f6, f7, f8, f9⟩ := hF
  rw [← f3, f2]
  have : F.exps = F.exps - 1 + 1 := by omega
  conv => rhs; rw [this, Nat.add_mul, Nat.one_mul]
/-- a whole number of quarters, decoded -/
theorem zmade_dec {K fr one : Nat} {F : FP.Core.Fmt} {x : Int} (hF : zFm F K fr one x) {q : Int} (h0 : q ≠ 0) (hL : q.natAbs.log2 ≤ fr) :
    FP.Core.decode F (zmade K fr one q) = .fin (decide (q < 0)) (q.natAbs * 2 ^ (fr - q.natAbs.log2)) ((q.natAbs.log2 : Int) - fr + x) ∧ zmade K fr one q < 2 ^ (K + 1) ∧ zmade K fr one q % 2 ^ K < (F.exps - 1) * 2 ^ fr := by
  obtain ⟨g0, g1, g2, g3⟩ := zmade_parts hF h0 hL
  have hexp := zexpos hF
  obtain ⟨f1, f2, f3, f4, f5, f6, f7, f8, f9⟩ := hF
  have hp2 := Nat.two_pow_pos fr
  generalize hc : q.natAbs * 2 ^ (fr - q.natAbs.log2) = c at *
  generalize hl : q.natAbs.log2 = L at *
  generalize hm : (one + L - fr) * 2 ^ fr + (c - 2 ^ fr) = m at *
  have hmod : zmade K fr one q % 2 ^ K = m := by
    rw [g0]
    by_cases hq : q < 0
    · rw [if_pos hq, Nat.add_comm, Nat.add_mod_right, Nat.mod_eq_of_lt g3]
    · rw [if_neg hq, Nat.zero_add, Nat.mod_eq_of_lt g3]
  have hlt : zmade K fr one q < 2 ^ (K + 1) := by
    rw [g0, Nat.pow_succ]
    split <;> omega
  have hneg : decide (2 ^ K ≤ zmade K fr one q) = decide (q < 0) := by
    rw [g0]
    by_cases hq : q < 0
    · rw [if_pos hq]; simp [hq]
    · rw [if_neg hq]; simp [hq]; omega
  have hdiv : m / 2 ^ fr = one + L - fr := by
    rw [← hm, Nat.add_comm, Nat.add_mul_div_right _ _ hp2, Nat.div_eq_of_lt (by omega), Nat.zero_add]
  have hmo : m % 2 ^ fr = c - 2 ^ fr := by
    rw [← hm, Nat.add_comm, Nat.add_mul_mod_self_right, Nat.mod_eq_of_lt (by omega)]
  have hsm : m < (F.exps - 1) * 2 ^ fr := by
    have h4 : (one + L - fr + 1) * 2 ^ fr ≤ (F.exps - 1) * 2 ^ fr := Nat.mul_le_mul_right _ (by omega)
    rw [Nat.add_mul, Nat.one_mul] at h4
    omega
  refine ⟨?_, hlt, by rw [hmod]; exact hsm⟩
  have hz := (zdecode (f := F) (n := zmade K fr one q) (by rw [Nat.mul_assoc, f3]; rw [Nat.pow_succ] at hlt; omega) (by omega) (by rw [f2]; exact hp2)).1
  rw [f3, hmod, f2, hneg] at hz
  rw [hz hsm]
  unfold zC zE
  rw [hdiv, hmo, if_neg (by omega), if_neg (by omega)]
  congr 1
  · omega
  · omega
theorem zmade_enc {K fr one : Nat} {F : FP.Core.Fmt} {x : Int} (hF : zFm F K fr one x) {q : Int} (h0 : q ≠ 0) (hL : q.natAbs.log2 ≤ fr) :
    FP.Core.encode F (.fin (decide (q < 0)) (q.natAbs * 2 ^ (fr - q.natAbs.log2)) ((q.natAbs.log2 : Int) - fr + x)) = zmade K fr one q := by
  obtain ⟨g0, g1, g2, g3⟩ := zmade_parts hF h0 hL
  obtain ⟨f1, f2, f3, f4, f5, f6, f7, f8, f9⟩ := hF
  unfold FP.Core.encode
  dsimp only
  rw [f2, if_neg (by omega)]
  unfold FP.Core.assemble
  rw [g0]
  have ht : ((q.natAbs.log2 : Int) - fr + x - F.qmin).toNat + 1 = one + q.natAbs.log2 - fr := by omega
  rw [ht, f2]
  rw [f2] at f3
  by_cases hq : q < 0
  · rw [if_pos hq]
    simp only [hq, decide_true, Bool.toNat_true, Nat.one_mul]
    rw [Nat.add_mul, f3, Nat.add_assoc]
  · rw [if_neg hq]
    simp only [hq, decide_false, Bool.toNat_false, Nat.zero_mul, Nat.zero_add]
/-- a sum or product that is a whole number of quarters -/
theorem zround_made {K fr one : Nat} {F : FP.Core.Fmt} {x : Int} (hF : zFm F K fr one x) {q : Int} (h0 : q ≠ 0) (hL : q.natAbs.log2 ≤ fr) {j : Nat} {e : Int} (he : e + j = x) :
    FP.Core.encode F (FP.Core.round F (.fin (decide (q < 0)) (q.natAbs * 2 ^ j) e)) = zmade K fr one q := by
  obtain ⟨f1, f2, f3, f4, f5, f6, f7, f8, f9⟩ := id hF
  rw [zround (q := (q.natAbs.log2 : Int) - fr + x) f1 (by omega) hL (by omega) (by omega) (by omega)]
  exact zmade_enc hF h0 hL
theorem zmade0 {K fr one : Nat} : zmade K fr one 0 = 0 := rfl
theorem zround_zero {K fr one : Nat} {F : FP.Core.Fmt} {x : Int} (hF : zFm F K fr one x) {s : Bool} {e : Int} : FP.Core.encode F (FP.Core.round F (.fin s 0 e)) = if s = true then 2 ^ K else 0 := by
  obtain ⟨f1, f2, f3, f4, f5, f6, f7, f8, f9⟩ := hF
  have hp2 := Nat.two_pow_pos fr
  show FP.Core.encode F (FP.Core.roundRatio F s 0 1 e) = _
  unfold FP.Core.roundRatio
  rw [if_pos rfl]
  unfold FP.Core.encode
  dsimp only
  rw [f2, if_pos hp2]
  unfold FP.Core.assemble
  rw [f2] at f3
  rw [f2]
  cases s
  · simp
  · simp [f3]
theorem zlog_le {fr : Nat} {q : Int} (h0 : q ≠ 0) (h : q.natAbs < 2 ^ (fr + 1)) : q.natAbs.log2 ≤ fr := Nat.le_of_lt_succ ((Nat.log2_lt (by omega)).mpr h)
/-- how many: what it says of a number -/
theorem zcnt_some {K fr one most n : Nat} {F : FP.Core.Fmt} {x : Int} (hF : zFm F K fr one x) (hm : most < 2 ^ (fr + 1)) (hn : n < 2 ^ (K + 1)) {q : Int} (h : zcnt K fr one most n = some q) :
    (q = 0 ∧ (n = 0 ∨ n = 2 ^ K)) ∨ (q ≠ 0 ∧ q.natAbs ≤ most ∧ n = zmade K fr one q) := by
  have hexp := zexpos hF
  obtain ⟨f1, f2, f3, f4, f5, f6, f7, f8, f9⟩ := id hF
  have hp2 := Nat.two_pow_pos fr
  have hpK := Nat.two_pow_pos K
  rw [Nat.pow_succ] at hn
  have hnm := Nat.div_add_mod n (2 ^ K)
  have hml := Nat.mod_lt n hpK
  have hdiv : n / 2 ^ K = if 2 ^ K ≤ n then 1 else 0 := by
    by_cases hh : 2 ^ K ≤ n
    · rw [if_pos hh]; exact Nat.div_eq_of_lt_le (by omega) (by omega)
    · rw [if_neg hh]; exact Nat.div_eq_of_lt (by omega)
  rw [hdiv] at hnm
  unfold zcnt at h
  generalize n % 2 ^ K = s at *
  have hsd := Nat.div_add_mod s (2 ^ fr)
  have hsl := Nat.mod_lt s hp2
  split at h
  · rename_i h0
    cases h
    refine Or.inl ⟨rfl, ?_⟩
    rw [h0] at hnm
    by_cases hh : 2 ^ K ≤ n
    · rw [if_pos hh] at hnm; omega
    · rw [if_neg hh] at hnm; omega
  · rename_i hs0
    split at h
    · cases h
    · rename_i he
      split at h
      · cases h
      · rename_i hm2
        generalize hE : s / 2 ^ fr = E at *
        generalize hT : s % 2 ^ fr = T at *
        have hw : (2 ^ fr + T) / 2 ^ (one - E) * 2 ^ (one - E) = 2 ^ fr + T := Classical.byContradiction fun q => hm2 (Or.inl q)
        have hmo : (2 ^ fr + T) / 2 ^ (one - E) ≤ most := by omega
        generalize hM : (2 ^ fr + T) / 2 ^ (one - E) = M at *
        have hMpos : 0 < M := by
          rcases Nat.eq_zero_or_pos M with z | z
          · rw [z, Nat.zero_mul] at hw; omega
          · exact z
        have hEb : E ≤ one ∧ one ≤ E + fr := by omega
        have hlog : M.log2 = fr - (one - E) := by
          have hge : 2 ^ (fr - (one - E)) ≤ M := by
            apply Nat.le_of_mul_le_mul_right (c := 2 ^ (one - E)) _ (Nat.two_pow_pos _)
            rw [hw, ← Nat.pow_add, show fr - (one - E) + (one - E) = fr by omega]
            omega
          have hltM : M < 2 ^ (fr - (one - E) + 1) := by
            apply Nat.lt_of_mul_lt_mul_right (a := 2 ^ (one - E))
            rw [hw, ← Nat.pow_add, show fr - (one - E) + 1 + (one - E) = fr + 1 by omega, Nat.pow_succ]
            omega
          apply Nat.le_antisymm
          · exact Nat.le_of_lt_succ ((Nat.log2_lt (by omega)).mpr hltM)
          · exact (Nat.le_log2 (by omega)).mpr hge
        have hnat : q.natAbs = M := by
          have := Option.some.inj h
          rw [← this]
          split <;> omega
        have hq0 : q ≠ 0 := by omega
        refine Or.inr ⟨hq0, by omega, ?_⟩
        have hneg : (2 ^ K ≤ n) ↔ q < 0 := by
          have := Option.some.inj h
          by_cases hh : 2 ^ K ≤ n
          · rw [if_pos hh] at this; omega
          · rw [if_neg hh] at this; omega
        have hL : q.natAbs.log2 ≤ fr := by rw [hnat, hlog]; omega
        obtain ⟨g0, g1, g2, g3⟩ := zmade_parts hF hq0 hL
        rw [g0, hnat, hlog, show fr - (fr - (one - E)) = one - E by omega, hw, show one + (fr - (one - E)) - fr = E by omega, Nat.add_sub_cancel_left]
        by_cases hh : 2 ^ K ≤ n
        · rw [if_pos (hneg.mp hh)]
          rw [if_pos hh, Nat.mul_one] at hnm
          rw [Nat.mul_comm] at hsd
          omega
        · rw [if_neg (fun z => hh (hneg.mpr z))]
          rw [if_neg hh, Nat.mul_zero] at hnm
          rw [Nat.mul_comm] at hsd
          omega
