/-! numbers by their bits: sizes, keys, ranks -/
def zkey (k n : Nat) : Int := if 2 ^ k ≤ n then -((n % 2 ^ k : Nat) : Int) else ((n % 2 ^ k : Nat) : Int)
def zrnk (k n : Nat) : Int := if 2 ^ k ≤ n then -1 - ((n % 2 ^ k : Nat) : Int) else ((n % 2 ^ k : Nat) : Int)
theorem zcmp_int (a b : Int) : compare a b = if a < b then .lt else if a = b then .eq else .gt := rfl
/-- the parts of a number that isn't negative -/
def zC (tl m : Nat) : Nat := if m / tl = 0 then m % tl else tl + m % tl
def zE (tl m : Nat) : Nat := if m / tl = 0 then 0 else m / tl - 1
theorem zmag_lt {tl m1 m2 : Nat} (ht : 0 < tl) (h : m1 < m2) : zC tl m1 * 2 ^ (zE tl m1 - min (zE tl m1) (zE tl m2)) < zC tl m2 * 2 ^ (zE tl m2 - min (zE tl m1) (zE tl m2)) := by
  have e1 := Nat.div_add_mod m1 tl
  have e2 := Nat.div_add_mod m2 tl
  have l1 := Nat.mod_lt m1 ht
  have l2 := Nat.mod_lt m2 ht
  have hd : m1 / tl ≤ m2 / tl := Nat.div_le_div_right (Nat.le_of_lt h)
  unfold zC zE
  generalize m1 / tl = E1 at *
  generalize m2 / tl = E2 at *
  generalize m1 % tl = T1 at *
  generalize m2 % tl = T2 at *
  by_cases hE : E1 = E2
  · subst hE
    have hT : T1 < T2 := by omega
    rw [Nat.min_self, Nat.sub_self, Nat.pow_zero, Nat.mul_one, Nat.mul_one]
    by_cases h0 : E1 = 0
    · rw [if_pos h0, if_pos h0]; exact hT
    · rw [if_neg h0, if_neg h0]; omega
  · have hlt : E1 < E2 := by omega
    have h2 : ¬ E2 = 0 := by omega
    rw [if_neg h2, if_neg h2]
    by_cases h0 : E1 = 0
    · rw [if_pos h0, if_pos h0, Nat.zero_min, Nat.sub_self, Nat.pow_zero, Nat.mul_one]
      have : tl + T2 ≤ (tl + T2) * 2 ^ (E2 - 1 - 0) := Nat.le_mul_of_pos_right _ (Nat.two_pow_pos _)
      omega
    · rw [if_neg h0, if_neg h0, Nat.min_eq_left (by omega : E1 - 1 ≤ E2 - 1), Nat.sub_self, Nat.pow_zero, Nat.mul_one]
      have h3 : 2 ^ 1 ≤ 2 ^ (E2 - 1 - (E1 - 1)) := Nat.pow_le_pow_right (by decide) (by omega)
      have h4 : (tl + T2) * 2 ^ 1 ≤ (tl + T2) * 2 ^ (E2 - 1 - (E1 - 1)) := Nat.mul_le_mul_left _ h3
      omega
/-- comparing signed sizes by any measure that grows as they do -/
theorem zsigned_cmp {s t : Bool} {A B m1 m2 : Nat} (h1 : m1 < m2 → A < B) (h2 : m2 < m1 → B < A) (h3 : m1 = m2 → A = B) (z1 : A = 0 ↔ m1 = 0) (z2 : B = 0 ↔ m2 = 0) :
    compare (FP.Core.signed s A) (FP.Core.signed t B) = compare (if s = true then -(m1 : Int) else (m1 : Int)) (if t = true then -(m2 : Int) else (m2 : Int)) := by
  have hA : (A < B ↔ m1 < m2) ∧ (A = B ↔ m1 = m2) := by
    rcases Nat.lt_trichotomy m1 m2 with h | h | h
    · have := h1 h; omega
    · have := h3 h; omega
    · have := h2 h; omega
  obtain ⟨k1, k2⟩ := hA
  rw [zcmp_int, zcmp_int]
  unfold FP.Core.signed
  cases s <;> cases t <;> simp only [Bool.false_eq_true, if_false, if_true] <;> (repeat' split) <;> first | rfl | omega
theorem zdecode {f : FP.Core.Fmt} {n : Nat} (hn : n < 2 * f.exps * f.tails) (h0 : 2 ≤ f.exps) (ht : 0 < f.tails) :
    (n % (f.exps * f.tails) < (f.exps - 1) * f.tails → FP.Core.decode f n = .fin (decide (f.exps * f.tails ≤ n)) (zC f.tails (n % (f.exps * f.tails))) (f.qmin + (zE f.tails (n % (f.exps * f.tails)) : Int))) ∧
    (n % (f.exps * f.tails) = (f.exps - 1) * f.tails → FP.Core.decode f n = .inf (decide (f.exps * f.tails ≤ n))) := by
  have hT : FP.Core.fieldT f n = n % (f.exps * f.tails) % f.tails := by
    unfold FP.Core.fieldT
    rw [Nat.mul_comm, Nat.mod_mul_right_mod]
  have hE : FP.Core.fieldE f n = n % (f.exps * f.tails) / f.tails := by
    unfold FP.Core.fieldE
    rw [Nat.mul_comm f.exps f.tails, Nat.mod_mul_right_div_self]
  have hS : FP.Core.fieldS f n = decide (f.exps * f.tails ≤ n) := by
    unfold FP.Core.fieldS
    rw [Nat.div_div_eq_div_mul, Nat.mul_comm f.tails f.exps]
    have hpos : 0 < f.exps * f.tails := Nat.mul_pos (by omega) ht
    have hn2 : n < 2 * (f.exps * f.tails) := by rw [← Nat.mul_assoc]; exact hn
    by_cases hh : f.exps * f.tails ≤ n
    · have : n / (f.exps * f.tails) = 1 := Nat.div_eq_of_lt_le (by omega) (by omega)
      rw [this]; simp [hh]
    · have : n / (f.exps * f.tails) = 0 := Nat.div_eq_of_lt (by omega)
      rw [this]; simp [hh]
  generalize n % (f.exps * f.tails) = m at *
  refine ⟨fun hm => ?_, fun hm => ?_⟩
  · have hE2 : m / f.tails < f.exps - 1 := (Nat.div_lt_iff_lt_mul ht).mpr hm
    unfold FP.Core.decode zC zE
    rw [hT, hE, hS, if_neg (by omega)]
    by_cases h9 : m / f.tails = 0
    · rw [if_pos h9, if_pos h9, if_pos h9]; simp
    · rw [if_neg h9, if_neg h9, if_neg h9]
      congr 2
      omega
  · have hE2 : m / f.tails = f.exps - 1 := by rw [hm]; exact Nat.mul_div_cancel _ ht
    have hT2 : m % f.tails = 0 := by rw [hm]; exact Nat.mul_mod_left _ _
    unfold FP.Core.decode
    rw [hT, hE, hS, if_pos hE2, if_pos hT2]
/-- the order of two numbers that aren't NaN -/
theorem zorder {f : FP.Core.Fmt} {K x y : Nat} (hK : f.exps * f.tails = 2 ^ K) (h0 : 2 ≤ f.exps) (ht : 0 < f.tails) (hx : x < 2 ^ (K + 1)) (hy : y < 2 ^ (K + 1)) (nx : x % 2 ^ K ≤ (f.exps - 1) * f.tails) (ny : y % 2 ^ K ≤ (f.exps - 1) * f.tails) :
    FP.Core.cmp f x y = some (compare (zkey K x) (zkey K y)) := by
  have hx' : x < 2 * f.exps * f.tails := by rw [Nat.mul_assoc, hK]; rw [Nat.pow_succ] at hx; omega
  have hy' : y < 2 * f.exps * f.tails := by rw [Nat.mul_assoc, hK]; rw [Nat.pow_succ] at hy; omega
  obtain ⟨x1, x2⟩ := zdecode hx' h0 ht
  obtain ⟨y1, y2⟩ := zdecode hy' h0 ht
  rw [hK] at x1 x2 y1 y2
  have kx : zkey K x = if decide (2 ^ K ≤ x) = true then -((x % 2 ^ K : Nat) : Int) else ((x % 2 ^ K : Nat) : Int) := by unfold zkey; simp
  have ky : zkey K y = if decide (2 ^ K ≤ y) = true then -((y % 2 ^ K : Nat) : Int) else ((y % 2 ^ K : Nat) : Int) := by unfold zkey; simp
  unfold FP.Core.cmp
  rw [kx, ky]
  have hbig : 0 < (f.exps - 1) * f.tails := Nat.mul_pos (by omega) ht
  generalize x % 2 ^ K = m1 at *
  generalize y % 2 ^ K = m2 at *
  generalize decide (2 ^ K ≤ x) = s at *
  generalize decide (2 ^ K ≤ y) = t at *
  have hC0 : ∀ m, zC f.tails m = 0 ↔ m = 0 := by
    intro m
    have := Nat.div_add_mod m f.tails
    unfold zC
    constructor
    · intro h
      split at h
      · rename_i h9; rw [h9, h] at this; omega
      · omega
    · intro h; subst h; simp
  have hp0 : ∀ a b : Nat, a * 2 ^ b = 0 ↔ a = 0 := fun a b => by have := Nat.two_pow_pos b; rw [Nat.mul_eq_zero]; omega
  rcases Nat.lt_or_eq_of_le nx with a | a <;> rcases Nat.lt_or_eq_of_le ny with b | b
  · rw [x1 a, y1 b]
    show some (compare (FP.Core.signed s (FP.Core.inUnits _ _ _)) (FP.Core.signed t (FP.Core.inUnits _ _ _))) = _
    unfold FP.Core.inUnits
    have e1 : (f.qmin + (zE f.tails m1 : Int) - min (f.qmin + (zE f.tails m1 : Int)) (f.qmin + (zE f.tails m2 : Int))).toNat = zE f.tails m1 - min (zE f.tails m1) (zE f.tails m2) := by omega
    have e2 : (f.qmin + (zE f.tails m2 : Int) - min (f.qmin + (zE f.tails m1 : Int)) (f.qmin + (zE f.tails m2 : Int))).toNat = zE f.tails m2 - min (zE f.tails m1) (zE f.tails m2) := by omega
    rw [e1, e2]
    exact congrArg some (zsigned_cmp (fun h => zmag_lt ht h) (fun h => by have := zmag_lt ht h; rw [Nat.min_comm] at this; exact this) (fun h => by rw [h]) ((hp0 _ _).trans (hC0 _)) ((hp0 _ _).trans (hC0 _)))
  · rw [x1 a, y2 b]
    show some (compare 0 (FP.Core.signed t 1)) = _
    rw [zcmp_int, zcmp_int]
    unfold FP.Core.signed
    cases s <;> cases t <;> simp only [Bool.false_eq_true, if_false, if_true] <;> (repeat' split) <;> first | rfl | omega
  · rw [x2 a, y1 b]
    show some (compare (FP.Core.signed s 1) 0) = _
    rw [zcmp_int, zcmp_int]
    unfold FP.Core.signed
    cases s <;> cases t <;> simp only [Bool.false_eq_true, if_false, if_true] <;> (repeat' split) <;> first | rfl | omega
  · rw [x2 a, y2 b]
    show some (compare (FP.Core.signed s 1) (FP.Core.signed t 1)) = _
    rw [zcmp_int, zcmp_int]
    unfold FP.Core.signed
    cases s <;> cases t <;> simp only [Bool.false_eq_true, if_false, if_true] <;> (repeat' split) <;> first | rfl | omega
/-- no NaN -/
def zok (k n : Nat) : Prop := n < 2 ^ (k + 1) ∧ n % 2 ^ k ≤ (if k = 63 then 2047 * 2 ^ 52 else 255 * 2 ^ 23)
theorem zdcmp {a b : Nat} (ha : zok 63 a) (hb : zok 63 b) : FP.dcmp (.ofNat a) (.ofNat b) = some (compare (zkey 63 a) (zkey 63 b)) := by
  have e1 : (UInt64.ofNat a).toNat = a := by rw [UInt64.toNat_ofNat']; exact Nat.mod_eq_of_lt ha.1
  have e2 : (UInt64.ofNat b).toNat = b := by rw [UInt64.toNat_ofNat']; exact Nat.mod_eq_of_lt hb.1
  show FP.Core.cmp FP.Core.b64 _ _ = _
  rw [e1, e2]
  exact zorder (by decide) (by decide) (by decide) ha.1 hb.1 ha.2 hb.2
theorem zfcmp {a b : Nat} (ha : zok 31 a) (hb : zok 31 b) : FP.fcmp (.ofNat a) (.ofNat b) = some (compare (zkey 31 a) (zkey 31 b)) := by
  have e1 : (UInt32.ofNat a).toNat = a := by rw [UInt32.toNat_ofNat']; exact Nat.mod_eq_of_lt ha.1
  have e2 : (UInt32.ofNat b).toNat = b := by rw [UInt32.toNat_ofNat']; exact Nat.mod_eq_of_lt hb.1
  show FP.Core.cmp FP.Core.b32 _ _ = _
  rw [e1, e2]
  exact zorder (by decide) (by decide) (by decide) ha.1 hb.1 ha.2 hb.2
