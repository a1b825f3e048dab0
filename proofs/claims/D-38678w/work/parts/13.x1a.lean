/-! Edgefloats: the small ones -/
abbrev zPure (v : Option Value) (H : Heap) : Option Value → Heap → Prop := fun r H' => r = v ∧ H' = H
abbrev zNoX : String → Heap → Prop := fun _ _ => False
theorem zle {a b : Int32} (h : a < b) : ¬ b ≤ a := Int32.not_le.mpr h
theorem zge {a b : Int32} (h : ¬ a < b) : b ≤ a := Int32.not_lt.mp h
theorem ct_X1_isIn (w : zG) (hfl : w.1.stackTraces = false) (v a b : Int32) (H : Heap) : zCt w yX1_isIn wc_X1_isIn 0 0 0 [.int v, .int a, .int b] H (zPure (some (.int (if a ≤ v ∧ v ≤ b then 1 else 0))) H) zNoX :=
  zCt.ofV [(0, .int v), (1, .int a), (2, .int b)] hfl (by decide +kernel) (Nat.le_of_ble_eq_true rfl) rfl fun g cx hq _ => zwp_sound (tk_X1_isIn cx hq) [] 40
    ⟨fun h => ⟨Or.inl rfl, by rw [if_neg (fun q => zle h q.1)], rfl⟩, fun h => ⟨fun h2 => ⟨Or.inl rfl, by rw [if_neg (fun q => zle h2 q.2)], rfl⟩, fun h2 => ⟨Or.inr rfl, by rw [if_pos ⟨zge h, zge h2⟩], rfl⟩⟩⟩
/-- a throw: the new heap has all that stood there -/
def zGr (H H' : Heap) : Prop := H.size ≤ H'.size ∧ ∀ q : Nat, q < H.size → H'[q]? = H[q]?
abbrev zIO : String := "java/lang/IndexOutOfBoundsException"
abbrev zIA : String := "java/lang/IllegalArgumentException"
theorem ct_X1_mustBeCell (w : zG) (hfl : w.1.stackTraces = false) (v : Int32) (H : Heap) : zCt w yX1_mustBeCell wc_X1_mustBeCell 6 1 6 [.int v] H (fun r H' => r = none ∧ H' = H ∧ (0 ≤ v ∧ v ≤ 7)) (fun E H' => E = zIO ∧ ¬ (0 ≤ v ∧ v ≤ 7) ∧ zGr H H') :=
  zCt.ofV [(0, .int v)] hfl (by decide +kernel) (Nat.le_of_ble_eq_true rfl) rfl fun g cx hq _ => zwp_sound (tk_X1_mustBeCell cx hq) [] 40 (by
    refine zcall.pure (ct_X1_isIn w hfl v 0 7 H) ?_ ?_
    · decide
    · by_cases h : 0 ≤ v ∧ v ≤ 7
      · rw [if_pos h]
        exact ⟨fun _ => ⟨rfl, rfl, h⟩, fun e => absurd e (by decide)⟩
      · rw [if_neg h]
        exact ⟨fun e => absurd rfl e, fun _ => ⟨by decide, by decide, by decide, fun H' h1 h2 => ⟨rfl, h, h1, h2⟩⟩⟩)
