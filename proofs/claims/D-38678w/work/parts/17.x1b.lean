/-! contracts: Edgefloats, what is asked -/
theorem zitb {p : Prop} [Decidable p] (h : (if p then (1 : Int32) else 0) ≠ 0) : p := Classical.byContradiction fun q => h (if_neg q)
theorem zite {p : Prop} [Decidable p] (h : (if p then (1 : Int32) else 0) = 0) : ¬ p := fun q => absurd (by rw [if_pos q] at h; exact h) (by decide)
theorem zitr {p : Prop} [Decidable p] : (if p then (1 : Int32) else 0) = 0 ∨ (if p then (1 : Int32) else 0) = 1 := by split; exact Or.inr rfl; exact Or.inl rfl
/-- isIn, then mustFit -/
theorem zfitq {w : zG} (hw : zWf w) {h a b : Int32} {H : Heap} {d rc rs : Nat} {K : Nat → Nat → Option Value → Heap → Prop} {KX : Nat → Nat → String → Heap → Prop} (hd : 7 ≤ d) (h1 : 1 ≤ rc) (h2 : 6 ≤ rs) (k : a ≤ h ∧ h ≤ b → K 1 6 none H) (kx : ∀ E H', E = zIA → ¬ (a ≤ h ∧ h ≤ b) → zGr H H' → KX 1 6 E H') : zcall w yX1_mustFit wc_X1_mustFit [.int (if a ≤ h ∧ h ≤ b then 1 else 0)] H d rc rs K KX :=
  zcall.mk (c4_mustFit hw _ H) (by omega) h1 h2 (by rintro _ _ ⟨rfl, rfl, h⟩ _; exact k (zitb h)) (by rintro E H' ⟨e1, e2, e3⟩ _; exact kx E H' e1 (zite e2) e3)
def zff (C : Nat → Nat) (v : Nat) : Nat → Nat → Nat
  | 0, i => i
  | f + 1, i => if C i = v then i else zff C v f (i + 1)
def zfb (C : Nat → Nat) (v : Nat) : Nat → Nat → Nat
  | 0, i => i
  | f + 1, i => if C i = v then i else zfb C v f (i - 1)

theorem c3_ObjEqD {w : zG} (hw : zWf w) {p q a b : Nat} {H : Heap} (ha : zok 63 a) (hb : zok 63 b) (hp : zOb w p 1 [dv a] H) (hq2 : zOb w q 1 [dv b] H) : zCt w yJ22_equals wc_J22_equals 3 0 0 [.ref p, .ref q] H (zPure (some (.int (if a = b then 1 else 0))) H) zNoX :=
  zCt.ofV [(0, .ref p), (1, .ref q)] hw.1 (by decide +kernel) (Nat.le_of_ble_eq_true rfl) rfl fun g cx hq _ => zwp_sound (tk_J22_equalsD cx hq) [] 40 (by
    refine ⟨fun h => ?_, fun h => ?_⟩
    · subst h
      have hab : a = b := dl_inj ha.1 hb.1 (by obtain ⟨r1, e1, c1, p1, -, -, s1⟩ := hp; obtain ⟨r2, e2, c2, p2, -, -, s2⟩ := hq2; cases Option.some.inj (e1.symm.trans e2); cases Option.some.inj (p1.symm.trans p2); have q1 := s1 0 (by cases Option.some.inj (e1.symm.trans (rfl : zCl[1]? = some (RJ1, TJ1, 1))); decide); have q2 := s2 0 (by cases Option.some.inj (e1.symm.trans (rfl : zCl[1]? = some (RJ1, TJ1, 1))); decide); have q3 := Option.some.inj (q1.symm.trans q2); have q4 : dv a = dv b := q3; injection q4 with q5; show (UInt64.ofNat a).toInt64 = (UInt64.ofNat b).toInt64; rw [q5])
      exact ⟨zb2, by rw [if_pos hab], rfl⟩
    · refine ⟨⟨_, hp⟩, zcall.pure (c1_equals hw ha hb hp hq2) (by decide) ⟨fun h2 => ⟨zb1, by rw [if_neg (zite h2)], rfl⟩, fun h2 => ⟨zb2, by rw [if_pos (zitb h2)], rfl⟩⟩⟩)
theorem c4_wideOrder {w : zG} (hw : zWf w) {x aw an : Nat} {W N : Nat → Nat} {wa na rf kn : Int32} {H : Heap} (hI : zXI w x aw an W N wa na rf kn H) (c i h : Int32) : zCt w yX1_wideOrder wc_X1_wideOrder 9 3 18 [.ref x, .int c, .int i, .int h] H (fun v H' => H' = H ∧ ∃ j k, j < 8 ∧ k < 8 ∧ c = nI j ∧ i = nI k ∧ (0 ≤ h ∧ h ≤ 2) ∧ v = some (.int (zcmp (zrnk 63 (W j)) (zrnk 63 (W k))))) (fun E H' => ((E = zIO ∧ (¬ (0 ≤ c ∧ c ≤ 7) ∨ ¬ (0 ≤ i ∧ i ≤ 7))) ∨ (E = zIA ∧ ((0 ≤ c ∧ c ≤ 7) ∧ (0 ≤ i ∧ i ≤ 7)) ∧ ¬ (0 ≤ h ∧ h ≤ 2))) ∧ zGr H H') :=
  zCt.ofV [(0, .ref x), (1, .int c), (2, .int i), (3, .int h)] hw.1 (by decide +kernel) (Nat.le_of_ble_eq_true rfl) rfl fun g cx hq _ => zwp_sound (tk_X1_wideOrder cx hq) [] 80 (by
    have ox9 := hI.choose_spec.choose_spec.2.1
    refine ⟨⟨_, ox9⟩, zat1 hw hI c (by decide) (by decide) (by decide) (fun j r e1 e2 e3 e4 => ⟨⟨_, ox9⟩, zat1 hw hI i (by decide) (by decide) (by decide) (fun k s f1 f2 f3 f4 => zcall.pure (ct_X1_isIn w hw.1 h 0 2 H) (by decide) (zfitq hw (by decide) (by decide) (by decide) (fun hh => ?_) (fun E H' g1 g2 g3 => ⟨Or.inr ⟨g1, ⟨by rw [e2]; exact zcellI e1, by rw [f2]; exact zcellI f1⟩, g2⟩, g3⟩))) (fun E H' f1 f2 f3 => ⟨Or.inl ⟨f1, Or.inr f2⟩, f3⟩)⟩) (fun E H' f1 f2 f3 => ⟨Or.inl ⟨f1, Or.inl f2⟩, f3⟩)⟩
    have fin : H = H ∧ ∃ j k, j < 8 ∧ k < 8 ∧ c = nI j ∧ i = nI k ∧ (0 ≤ h ∧ h ≤ 2) ∧ (some (Value.int (zcmp (zrnk 63 (W j)) (zrnk 63 (W k)))) : Option Value) = some (.int (zcmp (zrnk 63 (W j)) (zrnk 63 (W k)))) := ⟨rfl, j, k, e1, f1, e2, f2, hh, rfl⟩
    have tail : H = H ∧ ∃ j' k', j' < 8 ∧ k' < 8 ∧ c = nI j' ∧ i = nI k' ∧ (0 ≤ h ∧ h ≤ 2) ∧ (some (Value.int (zcmp (zrnk 63 (W j)) (zrnk 63 (W k)))) : Option Value) = some (.int (zcmp (zrnk 63 (W j')) (zrnk 63 (W k')))) := ⟨rfl, j, k, e1, f1, e2, f2, hh, rfl⟩
    refine ⟨fun _ => ⟨fun _ => ?_, fun _ => ?_⟩, fun _ => ?_⟩
    · exact ⟨⟨_, e3⟩, zcall.pure (c1_compareTo2 hw e4 f4 e3 f3) (by decide) (zcall.pure (c4_signum hw _ _ H) (by decide) tail)⟩
    · exact ⟨⟨_, e3⟩, zcall.pure (c1_compareTo hw e4 f4 e3 f3) (by decide) (zcall.pure (c4_signum hw _ _ H) (by decide) tail)⟩
    · exact ⟨⟨_, e3⟩, zcall.pure (c1_value hw e3) (by decide) ⟨⟨_, f3⟩, zcall.pure (c1_value hw f3) (by decide) (zcall.pure (c1_compare hw e4 f4 H) (by decide) (zcall.pure (c4_signum hw _ _ H) (by decide) tail))⟩⟩)
theorem c4_wideSame {w : zG} (hw : zWf w) {x aw an : Nat} {W N : Nat → Nat} {wa na rf kn : Int32} {H : Heap} (hI : zXI w x aw an W N wa na rf kn H) (c i h : Int32) : zCt w yX1_wideSame wc_X1_wideSame 9 3 18 [.ref x, .int c, .int i, .int h] H (fun v H' => H' = H ∧ ∃ j k, j < 8 ∧ k < 8 ∧ c = nI j ∧ i = nI k ∧ (0 ≤ h ∧ h ≤ 2) ∧ v = some (.int (if W j = W k then 1 else 0))) (fun E H' => ((E = zIO ∧ (¬ (0 ≤ c ∧ c ≤ 7) ∨ ¬ (0 ≤ i ∧ i ≤ 7))) ∨ (E = zIA ∧ ((0 ≤ c ∧ c ≤ 7) ∧ (0 ≤ i ∧ i ≤ 7)) ∧ ¬ (0 ≤ h ∧ h ≤ 2))) ∧ zGr H H') :=
  zCt.ofV [(0, .ref x), (1, .int c), (2, .int i), (3, .int h)] hw.1 (by decide +kernel) (Nat.le_of_ble_eq_true rfl) rfl fun g cx hq _ => zwp_sound (tk_X1_wideSame cx hq) [] 80 (by
    have ox9 := hI.choose_spec.choose_spec.2.1
    refine ⟨⟨_, ox9⟩, zat1 hw hI c (by decide) (by decide) (by decide) (fun j r e1 e2 e3 e4 => ⟨⟨_, ox9⟩, zat1 hw hI i (by decide) (by decide) (by decide) (fun k s f1 f2 f3 f4 => zcall.pure (ct_X1_isIn w hw.1 h 0 2 H) (by decide) (zfitq hw (by decide) (by decide) (by decide) (fun hh => ?_) (fun E H' g1 g2 g3 => ⟨Or.inr ⟨g1, ⟨by rw [e2]; exact zcellI e1, by rw [f2]; exact zcellI f1⟩, g2⟩, g3⟩))) (fun E H' f1 f2 f3 => ⟨Or.inl ⟨f1, Or.inr f2⟩, f3⟩)⟩) (fun E H' f1 f2 f3 => ⟨Or.inl ⟨f1, Or.inl f2⟩, f3⟩)⟩
    have tail : ((if W j = W k then (1 : Int32) else 0) = 0 ∨ (if W j = W k then (1 : Int32) else 0) = 1) ∧ H = H ∧ ∃ j' k', j' < 8 ∧ k' < 8 ∧ c = nI j' ∧ i = nI k' ∧ (0 ≤ h ∧ h ≤ 2) ∧ (some (Value.int (if W j = W k then 1 else 0)) : Option Value) = some (.int (if W j' = W k' then 1 else 0)) := ⟨zitr, rfl, j, k, e1, f1, e2, f2, hh, rfl⟩
    refine ⟨fun _ => ⟨fun _ => ?_, fun _ => ?_⟩, fun _ => ?_⟩
    · exact zcall.pure (c3_ObjEqD hw e4 f4 e3 f3) (by decide) tail
    · exact ⟨⟨_, e3⟩, zcall.pure (c1_equals hw e4 f4 e3 f3) (by decide) tail⟩
    · exact ⟨⟨_, e3⟩, zcall.pure (c1_equals hw e4 f4 e3 f3) (by decide) tail⟩)
theorem c4_wideLike {w : zG} (hw : zWf w) {x aw an : Nat} {W N : Nat → Nat} {wa na rf kn : Int32} {H : Heap} (hI : zXI w x aw an W N wa na rf kn H) (c i : Int32) : zCt w yX1_wideLike wc_X1_wideLike 9 2 12 [.ref x, .int c, .int i] H (fun v H' => H' = H ∧ ∃ j k, j < 8 ∧ k < 8 ∧ c = nI j ∧ i = nI k ∧ v = some (.int (if zkey 63 (W j) = zkey 63 (W k) then 1 else 0))) (fun E H' => E = zIO ∧ (¬ (0 ≤ c ∧ c ≤ 7) ∨ ¬ (0 ≤ i ∧ i ≤ 7)) ∧ zGr H H') :=
  zCt.ofV [(0, .ref x), (1, .int c), (2, .int i)] hw.1 (by decide +kernel) (Nat.le_of_ble_eq_true rfl) rfl fun g cx hq _ => zwp_sound (tk_X1_wideLike cx hq) [] 80 (by
    have ox9 := hI.choose_spec.choose_spec.2.1
    refine ⟨⟨_, ox9⟩, zat1 hw hI c (by decide) (by decide) (by decide) (fun j r e1 e2 e3 e4 => ⟨⟨_, e3⟩, zcall.pure (c1_value hw e3) (by decide) ⟨⟨_, ox9⟩, zat1 hw hI i (by decide) (by decide) (by decide) (fun k s f1 f2 f3 f4 => ⟨⟨_, f3⟩, zcall.pure (c1_value hw f3) (by decide) ?_⟩) (fun E H' f1 f2 f3 => ⟨f1, Or.inr f2, f3⟩)⟩⟩) (fun E H' f1 f2 f3 => ⟨f1, Or.inl f2, f3⟩)⟩
    have q1 : ∀ op, Op.cmpValue (FP.dcmp (.ofNat (W j)) (.ofNat (W k))) op = zcmp (zkey 63 (W j)) (zkey 63 (W k)) := fun op => by rw [zdcmp e4 f4, zcv]
    refine ⟨fun hz => ?_, fun hz => ?_⟩
    · rw [q1, zcmp_eq] at hz
      exact ⟨zb1, rfl, j, k, e1, f1, e2, f2, by rw [if_neg hz]⟩
    · rw [q1, zcmp_eq] at hz
      exact ⟨zb2, rfl, j, k, e1, f1, e2, f2, by rw [if_pos hz]⟩)
theorem c4_wideBelow {w : zG} (hw : zWf w) {x aw an : Nat} {W N : Nat → Nat} {wa na rf kn : Int32} {H : Heap} (hI : zXI w x aw an W N wa na rf kn H) (c i l : Int32) : zCt w yX1_wideBelow wc_X1_wideBelow 9 2 12 [.ref x, .int c, .int i, .int l] H (fun v H' => H' = H ∧ ∃ j k, j < 8 ∧ k < 8 ∧ c = nI j ∧ i = nI k ∧ v = some (.int (if zkey 63 (W j) < zkey 63 (W k) ∨ (¬ l = 0 ∧ zkey 63 (W j) = zkey 63 (W k)) then 1 else 0))) (fun E H' => E = zIO ∧ (¬ (0 ≤ c ∧ c ≤ 7) ∨ ¬ (0 ≤ i ∧ i ≤ 7)) ∧ zGr H H') :=
  zCt.ofV [(0, .ref x), (1, .int c), (2, .int i), (3, .int l)] hw.1 (by decide +kernel) (Nat.le_of_ble_eq_true rfl) rfl fun g cx hq _ => zwp_sound (tk_X1_wideBelow cx hq) [] 80 (by
    have ox9 := hI.choose_spec.choose_spec.2.1
    refine ⟨⟨_, ox9⟩, zat1 hw hI c (by decide) (by decide) (by decide) (fun j r e1 e2 e3 e4 => ⟨⟨_, e3⟩, zcall.pure (c1_value hw e3) (by decide) ⟨⟨_, ox9⟩, zat1 hw hI i (by decide) (by decide) (by decide) (fun k s f1 f2 f3 f4 => ⟨⟨_, f3⟩, zcall.pure (c1_value hw f3) (by decide) ?_⟩) (fun E H' f1 f2 f3 => ⟨f1, Or.inr f2, f3⟩)⟩⟩) (fun E H' f1 f2 f3 => ⟨f1, Or.inl f2, f3⟩)⟩
    have q1 : ∀ op, Op.cmpValue (FP.dcmp (.ofNat (W j)) (.ofNat (W k))) op = zcmp (zkey 63 (W j)) (zkey 63 (W k)) := fun op => by rw [zdcmp e4 f4, zcv]
    refine ⟨fun hl0 => ⟨fun hz => ?_, fun hz => ?_⟩, fun hl0 => ⟨fun hz => ?_, fun hz => ?_⟩⟩
    · rw [q1, zcmp_ge] at hz
      exact ⟨zb1, rfl, j, k, e1, f1, e2, f2, by rw [if_neg]; rintro (q | q); omega; exact q.1 hl0⟩
    · rw [q1, zcmp_ge] at hz
      exact ⟨zb2, rfl, j, k, e1, f1, e2, f2, by rw [if_pos (Or.inl (by omega))]⟩
    · rw [q1, zcmp_gt] at hz
      exact ⟨zb1, rfl, j, k, e1, f1, e2, f2, by rw [if_neg]; rintro (q | q); omega; omega⟩
    · rw [q1, zcmp_gt] at hz
      refine ⟨zb2, rfl, j, k, e1, f1, e2, f2, ?_⟩
      rw [if_pos]
      by_cases q : zkey 63 (W j) = zkey 63 (W k)
      · exact Or.inr ⟨hl0, q⟩
      · exact Or.inl (by omega))
theorem c4_wideHash {w : zG} (hw : zWf w) {x aw an : Nat} {W N : Nat → Nat} {wa na rf kn : Int32} {H : Heap} (hI : zXI w x aw an W N wa na rf kn H) (c h : Int32) : zCt w yX1_wideHash wc_X1_wideHash 9 2 12 [.ref x, .int c, .int h] H (fun v H' => H' = H ∧ ∃ j, j < 8 ∧ c = nI j ∧ (0 ≤ h ∧ h ≤ 1) ∧ v = some (.int (zhsh (W j)))) (fun E H' => ((E = zIO ∧ ¬ (0 ≤ c ∧ c ≤ 7)) ∨ (E = zIA ∧ (0 ≤ c ∧ c ≤ 7) ∧ ¬ (0 ≤ h ∧ h ≤ 1))) ∧ zGr H H') :=
  zCt.ofV [(0, .ref x), (1, .int c), (2, .int h)] hw.1 (by decide +kernel) (Nat.le_of_ble_eq_true rfl) rfl fun g cx hq _ => zwp_sound (tk_X1_wideHash cx hq) [] 80 (by
    have ox9 := hI.choose_spec.choose_spec.2.1
    refine ⟨⟨_, ox9⟩, zat1 hw hI c (by decide) (by decide) (by decide) (fun j r e1 e2 e3 e4 => zcall.pure (ct_X1_isIn w hw.1 h 0 1 H) (by decide) (zfitq hw (by decide) (by decide) (by decide) (fun hh => ?_) (fun E H' g1 g2 g3 => ⟨Or.inr ⟨g1, by rw [e2]; exact zcellI e1, g2⟩, g3⟩))) (fun E H' f1 f2 f3 => ⟨Or.inl ⟨f1, f2⟩, f3⟩)⟩
    refine ⟨fun _ => ?_, fun _ => ?_⟩
    · exact ⟨⟨_, e3⟩, zcall.pure (c1_value hw e3) (by decide) (zcall.pure (c1_hashCode2 hw e4 H) (by decide) ⟨rfl, j, e1, e2, hh, rfl⟩)⟩
    · exact ⟨⟨_, e3⟩, zcall.pure (c1_hashCode hw e4 e3) (by decide) ⟨rfl, j, e1, e2, hh, rfl⟩⟩)
theorem c4_wideEndless {w : zG} (hw : zWf w) {x aw an : Nat} {W N : Nat → Nat} {wa na rf kn : Int32} {H : Heap} (hI : zXI w x aw an W N wa na rf kn H) (c h : Int32) : zCt w yX1_wideEndless wc_X1_wideEndless 9 2 12 [.ref x, .int c, .int h] H (fun v H' => H' = H ∧ ∃ j, j < 8 ∧ c = nI j ∧ (0 ≤ h ∧ h ≤ 2) ∧ v = some (.int (if W j % 2 ^ 63 = 9218868437227405312 then 1 else 0))) (fun E H' => ((E = zIO ∧ ¬ (0 ≤ c ∧ c ≤ 7)) ∨ (E = zIA ∧ (0 ≤ c ∧ c ≤ 7) ∧ ¬ (0 ≤ h ∧ h ≤ 2))) ∧ zGr H H') :=
  zCt.ofV [(0, .ref x), (1, .int c), (2, .int h)] hw.1 (by decide +kernel) (Nat.le_of_ble_eq_true rfl) rfl fun g cx hq _ => zwp_sound (tk_X1_wideEndless cx hq) [] 80 (by
    have ox9 := hI.choose_spec.choose_spec.2.1
    refine ⟨⟨_, ox9⟩, zat1 hw hI c (by decide) (by decide) (by decide) (fun j r e1 e2 e3 e4 => zcall.pure (ct_X1_isIn w hw.1 h 0 2 H) (by decide) (zfitq hw (by decide) (by decide) (by decide) (fun hh => ?_) (fun E H' g1 g2 g3 => ⟨Or.inr ⟨g1, by rw [e2]; exact zcellI e1, g2⟩, g3⟩))) (fun E H' f1 f2 f3 => ⟨Or.inl ⟨f1, f2⟩, f3⟩)⟩
    refine ⟨fun _ => ⟨fun _ => ?_, fun _ => ?_⟩, fun _ => ?_⟩
    · refine ⟨⟨_, e3⟩, zcall.pure (c1_value hw e3) (by decide) (zcall.pure (c1_isFinite hw e4 H) (by decide) ⟨fun hz => ?_, fun hz => ?_⟩)⟩
      · have h9 : ¬ W j % 2 ^ 63 = 9218868437227405312 := fun q => hz (if_pos q)
        exact ⟨zb1, rfl, j, e1, e2, hh, by rw [if_neg h9]⟩
      · have h9 : W j % 2 ^ 63 = 9218868437227405312 := Classical.byContradiction fun q => absurd hz (by rw [if_neg q]; decide)
        exact ⟨zb2, rfl, j, e1, e2, hh, by rw [if_pos h9]⟩
    · exact ⟨⟨_, e3⟩, zcall.pure (c1_value hw e3) (by decide) (zcall.pure (c1_isInfinite2 hw e4 H) (by decide) ⟨zitr, rfl, j, e1, e2, hh, rfl⟩)⟩
    · exact ⟨⟨_, e3⟩, zcall.pure (c1_isInfinite hw e4 e3) (by decide) ⟨zitr, rfl, j, e1, e2, hh, rfl⟩⟩)
theorem c4_digitsOf {w : zG} (hw : zWf w) {n : Nat} (hn : zok 63 n) (H : Heap) : zCt w yX1_digitsOf wc_X1_digitsOf 2 0 0 [dv n] H (zPure (some (.long (dl n))) H) zNoX :=
  zCt.ofV [(0, dv n)] hw.1 (by decide +kernel) (Nat.le_of_ble_eq_true rfl) rfl fun g cx hq _ => zwp_sound (tk_X1_digitsOf cx hq) [] 40 (zcall.pure (c1_bits hw hn H) (by decide) ⟨rfl, rfl⟩)
theorem c4_wideFind {w : zG} (hw : zWf w) {x aw an : Nat} {W N : Nat → Nat} {wa na rf kn : Int32} {H : Heap} (hI : zXI w x aw an W N wa na rf kn H) (c l : Int32) : zCt w yX1_wideFind wc_X1_wideFind 9 1 6 [.ref x, .int c, .int l] H (fun v H' => H' = H ∧ ∃ j, j < 8 ∧ c = nI j ∧ v = some (.int (nI (if l = 0 then zff W (W j) 8 0 else zfb W (W j) 8 7)))) (fun E H' => E = zIO ∧ ¬ (0 ≤ c ∧ c ≤ 7) ∧ zGr H H') :=
  zCt.ofV [(0, .ref x), (1, .int c), (2, .int l)] hw.1 (by decide +kernel) (Nat.le_of_ble_eq_true rfl) rfl fun g cx hq _ => zwp_sound (tk_X1_wideFind cx hq) [(18, [0, 1, 2, 3, 4])] 80 (by
    have ox9 := hI.choose_spec.choose_spec.2.1
    refine ⟨⟨_, ox9⟩, zat1 hw hI c (by decide) (by decide) (by decide) (fun j r e1 e2 e3 e4 => ?_) (fun E H' f1 f2 f3 => ⟨f1, f2, f3⟩)⟩
    obtain ⟨dw, dn, h0, ox, ow, on, hw8, hn8⟩ := hI
    have step : ∀ (q i : Nat), i < 8 → q = (if l = 0 then zff W (W j) 8 0 else zfb W (W j) 8 7) → (W i = W j → q = i) → (¬ W i = W j → zV w g 9 0 0 18 [(0, .ref x), (1, .int c), (2, .int l), (3, .ref r), (4, .int (nI i + (if l = 0 then 1 else -1)))] [] H) → zV w g 9 0 0 18 [(0, .ref x), (1, .int c), (2, .int l), (3, .ref r), (4, .int (nI i))] [] H := by
      intro q i hi hqe h1 h2
      obtain ⟨s, g1, g2, g3⟩ := hw8 i hi
      refine zwp_sound (tk_X1_wideFind cx hq) [(18, [0, 1, 2, 3, 4])] 80 ⟨_, ox, _, _, i, s, ow, rfl, hi, by decide, g1, ⟨_, e3⟩, zcall.pure (c1_equals hw e4 g3 e3 g2) (by decide) ?_⟩
      by_cases he : W i = W j
      · rw [if_pos he.symm]
        exact ⟨fun _ => ⟨rfl, j, e1, e2, by rw [← hqe, h1 he]⟩, fun hz => absurd hz (by decide)⟩
      · rw [if_neg (fun e => he e.symm)]
        refine ⟨fun hz => absurd rfl hz, fun _ => ⟨fun hl => ?_, fun hl => ?_⟩⟩
        · have := h2 he
          rw [if_pos hl] at this
          exact this
        · have := h2 he
          rw [if_neg hl] at this
          exact this
    refine ⟨fun hl => ?_, fun hl => ?_⟩
    · have key : ∀ f i, i ≤ j → j < i + f → i + f = 8 → zff W (W j) f i = zff W (W j) 8 0 → zV w g 9 0 0 18 [(0, .ref x), (1, .int c), (2, .int l), (3, .ref r), (4, .int (nI i))] [] H := by
        intro f
        induction f with
        | zero => intro i h1 h2; omega
        | succ f ih =>
          intro i h1 h2 h3 h4
          refine step _ i (by omega) rfl (fun he => ?_) (fun he => ?_)
          · rw [if_pos hl, ← h4]
            unfold zff
            rw [if_pos he]
          · rw [if_pos hl, nI_1]
            have hij : i ≠ j := fun e => he (by rw [e])
            refine ih (i + 1) (by omega) (by omega) (by omega) ?_
            rw [← h4]
            conv => rhs; unfold zff
            rw [if_neg he]
      exact key 8 0 (by omega) (by omega) rfl rfl
    · have key : ∀ f i, i < 8 → j ≤ i → i + 1 = f → zfb W (W j) f i = zfb W (W j) 8 7 → zV w g 9 0 0 18 [(0, .ref x), (1, .int c), (2, .int l), (3, .ref r), (4, .int (nI i))] [] H := by
        intro f
        induction f with
        | zero => intro i h1 h2 h3; omega
        | succ f ih =>
          intro i h1 h2 h3 h4
          refine step _ i h1 rfl (fun he => ?_) (fun he => ?_)
          · rw [if_neg hl, ← h4]
            unfold zfb
            rw [if_pos he]
          · have hij : i ≠ j := fun e => he (by rw [e])
            obtain ⟨i', rfl⟩ : ∃ i', i = i' + 1 := ⟨i - 1, by omega⟩
            rw [if_neg hl, show nI (i' + 1) + (-1) = nI i' from pk_m1 i']
            refine ih i' (by omega) (by omega) (by omega) ?_
            rw [← h4]
            conv => rhs; unfold zfb
            rw [if_neg he]
            rfl
      exact key 8 7 (by omega) (by omega) rfl rfl)

theorem c3_ObjEqF {w : zG} (hw : zWf w) {p q a b : Nat} {H : Heap} (ha : zok 31 a) (hb : zok 31 b) (hp : zOb w p 2 [fv a] H) (hq2 : zOb w q 2 [fv b] H) : zCt w yJ22_equals wc_J22_equals 3 0 0 [.ref p, .ref q] H (zPure (some (.int (if a = b then 1 else 0))) H) zNoX :=
  zCt.ofV [(0, .ref p), (1, .ref q)] hw.1 (by decide +kernel) (Nat.le_of_ble_eq_true rfl) rfl fun g cx hq _ => zwp_sound (tk_J22_equalsF cx hq) [] 40 (by
    refine ⟨fun h => ?_, fun h => ?_⟩
    · subst h
      have hab : a = b := fl_inj ha.1 hb.1 (by obtain ⟨r1, e1, c1, p1, -, -, s1⟩ := hp; obtain ⟨r2, e2, c2, p2, -, -, s2⟩ := hq2; cases Option.some.inj (e1.symm.trans e2); cases Option.some.inj (p1.symm.trans p2); have q1 := s1 0 (by cases Option.some.inj (e1.symm.trans (rfl : zCl[2]? = some (RJ2, TJ2, 1))); decide); have q2 := s2 0 (by cases Option.some.inj (e1.symm.trans (rfl : zCl[2]? = some (RJ2, TJ2, 1))); decide); have q3 := Option.some.inj (q1.symm.trans q2); have q4 : fv a = fv b := q3; injection q4 with q5; show (UInt32.ofNat a).toInt32 = (UInt32.ofNat b).toInt32; rw [q5])
      exact ⟨zb2, by rw [if_pos hab], rfl⟩
    · refine ⟨⟨_, hp⟩, zcall.pure (c2_equals hw ha hb hp hq2) (by decide) ⟨fun h2 => ⟨zb1, by rw [if_neg (zite h2)], rfl⟩, fun h2 => ⟨zb2, by rw [if_pos (zitb h2)], rfl⟩⟩⟩)
theorem c4_narrowOrder {w : zG} (hw : zWf w) {x aw an : Nat} {W N : Nat → Nat} {wa na rf kn : Int32} {H : Heap} (hI : zXI w x aw an W N wa na rf kn H) (c i h : Int32) : zCt w yX1_narrowOrder wc_X1_narrowOrder 9 3 18 [.ref x, .int c, .int i, .int h] H (fun v H' => H' = H ∧ ∃ j k, j < 8 ∧ k < 8 ∧ c = nI j ∧ i = nI k ∧ (0 ≤ h ∧ h ≤ 2) ∧ v = some (.int (zcmp (zrnk 31 (N j)) (zrnk 31 (N k))))) (fun E H' => ((E = zIO ∧ (¬ (0 ≤ c ∧ c ≤ 7) ∨ ¬ (0 ≤ i ∧ i ≤ 7))) ∨ (E = zIA ∧ ((0 ≤ c ∧ c ≤ 7) ∧ (0 ≤ i ∧ i ≤ 7)) ∧ ¬ (0 ≤ h ∧ h ≤ 2))) ∧ zGr H H') :=
  zCt.ofV [(0, .ref x), (1, .int c), (2, .int i), (3, .int h)] hw.1 (by decide +kernel) (Nat.le_of_ble_eq_true rfl) rfl fun g cx hq _ => zwp_sound (tk_X1_narrowOrder cx hq) [] 80 (by
    have ox9 := hI.choose_spec.choose_spec.2.1
    refine ⟨⟨_, ox9⟩, zat2 hw hI c (by decide) (by decide) (by decide) (fun j r e1 e2 e3 e4 => ⟨⟨_, ox9⟩, zat2 hw hI i (by decide) (by decide) (by decide) (fun k s f1 f2 f3 f4 => zcall.pure (ct_X1_isIn w hw.1 h 0 2 H) (by decide) (zfitq hw (by decide) (by decide) (by decide) (fun hh => ?_) (fun E H' g1 g2 g3 => ⟨Or.inr ⟨g1, ⟨by rw [e2]; exact zcellI e1, by rw [f2]; exact zcellI f1⟩, g2⟩, g3⟩))) (fun E H' f1 f2 f3 => ⟨Or.inl ⟨f1, Or.inr f2⟩, f3⟩)⟩) (fun E H' f1 f2 f3 => ⟨Or.inl ⟨f1, Or.inl f2⟩, f3⟩)⟩
    have fin : H = H ∧ ∃ j k, j < 8 ∧ k < 8 ∧ c = nI j ∧ i = nI k ∧ (0 ≤ h ∧ h ≤ 2) ∧ (some (Value.int (zcmp (zrnk 31 (N j)) (zrnk 31 (N k)))) : Option Value) = some (.int (zcmp (zrnk 31 (N j)) (zrnk 31 (N k)))) := ⟨rfl, j, k, e1, f1, e2, f2, hh, rfl⟩
    have tail : H = H ∧ ∃ j' k', j' < 8 ∧ k' < 8 ∧ c = nI j' ∧ i = nI k' ∧ (0 ≤ h ∧ h ≤ 2) ∧ (some (Value.int (zcmp (zrnk 31 (N j)) (zrnk 31 (N k)))) : Option Value) = some (.int (zcmp (zrnk 31 (N j')) (zrnk 31 (N k')))) := ⟨rfl, j, k, e1, f1, e2, f2, hh, rfl⟩
    refine ⟨fun _ => ⟨fun _ => ?_, fun _ => ?_⟩, fun _ => ?_⟩
    · exact ⟨⟨_, e3⟩, zcall.pure (c2_compareTo2 hw e4 f4 e3 f3) (by decide) (zcall.pure (c4_signum hw _ _ H) (by decide) tail)⟩
    · exact ⟨⟨_, e3⟩, zcall.pure (c2_compareTo hw e4 f4 e3 f3) (by decide) (zcall.pure (c4_signum hw _ _ H) (by decide) tail)⟩
    · exact ⟨⟨_, e3⟩, zcall.pure (c2_value hw e3) (by decide) ⟨⟨_, f3⟩, zcall.pure (c2_value hw f3) (by decide) (zcall.pure (c2_compare hw e4 f4 H) (by decide) (zcall.pure (c4_signum hw _ _ H) (by decide) tail))⟩⟩)
theorem c4_narrowSame {w : zG} (hw : zWf w) {x aw an : Nat} {W N : Nat → Nat} {wa na rf kn : Int32} {H : Heap} (hI : zXI w x aw an W N wa na rf kn H) (c i h : Int32) : zCt w yX1_narrowSame wc_X1_narrowSame 9 3 18 [.ref x, .int c, .int i, .int h] H (fun v H' => H' = H ∧ ∃ j k, j < 8 ∧ k < 8 ∧ c = nI j ∧ i = nI k ∧ (0 ≤ h ∧ h ≤ 2) ∧ v = some (.int (if N j = N k then 1 else 0))) (fun E H' => ((E = zIO ∧ (¬ (0 ≤ c ∧ c ≤ 7) ∨ ¬ (0 ≤ i ∧ i ≤ 7))) ∨ (E = zIA ∧ ((0 ≤ c ∧ c ≤ 7) ∧ (0 ≤ i ∧ i ≤ 7)) ∧ ¬ (0 ≤ h ∧ h ≤ 2))) ∧ zGr H H') :=
  zCt.ofV [(0, .ref x), (1, .int c), (2, .int i), (3, .int h)] hw.1 (by decide +kernel) (Nat.le_of_ble_eq_true rfl) rfl fun g cx hq _ => zwp_sound (tk_X1_narrowSame cx hq) [] 80 (by
    have ox9 := hI.choose_spec.choose_spec.2.1
    refine ⟨⟨_, ox9⟩, zat2 hw hI c (by decide) (by decide) (by decide) (fun j r e1 e2 e3 e4 => ⟨⟨_, ox9⟩, zat2 hw hI i (by decide) (by decide) (by decide) (fun k s f1 f2 f3 f4 => zcall.pure (ct_X1_isIn w hw.1 h 0 2 H) (by decide) (zfitq hw (by decide) (by decide) (by decide) (fun hh => ?_) (fun E H' g1 g2 g3 => ⟨Or.inr ⟨g1, ⟨by rw [e2]; exact zcellI e1, by rw [f2]; exact zcellI f1⟩, g2⟩, g3⟩))) (fun E H' f1 f2 f3 => ⟨Or.inl ⟨f1, Or.inr f2⟩, f3⟩)⟩) (fun E H' f1 f2 f3 => ⟨Or.inl ⟨f1, Or.inl f2⟩, f3⟩)⟩
    have tail : ((if N j = N k then (1 : Int32) else 0) = 0 ∨ (if N j = N k then (1 : Int32) else 0) = 1) ∧ H = H ∧ ∃ j' k', j' < 8 ∧ k' < 8 ∧ c = nI j' ∧ i = nI k' ∧ (0 ≤ h ∧ h ≤ 2) ∧ (some (Value.int (if N j = N k then 1 else 0)) : Option Value) = some (.int (if N j' = N k' then 1 else 0)) := ⟨zitr, rfl, j, k, e1, f1, e2, f2, hh, rfl⟩
    refine ⟨fun _ => ⟨fun _ => ?_, fun _ => ?_⟩, fun _ => ?_⟩
    · exact zcall.pure (c3_ObjEqF hw e4 f4 e3 f3) (by decide) tail
    · exact ⟨⟨_, e3⟩, zcall.pure (c2_equals hw e4 f4 e3 f3) (by decide) tail⟩
    · exact ⟨⟨_, e3⟩, zcall.pure (c2_equals hw e4 f4 e3 f3) (by decide) tail⟩)
theorem c4_narrowLike {w : zG} (hw : zWf w) {x aw an : Nat} {W N : Nat → Nat} {wa na rf kn : Int32} {H : Heap} (hI : zXI w x aw an W N wa na rf kn H) (c i : Int32) : zCt w yX1_narrowLike wc_X1_narrowLike 9 2 12 [.ref x, .int c, .int i] H (fun v H' => H' = H ∧ ∃ j k, j < 8 ∧ k < 8 ∧ c = nI j ∧ i = nI k ∧ v = some (.int (if zkey 31 (N j) = zkey 31 (N k) then 1 else 0))) (fun E H' => E = zIO ∧ (¬ (0 ≤ c ∧ c ≤ 7) ∨ ¬ (0 ≤ i ∧ i ≤ 7)) ∧ zGr H H') :=
  zCt.ofV [(0, .ref x), (1, .int c), (2, .int i)] hw.1 (by decide +kernel) (Nat.le_of_ble_eq_true rfl) rfl fun g cx hq _ => zwp_sound (tk_X1_narrowLike cx hq) [] 80 (by
    have ox9 := hI.choose_spec.choose_spec.2.1
    refine ⟨⟨_, ox9⟩, zat2 hw hI c (by decide) (by decide) (by decide) (fun j r e1 e2 e3 e4 => ⟨⟨_, e3⟩, zcall.pure (c2_value hw e3) (by decide) ⟨⟨_, ox9⟩, zat2 hw hI i (by decide) (by decide) (by decide) (fun k s f1 f2 f3 f4 => ⟨⟨_, f3⟩, zcall.pure (c2_value hw f3) (by decide) ?_⟩) (fun E H' f1 f2 f3 => ⟨f1, Or.inr f2, f3⟩)⟩⟩) (fun E H' f1 f2 f3 => ⟨f1, Or.inl f2, f3⟩)⟩
    have q1 : ∀ op, Op.cmpValue (FP.fcmp (.ofNat (N j)) (.ofNat (N k))) op = zcmp (zkey 31 (N j)) (zkey 31 (N k)) := fun op => by rw [zfcmp e4 f4, zcv]
    refine ⟨fun hz => ?_, fun hz => ?_⟩
    · rw [q1, zcmp_eq] at hz
      exact ⟨zb1, rfl, j, k, e1, f1, e2, f2, by rw [if_neg hz]⟩
    · rw [q1, zcmp_eq] at hz
      exact ⟨zb2, rfl, j, k, e1, f1, e2, f2, by rw [if_pos hz]⟩)
theorem c4_narrowBelow {w : zG} (hw : zWf w) {x aw an : Nat} {W N : Nat → Nat} {wa na rf kn : Int32} {H : Heap} (hI : zXI w x aw an W N wa na rf kn H) (c i l : Int32) : zCt w yX1_narrowBelow wc_X1_narrowBelow 9 2 12 [.ref x, .int c, .int i, .int l] H (fun v H' => H' = H ∧ ∃ j k, j < 8 ∧ k < 8 ∧ c = nI j ∧ i = nI k ∧ v = some (.int (if zkey 31 (N j) < zkey 31 (N k) ∨ (¬ l = 0 ∧ zkey 31 (N j) = zkey 31 (N k)) then 1 else 0))) (fun E H' => E = zIO ∧ (¬ (0 ≤ c ∧ c ≤ 7) ∨ ¬ (0 ≤ i ∧ i ≤ 7)) ∧ zGr H H') :=
  zCt.ofV [(0, .ref x), (1, .int c), (2, .int i), (3, .int l)] hw.1 (by decide +kernel) (Nat.le_of_ble_eq_true rfl) rfl fun g cx hq _ => zwp_sound (tk_X1_narrowBelow cx hq) [] 80 (by
    have ox9 := hI.choose_spec.choose_spec.2.1
    refine ⟨⟨_, ox9⟩, zat2 hw hI c (by decide) (by decide) (by decide) (fun j r e1 e2 e3 e4 => ⟨⟨_, e3⟩, zcall.pure (c2_value hw e3) (by decide) ⟨⟨_, ox9⟩, zat2 hw hI i (by decide) (by decide) (by decide) (fun k s f1 f2 f3 f4 => ⟨⟨_, f3⟩, zcall.pure (c2_value hw f3) (by decide) ?_⟩) (fun E H' f1 f2 f3 => ⟨f1, Or.inr f2, f3⟩)⟩⟩) (fun E H' f1 f2 f3 => ⟨f1, Or.inl f2, f3⟩)⟩
    have q1 : ∀ op, Op.cmpValue (FP.fcmp (.ofNat (N j)) (.ofNat (N k))) op = zcmp (zkey 31 (N j)) (zkey 31 (N k)) := fun op => by rw [zfcmp e4 f4, zcv]
    refine ⟨fun hl0 => ⟨fun hz => ?_, fun hz => ?_⟩, fun hl0 => ⟨fun hz => ?_, fun hz => ?_⟩⟩
    · rw [q1, zcmp_ge] at hz
      exact ⟨zb1, rfl, j, k, e1, f1, e2, f2, by rw [if_neg]; rintro (q | q); omega; exact q.1 hl0⟩
    · rw [q1, zcmp_ge] at hz
      exact ⟨zb2, rfl, j, k, e1, f1, e2, f2, by rw [if_pos (Or.inl (by omega))]⟩
    · rw [q1, zcmp_gt] at hz
      exact ⟨zb1, rfl, j, k, e1, f1, e2, f2, by rw [if_neg]; rintro (q | q); omega; omega⟩
    · rw [q1, zcmp_gt] at hz
      refine ⟨zb2, rfl, j, k, e1, f1, e2, f2, ?_⟩
      rw [if_pos]
      by_cases q : zkey 31 (N j) = zkey 31 (N k)
      · exact Or.inr ⟨hl0, q⟩
      · exact Or.inl (by omega))
theorem c4_narrowHash {w : zG} (hw : zWf w) {x aw an : Nat} {W N : Nat → Nat} {wa na rf kn : Int32} {H : Heap} (hI : zXI w x aw an W N wa na rf kn H) (c h : Int32) : zCt w yX1_narrowHash wc_X1_narrowHash 9 2 12 [.ref x, .int c, .int h] H (fun v H' => H' = H ∧ ∃ j, j < 8 ∧ c = nI j ∧ (0 ≤ h ∧ h ≤ 1) ∧ v = some (.int (fl (N j)))) (fun E H' => ((E = zIO ∧ ¬ (0 ≤ c ∧ c ≤ 7)) ∨ (E = zIA ∧ (0 ≤ c ∧ c ≤ 7) ∧ ¬ (0 ≤ h ∧ h ≤ 1))) ∧ zGr H H') :=
  zCt.ofV [(0, .ref x), (1, .int c), (2, .int h)] hw.1 (by decide +kernel) (Nat.le_of_ble_eq_true rfl) rfl fun g cx hq _ => zwp_sound (tk_X1_narrowHash cx hq) [] 80 (by
    have ox9 := hI.choose_spec.choose_spec.2.1
    refine ⟨⟨_, ox9⟩, zat2 hw hI c (by decide) (by decide) (by decide) (fun j r e1 e2 e3 e4 => zcall.pure (ct_X1_isIn w hw.1 h 0 1 H) (by decide) (zfitq hw (by decide) (by decide) (by decide) (fun hh => ?_) (fun E H' g1 g2 g3 => ⟨Or.inr ⟨g1, by rw [e2]; exact zcellI e1, g2⟩, g3⟩))) (fun E H' f1 f2 f3 => ⟨Or.inl ⟨f1, f2⟩, f3⟩)⟩
    refine ⟨fun _ => ?_, fun _ => ?_⟩
    · exact ⟨⟨_, e3⟩, zcall.pure (c2_value hw e3) (by decide) (zcall.pure (c2_hashCode2 hw e4 H) (by decide) ⟨rfl, j, e1, e2, hh, rfl⟩)⟩
    · exact ⟨⟨_, e3⟩, zcall.pure (c2_hashCode hw e4 e3) (by decide) ⟨rfl, j, e1, e2, hh, rfl⟩⟩)
theorem c4_narrowEndless {w : zG} (hw : zWf w) {x aw an : Nat} {W N : Nat → Nat} {wa na rf kn : Int32} {H : Heap} (hI : zXI w x aw an W N wa na rf kn H) (c h : Int32) : zCt w yX1_narrowEndless wc_X1_narrowEndless 9 2 12 [.ref x, .int c, .int h] H (fun v H' => H' = H ∧ ∃ j, j < 8 ∧ c = nI j ∧ (0 ≤ h ∧ h ≤ 2) ∧ v = some (.int (if N j % 2 ^ 31 = 2139095040 then 1 else 0))) (fun E H' => ((E = zIO ∧ ¬ (0 ≤ c ∧ c ≤ 7)) ∨ (E = zIA ∧ (0 ≤ c ∧ c ≤ 7) ∧ ¬ (0 ≤ h ∧ h ≤ 2))) ∧ zGr H H') :=
  zCt.ofV [(0, .ref x), (1, .int c), (2, .int h)] hw.1 (by decide +kernel) (Nat.le_of_ble_eq_true rfl) rfl fun g cx hq _ => zwp_sound (tk_X1_narrowEndless cx hq) [] 80 (by
    have ox9 := hI.choose_spec.choose_spec.2.1
    refine ⟨⟨_, ox9⟩, zat2 hw hI c (by decide) (by decide) (by decide) (fun j r e1 e2 e3 e4 => zcall.pure (ct_X1_isIn w hw.1 h 0 2 H) (by decide) (zfitq hw (by decide) (by decide) (by decide) (fun hh => ?_) (fun E H' g1 g2 g3 => ⟨Or.inr ⟨g1, by rw [e2]; exact zcellI e1, g2⟩, g3⟩))) (fun E H' f1 f2 f3 => ⟨Or.inl ⟨f1, f2⟩, f3⟩)⟩
    refine ⟨fun _ => ⟨fun _ => ?_, fun _ => ?_⟩, fun _ => ?_⟩
    · refine ⟨⟨_, e3⟩, zcall.pure (c2_value hw e3) (by decide) (zcall.pure (c2_isFinite hw e4 H) (by decide) ⟨fun hz => ?_, fun hz => ?_⟩)⟩
      · have h9 : ¬ N j % 2 ^ 31 = 2139095040 := fun q => hz (if_pos q)
        exact ⟨zb1, rfl, j, e1, e2, hh, by rw [if_neg h9]⟩
      · have h9 : N j % 2 ^ 31 = 2139095040 := Classical.byContradiction fun q => absurd hz (by rw [if_neg q]; decide)
        exact ⟨zb2, rfl, j, e1, e2, hh, by rw [if_pos h9]⟩
    · exact ⟨⟨_, e3⟩, zcall.pure (c2_value hw e3) (by decide) (zcall.pure (c2_isInfinite2 hw e4 H) (by decide) ⟨zitr, rfl, j, e1, e2, hh, rfl⟩)⟩
    · exact ⟨⟨_, e3⟩, zcall.pure (c2_isInfinite hw e4 e3) (by decide) ⟨zitr, rfl, j, e1, e2, hh, rfl⟩⟩)
theorem c4_digitsOf_2 {w : zG} (hw : zWf w) {n : Nat} (hn : zok 31 n) (H : Heap) : zCt w yX1_digitsOf_2 wc_X1_digitsOf_2 2 0 0 [fv n] H (zPure (some (.int (fl n))) H) zNoX :=
  zCt.ofV [(0, fv n)] hw.1 (by decide +kernel) (Nat.le_of_ble_eq_true rfl) rfl fun g cx hq _ => zwp_sound (tk_X1_digitsOf_2 cx hq) [] 40 (zcall.pure (c2_bits hw hn H) (by decide) ⟨rfl, rfl⟩)
theorem c4_narrowFind {w : zG} (hw : zWf w) {x aw an : Nat} {W N : Nat → Nat} {wa na rf kn : Int32} {H : Heap} (hI : zXI w x aw an W N wa na rf kn H) (c l : Int32) : zCt w yX1_narrowFind wc_X1_narrowFind 9 1 6 [.ref x, .int c, .int l] H (fun v H' => H' = H ∧ ∃ j, j < 8 ∧ c = nI j ∧ v = some (.int (nI (if l = 0 then zff N (N j) 8 0 else zfb N (N j) 8 7)))) (fun E H' => E = zIO ∧ ¬ (0 ≤ c ∧ c ≤ 7) ∧ zGr H H') :=
  zCt.ofV [(0, .ref x), (1, .int c), (2, .int l)] hw.1 (by decide +kernel) (Nat.le_of_ble_eq_true rfl) rfl fun g cx hq _ => zwp_sound (tk_X1_narrowFind cx hq) [(18, [0, 1, 2, 3, 4])] 80 (by
    have ox9 := hI.choose_spec.choose_spec.2.1
    refine ⟨⟨_, ox9⟩, zat2 hw hI c (by decide) (by decide) (by decide) (fun j r e1 e2 e3 e4 => ?_) (fun E H' f1 f2 f3 => ⟨f1, f2, f3⟩)⟩
    obtain ⟨dw, dn, h0, ox, ow, on, hw8, hn8⟩ := hI
    have step : ∀ (q i : Nat), i < 8 → q = (if l = 0 then zff N (N j) 8 0 else zfb N (N j) 8 7) → (N i = N j → q = i) → (¬ N i = N j → zV w g 9 0 0 18 [(0, .ref x), (1, .int c), (2, .int l), (3, .ref r), (4, .int (nI i + (if l = 0 then 1 else -1)))] [] H) → zV w g 9 0 0 18 [(0, .ref x), (1, .int c), (2, .int l), (3, .ref r), (4, .int (nI i))] [] H := by
      intro q i hi hqe h1 h2
      obtain ⟨s, g1, g2, g3⟩ := hn8 i hi
      refine zwp_sound (tk_X1_narrowFind cx hq) [(18, [0, 1, 2, 3, 4])] 80 ⟨_, ox, _, _, i, s, on, rfl, hi, by decide, g1, ⟨_, e3⟩, zcall.pure (c2_equals hw e4 g3 e3 g2) (by decide) ?_⟩
      by_cases he : N i = N j
      · rw [if_pos he.symm]
        exact ⟨fun _ => ⟨rfl, j, e1, e2, by rw [← hqe, h1 he]⟩, fun hz => absurd hz (by decide)⟩
      · rw [if_neg (fun e => he e.symm)]
        refine ⟨fun hz => absurd rfl hz, fun _ => ⟨fun hl => ?_, fun hl => ?_⟩⟩
        · have := h2 he
          rw [if_pos hl] at this
          exact this
        · have := h2 he
          rw [if_neg hl] at this
          exact this
    refine ⟨fun hl => ?_, fun hl => ?_⟩
    · have key : ∀ f i, i ≤ j → j < i + f → i + f = 8 → zff N (N j) f i = zff N (N j) 8 0 → zV w g 9 0 0 18 [(0, .ref x), (1, .int c), (2, .int l), (3, .ref r), (4, .int (nI i))] [] H := by
        intro f
        induction f with
        | zero => intro i h1 h2; omega
        | succ f ih =>
          intro i h1 h2 h3 h4
          refine step _ i (by omega) rfl (fun he => ?_) (fun he => ?_)
          · rw [if_pos hl, ← h4]
            unfold zff
            rw [if_pos he]
          · rw [if_pos hl, nI_1]
            have hij : i ≠ j := fun e => he (by rw [e])
            refine ih (i + 1) (by omega) (by omega) (by omega) ?_
            rw [← h4]
            conv => rhs; unfold zff
            rw [if_neg he]
      exact key 8 0 (by omega) (by omega) rfl rfl
    · have key : ∀ f i, i < 8 → j ≤ i → i + 1 = f → zfb N (N j) f i = zfb N (N j) 8 7 → zV w g 9 0 0 18 [(0, .ref x), (1, .int c), (2, .int l), (3, .ref r), (4, .int (nI i))] [] H := by
        intro f
        induction f with
        | zero => intro i h1 h2 h3; omega
        | succ f ih =>
          intro i h1 h2 h3 h4
          refine step _ i h1 rfl (fun he => ?_) (fun he => ?_)
          · rw [if_neg hl, ← h4]
            unfold zfb
            rw [if_pos he]
          · have hij : i ≠ j := fun e => he (by rw [e])
            obtain ⟨i', rfl⟩ : ∃ i', i = i' + 1 := ⟨i - 1, by omega⟩
            rw [if_neg hl, show nI (i' + 1) + (-1) = nI i' from pk_m1 i']
            refine ih i' (by omega) (by omega) (by omega) ?_
            rw [← h4]
            conv => rhs; unfold zfb
            rw [if_neg he]
            rfl
      exact key 8 7 (by omega) (by omega) rfl rfl)

/-- the first and the last 32 digits -/
def zhi (n : Nat) : Int32 := (dl n >>> ((32 : Int32).toInt64 &&& 63)).toInt32
def zlo (n : Nat) : Int32 := (dl n).toInt32

theorem c4_upper {w : zG} (hw : zWf w) {x aw an : Nat} {W N : Nat → Nat} {wa na rf kn : Int32} {H : Heap} (hI : zXI w x aw an W N wa na rf kn H) (c : Int32) : zCt w yX1_upper wc_X1_upper 9 1 6 [.ref x, .int c] H (fun v H' => H' = H ∧ ∃ j, j < 8 ∧ c = nI j ∧ v = some (.int (zhi (W j)))) (fun E H' => E = zIO ∧ ¬ (0 ≤ c ∧ c ≤ 7) ∧ zGr H H') :=
  zCt.ofV [(0, .ref x), (1, .int c)] hw.1 (by decide +kernel) (Nat.le_of_ble_eq_true rfl) rfl fun g cx hq _ => zwp_sound (tk_X1_upper cx hq) [] 80 
    ⟨⟨_, hI.choose_spec.choose_spec.2.1⟩, zat1 hw hI c (by decide) (by decide) (by decide) (fun j r e1 e2 e3 e4 => ⟨⟨_, e3⟩, zcall.pure (c1_value hw e3) (by decide) (zcall.pure (c4_digitsOf hw e4 H) (by decide) ⟨rfl, j, e1, e2, rfl⟩)⟩) (fun E H' f1 f2 f3 => ⟨f1, f2, f3⟩)⟩
theorem c4_lower {w : zG} (hw : zWf w) {x aw an : Nat} {W N : Nat → Nat} {wa na rf kn : Int32} {H : Heap} (hI : zXI w x aw an W N wa na rf kn H) (c : Int32) : zCt w yX1_lower wc_X1_lower 9 1 6 [.ref x, .int c] H (fun v H' => H' = H ∧ ∃ j, j < 8 ∧ c = nI j ∧ v = some (.int (zlo (W j)))) (fun E H' => E = zIO ∧ ¬ (0 ≤ c ∧ c ≤ 7) ∧ zGr H H') :=
  zCt.ofV [(0, .ref x), (1, .int c)] hw.1 (by decide +kernel) (Nat.le_of_ble_eq_true rfl) rfl fun g cx hq _ => zwp_sound (tk_X1_lower cx hq) [] 80 
    ⟨⟨_, hI.choose_spec.choose_spec.2.1⟩, zat1 hw hI c (by decide) (by decide) (by decide) (fun j r e1 e2 e3 e4 => ⟨⟨_, e3⟩, zcall.pure (c1_value hw e3) (by decide) (zcall.pure (c4_digitsOf hw e4 H) (by decide) ⟨rfl, j, e1, e2, rfl⟩)⟩) (fun E H' f1 f2 f3 => ⟨f1, f2, f3⟩)⟩
theorem c4_digits {w : zG} (hw : zWf w) {x aw an : Nat} {W N : Nat → Nat} {wa na rf kn : Int32} {H : Heap} (hI : zXI w x aw an W N wa na rf kn H) (c : Int32) : zCt w yX1_digits wc_X1_digits 9 1 6 [.ref x, .int c] H (fun v H' => H' = H ∧ ∃ j, j < 8 ∧ c = nI j ∧ v = some (.int (fl (N j)))) (fun E H' => E = zIO ∧ ¬ (0 ≤ c ∧ c ≤ 7) ∧ zGr H H') :=
  zCt.ofV [(0, .ref x), (1, .int c)] hw.1 (by decide +kernel) (Nat.le_of_ble_eq_true rfl) rfl fun g cx hq _ => zwp_sound (tk_X1_digits cx hq) [] 80 
    ⟨⟨_, hI.choose_spec.choose_spec.2.1⟩, zat2 hw hI c (by decide) (by decide) (by decide) (fun j r e1 e2 e3 e4 => ⟨⟨_, e3⟩, zcall.pure (c2_value hw e3) (by decide) (zcall.pure (c4_digitsOf_2 hw e4 H) (by decide) ⟨rfl, j, e1, e2, rfl⟩)⟩) (fun E H' f1 f2 f3 => ⟨f1, f2, f3⟩)⟩
