/-! contracts: Edgefloats, made -/
theorem zok0 {K : Nat} : zok K 0 := ⟨Nat.two_pow_pos _, by rw [Nat.zero_mod]; exact Nat.zero_le _⟩
theorem c4_init {w : zG} (hw : zWf w) {x : Nat} {H : Heap} (hN : zNew w x) (ho : zOb w x 0 [.null, .null, .int 0, .int 0, .int 0, .int 0] H) : zCt w yX1_init wc_X1_init 9 18 32 [.ref x] H (fun v H' => v = none ∧ (H.size ≤ H'.size ∧ ∀ q : Nat, q < H.size → q ≠ x → H'[q]? = H[q]?) ∧ ∃ aw an, (H.size ≤ aw ∧ H.size ≤ an) ∧ zXI w x aw an (fun _ => 0) (fun _ => 0) 0 0 0 0 H') zNoX :=
  zCt.ofV [(0, .ref x)] hw.1 (by decide +kernel) (Nat.le_of_ble_eq_true rfl) rfl fun g cx hq hold => zwp_sound (tk_X1_init cx hq) [(24, [0, 1])] 80 (by
    refine ⟨by decide, 8, rfl, by decide, by decide, by decide, fun H1 p1 a1 => ⟨_, p1.gr.ob ho, hN, fun H2 u2 o2 => ⟨8, rfl, by decide, by decide, by decide, fun H3 p3 a3 => ⟨_, p3.gr.ob o2, hN, fun H4 u4 o4 => ?_⟩⟩⟩⟩
    have hlt := ho.lt
    have hs1 : H1.size = H.size + 1 := p1.1
    have hs2 : H2.size = H1.size := u2.1
    have hs3 : H3.size = H2.size + 1 := p3.1
    have hs4 : H4.size = H3.size := u4.1
    have b1 : zAr w H.size 4 (zrefs (fun _ => none)) H4 := u4.ar (p3.gr.ar (u2.ar a1 (by omega))) (by omega)
    have b3 : zAr w H2.size 5 (zrefs (fun _ => none)) H4 := u4.ar a3 (by omega)
    have fr4 : H.size ≤ H4.size ∧ ∀ q : Nat, q < H.size → q ≠ x → H4[q]? = H[q]? := ⟨by omega, fun q h1 h2 => by rw [u4.2 q h2, p3.2 q (by omega), u2.2 q h2, p1.2 q h1]⟩
    generalize hA : H.size = A at *
    generalize hB : H2.size = B at *
    have hAB : A < B := by omega
    have key : ∀ f k H5 (dw dn : Nat → Option Nat), k + f = 8 → (H.size ≤ H5.size ∧ ∀ q : Nat, q < H.size → q ≠ x → H5[q]? = H[q]?) → zOb w x 0 [.ref A, .ref B, .int 0, .int 0, .int 0, .int 0] H5 → zAr w A 4 (zrefs dw) H5 → zAr w B 5 (zrefs dn) H5 → (∀ m, m < k → ∃ r, dw m = some r ∧ zOb w r 1 [dv 0] H5 ∧ zok 63 0) → (∀ m, m < k → ∃ r, dn m = some r ∧ zOb w r 2 [fv 0] H5 ∧ zok 31 0) → zV w g 9 (2 * f) (2 * f) 24 [(0, .ref x), (1, .int (nI k))] [] H5 := by
      intro f
      induction f with
      | zero =>
        intro k H5 dw dn h8 hf hx ha hb hw8 hn8
        obtain rfl : k = 8 := by omega
        refine zwp_sound (tk_X1_init cx hq) [] 40 ⟨fun _ => ⟨rfl, by rw [hA] at hf; exact hf, A, B, ⟨Nat.le_refl _, Nat.le_of_lt hAB⟩, dw, dn, ⟨hN, by rw [← hA]; exact hold.1, Nat.le_trans hold.1 (by omega)⟩, hx, ha, hb, hw8, hn8⟩, fun h => absurd (by decide) h⟩
      | succ f ih =>
        intro k H5 dw dn h8 hf hx ha hb hw8 hn8
        have hk : k < 8 := by omega
        have nA : zNew w A := by rw [← hA]; exact hold.1
        have nB : zNew w B := Nat.le_trans hold.1 (by omega)
        refine zwp_sound (tk_X1_init cx hq) [(24, [0, 1])] 80 ⟨fun h => absurd h (zLE8 hk), fun _ => ⟨_, hx, zcall.ret (c1_valueOf hw (n := 0) H5) (by decide) (by omega) (by omega) ?_⟩⟩
        rintro _ H6 ⟨rfl, p6, o6⟩ _
        refine ⟨_, _, k, p6.gr.ar ha, rfl, hk, by decide, nA, ⟨_, o6⟩, fun H7 u7 a7 => ?_⟩
        have x7 := u7.ob (p6.gr.ob hx) (hx.neA hw ha (by decide))
        have k7 : ∀ {b ci : Nat} {fs : List Value}, zOb w b ci fs H5 → zOb w b ci fs H7 := fun o => u7.ob (p6.gr.ob o) (o.neA hw ha (by decide))
        have b7 : zAr w B 5 (zrefs dn) H7 := u7.ar (p6.gr.ar hb) (by omega)
        refine ⟨_, x7, zcall.ret (c2_valueOf hw (n := 0) H7) (by decide) (by omega) (by omega) ?_⟩
        rintro _ H8 ⟨rfl, p8, o8⟩ _
        refine ⟨_, _, k, p8.gr.ar b7, rfl, hk, by decide, nB, ⟨_, o8⟩, fun H9 u9 a9 => ?_⟩
        have k9 : ∀ {b ci : Nat} {fs : List Value}, zOb w b ci fs H7 → zOb w b ci fs H9 := fun o => u9.ob (p8.gr.ob o) (o.neA hw b7 (by decide))
        have hA5 := ha.lt
        have hB5 := hb.lt
        have s6 : H6.size = H5.size + 1 := p6.1
        have s7 : H7.size = H6.size := u7.1
        have s8 : H8.size = H7.size + 1 := p8.1
        have s9 : H9.size = H8.size := u9.1
        have hz := ih (k + 1) H9 (va_up dw k (some H5.size)) (va_up dn k (some H7.size)) (by omega) ⟨by omega, fun q h1 h2 => by rw [u9.2 q (by omega), p8.2 q (by omega), u7.2 q (by omega), p6.2 q (by omega)]; exact hf.2 q h1 h2⟩ (k9 x7) (u9.ar (p8.gr.ar a7) (by omega)) a9 (fun m hm => by
          unfold va_up
          by_cases e : m = k
          · rw [if_pos e]
            exact ⟨_, rfl, k9 (u7.ob o6 (by omega)), zok0⟩
          · rw [if_neg e]
            obtain ⟨r, r1, r2, r3⟩ := hw8 m (by omega)
            exact ⟨r, r1, k9 (k7 r2), r3⟩) (fun m hm => by
          unfold va_up
          by_cases e : m = k
          · rw [if_pos e]
            exact ⟨_, rfl, u9.ob o8 (by omega), zok0⟩
          · rw [if_neg e]
            obtain ⟨r, r1, r2, r3⟩ := hn8 m (by omega)
            exact ⟨r, r1, k9 (k7 r2), r3⟩)
        rw [← nI_1] at hz
        exact hz.mono (by omega) (by omega)
    exact key 8 0 H4 _ _ rfl (by rw [hA]; exact fr4) o4 b1 b3 (fun m h => absurd h (Nat.not_lt_zero m)) (fun m h => absurd h (Nat.not_lt_zero m)))
