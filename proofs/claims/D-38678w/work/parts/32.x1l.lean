/-! contracts: Edgefloats, sound and digest -/
theorem zbit {p : Prop} [Decidable p] : (if (if p then (1 : Int32) else 0) = 0 then (0 : Int32) else 1) = if p then 1 else 0 := by
  by_cases h : p
  · rw [if_pos h, if_neg (by decide)]
  · rw [if_neg h, if_pos rfl]
theorem c4_bitP {w : zG} (hw : zWf w) {p : Prop} [Decidable p] (H : Heap) : zCt w yX1_bit wc_X1_bit 0 0 0 [.int (if p then 1 else 0)] H (zPure (some (.int (if p then 1 else 0))) H) zNoX := by
  have h := c4_bit hw (if p then 1 else 0) H
  rw [zbit] at h
  exact h
def zad (d v : Int64) : Int64 := 31 * d + v
theorem c4_add {w : zG} (hw : zWf w) (d v : Int64) (H : Heap) : zCt w yX1_add wc_X1_add 0 0 0 [.long d, .long v] H (zPure (some (.long (zad d v))) H) zNoX :=
  zCt.ofV [(0, .long d), (2, .long v)] hw.1 (by decide +kernel) (Nat.le_of_ble_eq_true rfl) rfl fun g cx hq _ => zwp_sound (tk_X1_add cx hq) [] 40 ⟨rfl, rfl⟩
/-- a loop: n rounds, the first one at a -/
def zlp (F : Nat → Int64 → Int64) (a : Nat) (d : Int64) : Nat → Int64
  | 0 => d
  | n + 1 => F (n + a) (zlp F a d n)
def zfn (W : Nat → Nat) (j : Nat) (l : Bool) : Nat := if l then zfb W (W j) 8 7 else zff W (W j) 8 0
def zlk (K : Nat) (W : Nat → Nat) (i j : Nat) : Int32 := if zkey K (W i) = zkey K (W j) then 1 else 0

theorem zct1 {w : zG} (hw : zWf w) {x aw an : Nat} {W N : Nat → Nat} {wa na rf kn : Int32} {H : Heap} (hI : zXI w x aw an W N wa na rf kn H) {j : Nat} (hj : j < 8) {d rc rs : Nat} {K : Nat → Nat → Option Value → Heap → Prop} {KX : Nat → Nat → String → Heap → Prop} (hd : 10 ≤ d) (h1 : 1 ≤ rc) (h2 : 6 ≤ rs) (kk : K 1 6 (some (.int (zqI 63 52 1073 1000000000 (W j)))) H) : zcall w yX1_wideCount wc_X1_wideCount [.ref x, .int (nI j)] H d rc rs K KX :=
  zcall.mk (c4_wideCount hw hI _) (by omega) h1 h2 (by
    rintro v _ ⟨rfl, j', e1, e2, rfl⟩ _
    obtain rfl := znIi hj e1 e2
    exact kk) (by
    rintro E H' ⟨_, q, _⟩ _
    exact absurd (zcellI hj) q)

theorem zfd1 {w : zG} (hw : zWf w) {x aw an : Nat} {W N : Nat → Nat} {wa na rf kn : Int32} {H : Heap} (hI : zXI w x aw an W N wa na rf kn H) {j : Nat} (hj : j < 8) {l : Bool} {d rc rs : Nat} {K : Nat → Nat → Option Value → Heap → Prop} {KX : Nat → Nat → String → Heap → Prop} (hd : 10 ≤ d) (h1 : 1 ≤ rc) (h2 : 6 ≤ rs) (kk : K 1 6 (some (.int (nI (zfn W j l)))) H) : zcall w yX1_wideFind wc_X1_wideFind [.ref x, .int (nI j), .int (if l then 1 else 0)] H d rc rs K KX :=
  zcall.mk (c4_wideFind hw hI _ _) (by omega) h1 h2 (by
    rintro v _ ⟨rfl, j', e1, e2, rfl⟩ _
    obtain rfl := znIi hj e1 e2
    have e : (if (if l = true then (1 : Int32) else 0) = 0 then zff W (W j) 8 0 else zfb W (W j) 8 7) = zfn W j l := by cases l <;> rfl
    rw [e]
    exact kk) (by
    rintro E H' ⟨_, q, _⟩ _
    exact absurd (zcellI hj) q)

theorem zha1 {w : zG} (hw : zWf w) {x aw an : Nat} {W N : Nat → Nat} {wa na rf kn : Int32} {H : Heap} (hI : zXI w x aw an W N wa na rf kn H) {j : Nat} (hj : j < 8) {d rc rs : Nat} {K : Nat → Nat → Option Value → Heap → Prop} {KX : Nat → Nat → String → Heap → Prop} (hd : 10 ≤ d) (h1 : 2 ≤ rc) (h2 : 12 ≤ rs) (kk : K 2 12 (some (.int (zhsh (W j)))) H) : zcall w yX1_wideHash wc_X1_wideHash [.ref x, .int (nI j), .int 0] H d rc rs K KX :=
  zcall.mk (c4_wideHash hw hI _ _) (by omega) h1 h2 (by
    rintro v _ ⟨rfl, j', e1, e2, _, rfl⟩ _
    obtain rfl := znIi hj e1 e2
    exact kk) (by
    rintro E H' ⟨q | q, _⟩ _
    · exact absurd (zcellI hj) q.2
    · exact absurd (by decide) q.2.2)

theorem zli1 {w : zG} (hw : zWf w) {x aw an : Nat} {W N : Nat → Nat} {wa na rf kn : Int32} {H : Heap} (hI : zXI w x aw an W N wa na rf kn H) {j k : Nat} (hj : j < 8) (hk : k < 8) {d rc rs : Nat} {K : Nat → Nat → Option Value → Heap → Prop} {KX : Nat → Nat → String → Heap → Prop} (hd : 10 ≤ d) (h1 : 2 ≤ rc) (h2 : 12 ≤ rs) (kk : K 2 12 (some (.int (zlk 63 W j k))) H) : zcall w yX1_wideLike wc_X1_wideLike [.ref x, .int (nI j), .int (nI k)] H d rc rs K KX :=
  zcall.mk (c4_wideLike hw hI _ _) (by omega) h1 h2 (by
    rintro v _ ⟨rfl, j', k', e1, e2, e3, e4, rfl⟩ _
    obtain rfl := znIi hj e1 e3
    obtain rfl := znIi hk e2 e4
    exact kk) (by
    rintro E H' ⟨_, q | q, _⟩ _
    · exact absurd (zcellI hj) q
    · exact absurd (zcellI hk) q)

theorem zct2 {w : zG} (hw : zWf w) {x aw an : Nat} {W N : Nat → Nat} {wa na rf kn : Int32} {H : Heap} (hI : zXI w x aw an W N wa na rf kn H) {j : Nat} (hj : j < 8) {d rc rs : Nat} {K : Nat → Nat → Option Value → Heap → Prop} {KX : Nat → Nat → String → Heap → Prop} (hd : 10 ≤ d) (h1 : 1 ≤ rc) (h2 : 6 ≤ rs) (kk : K 1 6 (some (.int (zqI 31 23 148 16000000 (N j)))) H) : zcall w yX1_narrowCount wc_X1_narrowCount [.ref x, .int (nI j)] H d rc rs K KX :=
  zcall.mk (c4_narrowCount hw hI _) (by omega) h1 h2 (by
    rintro v _ ⟨rfl, j', e1, e2, rfl⟩ _
    obtain rfl := znIi hj e1 e2
    exact kk) (by
    rintro E H' ⟨_, q, _⟩ _
    exact absurd (zcellI hj) q)

theorem zfd2 {w : zG} (hw : zWf w) {x aw an : Nat} {W N : Nat → Nat} {wa na rf kn : Int32} {H : Heap} (hI : zXI w x aw an W N wa na rf kn H) {j : Nat} (hj : j < 8) {l : Bool} {d rc rs : Nat} {K : Nat → Nat → Option Value → Heap → Prop} {KX : Nat → Nat → String → Heap → Prop} (hd : 10 ≤ d) (h1 : 1 ≤ rc) (h2 : 6 ≤ rs) (kk : K 1 6 (some (.int (nI (zfn N j l)))) H) : zcall w yX1_narrowFind wc_X1_narrowFind [.ref x, .int (nI j), .int (if l then 1 else 0)] H d rc rs K KX :=
  zcall.mk (c4_narrowFind hw hI _ _) (by omega) h1 h2 (by
    rintro v _ ⟨rfl, j', e1, e2, rfl⟩ _
    obtain rfl := znIi hj e1 e2
    have e : (if (if l = true then (1 : Int32) else 0) = 0 then zff N (N j) 8 0 else zfb N (N j) 8 7) = zfn N j l := by cases l <;> rfl
    rw [e]
    exact kk) (by
    rintro E H' ⟨_, q, _⟩ _
    exact absurd (zcellI hj) q)

theorem zha2 {w : zG} (hw : zWf w) {x aw an : Nat} {W N : Nat → Nat} {wa na rf kn : Int32} {H : Heap} (hI : zXI w x aw an W N wa na rf kn H) {j : Nat} (hj : j < 8) {d rc rs : Nat} {K : Nat → Nat → Option Value → Heap → Prop} {KX : Nat → Nat → String → Heap → Prop} (hd : 10 ≤ d) (h1 : 2 ≤ rc) (h2 : 12 ≤ rs) (kk : K 2 12 (some (.int (fl (N j)))) H) : zcall w yX1_narrowHash wc_X1_narrowHash [.ref x, .int (nI j), .int 0] H d rc rs K KX :=
  zcall.mk (c4_narrowHash hw hI _ _) (by omega) h1 h2 (by
    rintro v _ ⟨rfl, j', e1, e2, _, rfl⟩ _
    obtain rfl := znIi hj e1 e2
    exact kk) (by
    rintro E H' ⟨q | q, _⟩ _
    · exact absurd (zcellI hj) q.2
    · exact absurd (by decide) q.2.2)

theorem zli2 {w : zG} (hw : zWf w) {x aw an : Nat} {W N : Nat → Nat} {wa na rf kn : Int32} {H : Heap} (hI : zXI w x aw an W N wa na rf kn H) {j k : Nat} (hj : j < 8) (hk : k < 8) {d rc rs : Nat} {K : Nat → Nat → Option Value → Heap → Prop} {KX : Nat → Nat → String → Heap → Prop} (hd : 10 ≤ d) (h1 : 2 ≤ rc) (h2 : 12 ≤ rs) (kk : K 2 12 (some (.int (zlk 31 N j k))) H) : zcall w yX1_narrowLike wc_X1_narrowLike [.ref x, .int (nI j), .int (nI k)] H d rc rs K KX :=
  zcall.mk (c4_narrowLike hw hI _ _) (by omega) h1 h2 (by
    rintro v _ ⟨rfl, j', k', e1, e2, e3, e4, rfl⟩ _
    obtain rfl := znIi hj e1 e3
    obtain rfl := znIi hk e2 e4
    exact kk) (by
    rintro E H' ⟨_, q | q, _⟩ _
    · exact absurd (zcellI hj) q
    · exact absurd (zcellI hk) q)

theorem zup1 {w : zG} (hw : zWf w) {x aw an : Nat} {W N : Nat → Nat} {wa na rf kn : Int32} {H : Heap} (hI : zXI w x aw an W N wa na rf kn H) {j : Nat} (hj : j < 8) {d rc rs : Nat} {K : Nat → Nat → Option Value → Heap → Prop} {KX : Nat → Nat → String → Heap → Prop} (hd : 10 ≤ d) (h1 : 1 ≤ rc) (h2 : 6 ≤ rs) (kk : K 1 6 (some (.int (zhi (W j)))) H) : zcall w yX1_upper wc_X1_upper [.ref x, .int (nI j)] H d rc rs K KX :=
  zcall.mk (c4_upper hw hI _) (by omega) h1 h2 (by
    rintro v _ ⟨rfl, j', e1, e2, rfl⟩ _
    obtain rfl := znIi hj e1 e2
    exact kk) (by
    rintro E H' ⟨_, q, _⟩ _
    exact absurd (zcellI hj) q)

theorem zlo1 {w : zG} (hw : zWf w) {x aw an : Nat} {W N : Nat → Nat} {wa na rf kn : Int32} {H : Heap} (hI : zXI w x aw an W N wa na rf kn H) {j : Nat} (hj : j < 8) {d rc rs : Nat} {K : Nat → Nat → Option Value → Heap → Prop} {KX : Nat → Nat → String → Heap → Prop} (hd : 10 ≤ d) (h1 : 1 ≤ rc) (h2 : 6 ≤ rs) (kk : K 1 6 (some (.int (zlo (W j)))) H) : zcall w yX1_lower wc_X1_lower [.ref x, .int (nI j)] H d rc rs K KX :=
  zcall.mk (c4_lower hw hI _) (by omega) h1 h2 (by
    rintro v _ ⟨rfl, j', e1, e2, rfl⟩ _
    obtain rfl := znIi hj e1 e2
    exact kk) (by
    rintro E H' ⟨_, q, _⟩ _
    exact absurd (zcellI hj) q)

theorem zdg2 {w : zG} (hw : zWf w) {x aw an : Nat} {W N : Nat → Nat} {wa na rf kn : Int32} {H : Heap} (hI : zXI w x aw an W N wa na rf kn H) {j : Nat} (hj : j < 8) {d rc rs : Nat} {K : Nat → Nat → Option Value → Heap → Prop} {KX : Nat → Nat → String → Heap → Prop} (hd : 10 ≤ d) (h1 : 1 ≤ rc) (h2 : 6 ≤ rs) (kk : K 1 6 (some (.int (fl (N j)))) H) : zcall w yX1_digits wc_X1_digits [.ref x, .int (nI j)] H d rc rs K KX :=
  zcall.mk (c4_digits hw hI _) (by omega) h1 h2 (by
    rintro v _ ⟨rfl, j', e1, e2, rfl⟩ _
    obtain rfl := znIi hj e1 e2
    exact kk) (by
    rintro E H' ⟨_, q, _⟩ _
    exact absurd (zcellI hj) q)

def zdW (W : Nat → Nat) (k : Nat) (d : Int64) : Int64 := zad (zad (zad (zad (zad (zad d (zhi (W k)).toInt64) (zlo (W k)).toInt64) (zhsh (W k)).toInt64) (zqI 63 52 1073 1000000000 (W k)).toInt64) (nI (zfn W k false)).toInt64) (nI (zfn W k true)).toInt64
def zdN (N : Nat → Nat) (k : Nat) (d : Int64) : Int64 := zad (zad (zad (zad (zad d (fl (N k)).toInt64) (fl (N k)).toInt64) (zqI 31 23 148 16000000 (N k)).toInt64) (nI (zfn N k false)).toInt64) (nI (zfn N k true)).toInt64
def zdP (K : Nat) (W : Nat → Nat) (i b : Nat) (d : Int64) : Int64 := zad (zad d (zcmp (zrnk K (W i)) (zrnk K (W b))).toInt64) (zlk K W i b).toInt64
def zdPP (K : Nat) (W : Nat → Nat) (i : Nat) (d : Int64) : Int64 := zlp (zdP K W i) (i + 1) d (7 - i)
def zdH (wa na rf kn : Int32) (i : Nat) (d : Int64) : Int64 := zad d (zho wa na rf kn (nI i)).toInt64
/-- the checksum -/
def zdig (W N : Nat → Nat) (wa na rf kn : Int32) : Int64 := zad (zlp (zdH wa na rf kn) 0 (zlp (zdPP 31 N) 0 (zlp (zdPP 63 W) 0 (zlp (zdN N) 0 (zlp (zdW W) 0 7638 8) 8) 8) 8) 4) 1
section ZD
variable {w : zG} {g : zM} {P : zPo} {x aw an : Nat} {W N : Nat → Nat} {wa na rf kn : Int32} {H : Heap}
theorem zdl1 (hw : zWf w) (cx : zCx w g "Edgefloats" cX1_digest 5 (some FieldType.long) "digest" []) (hq : zCq w g P) {R S : Nat} {d0 : Int64} (hI : zXI w x aw an W N wa na rf kn H) (rest : zV w g 13 R S 79 [(0, .ref x), (1, .long (zlp (zdW W) 0 d0 8))] [] H) :
    ∀ f k, k + f = 8 → zV w g 13 (7 * f + R) (42 * f + S) 6 [(0, .ref x), (1, .long (zlp (zdW W) 0 d0 k)), (3, .int (nI k))] [] H := by
  have ox := hI.choose_spec.choose_spec.2.1
  intro f
  induction f with
  | zero =>
    intro k h8
    obtain rfl : k = 8 := by omega
    exact zwp_sound (tk_X1_digest cx hq) [(79, [0, 1])] 40 ⟨fun _ => rest.mono (by omega) (by omega), fun h => absurd (by decide) h⟩
  | succ f ih =>
    intro k h8
    have hk : k < 8 := by omega
    have hz := ih (k + 1) (by omega)
    rw [← nI_1] at hz
    exact zwp_sound (tk_X1_digest cx hq) [(6, [0, 1, 3])] 100 ⟨fun h => absurd h (zLE8 hk), fun _ => ⟨⟨_, ox⟩, zup1 hw hI hk (by decide) (by omega) (by omega) (zcall.pure (c4_add hw _ _ H) (by decide) ⟨⟨_, ox⟩, zlo1 hw hI hk (by decide) (by omega) (by omega) (zcall.pure (c4_add hw _ _ H) (by decide) ⟨⟨_, ox⟩, zha1 hw hI hk (by decide) (by omega) (by omega) (zcall.pure (c4_add hw _ _ H) (by decide) ⟨⟨_, ox⟩, zct1 hw hI hk (by decide) (by omega) (by omega) (zcall.pure (c4_add hw _ _ H) (by decide) ⟨⟨_, ox⟩, zfd1 hw hI hk (l := false) (by decide) (by omega) (by omega) (zcall.pure (c4_add hw _ _ H) (by decide) ⟨⟨_, ox⟩, zfd1 hw hI hk (l := true) (by decide) (by omega) (by omega) (zcall.pure (c4_add hw _ _ H) (by decide) (hz.mono (by omega) (by omega)))⟩)⟩)⟩)⟩)⟩)⟩⟩
theorem zdl2 (hw : zWf w) (cx : zCx w g "Edgefloats" cX1_digest 5 (some FieldType.long) "digest" []) (hq : zCq w g P) {R S : Nat} {d0 : Int64} (hI : zXI w x aw an W N wa na rf kn H) (rest : zV w g 13 R S 145 [(0, .ref x), (1, .long (zlp (zdN N) 0 d0 8))] [] H) :
    ∀ f k, k + f = 8 → zV w g 13 (6 * f + R) (36 * f + S) 81 [(0, .ref x), (1, .long (zlp (zdN N) 0 d0 k)), (3, .int (nI k))] [] H := by
  have ox := hI.choose_spec.choose_spec.2.1
  intro f
  induction f with
  | zero =>
    intro k h8
    obtain rfl : k = 8 := by omega
    exact zwp_sound (tk_X1_digest cx hq) [(145, [0, 1])] 40 ⟨fun _ => rest.mono (by omega) (by omega), fun h => absurd (by decide) h⟩
  | succ f ih =>
    intro k h8
    have hk : k < 8 := by omega
    have hz := ih (k + 1) (by omega)
    rw [← nI_1] at hz
    exact zwp_sound (tk_X1_digest cx hq) [(81, [0, 1, 3])] 100 ⟨fun h => absurd h (zLE8 hk), fun _ => ⟨⟨_, ox⟩, zdg2 hw hI hk (by decide) (by omega) (by omega) (zcall.pure (c4_add hw _ _ H) (by decide) ⟨⟨_, ox⟩, zha2 hw hI hk (by decide) (by omega) (by omega) (zcall.pure (c4_add hw _ _ H) (by decide) ⟨⟨_, ox⟩, zct2 hw hI hk (by decide) (by omega) (by omega) (zcall.pure (c4_add hw _ _ H) (by decide) ⟨⟨_, ox⟩, zfd2 hw hI hk (l := false) (by decide) (by omega) (by omega) (zcall.pure (c4_add hw _ _ H) (by decide) ⟨⟨_, ox⟩, zfd2 hw hI hk (l := true) (by decide) (by omega) (by omega) (zcall.pure (c4_add hw _ _ H) (by decide) (hz.mono (by omega) (by omega)))⟩)⟩)⟩)⟩)⟩⟩

theorem zdlp1 (hw : zWf w) (cx : zCx w g "Edgefloats" cX1_digest 5 (some FieldType.long) "digest" []) (hq : zCq w g P) {R S : Nat} {d0 : Int64} (hI : zXI w x aw an W N wa na rf kn H) (rest : zV w g 13 R S 205 [(0, .ref x), (1, .long (zlp (zdPP 63 W) 0 d0 8))] [] H) :
    ∀ f i, i + f = 8 → zV w g 13 (35 * f + R) (210 * f + S) 147 [(0, .ref x), (1, .long (zlp (zdPP 63 W) 0 d0 i)), (3, .int (nI i))] [] H := by
  have ox := hI.choose_spec.choose_spec.2.1
  intro f
  induction f with
  | zero =>
    intro k h8
    obtain rfl : k = 8 := by omega
    exact zwp_sound (tk_X1_digest cx hq) [(205, [0, 1])] 40 ⟨fun _ => rest.mono (by omega) (by omega), fun h => absurd (by decide) h⟩
  | succ f ih =>
    intro i h8
    have hi : i < 8 := by omega
    have hz := ih (i + 1) (by omega)
    have inner : ∀ e n, n + (i + 1) + e = 8 → zV w g 13 (5 * e + (35 * f + R)) (30 * e + (210 * f + S)) 158 [(0, .ref x), (1, .long (zlp (zdP 63 W i) (i + 1) (zlp (zdPP 63 W) 0 d0 i) n)), (3, .int (nI i)), (4, .int (nI (n + (i + 1))))] [] H := by
      intro e
      induction e with
      | zero =>
        intro n h9
        have hn : n + (i + 1) = 8 := by omega
        have hn2 : n = 7 - i := by omega
        rw [hn, hn2]
        rw [← nI_1] at hz
        exact zwp_sound (tk_X1_digest cx hq) [(147, [0, 1, 3])] 40 ⟨fun _ => hz.mono (by omega) (by omega), fun h => absurd (by decide) h⟩
      | succ e ihe =>
        intro n h9
        have hb : n + (i + 1) < 8 := by omega
        have hy := ihe (n + 1) (by omega)
        rw [show n + 1 + (i + 1) = n + (i + 1) + 1 from by omega, ← nI_1] at hy
        exact zwp_sound (tk_X1_digest cx hq) [(158, [0, 1, 3, 4])] 100 ⟨fun h => absurd h (zLE8 hb), fun _ => ⟨⟨_, ox⟩, zord1 hw hI hi hb (by decide) (by omega) (by omega) (by decide) (zcall.pure (c4_add hw _ _ H) (by decide) ⟨⟨_, ox⟩, zli1 hw hI hi hb (by decide) (by omega) (by omega) (zcall.pure (c4_bitP hw H) (by decide) (zcall.pure (c4_add hw _ _ H) (by decide) (hy.mono (by omega) (by omega))))⟩)⟩⟩
    have hy := inner (7 - i) 0 (by omega)
    rw [Nat.zero_add, ← nI_1] at hy
    exact zwp_sound (tk_X1_digest cx hq) [(158, [0, 1, 3, 4])] 40 ⟨fun h => absurd h (zLE8 hi), fun _ => hy.mono (by omega) (by omega)⟩

theorem zdlp2 (hw : zWf w) (cx : zCx w g "Edgefloats" cX1_digest 5 (some FieldType.long) "digest" []) (hq : zCq w g P) {R S : Nat} {d0 : Int64} (hI : zXI w x aw an W N wa na rf kn H) (rest : zV w g 13 R S 265 [(0, .ref x), (1, .long (zlp (zdPP 31 N) 0 d0 8))] [] H) :
    ∀ f i, i + f = 8 → zV w g 13 (35 * f + R) (210 * f + S) 207 [(0, .ref x), (1, .long (zlp (zdPP 31 N) 0 d0 i)), (3, .int (nI i))] [] H := by
  have ox := hI.choose_spec.choose_spec.2.1
  intro f
  induction f with
  | zero =>
    intro k h8
    obtain rfl : k = 8 := by omega
    exact zwp_sound (tk_X1_digest cx hq) [(265, [0, 1])] 40 ⟨fun _ => rest.mono (by omega) (by omega), fun h => absurd (by decide) h⟩
  | succ f ih =>
    intro i h8
    have hi : i < 8 := by omega
    have hz := ih (i + 1) (by omega)
    have inner : ∀ e n, n + (i + 1) + e = 8 → zV w g 13 (5 * e + (35 * f + R)) (30 * e + (210 * f + S)) 218 [(0, .ref x), (1, .long (zlp (zdP 31 N i) (i + 1) (zlp (zdPP 31 N) 0 d0 i) n)), (3, .int (nI i)), (4, .int (nI (n + (i + 1))))] [] H := by
      intro e
      induction e with
      | zero =>
        intro n h9
        have hn : n + (i + 1) = 8 := by omega
        have hn2 : n = 7 - i := by omega
        rw [hn, hn2]
        rw [← nI_1] at hz
        exact zwp_sound (tk_X1_digest cx hq) [(207, [0, 1, 3])] 40 ⟨fun _ => hz.mono (by omega) (by omega), fun h => absurd (by decide) h⟩
      | succ e ihe =>
        intro n h9
        have hb : n + (i + 1) < 8 := by omega
        have hy := ihe (n + 1) (by omega)
        rw [show n + 1 + (i + 1) = n + (i + 1) + 1 from by omega, ← nI_1] at hy
        exact zwp_sound (tk_X1_digest cx hq) [(218, [0, 1, 3, 4])] 100 ⟨fun h => absurd h (zLE8 hb), fun _ => ⟨⟨_, ox⟩, zord2 hw hI hi hb (by decide) (by omega) (by omega) (by decide) (zcall.pure (c4_add hw _ _ H) (by decide) ⟨⟨_, ox⟩, zli2 hw hI hi hb (by decide) (by omega) (by omega) (zcall.pure (c4_bitP hw H) (by decide) (zcall.pure (c4_add hw _ _ H) (by decide) (hy.mono (by omega) (by omega))))⟩)⟩⟩
    have hy := inner (7 - i) 0 (by omega)
    rw [Nat.zero_add, ← nI_1] at hy
    exact zwp_sound (tk_X1_digest cx hq) [(218, [0, 1, 3, 4])] 40 ⟨fun h => absurd h (zLE8 hi), fun _ => hy.mono (by omega) (by omega)⟩

theorem zdlh (hw : zWf w) (cx : zCx w g "Edgefloats" cX1_digest 5 (some FieldType.long) "digest" []) (hq : zCq w g P) {R S : Nat} {d0 : Int64} (hI : zXI w x aw an W N wa na rf kn H) (rest : ∀ H1, zGr H H1 → zV w g 13 R S 289 [(0, .ref x), (1, .long (zlp (zdH wa na rf kn) 0 d0 4))] [] H1) :
    ∀ f k H1, k + f = 4 → zGr H H1 → zV w g 13 (2 * f + R) (10 * f + S) 267 [(0, .ref x), (1, .long (zlp (zdH wa na rf kn) 0 d0 k)), (3, .int (nI k))] [] H1 := by
  intro f
  induction f with
  | zero =>
    intro k H1 h8 hg
    obtain rfl : k = 4 := by omega
    exact zwp_sound (tk_X1_digest cx hq) [(289, [0, 1])] 40 ⟨fun _ => (rest H1 hg).mono (by omega) (by omega), fun h => absurd (by decide) h⟩
  | succ f ih =>
    intro k H1 h8 hg
    have hk : k < 4 := by omega
    have hr : 0 ≤ nI k ∧ nI k ≤ 3 := ⟨nI_pos' (by omega), (nI_leI (a := k) (b := 3) (by omega) (by decide)).mpr (by omega)⟩
    refine zwp_sound (tk_X1_digest cx hq) [(267, [0, 1, 3])] 100 ⟨fun h => absurd h (by rw [Int32.le_iff_toInt_le, ziT (by omega), if_pos (by omega), show (4 : Int32).toInt = 4 from by decide]; omega), fun _ => ⟨⟨_, hg.ob hI.choose_spec.choose_spec.2.1⟩, zcall.mk (c4_house hw (hI.gr hg) _) (by decide) (by omega) (by omega) ?_ (by rintro E H' ⟨_, q, _⟩ _; exact absurd hr q)⟩⟩
    rintro v H2 ⟨hg2, _, rfl⟩ _
    have hz := ih (k + 1) H2 (by omega) (hg.trans hg2)
    rw [← nI_1] at hz
    exact zcall.pure (c4_add hw _ _ H2) (by decide) (hz.mono (by omega) (by omega))
end ZD
theorem c4_isSound {w : zG} (hw : zWf w) {x aw an : Nat} {W N : Nat → Nat} {wa na rf kn : Int32} {H : Heap} (hI : zXI w x aw an W N wa na rf kn H) : zCt w yX1_isSound wc_X1_isSound 12 10752 63232 [.ref x] H (fun v H' => v = some (.int 1) ∧ zGr H H') zNoX :=
  zCt.ofV [(0, .ref x)] hw.1 (by decide +kernel) (Nat.le_of_ble_eq_true rfl) rfl fun g cx hq _ => zwp_sound (tk_X1_isSound cx hq) [(4, [0, 1, 2])] 60 (by
    have e11 : (1 : Int32) &&& 1 = 1 := by decide
    have L3 : ∀ {R S i j : Nat}, i < 8 → j < 8 → (∀ H1, zGr H H1 → zV w g 12 R S 134 [(0, .ref x), (1, .int 1), (2, .int (nI i)), (3, .int (nI j))] [] H1) → ∀ f k H1, k + f = 8 → zGr H H1 → zV w g 12 (18 * f + R) (108 * f + S) 91 [(0, .ref x), (1, .int 1), (2, .int (nI i)), (3, .int (nI j)), (4, .int (nI k))] [] H1 := by
      intro R S i j hi hj rest f
      induction f with
      | zero =>
        intro k H1 h8 hg
        obtain rfl : k = 8 := by omega
        exact zwp_sound (tk_X1_isSound cx hq) [(134, [0, 1, 2, 3])] 40 ⟨fun _ => (rest H1 hg).mono (by omega) (by omega), fun h => absurd (by decide) h⟩
      | succ f ih =>
        intro k H1 h8 hg
        have hk : k < 8 := by omega
        have ox1 := hg.ob hI.choose_spec.choose_spec.2.1
        refine zwp_sound (tk_X1_isSound cx hq) [(91, [0, 1, 2, 3, 4])] 60 ⟨fun h => absurd h (zLE8 hk), fun _ => ⟨⟨_, ox1⟩, zcall.ret (c4_isWideThree hw (hI.gr hg) hi hj hk) (by decide) (by omega) (by omega) ?_⟩⟩
        rintro _ H2 ⟨rfl, g2⟩ _
        refine ⟨fun h => absurd h (by decide), fun _ => ⟨⟨_, g2.ob ox1⟩, zcall.ret (c4_isNarrowThree hw (hI.gr (hg.trans g2)) hi hj hk) (by decide) (by omega) (by omega) ?_⟩⟩
        rintro _ H3 ⟨rfl, g3⟩ _
        have hz := ih (k + 1) H3 (by omega) ((hg.trans g2).trans g3)
        rw [← nI_1] at hz
        refine ⟨fun h => absurd h (by decide), fun _ => ?_⟩
        exact hz.mono (by omega) (by omega)
    have L2 : ∀ {R S i : Nat}, i < 8 → (∀ H1, zGr H H1 → zV w g 12 R S 140 [(0, .ref x), (1, .int 1), (2, .int (nI i))] [] H1) → ∀ f k H1, k + f = 8 → zGr H H1 → zV w g 12 (168 * f + R) (988 * f + S) 56 [(0, .ref x), (1, .int 1), (2, .int (nI i)), (3, .int (nI k))] [] H1 := by
      intro R S i hi rest f
      induction f with
      | zero =>
        intro k H1 h8 hg
        obtain rfl : k = 8 := by omega
        exact zwp_sound (tk_X1_isSound cx hq) [(140, [0, 1, 2])] 40 ⟨fun _ => (rest H1 hg).mono (by omega) (by omega), fun h => absurd (by decide) h⟩
      | succ f ih =>
        intro k H1 h8 hg
        have hk : k < 8 := by omega
        have ox1 := hg.ob hI.choose_spec.choose_spec.2.1
        refine zwp_sound (tk_X1_isSound cx hq) [(91, [0, 1, 2, 3, 4])] 60 ⟨fun h => absurd h (zLE8 hk), fun _ => ⟨⟨_, ox1⟩, zcall.ret (c4_isWidePair hw (hI.gr hg) hi hk) (by decide) (by omega) (by omega) ?_⟩⟩
        rintro _ H2 ⟨rfl, g2⟩ _
        refine ⟨fun h => absurd h (by decide), fun _ => ⟨⟨_, g2.ob ox1⟩, zcall.ret (c4_isNarrowPair hw (hI.gr (hg.trans g2)) hi hk) (by decide) (by omega) (by omega) ?_⟩⟩
        rintro _ H3 ⟨rfl, g3⟩ _
        refine ⟨fun h => absurd h (by decide), fun _ => ?_⟩
        refine (L3 (R := 168 * f + R) (S := 988 * f + S) hi hk (fun H4 g4 => ?_) 8 0 H3 rfl ((hg.trans g2).trans g3)).mono (by omega) (by omega)
        have hz := ih (k + 1) H4 (by omega) g4
        rw [← nI_1] at hz
        exact zwp_sound (tk_X1_isSound cx hq) [(56, [0, 1, 2, 3])] 40 hz
    have L1 : ∀ f k H1, k + f = 8 → zGr H H1 → zV w g 12 (1344 * f) (7904 * f) 4 [(0, .ref x), (1, .int 1), (2, .int (nI k))] [] H1 := by
      intro f
      induction f with
      | zero =>
        intro k H1 h8 hg
        obtain rfl : k = 8 := by omega
        exact zwp_sound (tk_X1_isSound cx hq) [] 40 ⟨fun _ => ⟨zb2, rfl, hg⟩, fun h => absurd (by decide) h⟩
      | succ f ih =>
        intro k H1 h8 hg
        have hk : k < 8 := by omega
        obtain ⟨dw, dn, h0, ox, ow, on, hw8, hn8⟩ := hI.gr hg
        obtain ⟨r, r1, r2, r3⟩ := hw8 k hk
        obtain ⟨s, s1, s2, s3⟩ := hn8 k hk
        have nr : ¬ 9218868437227405312 < W k % 2 ^ 63 := by have := r3.2; rw [if_pos rfl] at this; omega
        have ns : ¬ 2139095040 < N k % 2 ^ 31 := by have := s3.2; rw [if_neg (by decide)] at this; omega
        refine zwp_sound (tk_X1_isSound cx hq) [(56, [0, 1, 2, 3])] 60 ⟨fun h => absurd h (zLE8 hk), fun _ => ⟨_, ox, _, _, k, r, ow, rfl, hk, by decide, r1, ⟨_, r2⟩, zcall.pure (c1_value hw r2) (by decide) (zcall.pure (c4_digitsOf hw r3 H1) (by decide) (zcall.pure (c4_isSpoiled hw r3.1 H1) (by decide) ⟨fun h => absurd (if_neg nr) h, fun _ => ⟨_, ox, _, _, k, s, on, rfl, hk, by decide, s1, ⟨_, s2⟩, zcall.pure (c2_value hw s2) (by decide) (zcall.pure (c4_digitsOf_2 hw s3 H1) (by decide) (zcall.pure (c4_isSpoiled_2 hw s3.1 H1) (by decide) ⟨fun h => absurd (if_neg ns) h, fun _ => ?_⟩))⟩⟩))⟩⟩
        refine (L2 (R := 1344 * f) (S := 7904 * f) hk (fun H4 g4 => ?_) 8 0 H1 rfl hg).mono (by omega) (by omega)
        have hz := ih (k + 1) H4 (by omega) g4
        rw [← nI_1] at hz
        exact zwp_sound (tk_X1_isSound cx hq) [(4, [0, 1, 2])] 40 hz
    exact L1 8 0 H rfl zGr.rf)
theorem zT1 {w : zG} {g : zM} {P : zPo} (cx : zCx w g "Edgefloats" cX1_digest 5 (some FieldType.long) "digest" []) (hq : zCq w g P) {x : Nat} {H : Heap} {D3 : Int64} {R S : Nat} (h : zV w g 13 R S 207 [(0, .ref x), (1, .long D3), (3, .int (nI 0))] [] H) : zV w g 13 R S 205 [(0, .ref x), (1, .long D3)] [] H := by
  refine zwp_sound (tk_X1_digest cx hq) [(207, [0, 1, 3])] 60 ?_
  exact h
theorem zT2 {w : zG} {g : zM} {P : zPo} (hw : zWf w) (cx : zCx w g "Edgefloats" cX1_digest 5 (some FieldType.long) "digest" []) (hq : zCq w g P) {x aw an : Nat} {W N : Nat → Nat} {wa na rf kn : Int32} {H : Heap} (hI : zXI w x aw an W N wa na rf kn H) {D3 : Int64} {R S : Nat} (rest : zV w g 13 R S 265 [(0, .ref x), (1, .long (zlp (zdPP 31 N) 0 D3 8))] [] H) : zV w g 13 (35 * 8 + R) (210 * 8 + S) 207 [(0, .ref x), (1, .long D3), (3, .int (nI 0))] [] H := by
  have h := zdlp2 hw cx hq (d0 := D3) hI rest 8 0 rfl
  exact h
theorem zT3 {w : zG} {g : zM} {P : zPo} (cx : zCx w g "Edgefloats" cX1_digest 5 (some FieldType.long) "digest" []) (hq : zCq w g P) {x : Nat} {H : Heap} {D3 : Int64} {R S : Nat} (h : zV w g 13 R S 267 [(0, .ref x), (1, .long D3), (3, .int (nI 0))] [] H) : zV w g 13 R S 265 [(0, .ref x), (1, .long D3)] [] H := by
  refine zwp_sound (tk_X1_digest cx hq) [(267, [0, 1, 3])] 60 ?_
  exact h
theorem zT4 {w : zG} {g : zM} {P : zPo} (hw : zWf w) (cx : zCx w g "Edgefloats" cX1_digest 5 (some FieldType.long) "digest" []) (hq : zCq w g P) {x aw an : Nat} {W N : Nat → Nat} {wa na rf kn : Int32} {H : Heap} (hI : zXI w x aw an W N wa na rf kn H) {D5 : Int64} {R S : Nat} (fin : ∀ H2, zGr H H2 → P.1 (some (.long (zad D5 1))) H2) : zV w g 13 (10752 + R) (63232 + S) 289 [(0, .ref x), (1, .long D5)] [] H := by
  refine zwp_sound (tk_X1_digest cx hq) [] 60 ⟨⟨_, hI.choose_spec.choose_spec.2.1⟩, zcall.ret (c4_isSound hw hI) (by decide) (by omega) (by omega) ?_⟩
  rintro _ H2 ⟨rfl, g2⟩ _
  exact zcall.pure (c4_bit hw 1 H2) (by decide) (zcall.pure (c4_add hw _ _ H2) (by decide) (fin H2 g2))
theorem zdlB {w : zG} {g : zM} {P : zPo} (hw : zWf w) (cx : zCx w g "Edgefloats" cX1_digest 5 (some FieldType.long) "digest" []) (hq : zCq w g P) {x aw an : Nat} {W N : Nat → Nat} {wa na rf kn : Int32} {H : Heap} (hI : zXI w x aw an W N wa na rf kn H) {D3 D4 D5 : Int64} {R S : Nat} (h4 : zlp (zdPP 31 N) 0 D3 8 = D4) (h5 : zlp (zdH wa na rf kn) 0 D4 4 = D5) (fin : ∀ H2, zGr H H2 → P.1 (some (.long (zad D5 1))) H2) : zV w g 13 (35 * 8 + (2 * 4 + (10752 + R))) (210 * 8 + (10 * 4 + (63232 + S))) 205 [(0, .ref x), (1, .long D3)] [] H := by
  refine zT1 cx hq (zT2 hw cx hq hI ?_)
  rw [h4]
  refine zT3 cx hq ?_
  refine zdlh hw cx hq (d0 := D4) hI (fun H1 g1 => ?_) 4 0 H rfl zGr.rf
  rw [h5]
  exact zT4 hw cx hq (hI.gr g1) (fun H2 g2 => fin H2 (g1.trans g2))
theorem c4_digest {w : zG} (hw : zWf w) {x aw an : Nat} {W N : Nat → Nat} {wa na rf kn : Int32} {H : Heap} (hI : zXI w x aw an W N wa na rf kn H) : zCt w yX1_digest wc_X1_digest 13 11424 67256 [.ref x] H (fun v H' => v = some (.long (zdig W N wa na rf kn)) ∧ zGr H H') zNoX :=
  zCt.ofV [(0, .ref x)] hw.1 (by decide +kernel) (Nat.le_of_ble_eq_true rfl) rfl fun g cx hq _ => zwp_sound (tk_X1_digest cx hq) [(6, [0, 1, 3])] 60 (by
    refine (zdl1 hw cx hq (R := 11368) (S := 66920) hI ?_ 8 0 rfl).mono (by decide) (by decide)
    generalize h1 : zlp (zdW W) 0 7638 8 = D1
    refine zwp_sound (tk_X1_digest cx hq) [(81, [0, 1, 3])] 60 ?_
    refine (zdl2 hw cx hq (R := 11320) (S := 66632) (d0 := D1) hI ?_ 8 0 rfl).mono (by decide) (by decide)
    generalize h2 : zlp (zdN N) 0 D1 8 = D2
    refine zwp_sound (tk_X1_digest cx hq) [(147, [0, 1, 3])] 60 ?_
    refine (zdlp1 hw cx hq (R := 11040) (S := 64952) (d0 := D2) hI ?_ 8 0 rfl).mono (by decide) (by decide)
    generalize h3 : zlp (zdPP 63 W) 0 D2 8 = D3
    exact (zdlB hw cx hq hI (R := 0) (S := 0) rfl rfl (fun H2 g2 => ⟨by unfold zdig; rw [h1, h2, h3], g2⟩)).mono (by decide) (by decide))
