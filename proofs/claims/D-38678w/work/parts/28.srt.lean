/-! sorted rows: how often a number stands in a row; sorted rows with like counts are the same -/
def zc (W : Nat → Nat) (v : Nat) : Nat → Nat
  | 0 => 0
  | n + 1 => zc W v n + (if W n = v then 1 else 0)
theorem zc_cg {W V : Nat → Nat} {v : Nat} : ∀ n, (∀ k, k < n → W k = V k) → zc W v n = zc V v n
  | 0, _ => rfl
  | n + 1, h => by
    unfold zc
    rw [zc_cg n (fun k hk => h k (by omega)), h n (by omega)]
theorem zc_up {W : Nat → Nat} {v j x : Nat} : ∀ n, j < n → zc (zup W j x) v n + (if W j = v then 1 else 0) = zc W v n + (if x = v then 1 else 0)
  | 0, h => by omega
  | n + 1, h => by
    unfold zc
    by_cases e : j = n
    · subst e
      rw [zc_cg (W := zup W j x) (V := W) j (fun k hk => by unfold zup; rw [if_neg (by omega)])]
      have : zup W j x j = x := by unfold zup; rw [if_pos rfl]
      rw [this]
      omega
    · have h1 := zc_up (W := W) (v := v) (x := x) (j := j) n (by omega)
      have : zup W j x n = W n := by unfold zup; rw [if_neg (by omega)]
      rw [this]
      omega
theorem zc_swap {W : Nat → Nat} {v i j n : Nat} (hi : i < n) (hj : j < n) : zc (zup (zup W i (W j)) j (W i)) v n = zc W v n := by
  have h1 := zc_up (W := W) (v := v) (x := W j) n hi
  have h2 := zc_up (W := zup W i (W j)) (v := v) (x := W i) n hj
  have h3 : zup W i (W j) j = W j := by
    unfold zup
    by_cases e : j = i
    · rw [if_pos e]
    · rw [if_neg e]
  rw [h3] at h2
  omega
theorem zc_no {W : Nat → Nat} {v k : Nat} : ∀ n, k ≤ n → (∀ j, k ≤ j → j < n → W j ≠ v) → zc W v n = zc W v k
  | 0, h, _ => by obtain rfl : k = 0 := by omega
                  rfl
  | n + 1, h, hn => by
    by_cases e : k = n + 1
    · rw [e]
    · show zc W v n + _ = _
      rw [zc_no n (by omega) (fun j h1 h2 => hn j h1 (by omega)), if_neg (hn n (by omega) (by omega))]
      rfl
theorem zc_mono {W : Nat → Nat} {v k : Nat} : ∀ n, k ≤ n → zc W v k ≤ zc W v n
  | 0, h => by obtain rfl : k = 0 := by omega
               exact Nat.le_refl _
  | n + 1, h => by
    by_cases e : k = n + 1
    · rw [e]; exact Nat.le_refl _
    · exact Nat.le_trans (zc_mono n (by omega)) (Nat.le_add_right _ _)
/-- in order up to n -/
def zsrt (K : Nat) (W : Nat → Nat) (n : Nat) : Prop := ∀ i j, i < j → j < n → zrnk K (W i) ≤ zrnk K (W j)
theorem zrnk_inj {K a b : Nat} (ha : a < 2 ^ (K + 1)) (hb : b < 2 ^ (K + 1)) (h : zrnk K a = zrnk K b) : a = b := by
  unfold zrnk at h
  have h1 := Nat.div_add_mod a (2 ^ K)
  have h2 := Nat.div_add_mod b (2 ^ K)
  have h3 := Nat.mod_lt a (Nat.two_pow_pos K)
  have h4 := Nat.mod_lt b (Nat.two_pow_pos K)
  rw [Nat.pow_succ] at ha hb
  have q : ∀ n, n < 2 ^ K * 2 → 2 ^ K ≤ n → n % 2 ^ K = n - 2 ^ K := by
    intro n h1 h2
    rw [Nat.mod_eq_sub_mod h2, Nat.mod_eq_of_lt (by omega)]
  split at h <;> split at h
  · rename_i p1 p2
    have := q a ha p1; have := q b hb p2; omega
  · omega
  · omega
  · rename_i p1 p2
    rw [Nat.mod_eq_of_lt (by omega), Nat.mod_eq_of_lt (by omega)] at h
    omega
theorem zsrt_uq {K n : Nat} {W V : Nat → Nat} (hW : ∀ k, k < n → W k < 2 ^ (K + 1)) (hV : ∀ k, k < n → V k < 2 ^ (K + 1)) (sW : zsrt K W n) (sV : zsrt K V n) (hc : ∀ v, zc W v n = zc V v n) : ∀ k, k < n → W k = V k := by
  have key : ∀ (W V : Nat → Nat), (∀ k, k < n → W k < 2 ^ (K + 1)) → (∀ k, k < n → V k < 2 ^ (K + 1)) → zsrt K V n → (∀ v, zc W v n = zc V v n) → ∀ k, k < n → (∀ j, j < k → W j = V j) → ¬ zrnk K (W k) < zrnk K (V k) := by
    intro W V hW hV sV hc k hk hj hlt
    have h1 : zc V (W k) n = zc V (W k) k := zc_no n (by omega) (fun j g1 g2 e => by
      rcases Nat.lt_or_ge k j with g | g
      · have := sV k j g g2
        rw [e] at this; omega
      · obtain rfl : j = k := by omega
        rw [e] at hlt; omega)
    have h2 : zc W (W k) (k + 1) ≤ zc W (W k) n := zc_mono n (by omega)
    have h3 : zc W (W k) (k + 1) = zc W (W k) k + 1 := by show _ + _ = _; rw [if_pos rfl]
    have h4 := zc_cg (W := W) (V := V) (v := W k) k hj
    have h5 := hc (W k)
    omega
  intro k
  induction k using Nat.strongRecOn with
  | ind k ih =>
    intro hk
    have hj : ∀ j, j < k → W j = V j := fun j g => ih j g (by omega)
    have h1 := key W V hW hV sV hc k hk hj
    have h2 := key V W hV hW sW (fun v => (hc v).symm) k hk (fun j g => (hj j g).symm)
    exact zrnk_inj (hW k hk) (hV k hk) (by omega)
/-- how many places differ -/
def zdf (W V : Nat → Nat) : Nat → Nat
  | 0 => 0
  | k + 1 => zdf W V k + (if W k = V k then 0 else 1)
theorem zdf_le {W V : Nat → Nat} : ∀ n, zdf W V n ≤ n
  | 0 => Nat.le_refl _
  | n + 1 => by have := zdf_le (W := W) (V := V) n; unfold zdf; split <;> omega
theorem zdf_cg {W V X : Nat → Nat} : ∀ n, (∀ k, k < n → V k = X k) → zdf W V n = zdf W X n
  | 0, _ => rfl
  | n + 1, h => by unfold zdf; rw [zdf_cg n (fun k hk => h k (by omega)), h n (by omega)]
/-- inserting: in order up to k, but for the place p -/
def zinv (K : Nat) (W : Nat → Nat) (k p : Nat) : Prop := ∀ i j, i < j → j ≤ k → j ≠ p → zrnk K (W i) ≤ zrnk K (W j)
theorem zinv_0 {K k : Nat} {W : Nat → Nat} (h : zsrt K W k) : zinv K W k k := fun i j h1 h2 h3 => h i j h1 (by omega)
theorem zinv_z {K k : Nat} {W : Nat → Nat} (h : zinv K W k 0) : zsrt K W (k + 1) := fun i j h1 h2 => h i j h1 (by omega) (by omega)
theorem zinv_d {K k p : Nat} {W : Nat → Nat} (h : zinv K W k (p + 1)) (hp : ¬ zrnk K (W (p + 1)) < zrnk K (W p)) : zsrt K W (k + 1) := by
  intro i j h1 h2
  by_cases e : j = p + 1
  · subst e
    by_cases e2 : i = p
    · subst e2; omega
    · by_cases e3 : i < p
      · have := h i p e3 (by omega) (by omega); omega
      · omega
  · exact h i j h1 (by omega) e
theorem zinv_s {K k p : Nat} {W : Nat → Nat} (hk : p + 1 ≤ k) (h : zinv K W k (p + 1)) (hp : zrnk K (W (p + 1)) < zrnk K (W p)) : zinv K (zup (zup W (p + 1) (W p)) p (W (p + 1))) k p := by
  intro i j h1 h2 h3
  have ev : ∀ m, zup (zup W (p + 1) (W p)) p (W (p + 1)) m = if m = p then W (p + 1) else if m = p + 1 then W p else W m := fun m => rfl
  rw [ev, ev, if_neg h3]
  by_cases ej : j = p + 1
  · rw [if_pos ej]
    by_cases ei : i = p
    · rw [if_pos ei]; omega
    · rw [if_neg ei, if_neg (by omega)]
      exact h i p (by omega) (by omega) (by omega)
  · rw [if_neg ej]
    by_cases ei : i = p
    · rw [if_pos ei]
      by_cases g : j ≤ p
      · omega
      · exact h (p + 1) j (by omega) h2 ej
    · rw [if_neg ei]
      by_cases ei2 : i = p + 1
      · rw [if_pos ei2]
        exact h p j (by omega) h2 ej
      · rw [if_neg ei2]
        exact h i j h1 h2 ej
