/-! the sign of Jacobi: both classes go the same way -/
/-- x over y, with a sign so far: rounds of the outer loop, halvings of the inner -/
def jH (y : Nat) : Nat → Nat → Int32 → Nat × Int32 := Nat.rec (motive := fun _ => Nat → Int32 → Nat × Int32) (fun x s => (x, s)) (fun _ F x s => if x % 2 = 0 then F (x / 2) (if y % 8 = 3 ∨ y % 8 = 5 then -s else s) else (x, s))
def jL : Nat → Nat → Nat → Int32 → Int32 := Nat.rec (motive := fun _ => Nat → Nat → Int32 → Int32) (fun _ _ _ => 0) (fun _ F x y s => if x = 0 then (if y = 1 then s else 0) else F (y % (jH y x x s).1) (jH y x x s).1 (if y % 4 = 3 ∧ (jH y x x s).1 % 4 = 3 then -(jH y x x s).2 else (jH y x x s).2))
/-- the sign of z over m -/
def jac (z : Int) (m : Nat) : Int32 := jL (m + 1) (z % (m : Int)).toNat m 1
theorem jH_s (y k x : Nat) (s : Int32) : jH y (k + 1) x s = if x % 2 = 0 then jH y k (x / 2) (if y % 8 = 3 ∨ y % 8 = 5 then -s else s) else (x, s) := rfl
theorem jL_s (k x y : Nat) (s : Int32) : jL (k + 1) x y s = if x = 0 then (if y = 1 then s else 0) else jL k (y % (jH y x x s).1) (jH y x x s).1 (if y % 4 = 3 ∧ (jH y x x s).1 % 4 = 3 then -(jH y x x s).2 else (jH y x x s).2) := rfl
/-- enough rounds are enough -/
theorem jH_k (y : Nat) : ∀ x, 0 < x → ∀ k k' s, x ≤ k → x ≤ k' → jH y k x s = jH y k' x s := by
  intro x
  induction x using Nat.strongRecOn with
  | ind x ih =>
    intro h0 k k' s hk hk'
    obtain ⟨k, rfl⟩ : ∃ q, k = q + 1 := ⟨k - 1, by omega⟩
    obtain ⟨k', rfl⟩ : ∃ q, k' = q + 1 := ⟨k' - 1, by omega⟩
    rw [jH_s, jH_s]
    by_cases h : x % 2 = 0
    · rw [if_pos h, if_pos h, ih (x / 2) (by omega) (by omega) k k' _ (by omega) (by omega)]
    · rw [if_neg h, if_neg h]
theorem jH_le (y : Nat) : ∀ k x s, 0 < x → (jH y k x s).1 ≤ x ∧ 0 < (jH y k x s).1 := by
  intro k
  induction k with
  | zero => intro x s h; exact ⟨Nat.le_refl _, h⟩
  | succ k ih =>
    intro x s h
    rw [jH_s]
    by_cases h2 : x % 2 = 0
    · rw [if_pos h2]
      have := ih (x / 2) (if y % 8 = 3 ∨ y % 8 = 5 then -s else s) (by omega)
      omega
    · rw [if_neg h2]; exact ⟨Nat.le_refl _, h⟩
theorem jL_k : ∀ x, ∀ k k' y s, x < k → x < k' → jL k x y s = jL k' x y s := by
  intro x
  induction x using Nat.strongRecOn with
  | ind x ih =>
    intro k k' y s hk hk'
    obtain ⟨k, rfl⟩ : ∃ q, k = q + 1 := ⟨k - 1, by omega⟩
    obtain ⟨k', rfl⟩ : ∃ q, k' = q + 1 := ⟨k' - 1, by omega⟩
    rw [jL_s, jL_s]
    by_cases h : x = 0
    · rw [if_pos h, if_pos h]
    · rw [if_neg h, if_neg h]
      have h1 := jH_le y x x s (by omega)
      have h2 := Nat.mod_lt y h1.2
      exact ih _ (by omega) k k' _ _ (by omega) (by omega)
theorem lN3 {q : Nat} (h2 : q < 2 ^ 63) : lN q = 3 ↔ q = 3 := pk_lEQ (b := 3) h2 (by omega)
theorem lN5 {q : Nat} (h2 : q < 2 ^ 63) : lN q = 5 ↔ q = 5 := pk_lEQ (b := 5) h2 (by omega)
theorem jx_half (K : Nat) (y : Nat) (hy : y < 2 ^ 62) : ∀ x, 0 < x → x < 2 ^ 62 → ∀ kk s, 2 * x + 2 ≤ kk → ∃ k', kk ≤ k' + 2 * (x - (jH y x x s).1) + 1 ∧ (lfX0_jacobiOf K kk).2.1 (lN x) (lN y) s = (lfX0_jacobiOf K k').2.2.2 (lN y) (lN (jH y x x s).1) (if y % 4 = 3 ∧ (jH y x x s).1 % 4 = 3 then -(jH y x x s).2 else (jH y x x s).2) := by
  intro x
  induction x using Nat.strongRecOn with
  | ind x ih =>
    intro h0 hx kk s hk
    obtain ⟨k, rfl⟩ : ∃ q, kk = q + 1 := ⟨kk - 1, by omega⟩
    obtain ⟨w, rfl⟩ : ∃ q, x = q + 1 := ⟨x - 1, by omega⟩
    rw [luX0_jacobiOf_2, show (2 : Int64) = lN 2 from rfl, pk_lRem (by omega) (by omega) (by omega), dzl]
    by_cases h : (w + 1) % 2 = 0
    · rw [if_pos ((lN0 (by omega)).mpr h), pk_lDiv (by omega) (by omega) (by omega), dzl, show (8 : Int64) = lN 8 from rfl, pk_lRem (by omega) (by omega) (by omega), dzl, dzl]
      have hj : jH y (w + 1) (w + 1) s = jH y ((w + 1) / 2) ((w + 1) / 2) (if y % 8 = 3 ∨ y % 8 = 5 then -s else s) := by
        rw [jH_s, if_pos h]; exact jH_k y _ (by omega) _ _ _ (by omega) (by omega)
      rw [hj]
      have hle := jH_le y ((w + 1) / 2) ((w + 1) / 2) (if y % 8 = 3 ∨ y % 8 = 5 then -s else s) (by omega)
      have key : ∀ s', s' = (if y % 8 = 3 ∨ y % 8 = 5 then -s else s) → ∀ kk', 2 * ((w + 1) / 2) + 2 ≤ kk' → k ≤ kk' + 1 → ∃ k', k + 1 ≤ k' + 2 * (w + 1 - (jH y ((w + 1) / 2) ((w + 1) / 2) (if y % 8 = 3 ∨ y % 8 = 5 then -s else s)).1) + 1 ∧ (lfX0_jacobiOf K kk').2.1 (lN ((w + 1) / 2)) (lN y) s' = (lfX0_jacobiOf K k').2.2.2 (lN y) (lN (jH y ((w + 1) / 2) ((w + 1) / 2) (if y % 8 = 3 ∨ y % 8 = 5 then -s else s)).1) (if y % 4 = 3 ∧ (jH y ((w + 1) / 2) ((w + 1) / 2) (if y % 8 = 3 ∨ y % 8 = 5 then -s else s)).1 % 4 = 3 then -(jH y ((w + 1) / 2) ((w + 1) / 2) (if y % 8 = 3 ∨ y % 8 = 5 then -s else s)).2 else (jH y ((w + 1) / 2) ((w + 1) / 2) (if y % 8 = 3 ∨ y % 8 = 5 then -s else s)).2) := by
        intro s' hs kk' h1 h2
        subst hs
        obtain ⟨k', q1, q2⟩ := ih ((w + 1) / 2) (by omega) (by omega) (by omega) kk' (if y % 8 = 3 ∨ y % 8 = 5 then -s else s) h1
        exact ⟨k', by omega, q2⟩
      obtain ⟨k2, rfl⟩ : ∃ q, k = q + 1 := ⟨k - 1, by omega⟩
      by_cases h3 : y % 8 = 3
      · rw [if_pos ((lN3 (by omega)).mpr h3), luX0_jacobiOf_3, dzl]
        exact key _ (by rw [if_pos (Or.inl h3)]) k2 (by omega) (by omega)
      · rw [if_neg (fun e => h3 ((lN3 (by omega)).mp e))]
        by_cases h5 : y % 8 = 5
        · rw [if_pos ((lN5 (by omega)).mpr h5), luX0_jacobiOf_3, dzl]
          exact key _ (by rw [if_pos (Or.inr h5)]) k2 (by omega) (by omega)
        · rw [if_neg (fun e => h5 ((lN5 (by omega)).mp e))]
          exact key _ (by rw [if_neg (fun q => q.elim h3 h5)]) (k2 + 1) (by omega) (by omega)
    · have hj : jH y (w + 1) (w + 1) s = (w + 1, s) := by rw [jH_s, if_neg h]
      rw [if_neg (fun e => h ((lN0 (by omega)).mp e)), hj, show (4 : Int64) = lN 4 from rfl, pk_lRem (by omega) (by omega) (by omega), pk_lRem (by omega) (by omega) (by omega), dzl]
      refine ⟨k, by omega, ?_⟩
      by_cases h3 : y % 4 = 3
      · rw [if_pos ((lN3 (by omega)).mpr h3), dzl]
        by_cases h4 : (w + 1) % 4 = 3
        · rw [if_pos ((lN3 (by omega)).mpr h4), if_pos ⟨h3, h4⟩, dzl]
        · rw [if_neg (fun e => h4 ((lN3 (by omega)).mp e)), if_neg (fun q => h4 q.2)]
      · rw [if_neg (fun e => h3 ((lN3 (by omega)).mp e)), if_neg (fun q => h3 q.1)]
theorem jx_loop (K : Nat) : ∀ x, x < 2 ^ 62 → ∀ kk y s, y < 2 ^ 62 → 4 * x + 8 ≤ kk → (lfX0_jacobiOf K kk).1 (lN x) (lN y) s = some (jL (x + 1) x y s) := by
  intro x
  induction x using Nat.strongRecOn with
  | ind x ih =>
    intro hx kk y s hy hk
    obtain ⟨k, rfl⟩ : ∃ q, kk = q + 1 := ⟨kk - 1, by omega⟩
    rw [luX0_jacobiOf_1, jL_s]
    by_cases h : x = 0
    · subst h
      rw [if_pos (show lN 0 = 0 from rfl), if_pos rfl]
      by_cases h1 : y = 1
      · rw [if_pos ((lN1 (by omega)).mpr h1), if_pos h1]
      · rw [if_neg (fun e => h1 ((lN1 (by omega)).mp e)), if_neg h1]
    · rw [if_neg (fun e => h ((lN0 (by omega)).mp e)), if_neg h]
      obtain ⟨k', q1, q2⟩ := jx_half K y hy x (by omega) hx k s (by omega)
      have hle := jH_le y x x s (by omega)
      have hm := Nat.mod_lt y hle.2
      obtain ⟨k', rfl⟩ : ∃ q, k' = q + 1 := ⟨k' - 1, by omega⟩
      rw [q2, luX0_jacobiOf_4, if_pos (pz_nz hle.2 (by omega)), pk_lRem (by omega) hle.2 (by omega), dzl, ih _ (by omega) (by omega) k' _ _ (by omega) (by omega)]
      rw [jL_k (y % (jH y x x s).1) (y % (jH y x x s).1 + 1) x _ _ (by omega) (by omega)]
theorem hx_jacobiOf (K : Nat) (z : Int) (m : Nat) (h1 : -(2 ^ 62) < z) (h2 : z < 2 ^ 62) (h0 : 0 < m) (hm : m < 2 ^ 31) (hK : 2 ^ 34 ≤ K) : fnX0_jacobiOf K (Int64.ofInt z) (lN m) = some (jac z m) := by
  unfold fnX0_jacobiOf
  have hl : (z % (m : Int)).toNat < m := by
    have := Int.emod_lt_of_pos z (show (0 : Int) < m by omega); omega
  rw [hj_floorMod K z m h1 h2 h0 hm, dzb, show (1 : Int32) = 1 from rfl, jx_loop K _ (by omega) K m 1 (by omega) (by omega)]
  unfold jac
  rw [jL_k _ _ (m + 1) _ _ (by omega) (by omega)]
theorem jy_half (K : Nat) (y : Nat) (hy : y < 2 ^ 62) : ∀ x, 0 < x → x < 2 ^ 62 → ∀ kk s, 2 * x + 2 ≤ kk → ∃ k', kk ≤ k' + 2 * (x - (jH y x x s).1) + 1 ∧ (lfX1_signOf K kk).2.2.1 (lN y) (lN x) s = (lfX1_signOf K k').2.2.2.2 (lN (jH y x x s).1) (lN y) (if y % 4 = 3 ∧ (jH y x x s).1 % 4 = 3 then -(jH y x x s).2 else (jH y x x s).2) := by
  intro x
  induction x using Nat.strongRecOn with
  | ind x ih =>
    intro h0 hx kk s hk
    obtain ⟨k, rfl⟩ : ∃ q, kk = q + 1 := ⟨kk - 1, by omega⟩
    obtain ⟨w, rfl⟩ : ∃ q, x = q + 1 := ⟨x - 1, by omega⟩
    rw [luX1_signOf_3, show (2 : Int64) = lN 2 from rfl, pk_lRem (by omega) (by omega) (by omega), dzl]
    by_cases h : (w + 1) % 2 = 0
    · rw [if_pos ((lN0 (by omega)).mpr h), pk_lDiv (by omega) (by omega) (by omega), dzl, show (8 : Int64) = lN 8 from rfl, pk_lRem (by omega) (by omega) (by omega), dzl, dzl]
      have hj : jH y (w + 1) (w + 1) s = jH y ((w + 1) / 2) ((w + 1) / 2) (if y % 8 = 3 ∨ y % 8 = 5 then -s else s) := by
        rw [jH_s, if_pos h]; exact jH_k y _ (by omega) _ _ _ (by omega) (by omega)
      rw [hj]
      have hle := jH_le y ((w + 1) / 2) ((w + 1) / 2) (if y % 8 = 3 ∨ y % 8 = 5 then -s else s) (by omega)
      have key : ∀ s', s' = (if y % 8 = 3 ∨ y % 8 = 5 then -s else s) → ∀ kk', 2 * ((w + 1) / 2) + 2 ≤ kk' → k ≤ kk' + 1 → ∃ k', k + 1 ≤ k' + 2 * (w + 1 - (jH y ((w + 1) / 2) ((w + 1) / 2) (if y % 8 = 3 ∨ y % 8 = 5 then -s else s)).1) + 1 ∧ (lfX1_signOf K kk').2.2.1 (lN y) (lN ((w + 1) / 2)) s' = (lfX1_signOf K k').2.2.2.2 (lN (jH y ((w + 1) / 2) ((w + 1) / 2) (if y % 8 = 3 ∨ y % 8 = 5 then -s else s)).1) (lN y) (if y % 4 = 3 ∧ (jH y ((w + 1) / 2) ((w + 1) / 2) (if y % 8 = 3 ∨ y % 8 = 5 then -s else s)).1 % 4 = 3 then -(jH y ((w + 1) / 2) ((w + 1) / 2) (if y % 8 = 3 ∨ y % 8 = 5 then -s else s)).2 else (jH y ((w + 1) / 2) ((w + 1) / 2) (if y % 8 = 3 ∨ y % 8 = 5 then -s else s)).2) := by
        intro s' hs kk' h1 h2
        subst hs
        obtain ⟨k', q1, q2⟩ := ih ((w + 1) / 2) (by omega) (by omega) (by omega) kk' (if y % 8 = 3 ∨ y % 8 = 5 then -s else s) h1
        exact ⟨k', by omega, q2⟩
      obtain ⟨k2, rfl⟩ : ∃ q, k = q + 1 := ⟨k - 1, by omega⟩
      by_cases h3 : y % 8 = 3
      · rw [if_pos ((lN3 (by omega)).mpr h3), luX1_signOf_4, dzl]
        exact key _ (by rw [if_pos (Or.inl h3)]) k2 (by omega) (by omega)
      · rw [if_neg (fun e => h3 ((lN3 (by omega)).mp e))]
        by_cases h5 : y % 8 = 5
        · rw [if_pos ((lN5 (by omega)).mpr h5), luX1_signOf_4, dzl]
          exact key _ (by rw [if_pos (Or.inr h5)]) k2 (by omega) (by omega)
        · rw [if_neg (fun e => h5 ((lN5 (by omega)).mp e))]
          exact key _ (by rw [if_neg (fun q => q.elim h3 h5)]) (k2 + 1) (by omega) (by omega)
    · have hj : jH y (w + 1) (w + 1) s = (w + 1, s) := by rw [jH_s, if_neg h]
      rw [if_neg (fun e => h ((lN0 (by omega)).mp e)), hj, show (4 : Int64) = lN 4 from rfl, pk_lRem (by omega) (by omega) (by omega), pk_lRem (by omega) (by omega) (by omega), dzl]
      refine ⟨k, by omega, ?_⟩
      by_cases h3 : y % 4 = 3
      · rw [if_pos ((lN3 (by omega)).mpr h3), dzl]
        by_cases h4 : (w + 1) % 4 = 3
        · rw [if_pos ((lN3 (by omega)).mpr h4), if_pos ⟨h3, h4⟩, dzl]
        · rw [if_neg (fun e => h4 ((lN3 (by omega)).mp e)), if_neg (fun q => h4 q.2)]
      · rw [if_neg (fun e => h3 ((lN3 (by omega)).mp e)), if_neg (fun q => h3 q.1)]
theorem jy_loop (K : Nat) : ∀ x, x < 2 ^ 62 → ∀ kk y s, y < 2 ^ 62 → 4 * x + 8 ≤ kk → (lfX1_signOf K kk).2.1 (lN y) (lN x) s = some (jL (x + 1) x y s) := by
  intro x
  induction x using Nat.strongRecOn with
  | ind x ih =>
    intro hx kk y s hy hk
    obtain ⟨k, rfl⟩ : ∃ q, kk = q + 1 := ⟨kk - 1, by omega⟩
    rw [luX1_signOf_2, jL_s]
    by_cases h : x = 0
    · subst h
      rw [if_pos (show lN 0 = 0 from rfl), if_pos rfl]
      by_cases h1 : y = 1
      · rw [if_pos ((lN1 (by omega)).mpr h1), if_pos h1]
      · rw [if_neg (fun e => h1 ((lN1 (by omega)).mp e)), if_neg h1]
    · rw [if_neg (fun e => h ((lN0 (by omega)).mp e)), if_neg h]
      obtain ⟨k', q1, q2⟩ := jy_half K y hy x (by omega) hx k s (by omega)
      have hle := jH_le y x x s (by omega)
      have hm := Nat.mod_lt y hle.2
      obtain ⟨k', rfl⟩ : ∃ q, k' = q + 1 := ⟨k' - 1, by omega⟩
      rw [q2, luX1_signOf_5, if_pos (pz_nz hle.2 (by omega)), pk_lRem (by omega) hle.2 (by omega), dzl, ih _ (by omega) (by omega) k' _ _ (by omega) (by omega)]
      rw [jL_k (y % (jH y x x s).1) (y % (jH y x x s).1 + 1) x _ _ (by omega) (by omega)]
theorem hy_signOf (K : Nat) (z : Int) (m : Nat) (h1 : -(2 ^ 62) < z) (h2 : z < 2 ^ 62) (h0 : 0 < m) (hm : m < 2 ^ 31) (hK : 2 ^ 34 ≤ K) : fnX1_signOf K (Int64.ofInt z) (lN m) = some (jac z m) := by
  unfold fnX1_signOf
  have hl : (z % (m : Int)).toNat < m := by
    have := Int.emod_lt_of_pos z (show (0 : Int) < m by omega); omega
  have hmm : 0 ≤ z % (m : Int) := Int.emod_nonneg _ (by omega)
  have e : lN (z % (m : Int)).toNat = Int64.ofInt (z % (m : Int)) := by rw [lN_z, Int.toNat_of_nonneg hmm]
  have fin : (lfX1_signOf K K).1 (lN m) (lN (z % (m : Int)).toNat) = some (jac z m) := by
    obtain ⟨k, rfl⟩ : ∃ q, K = q + 1 := ⟨K - 1, by omega⟩
    rw [luX1_signOf_1, jy_loop (k + 1) _ (by omega) k m 1 (by omega) (by omega)]
    unfold jac
    rw [jL_k _ _ (m + 1) _ _ (by omega) (by omega)]
  rw [if_pos (pz_nz h0 (by omega)), z_rem h1 h2 h0 hm, dzl]
  have hz0 : (0 : Int64).toInt = 0 := by decide
  by_cases hd : z.tmod m = z % (m : Int)
  · rw [hd, ← e, if_pos (by rw [show (0 : Int64) = lN 0 from rfl]; exact (pk_lLE (by omega) (by omega)).mpr (by omega))]
    exact fin
  · have ht : z.tmod m = z % (m : Int) - m := by
      rw [Int.tmod_eq_emod] at hd ⊢
      by_cases hc : 0 ≤ z ∨ (m : Int) ∣ z
      · rw [if_pos hc] at hd; omega
      · rw [if_neg hc]; omega
    rw [ht, if_neg (fun q => by
      have q := Int64.le_iff_toInt_le.mp q
      rw [hz0, z_toInt (by omega) (by omega)] at q
      omega), dzl, lN_z m, z_add, show z % (m : Int) - m + m = z % (m : Int) by omega, ← e, ← lN_z m]
    exact fin
