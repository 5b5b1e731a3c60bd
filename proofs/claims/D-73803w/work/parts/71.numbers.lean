/-! laws of the numbers: what the pure programs of both classes compute -/
def nb (b : Bool) : Int32 := cond b 1 0
theorem nb_0 (b : Bool) : nb b = 0 ↔ b = false := by cases b <;> decide
theorem nb_t : nb true = 1 := rfl
theorem nb_f : nb false = 0 := rfl
theorem nb_01 (b : Bool) : nb b = 0 ∨ nb b = 1 := by cases b <;> decide
/-- a prime, as both classes try it -/
def pn_prime (n : Nat) : Prop := 1 < n ∧ ∀ d, 2 ≤ d → d * d ≤ n → ¬ n % d = 0
noncomputable def prB (n : Nat) : Bool := @decide (pn_prime n) (Classical.propDecidable _)
theorem prB_t {n : Nat} : prB n = true ↔ pn_prime n := @decide_eq_true_iff (pn_prime n) (Classical.propDecidable _)
theorem prB_f {n : Nat} : prB n = false ↔ ¬ pn_prime n := @decide_eq_false_iff_not (pn_prime n) (Classical.propDecidable _)
theorem pn_step {k q : Nat} (h : ∀ d, 2 ≤ d → d < q → d * d ≤ k → ¬ k % d = 0) (hq : ¬ k % q = 0) : ∀ d, 2 ≤ d → d < q + 1 → d * d ≤ k → ¬ k % d = 0 := by
  intro d h1 h2 h3
  rcases Nat.lt_or_ge d q with h4 | h4
  · exact h d h1 h4 h3
  · obtain rfl : d = q := by omega
    exact hq
theorem nq_sq {q n : Nat} (h : q * q ≤ n) (hn : n < 2 ^ 31) : q ≤ 46340 := by
  rcases Nat.lt_or_ge q 46341 with h1 | h1
  · omega
  · have := Nat.mul_le_mul h1 h1
    omega
theorem lN0 {q : Nat} (h2 : q < 2 ^ 63) : lN q = 0 ↔ q = 0 := by
  rw [show (0 : Int64) = lN 0 from rfl, pk_lEQ h2 (by omega)]
theorem lN1 {q : Nat} (h2 : q < 2 ^ 63) : lN q = 1 ↔ q = 1 := by
  rw [show (1 : Int64) = lN 1 from rfl, pk_lEQ h2 (by omega)]
theorem nx_isIn (K : Nat) (a lo hi : Int64) : fnX0_isIn K a lo hi = some (nb (decide (lo ≤ a ∧ a ≤ hi))) := by
  unfold fnX0_isIn
  by_cases h : a < lo
  · rw [if_pos h, decide_eq_false (fun q => absurd h (Int64.not_lt.mpr q.1))]; rfl
  · rw [if_neg h]
    by_cases h2 : hi < a
    · rw [if_pos h2, decide_eq_false (fun q => absurd h2 (Int64.not_lt.mpr q.2))]; rfl
    · rw [if_neg h2, decide_eq_true ⟨Int64.not_lt.mp h, Int64.not_lt.mp h2⟩]; rfl
theorem ny_in (K : Nat) (a lo hi : Int64) : fnX1_in K a lo hi = some (nb (decide (lo ≤ a ∧ a ≤ hi))) := nx_isIn K a lo hi
theorem nx_isNumber (K : Nat) (a : Int64) : fnX0_isNumber K a = some (nb (decide (2 ≤ a ∧ a ≤ 1000000000))) := by
  unfold fnX0_isNumber
  rw [nx_isIn]
  show (if _ then _ else _) = _
  rw [if_pos (nb_01 _)]
theorem ny_isNumber (K : Nat) (a : Int64) : fnX1_isNumber K a = some (nb (decide (2 ≤ a ∧ a ≤ 1000000000))) := by
  unfold fnX1_isNumber
  rw [ny_in]
  show (if _ then _ else _) = _
  rw [if_pos (nb_01 _)]
theorem nl_isPrime0 (K n : Nat) (hn : n < 2 ^ 31) : ∀ k q, 2 ≤ q → q ≤ 46341 → (∀ d, 2 ≤ d → d < q → d * d ≤ n → ¬ n % d = 0) → 46341 ≤ q + k → lfX0_isPrime K (k + 1) (lN n) (lN q) = some (nb (prB n)) := by
  intro k
  induction k with
  | zero =>
    intro q h2 hq hd hk
    have e : q = 46341 := by omega
    subst e
    show (if lN n < lN 46341 * lN 46341 then (if lN n ≤ lN 1 then some 0 else some 1) else _) = _
    rw [lN_mul, if_pos ((pk_lLT (by omega) (by omega)).mpr (by omega))]
    by_cases h1 : n ≤ 1
    · rw [if_pos ((pk_lLE (by omega) (by omega)).mpr h1), prB_f.mpr (fun h => by have := h.1; omega)]; rfl
    · rw [if_neg (fun h => h1 ((pk_lLE (by omega) (by omega)).mp h)), prB_t.mpr ⟨by omega, fun d a b => hd d a (by have := nq_sq b hn; omega) b⟩]; rfl
  | succ k ih =>
    intro q h2 hq hd hk
    have hqq : q * q < 2 ^ 63 := by have := Nat.mul_le_mul hq hq; omega
    show (if lN n < lN q * lN q then (if lN n ≤ lN 1 then some 0 else some 1) else (if ¬ lN q = 0 then (if lN n - lN n / lN q * lN q = lN 0 then some 0 else lfX0_isPrime K (k + 1) (lN n) (lN q + 1)) else none)) = _
    rw [lN_mul]
    by_cases h : n < q * q
    · rw [if_pos ((pk_lLT (by omega) hqq).mpr h)]
      by_cases h1 : n ≤ 1
      · rw [if_pos ((pk_lLE (by omega) (by omega)).mpr h1), prB_f.mpr (fun h => by have := h.1; omega)]; rfl
      · rw [if_neg (fun h => h1 ((pk_lLE (by omega) (by omega)).mp h)), prB_t.mpr ⟨by omega, fun d a b => hd d a (by
          rcases Nat.lt_or_ge d q with h4 | h4
          · exact h4
          · have := Nat.mul_le_mul h4 h4; omega) b⟩]; rfl
    · have h : q * q ≤ n := by omega
      have hq' := nq_sq h hn
      rw [if_neg (fun q => absurd ((pk_lLT (by omega) hqq).mp q) (by omega)), if_pos (fun e => by have := (lN0 (by omega)).mp e; omega), pk_lRem (by omega) (by omega) (by omega)]
      have hm : n % q < q := Nat.mod_lt _ (by omega)
      by_cases h0 : n % q = 0
      · rw [if_pos (by rw [h0]), prB_f.mpr (fun p => p.2 q h2 h h0)]; rfl
      · rw [if_neg (fun e => h0 ((pk_lEQ (by omega) (by omega)).mp e)), lN_1]
        exact ih (q + 1) (by omega) (by omega) (pn_step hd h0) (by omega)
theorem nx_isPrime (K n : Nat) (hK : 50000 ≤ K) (hn : n < 2 ^ 31) : fnX0_isPrime K (lN n) = some (nb (prB n)) := by
  obtain ⟨k, rfl⟩ : ∃ k, K = k + 1 := ⟨K - 1, by omega⟩
  exact nl_isPrime0 (k + 1) n hn k 2 (by omega) (by omega) (fun d a b => by omega) (by omega)
theorem nl_isPrime1 (K n : Nat) (hn : n < 2 ^ 31) (hn2 : 2 ≤ n) : ∀ k q, 2 ≤ q → q ≤ 46341 → (∀ d, 2 ≤ d → d < q → d * d ≤ n → ¬ n % d = 0) → 46341 ≤ q + k → lfX1_isPrime K (k + 1) (lN n) (lN q) = some (nb (prB n)) := by
  intro k
  induction k with
  | zero =>
    intro q h2 hq hd hk
    have e : q = 46341 := by omega
    subst e
    show (if lN n < lN 46341 * lN 46341 then some 1 else _) = _
    rw [lN_mul, if_pos ((pk_lLT (by omega) (by omega)).mpr (by omega))]
    rw [prB_t.mpr ⟨by omega, fun d a b => hd d a (by have := nq_sq b hn; omega) b⟩]; rfl
  | succ k ih =>
    intro q h2 hq hd hk
    have hqq : q * q < 2 ^ 63 := by have := Nat.mul_le_mul hq hq; omega
    show (if lN n < lN q * lN q then some 1 else (if ¬ lN q = 0 then (if lN n - lN n / lN q * lN q = lN 0 then some 0 else lfX1_isPrime K (k + 1) (lN n) (lN q + 1)) else none)) = _
    rw [lN_mul]
    by_cases h : n < q * q
    · rw [if_pos ((pk_lLT (by omega) hqq).mpr h)]
      rw [prB_t.mpr ⟨by omega, fun d a b => hd d a (by
          rcases Nat.lt_or_ge d q with h4 | h4
          · exact h4
          · have := Nat.mul_le_mul h4 h4; omega) b⟩]; rfl
    · have h : q * q ≤ n := by omega
      have hq' := nq_sq h hn
      rw [if_neg (fun q => absurd ((pk_lLT (by omega) hqq).mp q) (by omega)), if_pos (fun e => by have := (lN0 (by omega)).mp e; omega), pk_lRem (by omega) (by omega) (by omega)]
      have hm : n % q < q := Nat.mod_lt _ (by omega)
      by_cases h0 : n % q = 0
      · rw [if_pos (by rw [h0]), prB_f.mpr (fun p => p.2 q h2 h h0)]; rfl
      · rw [if_neg (fun e => h0 ((pk_lEQ (by omega) (by omega)).mp e)), lN_1]
        exact ih (q + 1) (by omega) (by omega) (pn_step hd h0) (by omega)
theorem ny_isPrime (K n : Nat) (hK : 50000 ≤ K) (hn : n < 2 ^ 31) : fnX1_isPrime K (lN n) = some (nb (prB n)) := by
  unfold fnX1_isPrime
  rw [show (2 : Int64) = lN 2 from rfl]
  by_cases h : 2 ≤ n
  · rw [if_pos ((pk_lLE (by omega) (by omega)).mpr h)]
    obtain ⟨k, rfl⟩ : ∃ k, K = k + 1 := ⟨K - 1, by omega⟩
    exact nl_isPrime1 (k + 1) n hn h k 2 (by omega) (by omega) (fun d a b => by omega) (by omega)
  · rw [if_neg (fun q => h ((pk_lLE (by omega) (by omega)).mp q)), prB_f.mpr (fun p => by have := p.1; omega)]; rfl
theorem nl_common (K : Nat) : ∀ b k a, a < 2 ^ 63 → b < 2 ^ 63 → b < k → lfX1_common K k (lN a) (lN b) = some (lN (Nat.gcd a b)) := by
  intro b
  induction b using Nat.strongRecOn with
  | ind b ih =>
    intro k a ha hb hk
    obtain ⟨k, rfl⟩ : ∃ j, k = j + 1 := ⟨k - 1, by omega⟩
    show (if lN b = 0 then some (lN a) else (if ¬ lN b = 0 then lfX1_common K k (lN b) (lN a - lN a / lN b * lN b) else none)) = _
    by_cases h : b = 0
    · subst h; rw [if_pos ((lN0 (by omega)).mpr rfl), Nat.gcd_zero_right]
    · rw [if_neg (fun e => h ((lN0 hb).mp e)), if_pos (fun e => h ((lN0 hb).mp e)), pk_lRem ha (by omega) hb]
      have hm : a % b < b := Nat.mod_lt _ (by omega)
      rw [ih (a % b) hm k b hb (by omega) (by omega), Nat.gcd_comm b (a % b), ← Nat.gcd_rec, Nat.gcd_comm]
