/-! gcds of the class, floorMod, Lucas sequences of both classes -/
theorem gx_common : ∀ j a b k, a < 2 ^ j → j ≤ 62 → b < 2 ^ 63 → 2 * j + 1 ≤ k → fnX0_common k (lN a) (lN b) = some (lN (Nat.gcd a b)) := by
  intro j
  induction j with
  | zero =>
    intro a b k ha _ hb hk
    obtain ⟨k, rfl⟩ : ∃ q, k = q + 1 := ⟨k - 1, by omega⟩
    have : a = 0 := by rw [Nat.pow_zero] at ha; omega
    subst this
    show (if lN 0 = 0 then some (lN b) else (if ¬ lN 0 = 0 then dz_b (fnX0_common k (lN b - lN b / lN 0 * lN 0) (lN 0)) (fun x => some x) else none)) = _
    rw [if_pos (show lN 0 = 0 from rfl), Nat.gcd_zero_left]
  | succ j ih =>
    intro a b k ha hj hb hk
    obtain ⟨k, rfl⟩ : ∃ q, k = q + 1 := ⟨k - 1, by omega⟩
    have hp : (2 : Nat) ^ (j + 1) ≤ 2 ^ 62 := Nat.pow_le_pow_right (by omega) hj
    show (if lN a = 0 then some (lN b) else (if ¬ lN a = 0 then dz_b (fnX0_common k (lN b - lN b / lN a * lN a) (lN a)) (fun x => some x) else none)) = _
    by_cases h0 : a = 0
    · subst h0; rw [if_pos (show lN 0 = 0 from rfl), Nat.gcd_zero_left]
    · rw [if_neg (fun e => h0 ((lN0 (by omega)).mp e)), if_pos (fun e => h0 ((lN0 (by omega)).mp e)), pk_lRem hb (by omega) (by omega)]
      obtain ⟨k, rfl⟩ : ∃ q, k = q + 1 := ⟨k - 1, by omega⟩
      have hm : b % a < a := Nat.mod_lt _ (by omega)
      suffices hs : fnX0_common (k + 1) (lN (b % a)) (lN a) = some (lN (Nat.gcd (b % a) a)) by
        rw [hs, dzb, ← Nat.gcd_rec]
      show (if lN (b % a) = 0 then some (lN a) else (if ¬ lN (b % a) = 0 then dz_b (fnX0_common k (lN a - lN a / lN (b % a) * lN (b % a)) (lN (b % a))) (fun x => some x) else none)) = _
      by_cases h1 : b % a = 0
      · rw [h1, if_pos (show lN 0 = 0 from rfl), Nat.gcd_zero_left]
      · rw [if_neg (fun e => h1 ((lN0 (by omega)).mp e)), if_pos (fun e => h1 ((lN0 (by omega)).mp e)), pk_lRem (by omega) (by omega) (by omega)]
        have h2 : a % (b % a) < 2 ^ j := by
          have q1 : a % (b % a) < b % a := Nat.mod_lt _ (by omega)
          have q2 := Nat.div_add_mod a (b % a)
          have q3 : 1 ≤ a / (b % a) := (Nat.one_le_div_iff (by omega)).mpr (by omega)
          have q4 : b % a * 1 ≤ b % a * (a / (b % a)) := Nat.mul_le_mul_left _ q3
          rw [Nat.pow_succ] at ha
          omega
        rw [ih _ _ k h2 (by omega) (by omega) (by omega), dzb, ← Nat.gcd_rec]
theorem hx_common (a b : Nat) (ha : a < 2 ^ 34) (hb : b < 2 ^ 63) : fnX0_common 100 (lN a) (lN b) = some (lN (Nat.gcd a b)) := gx_common 34 a b 100 ha (by omega) hb (by omega)
theorem lN_z (n : Nat) : lN n = Int64.ofInt (n : Int) := (Int64.ofInt_eq_ofNat (n := n)).symm
theorem z_sub (a b : Int) : Int64.ofInt a - Int64.ofInt b = Int64.ofInt (a - b) := (Int64.ofInt_sub a b).symm
theorem z_mul (a b : Int) : Int64.ofInt a * Int64.ofInt b = Int64.ofInt (a * b) := (Int64.ofInt_mul a b).symm
theorem z_add (a b : Int) : Int64.ofInt a + Int64.ofInt b = Int64.ofInt (a + b) := (Int64.ofInt_add a b).symm
theorem z_toInt {z : Int} (h1 : -(2 ^ 63) ≤ z) (h2 : z < 2 ^ 63) : (Int64.ofInt z).toInt = z := Int64.toInt_ofInt_of_le h1 h2
theorem z_xor_neg {z : Int} {m : Nat} (h1 : -(2 ^ 62) < z) (h2 : z < 0) (hm : m < 2 ^ 31) : ¬ (0 : Int64) ≤ Int64.ofInt z ^^^ lN m := by
  intro h
  have h3 : (0 : Int) ≤ (Int64.ofInt z ^^^ lN m).toInt := by
    have := Int64.le_iff_toInt_le.mp h
    exact this
  have e1 : (Int64.ofInt z).toBitVec.msb = true := by
    rw [BitVec.msb_eq_toInt, decide_eq_true_iff]
    show (Int64.ofInt z).toInt < 0
    rw [z_toInt (by omega) (by omega)]; exact h2
  have e2 : (lN m).toBitVec.msb = false := by
    rw [BitVec.msb_eq_toInt, decide_eq_false_iff_not]
    show ¬ (lN m).toInt < 0
    rw [pf_lI (by omega)]; omega
  have e3 : (Int64.ofInt z ^^^ lN m).toBitVec.msb = true := by
    rw [Int64.toBitVec_xor, BitVec.msb_xor, e1, e2]; rfl
  rw [BitVec.msb_eq_toInt, decide_eq_true_iff] at e3
  have e3 : (Int64.ofInt z ^^^ lN m).toInt < 0 := e3
  omega
theorem z_xor_pos {n m : Nat} (h1 : n < 2 ^ 62) (hm : m < 2 ^ 31) : (0 : Int64) ≤ lN n ^^^ lN m := by
  have e1 : (lN n).toBitVec.msb = false := by
    rw [BitVec.msb_eq_toInt, decide_eq_false_iff_not]
    show ¬ (lN n).toInt < 0
    rw [pf_lI (by omega)]; omega
  have e2 : (lN m).toBitVec.msb = false := by
    rw [BitVec.msb_eq_toInt, decide_eq_false_iff_not]
    show ¬ (lN m).toInt < 0
    rw [pf_lI (by omega)]; omega
  have e3 : (lN n ^^^ lN m).toBitVec.msb = false := by
    rw [Int64.toBitVec_xor, BitVec.msb_xor, e1, e2]; rfl
  rw [BitVec.msb_eq_toInt, decide_eq_false_iff_not] at e3
  have e3 : ¬ (lN n ^^^ lN m).toInt < 0 := e3
  apply Int64.le_iff_toInt_le.mpr
  show (0 : Int) ≤ _
  omega
theorem z_rem {z : Int} {m : Nat} (h1 : -(2 ^ 62) < z) (h2 : z < 2 ^ 62) (h0 : 0 < m) (hm : m < 2 ^ 31) : Int64.ofInt z - Int64.ofInt z / lN m * lN m = Int64.ofInt (z.tmod m) := by
  have e : Int64.ofInt z / lN m = Int64.ofInt (z.tdiv m) := by
    apply Int64.toInt_inj.mp
    rw [Int64.toInt_div_of_ne_right _ _ (fun q => by
      have := congrArg Int64.toInt q
      rw [pf_lI (by omega)] at this
      have h9 : (-1 : Int64).toInt = -1 := by decide
      rw [h9] at this
      omega), z_toInt (by omega) (by omega), pf_lI (by omega)]
    have hb : (z.tdiv m).natAbs ≤ z.natAbs := Int.natAbs_tdiv_le_natAbs _ _
    rw [z_toInt (by omega) (by omega)]
  rw [e, lN_z, z_mul, z_sub]
  congr 1
  have := Int.tmod_add_mul_tdiv z m
  rw [Int.mul_comm (z.tdiv m)]
  omega
theorem hj_floorMod (K : Nat) (z : Int) (m : Nat) (h1 : -(2 ^ 62) < z) (h2 : z < 2 ^ 62) (h0 : 0 < m) (hm : m < 2 ^ 31) : fnJ5_floorMod K (Int64.ofInt z) (lN m) = some (lN (z % (m : Int)).toNat) := by
  unfold fnJ5_floorMod
  rw [if_pos (pz_nz h0 (by omega)), z_rem h1 h2 h0 hm, dzl]
  have hmm : 0 ≤ z % (m : Int) := Int.emod_nonneg _ (by omega)
  have hml : z % (m : Int) < m := Int.emod_lt_of_pos _ (by omega)
  have e : lN (z % (m : Int)).toNat = Int64.ofInt (z % (m : Int)) := by rw [lN_z, Int.toNat_of_nonneg hmm]
  by_cases hz : 0 ≤ z
  · obtain ⟨n, rfl⟩ := Int.eq_ofNat_of_zero_le hz
    rw [if_pos (by rw [← lN_z]; exact z_xor_pos (by omega) hm), e, Int.tmod_eq_emod_of_nonneg hz]
  · rw [if_neg (z_xor_neg h1 (by omega) hm)]
    have ht : z.tmod m = if z % (m : Int) = 0 then 0 else z % (m : Int) - m := by
      rw [Int.tmod_eq_emod]
      by_cases hd : (m : Int) ∣ z
      · rw [if_pos (Or.inr hd), if_pos (Int.emod_eq_zero_of_dvd hd), Int.emod_eq_zero_of_dvd hd]; omega
      · rw [if_neg (fun q => q.elim hz hd), if_neg (fun q => hd (Int.dvd_of_emod_eq_zero q))]; omega
    rw [ht]
    by_cases h3 : z % (m : Int) = 0
    · rw [if_pos h3, if_pos (show Int64.ofInt 0 = 0 from rfl), h3]; rfl
    · rw [if_neg h3, if_neg (fun q => by
        have q1 := congrArg Int64.toInt q
        rw [z_toInt (by omega) (by omega)] at q1
        have h9 : (0 : Int64).toInt = 0 := by decide
        rw [h9] at q1
        omega), lN_z m, z_add, e]
      congr 2
      omega
/-- the sequence 0, 1, p, .. -/
def lU (p q : Int) : Nat → Int × Int := Nat.rec (0, 1) (fun _ x => (x.2, p * x.2 - q * x.1))
def uU (p q : Int) (k : Nat) : Int := (lU p q k).1
theorem uU_0 (p q : Int) : uU p q 0 = 0 := rfl
theorem uU_1 (p q : Int) : uU p q 1 = 1 := rfl
theorem lU_2 (p q : Int) (k : Nat) : (lU p q k).2 = uU p q (k + 1) := rfl
theorem uU_s (p q : Int) (k : Nat) : uU p q (k + 2) = p * uU p q (k + 1) - q * uU p q k := rfl
theorem uU_add (p q : Int) (a : Nat) : ∀ b, uU p q (a + b + 1) = uU p q (a + 1) * uU p q (b + 1) - q * (uU p q a * uU p q b) ∧ uU p q (a + b + 2) = uU p q (a + 1) * uU p q (b + 2) - q * (uU p q a * uU p q (b + 1)) := by
  intro b
  induction b with
  | zero =>
    refine ⟨?_, ?_⟩
    · rw [uU_0, uU_1, Int.mul_zero, Int.mul_zero, Int.mul_one, Int.sub_zero]
    · rw [show a + 0 + 2 = a + 2 from rfl, uU_s, uU_s p q 0, uU_1, uU_0, Int.mul_one, Int.mul_one, Int.mul_zero, Int.sub_zero, Int.mul_comm p]
  | succ b ih =>
    refine ⟨ih.2, ?_⟩
    rw [show a + (b + 1) + 2 = (a + b + 1) + 2 by omega, uU_s, show a + b + 1 + 1 = a + b + 2 by omega, ih.2, ih.1, show b + 1 + 2 = (b + 1) + 2 from rfl, uU_s p q (b + 1), uU_s p q b]
    simp only [Int.mul_sub, Int.sub_mul, Int.mul_assoc, Int.mul_left_comm, Int.mul_comm]
    omega
theorem uU_dbl (p q : Int) (k : Nat) : uU p q (2 * k) = uU p q k * (2 * uU p q (k + 1) - p * uU p q k) ∧ uU p q (2 * k + 1) = uU p q (k + 1) * uU p q (k + 1) - q * (uU p q k * uU p q k) := by
  have h1 := (uU_add p q k k).1
  refine ⟨?_, by rw [show 2 * k + 1 = k + k + 1 by omega]; exact h1⟩
  cases k with
  | zero => rw [uU_0, Int.zero_mul]
  | succ j =>
    have h2 := (uU_add p q j (j + 1)).1
    rw [show 2 * (j + 1) = j + (j + 1) + 1 by omega, h2, show j + 1 + 1 = j + 2 from rfl, Int.two_mul, uU_s]
    simp only [Int.mul_add, Int.mul_sub, Int.sub_mul, Int.mul_assoc, Int.mul_left_comm, Int.mul_comm]
    omega
/-- a member of it, between 0 and m -/
def uM (p q : Nat) (m k : Nat) : Nat := (uU p q k % (m : Int)).toNat
theorem uM_lt {p q m k : Nat} (h : 0 < m) : uM p q m k < m := by
  have h1 := Int.emod_lt_of_pos (uU p q k) (show (0 : Int) < m by omega)
  have h2 := Int.emod_nonneg (uU p q k) (show (m : Int) ≠ 0 by omega)
  unfold uM; omega
theorem uM_c {p q m k : Nat} (h : 0 < m) : ((uM p q m k : Nat) : Int) = uU p q k % (m : Int) := Int.toNat_of_nonneg (Int.emod_nonneg _ (by omega))
theorem toNat_mod {z : Int} {m : Nat} (h : 0 < m) : (((z % (m : Int)).toNat : Nat) : Int) = z % (m : Int) := Int.toNat_of_nonneg (Int.emod_nonneg _ (by omega))
