/-! powers, gcds: both classes -/
theorem pf_lI {a : Nat} (h : a < 2 ^ 63) : (lN a).toInt = (a : Int) := lg_ofNat_toInt h
theorem pf_shr {a d : Nat} {D : Int64} (hD : (D.toBitVec.smod 64).toNat = d) (h : a < 2 ^ 62) : lN a >>> D = lN (a / 2 ^ d) := by
  have hd : a / 2 ^ d ≤ a := Nat.div_le_self _ _
  apply Int64.toInt_inj.mp
  have e : (lN a >>> D).toInt = (lN a).toInt >>> d := by
    rw [← hD]
    exact BitVec.toInt_sshiftRight ..
  rw [e, Int.shiftRight_eq_div_pow, pf_lI (by omega), pf_lI (by omega)]
  rfl
theorem pz_and1 {t : Nat} (h : t < 2 ^ 63) : lN t &&& 1 = lN (t % 2) := by
  apply Int64.toBitVec_inj.mp
  apply BitVec.eq_of_toNat_eq
  rw [Int64.toBitVec_and, BitVec.toNat_and]
  have h1 : (lN t).toBitVec.toNat = t := Nat.mod_eq_of_lt (by omega)
  have h2 : (1 : Int64).toBitVec.toNat = 1 := rfl
  have h3 : (lN (t % 2)).toBitVec.toNat = t % 2 := Nat.mod_eq_of_lt (by omega)
  rw [h1, h2, h3, Nat.and_one_is_mod]
theorem pn_pw1 {x b t m R : Nat} (h : x * b ^ t % m = R) (ht : t % 2 = 1) : (x * b % m) * (b * b % m) ^ (t / 2) % m = R := by
  rw [← h, Nat.mul_mod, Nat.mod_mod, Nat.pow_mod, Nat.mod_mod, ← Nat.pow_mod, ← Nat.mul_mod, ← Nat.pow_two, ← Nat.pow_mul]
  congr 1
  have e : t = 1 + 2 * (t / 2) := by omega
  rw [Nat.mul_assoc]
  congr 1
  conv => rhs; rw [e, Nat.pow_add, Nat.pow_one]
theorem pn_pw0 {x b t m R : Nat} (h : x * b ^ t % m = R) (ht : ¬ t % 2 = 1) : x * (b * b % m) ^ (t / 2) % m = R := by
  rw [← h, Nat.mul_mod, Nat.pow_mod, Nat.mod_mod, ← Nat.pow_mod, ← Nat.mul_mod, ← Nat.pow_two, ← Nat.pow_mul]
  congr 2
  have e : t = 2 * (t / 2) := by omega
  conv => rhs; rw [e]
theorem pn_mm {a b m : Nat} (ha : a < m) (hb : b < m) (hm : m < 2 ^ 31) : a * b < 2 ^ 62 := by
  have h1 : a * b ≤ 2 ^ 31 * b := Nat.mul_le_mul_right _ (by omega)
  have h2 : 2 ^ 31 * b < 2 ^ 31 * 2 ^ 31 := Nat.mul_lt_mul_of_pos_left (by omega) (by omega)
  omega
theorem pz_nz {m : Nat} (h0 : 0 < m) (h : m < 2 ^ 63) : ¬ lN m = 0 := fun e => by have := (lN0 h).mp e; omega
/-- the model's power -/
theorem nl_powerOf (K m : Nat) (hm0 : 0 < m) (hm : m < 2 ^ 31) : ∀ t, ∀ k b x, t < 2 ^ 62 → b < m → x < m → 2 * t + 1 ≤ k → (lfX1_powerOf K k).1 (lN m) (lN b) (lN x) (lN t) = some (lN (x * b ^ t % m)) := by
  intro t
  induction t using Nat.strongRecOn with
  | ind t ih =>
    intro k b x ht hb hx hk
    obtain ⟨k, rfl⟩ : ∃ j, k = j + 1 := ⟨k - 1, by omega⟩
    show (if lN t ≤ lN 0 then some (lN x) else (if (lN t &&& 1) = 1 then (if ¬ lN m = 0 then (lfX1_powerOf K k).2 (lN m) (lN b) ((lN x * lN b) - (lN x * lN b) / lN m * lN m) (lN t) else none) else (lfX1_powerOf K k).2 (lN m) (lN b) (lN x) (lN t))) = _
    by_cases h0 : t = 0
    · subst h0
      rw [if_pos ((pk_lLE (by omega) (by omega)).mpr (by omega)), Nat.pow_zero, Nat.mul_one, Nat.mod_eq_of_lt hx]
    · rw [if_neg (fun e => h0 (by have := (pk_lLE (by omega) (by omega)).mp e; omega)), pz_and1 (by omega)]
      obtain ⟨k, rfl⟩ : ∃ j, k = j + 1 := ⟨k - 1, by omega⟩
      have hbb := pn_mm hb hb hm
      have hxb := pn_mm hx hb hm
      have s2 : ∀ y, (lfX1_powerOf K (k + 1)).2 (lN m) (lN b) (lN y) (lN t) = (lfX1_powerOf K k).1 (lN m) (lN (b * b % m)) (lN y) (lN (t / 2)) := by
        intro y
        show (if ¬ lN m = 0 then (lfX1_powerOf K k).1 (lN m) ((lN b * lN b) - (lN b * lN b) / lN m * lN m) (lN y) (lN t >>> (Int32.toInt64 1 &&& 63)) else none) = _
        rw [if_pos (pz_nz hm0 (by omega)), lN_mul, pk_lRem (by omega) hm0 (by omega), pf_shr (d := 1) (by decide) (by omega)]
      have hr := Nat.mod_lt (b * b) hm0
      by_cases h1 : t % 2 = 1
      · rw [if_pos ((lN1 (by omega)).mpr h1), if_pos (pz_nz hm0 (by omega)), lN_mul, pk_lRem (by omega) hm0 (by omega), s2, ih (t / 2) (by omega) k _ _ (by omega) hr (Nat.mod_lt _ hm0) (by omega), pn_pw1 rfl h1]
      · rw [if_neg (fun e => h1 ((lN1 (by omega)).mp e)), s2, ih (t / 2) (by omega) k _ _ (by omega) hr hx (by omega), pn_pw0 rfl h1]
theorem ny_powerOf (K a t m : Nat) (ha : a < 2 ^ 63) (ht : t < 2 ^ 62) (hm0 : 0 < m) (hm : m < 2 ^ 31) (hK : 2 * t + 1 ≤ K) : fnX1_powerOf K (lN a) (lN t) (lN m) = some (lN (a ^ t % m)) := by
  unfold fnX1_powerOf
  rw [if_pos (pz_nz hm0 (by omega)), pk_lRem ha hm0 (by omega)]
  show (if ¬ lN m = 0 then (lfX1_powerOf K K).1 (lN m) (lN (a % m)) (lN 1 - lN 1 / lN m * lN m) (lN t) else none) = _
  rw [if_pos (pz_nz hm0 (by omega)), pk_lRem (by omega) hm0 (by omega), nl_powerOf K m hm0 hm t K _ _ ht (Nat.mod_lt _ hm0) (Nat.mod_lt _ hm0) hK]
  rw [Nat.mul_mod, Nat.mod_mod, ← Nat.pow_mod, ← Nat.mul_mod, Nat.one_mul]
/-- the class's power: one object, which does nothing else -/
theorem zx_doubles (K : Nat) (ζ : pZ) (s : pH) (h x m b : Nat) (hh : ζ.1 ≤ h ∧ h < s.1) (hm0 : 0 < m) (hm : m < 2 ^ 31) (hx : x < m) : fnX4_doubles K ζ h (zst s h (.inr (3, [.long (lN x), .long (lN m), .long (lN b)]))) = some ((), zst s h (.inr (3, [.long (lN (x * x % m)), .long (lN m), .long (lN b)]))) := by
  have hi := zin_st (ζ := ζ) (τ := s) (a := h) (e := .inr (3, [.long (lN x), .long (lN m), .long (lN b)])) hh
  have hxx := pn_mm hx hx hm
  unfold fnX4_doubles
  rw [hi.ob, hi.wo (k := 0) (Nat.le_of_ble_eq_true rfl)]
  show (if ¬ lN m = 0 then some ((), zst (zst s h _) h (.inr (3, [.long ((lN x * lN x) - (lN x * lN x) / lN m * lN m), .long (lN m), .long (lN b)]))) else none) = _
  rw [if_pos (pz_nz hm0 (by omega)), lN_mul, pk_lRem (by omega) hm0 (by omega), zst2]
theorem zx_goesOn (K : Nat) (ζ : pZ) (s : pH) (h x m b : Nat) (hh : ζ.1 ≤ h ∧ h < s.1) (hm0 : 0 < m) (hm : m < 2 ^ 31) (hx : x < m) (hb : b < 2 ^ 63) : fnX4_goesOn K ζ h (zst s h (.inr (3, [.long (lN x), .long (lN m), .long (lN b)]))) = some ((), zst s h (.inr (3, [.long (lN (x * (b % m) % m)), .long (lN m), .long (lN b)]))) := by
  have hi := zin_st (ζ := ζ) (τ := s) (a := h) (e := .inr (3, [.long (lN x), .long (lN m), .long (lN b)])) hh
  have hxx := pn_mm hx (Nat.mod_lt b hm0) hm
  unfold fnX4_goesOn
  rw [hi.ob, hi.wo (k := 0) (Nat.le_of_ble_eq_true rfl)]
  show (if ¬ lN m = 0 then (if ¬ lN m = 0 then some ((), zst (zst s h _) h (.inr (3, [.long ((lN x * (lN b - lN b / lN m * lN m)) - (lN x * (lN b - lN b / lN m * lN m)) / lN m * lN m), .long (lN m), .long (lN b)]))) else none) else none) = _
  rw [if_pos (pz_nz hm0 (by omega)), if_pos (pz_nz hm0 (by omega)), pk_lRem hb hm0 (by omega), lN_mul, pk_lRem (by omega) hm0 (by omega), zst2]
theorem zx_told (K : Nat) (ζ : pZ) (s : pH) (h x m b : Nat) (hh : ζ.1 ≤ h ∧ h < s.1) : fnX4_told K ζ h (zst s h (.inr (3, [.long (lN x), .long (lN m), .long (lN b)]))) = some (lN x, zst s h (.inr (3, [.long (lN x), .long (lN m), .long (lN b)]))) := by
  have hi := zin_st (ζ := ζ) (τ := s) (a := h) (e := .inr (3, [.long (lN x), .long (lN m), .long (lN b)])) hh
  unfold fnX4_told
  rw [hi.ob]
  rfl
theorem cj_pred : ∀ j, j < 64 → nI (j + 1) + (-1) = nI j := by decide
theorem cj_sh : ∀ j, j < 64 → (((nI j).toInt64 &&& 63).toBitVec.smod 64).toNat = j := by decide
theorem cj_nn : ∀ j, j < 64 → ¬ nI j < 0 := by decide
theorem zx_climbs (K : Nat) (ζ : pZ) (s : pH) (h m B t : Nat) (hh : ζ.1 ≤ h ∧ h < s.1) (hm0 : 0 < m) (hm : m < 2 ^ 31) (hB : B < 2 ^ 63) (ht : t < 2 ^ 62) : ∀ j kk, j ≤ 63 → 2 * j + 1 ≤ kk →
    (lfX3_climbs_3 K ζ kk).1 h (lN t) (nI j + (-1)) (zst s h (.inr (3, [.long (lN (B ^ (t / 2 ^ j) % m)), .long (lN m), .long (lN B)]))) = some (lN (B ^ t % m), zst s h (.inr (3, [.long (lN (B ^ t % m)), .long (lN m), .long (lN B)]))) := by
  intro j
  induction j with
  | zero =>
    intro kk _ hk
    obtain ⟨k, rfl⟩ : ∃ q, kk = q + 1 := ⟨kk - 1, by omega⟩
    rw [Nat.pow_zero, Nat.div_one, luX3_climbs_3_1, if_pos (by decide), (zin_st hh).ob, dzb]
    exact zcl_i (zx_told K ζ s h _ m B hh) ⟨Nat.le_refl _, Nat.le_refl _⟩ ⟨Nat.le_refl _, Nat.le_refl _⟩ rfl
  | succ j ih =>
    intro kk hj hk
    obtain ⟨k, rfl⟩ : ∃ q, kk = q + 2 := ⟨kk - 2, by omega⟩
    rw [luX3_climbs_3_1, cj_pred j (by omega), if_neg (cj_nn j (by omega)), pf_shr (cj_sh j (by omega)) ht, luX3_climbs_3_2]
    have hdiv : t / 2 ^ j ≤ t := Nat.div_le_self _ _
    have e1 : t / 2 ^ (j + 1) = t / 2 ^ j / 2 := by rw [Nat.pow_succ, Nat.div_div_eq_div_mul]
    have hx : B ^ (t / 2 ^ (j + 1)) % m < m := Nat.mod_lt _ hm0
    by_cases h0 : t / 2 ^ j = 0
    · rw [if_pos ((lN0 (by omega)).mpr h0)]
      have := ih k (by omega) (by omega)
      rw [h0] at this
      rw [e1, h0]
      exact this
    · rw [if_neg (fun e => h0 ((lN0 (by omega)).mp e)), (zin_st hh).ob, dzb]
      refine zcl_i (zx_doubles K ζ s h _ m B hh hm0 hm hx) ⟨Nat.le_refl _, Nat.le_refl _⟩ ⟨Nat.le_refl _, Nat.le_refl _⟩ ?_
      rw [pz_and1 (by omega)]
      have hx2 : B ^ (t / 2 ^ (j + 1)) % m * (B ^ (t / 2 ^ (j + 1)) % m) % m = B ^ (2 * (t / 2 ^ (j + 1))) % m := by
        rw [← Nat.mul_mod, ← Nat.pow_add]; congr 2; omega
      by_cases h1 : t / 2 ^ j % 2 = 1
      · rw [if_pos ((lN1 (by omega)).mpr h1), (zin_st hh).ob, dzb]
        refine zcl_i (zx_goesOn K ζ s h _ m B hh hm0 hm (Nat.mod_lt _ hm0) hB) ⟨Nat.le_refl _, Nat.le_refl _⟩ ⟨Nat.le_refl _, Nat.le_refl _⟩ ?_
        have := ih k (by omega) (by omega)
        rw [luX3_climbs_3_2]
        rw [show B ^ (t / 2 ^ j) % m = B ^ (t / 2 ^ (j + 1)) % m * (B ^ (t / 2 ^ (j + 1)) % m) % m * (B % m) % m by
          rw [hx2, ← Nat.mul_mod, ← Nat.pow_succ]; congr 2; omega] at this
        exact this
      · rw [if_neg (fun e => h1 ((lN1 (by omega)).mp e))]
        have := ih k (by omega) (by omega)
        rw [luX3_climbs_3_2]
        rw [show B ^ (t / 2 ^ j) % m = B ^ (t / 2 ^ (j + 1)) % m * (B ^ (t / 2 ^ (j + 1)) % m) % m by
          rw [hx2]; congr 2; omega] at this
        exact this
theorem zx_init (K : Nat) (ζ : pZ) (s : pH) (h m B : Nat) (hh : ζ.1 ≤ h ∧ h < s.1) (hm0 : 0 < m) (hm : m < 2 ^ 31) : fnX4_init K ζ h (lN m) (lN B) (zst s h (.inr (3, [.long 0, .long 0, .long 0]))) = some ((), zst s h (.inr (3, [.long (lN (1 % m)), .long (lN m), .long (lN B)]))) := by
  unfold fnX4_init
  rw [(zin_st hh).wo (k := 1) (Nat.le_of_ble_eq_true rfl)]
  rw [dzb, dzl, zst2]
  rw [(zin_st hh).wo (k := 2) (Nat.le_of_ble_eq_true rfl), dzb, dzl, zst2]
  refine zcl_i (x := ()) (τ1 := zst s h (.inr (3, [.long 0, .long (lN m), .long (lN B)]))) ?_ ⟨Nat.le_refl _, Nat.le_refl _⟩ ⟨Nat.le_refl _, Nat.le_refl _⟩ ?_
  · rfl
  · rw [(zin_st hh).ob, dzb]
    show (if ¬ lN m = 0 then dz_l (lN 1 - lN 1 / lN m * lN m) _ else none) = _
    rw [if_pos (pz_nz hm0 (by omega)), pk_lRem (by omega) hm0 (by omega), dzl, (zin_st hh).wo (k := 0) (Nat.le_of_ble_eq_true rfl), dzb, dzl, zst2]
    rfl
theorem hx_powerOf (K : Nat) (ζ : pZ) (τ : pH) (B t m : Nat) (hζ : ζ.1 ≤ τ.1) (hm0 : 0 < m) (hm : m < 2 ^ 31) (hB : B < 2 ^ 63) (ht : t < 2 ^ 62) (hK : 200 ≤ K) : fnX0_powerOf K ζ (lN B) (lN t) (lN m) τ = some (lN (B ^ t % m), znw τ 3 (.inr (3, [.long (lN (B ^ t % m)), .long (lN m), .long (lN B)]))) := by
  unfold fnX0_powerOf
  have hh : ζ.1 ≤ τ.1 ∧ τ.1 < (znw τ 3 (.inr (3, [.long 0, .long 0, .long 0]))).1 := ⟨hζ, Nat.lt_succ_self _⟩
  refine zck_i (τ := znw τ 3 (.inr (3, [.long 0, .long 0, .long 0]))) ?_ (Nat.le_refl _) (Nat.le_refl _)
  have e0 := zx_init K ζ (znw τ 3 (.inr (3, [.long 0, .long 0, .long 0]))) τ.1 m B hh hm0 hm
  rw [znw_st] at e0
  refine zcl_i e0 ⟨Nat.le_refl _, Nat.le_refl _⟩ ⟨Nat.le_refl _, Nat.le_refl _⟩ ?_
  rw [(zin_st hh).ob, dzb]
  have e1 := zx_climbs K ζ (znw τ 3 (.inr (3, [.long 0, .long 0, .long 0]))) τ.1 m B t hh hm0 hm hB ht 63 K (by omega) (by omega)
  rw [show t / 2 ^ 63 = 0 from Nat.div_eq_of_lt (by omega), Nat.pow_zero, znw_st, znw_st] at e1
  rw [znw_st]
  exact zcl_i e1 ⟨Nat.le_refl _, Nat.le_refl _⟩ ⟨Nat.le_refl _, Nat.le_refl _⟩ rfl
