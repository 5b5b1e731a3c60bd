/-! the class's sequence: one object -/
abbrev sqC (a b m p q : Nat) : pE := .inr (4, [.long (lN a), .long (lN b), .long (lN m), .long (lN p), .long (lN q)])
theorem zq_rest (K : Nat) (ζ : pZ) (s : pH) (h a b m p q : Nat) (z : Int) (hh : ζ.1 ≤ h ∧ h < s.1) (h1 : -(2 ^ 62) < z) (h2 : z < 2 ^ 62) (hm0 : 0 < m) (hm : m < 2 ^ 31) : fnX5_rest K ζ h (Int64.ofInt z) (zst s h (sqC a b m p q)) = some (lN (z % (m : Int)).toNat, zst s h (sqC a b m p q)) := by
  have hi := zin_st (ζ := ζ) (τ := s) (a := h) (e := sqC a b m p q) hh
  unfold fnX5_rest
  simp only [hi.ob, dzb, dzc, dzl, fl0, fl1, fl2, fl3, fl4, fl5, fl6, fl7, fi0, fi1, fi2, fi3, fi4, fi5, fi6, fi7, fr0, fr1, fr2, fr3, fr4, fr5, fr6, fr7, fs0, fs1, fs2, fs3, fs4, fs5, fs6, fs7, hj_floorMod K z m h1 h2 hm0 hm]
theorem zq_doubles (K : Nat) (ζ : pZ) (s : pH) (h a b m p q : Nat) (hh : ζ.1 ≤ h ∧ h < s.1) (hm0 : 0 < m) (hm : m < 2 ^ 31) (ha : a < m) (hb : b < m) (hp : p < 2 ^ 20) (hq : q < 2 ^ 20) : fnX5_doubles K ζ h (zst s h (sqC a b m p q)) = some ((), zst s h (sqC (a * ((2 * (b : Int) - p * a) % (m : Int)).toNat % m) ((((b * b % m : Nat) : Int) - ((((q : Int) % (m : Int)).toNat * (a * a % m) % m : Nat) : Int)) % (m : Int)).toNat m p q)) := by
  have hi := zin_st (ζ := ζ) (τ := s) (a := h) (e := sqC a b m p q) hh
  have hpa : p * a ≤ 2 ^ 20 * 2 ^ 31 := Nat.mul_le_mul (by omega) (by omega)
  have haa := pn_mm ha ha hm
  have hbb := pn_mm hb hb hm
  have hr1 : ((2 * (b : Int) - p * a) % (m : Int)).toNat < m := by
    have := Int.emod_lt_of_pos (2 * (b : Int) - p * a) (show (0 : Int) < m by omega); omega
  have hr2 : ((q : Int) % (m : Int)).toNat < m := by
    have := Int.emod_lt_of_pos (q : Int) (show (0 : Int) < m by omega); omega
  have e1 : (2 : Int64) * lN b - lN p * lN a = Int64.ofInt (2 * (b : Int) - p * a) := by
    rw [show (2 : Int64) = Int64.ofInt 2 from rfl, lN_z, lN_z, lN_z, z_mul, z_mul, z_sub]
  have hx1 := pn_mm ha hr1 hm
  have hm1 := Nat.mod_lt (a * a) hm0
  have hm2 := Nat.mod_lt (b * b) hm0
  have hx2 := pn_mm hr2 hm1 hm
  have hm3 := Nat.mod_lt (((q : Int) % (m : Int)).toNat * (a * a % m)) hm0
  have hpa' : (p : Int) * a = ((p * a : Nat) : Int) := by rw [Int.natCast_mul]
  unfold fnX5_doubles
  simp only [hi.ob, dzb, dzc, dzl, fl0, fl1, fl2, fl3, fl4, fl5, fl6, fl7, fi0, fi1, fi2, fi3, fi4, fi5, fi6, fi7, fr0, fr1, fr2, fr3, fr4, fr5, fr6, fr7, fs0, fs1, fs2, fs3, fs4, fs5, fs6, fs7, e1]
  refine zcl_i (zq_rest K ζ s h a b m p q _ hh (by rw [hpa']; omega) (by rw [hpa']; omega) hm0 hm) ⟨Nat.le_refl _, Nat.le_refl _⟩ ⟨Nat.le_refl _, Nat.le_refl _⟩ ?_
  simp only [hi.ob, dzb, dzc, dzl, fl0, fl1, fl2, fl3, fl4, fl5, fl6, fl7, fi0, fi1, fi2, fi3, fi4, fi5, fi6, fi7, fr0, fr1, fr2, fr3, fr4, fr5, fr6, fr7, fs0, fs1, fs2, fs3, fs4, fs5, fs6, fs7, hi.wo (k := 0) (Nat.le_of_ble_eq_true rfl)]
  rw [if_pos (pz_nz hm0 (by omega)), lN_mul, pk_lRem (by omega) hm0 (by omega), zst2]
  have hi2 := zin_st (ζ := ζ) (τ := s) (a := h) (e := sqC (a * ((2 * (b : Int) - p * a) % (m : Int)).toNat % m) b m p q) hh
  simp only [hi2.ob, dzb, dzc, dzl, fl0, fl1, fl2, fl3, fl4, fl5, fl6, fl7, fi0, fi1, fi2, fi3, fi4, fi5, fi6, fi7, fr0, fr1, fr2, fr3, fr4, fr5, fr6, fr7, fs0, fs1, fs2, fs3, fs4, fs5, fs6, fs7]
  rw [if_pos (pz_nz hm0 (by omega)), lN_mul, pk_lRem (by omega) hm0 (by omega), lN_z q]
  refine zcl_i (zq_rest K ζ s h _ b m p q _ hh (by omega) (by omega) hm0 hm) ⟨Nat.le_refl _, Nat.le_refl _⟩ ⟨Nat.le_refl _, Nat.le_refl _⟩ ?_
  simp only [hi2.ob, dzb, dzc, dzl, fl0, fl1, fl2, fl3, fl4, fl5, fl6, fl7, fi0, fi1, fi2, fi3, fi4, fi5, fi6, fi7, fr0, fr1, fr2, fr3, fr4, fr5, fr6, fr7, fs0, fs1, fs2, fs3, fs4, fs5, fs6, fs7]
  rw [if_pos (pz_nz hm0 (by omega)), if_pos (pz_nz hm0 (by omega)), lN_mul, pk_lRem (by omega) hm0 (by omega), lN_mul, pk_lRem (by omega) hm0 (by omega), lN_z (b * b % m), lN_z (((q : Int) % (m : Int)).toNat * (a * a % m) % m), z_sub]
  refine zcl_i (zq_rest K ζ s h _ b m p q _ hh (by omega) (by omega) hm0 hm) ⟨Nat.le_refl _, Nat.le_refl _⟩ ⟨Nat.le_refl _, Nat.le_refl _⟩ ?_
  simp only [hi2.wo (k := 1) (Nat.le_of_ble_eq_true rfl), dzb, dzc, dzl, fl0, fl1, fl2, fl3, fl4, fl5, fl6, fl7, fi0, fi1, fi2, fi3, fi4, fi5, fi6, fi7, fr0, fr1, fr2, fr3, fr4, fr5, fr6, fr7, fs0, fs1, fs2, fs3, fs4, fs5, fs6, fs7, zst2]
theorem zq_goesOn (K : Nat) (ζ : pZ) (s : pH) (h a b m p q : Nat) (hh : ζ.1 ≤ h ∧ h < s.1) (hm0 : 0 < m) (hm : m < 2 ^ 31) (ha : a < m) (hb : b < m) (hp : p < 2 ^ 20) (hq : q < 2 ^ 20) : fnX5_goesOn K ζ h (zst s h (sqC a b m p q)) = some ((), zst s h (sqC b (((p : Int) * b - q * a) % (m : Int)).toNat m p q)) := by
  have hi := zin_st (ζ := ζ) (τ := s) (a := h) (e := sqC a b m p q) hh
  have hi2 := zin_st (ζ := ζ) (τ := s) (a := h) (e := sqC b b m p q) hh
  have hpb : p * b ≤ 2 ^ 20 * 2 ^ 31 := Nat.mul_le_mul (by omega) (by omega)
  have hqa : q * a ≤ 2 ^ 20 * 2 ^ 31 := Nat.mul_le_mul (by omega) (by omega)
  have e1 : lN p * lN b - lN q * lN a = Int64.ofInt ((p : Int) * b - q * a) := by
    rw [lN_z, lN_z, lN_z, lN_z, z_mul, z_mul, z_sub]
  have hpb' : (p : Int) * b = ((p * b : Nat) : Int) := by rw [Int.natCast_mul]
  have hqa' : (q : Int) * a = ((q * a : Nat) : Int) := by rw [Int.natCast_mul]
  unfold fnX5_goesOn
  simp only [hi.ob, hi.wo (k := 0) (Nat.le_of_ble_eq_true rfl), dzb, dzc, dzl, fl0, fl1, fl2, fl3, fl4, fl5, fl6, fl7, fi0, fi1, fi2, fi3, fi4, fi5, fi6, fi7, fr0, fr1, fr2, fr3, fr4, fr5, fr6, fr7, fs0, fs1, fs2, fs3, fs4, fs5, fs6, fs7, zst2, hi2.ob, e1]
  refine zcl_i (zq_rest K ζ s h b b m p q _ hh (by rw [hpb', hqa']; omega) (by rw [hpb', hqa']; omega) hm0 hm) ⟨Nat.le_refl _, Nat.le_refl _⟩ ⟨Nat.le_refl _, Nat.le_refl _⟩ ?_
  simp only [hi2.wo (k := 1) (Nat.le_of_ble_eq_true rfl), dzb, dzc, dzl, fl0, fl1, fl2, fl3, fl4, fl5, fl6, fl7, fi0, fi1, fi2, fi3, fi4, fi5, fi6, fi7, fr0, fr1, fr2, fr3, fr4, fr5, fr6, fr7, fs0, fs1, fs2, fs3, fs4, fs5, fs6, fs7, zst2]
theorem zq_told (K : Nat) (ζ : pZ) (s : pH) (h a b m p q : Nat) (hh : ζ.1 ≤ h ∧ h < s.1) : fnX5_told K ζ h (zst s h (sqC a b m p q)) = some (lN a, zst s h (sqC a b m p q)) := by
  have hi := zin_st (ζ := ζ) (τ := s) (a := h) (e := sqC a b m p q) hh
  unfold fnX5_told
  simp only [hi.ob, dzb, dzc, dzl, fl0, fl1, fl2, fl3, fl4, fl5, fl6, fl7, fi0, fi1, fi2, fi3, fi4, fi5, fi6, fi7, fr0, fr1, fr2, fr3, fr4, fr5, fr6, fr7, fs0, fs1, fs2, fs3, fs4, fs5, fs6, fs7]
/-- what the steps mean -/
theorem uM_dbl1 {p q m k a b : Nat} (hm0 : 0 < m) (ha : (a : Int) = uU p q k % (m : Int)) (hb : (b : Int) = uU p q (k + 1) % (m : Int)) : a * ((2 * (b : Int) - p * a) % (m : Int)).toNat % m = uM p q m (2 * k) := by
  apply Int.ofNat_inj.mp
  rw [uM_c hm0, Int.natCast_emod, Int.natCast_mul, toNat_mod hm0, (uU_dbl p q k).1, ha, hb]
  rw [Int.mul_emod, Int.emod_emod, Int.emod_emod, ← Int.mul_emod]
  rw [Int.mul_emod, Int.sub_emod, Int.mul_emod 2, Int.emod_emod, ← Int.mul_emod 2, Int.mul_emod (↑p), Int.emod_emod, ← Int.mul_emod (↑p), ← Int.sub_emod, ← Int.mul_emod]
theorem uM_dbl2 {p q m k a b : Nat} (hm0 : 0 < m) (ha : (a : Int) = uU p q k % (m : Int)) (hb : (b : Int) = uU p q (k + 1) % (m : Int)) : ((((b * b % m : Nat) : Int) - ((((q : Int) % (m : Int)).toNat * (a * a % m) % m : Nat) : Int)) % (m : Int)).toNat = uM p q m (2 * k + 1) := by
  unfold uM
  congr 1
  rw [(uU_dbl p q k).2, Int.natCast_emod, Int.natCast_mul, Int.natCast_emod, Int.natCast_mul, toNat_mod hm0, Int.natCast_emod, Int.natCast_mul, ha, hb]
  rw [← Int.mul_emod, ← Int.mul_emod (uU (↑p) (↑q) k), ← Int.mul_emod (↑q), ← Int.sub_emod]
theorem uM_s {p q m k a b : Nat} (hm0 : 0 < m) (ha : (a : Int) = uU p q k % (m : Int)) (hb : (b : Int) = uU p q (k + 1) % (m : Int)) : (((p : Int) * b - q * a) % (m : Int)).toNat = uM p q m (k + 2) := by
  unfold uM
  congr 1
  rw [uU_s, ha, hb, Int.sub_emod, Int.mul_emod (↑p), Int.emod_emod, ← Int.mul_emod (↑p), Int.mul_emod (↑q), Int.emod_emod, ← Int.mul_emod (↑q), ← Int.sub_emod]
theorem zq_climbs (K : Nat) (ζ : pZ) (s : pH) (h m p q t : Nat) (hh : ζ.1 ≤ h ∧ h < s.1) (hm0 : 0 < m) (hm : m < 2 ^ 31) (hp : p < 2 ^ 20) (hq : q < 2 ^ 20) (ht : t < 2 ^ 62) : ∀ j kk, j ≤ 63 → 2 * j + 1 ≤ kk →
    ∃ b, (lfX3_climbs_4 K ζ kk).1 h (lN t) (nI j + (-1)) (zst s h (sqC (uM p q m (t / 2 ^ j)) (uM p q m (t / 2 ^ j + 1)) m p q)) = some (lN (uM p q m t), zst s h (sqC (uM p q m t) b m p q)) := by
  intro j
  induction j with
  | zero =>
    intro kk _ hk
    obtain ⟨k, rfl⟩ : ∃ q, kk = q + 1 := ⟨kk - 1, by omega⟩
    refine ⟨uM p q m (t + 1), ?_⟩
    rw [Nat.pow_zero, Nat.div_one, luX3_climbs_4_1, if_pos (by decide), (zin_st hh).ob, dzb]
    exact zcl_i (zq_told K ζ s h _ _ m p q hh) ⟨Nat.le_refl _, Nat.le_refl _⟩ ⟨Nat.le_refl _, Nat.le_refl _⟩ rfl
  | succ j ih =>
    intro kk hj hk
    obtain ⟨k, rfl⟩ : ∃ q, kk = q + 2 := ⟨kk - 2, by omega⟩
    rw [luX3_climbs_4_1, cj_pred j (by omega), if_neg (cj_nn j (by omega)), pf_shr (cj_sh j (by omega)) ht, luX3_climbs_4_2]
    have hdiv : t / 2 ^ j ≤ t := Nat.div_le_self _ _
    have e1 : t / 2 ^ (j + 1) = t / 2 ^ j / 2 := by rw [Nat.pow_succ, Nat.div_div_eq_div_mul]
    obtain ⟨b, hb⟩ := ih k (by omega) (by omega)
    by_cases h0 : t / 2 ^ j = 0
    · rw [if_pos ((lN0 (by omega)).mpr h0)]
      rw [h0] at hb
      rw [e1, h0]
      exact ⟨b, hb⟩
    · rw [if_neg (fun e => h0 ((lN0 (by omega)).mp e)), (zin_st hh).ob, dzb]
      refine ⟨b, ?_⟩
      refine zcl_i (zq_doubles K ζ s h _ _ m p q hh hm0 hm (uM_lt hm0) (uM_lt hm0) hp hq) ⟨Nat.le_refl _, Nat.le_refl _⟩ ⟨Nat.le_refl _, Nat.le_refl _⟩ ?_
      rw [pz_and1 (by omega), uM_dbl1 hm0 (uM_c hm0) (uM_c hm0), uM_dbl2 hm0 (uM_c hm0) (uM_c hm0)]
      by_cases h1 : t / 2 ^ j % 2 = 1
      · rw [if_pos ((lN1 (by omega)).mpr h1), (zin_st hh).ob, dzb]
        refine zcl_i (zq_goesOn K ζ s h _ _ m p q hh hm0 hm (uM_lt hm0) (uM_lt hm0) hp hq) ⟨Nat.le_refl _, Nat.le_refl _⟩ ⟨Nat.le_refl _, Nat.le_refl _⟩ ?_
        rw [luX3_climbs_4_2, uM_s hm0 (uM_c hm0) (uM_c hm0)]
        rw [show t / 2 ^ j = 2 * (t / 2 ^ (j + 1)) + 1 by omega] at hb
        exact hb
      · rw [if_neg (fun e => h1 ((lN1 (by omega)).mp e)), luX3_climbs_4_2]
        rw [show t / 2 ^ j = 2 * (t / 2 ^ (j + 1)) by omega] at hb
        exact hb
theorem zq_init (K : Nat) (ζ : pZ) (s : pH) (h m p q : Nat) (hh : ζ.1 ≤ h ∧ h < s.1) (hm0 : 0 < m) (hm : m < 2 ^ 31) : fnX5_init K ζ h (lN m) (lN p) (lN q) (zst s h (.inr (4, [.long 0, .long 0, .long 0, .long 0, .long 0]))) = some ((), zst s h (sqC 0 (1 % m) m p q)) := by
  have hi := zin_st (ζ := ζ) (τ := s) (a := h) (e := .inr (4, [.long 0, .long 0, .long 0, .long 0, .long 0])) hh
  have hi1 := zin_st (ζ := ζ) (τ := s) (a := h) (e := .inr (4, [.long 0, .long 0, .long (lN m), .long 0, .long 0])) hh
  have hi2 := zin_st (ζ := ζ) (τ := s) (a := h) (e := .inr (4, [.long 0, .long 0, .long (lN m), .long (lN p), .long 0])) hh
  have hi3 := zin_st (ζ := ζ) (τ := s) (a := h) (e := .inr (4, [.long 0, .long 0, .long (lN m), .long (lN p), .long (lN q)])) hh
  unfold fnX5_init
  simp only [hi.wo (k := 2) (Nat.le_of_ble_eq_true rfl), dzb, dzc, dzl, fl0, fl1, fl2, fl3, fl4, fl5, fl6, fl7, fi0, fi1, fi2, fi3, fi4, fi5, fi6, fi7, fr0, fr1, fr2, fr3, fr4, fr5, fr6, fr7, fs0, fs1, fs2, fs3, fs4, fs5, fs6, fs7, zst2, hi1.wo (k := 3) (Nat.le_of_ble_eq_true rfl), hi2.wo (k := 4) (Nat.le_of_ble_eq_true rfl)]
  refine zcl_i (x := ()) (τ1 := zst s h (.inr (4, [.long 0, .long 0, .long (lN m), .long (lN p), .long (lN q)]))) rfl ⟨Nat.le_refl _, Nat.le_refl _⟩ ⟨Nat.le_refl _, Nat.le_refl _⟩ ?_
  simp only [hi3.ob, dzb, dzc, dzl, fl0, fl1, fl2, fl3, fl4, fl5, fl6, fl7, fi0, fi1, fi2, fi3, fi4, fi5, fi6, fi7, fr0, fr1, fr2, fr3, fr4, fr5, fr6, fr7, fs0, fs1, fs2, fs3, fs4, fs5, fs6, fs7, hi3.wo (k := 1) (Nat.le_of_ble_eq_true rfl), zst2]
  rw [if_pos (pz_nz hm0 (by omega)), show (1 : Int64) = lN 1 from rfl, pk_lRem (by omega) hm0 (by omega)]
  rfl
theorem hx_sequenceOf (K : Nat) (ζ : pZ) (τ : pH) (p q t m : Nat) (hζ : ζ.1 ≤ τ.1) (hm0 : 0 < m) (hm : m < 2 ^ 31) (hp : p < 2 ^ 20) (hq : q < 2 ^ 20) (ht : t < 2 ^ 62) (hK : 200 ≤ K) : ∃ e, fnX0_sequenceOf K ζ (lN p) (lN q) (lN t) (lN m) τ = some (lN (uM p q m t), znw τ 5 e) := by
  unfold fnX0_sequenceOf
  have hh : ζ.1 ≤ τ.1 ∧ τ.1 < (znw τ 5 (.inr (4, [.long 0, .long 0, .long 0, .long 0, .long 0]))).1 := ⟨hζ, Nat.lt_succ_self _⟩
  obtain ⟨b, e1⟩ := zq_climbs K ζ (znw τ 5 (.inr (4, [.long 0, .long 0, .long 0, .long 0, .long 0]))) τ.1 m p q t hh hm0 hm hp hq ht 63 K (by omega) (by omega)
  refine ⟨sqC (uM p q m t) b m p q, ?_⟩
  refine zck_i (τ := znw τ 5 (.inr (4, [.long 0, .long 0, .long 0, .long 0, .long 0]))) ?_ (Nat.le_refl _) (Nat.le_refl _)
  have e0 := zq_init K ζ (znw τ 5 (.inr (4, [.long 0, .long 0, .long 0, .long 0, .long 0]))) τ.1 m p q hh hm0 hm
  rw [znw_st] at e0
  refine zcl_i e0 ⟨Nat.le_refl _, Nat.le_refl _⟩ ⟨Nat.le_refl _, Nat.le_refl _⟩ ?_
  rw [(zin_st hh).ob, dzb]
  have u0 : uM p q m 0 = 0 := by unfold uM; rw [uU_0, Int.zero_emod]; rfl
  have u1 : uM p q m 1 = 1 % m := by
    apply Int.ofNat_inj.mp
    rw [uM_c hm0, uU_1, Int.natCast_emod]; rfl
  rw [show t / 2 ^ 63 = 0 from Nat.div_eq_of_lt (by omega), u0, Nat.zero_add, u1, znw_st, znw_st] at e1
  rw [znw_st]
  exact zcl_i e1 ⟨Nat.le_refl _, Nat.le_refl _⟩ ⟨Nat.le_refl _, Nat.le_refl _⟩ rfl
