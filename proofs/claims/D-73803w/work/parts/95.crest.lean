/-! questions to the class's ledger that lay faults -/
section CR
variable {K : Nat} {ζ : pZ} {own : Nat → Nat × Nat × Nat} {h al ea af ta taped ra da : Nat} {mc : Int32} {N : Nat} {A : Nat → lA} {L : Nat → sLn}
/-- nothing has changed but how far faults are laid -/
def zAd (ζ : pZ) (own : Nat → Nat × Nat × Nat) (h al ea af ta taped ra da : Nat) (mc : Int32) (N : Nat) (A : Nat → lA) (L : Nat → sLn) (laid : Nat) (τ t : pH) : Prop := ∃ l', laid ≤ l' ∧ zLd ζ t own h al ea af l' ta taped ra da mc N A L ∧ zk (fun a => a = h ∨ a = af) τ t (40 * (l' - laid)) (200 * (l' - laid))
theorem zAd.rf {laid : Nat} {τ : pH} (H : zLd ζ τ own h al ea af laid ta taped ra da mc N A L) : zAd ζ own h al ea af ta taped ra da mc N A L laid τ τ := ⟨laid, Nat.le_refl _, H, zk.rfl.le (by omega) (by omega)⟩
theorem hx_isRight' {τ : pH} {laid : Nat} (k : Nat) (hk : k < N) (hζ : ζ.1 ≤ τ.1) (H : zLd ζ τ own h al ea af laid ta taped ra da mc N A L) (hK : 2 ^ 50 ≤ K) : zR τ (fnX0_isRight K ζ h (nI k) τ) (fun v t => v = nb (decide (sFt L k = 0)) ∧ zAd ζ own h al ea af ta taped ra da mc N A L laid τ t) := by
  refine zR_imp (hx_isRight k hk hζ H hK) (fun v t _ P => ⟨P.1, max laid (k + 1), Nat.le_max_left _ _, P.2.1, P.2.2.le ?_ ?_⟩)
  · rcases Nat.le_total laid (k + 1) with h | h
    · rw [Nat.max_eq_right h]; exact Nat.le_refl _
    · rw [Nat.max_eq_left h]; omega
  · rcases Nat.le_total laid (k + 1) with h | h
    · rw [Nat.max_eq_right h]; exact Nat.le_refl _
    · rw [Nat.max_eq_left h]; omega
theorem hx_restL (before q : Nat) (hq : q < 2 ^ 62) (hb : before ≤ N) (hK : 2 ^ 50 ≤ K) : ∀ m i kk laid τ, i + m = before → ζ.1 ≤ τ.1 → zLd ζ τ own h al ea af laid ta taped ra da mc N A L → 2 * m + 1 ≤ kk →
    zR τ ((lfX0_restOn K ζ kk).1 h (lN q) (nI before) (nI i) τ) (fun v t => v = oI (sRest (fun k => (L k).1) (sFt L) q m i) ∧ zAd ζ own h al ea af ta taped ra da mc N A L laid τ t) := by
  intro m
  induction m with
  | zero =>
    intro i kk laid τ hi hζ H hk
    obtain ⟨k, rfl⟩ : ∃ j, kk = j + 1 := ⟨kk - 1, by omega⟩
    have := H.2.2.2.1
    rw [luX0_restOn_1]
    exact zR_t (nI_le (by omega) (by omega)) (zR_r ⟨rfl, zAd.rf H⟩)
  | succ m ih =>
    intro i kk laid τ hi hζ H hk
    obtain ⟨k, rfl⟩ : ∃ j, kk = j + 1 := ⟨kk - 1, by omega⟩
    have H0 := H
    obtain ⟨a1, a2, -, a4, a5, -, -⟩ := H
    have hiN : i < N := by omega
    obtain ⟨hln, -⟩ := a5 i hiN
    have hs4 := hln.2.1
    have hn9 := hln.2.2.1
    rw [luX0_restOn_1]
    refine zR_f (nI_ge (by omega) (by omega)) ?_
    simp only [a1.ob, a2.1.ob, dzb, dzc, dzl, fl0, fl1, fl2, fl3, fl4, fl5, fl6, fl7, fi0, fi1, fi2, fi3, fi4, fi5, fi6, fi7, fr0, fr1, fr2, fr3, fr4, fr5, fr6, fr7, fs0, fs1, fs2, fs3, fs4, fs5, fs6, fs7]
    have eg := hj_get K ζ τ al ea mc (xsA N A) a2 i (by rw [xsA_len]; exact hiN) (by rw [xsA_len]; omega)
    rw [xsA_get] at eg
    refine zR_cl (Q := fun v t => v = (A i).1 ∧ t = τ) (zR_eq eg ⟨rfl, rfl⟩ zge.rfl) ?_
    intro v t _ P
    obtain ⟨rfl, rfl⟩ := P
    simp only [hln.1.1.oL (show 5 ≤ 5 + (L i).2.1 ∧ 5 + (L i).2.1 ≤ 9 by omega), a1.ob, dzb, dzc, dzl, fl0, fl1, fl2, fl3, fl4, fl5, fl6, fl7, fi0, fi1, fi2, fi3, fi4, fi5, fi6, fi7, fr0, fr1, fr2, fr3, fr4, fr5, fr6, fr7, fs0, fs1, fs2, fs3, fs4, fs5, fs6, fs7]
    have next : ∀ t2 l2, zge t t2 → laid ≤ l2 → zLd ζ t2 own h al ea af l2 ta taped ra da mc N A L → zk (fun a => a = h ∨ a = af) t t2 (40 * (l2 - laid)) (200 * (l2 - laid)) → zR t2 ((lfX0_restOn K ζ k).2 h (lN q) (nI before) (nI i) t2) (fun v t' => v = oI (sRest (fun k => (L k).1) (sFt L) q m (i + 1)) ∧ zAd ζ own h al ea af ta taped ra da mc N A L laid t t') := by
      intro t2 l2 g hl H2 hz
      obtain ⟨k, rfl⟩ : ∃ j, k = j + 1 := ⟨k - 1, by omega⟩
      rw [luX0_restOn_2]
      refine zR_l ?_
      rw [nI_1]
      refine zR_imp (ih (i + 1) k l2 t2 (by omega) (Nat.le_trans hζ g.1) H2 (by omega)) (fun v t' _ P => ⟨P.1, ?_⟩)
      obtain ⟨l3, b1, b2, b3⟩ := P.2
      exact ⟨l3, by omega, b2, (hz.tr b3).le (by omega) (by omega)⟩
    rw [sRest_s]
    by_cases hn : (L i).1 = q
    · refine zR_t ((pk_lEQ (by omega) (by omega)).mpr hn) (zR_cl (hx_isRight' i hiN hζ H0 hK) (fun v t2 g P => ?_))
      obtain ⟨rfl, l2, b1, b2, b3⟩ := P
      by_cases h0 : sFt L i = 0
      · rw [if_pos (show (L i).1 = q ∧ sFt L i = 0 from ⟨hn, h0⟩)]
        exact zR_f (nb_ne0 (decide_eq_true h0)) (zR_r ⟨rfl, l2, b1, b2, b3⟩)
      · rw [if_neg (show ¬ ((L i).1 = q ∧ sFt L i = 0) from fun e => h0 e.2)]
        exact zR_t (by rw [decide_eq_false h0]; rfl) (next t2 l2 g b1 b2 b3)
    · rw [if_neg (show ¬ ((L i).1 = q ∧ sFt L i = 0) from fun e => hn e.1)]
      exact zR_f (fun e => hn ((pk_lEQ (by omega) (by omega)).mp e)) (next t laid zge.rfl (Nat.le_refl _) H0 (zk.rfl.le (by omega) (by omega)))
/-- the least right line for a number among so many -/
theorem hx_restOn {τ : pH} {laid : Nat} (before q : Nat) (hq : q < 2 ^ 62) (hb : before ≤ N) (hζ : ζ.1 ≤ τ.1) (H : zLd ζ τ own h al ea af laid ta taped ra da mc N A L) (hK : 2 ^ 50 ≤ K) : zR τ (fnX0_restOn K ζ h (lN q) (nI before) τ) (fun v t => v = oI (sRest (fun k => (L k).1) (sFt L) q before 0) ∧ zAd ζ own h al ea af ta taped ra da mc N A L laid τ t) := by
  have := H.2.2.2.1
  exact hx_restL before q hq hb hK before 0 K laid τ (by omega) hζ H (by omega)
/-- the set of lines that are right -/
noncomputable def sRight (L : Nat → sLn) : Nat → Nat := Nat.rec (motive := fun _ => Nat) 0 (fun k x => x + (if sFt L k = 0 then 2 ^ k else 0))
theorem sRight_s (L : Nat → sLn) (k : Nat) : sRight L (k + 1) = sRight L k + (if sFt L k = 0 then 2 ^ k else 0) := rfl
theorem sRight_lt (L : Nat → sLn) : ∀ k, sRight L k < 2 ^ k := by
  intro k
  induction k with
  | zero => exact Nat.zero_lt_one
  | succ k ih =>
    rw [sRight_s, Nat.pow_succ]
    split <;> omega
end CR
theorem sh1 : ∀ k, k < 60 → (1 : Int64) <<< ((nI k).toInt64 &&& 63) = lN (2 ^ k) := by decide +kernel
theorem or_add {x k : Nat} (h : x < 2 ^ k) (hk : k < 62) : lN x ||| lN (2 ^ k) = lN (x + 2 ^ k) := by
  have hp : (2 : Nat) ^ k ≤ 2 ^ 61 := Nat.pow_le_pow_right (by omega) (by omega)
  apply Int64.toBitVec_inj.mp
  apply BitVec.eq_of_toNat_eq
  rw [Int64.toBitVec_or, BitVec.toNat_or]
  have h1 : (lN x).toBitVec.toNat = x := Nat.mod_eq_of_lt (by omega)
  have h2 : (lN (2 ^ k)).toBitVec.toNat = 2 ^ k := Nat.mod_eq_of_lt (by omega)
  have h3 : (lN (x + 2 ^ k)).toBitVec.toNat = x + 2 ^ k := Nat.mod_eq_of_lt (by omega)
  rw [h1, h2, h3]
  have := Nat.two_pow_add_eq_or_of_lt h 1
  rw [Nat.mul_one] at this
  rw [Nat.or_comm, ← this, Nat.add_comm]
theorem or_0 (x : Int64) : x ||| 0 = x := by
  apply Int64.toBitVec_inj.mp
  rw [Int64.toBitVec_or]
  exact BitVec.or_zero
section CR2
variable {K : Nat} {ζ : pZ} {own : Nat → Nat × Nat × Nat} {h al ea af ta taped ra da : Nat} {mc : Int32} {N : Nat} {A : Nat → lA} {L : Nat → sLn}
theorem hx_rightL (hK : 2 ^ 50 ≤ K) : ∀ m i kk laid τ, i + m = N → ζ.1 ≤ τ.1 → zLd ζ τ own h al ea af laid ta taped ra da mc N A L → m + 1 ≤ kk →
    zR τ ((lfX0_right K ζ kk) h (lN (sRight L i)) (nI i) τ) (fun v t => v = lN (sRight L N) ∧ zAd ζ own h al ea af ta taped ra da mc N A L laid τ t) := by
  intro m
  induction m with
  | zero =>
    intro i kk laid τ hi hζ H hk
    obtain ⟨k, rfl⟩ : ∃ j, kk = j + 1 := ⟨kk - 1, by omega⟩
    have hN := H.2.2.2.1
    rw [luX0_right_1]
    simp only [H.1.ob, H.2.1.1.ob, dzb, dzc, dzl, fl0, fl1, fl2, fl3, fl4, fl5, fl6, fl7, fi0, fi1, fi2, fi3, fi4, fi5, fi6, fi7, fr0, fr1, fr2, fr3, fr4, fr5, fr6, fr7, fs0, fs1, fs2, fs3, fs4, fs5, fs6, fs7]
    refine zR_cl (Q := fun v t => v = nI N ∧ t = τ) (zR_eq (hj_size K ζ τ al ea mc _ H.2.1.1) ⟨by rw [xsA_len], rfl⟩ zge.rfl) ?_
    intro v t _ P
    obtain ⟨rfl, rfl⟩ := P
    refine zR_t (nI_le (by omega) (by omega)) (zR_r ⟨?_, zAd.rf H⟩)
    rw [show i = N by omega]
  | succ m ih =>
    intro i kk laid τ hi hζ H hk
    obtain ⟨k, rfl⟩ : ∃ j, kk = j + 1 := ⟨kk - 1, by omega⟩
    have hN := H.2.2.2.1
    rw [luX0_right_1]
    simp only [H.1.ob, H.2.1.1.ob, dzb, dzc, dzl, fl0, fl1, fl2, fl3, fl4, fl5, fl6, fl7, fi0, fi1, fi2, fi3, fi4, fi5, fi6, fi7, fr0, fr1, fr2, fr3, fr4, fr5, fr6, fr7, fs0, fs1, fs2, fs3, fs4, fs5, fs6, fs7]
    refine zR_cl (Q := fun v t => v = nI N ∧ t = τ) (zR_eq (hj_size K ζ τ al ea mc _ H.2.1.1) ⟨by rw [xsA_len], rfl⟩ zge.rfl) ?_
    intro v t _ P
    obtain ⟨rfl, rfl⟩ := P
    refine zR_f (nI_ge (by omega) (by omega)) ?_
    simp only [H.1.ob, dzb, dzc, dzl, fl0, fl1, fl2, fl3, fl4, fl5, fl6, fl7, fi0, fi1, fi2, fi3, fi4, fi5, fi6, fi7, fr0, fr1, fr2, fr3, fr4, fr5, fr6, fr7, fs0, fs1, fs2, fs3, fs4, fs5, fs6, fs7]
    refine zR_cl (hx_isRight' i (by omega) hζ H hK) (fun v t2 g P => ?_)
    obtain ⟨rfl, l2, b1, b2, b3⟩ := P
    have fin : ∀ x, x = lN (sRight L (i + 1)) → zR t2 ((lfX0_right K ζ k) h x (nI i + 1) t2) (fun v t' => v = lN (sRight L N) ∧ zAd ζ own h al ea af ta taped ra da mc N A L laid t t') := by
      intro x hx
      rw [hx, nI_1]
      refine zR_imp (ih (i + 1) k l2 t2 (by omega) (Nat.le_trans hζ g.1) b2 (by omega)) (fun v t' _ P => ⟨P.1, ?_⟩)
      obtain ⟨l3, c1, c2, c3⟩ := P.2
      exact ⟨l3, by omega, c2, (b3.tr c3).le (by omega) (by omega)⟩
    by_cases h0 : sFt L i = 0
    · refine zR_f (nb_ne0 (decide_eq_true h0)) (fin _ ?_)
      rw [sh1 i (by omega), or_add (sRight_lt L i) (by omega), sRight_s, if_pos h0]
    · refine zR_t (by rw [decide_eq_false h0]; rfl) (fin _ ?_)
      rw [or_0, sRight_s, if_neg h0, Nat.add_zero]
theorem hx_right {τ : pH} {laid : Nat} (hζ : ζ.1 ≤ τ.1) (H : zLd ζ τ own h al ea af laid ta taped ra da mc N A L) (hK : 2 ^ 50 ≤ K) : zR τ (fnX0_right K ζ h τ) (fun v t => v = lN (sRight L N) ∧ zAd ζ own h al ea af ta taped ra da mc N A L laid τ t) := by
  have := H.2.2.2.1
  exact hx_rightL hK N 0 K laid τ (by omega) hζ H (by omega)
end CR2
