/-! which line is meant; mend, drop, clear -/
theorem i64_le (x y : Int32) : x.toInt64 ≤ y.toInt64 ↔ x ≤ y := by rw [Int64.le_iff_toInt_le, Int32.toInt_toInt64, Int32.toInt_toInt64, Int32.le_iff_toInt_le]
theorem ix_cases (x : Int32) (N : Nat) (hN : N ≤ 60) : (∃ k, k < N ∧ x = nI k ∧ (0 : Int64) ≤ x.toInt64 ∧ x.toInt64 ≤ (nI N - 1).toInt64) ∨ ((¬ ∃ k, k < N ∧ x = nI k) ∧ ¬ ((0 : Int64) ≤ x.toInt64 ∧ x.toInt64 ≤ (nI N - 1).toInt64)) := by
  have z0 : (0 : Int64) = (0 : Int32).toInt64 := by decide
  have t0 : (0 : Int32).toInt = 0 := by decide
  have tN : (nI N - 1).toInt = (N : Int) - 1 := by
    rcases Nat.eq_zero_or_pos N with h | h
    · subst h; decide
    · obtain ⟨M, rfl⟩ : ∃ M, N = M + 1 := ⟨N - 1, by omega⟩
      rw [nI_pred, nI_toInt (by omega)]
      omega
  rw [z0, i64_le, i64_le, Int32.le_iff_toInt_le, Int32.le_iff_toInt_le, t0, tN]
  rcases pk_ix x (n := N) (by omega) with h | h | ⟨j, hj, rfl⟩
  · rw [Int32.lt_iff_toInt_lt, t0] at h
    refine Or.inr ⟨fun ⟨k, hk, e⟩ => ?_, by omega⟩
    rw [e, nI_toInt (by omega)] at h
    omega
  · rw [Int32.le_iff_toInt_le, nI_toInt (by omega)] at h
    refine Or.inr ⟨fun ⟨k, hk, e⟩ => ?_, by omega⟩
    rw [e, nI_toInt (by omega)] at h
    omega
  · have e : (nI j).toInt = (j : Int) := nI_toInt (by omega)
    rw [e]
    exact Or.inl ⟨j, hj, rfl, by omega, by omega⟩
theorem hx_isLine {K : Nat} {ζ : pZ} {τ : pH} {own : Nat → Nat × Nat × Nat} {h al ea af laid ta taped ra da : Nat} {mc : Int32} {N : Nat} {A : Nat → lA} {L : Nat → sLn} (x : Int32) (H : zLd ζ τ own h al ea af laid ta taped ra da mc N A L) : (∃ k, k < N ∧ x = nI k ∧ fnX0_isLine K ζ h x τ = some (1, τ)) ∨ ((¬ ∃ k, k < N ∧ x = nI k) ∧ fnX0_isLine K ζ h x τ = some (0, τ)) := by
  have hN := H.2.2.2.1.2
  have e : ∀ b : Bool, decide ((0 : Int64) ≤ x.toInt64 ∧ x.toInt64 ≤ (nI N - 1).toInt64) = b → fnX0_isLine K ζ h x τ = some (nb b, τ) := by
    intro b hb
    unfold fnX0_isLine
    simp only [H.1.ob, H.2.1.1.ob, dzb, dzc, dzl, fl0, fl1, fl2, fl3, fl4, fl5, fl6, fl7, fi0, fi1, fi2, fi3, fi4, fi5, fi6, fi7, fr0, fr1, fr2, fr3, fr4, fr5, fr6, fr7, fs0, fs1, fs2, fs3, fs4, fs5, fs6, fs7]
    have es := hj_size K ζ τ al ea mc _ H.2.1.1
    rw [xsA_len] at es
    refine zcl_i es ⟨Nat.le_refl _, Nat.le_refl _⟩ ⟨Nat.le_refl _, Nat.le_refl _⟩ ?_
    rw [nx_isIn, dzb, hb, if_pos (nb_01 b)]
  rcases ix_cases x N hN with ⟨k, hk, ex, hd⟩ | ⟨hk, hd⟩
  · exact Or.inl ⟨k, hk, ex, e true (decide_eq_true hd)⟩
  · exact Or.inr ⟨hk, e false (decide_eq_false hd)⟩
theorem hx_clear {K : Nat} {ζ : pZ} {τ : pH} {h N : Nat} {L : Nat → sLn} {taped : Nat} {tp : Nat → Int32} (hζ : ζ.1 ≤ τ.1) (U : zU ζ τ h N L taped tp) (hK : 2 ^ 50 ≤ K) : zR τ (fnX0_clear K ζ h τ) (fun v t => v = nI N ∧ zU ζ t h 0 L taped tp ∧ zN τ t 0 0) := by
  obtain ⟨own, al, ea, af, laid, ta, ra, da, mc, A, H, T, D⟩ := U
  unfold fnX0_clear
  simp only [H.1.ob, H.2.1.1.ob, dzb, dzc, dzl, fl0, fl1, fl2, fl3, fl4, fl5, fl6, fl7, fi0, fi1, fi2, fi3, fi4, fi5, fi6, fi7, fr0, fr1, fr2, fr3, fr4, fr5, fr6, fr7, fs0, fs1, fs2, fs3, fs4, fs5, fs6, fs7]
  refine zR_cl (Q := fun v t => v = nI N ∧ t = τ) (zR_eq (hj_size K ζ τ al ea mc _ H.2.1.1) ⟨by rw [xsA_len], rfl⟩ zge.rfl) ?_
  intro v t _ P
  obtain ⟨rfl, rfl⟩ := P
  simp only [H.1.ob, dzb, dzc, dzl, fl0, fl1, fl2, fl3, fl4, fl5, fl6, fl7, fi0, fi1, fi2, fi3, fi4, fi5, fi6, fi7, fr0, fr1, fr2, fr3, fr4, fr5, fr6, fr7, fs0, fs1, fs2, fs3, fs4, fs5, fs6, fs7]
  refine zR_cl (hx_goesBack 0 (Nat.zero_le _) hζ H T hK) (fun _ t2 _ P => ?_)
  obtain ⟨mc5, q1, q2, q3⟩ := P
  exact zR_r ⟨rfl, ⟨own, al, ea, af, _, ta, ra, da, mc5, A, q1, q2, fun j k hj hk e => D j k (by omega) (by omega) e⟩, q3.N (by omega) (by omega)⟩
theorem hx_drop {K : Nat} {ζ : pZ} {τ : pH} {h N : Nat} {L : Nat → sLn} {taped : Nat} {tp : Nat → Int32} (hζ : ζ.1 ≤ τ.1) (U : zU ζ τ h N L taped tp) (hK : 2 ^ 50 ≤ K) : zR τ (fnX0_drop K ζ h τ) (fun v t => v = (if N = 0 then -1 else nI (N - 1)) ∧ zU ζ t h (N - 1) L taped tp ∧ zN τ t 0 0) := by
  obtain ⟨own, al, ea, af, laid, ta, ra, da, mc, A, H, T, D⟩ := U
  have hN := H.2.2.2.1.2
  have ee : fnJ2_isEmpty K ζ al τ = some (nb (decide (N = 0)), τ) := by
    unfold fnJ2_isEmpty
    simp only [H.2.1.1.ob, dzb, dzc, dzl, fl0, fl1, fl2, fl3, fl4, fl5, fl6, fl7, fi0, fi1, fi2, fi3, fi4, fi5, fi6, fi7, fr0, fr1, fr2, fr3, fr4, fr5, fr6, fr7, fs0, fs1, fs2, fs3, fs4, fs5, fs6, fs7, xsA_len]
    by_cases h0 : N = 0
    · subst h0; rfl
    · rw [if_neg (nI_ne0 (by omega) (by omega)), decide_eq_false h0]; rfl
  unfold fnX0_drop
  simp only [H.1.ob, H.2.1.1.ob, dzb, dzc, dzl, fl0, fl1, fl2, fl3, fl4, fl5, fl6, fl7, fi0, fi1, fi2, fi3, fi4, fi5, fi6, fi7, fr0, fr1, fr2, fr3, fr4, fr5, fr6, fr7, fs0, fs1, fs2, fs3, fs4, fs5, fs6, fs7]
  refine zR_cl (Q := fun v t => v = nb (decide (N = 0)) ∧ t = τ) (zR_eq ee ⟨rfl, rfl⟩ zge.rfl) ?_
  intro v t _ P
  obtain ⟨rfl, rfl⟩ := P
  by_cases h0 : N = 0
  · subst h0
    refine zR_f (by decide) (zR_r ⟨rfl, ⟨own, al, ea, af, laid, ta, ra, da, mc, A, H, T, D⟩, zk.rfl.N (S := zno) (by omega) (by omega)⟩)
  · refine zR_t (by rw [decide_eq_false h0]; rfl) ?_
    simp only [H.1.ob, H.2.1.1.ob, dzb, dzc, dzl, fl0, fl1, fl2, fl3, fl4, fl5, fl6, fl7, fi0, fi1, fi2, fi3, fi4, fi5, fi6, fi7, fr0, fr1, fr2, fr3, fr4, fr5, fr6, fr7, fs0, fs1, fs2, fs3, fs4, fs5, fs6, fs7]
    refine zR_cl (Q := fun v t' => v = nI N ∧ t' = t) (zR_eq (hj_size K ζ t al ea mc _ H.2.1.1) ⟨by rw [xsA_len], rfl⟩ zge.rfl) ?_
    intro v t' _ P
    obtain ⟨rfl, rfl⟩ := P
    have e1 : nI N - 1 = nI (N - 1) := by
      obtain ⟨M, rfl⟩ : ∃ M, N = M + 1 := ⟨N - 1, by omega⟩
      exact nI_pred M
    rw [if_neg h0, e1]
    simp only [H.1.ob, dzb, dzc, dzl, fl0, fl1, fl2, fl3, fl4, fl5, fl6, fl7, fi0, fi1, fi2, fi3, fi4, fi5, fi6, fi7, fr0, fr1, fr2, fr3, fr4, fr5, fr6, fr7, fs0, fs1, fs2, fs3, fs4, fs5, fs6, fs7]
    refine zR_cl (hx_goesBack (N - 1) (by omega) hζ H T hK) (fun _ t2 _ P => ?_)
    obtain ⟨mc5, q1, q2, q3⟩ := P
    simp only [q1.1.ob, q1.2.1.1.ob, dzb, dzc, dzl, fl0, fl1, fl2, fl3, fl4, fl5, fl6, fl7, fi0, fi1, fi2, fi3, fi4, fi5, fi6, fi7, fr0, fr1, fr2, fr3, fr4, fr5, fr6, fr7, fs0, fs1, fs2, fs3, fs4, fs5, fs6, fs7]
    refine zR_cl (Q := fun v t' => v = nI (N - 1) ∧ t' = t2) (zR_eq (hj_size K ζ t2 al ea mc5 _ q1.2.1.1) ⟨by rw [xsA_len], rfl⟩ zge.rfl) ?_
    intro v t3 _ P
    obtain ⟨rfl, rfl⟩ := P
    exact zR_r ⟨rfl, ⟨own, al, ea, af, _, ta, ra, da, mc5, A, q1, q2, fun j k hj hk e => D j k (by omega) (by omega) e⟩, q3.N (by omega) (by omega)⟩
