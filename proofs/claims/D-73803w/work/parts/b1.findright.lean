/-! the least right line for a number and a sort -/
def oN (o : Option Nat) : Int32 := match o with
  | some k => nI k
  | none => -1
noncomputable def sFr (L : Nat → sLn) (q w : Nat) : Nat → Nat → Option Nat := Nat.rec (motive := fun _ => Nat → Option Nat) (fun _ => none) (fun _ G i => if ((L i).1 = q ∧ (L i).2.1 = w) ∧ sFt L i = 0 then some i else G (i + 1))
theorem sFr_s (L : Nat → sLn) (q w m i : Nat) : sFr L q w (m + 1) i = if ((L i).1 = q ∧ (L i).2.1 = w) ∧ sFt L i = 0 then some i else sFr L q w m (i + 1) := rfl
theorem nI_eq5 : ∀ a, a < 5 → ∀ b, b < 5 → ((nI a = nI b) ↔ a = b) := by decide
theorem sFr_lt (L : Nat → sLn) (q w : Nat) : ∀ m i r, sFr L q w m i = some r → i ≤ r ∧ r < i + m ∧ (L r).1 = q ∧ (L r).2.1 = w ∧ sFt L r = 0 := by
  intro m
  induction m with
  | zero => intro i r h; cases h
  | succ m ih =>
    intro i r h
    rw [sFr_s] at h
    by_cases hc : ((L i).1 = q ∧ (L i).2.1 = w) ∧ sFt L i = 0
    · rw [if_pos hc] at h
      have : i = r := Option.some.inj h
      subst this
      exact ⟨Nat.le_refl _, by omega, hc.1.1, hc.1.2, hc.2⟩
    · rw [if_neg hc] at h
      have := ih (i + 1) r h
      exact ⟨by omega, by omega, this.2.2⟩
section CF
variable {K : Nat} {ζ : pZ} {own : Nat → Nat × Nat × Nat} {h al ea af ta taped ra da : Nat} {mc : Int32} {N : Nat} {A : Nat → lA} {L : Nat → sLn}
theorem hx_findRL (q w : Nat) (hq : q < 2 ^ 62) (hw : w < 5) (hK : 2 ^ 50 ≤ K) : ∀ m i kk laid τ, i + m = N → ζ.1 ≤ τ.1 → zLd ζ τ own h al ea af laid ta taped ra da mc N A L → 2 * m + 1 ≤ kk →
    zR τ ((lfX0_findRight K ζ kk).1 h (lN q) (nI w) (nI i) τ) (fun v t => v = oN (sFr L q w m i) ∧ zAd ζ own h al ea af ta taped ra da mc N A L laid τ t) := by
  intro m
  induction m with
  | zero =>
    intro i kk laid τ hi hζ H hk
    obtain ⟨k, rfl⟩ : ∃ j, kk = j + 1 := ⟨kk - 1, by omega⟩
    have hN := H.2.2.2.1
    rw [luX0_findRight_1]
    simp only [H.1.ob, H.2.1.1.ob, dzb, dzc, dzl, fl0, fl1, fl2, fl3, fl4, fl5, fl6, fl7, fi0, fi1, fi2, fi3, fi4, fi5, fi6, fi7, fr0, fr1, fr2, fr3, fr4, fr5, fr6, fr7, fs0, fs1, fs2, fs3, fs4, fs5, fs6, fs7]
    refine zR_cl (Q := fun v t => v = nI N ∧ t = τ) (zR_eq (hj_size K ζ τ al ea mc _ H.2.1.1) ⟨by rw [xsA_len], rfl⟩ zge.rfl) ?_
    intro v t _ P
    obtain ⟨rfl, rfl⟩ := P
    exact zR_t (nI_le (by omega) (by omega)) (zR_r ⟨rfl, zAd.rf H⟩)
  | succ m ih =>
    intro i kk laid τ hi hζ H hk
    obtain ⟨k, rfl⟩ : ∃ j, kk = j + 1 := ⟨kk - 1, by omega⟩
    have H0 := H
    obtain ⟨a1, a2, -, a4, a5, -, -⟩ := H
    have hiN : i < N := by omega
    obtain ⟨hln, -⟩ := a5 i hiN
    have hs4 := hln.2.1
    have hn9 := hln.2.2.1
    rw [luX0_findRight_1]
    simp only [a1.ob, a2.1.ob, dzb, dzc, dzl, fl0, fl1, fl2, fl3, fl4, fl5, fl6, fl7, fi0, fi1, fi2, fi3, fi4, fi5, fi6, fi7, fr0, fr1, fr2, fr3, fr4, fr5, fr6, fr7, fs0, fs1, fs2, fs3, fs4, fs5, fs6, fs7]
    refine zR_cl (Q := fun v t => v = nI N ∧ t = τ) (zR_eq (hj_size K ζ τ al ea mc _ a2.1) ⟨by rw [xsA_len], rfl⟩ zge.rfl) ?_
    intro v t _ P
    obtain ⟨rfl, rfl⟩ := P
    refine zR_f (nI_ge (by omega) (by omega)) ?_
    simp only [a1.ob, a2.1.ob, dzb, dzc, dzl, fl0, fl1, fl2, fl3, fl4, fl5, fl6, fl7, fi0, fi1, fi2, fi3, fi4, fi5, fi6, fi7, fr0, fr1, fr2, fr3, fr4, fr5, fr6, fr7, fs0, fs1, fs2, fs3, fs4, fs5, fs6, fs7]
    have eg := hj_get K ζ t al ea mc (xsA N A) a2 i (by rw [xsA_len]; exact hiN) (by rw [xsA_len]; omega)
    rw [xsA_get] at eg
    refine zR_cl (Q := fun v t' => v = (A i).1 ∧ t' = t) (zR_eq eg ⟨rfl, rfl⟩ zge.rfl) ?_
    intro v t' _ P
    obtain ⟨rfl, rfl⟩ := P
    simp only [hln.1.1.oL (show 5 ≤ 5 + (L i).2.1 ∧ 5 + (L i).2.1 ≤ 9 by omega), a1.ob, a2.1.ob, dzb, dzc, dzl, fl0, fl1, fl2, fl3, fl4, fl5, fl6, fl7, fi0, fi1, fi2, fi3, fi4, fi5, fi6, fi7, fr0, fr1, fr2, fr3, fr4, fr5, fr6, fr7, fs0, fs1, fs2, fs3, fs4, fs5, fs6, fs7]
    have next : ∀ t2 l2, zge t' t2 → laid ≤ l2 → zLd ζ t2 own h al ea af l2 ta taped ra da mc N A L → zk (fun a => a = h ∨ a = af) t' t2 (40 * (l2 - laid)) (200 * (l2 - laid)) → zR t2 ((lfX0_findRight K ζ k).2 h (lN q) (nI w) (nI i) t2) (fun v t'' => v = oN (sFr L q w m (i + 1)) ∧ zAd ζ own h al ea af ta taped ra da mc N A L laid t' t'') := by
      intro t2 l2 g hl H2 hz
      obtain ⟨k, rfl⟩ : ∃ j, k = j + 1 := ⟨k - 1, by omega⟩
      rw [luX0_findRight_2]
      refine zR_l ?_
      rw [nI_1]
      refine zR_imp (ih (i + 1) k l2 t2 (by omega) (Nat.le_trans hζ g.1) H2 (by omega)) (fun v t'' _ P => ⟨P.1, ?_⟩)
      obtain ⟨l3, b1, b2, b3⟩ := P.2
      exact ⟨l3, by omega, b2, (hz.tr b3).le (by omega) (by omega)⟩
    have same := next t' laid zge.rfl (Nat.le_refl _) H0 (zk.rfl.le (by omega) (by omega))
    rw [sFr_s]
    by_cases hn : (L i).1 = q
    · refine zR_t ((pk_lEQ (by omega) (by omega)).mpr hn) ?_
      refine zR_cl (Q := fun v t => v = (A i).1 ∧ t = t') (zR_eq eg ⟨rfl, rfl⟩ zge.rfl) ?_
      intro v t3 _ P
      obtain ⟨rfl, rfl⟩ := P
      simp only [hln.1.1.oL (show 5 ≤ 5 + (L i).2.1 ∧ 5 + (L i).2.1 ≤ 9 by omega), a1.ob, dzb, dzc, dzl, fl0, fl1, fl2, fl3, fl4, fl5, fl6, fl7, fi0, fi1, fi2, fi3, fi4, fi5, fi6, fi7, fr0, fr1, fr2, fr3, fr4, fr5, fr6, fr7, fs0, fs1, fs2, fs3, fs4, fs5, fs6, fs7]
      by_cases hs : (L i).2.1 = w
      · refine zR_t ((nI_eq5 _ (by omega) _ hw).mpr hs) (zR_cl (hx_isRight' i hiN hζ H0 hK) (fun v t2 g P => ?_))
        obtain ⟨rfl, l2, b1, b2, b3⟩ := P
        by_cases h0 : sFt L i = 0
        · rw [if_pos (show ((L i).1 = q ∧ (L i).2.1 = w) ∧ sFt L i = 0 from ⟨⟨hn, hs⟩, h0⟩)]
          exact zR_f (nb_ne0 (decide_eq_true h0)) (zR_r ⟨rfl, l2, b1, b2, b3⟩)
        · rw [if_neg (show ¬ (((L i).1 = q ∧ (L i).2.1 = w) ∧ sFt L i = 0) from fun e => h0 e.2)]
          exact zR_t (by rw [decide_eq_false h0]; rfl) (next t2 l2 g b1 b2 b3)
      · rw [if_neg (show ¬ (((L i).1 = q ∧ (L i).2.1 = w) ∧ sFt L i = 0) from fun e => hs e.1.2)]
        exact zR_f (fun e => hs ((nI_eq5 _ (by omega) _ hw).mp e)) same
    · rw [if_neg (show ¬ (((L i).1 = q ∧ (L i).2.1 = w) ∧ sFt L i = 0) from fun e => hn e.1.1)]
      exact zR_f (fun e => hn ((pk_lEQ (by omega) (by omega)).mp e)) same
theorem hx_findRight {τ : pH} {laid : Nat} (q w : Nat) (hq : q < 2 ^ 62) (hw : w < 5) (hζ : ζ.1 ≤ τ.1) (H : zLd ζ τ own h al ea af laid ta taped ra da mc N A L) (hK : 2 ^ 50 ≤ K) : zR τ (fnX0_findRight K ζ h (lN q) (nI w) τ) (fun v t => v = oN (sFr L q w N 0) ∧ zAd ζ own h al ea af ta taped ra da mc N A L laid τ t) := by
  have := H.2.2.2.1
  exact hx_findRL q w hq hw hK N 0 K laid τ (by omega) hζ H (by omega)
end CF
