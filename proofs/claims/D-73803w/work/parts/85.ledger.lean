/-! the list of lines, what a row rests on -/
abbrev alE (mc : Int32) (ea k : Nat) : pE := .inr (14, [.int mc, .ref ea, .int (nI k)])
abbrev aaE (cap : Nat) (f : Nat → Option Nat) : pE := .inl (4, cap, .inr (.inr (.inr (.inr f))))
def zAL (ζ : pZ) (τ : pH) (al ea : Nat) (mc : Int32) (xs : List Nat) : Prop := zin ζ τ al (alE mc ea xs.length) ∧ ((ea = ζ.2.2.2 0 ∧ xs = []) ∨ ∃ cap f, zin ζ τ ea (aaE cap f) ∧ xs.length ≤ cap ∧ cap ≤ 1000 ∧ ea ≠ al ∧ ea ≠ ζ.2.2.2 0 ∧ ∀ i (h : i < xs.length), f i = some xs[i])
theorem zAL.k {ζ : pZ} {τ τ' : pH} {al ea c s : Nat} {mc : Int32} {xs : List Nat} {S : Nat → Prop} (h : zAL ζ τ al ea mc xs) (k : zk S τ τ' c s) (h1 : ¬ S al) (h2 : ¬ S ea) : zAL ζ τ' al ea mc xs := by
  refine ⟨k.in h.1 h1, ?_⟩
  rcases h.2 with h | ⟨cap, f, a, b⟩
  · exact Or.inl h
  · exact Or.inr ⟨cap, f, k.in a h2, b⟩
theorem hj_get (K : Nat) (ζ : pZ) (τ : pH) (al ea : Nat) (mc : Int32) (xs : List Nat) (h : zAL ζ τ al ea mc xs) (i : Nat) (hi : i < xs.length) (hl : xs.length ≤ 1000) : fnJ2_get K ζ al (nI i) τ = some (xs[i], τ) := by
  obtain ⟨ha, h⟩ := h
  rcases h with ⟨-, h⟩ | ⟨cap, f, he, hc, hc2, -, -, hf⟩
  · rw [h] at hi; exact absurd hi (Nat.not_lt_zero _)
  · unfold fnJ2_get
    simp only [ha.ob, dzb, dzc, dzl, fl0, fl1, fl2, fl3, fl4, fl5, fl6, fl7, fi0, fi1, fi2, fi3, fi4, fi5, fi6, fi7, fr0, fr1, fr2, fr3, fr4, fr5, fr6, fr7, fs0, fs1, fs2, fs3, fs4, fs5, fs6, fs7]
    refine zcl_i (x := nI i) (τ1 := τ) ?_ ⟨Nat.le_refl _, Nat.le_refl _⟩ ⟨Nat.le_refl _, Nat.le_refl _⟩ ?_
    · unfold fnJ3_checkIndex
      refine zcl_i (x := nI i) (τ1 := τ) ?_ ⟨Nat.le_refl _, Nat.le_refl _⟩ ⟨Nat.le_refl _, Nat.le_refl _⟩ rfl
      unfold fnJ4_checkIndex_n
      rw [if_neg (nI_pos (by omega)), if_pos (nI_lt hi (by omega))]
    · simp only [ha.ob, dzb, dzc, dzl, fl0, fl1, fl2, fl3, fl4, fl5, fl6, fl7, fi0, fi1, fi2, fi3, fi4, fi5, fi6, fi7, fr0, fr1, fr2, fr3, fr4, fr5, fr6, fr7, fs0, fs1, fs2, fs3, fs4, fs5, fs6, fs7]
      refine zcl_i (x := xs[i]) (τ1 := τ) ?_ ⟨Nat.le_refl _, Nat.le_refl _⟩ ⟨Nat.le_refl _, Nat.le_refl _⟩ rfl
      unfold fnJ2_elementData
      simp only [ha.ob, he.aq, dzb, dzc, dzl, fl0, fl1, fl2, fl3, fl4, fl5, fl6, fl7, fi0, fi1, fi2, fi3, fi4, fi5, fi6, fi7, fr0, fr1, fr2, fr3, fr4, fr5, fr6, fr7, fs0, fs1, fs2, fs3, fs4, fs5, fs6, fs7]
      rw [if_pos (nI_in (by omega) (by omega)), nI_clamp (by omega), hf i hi]
      rfl
theorem hj_size (K : Nat) (ζ : pZ) (τ : pH) (al ea : Nat) (mc : Int32) (k : Nat) (h : zin ζ τ al (alE mc ea k)) : fnJ2_size K ζ al τ = some (nI k, τ) := by
  unfold fnJ2_size
  simp only [h.ob, dzb, dzc, dzl, fl0, fl1, fl2, fl3, fl4, fl5, fl6, fl7, fi0, fi1, fi2, fi3, fi4, fi5, fi6, fi7, fr0, fr1, fr2, fr3, fr4, fr5, fr6, fr7, fs0, fs1, fs2, fs3, fs4, fs5, fs6, fs7]
abbrev ppE (al af laid ta taped ra da : Nat) : pE := .inr (0, [.ref al, .ref af, .int (nI laid), .ref ta, .int (nI taped), .ref ra, .ref da])
abbrev faE (f : Nat → Int32) : pE := .inl (3, 60, .inl f)
/-- the least one, of so many from there on, that has a number and no fault -/
def sRest (nf ff : Nat → Nat) (q : Nat) : Nat → Nat → Option Nat := Nat.rec (motive := fun _ => Nat → Option Nat) (fun _ => none) (fun _ G i => if nf i = q ∧ ff i = 0 then some i else G (i + 1))
theorem sRest_s (nf ff : Nat → Nat) (q m i : Nat) : sRest nf ff q (m + 1) i = if nf i = q ∧ ff i = 0 then some i else sRest nf ff q m (i + 1) := rfl
def oI (o : Option Nat) : Int32 := match o with
  | some k => nI k
  | none => -2
/-- what is known of the lines ahead of one -/
def zFl (ζ : pZ) (τ : pH) (h al ea af laid ta taped ra da : Nat) (mc : Int32) (xs : List Nat) (nf ff : Nat → Nat) (before : Nat) : Prop := zin ζ τ h (ppE al af laid ta taped ra da) ∧ zAL ζ τ al ea mc xs ∧ (∃ f, zin ζ τ af (faE f) ∧ ∀ k, k < before → f k = nI (ff k)) ∧ before ≤ laid ∧ before ≤ xs.length ∧ (laid ≤ 60 ∧ xs.length ≤ 110) ∧ ∀ k (hk : k < xs.length), ∃ c s p q d u h', zin ζ τ xs[k] (lnE c s (nf k) p q d u h') ∧ (5 ≤ c ∧ c ≤ 9) ∧ nf k ≤ 1000000000
theorem zFl.z {ζ : pZ} {τ τ' : pH} {h al ea af laid ta taped ra da c s : Nat} {mc : Int32} {xs : List Nat} {nf ff : Nat → Nat} {before : Nat} {S : Nat → Prop} (H : zFl ζ τ h al ea af laid ta taped ra da mc xs nf ff before) (k : zk S τ τ' c s) (h1 : ¬ S h) (h2 : ¬ S al) (h3 : ¬ S ea) (h4 : ¬ S af) (h5 : ∀ x ∈ xs, ¬ S x) : zFl ζ τ' h al ea af laid ta taped ra da mc xs nf ff before := by
  obtain ⟨a1, a2, ⟨f, a3, a4⟩, a5, a6, a7, a8⟩ := H
  refine ⟨k.in a1 h1, a2.k k h2 h3, ⟨f, k.in a3 h4, a4⟩, a5, a6, a7, fun j hj => ?_⟩
  obtain ⟨c, s, p, q, d, u, h', b1, b2⟩ := a8 j hj
  exact ⟨c, s, p, q, d, u, h', k.in b1 (h5 _ (List.getElem_mem hj)), b2⟩
theorem zFl.k {ζ : pZ} {τ τ' : pH} {h al ea af laid ta taped ra da c s : Nat} {mc : Int32} {xs : List Nat} {nf ff : Nat → Nat} {before : Nat} (H : zFl ζ τ h al ea af laid ta taped ra da mc xs nf ff before) (k : zk zno τ τ' c s) : zFl ζ τ' h al ea af laid ta taped ra da mc xs nf ff before := H.z k (fun q => q) (fun q => q) (fun q => q) (fun q => q) (fun _ _ q => q)
theorem hx_rest0_loop (K : Nat) (ζ : pZ) (τ : pH) (h al ea af laid ta taped ra da : Nat) (mc : Int32) (xs : List Nat) (nf ff : Nat → Nat) (before q : Nat) (hq : q < 2 ^ 62) (H : zFl ζ τ h al ea af laid ta taped ra da mc xs nf ff before) (hff : ∀ k, k < before → ff k ≤ 9) : ∀ m i kk, i + m = before → 2 * m + 1 ≤ kk → (lfX0_restOn__0 K ζ kk).1 h (lN q) (nI before) (nI i) τ = some (oI (sRest nf ff q m i), τ) := by
  obtain ⟨a1, a2, ⟨f, a3, a4⟩, a5, a6, a7, a8⟩ := H
  intro m
  induction m with
  | zero =>
    intro i kk hi hk
    obtain ⟨k, rfl⟩ : ∃ j, kk = j + 1 := ⟨kk - 1, by omega⟩
    rw [luX0_restOn__0_1, if_pos (nI_le (by omega) (by omega))]
    rfl
  | succ m ih =>
    intro i kk hi hk
    obtain ⟨k, rfl⟩ : ∃ j, kk = j + 1 := ⟨kk - 1, by omega⟩
    obtain ⟨c, s, p', q', d, u, h', b1, b2, b3⟩ := a8 i (by omega)
    rw [luX0_restOn__0_1, if_neg (nI_ge (by omega) (by omega))]
    simp only [a1.ob, a2.1.ob, dzb, dzc, dzl, fl0, fl1, fl2, fl3, fl4, fl5, fl6, fl7, fi0, fi1, fi2, fi3, fi4, fi5, fi6, fi7, fr0, fr1, fr2, fr3, fr4, fr5, fr6, fr7, fs0, fs1, fs2, fs3, fs4, fs5, fs6, fs7]
    refine zcl_i (hj_get K ζ τ al ea mc xs a2 i (by omega) (by omega)) ⟨Nat.le_refl _, Nat.le_refl _⟩ ⟨Nat.le_refl _, Nat.le_refl _⟩ ?_
    simp only [b1.oL b2, dzb, dzc, dzl, fl0, fl1, fl2, fl3, fl4, fl5, fl6, fl7, fi0, fi1, fi2, fi3, fi4, fi5, fi6, fi7, fr0, fr1, fr2, fr3, fr4, fr5, fr6, fr7, fs0, fs1, fs2, fs3, fs4, fs5, fs6, fs7]
    have next : (lfX0_restOn__0 K ζ k).2 h (lN q) (nI before) (nI i) τ = some (oI (sRest nf ff q m (i + 1)), τ) := by
      obtain ⟨k, rfl⟩ : ∃ j, k = j + 1 := ⟨k - 1, by omega⟩
      rw [luX0_restOn__0_2, dzl, nI_1]
      exact ih (i + 1) k (by omega) (by omega)
    rw [sRest_s]
    by_cases hn : nf i = q
    · rw [if_pos ((pk_lEQ (by omega) (by omega)).mpr hn)]
      simp only [a1.ob, dzb, dzc, dzl, fl0, fl1, fl2, fl3, fl4, fl5, fl6, fl7, fi0, fi1, fi2, fi3, fi4, fi5, fi6, fi7, fr0, fr1, fr2, fr3, fr4, fr5, fr6, fr7, fs0, fs1, fs2, fs3, fs4, fs5, fs6, fs7]
      have er : fnX0_isRight__0 K ζ h (nI i) τ = some (nb (decide (ff i = 0)), τ) := by
        unfold fnX0_isRight__0
        simp only [a1.ob, dzb, dzc, dzl, fl0, fl1, fl2, fl3, fl4, fl5, fl6, fl7, fi0, fi1, fi2, fi3, fi4, fi5, fi6, fi7, fr0, fr1, fr2, fr3, fr4, fr5, fr6, fr7, fs0, fs1, fs2, fs3, fs4, fs5, fs6, fs7]
        rw [if_pos (nI_lt (by omega) (by omega)), a3.ai, dzc, if_pos (nI_in (by omega) (by omega)), nI_clamp (by omega), a4 i (by omega)]
        have hf9 := hff i (by omega)
        by_cases h0 : ff i = 0
        · rw [h0, if_pos (show nI 0 = 0 from rfl), decide_eq_true rfl]; rfl
        · rw [if_neg (nI_ne0 (by omega) (by omega)), decide_eq_false h0]; rfl
      by_cases h0 : ff i = 0
      · refine zcl_i er ⟨Nat.le_refl _, Nat.le_refl _⟩ ⟨Nat.le_refl _, Nat.le_refl _⟩ ?_
        rw [decide_eq_true h0, if_neg (by decide), if_pos ⟨hn, h0⟩]
        rfl
      · refine zcl_i er ⟨Nat.le_refl _, Nat.le_refl _⟩ ⟨Nat.le_refl _, Nat.le_refl _⟩ ?_
        rw [decide_eq_false h0, if_pos (by decide), if_neg (fun q => h0 q.2)]
        exact next
    · rw [if_neg (fun e => hn ((pk_lEQ (by omega) (by omega)).mp e)), if_neg (fun q => hn q.1)]
      exact next
theorem hx_rest0 (K : Nat) (ζ : pZ) (τ : pH) (h al ea af laid ta taped ra da : Nat) (mc : Int32) (xs : List Nat) (nf ff : Nat → Nat) (before q : Nat) (hq : q < 2 ^ 62) (H : zFl ζ τ h al ea af laid ta taped ra da mc xs nf ff before) (hff : ∀ k, k < before → ff k ≤ 9) (hK : 1000 ≤ K) : fnX0_restOn__0 K ζ h (lN q) (nI before) τ = some (oI (sRest nf ff q before 0), τ) := by
  have := H.2.2.2.2.1
  have := H.2.2.2.2.2.1.2
  exact hx_rest0_loop K ζ τ h al ea af laid ta taped ra da mc xs nf ff before q hq H hff before 0 K (by omega) (by omega)
theorem oI_nn (o : Option Nat) (h : ∀ k, o = some k → k < 2 ^ 31) : (0 : Int32) ≤ oI o ↔ o.isSome = true := by
  cases o with
  | none => exact ⟨fun q => absurd q (by decide), fun q => absurd q (by decide)⟩
  | some k => exact ⟨fun _ => rfl, fun _ => nI_pos' (h k rfl)⟩
theorem sRest_lt (nf ff : Nat → Nat) (q : Nat) : ∀ m i k, sRest nf ff q m i = some k → i ≤ k ∧ k < i + m ∧ nf k = q ∧ ff k = 0 := by
  intro m
  induction m with
  | zero => intro i k h; cases h
  | succ m ih =>
    intro i k h
    rw [sRest_s] at h
    by_cases hc : nf i = q ∧ ff i = 0
    · rw [if_pos hc] at h
      have : i = k := Option.some.inj h
      subst this
      exact ⟨Nat.le_refl _, by omega, hc.1, hc.2⟩
    · rw [if_neg hc] at h
      have := ih (i + 1) k h
      exact ⟨by omega, by omega, this.2.2⟩
