/-! ArrayList: set -/
theorem hj_set (K : Nat) (ζ : pZ) (τ : pH) (al ea : Nat) (mc : Int32) (xs : List Nat) (h : zAL ζ τ al ea mc xs) (i y c : Nat) (fs : List Value) (hy : zin ζ τ y (.inr (c, fs))) (hc : 5 ≤ c ∧ c ≤ 9) (hi : i < xs.length) (hl : xs.length ≤ 1000) : ∃ t, fnJ2_set K ζ al (nI i) y τ = some (xs[i], t) ∧ zge τ t ∧ t.1 = τ.1 ∧ zk (fun a => a = ea) τ t 0 0 ∧ zAL ζ t al ea mc (xs.set i y) := by
  obtain ⟨ha, hh⟩ := id h
  rcases hh with ⟨-, e⟩ | ⟨cap, f, hb, h1, h2, h3, h4, h5⟩
  · rw [e] at hi; exact absurd hi (Nat.not_lt_zero _)
  · refine ⟨zst τ ea (aaE cap (va_up f i (some y))), ?_, zge.rfl, rfl, zk_st rfl, ?_, ?_⟩
    · have eg : fnJ2_elementData K ζ al (nI i) τ = some (xs[i], τ) := by
        unfold fnJ2_elementData
        simp only [ha.ob, hb.aq, dzb, dzc, dzl, fl0, fl1, fl2, fl3, fl4, fl5, fl6, fl7, fi0, fi1, fi2, fi3, fi4, fi5, fi6, fi7, fr0, fr1, fr2, fr3, fr4, fr5, fr6, fr7, fs0, fs1, fs2, fs3, fs4, fs5, fs6, fs7]
        rw [if_pos (nI_in (by omega) (by omega)), nI_clamp (by omega), h5 i hi]
        rfl
      have ec : fnJ3_checkIndex K ζ (nI i) (nI xs.length) τ = some (nI i, τ) := by
        unfold fnJ3_checkIndex
        refine zcl_i (x := nI i) (τ1 := τ) ?_ ⟨Nat.le_refl _, Nat.le_refl _⟩ ⟨Nat.le_refl _, Nat.le_refl _⟩ rfl
        unfold fnJ4_checkIndex_n
        rw [if_neg (nI_pos (by omega)), if_pos (nI_lt hi (by omega))]
      unfold fnJ2_set
      simp only [ha.ob, dzb, dzc, dzl, fl0, fl1, fl2, fl3, fl4, fl5, fl6, fl7, fi0, fi1, fi2, fi3, fi4, fi5, fi6, fi7, fr0, fr1, fr2, fr3, fr4, fr5, fr6, fr7, fs0, fs1, fs2, fs3, fs4, fs5, fs6, fs7]
      refine zcl_i (x := nI i) (τ1 := τ) ec ⟨Nat.le_refl _, Nat.le_refl _⟩ ⟨Nat.le_refl _, Nat.le_refl _⟩ ?_
      simp only [ha.ob, dzb, dzc, dzl, fl0, fl1, fl2, fl3, fl4, fl5, fl6, fl7, fi0, fi1, fi2, fi3, fi4, fi5, fi6, fi7, fr0, fr1, fr2, fr3, fr4, fr5, fr6, fr7, fs0, fs1, fs2, fs3, fs4, fs5, fs6, fs7]
      refine zcl_i (x := xs[i]) (τ1 := τ) eg ⟨Nat.le_refl _, Nat.le_refl _⟩ ⟨Nat.le_refl _, Nat.le_refl _⟩ ?_
      simp only [ha.ob, hb.aq, hy.oL hc, dzb, dzc, dzl, fl0, fl1, fl2, fl3, fl4, fl5, fl6, fl7, fi0, fi1, fi2, fi3, fi4, fi5, fi6, fi7, fr0, fr1, fr2, fr3, fr4, fr5, fr6, fr7, fs0, fs1, fs2, fs3, fs4, fs5, fs6, fs7]
      rw [if_pos hb.1, if_pos (nI_in (by omega) (by omega)), if_pos hy.1, nI_clamp (by omega)]
    · rw [List.length_set]; exact ha.st_ne (Ne.symm h3)
    · refine Or.inr ⟨cap, va_up f i (some y), zin_st hb.1, by rw [List.length_set]; exact h1, h2, h3, h4, fun j hj => ?_⟩
      rw [List.length_set] at hj
      unfold va_up
      by_cases e : j = i
      · subst e
        rw [if_pos rfl, List.getElem_set_self]
      · rw [if_neg e, List.getElem_set_ne (Ne.symm e)]
        exact h5 j hj
