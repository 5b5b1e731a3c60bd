/-! ArrayList: a copy of the array -/
theorem hj_copyOf (K : Nat) (ζ : pZ) (τ : pH) (ea cap c2 : Nat) (f : Nat → Option Nat) (hζ : ζ.1 ≤ τ.1) (hb : zin ζ τ ea (aaE cap f)) (h4 : ea ≠ ζ.2.2.2 0) (hc : cap ≤ c2) (hc2 : c2 ≤ 1000) (hl : ∀ i, i < cap → ∀ y, f i = some y → ∃ c fs, zin ζ τ y (.inr (c, fs)) ∧ 5 ≤ c ∧ c ≤ 9) : fnJ7_copyOf K ζ ea (nI c2) τ = some (τ.1, znw τ c2 (aaE c2 (va_cpy f (fun _ => none) 0 0 cap))) := by
  have hb1 := hb.nw (n := c2) (e' := aaE c2 (fun _ => none))
  have hn1 := zin_nw (ζ := ζ) (τ := τ) (n := c2) (e := aaE c2 (fun _ => none)) hζ
  unfold fnJ7_copyOf
  simp only [hb.aq, dzb, dzc, dzl, fl0, fl1, fl2, fl3, fl4, fl5, fl6, fl7, fi0, fi1, fi2, fi3, fi4, fi5, fi6, fi7, fr0, fr1, fr2, fr3, fr4, fr5, fr6, fr7, fs0, fs1, fs2, fs3, fs4, fs5, fs6, fs7]
  refine zcl_i (x := τ.1) (τ1 := znw τ c2 (aaE c2 (va_cpy f (fun _ => none) 0 0 cap))) ?_ ⟨Nat.le_succ _, Nat.le_add_right _ _⟩ ⟨Nat.le_refl _, Nat.le_refl _⟩ rfl
  unfold fnJ7_copyOf_2
  rw [if_pos rfl, if_pos (nI_pos (by omega)), nI_clamp (by omega), if_pos (by omega)]
  simp only [dzb, dzc, dzl, fl0, fl1, fl2, fl3, fl4, fl5, fl6, fl7, fi0, fi1, fi2, fi3, fi4, fi5, fi6, fi7, fr0, fr1, fr2, fr3, fr4, fr5, fr6, fr7, fs0, fs1, fs2, fs3, fs4, fs5, fs6, fs7]
  refine zck_i ?_ (Nat.le_refl _) (Nat.le_refl _)
  have el : zlenq ζ (znw τ c2 (aaE c2 (fun _ => none))) ea = some cap := by unfold zlenq; rw [if_neg h4, hb1.aq]
  have em : fnJ5_min_2 K (Int32.ofNat cap) (nI c2) = some (nI cap) := by
    unfold fnJ5_min_2
    rw [if_neg (show ¬ nI c2 < Int32.ofNat cap from nI_nlt (b := cap) (a := c2) (by omega) (by omega))]
    rfl
  simp only [el, em, dzb, dzc, dzl, fl0, fl1, fl2, fl3, fl4, fl5, fl6, fl7, fi0, fi1, fi2, fi3, fi4, fi5, fi6, fi7, fr0, fr1, fr2, fr3, fr4, fr5, fr6, fr7, fs0, fs1, fs2, fs3, fs4, fs5, fs6, fs7]
  rw [if_pos hb1.1, if_pos hn1.1]
  simp only [hb1.aq, hn1.aq, dzb, dzc, dzl, fl0, fl1, fl2, fl3, fl4, fl5, fl6, fl7, fi0, fi1, fi2, fi3, fi4, fi5, fi6, fi7, fr0, fr1, fr2, fr3, fr4, fr5, fr6, fr7, fs0, fs1, fs2, fs3, fs4, fs5, fs6, fs7]
  have ez : zels ζ (znw τ c2 (aaE c2 (fun _ => none))) f 0 cap = true := by
    unfold zels
    rw [List.all_eq_true]
    intro i hi
    rw [List.mem_range] at hi
    rw [Nat.zero_add]
    cases hf : f i with
    | none => rfl
    | some y =>
      obtain ⟨c, fs, hy, h5⟩ := hl i hi y hf
      show (zoL ζ _ y).isSome = true
      rw [(hy.nw (n := c2) (e' := aaE c2 (fun _ => none))).oL h5]
      rfl
  rw [show Int32.toNatClampNeg 0 = 0 by decide, nI_clamp (by omega), if_pos (by decide), if_pos (by decide), if_pos (nI_pos (by omega)), if_pos (by omega), if_pos (by omega), if_pos ez]
  simp only [dzb, dzc, dzl, fl0, fl1, fl2, fl3, fl4, fl5, fl6, fl7, fi0, fi1, fi2, fi3, fi4, fi5, fi6, fi7, fr0, fr1, fr2, fr3, fr4, fr5, fr6, fr7, fs0, fs1, fs2, fs3, fs4, fs5, fs6, fs7, znw_st]
