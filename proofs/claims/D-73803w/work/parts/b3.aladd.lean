/-! ArrayList: add where there is room -/
theorem nI_ne1000 {a b : Nat} (ha : a ≤ 1000) (hb : b ≤ 1000) (h : a ≠ b) : nI a ≠ Int32.ofNat b := by
  intro e
  have h1 := congrArg Int32.toNatClampNeg e
  rw [nI_clamp (by omega), show Int32.ofNat b = nI b from rfl, nI_clamp (by omega)] at h1
  exact h h1
theorem hj_add_room (K : Nat) (ζ : pZ) (τ : pH) (al ea cap : Nat) (mc : Int32) (f : Nat → Option Nat) (xs : List Nat) (ha : zin ζ τ al (alE mc ea xs.length)) (hb : zin ζ τ ea (aaE cap f)) (h1 : xs.length < cap) (h2 : cap ≤ 1000) (h3 : ea ≠ al) (h4 : ea ≠ ζ.2.2.2 0) (h5 : ∀ i (h : i < xs.length), f i = some xs[i]) (y c : Nat) (fs : List Value) (hy : zin ζ τ y (.inr (c, fs))) (hc : 5 ≤ c ∧ c ≤ 9) (hya : y ≠ al) (hK : 1 ≤ K) : ∃ t, fnJ2_add K ζ al y τ = some (1, t) ∧ zge τ t ∧ t.1 = τ.1 ∧ zk (fun a => a = al ∨ a = ea) τ t 0 0 ∧ zAL ζ t al ea (mc + 1) (xs ++ [y]) := by
  have ha1 : zin ζ (zst τ al (alE (mc + 1) ea xs.length)) al (alE (mc + 1) ea xs.length) := zin_st ha.1
  have hb1 := hb.st_ne (e' := alE (mc + 1) ea xs.length) h3
  have hy1 := hy.st_ne (e' := alE (mc + 1) ea xs.length) hya
  obtain ⟨k, hk⟩ : ∃ j, K = j + 1 := ⟨K - 1, by omega⟩
  have ha2 : zin ζ (zst (zst τ al (alE (mc + 1) ea xs.length)) ea (aaE cap (va_up f xs.length (some y)))) al (alE (mc + 1) ea xs.length) := ha1.st_ne (Ne.symm h3)
  have hb2 : zin ζ (zst (zst τ al (alE (mc + 1) ea xs.length)) ea (aaE cap (va_up f xs.length (some y)))) ea (aaE cap (va_up f xs.length (some y))) := zin_st hb1.1
  refine ⟨zst (zst (zst τ al (alE (mc + 1) ea xs.length)) ea (aaE cap (va_up f xs.length (some y)))) al (alE (mc + 1) ea (xs.length + 1)), ?_, zge.rfl, rfl, ?_, ?_, ?_⟩
  · unfold fnJ2_add
    simp only [ha.ob, ha.wo (k := 0) (Nat.le_of_ble_eq_true rfl), dzb, dzc, dzl, fl0, fl1, fl2, fl3, fl4, fl5, fl6, fl7, fi0, fi1, fi2, fi3, fi4, fi5, fi6, fi7, fr0, fr1, fr2, fr3, fr4, fr5, fr6, fr7, fs0, fs1, fs2, fs3, fs4, fs5, fs6, fs7, ha1.ob]
    refine zcl_i (x := ()) (τ1 := zst (zst (zst τ al (alE (mc + 1) ea xs.length)) ea (aaE cap (va_up f xs.length (some y)))) al (alE (mc + 1) ea (xs.length + 1))) ?_ ⟨Nat.le_refl _, Nat.le_refl _⟩ ⟨Nat.le_refl _, Nat.le_refl _⟩ rfl
    unfold fnJ2_add_2
    have el : zlenq ζ (zst τ al (alE (mc + 1) ea xs.length)) ea = some cap := by unfold zlenq; rw [if_neg h4, hb1.aq]
    simp only [el, dzb, dzc, dzl, fl0, fl1, fl2, fl3, fl4, fl5, fl6, fl7, fi0, fi1, fi2, fi3, fi4, fi5, fi6, fi7, fr0, fr1, fr2, fr3, fr4, fr5, fr6, fr7, fs0, fs1, fs2, fs3, fs4, fs5, fs6, fs7]
    rw [if_neg (nI_ne1000 (by omega) h2 (by omega)), hk, luJ2_add_2_1]
    rw [if_pos hb1.1]
    simp only [hb1.aq, dzb, dzc, dzl, fl0, fl1, fl2, fl3, fl4, fl5, fl6, fl7, fi0, fi1, fi2, fi3, fi4, fi5, fi6, fi7, fr0, fr1, fr2, fr3, fr4, fr5, fr6, fr7, fs0, fs1, fs2, fs3, fs4, fs5, fs6, fs7]
    rw [if_pos (nI_in (by omega) (by omega)), if_pos hy1.1]
    simp only [hy1.oL hc, dzb, dzc, dzl, fl0, fl1, fl2, fl3, fl4, fl5, fl6, fl7, fi0, fi1, fi2, fi3, fi4, fi5, fi6, fi7, fr0, fr1, fr2, fr3, fr4, fr5, fr6, fr7, fs0, fs1, fs2, fs3, fs4, fs5, fs6, fs7, nI_1]
    rw [nI_clamp (by omega)]
    simp only [ha2.wo (k := 2) (Nat.le_of_ble_eq_true rfl), dzb, dzc, dzl, fl0, fl1, fl2, fl3, fl4, fl5, fl6, fl7, fi0, fi1, fi2, fi3, fi4, fi5, fi6, fi7, fr0, fr1, fr2, fr3, fr4, fr5, fr6, fr7, fs0, fs1, fs2, fs3, fs4, fs5, fs6, fs7]
  · have k1 : zk (fun a => a = al ∨ a = ea) τ (zst τ al (alE (mc + 1) ea xs.length)) 0 0 := zk_st (Or.inl rfl)
    exact (k1.tr (zk_st (Or.inr rfl))).tr (zk_st (Or.inl rfl))
  · rw [List.length_append]; exact zin_st ha2.1
  · refine Or.inr ⟨cap, va_up f xs.length (some y), hb2.st_ne h3, by rw [List.length_append]; exact h1, h2, h3, h4, fun j hj => ?_⟩
    rw [List.length_append] at hj
    have hj : j < xs.length + 1 := hj
    unfold va_up
    by_cases e : j = xs.length
    · subst e
      rw [if_pos rfl, List.getElem_append_right (Nat.le_refl _)]
      simp only [Nat.sub_self, List.getElem_cons_zero]
    · rw [if_neg e, List.getElem_append_left (by omega)]
      exact h5 j (by omega)
