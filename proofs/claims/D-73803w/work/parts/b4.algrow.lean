/-! ArrayList: the first growth -/
theorem hj_grow0 (K : Nat) (ζ : pZ) (τ : pH) (al : Nat) (mc : Int32) (hζ : ζ.1 ≤ τ.1) (ha : zin ζ τ al (alE mc (ζ.2.2.2 0) 0)) : fnJ2_grow K ζ al τ = some (τ.1, zst (znw τ 10 (aaE 10 (fun _ => none))) al (alE mc τ.1 0)) := by
  have ha1 := ha.nw (n := 10) (e' := aaE 10 (fun _ => none))
  unfold fnJ2_grow
  simp only [ha.ob, dzb, dzc, dzl, fl0, fl1, fl2, fl3, fl4, fl5, fl6, fl7, fi0, fi1, fi2, fi3, fi4, fi5, fi6, fi7, fr0, fr1, fr2, fr3, fr4, fr5, fr6, fr7, fs0, fs1, fs2, fs3, fs4, fs5, fs6, fs7]
  refine zcl_i (x := τ.1) (τ1 := zst (znw τ 10 (aaE 10 (fun _ => none))) al (alE mc τ.1 0)) ?_ ⟨Nat.le_succ _, Nat.le_add_right _ _⟩ ⟨Nat.le_refl _, Nat.le_refl _⟩ rfl
  unfold fnJ2_grow_2
  have el : zlenq ζ τ (ζ.2.2.2 0) = some 0 := by unfold zlenq; rw [if_pos rfl]
  simp only [ha.ob, el, dzb, dzc, dzl, fl0, fl1, fl2, fl3, fl4, fl5, fl6, fl7, fi0, fi1, fi2, fi3, fi4, fi5, fi6, fi7, fr0, fr1, fr2, fr3, fr4, fr5, fr6, fr7, fs0, fs1, fs2, fs3, fs4, fs5, fs6, fs7]
  rw [if_neg (show ¬ (0 : Int32) < Int32.ofNat 0 by decide), if_pos trivial]
  rw [show fnJ5_max K 10 (nI 0 + 1) = some 10 by unfold fnJ5_max; rw [if_neg (by decide)]]
  simp only [dzb, dzc, dzl, fl0, fl1, fl2, fl3, fl4, fl5, fl6, fl7, fi0, fi1, fi2, fi3, fi4, fi5, fi6, fi7, fr0, fr1, fr2, fr3, fr4, fr5, fr6, fr7, fs0, fs1, fs2, fs3, fs4, fs5, fs6, fs7]
  rw [if_pos (by decide), if_pos (by decide), show Int32.toNatClampNeg 10 = 10 by decide]
  refine zck_i ?_ (Nat.le_refl _) (Nat.le_refl _)
  simp only [ha1.wo (k := 1) (Nat.le_of_ble_eq_true rfl), dzb, dzc, dzl, fl0, fl1, fl2, fl3, fl4, fl5, fl6, fl7, fi0, fi1, fi2, fi3, fi4, fi5, fi6, fi7, fr0, fr1, fr2, fr3, fr4, fr5, fr6, fr7, fs0, fs1, fs2, fs3, fs4, fs5, fs6, fs7]
