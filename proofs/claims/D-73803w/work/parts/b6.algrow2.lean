/-! ArrayList: further growth -/
theorem nI_half : ∀ cap, cap < 64 → ((nI cap + (1 : Int32) - nI cap < nI cap >>> ((1 : Int32) &&& 31)) ↔ 4 ≤ cap) ∧ nI cap + nI cap >>> ((1 : Int32) &&& 31) = nI (cap + cap / 2) := by decide +kernel
theorem hj_newLength (K : Nat) (ζ : pZ) (τ : pH) (cap : Nat) (h1 : 10 ≤ cap) (h2 : cap < 64) : fnJ6_newLength K ζ (nI cap) (nI cap + 1 - nI cap) (nI cap >>> (1 &&& 31)) τ = some (nI (cap + cap / 2), τ) := by
  have h := nI_half cap h2
  unfold fnJ6_newLength fnJ5_max
  rw [if_pos (h.1.mpr (by omega))]
  simp only [dzb, dzc, dzl, fl0, fl1, fl2, fl3, fl4, fl5, fl6, fl7, fi0, fi1, fi2, fi3, fi4, fi5, fi6, fi7, fr0, fr1, fr2, fr3, fr4, fr5, fr6, fr7, fs0, fs1, fs2, fs3, fs4, fs5, fs6, fs7]
  rw [h.2, if_neg (show ¬ nI (cap + cap / 2) ≤ (0 : Int32) from (show ¬ nI (cap + cap / 2) ≤ nI 0 from nI_ge (by omega) (by omega))), if_neg (show ¬ (2147483639 : Int32) < nI (cap + cap / 2) from (show ¬ nI 2147483639 < nI (cap + cap / 2) from nI_nlt (by omega) (by omega)))]
