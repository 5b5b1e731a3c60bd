/-! a line of the first sort is found at once -/
theorem h5_isFound (K : Nat) (ζ : pZ) (τ : pH) (x n d db u ub h : Nat) (hζ : ζ.1 ≤ τ.1) (H : zLx ζ τ 5 x 0 n 0 0 d db u ub h [] [] [] []) (hK : 1 ≤ K) : zR τ (fnX6_isFound_5 K ζ x τ) (fun v t => v = 1 ∧ zLx ζ t 5 x 0 n 0 0 d db u ub h [] [] [] [] ∧ zk zno τ t 1 2) := by
  obtain ⟨hL, ⟨hr, hw, hr2, hw2⟩, ok1, ok2, hn, hp, hq⟩ := id H
  unfold fnX6_isFound_5
  refine zR_b hL.ob (zR_cl (Q := fun _ t => t = τ) (zR_eq (show fnX7_lays K ζ x τ = some ((), τ) from rfl) rfl zge.rfl) (fun v t _ P => ?_))
  obtain rfl : t = τ := P
  have k2 : zk zno t (znw t 2 (itE 0 d)) 1 2 := zk_nw
  obtain ⟨f, hd, hdb, -, hddb, -⟩ := id hr
  obtain ⟨kk, hkk⟩ : ∃ j, K = j + 1 := ⟨K - 1, by omega⟩
  have hfb : zR t (fnX6_findsBases_5 K ζ x t) (fun v t2 => v = 1 ∧ t2 = znw t 2 (itE 0 d)) := by
    unfold fnX6_findsBases_5
    simp only [hL.ob, hd.ob, dzb, dzc, dzl, fl0, fl1, fl2, fl3, fl4, fl5, fl6, fl7, fi0, fi1, fi2, fi3, fi4, fi5, fi6, fi7, fr0, fr1, fr2, fr3, fr4, fr5, fr6, fr7, fs0, fs1, fs2, fs3, fs4, fs5, fs6, fs7]
    refine zR_cl (Q := fun v t2 => v = t.1 ∧ t2 = znw t 2 (itE 0 d)) (zR_eq (hr_iter K ζ t d hζ) ⟨rfl, rfl⟩ ⟨Nat.le_succ _, Nat.le_add_right _ _⟩) ?_
    intro v t2 _ P
    obtain ⟨rfl, rfl⟩ := P
    have e : (lfX6_findsBases_5 K ζ K) x t.1 (znw t 2 (itE 0 d)) = (lfX6_findsBases_5 K ζ (kk + 1)) x t.1 (znw t 2 (itE 0 d)) := by rw [← hkk]
    rw [e, luX6_findsBases_5_1]
    exact zR_each K ζ _ t.1 0 d db [] _ _ _ (zin_nw hζ) (k2.R hr) (Nat.ne_of_gt hd.1.2) (Nat.ne_of_gt hdb.1.2) (Nat.le_refl _) (fun _ => zR_r ⟨rfl, rfl⟩) (fun h => absurd h (Nat.not_lt_zero _))
  refine zR_b hL.ob (zR_cl hfb (fun v t2 g2 P => ?_))
  obtain ⟨rfl, rfl⟩ := P
  have H2 := H.k k2
  refine zR_f (by decide) (zR_b H2.1.ob (zR_cl (Q := fun v t' => v = nb (decide ((0 : Nat) = 3 ∨ (0 : Nat) = 4)) ∧ t' = znw t 2 (itE 0 d)) (zR_eq (hl_hasPair_5 K ζ (znw t 2 (itE 0 d)) x 0 n 0 0 d u h H2.1 (by omega) (by omega)) ⟨rfl, rfl⟩ zge.rfl) (fun v t3 _ P => ?_)))
  obtain ⟨rfl, rfl⟩ := P
  refine zR_t (by decide) ?_
  rw [hkk, luX6_isFound_5_1]
  exact zR_r ⟨rfl, H2, k2⟩
