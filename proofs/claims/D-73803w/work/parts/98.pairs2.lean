/-! the search for a pair, whole -/
theorem hl_ppL_8 (K : Nat) (ζ : pZ) (x s n d db u ub h : Nat) (das uas : List Nat) (dn up : List sR) (hx : x ≠ d ∧ x ≠ db ∧ x ≠ u ∧ x ≠ ub ∧ x ∉ das ∧ x ∉ uas) (hK : 2 ^ 50 ≤ K) : ∀ m p q0 kk τ, p + m = 100 → 1 ≤ p → ζ.1 ≤ τ.1 → zin ζ τ x (lnE 8 s n p q0 d u h) → (∀ p' q', p' ≤ 99 → q' ≤ 99 → zLx ζ (zst τ x (lnE 8 s n p' q' d u h)) 8 x s n p' q' d db u ub h das uas dn up) → m * 200 + 2 ≤ kk →
    zR τ ((lfX6_findsPair_8 K ζ kk).1 x τ) (fun v t => pOut ζ 8 x s n d db u ub h das uas dn up (sPp n up m p).1 v t ∧ zk (fun a => a = x) τ t (sPp n up m p).2 (5 * (sPp n up m p).2)) := by
  intro m
  induction m with
  | zero =>
    intro p q0 kk τ hp h1 hζ hL hX hk
    obtain ⟨k, rfl⟩ : ∃ j, kk = j + 1 := ⟨kk - 1, by omega⟩
    obtain rfl : p = 100 := by omega
    rw [luX6_findsPair_8_1]
    simp only [hL.ob, dzb, dzc, dzl, fl0, fl1, fl2, fl3, fl4, fl5, fl6, fl7, fi0, fi1, fi2, fi3, fi4, fi5, fi6, fi7, fr0, fr1, fr2, fr3, fr4, fr5, fr6, fr7, fs0, fs1, fs2, fs3, fs4, fs5, fs6, fs7]
    exact zR_t (show (99 : Int32) < nI 100 by decide) (zR_r ⟨rfl, zk.rfl⟩)
  | succ m ih =>
    intro p q0 kk τ hp h1 hζ hL hX hk
    obtain ⟨k, rfl⟩ : ∃ j, kk = j + 1 := ⟨kk - 1, by omega⟩
    rw [luX6_findsPair_8_1]
    simp only [hL.ob, hL.wo (k := 3) (Nat.le_of_ble_eq_true rfl), dzb, dzc, dzl, fl0, fl1, fl2, fl3, fl4, fl5, fl6, fl7, fi0, fi1, fi2, fi3, fi4, fi5, fi6, fi7, fr0, fr1, fr2, fr3, fr4, fr5, fr6, fr7, fs0, fs1, fs2, fs3, fs4, fs5, fs6, fs7]
    refine zR_f (show ¬ (99 : Int32) < nI p from nI_nlt (b := p) (a := 99) (by omega) (by omega)) ?_
    have k0 : zk (fun a => a = x) τ (zst τ x (lnE 8 s n p 1 d u h)) 0 0 := zk_st rfl
    refine zR_mono (s := zst τ x (lnE 8 s n p 1 d u h)) ⟨Nat.le_refl _, Nat.le_refl _⟩ ?_
    refine hl_pqL_8 K ζ x s n p d db u ub h das uas dn up hx (by omega) hK _ 99 1 k _ (by omega) (by omega) hζ (zin_st hL.1) (fun q' hq' => ?_) (by omega) (fun t r e k1 X g => ?_) (fun t k' e f k1 X Y g => ?_)
    · rw [zst2]; exact hX p q' (by omega) hq'
    · rw [sPp_s, e]
      exact ⟨⟨rfl, X⟩, (k0.tr k1).le (by show 0 + (sPq n p up 99 1).2 ≤ (sPq n p up 99 1).2; omega) (by show 0 + 5 * (sPq n p up 99 1).2 ≤ 5 * (sPq n p up 99 1).2; omega)⟩
    · rw [sPp_s, e]
      refine zR_imp (ih (p + 1) 100 k' t (by omega) (by omega) (Nat.le_trans hζ g.1) X Y (by omega)) (fun v t2 _ P => ⟨P.1, ?_⟩)
      exact ((k0.tr k1).tr P.2).le (by show _ ≤ (sPq n p up 99 1).2 + (sPp n up m (p + 1)).2; omega) (by show _ ≤ 5 * ((sPq n p up 99 1).2 + (sPp n up m (p + 1)).2); omega)
theorem hl_findsPair_8 (K : Nat) (ζ : pZ) (τ : pH) (x s n p q d db u ub h : Nat) (das uas : List Nat) (dn up : List sR) (hζ : ζ.1 ≤ τ.1) (hx : x ≠ d ∧ x ≠ db ∧ x ≠ u ∧ x ≠ ub ∧ x ∉ das ∧ x ∉ uas) (H : zLx ζ τ 8 x s n p q d db u ub h das uas dn up) (hK : 2 ^ 50 ≤ K) : zR τ (fnX6_findsPair_8 K ζ x τ) (fun v t => pOut ζ 8 x s n d db u ub h das uas dn up (sPair n up).1 v t ∧ zk (fun a => a = x) τ t (sPair n up).2 (5 * (sPair n up).2)) := by
  unfold fnX6_findsPair_8
  simp only [H.1.wo (k := 2) (Nat.le_of_ble_eq_true rfl), dzb, dzc, dzl, fl0, fl1, fl2, fl3, fl4, fl5, fl6, fl7, fi0, fi1, fi2, fi3, fi4, fi5, fi6, fi7, fr0, fr1, fr2, fr3, fr4, fr5, fr6, fr7, fs0, fs1, fs2, fs3, fs4, fs5, fs6, fs7]
  have k0 : zk (fun a => a = x) τ (zst τ x (lnE 8 s n 1 q d u h)) 0 0 := zk_st rfl
  refine zR_mono (s := zst τ x (lnE 8 s n 1 q d u h)) ⟨Nat.le_refl _, Nat.le_refl _⟩ ?_
  refine zR_imp (hl_ppL_8 K ζ x s n d db u ub h das uas dn up hx hK 99 1 q K _ (by omega) (by omega) hζ (zin_st H.1.1) (fun p' q' hp' hq' => ?_) (by omega)) (fun v t _ P => ⟨P.1, (k0.tr P.2).le (by show 0 + (sPair n up).2 ≤ _; omega) (by show 0 + 5 * (sPair n up).2 ≤ _; omega)⟩)
  rw [zst2]
  exact H.pq hx hp' hq'
theorem hl_ppL_9 (K : Nat) (ζ : pZ) (x s n d db u ub h : Nat) (das uas : List Nat) (dn up : List sR) (hx : x ≠ d ∧ x ≠ db ∧ x ≠ u ∧ x ≠ ub ∧ x ∉ das ∧ x ∉ uas) (hK : 2 ^ 50 ≤ K) : ∀ m p q0 kk τ, p + m = 100 → 1 ≤ p → ζ.1 ≤ τ.1 → zin ζ τ x (lnE 9 s n p q0 d u h) → (∀ p' q', p' ≤ 99 → q' ≤ 99 → zLx ζ (zst τ x (lnE 9 s n p' q' d u h)) 9 x s n p' q' d db u ub h das uas dn up) → m * 200 + 2 ≤ kk →
    zR τ ((lfX6_findsPair_9 K ζ kk).1 x τ) (fun v t => pOut ζ 9 x s n d db u ub h das uas dn up (sPp n up m p).1 v t ∧ zk (fun a => a = x) τ t (sPp n up m p).2 (5 * (sPp n up m p).2)) := by
  intro m
  induction m with
  | zero =>
    intro p q0 kk τ hp h1 hζ hL hX hk
    obtain ⟨k, rfl⟩ : ∃ j, kk = j + 1 := ⟨kk - 1, by omega⟩
    obtain rfl : p = 100 := by omega
    rw [luX6_findsPair_9_1]
    simp only [hL.ob, dzb, dzc, dzl, fl0, fl1, fl2, fl3, fl4, fl5, fl6, fl7, fi0, fi1, fi2, fi3, fi4, fi5, fi6, fi7, fr0, fr1, fr2, fr3, fr4, fr5, fr6, fr7, fs0, fs1, fs2, fs3, fs4, fs5, fs6, fs7]
    exact zR_t (show (99 : Int32) < nI 100 by decide) (zR_r ⟨rfl, zk.rfl⟩)
  | succ m ih =>
    intro p q0 kk τ hp h1 hζ hL hX hk
    obtain ⟨k, rfl⟩ : ∃ j, kk = j + 1 := ⟨kk - 1, by omega⟩
    rw [luX6_findsPair_9_1]
    simp only [hL.ob, hL.wo (k := 3) (Nat.le_of_ble_eq_true rfl), dzb, dzc, dzl, fl0, fl1, fl2, fl3, fl4, fl5, fl6, fl7, fi0, fi1, fi2, fi3, fi4, fi5, fi6, fi7, fr0, fr1, fr2, fr3, fr4, fr5, fr6, fr7, fs0, fs1, fs2, fs3, fs4, fs5, fs6, fs7]
    refine zR_f (show ¬ (99 : Int32) < nI p from nI_nlt (b := p) (a := 99) (by omega) (by omega)) ?_
    have k0 : zk (fun a => a = x) τ (zst τ x (lnE 9 s n p 1 d u h)) 0 0 := zk_st rfl
    refine zR_mono (s := zst τ x (lnE 9 s n p 1 d u h)) ⟨Nat.le_refl _, Nat.le_refl _⟩ ?_
    refine hl_pqL_9 K ζ x s n p d db u ub h das uas dn up hx (by omega) hK _ 99 1 k _ (by omega) (by omega) hζ (zin_st hL.1) (fun q' hq' => ?_) (by omega) (fun t r e k1 X g => ?_) (fun t k' e f k1 X Y g => ?_)
    · rw [zst2]; exact hX p q' (by omega) hq'
    · rw [sPp_s, e]
      exact ⟨⟨rfl, X⟩, (k0.tr k1).le (by show 0 + (sPq n p up 99 1).2 ≤ (sPq n p up 99 1).2; omega) (by show 0 + 5 * (sPq n p up 99 1).2 ≤ 5 * (sPq n p up 99 1).2; omega)⟩
    · rw [sPp_s, e]
      refine zR_imp (ih (p + 1) 100 k' t (by omega) (by omega) (Nat.le_trans hζ g.1) X Y (by omega)) (fun v t2 _ P => ⟨P.1, ?_⟩)
      exact ((k0.tr k1).tr P.2).le (by show _ ≤ (sPq n p up 99 1).2 + (sPp n up m (p + 1)).2; omega) (by show _ ≤ 5 * ((sPq n p up 99 1).2 + (sPp n up m (p + 1)).2); omega)
theorem hl_findsPair_9 (K : Nat) (ζ : pZ) (τ : pH) (x s n p q d db u ub h : Nat) (das uas : List Nat) (dn up : List sR) (hζ : ζ.1 ≤ τ.1) (hx : x ≠ d ∧ x ≠ db ∧ x ≠ u ∧ x ≠ ub ∧ x ∉ das ∧ x ∉ uas) (H : zLx ζ τ 9 x s n p q d db u ub h das uas dn up) (hK : 2 ^ 50 ≤ K) : zR τ (fnX6_findsPair_9 K ζ x τ) (fun v t => pOut ζ 9 x s n d db u ub h das uas dn up (sPair n up).1 v t ∧ zk (fun a => a = x) τ t (sPair n up).2 (5 * (sPair n up).2)) := by
  unfold fnX6_findsPair_9
  simp only [H.1.wo (k := 2) (Nat.le_of_ble_eq_true rfl), dzb, dzc, dzl, fl0, fl1, fl2, fl3, fl4, fl5, fl6, fl7, fi0, fi1, fi2, fi3, fi4, fi5, fi6, fi7, fr0, fr1, fr2, fr3, fr4, fr5, fr6, fr7, fs0, fs1, fs2, fs3, fs4, fs5, fs6, fs7]
  have k0 : zk (fun a => a = x) τ (zst τ x (lnE 9 s n 1 q d u h)) 0 0 := zk_st rfl
  refine zR_mono (s := zst τ x (lnE 9 s n 1 q d u h)) ⟨Nat.le_refl _, Nat.le_refl _⟩ ?_
  refine zR_imp (hl_ppL_9 K ζ x s n d db u ub h das uas dn up hx hK 99 1 q K _ (by omega) (by omega) hζ (zin_st H.1.1) (fun p' q' hp' hq' => ?_) (by omega)) (fun v t _ P => ⟨P.1, (k0.tr P.2).le (by show 0 + (sPair n up).2 ≤ _; omega) (by show 0 + 5 * (sPair n up).2 ≤ _; omega)⟩)
  rw [zst2]
  exact H.pq hx hp' hq'
