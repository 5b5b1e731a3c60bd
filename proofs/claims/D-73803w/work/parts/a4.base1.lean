/-! a base of its own for each row -/
def sB1 (n : Nat) (r : sR) : Nat → Nat → Option Nat × Nat := Nat.rec (motive := fun _ => Nat → Option Nat × Nat) (fun _ => (none, 0)) (fun _ G a => if sOne n (wB a r) then (if sFar n (wB a r) then (some a, 2) else ((G (a + 1)).1, 2 + (G (a + 1)).2)) else ((G (a + 1)).1, 1 + (G (a + 1)).2))
theorem sB1_s (n : Nat) (r : sR) (m a : Nat) : sB1 n r (m + 1) a = if sOne n (wB a r) then (if sFar n (wB a r) then (some a, 2) else ((sB1 n r m (a + 1)).1, 2 + (sB1 n r m (a + 1)).2)) else ((sB1 n r m (a + 1)).1, 1 + (sB1 n r m (a + 1)).2) := rfl
theorem sB1_b (n : Nat) (w : sR) : ∀ m a r, (sB1 n w m a).1 = some r → a ≤ r ∧ r < a + m ∧ sOne n (wB r w) = true ∧ sFar n (wB r w) = true := by
  intro m
  induction m with
  | zero => intro a r h; cases h
  | succ m ih =>
    intro a r h
    rw [sB1_s] at h
    by_cases h1 : sOne n (wB a w) = true
    · rw [if_pos h1] at h
      by_cases h2 : sFar n (wB a w) = true
      · rw [if_pos h2] at h
        have : a = r := Option.some.inj h
        subst this
        exact ⟨Nat.le_refl _, by omega, h1, h2⟩
      · rw [if_neg h2] at h
        have := ih (a + 1) r h
        exact ⟨by omega, by omega, this.2.2⟩
    · rw [if_neg h1] at h
      have := ih (a + 1) r h
      exact ⟨by omega, by omega, this.2.2⟩
def b1Out (ζ : pZ) (r : Nat) (w : sR) (o : Option Nat) (v : Int32) (t : pH) : Prop := match o with
  | some a => v = 1 ∧ zin ζ t r (rwE w.1 w.2.1 a)
  | none => v = 0
theorem hb_loop_7 (K : Nat) (ζ : pZ) (x s n p q d u h r : Nat) (w : sR) (hn : 1 ≤ n ∧ n ≤ 1000000000) (hq : 1 ≤ w.1 ∧ w.1 ≤ 1000000001) (hxr : x ≠ r) (hK : 2 ^ 50 ≤ K) : ∀ m a kk τ, a + m = 1000 → ζ.1 ≤ τ.1 → zin ζ τ x (lnE 7 s n p q d u h) → zin ζ τ r (rwE w.1 w.2.1 a) → 2 * m + 2 ≤ kk →
    zR τ ((lfX6_findsBase_7 K ζ kk).1 x r τ) (fun v t => b1Out ζ r w (sB1 n w m a).1 v t ∧ zk (fun y => y = r) τ t (sB1 n w m a).2 (5 * (sB1 n w m a).2)) := by
  intro m
  induction m with
  | zero =>
    intro a kk τ ha hζ hL hr hk
    obtain ⟨k, rfl⟩ : ∃ j, kk = j + 1 := ⟨kk - 1, by omega⟩
    obtain rfl : a = 1000 := by omega
    rw [luX6_findsBase_7_1]
    simp only [hr.ob, dzb, dzc, dzl, fl0, fl1, fl2, fl3, fl4, fl5, fl6, fl7, fi0, fi1, fi2, fi3, fi4, fi5, fi6, fi7, fr0, fr1, fr2, fr3, fr4, fr5, fr6, fr7, fs0, fs1, fs2, fs3, fs4, fs5, fs6, fs7]
    exact zR_t (show (999 : Int32) < nI 1000 by decide) (zR_r ⟨rfl, zk.rfl⟩)
  | succ m ih =>
    intro a kk τ ha hζ hL hr hk
    obtain ⟨k, rfl⟩ : ∃ j, kk = j + 1 := ⟨kk - 1, by omega⟩
    rw [luX6_findsBase_7_1]
    simp only [hr.ob, dzb, dzc, dzl, fl0, fl1, fl2, fl3, fl4, fl5, fl6, fl7, fi0, fi1, fi2, fi3, fi4, fi5, fi6, fi7, fr0, fr1, fr2, fr3, fr4, fr5, fr6, fr7, fs0, fs1, fs2, fs3, fs4, fs5, fs6, fs7]
    refine zR_f (show ¬ (999 : Int32) < nI a from nI_nlt (b := a) (a := 999) (by omega) (by omega)) ?_
    have next : ∀ t c, zge τ t → zc5 τ t c → zR t ((lfX6_findsBase_7 K ζ k).2 x r t) (fun v t' => b1Out ζ r w (sB1 n w m (a + 1)).1 v t' ∧ zk (fun y => y = r) τ t' (c + (sB1 n w m (a + 1)).2) (5 * (c + (sB1 n w m (a + 1)).2))) := by
      intro t c g kc
      obtain ⟨k, rfl⟩ : ∃ j, k = j + 1 := ⟨k - 1, by omega⟩
      have hr1 := zk.i kc hr
      have hL1 := zk.i kc hL
      rw [luX6_findsBase_7_2]
      simp only [hr1.ob, hr1.wo (k := 2) (Nat.le_of_ble_eq_true rfl), dzb, dzc, dzl, fl0, fl1, fl2, fl3, fl4, fl5, fl6, fl7, fi0, fi1, fi2, fi3, fi4, fi5, fi6, fi7, fr0, fr1, fr2, fr3, fr4, fr5, fr6, fr7, fs0, fs1, fs2, fs3, fs4, fs5, fs6, fs7, nI_1]
      have k2 : zk (fun y => y = r) τ (zst t r (rwE w.1 w.2.1 (a + 1))) (c + 0) (5 * c + 0) := (zk.wk kc (fun _ _ e => e.elim)).tr (zk_st rfl)
      refine zR_mono (s := zst t r (rwE w.1 w.2.1 (a + 1))) ⟨Nat.le_refl _, Nat.le_refl _⟩ ?_
      exact zR_imp (ih (a + 1) k _ (by omega) (Nat.le_trans hζ g.1) (hL1.st_ne hxr) (zin_st hr1.1) (by omega)) (fun v t' _ P => ⟨P.1, (k2.tr P.2).le (by omega) (by omega)⟩)
    rw [sB1_s]
    refine zR_b hL.ob (zR_cl (hl_isOne_7 K ζ τ x s n p q d u h r (wB a w) hζ hL hr hn (by show a ≤ 999; omega) (by omega)) (fun v t1 g1 Q => ?_))
    obtain ⟨rfl, k1⟩ := Q
    cases hc1 : sOne n (wB a w) with
    | false => exact zR_t rfl (next t1 1 g1 k1)
    | true =>
      refine zR_f (by decide) (zR_b (zk.i k1 hL).ob (zR_cl (hl_isFar_7 K ζ t1 x s n p q d u h r (wB a w) (Nat.le_trans hζ g1.1) (zk.i k1 hL) (zk.i k1 hr) hn (by show a ≤ 999; omega) hq (by omega)) (fun v t2 g2 Q => ?_)))
      obtain ⟨rfl, k2⟩ := Q
      have k12 := zc5.tr k1 k2
      cases hc2 : sFar n (wB a w) with
      | false => exact zR_t rfl (next t2 (1 + 1) (g1.tr g2) k12)
      | true => exact zR_f (by decide) (zR_r ⟨⟨rfl, zk.i k12 hr⟩, zk.wk k12 (fun _ _ e => e.elim)⟩)
theorem hb_findsBase_7 (K : Nat) (ζ : pZ) (τ : pH) (x s n p q d u h r b : Nat) (w : sR) (hζ : ζ.1 ≤ τ.1) (hn : 1 ≤ n ∧ n ≤ 1000000000) (hq : 1 ≤ w.1 ∧ w.1 ≤ 1000000001) (hxr : x ≠ r) (hL : zin ζ τ x (lnE 7 s n p q d u h)) (hr : zin ζ τ r (rwE w.1 w.2.1 b)) (hK : 2 ^ 50 ≤ K) : zR τ (fnX6_findsBase_7 K ζ x r τ) (fun v t => b1Out ζ r w (sB1 n w 998 2).1 v t ∧ zk (fun y => y = r) τ t (sB1 n w 998 2).2 (5 * (sB1 n w 998 2).2)) := by
  unfold fnX6_findsBase_7
  refine zR_b (hr.wo (k := 2) (Nat.le_of_ble_eq_true rfl)) (zR_le (v' := zst τ r (rwE w.1 w.2.1 2)) rfl ?_)
  have k0 : zk (fun y => y = r) τ (zst τ r (rwE w.1 w.2.1 2)) 0 0 := zk_st rfl
  refine zR_mono (s := zst τ r (rwE w.1 w.2.1 2)) ⟨Nat.le_refl _, Nat.le_refl _⟩ ?_
  exact zR_imp (hb_loop_7 K ζ x s n p q d u h r w hn hq hxr hK 998 2 K _ (by omega) hζ (hL.st_ne hxr) (zin_st hr.1) (by omega)) (fun v t _ P => ⟨P.1, (k0.tr P.2).le (by omega) (by omega)⟩)
theorem hb_loop_9 (K : Nat) (ζ : pZ) (x s n p q d u h r : Nat) (w : sR) (hn : 1 ≤ n ∧ n ≤ 1000000000) (hq : 1 ≤ w.1 ∧ w.1 ≤ 1000000001) (hxr : x ≠ r) (hK : 2 ^ 50 ≤ K) : ∀ m a kk τ, a + m = 1000 → ζ.1 ≤ τ.1 → zin ζ τ x (lnE 9 s n p q d u h) → zin ζ τ r (rwE w.1 w.2.1 a) → 2 * m + 2 ≤ kk →
    zR τ ((lfX6_findsBase_9 K ζ kk).1 x r τ) (fun v t => b1Out ζ r w (sB1 n w m a).1 v t ∧ zk (fun y => y = r) τ t (sB1 n w m a).2 (5 * (sB1 n w m a).2)) := by
  intro m
  induction m with
  | zero =>
    intro a kk τ ha hζ hL hr hk
    obtain ⟨k, rfl⟩ : ∃ j, kk = j + 1 := ⟨kk - 1, by omega⟩
    obtain rfl : a = 1000 := by omega
    rw [luX6_findsBase_9_1]
    simp only [hr.ob, dzb, dzc, dzl, fl0, fl1, fl2, fl3, fl4, fl5, fl6, fl7, fi0, fi1, fi2, fi3, fi4, fi5, fi6, fi7, fr0, fr1, fr2, fr3, fr4, fr5, fr6, fr7, fs0, fs1, fs2, fs3, fs4, fs5, fs6, fs7]
    exact zR_t (show (999 : Int32) < nI 1000 by decide) (zR_r ⟨rfl, zk.rfl⟩)
  | succ m ih =>
    intro a kk τ ha hζ hL hr hk
    obtain ⟨k, rfl⟩ : ∃ j, kk = j + 1 := ⟨kk - 1, by omega⟩
    rw [luX6_findsBase_9_1]
    simp only [hr.ob, dzb, dzc, dzl, fl0, fl1, fl2, fl3, fl4, fl5, fl6, fl7, fi0, fi1, fi2, fi3, fi4, fi5, fi6, fi7, fr0, fr1, fr2, fr3, fr4, fr5, fr6, fr7, fs0, fs1, fs2, fs3, fs4, fs5, fs6, fs7]
    refine zR_f (show ¬ (999 : Int32) < nI a from nI_nlt (b := a) (a := 999) (by omega) (by omega)) ?_
    have next : ∀ t c, zge τ t → zc5 τ t c → zR t ((lfX6_findsBase_9 K ζ k).2 x r t) (fun v t' => b1Out ζ r w (sB1 n w m (a + 1)).1 v t' ∧ zk (fun y => y = r) τ t' (c + (sB1 n w m (a + 1)).2) (5 * (c + (sB1 n w m (a + 1)).2))) := by
      intro t c g kc
      obtain ⟨k, rfl⟩ : ∃ j, k = j + 1 := ⟨k - 1, by omega⟩
      have hr1 := zk.i kc hr
      have hL1 := zk.i kc hL
      rw [luX6_findsBase_9_2]
      simp only [hr1.ob, hr1.wo (k := 2) (Nat.le_of_ble_eq_true rfl), dzb, dzc, dzl, fl0, fl1, fl2, fl3, fl4, fl5, fl6, fl7, fi0, fi1, fi2, fi3, fi4, fi5, fi6, fi7, fr0, fr1, fr2, fr3, fr4, fr5, fr6, fr7, fs0, fs1, fs2, fs3, fs4, fs5, fs6, fs7, nI_1]
      have k2 : zk (fun y => y = r) τ (zst t r (rwE w.1 w.2.1 (a + 1))) (c + 0) (5 * c + 0) := (zk.wk kc (fun _ _ e => e.elim)).tr (zk_st rfl)
      refine zR_mono (s := zst t r (rwE w.1 w.2.1 (a + 1))) ⟨Nat.le_refl _, Nat.le_refl _⟩ ?_
      exact zR_imp (ih (a + 1) k _ (by omega) (Nat.le_trans hζ g.1) (hL1.st_ne hxr) (zin_st hr1.1) (by omega)) (fun v t' _ P => ⟨P.1, (k2.tr P.2).le (by omega) (by omega)⟩)
    rw [sB1_s]
    refine zR_b hL.ob (zR_cl (hl_isOne_9 K ζ τ x s n p q d u h r (wB a w) hζ hL hr hn (by show a ≤ 999; omega) (by omega)) (fun v t1 g1 Q => ?_))
    obtain ⟨rfl, k1⟩ := Q
    cases hc1 : sOne n (wB a w) with
    | false => exact zR_t rfl (next t1 1 g1 k1)
    | true =>
      refine zR_f (by decide) (zR_b (zk.i k1 hL).ob (zR_cl (hl_isFar_9 K ζ t1 x s n p q d u h r (wB a w) (Nat.le_trans hζ g1.1) (zk.i k1 hL) (zk.i k1 hr) hn (by show a ≤ 999; omega) hq (by omega)) (fun v t2 g2 Q => ?_)))
      obtain ⟨rfl, k2⟩ := Q
      have k12 := zc5.tr k1 k2
      cases hc2 : sFar n (wB a w) with
      | false => exact zR_t rfl (next t2 (1 + 1) (g1.tr g2) k12)
      | true => exact zR_f (by decide) (zR_r ⟨⟨rfl, zk.i k12 hr⟩, zk.wk k12 (fun _ _ e => e.elim)⟩)
theorem hb_findsBase_9 (K : Nat) (ζ : pZ) (τ : pH) (x s n p q d u h r b : Nat) (w : sR) (hζ : ζ.1 ≤ τ.1) (hn : 1 ≤ n ∧ n ≤ 1000000000) (hq : 1 ≤ w.1 ∧ w.1 ≤ 1000000001) (hxr : x ≠ r) (hL : zin ζ τ x (lnE 9 s n p q d u h)) (hr : zin ζ τ r (rwE w.1 w.2.1 b)) (hK : 2 ^ 50 ≤ K) : zR τ (fnX6_findsBase_9 K ζ x r τ) (fun v t => b1Out ζ r w (sB1 n w 998 2).1 v t ∧ zk (fun y => y = r) τ t (sB1 n w 998 2).2 (5 * (sB1 n w 998 2).2)) := by
  unfold fnX6_findsBase_9
  refine zR_b (hr.wo (k := 2) (Nat.le_of_ble_eq_true rfl)) (zR_le (v' := zst τ r (rwE w.1 w.2.1 2)) rfl ?_)
  have k0 : zk (fun y => y = r) τ (zst τ r (rwE w.1 w.2.1 2)) 0 0 := zk_st rfl
  refine zR_mono (s := zst τ r (rwE w.1 w.2.1 2)) ⟨Nat.le_refl _, Nat.le_refl _⟩ ?_
  exact zR_imp (hb_loop_9 K ζ x s n p q d u h r w hn hq hxr hK 998 2 K _ (by omega) hζ (hL.st_ne hxr) (zin_st hr.1) (by omega)) (fun v t _ P => ⟨P.1, (k0.tr P.2).le (by omega) (by omega)⟩)
