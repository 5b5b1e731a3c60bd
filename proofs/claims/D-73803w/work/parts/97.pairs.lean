/-! the search for a pair; what it costs -/
/-- with one p, so many q from one on: the first that is good; cells -/
def sPq (n p : Nat) (up : List sR) : Nat → Nat → Option Nat × Nat := Nat.rec (motive := fun _ => Nat → Option Nat × Nat) (fun _ => (none, 0)) (fun _ G q => if sPairF n p q up = 0 then (some q, sPairC n p q up) else ((G (q + 1)).1, sPairC n p q up + (G (q + 1)).2))
theorem sPq_s (n p : Nat) (up : List sR) (m q : Nat) : sPq n p up (m + 1) q = if sPairF n p q up = 0 then (some q, sPairC n p q up) else ((sPq n p up m (q + 1)).1, sPairC n p q up + (sPq n p up m (q + 1)).2) := rfl
def sPp (n : Nat) (up : List sR) : Nat → Nat → Option (Nat × Nat) × Nat := Nat.rec (motive := fun _ => Nat → Option (Nat × Nat) × Nat) (fun _ => (none, 0)) (fun _ G p => match (sPq n p up 99 1).1 with
  | some q => (some (p, q), (sPq n p up 99 1).2)
  | none => ((G (p + 1)).1, (sPq n p up 99 1).2 + (G (p + 1)).2))
theorem sPp_s (n : Nat) (up : List sR) (m p : Nat) : sPp n up (m + 1) p = match (sPq n p up 99 1).1 with
  | some q => (some (p, q), (sPq n p up 99 1).2)
  | none => ((sPp n up m (p + 1)).1, (sPq n p up 99 1).2 + (sPp n up m (p + 1)).2) := rfl
def sPair (n : Nat) (up : List sR) : Option (Nat × Nat) × Nat := sPp n up 99 1
theorem sPq_b (n p : Nat) (up : List sR) : ∀ m q r, (sPq n p up m q).1 = some r → q ≤ r ∧ r < q + m ∧ sPairF n p r up = 0 := by
  intro m
  induction m with
  | zero => intro q r h; cases h
  | succ m ih =>
    intro q r h
    rw [sPq_s] at h
    by_cases hc : sPairF n p q up = 0
    · rw [if_pos hc] at h
      have : q = r := Option.some.inj h
      subst this
      exact ⟨Nat.le_refl _, by omega, hc⟩
    · rw [if_neg hc] at h
      have := ih (q + 1) r h
      exact ⟨by omega, by omega, this.2.2⟩
theorem sPp_b (n : Nat) (up : List sR) : ∀ m p r, (sPp n up m p).1 = some r → p ≤ r.1 ∧ r.1 < p + m ∧ 1 ≤ r.2 ∧ r.2 ≤ 99 ∧ sPairF n r.1 r.2 up = 0 := by
  intro m
  induction m with
  | zero => intro p r h; cases h
  | succ m ih =>
    intro p r h
    rw [sPp_s] at h
    cases hq : (sPq n p up 99 1).1 with
    | some q =>
      rw [hq] at h
      have : (p, q) = r := Option.some.inj h
      subst this
      have := sPq_b n p up 99 1 q hq
      exact ⟨Nat.le_refl _, by show p < p + (m + 1); omega, this.1, by show q ≤ 99; omega, this.2.2⟩
    | none =>
      rw [hq] at h
      have := ih (p + 1) r h
      exact ⟨by omega, by omega, this.2.2⟩
def pOut (ζ : pZ) (c x s n d db u ub h : Nat) (das uas : List Nat) (dn up : List sR) (o : Option (Nat × Nat)) (v : Int32) (t : pH) : Prop := match o with
  | some r => v = 1 ∧ zLx ζ t c x s n r.1 r.2 d db u ub h das uas dn up
  | none => v = 0
/-- a line whose pair has been written -/
theorem zLx.pq {ζ : pZ} {τ : pH} {c x s n p q p' q' d db u ub h : Nat} {das uas : List Nat} {dn up : List sR} (H : zLx ζ τ c x s n p q d db u ub h das uas dn up) (hx : x ≠ d ∧ x ≠ db ∧ x ≠ u ∧ x ≠ ub ∧ x ∉ das ∧ x ∉ uas) (hp : p' ≤ 99) (hq : q' ≤ 99) : zLx ζ (zst τ x (lnE c s n p' q' d u h)) c x s n p' q' d db u ub h das uas dn up := by
  have k0 : zk (fun a => a = x) τ (zst τ x (lnE c s n p' q' d u h)) 0 0 := zk_st rfl
  exact ⟨zin_st H.1.1, ⟨H.2.1.1.k k0 (Ne.symm hx.1) (Ne.symm hx.2.1), H.2.1.2.1.k k0 (fun a ha e => hx.2.2.2.2.1 (e ▸ ha)), H.2.1.2.2.1.k k0 (Ne.symm hx.2.2.1) (Ne.symm hx.2.2.2.1), H.2.1.2.2.2.k k0 (fun a ha e => hx.2.2.2.2.2 (e ▸ ha))⟩, H.2.2.1, H.2.2.2.1, H.2.2.2.2.1, hp, hq⟩
theorem hl_pqL_8 (K : Nat) (ζ : pZ) (x s n p d db u ub h : Nat) (das uas : List Nat) (dn up : List sR) (hx : x ≠ d ∧ x ≠ db ∧ x ≠ u ∧ x ≠ ub ∧ x ∉ das ∧ x ∉ uas) (hp : p ≤ 99) (hK : 2 ^ 50 ≤ K) (P : Int32 → pH → Prop) : ∀ m q kk τ, q + m = 100 → 1 ≤ q → ζ.1 ≤ τ.1 → (zin ζ τ x (lnE 8 s n p q d u h)) → (∀ q', q' ≤ 99 → zLx ζ (zst τ x (lnE 8 s n p q' d u h)) 8 x s n p q' d db u ub h das uas dn up) → m + 1 ≤ kk →
    (∀ t r, (sPq n p up m q).1 = some r → zk (fun a => a = x) τ t (sPq n p up m q).2 (5 * (sPq n p up m q).2) → zLx ζ t 8 x s n p r d db u ub h das uas dn up → zge τ t → P 1 t) →
    (∀ t k', (sPq n p up m q).1 = none → kk ≤ k' + m + 1 → zk (fun a => a = x) τ t (sPq n p up m q).2 (5 * (sPq n p up m q).2) → zin ζ t x (lnE 8 s n (p + 1) 100 d u h) → (∀ p' q', p' ≤ 99 → q' ≤ 99 → zLx ζ (zst t x (lnE 8 s n p' q' d u h)) 8 x s n p' q' d db u ub h das uas dn up) → zge τ t → zR t ((lfX6_findsPair_8 K ζ k').1 x t) P) →
    zR τ ((lfX6_findsPair_8 K ζ kk).2 x τ) P := by
  intro m
  induction m with
  | zero =>
    intro q kk τ hq h1 hζ hL hX hk hS hN
    obtain ⟨k, rfl⟩ : ∃ j, kk = j + 1 := ⟨kk - 1, by omega⟩
    obtain rfl : q = 100 := by omega
    rw [luX6_findsPair_8_2]
    simp only [hL.ob, hL.wo (k := 2) (Nat.le_of_ble_eq_true rfl), dzb, dzc, dzl, fl0, fl1, fl2, fl3, fl4, fl5, fl6, fl7, fi0, fi1, fi2, fi3, fi4, fi5, fi6, fi7, fr0, fr1, fr2, fr3, fr4, fr5, fr6, fr7, fs0, fs1, fs2, fs3, fs4, fs5, fs6, fs7, nI_1]
    refine zR_t (show (99 : Int32) < nI 100 by decide) ?_
    refine zR_mono (s := zst τ x (lnE 8 s n (p + 1) 100 d u h)) ⟨Nat.le_refl _, Nat.le_refl _⟩ ?_
    refine hN _ k rfl (by omega) (zk_st rfl) (zin_st hL.1) (fun p' q' hp' hq' => ?_) ⟨Nat.le_refl _, Nat.le_refl _⟩
    rw [zst2]
    have := (hX 1 (by omega)).pq (p' := p') (q' := q') hx hp' hq'
    rw [zst2] at this
    exact this
  | succ m ih =>
    intro q kk τ hq h1 hζ hL hX hk hS hN
    obtain ⟨k, rfl⟩ : ∃ j, kk = j + 1 := ⟨kk - 1, by omega⟩
    rw [luX6_findsPair_8_2]
    simp only [hL.ob, dzb, dzc, dzl, fl0, fl1, fl2, fl3, fl4, fl5, fl6, fl7, fi0, fi1, fi2, fi3, fi4, fi5, fi6, fi7, fr0, fr1, fr2, fr3, fr4, fr5, fr6, fr7, fs0, fs1, fs2, fs3, fs4, fs5, fs6, fs7]
    refine zR_f (show ¬ (99 : Int32) < nI q from nI_nlt (b := q) (a := 99) (by omega) (by omega)) ?_
    have e0 : zst τ x (lnE 8 s n p q d u h) = τ := by
      unfold zst
      show (τ.1, τ.2.1, va_up τ.2.2 x _) = τ
      rw [show va_up τ.2.2 x (lnE 8 s n p q d u h) = τ.2.2 by
        funext a
        by_cases ha : a = x
        · rw [ha, va_up_self]; exact hL.2.symm
        · rw [va_up_ne _ _ ha]]
    have HX := hX q (by omega)
    rw [e0] at HX
    rw [sPq_s] at hS hN
    refine zR_cl (hl_pairFault_8 K ζ τ x s n p q d u h ub uas up hζ HX.1 HX.2.1.2.2.1 HX.2.1.2.2.2 (by have := HX.2.2.2.2.1; omega) hp (by omega) HX.2.2.2.1 hK) (fun v t g Q => ?_)
    obtain ⟨rfl, k1⟩ := Q
    have k1' := zk.wk (S' := fun a => a = x) k1 (fun _ _ e => e.elim)
    have hf9 := sPairF_le n p q up
    by_cases hc : sPairF n p q up = 0
    · rw [if_pos hc] at hS
      refine zR_t (by rw [hc]; rfl) (zR_r ?_)
      exact hS t q rfl k1' (HX.k k1) g
    · rw [if_neg hc] at hS hN
      refine zR_f (nI_ne0 (by omega) (by omega)) ?_
      have hL1 := zk.i k1 hL
      simp only [hL1.ob, hL1.wo (k := 3) (Nat.le_of_ble_eq_true rfl), dzb, dzc, dzl, fl0, fl1, fl2, fl3, fl4, fl5, fl6, fl7, fi0, fi1, fi2, fi3, fi4, fi5, fi6, fi7, fr0, fr1, fr2, fr3, fr4, fr5, fr6, fr7, fs0, fs1, fs2, fs3, fs4, fs5, fs6, fs7, nI_1]
      have k2 : zk (fun a => a = x) τ (zst t x (lnE 8 s n p (q + 1) d u h)) (sPairC n p q up + 0) (5 * sPairC n p q up + 0) := k1'.tr (zk_st rfl)
      refine zR_mono (s := zst t x (lnE 8 s n p (q + 1) d u h)) ⟨Nat.le_refl _, Nat.le_refl _⟩ ?_
      refine ih (q + 1) k _ (by omega) (by omega) (Nat.le_trans hζ g.1) (zin_st hL1.1) (fun q' hq' => ?_) (by omega) (fun t2 r e k3 X g2 => ?_) (fun t2 k' e f k3 X Y g2 => ?_)
      · rw [zst2]
        exact (HX.k k1).pq hx hp hq'
      · exact hS t2 r e ((k2.tr k3).le (by show _ ≤ sPairC n p q up + (sPq n p up m (q + 1)).2; omega) (by show _ ≤ 5 * (sPairC n p q up + (sPq n p up m (q + 1)).2); omega)) X (g.tr g2)
      · exact hN t2 k' e (by omega) ((k2.tr k3).le (by show _ ≤ sPairC n p q up + (sPq n p up m (q + 1)).2; omega) (by show _ ≤ 5 * (sPairC n p q up + (sPq n p up m (q + 1)).2); omega)) X Y (g.tr g2)
theorem hl_pqL_9 (K : Nat) (ζ : pZ) (x s n p d db u ub h : Nat) (das uas : List Nat) (dn up : List sR) (hx : x ≠ d ∧ x ≠ db ∧ x ≠ u ∧ x ≠ ub ∧ x ∉ das ∧ x ∉ uas) (hp : p ≤ 99) (hK : 2 ^ 50 ≤ K) (P : Int32 → pH → Prop) : ∀ m q kk τ, q + m = 100 → 1 ≤ q → ζ.1 ≤ τ.1 → (zin ζ τ x (lnE 9 s n p q d u h)) → (∀ q', q' ≤ 99 → zLx ζ (zst τ x (lnE 9 s n p q' d u h)) 9 x s n p q' d db u ub h das uas dn up) → m + 1 ≤ kk →
    (∀ t r, (sPq n p up m q).1 = some r → zk (fun a => a = x) τ t (sPq n p up m q).2 (5 * (sPq n p up m q).2) → zLx ζ t 9 x s n p r d db u ub h das uas dn up → zge τ t → P 1 t) →
    (∀ t k', (sPq n p up m q).1 = none → kk ≤ k' + m + 1 → zk (fun a => a = x) τ t (sPq n p up m q).2 (5 * (sPq n p up m q).2) → zin ζ t x (lnE 9 s n (p + 1) 100 d u h) → (∀ p' q', p' ≤ 99 → q' ≤ 99 → zLx ζ (zst t x (lnE 9 s n p' q' d u h)) 9 x s n p' q' d db u ub h das uas dn up) → zge τ t → zR t ((lfX6_findsPair_9 K ζ k').1 x t) P) →
    zR τ ((lfX6_findsPair_9 K ζ kk).2 x τ) P := by
  intro m
  induction m with
  | zero =>
    intro q kk τ hq h1 hζ hL hX hk hS hN
    obtain ⟨k, rfl⟩ : ∃ j, kk = j + 1 := ⟨kk - 1, by omega⟩
    obtain rfl : q = 100 := by omega
    rw [luX6_findsPair_9_2]
    simp only [hL.ob, hL.wo (k := 2) (Nat.le_of_ble_eq_true rfl), dzb, dzc, dzl, fl0, fl1, fl2, fl3, fl4, fl5, fl6, fl7, fi0, fi1, fi2, fi3, fi4, fi5, fi6, fi7, fr0, fr1, fr2, fr3, fr4, fr5, fr6, fr7, fs0, fs1, fs2, fs3, fs4, fs5, fs6, fs7, nI_1]
    refine zR_t (show (99 : Int32) < nI 100 by decide) ?_
    refine zR_mono (s := zst τ x (lnE 9 s n (p + 1) 100 d u h)) ⟨Nat.le_refl _, Nat.le_refl _⟩ ?_
    refine hN _ k rfl (by omega) (zk_st rfl) (zin_st hL.1) (fun p' q' hp' hq' => ?_) ⟨Nat.le_refl _, Nat.le_refl _⟩
    rw [zst2]
    have := (hX 1 (by omega)).pq (p' := p') (q' := q') hx hp' hq'
    rw [zst2] at this
    exact this
  | succ m ih =>
    intro q kk τ hq h1 hζ hL hX hk hS hN
    obtain ⟨k, rfl⟩ : ∃ j, kk = j + 1 := ⟨kk - 1, by omega⟩
    rw [luX6_findsPair_9_2]
    simp only [hL.ob, dzb, dzc, dzl, fl0, fl1, fl2, fl3, fl4, fl5, fl6, fl7, fi0, fi1, fi2, fi3, fi4, fi5, fi6, fi7, fr0, fr1, fr2, fr3, fr4, fr5, fr6, fr7, fs0, fs1, fs2, fs3, fs4, fs5, fs6, fs7]
    refine zR_f (show ¬ (99 : Int32) < nI q from nI_nlt (b := q) (a := 99) (by omega) (by omega)) ?_
    have e0 : zst τ x (lnE 9 s n p q d u h) = τ := by
      unfold zst
      show (τ.1, τ.2.1, va_up τ.2.2 x _) = τ
      rw [show va_up τ.2.2 x (lnE 9 s n p q d u h) = τ.2.2 by
        funext a
        by_cases ha : a = x
        · rw [ha, va_up_self]; exact hL.2.symm
        · rw [va_up_ne _ _ ha]]
    have HX := hX q (by omega)
    rw [e0] at HX
    rw [sPq_s] at hS hN
    refine zR_cl (hl_pairFault_9 K ζ τ x s n p q d u h ub uas up hζ HX.1 HX.2.1.2.2.1 HX.2.1.2.2.2 (by have := HX.2.2.2.2.1; omega) hp (by omega) HX.2.2.2.1 hK) (fun v t g Q => ?_)
    obtain ⟨rfl, k1⟩ := Q
    have k1' := zk.wk (S' := fun a => a = x) k1 (fun _ _ e => e.elim)
    have hf9 := sPairF_le n p q up
    by_cases hc : sPairF n p q up = 0
    · rw [if_pos hc] at hS
      refine zR_t (by rw [hc]; rfl) (zR_r ?_)
      exact hS t q rfl k1' (HX.k k1) g
    · rw [if_neg hc] at hS hN
      refine zR_f (nI_ne0 (by omega) (by omega)) ?_
      have hL1 := zk.i k1 hL
      simp only [hL1.ob, hL1.wo (k := 3) (Nat.le_of_ble_eq_true rfl), dzb, dzc, dzl, fl0, fl1, fl2, fl3, fl4, fl5, fl6, fl7, fi0, fi1, fi2, fi3, fi4, fi5, fi6, fi7, fr0, fr1, fr2, fr3, fr4, fr5, fr6, fr7, fs0, fs1, fs2, fs3, fs4, fs5, fs6, fs7, nI_1]
      have k2 : zk (fun a => a = x) τ (zst t x (lnE 9 s n p (q + 1) d u h)) (sPairC n p q up + 0) (5 * sPairC n p q up + 0) := k1'.tr (zk_st rfl)
      refine zR_mono (s := zst t x (lnE 9 s n p (q + 1) d u h)) ⟨Nat.le_refl _, Nat.le_refl _⟩ ?_
      refine ih (q + 1) k _ (by omega) (by omega) (Nat.le_trans hζ g.1) (zin_st hL1.1) (fun q' hq' => ?_) (by omega) (fun t2 r e k3 X g2 => ?_) (fun t2 k' e f k3 X Y g2 => ?_)
      · rw [zst2]
        exact (HX.k k1).pq hx hp hq'
      · exact hS t2 r e ((k2.tr k3).le (by show _ ≤ sPairC n p q up + (sPq n p up m (q + 1)).2; omega) (by show _ ≤ 5 * (sPairC n p q up + (sPq n p up m (q + 1)).2); omega)) X (g.tr g2)
      · exact hN t2 k' e (by omega) ((k2.tr k3).le (by show _ ≤ sPairC n p q up + (sPq n p up m (q + 1)).2; omega) (by show _ ≤ 5 * (sPairC n p q up + (sPq n p up m (q + 1)).2); omega)) X Y (g.tr g2)
