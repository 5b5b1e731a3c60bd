/-! Both: rows of both sides in turn, from the greatest down, till they are enough -/
def qUp (i j : Nat) (f : Bool) : Bool := decide (i = 0) || (!f && decide (0 < j))
def sQi (n : Nat) (rd ru : List sR) : Nat → Nat → Nat → Bool → (Nat × Nat) × Nat := Nat.rec (motive := fun _ => Nat → Nat → Bool → (Nat × Nat) × Nat) (fun i j _ => ((i, j), 0)) (fun _ G i j f => if sEnough 4 n (sProd (rd.drop i).reverse) (sProd (ru.drop j).reverse) then ((i, j), 2) else (if qUp i j f then ((G i (j - 1) (!f)).1, 2 + (G i (j - 1) (!f)).2) else ((G (i - 1) j (!f)).1, 2 + (G (i - 1) j (!f)).2)))
theorem sQi_s (n : Nat) (rd ru : List sR) (m i j : Nat) (f : Bool) : sQi n rd ru (m + 1) i j f = if sEnough 4 n (sProd (rd.drop i).reverse) (sProd (ru.drop j).reverse) then ((i, j), 2) else (if qUp i j f then ((sQi n rd ru m i (j - 1) (!f)).1, 2 + (sQi n rd ru m i (j - 1) (!f)).2) else ((sQi n rd ru m (i - 1) j (!f)).1, 2 + (sQi n rd ru m (i - 1) j (!f)).2)) := rfl
theorem sQi_le (n : Nat) (rd ru : List sR) : ∀ m i j f, (sQi n rd ru m i j f).1.1 ≤ i ∧ (sQi n rd ru m i j f).1.2 ≤ j ∧ (sQi n rd ru m i j f).2 ≤ 2 * m := by
  intro m
  induction m with
  | zero => intro i j f; exact ⟨Nat.le_refl _, Nat.le_refl _, Nat.le_refl _⟩
  | succ m ih =>
    intro i j f
    rw [sQi_s]
    by_cases h : sEnough 4 n (sProd (rd.drop i).reverse) (sProd (ru.drop j).reverse) = true
    · rw [if_pos h]; exact ⟨Nat.le_refl _, Nat.le_refl _, by show 2 ≤ _; omega⟩
    · rw [if_neg h]
      by_cases h2 : qUp i j f = true
      · rw [if_pos h2]
        have := ih i (j - 1) (!f)
        exact ⟨this.1, by show (sQi n rd ru m i (j - 1) (!f)).1.2 ≤ j; omega, by show 2 + (sQi n rd ru m i (j - 1) (!f)).2 ≤ _; omega⟩
      · rw [if_neg h2]
        have := ih (i - 1) j (!f)
        exact ⟨by show (sQi n rd ru m (i - 1) j (!f)).1.1 ≤ i; omega, this.2.1, by show 2 + (sQi n rd ru m (i - 1) j (!f)).2 ≤ _; omega⟩
theorem nI_m1lt {i : Nat} (h : i ≤ 9) : (nI i - 1 < (0 : Int32)) ↔ i = 0 := by
  obtain rfl | rfl | rfl | rfl | rfl | rfl | rfl | rfl | rfl | rfl : i = 0 ∨ i = 1 ∨ i = 2 ∨ i = 3 ∨ i = 4 ∨ i = 5 ∨ i = 6 ∨ i = 7 ∨ i = 8 ∨ i = 9 := by omega
  all_goals decide
theorem nI_m1ge {i : Nat} (h : i ≤ 9) : ((0 : Int32) ≤ nI i - 1) ↔ i ≠ 0 := by
  obtain rfl | rfl | rfl | rfl | rfl | rfl | rfl | rfl | rfl | rfl : i = 0 ∨ i = 1 ∨ i = 2 ∨ i = 3 ∨ i = 4 ∨ i = 5 ∨ i = 6 ∨ i = 7 ∨ i = 8 ∨ i = 9 := by omega
  all_goals decide
theorem hw_loop (K : Nat) (ζ : pZ) (τ0 : pH) (x n d db u ub h a b a' b' : Nat) (as bs : List Nat) (rd ru : List sR) (hd : d < τ0.1 ∧ db < τ0.1 ∧ u < τ0.1 ∧ ub < τ0.1) (ha : τ0.1 ≤ a ∧ τ0.1 ≤ b ∧ τ0.1 ≤ a' ∧ τ0.1 ≤ b') (has : ∀ y ∈ as, τ0.1 ≤ y) (hbs : ∀ y ∈ bs, τ0.1 ≤ y) (hx : x ≠ d ∧ x ≠ db ∧ x ≠ u ∧ x ≠ ub) (hx2 : u ≠ d ∧ u ≠ db ∧ ub ≠ d ∧ ub ≠ db) (hok : ∀ r ∈ rd, sRok r) (hok2 : ∀ r ∈ ru, sRok r) (hpr : ∀ j, sProd (rd.drop j).reverse ≤ 1000000001) (hpu : ∀ j, sProd (ru.drop j).reverse ≤ 1000000001) (hK : 1000 ≤ K) : ∀ m i j f kk τ c s, i + j = m → i ≤ as.length → j ≤ bs.length → zk (fun q => (q = d ∨ q = db) ∨ (q = u ∨ q = ub)) τ0 τ c s → ζ.1 ≤ τ.1 → zRs ζ τ a b as → zRw ζ τ as rd → zRs ζ τ a' b' bs → zRw ζ τ bs ru → zLx ζ τ 9 x 4 n 0 0 d db u ub h (as.drop i).reverse (bs.drop j).reverse (rd.drop i).reverse (ru.drop j).reverse → 4 * m + 1 ≤ kk →
    zR τ ((lfX12_lays K ζ kk).1 x a a' (nI i - 1) (nI j - 1) (nb f) τ) (fun _ t => zLx ζ t 9 x 4 n 0 0 d db u ub h (as.drop (sQi n rd ru m i j f).1.1).reverse (bs.drop (sQi n rd ru m i j f).1.2).reverse (rd.drop (sQi n rd ru m i j f).1.1).reverse (ru.drop (sQi n rd ru m i j f).1.2).reverse ∧ zk (fun q => (q = d ∨ q = db) ∨ (q = u ∨ q = ub)) τ0 t (c + (sQi n rd ru m i j f).2) (s + 5 * (sQi n rd ru m i j f).2)) := by
  intro m
  induction m with
  | zero =>
    intro i j f kk τ c s hij _ _ hk _ _ _ _ _ H hkk
    obtain ⟨k, rfl⟩ : ∃ j, kk = j + 1 := ⟨kk - 1, by omega⟩
    obtain rfl : i = 0 := by omega
    obtain rfl : j = 0 := by omega
    rw [luX12_lays_1]
    exact zR_f (fun e => (nI_m1ge (by omega)).mp e rfl) (zR_t ((nI_m1lt (by omega)).mpr rfl) (zR_r ⟨H, hk⟩))
  | succ m ih =>
    intro i j f kk τ c s hij hi hj hk hζ hr hw hr' hw' H hkk
    obtain ⟨k, rfl⟩ : ∃ j, kk = j + 4 := ⟨kk - 4, by omega⟩
    have hl9 : as.length ≤ 9 := by obtain ⟨f, -, -, g, -⟩ := hr; exact g
    have hb9 : bs.length ≤ 9 := by obtain ⟨f, -, -, g, -⟩ := hr'; exact g
    rw [sQi_s]
    have body : ∀ P, zR τ ((lfX12_lays K ζ (k + 3)).2.1 x a a' (nI i - 1) (nI j - 1) (nb f) τ) P → zR τ ((lfX12_lays K ζ (k + 4)).1 x a a' (nI i - 1) (nI j - 1) (nb f) τ) P := by
      intro P Q
      rw [luX12_lays_1]
      by_cases h0 : i = 0
      · exact zR_f (fun e => (nI_m1ge (by omega)).mp e h0) (zR_f (fun e => absurd ((nI_m1lt (by omega)).mp e) (by omega)) Q)
      · exact zR_t ((nI_m1ge (by omega)).mpr h0) Q
    refine body _ ?_
    rw [luX12_lays_2]
    refine zR_b H.1.ob (zR_cl (hl_isEnough_9 K ζ τ x 4 n 0 0 d db u ub h _ _ _ _ hζ hK H (hpr _) (hpu _)) (fun v t g P => ?_))
    obtain ⟨rfl, k1⟩ := P
    have H1 := H.k k1
    have hr1 := k1.R hr
    have hw1 := k1.W hw
    have hr1' := k1.R hr'
    have hw1' := k1.W hw'
    have hk1 : zk (fun q => (q = d ∨ q = db) ∨ (q = u ∨ q = ub)) τ0 t (c + 2) (s + 10) := hk.tr (k1.wk (fun _ _ e => e.elim))
    cases he : sEnough 4 n (sProd (rd.drop i).reverse) (sProd (ru.drop j).reverse) with
    | true => exact zR_f (by decide) (zR_r ⟨H1, hk1⟩)
    | false =>
      refine zR_t rfl ?_
      obtain ⟨hL, ⟨hr2, hw2, hr3, hw3⟩, ok1, ok2, hn, hp, hq⟩ := H1
      have flip : ∀ v3 v4 t' P, zR t' ((lfX12_lays K ζ k).1 x a a' v3 v4 (nb (!f)) t') P → zR t' ((lfX12_lays K ζ (k + 1)).2.2.2.2 x a a' v3 v4 (nb f) t') P := by
        intro v3 v4 t' P Q
        rw [luX12_lays_5]
        cases f with
        | false => exact zR_t rfl Q
        | true => exact zR_f (by decide) Q
      have nn : ∀ y, τ0.1 ≤ y → ¬ (y = d ∨ y = db) ∧ ¬ (y = u ∨ y = ub) := fun y hy => ⟨fun e => by omega, fun e => by omega⟩
      have zt : ζ.1 ≤ t.1 := Nat.le_trans hζ g.1
      have up : qUp i j f = true → 0 < j → zR t ((lfX12_lays K ζ (k + 2)).2.2.2.1 x a a' (nI i - 1) (nI j - 1) (nb f) t) (fun _ t => zLx ζ t 9 x 4 n 0 0 d db u ub h (as.drop (sQi n rd ru m i (j - 1) (!f)).1.1).reverse (bs.drop (sQi n rd ru m i (j - 1) (!f)).1.2).reverse (rd.drop (sQi n rd ru m i (j - 1) (!f)).1.1).reverse (ru.drop (sQi n rd ru m i (j - 1) (!f)).1.2).reverse ∧ zk (fun q => (q = d ∨ q = db) ∨ (q = u ∨ q = ub)) τ0 t (c + (2 + (sQi n rd ru m i (j - 1) (!f)).2)) (s + 5 * (2 + (sQi n rd ru m i (j - 1) (!f)).2))) := by
        intro _ hj0
        obtain ⟨j, rfl⟩ : ∃ j', j = j' + 1 := ⟨j - 1, by omega⟩
        rw [luX12_lays_4, nI_pred, Nat.add_sub_cancel]
        obtain ⟨fs, ho⟩ := hr3.o
        obtain ⟨f', ha1, hb1, -, -, hf⟩ := id hr1'
        simp only [hL.ob, ha1.ob, hb1.aq, dzb, dzc, dzl, fl0, fl1, fl2, fl3, fl4, fl5, fl6, fl7, fi0, fi1, fi2, fi3, fi4, fi5, fi6, fi7, fr0, fr1, fr2, fr3, fr4, fr5, fr6, fr7, fs0, fs1, fs2, fs3, fs4, fs5, fs6, fs7]
        refine zR_t (nI_in (by omega) (by omega)) ?_
        rw [nI_clamp (by omega)]
        have hia : j < bs.length := by omega
        have hir : j < ru.length := by rw [← hw1'.1]; exact hia
        refine zR_b (hf j hia) (zR_b ho ?_)
        have hai := hbs _ (List.getElem_mem hia)
        obtain ⟨s6, b1, b2, b3, b4⟩ := hr_adds K ζ t u ub bs[j] (bs.drop (j + 1)).reverse ru[j] hr3 (by rw [List.length_reverse, List.length_drop]; omega) (hw1'.2 j hia hir) (by omega) (by omega)
        rw [dr_s bs j hia] at b3
        refine zR_cl (Q := fun v t => t = s6) (zR_eq b1 rfl b2.1) ?_
        intro v t' _ P
        obtain rfl : t' = s6 := P
        rw [show nI j + -1 = nI j - 1 from (Int32.sub_eq_add_neg ..).symm]
        refine flip _ _ _ _ ?_
        have hw4 := hw1'.k b2 (fun y hy => (nn y (hbs y hy)).2)
        have hw5 := hw1.k b2 (fun y hy => (nn y (has y hy)).2)
        have H2 : zLx ζ t' 9 x 4 n 0 0 d db u ub h (as.drop i).reverse (bs.drop j).reverse (rd.drop i).reverse (ru.drop j).reverse :=
          ⟨b2.in hL (fun e => e.elim hx.2.2.1 hx.2.2.2), ⟨hr2.k b2 (fun e => e.elim (Ne.symm hx2.1) (Ne.symm hx2.2.2.1)) (fun e => e.elim (Ne.symm hx2.2.1) (Ne.symm hx2.2.2.2)), hw5.dr i, b3, hw4.dr j⟩, ok1, fun r hr => hok2 r (List.mem_of_mem_drop (List.mem_reverse.mp hr)), hn, hp, hq⟩
        refine zR_imp (ih i j (!f) k t' (c + 2) (s + 10) (by omega) hi (by omega) ((hk1.tr (b2.wk (fun _ _ e => Or.inr e))).le (by omega) (by omega)) (Nat.le_trans zt b2.1.1) (hr1.k b2 (nn _ ha.1).2 (nn _ ha.2.1).2) hw5 (hr1'.k b2 (nn _ ha.2.2.1).2 (nn _ ha.2.2.2).2) hw4 H2 (by omega)) (fun v t2 _ P => ⟨P.1, P.2.le (by omega) (by omega)⟩)
      have down : qUp i j f = false → 0 < i → zR t ((lfX12_lays K ζ (k + 2)).2.2.1 x a a' (nI i - 1) (nI j - 1) (nb f) t) (fun _ t => zLx ζ t 9 x 4 n 0 0 d db u ub h (as.drop (sQi n rd ru m (i - 1) j (!f)).1.1).reverse (bs.drop (sQi n rd ru m (i - 1) j (!f)).1.2).reverse (rd.drop (sQi n rd ru m (i - 1) j (!f)).1.1).reverse (ru.drop (sQi n rd ru m (i - 1) j (!f)).1.2).reverse ∧ zk (fun q => (q = d ∨ q = db) ∨ (q = u ∨ q = ub)) τ0 t (c + (2 + (sQi n rd ru m (i - 1) j (!f)).2)) (s + 5 * (2 + (sQi n rd ru m (i - 1) j (!f)).2))) := by
        intro _ hi0
        obtain ⟨i, rfl⟩ : ∃ i', i = i' + 1 := ⟨i - 1, by omega⟩
        rw [luX12_lays_3, nI_pred, Nat.add_sub_cancel]
        obtain ⟨fs, ho⟩ := hr2.o
        obtain ⟨f', ha1, hb1, -, -, hf⟩ := id hr1
        simp only [hL.ob, ha1.ob, hb1.aq, dzb, dzc, dzl, fl0, fl1, fl2, fl3, fl4, fl5, fl6, fl7, fi0, fi1, fi2, fi3, fi4, fi5, fi6, fi7, fr0, fr1, fr2, fr3, fr4, fr5, fr6, fr7, fs0, fs1, fs2, fs3, fs4, fs5, fs6, fs7]
        refine zR_t (nI_in (by omega) (by omega)) ?_
        rw [nI_clamp (by omega)]
        have hia : i < as.length := by omega
        have hir : i < rd.length := by rw [← hw1.1]; exact hia
        refine zR_b (hf i hia) (zR_b ho ?_)
        have hai := has _ (List.getElem_mem hia)
        obtain ⟨s6, b1, b2, b3, b4⟩ := hr_adds K ζ t d db as[i] (as.drop (i + 1)).reverse rd[i] hr2 (by rw [List.length_reverse, List.length_drop]; omega) (hw1.2 i hia hir) (by omega) (by omega)
        rw [dr_s as i hia] at b3
        refine zR_cl (Q := fun v t => t = s6) (zR_eq b1 rfl b2.1) ?_
        intro v t' _ P
        obtain rfl : t' = s6 := P
        rw [show nI i + -1 = nI i - 1 from (Int32.sub_eq_add_neg ..).symm]
        refine flip _ _ _ _ ?_
        have hw4 := hw1'.k b2 (fun y hy => (nn y (hbs y hy)).1)
        have hw5 := hw1.k b2 (fun y hy => (nn y (has y hy)).1)
        have H2 : zLx ζ t' 9 x 4 n 0 0 d db u ub h (as.drop i).reverse (bs.drop j).reverse (rd.drop i).reverse (ru.drop j).reverse :=
          ⟨b2.in hL (fun e => e.elim hx.1 hx.2.1), ⟨b3, hw5.dr i, hr3.k b2 (fun e => e.elim hx2.1 hx2.2.1) (fun e => e.elim hx2.2.2.1 hx2.2.2.2), hw4.dr j⟩, fun r hr => hok r (List.mem_of_mem_drop (List.mem_reverse.mp hr)), ok2, hn, hp, hq⟩
        refine zR_imp (ih i j (!f) k t' (c + 2) (s + 10) (by omega) (by omega) hj ((hk1.tr (b2.wk (fun _ _ e => Or.inl e))).le (by omega) (by omega)) (Nat.le_trans zt b2.1.1) (hr1.k b2 (nn _ ha.1).1 (nn _ ha.2.1).1) hw5 (hr1'.k b2 (nn _ ha.2.2.1).1 (nn _ ha.2.2.2).1) hw4 H2 (by omega)) (fun v t2 _ P => ⟨P.1, P.2.le (by omega) (by omega)⟩)
      show zR t _ (fun _ t => zLx ζ t 9 x 4 n 0 0 d db u ub h (as.drop (if qUp i j f then ((sQi n rd ru m i (j - 1) (!f)).1, 2 + (sQi n rd ru m i (j - 1) (!f)).2) else ((sQi n rd ru m (i - 1) j (!f)).1, 2 + (sQi n rd ru m (i - 1) j (!f)).2)).1.1).reverse (bs.drop (if qUp i j f then ((sQi n rd ru m i (j - 1) (!f)).1, 2 + (sQi n rd ru m i (j - 1) (!f)).2) else ((sQi n rd ru m (i - 1) j (!f)).1, 2 + (sQi n rd ru m (i - 1) j (!f)).2)).1.2).reverse (rd.drop (if qUp i j f then ((sQi n rd ru m i (j - 1) (!f)).1, 2 + (sQi n rd ru m i (j - 1) (!f)).2) else ((sQi n rd ru m (i - 1) j (!f)).1, 2 + (sQi n rd ru m (i - 1) j (!f)).2)).1.1).reverse (ru.drop (if qUp i j f then ((sQi n rd ru m i (j - 1) (!f)).1, 2 + (sQi n rd ru m i (j - 1) (!f)).2) else ((sQi n rd ru m (i - 1) j (!f)).1, 2 + (sQi n rd ru m (i - 1) j (!f)).2)).1.2).reverse ∧ zk (fun q => (q = d ∨ q = db) ∨ (q = u ∨ q = ub)) τ0 t (c + (if qUp i j f then ((sQi n rd ru m i (j - 1) (!f)).1, 2 + (sQi n rd ru m i (j - 1) (!f)).2) else ((sQi n rd ru m (i - 1) j (!f)).1, 2 + (sQi n rd ru m (i - 1) j (!f)).2)).2) (s + 5 * (if qUp i j f then ((sQi n rd ru m i (j - 1) (!f)).1, 2 + (sQi n rd ru m i (j - 1) (!f)).2) else ((sQi n rd ru m (i - 1) j (!f)).1, 2 + (sQi n rd ru m (i - 1) j (!f)).2)).2))
      by_cases h0 : i = 0
      · have e : qUp i j f = true := by unfold qUp; rw [decide_eq_true h0, Bool.true_or]
        refine zR_t ((nI_m1lt (by omega)).mpr h0) ?_
        rw [if_pos e]
        exact up e (by omega)
      · refine zR_f (fun e => h0 ((nI_m1lt (by omega)).mp e)) ?_
        cases f with
        | true =>
          have e : qUp i j true = false := by unfold qUp; rw [decide_eq_false h0]; rfl
          rw [if_neg (show ¬ qUp i j true = true by rw [e]; decide)]
          exact zR_f (by decide) (down e (by omega))
        | false =>
          refine zR_t rfl ?_
          by_cases hj0 : j = 0
          · have e : qUp i j false = false := by unfold qUp; rw [decide_eq_false h0, decide_eq_false (by omega)]; rfl
            rw [if_neg (show ¬ qUp i j false = true by rw [e]; decide)]
            exact zR_f (fun e => (nI_m1ge (by omega)).mp e hj0) (down e (by omega))
          · have e : qUp i j false = true := by unfold qUp; rw [decide_eq_true (show 0 < j by omega)]; cases decide (i = 0) <;> rfl
            rw [if_pos e]
            exact zR_t ((nI_m1ge (by omega)).mpr hj0) (up e (by omega))
