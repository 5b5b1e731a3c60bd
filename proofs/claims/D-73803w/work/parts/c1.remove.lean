/-! ArrayList: remove; the ledger goes back -/
theorem hj_remove (K : Nat) (ζ : pZ) (τ : pH) (al ea : Nat) (mc : Int32) (xs : List Nat) (h : zAL ζ τ al ea mc xs) (hlen : xs.length ≤ 110) (hx : ∀ y ∈ xs, ∃ c fs, zin ζ τ y (.inr (c, fs)) ∧ 5 ≤ c ∧ c ≤ 9) (i : Nat) (hi : i < xs.length) (hK : 1 ≤ K) : ∃ t, fnJ2_remove K ζ al (nI i) τ = some (xs[i], t) ∧ zge τ t ∧ t.1 = τ.1 ∧ zk (fun a => a = al ∨ (a = ea ∧ ζ.1 ≤ a)) τ t 0 0 ∧ zAL ζ t al ea (mc + 1) (xs.eraseIdx i) := by
  obtain ⟨k, hk⟩ : ∃ j, K = j + 1 := ⟨K - 1, by omega⟩
  obtain ⟨ha, hh⟩ := id h
  rcases hh with ⟨-, e⟩ | ⟨cap, f, hb, h1, h2, h3, h4, h5⟩
  · rw [e] at hi; exact absurd hi (Nat.not_lt_zero _)
  have nal : ∀ z c fs, zin ζ τ z (.inr (c, fs)) → 5 ≤ c ∧ c ≤ 9 → z ≠ al := by
    intro z c fs hz h5 e
    have q : (Sum.inr (c, fs) : pE) = alE mc ea xs.length := by rw [← hz.2, e]; exact ha.2
    have q3 : c = 14 := congrArg Prod.fst (Sum.inr.inj q)
    omega
  obtain ⟨m, hm⟩ : ∃ m, xs.length = m + 1 := ⟨xs.length - 1, by omega⟩
  have ha1 : zin ζ (zst τ al (alE (mc + 1) ea xs.length)) al (alE (mc + 1) ea xs.length) := zin_st ha.1
  have hb1 := hb.st_ne (e' := alE (mc + 1) ea xs.length) h3
  have k1 : zk (fun a => a = al ∨ (a = ea ∧ ζ.1 ≤ a)) τ (zst τ al (alE (mc + 1) ea xs.length)) 0 0 := zk_st (Or.inl rfl)
  have F : ∀ s f', zin ζ s al (alE (mc + 1) ea xs.length) → zin ζ s ea (aaE cap f') → (lfJ2_fastRemove K ζ K) al ea (nI m) s = some ((), zst (zst s al (alE (mc + 1) ea m)) ea (aaE cap (va_up f' m none))) := by
    intro s f' q1 q2
    have e : (lfJ2_fastRemove K ζ K) al ea (nI m) s = (lfJ2_fastRemove K ζ (k + 1)) al ea (nI m) s := by rw [← hk]
    have q3 := q2.st_ne (e' := alE (mc + 1) ea m) h3
    rw [e, luJ2_fastRemove_1]
    simp only [q1.wo (k := 2) (Nat.le_of_ble_eq_true rfl), dzb, dzc, dzl, fl0, fl1, fl2, fl3, fl4, fl5, fl6, fl7, fi0, fi1, fi2, fi3, fi4, fi5, fi6, fi7, fr0, fr1, fr2, fr3, fr4, fr5, fr6, fr7, fs0, fs1, fs2, fs3, fs4, fs5, fs6, fs7]
    refine (if_pos q3.1).trans ?_
    simp only [q3.aq, dzb, dzc, dzl, fl0, fl1, fl2, fl3, fl4, fl5, fl6, fl7, fi0, fi1, fi2, fi3, fi4, fi5, fi6, fi7, fr0, fr1, fr2, fr3, fr4, fr5, fr6, fr7, fs0, fs1, fs2, fs3, fs4, fs5, fs6, fs7]
    rw [if_pos (nI_in (by omega) (by omega)), nI_clamp (by omega)]
  have D : ∀ s f', zin ζ s al (alE (mc + 1) ea xs.length) → zin ζ s ea (aaE cap f') → zk (fun a => a = al ∨ (a = ea ∧ ζ.1 ≤ a)) τ s 0 0 → s.1 = τ.1 → (∀ j (h : j < (xs.eraseIdx i).length), f' j = some (xs.eraseIdx i)[j]) → (zst (zst s al (alE (mc + 1) ea m)) ea (aaE cap (va_up f' m none))).1 = τ.1 ∧ zk (fun a => a = al ∨ (a = ea ∧ ζ.1 ≤ a)) τ (zst (zst s al (alE (mc + 1) ea m)) ea (aaE cap (va_up f' m none))) 0 0 ∧ zAL ζ (zst (zst s al (alE (mc + 1) ea m)) ea (aaE cap (va_up f' m none))) al ea (mc + 1) (xs.eraseIdx i) := by
    intro s f' q1 q2 kk es hf
    have el : (xs.eraseIdx i).length = m := by rw [List.length_eraseIdx_of_lt hi]; omega
    have q3 := q2.st_ne (e' := alE (mc + 1) ea m) h3
    have q4 : zin ζ (zst s al (alE (mc + 1) ea m)) al (alE (mc + 1) ea m) := zin_st q1.1
    refine ⟨es, (kk.tr (zk_st (Or.inl rfl))).tr (zk_st (Or.inr ⟨rfl, hb.1.1⟩)), ?_, ?_⟩
    · rw [el]; exact q4.st_ne (Ne.symm h3)
    · refine Or.inr ⟨cap, va_up f' m none, zin_st q3.1, by omega, h2, h3, h4, fun j hj => ?_⟩
      unfold va_up
      rw [if_neg (by omega)]
      exact hf j hj
  have ec : fnJ3_checkIndex K ζ (nI i) (nI xs.length) τ = some (nI i, τ) := by
    unfold fnJ3_checkIndex
    refine zcl_i (x := nI i) (τ1 := τ) ?_ ⟨Nat.le_refl _, Nat.le_refl _⟩ ⟨Nat.le_refl _, Nat.le_refl _⟩ rfl
    unfold fnJ4_checkIndex_n
    rw [if_neg (nI_pos (by omega)), if_pos (nI_lt hi (by omega))]
  have R : ∀ t, fnJ2_fastRemove K ζ al ea (nI i) τ = some ((), t) → zge τ t → fnJ2_remove K ζ al (nI i) τ = some (xs[i], t) := by
    intro t e g
    unfold fnJ2_remove
    simp only [ha.ob, dzb, dzc, dzl, fl0, fl1, fl2, fl3, fl4, fl5, fl6, fl7, fi0, fi1, fi2, fi3, fi4, fi5, fi6, fi7, fr0, fr1, fr2, fr3, fr4, fr5, fr6, fr7, fs0, fs1, fs2, fs3, fs4, fs5, fs6, fs7]
    refine zcl_i (x := nI i) (τ1 := τ) ec ⟨Nat.le_refl _, Nat.le_refl _⟩ g ?_
    simp only [ha.ob, hb.aq, dzb, dzc, dzl, fl0, fl1, fl2, fl3, fl4, fl5, fl6, fl7, fi0, fi1, fi2, fi3, fi4, fi5, fi6, fi7, fr0, fr1, fr2, fr3, fr4, fr5, fr6, fr7, fs0, fs1, fs2, fs3, fs4, fs5, fs6, fs7]
    rw [if_pos (nI_in (by omega) (by omega)), nI_clamp (by omega), h5 i hi, dzb]
    exact zcl_i e g ⟨Nat.le_refl _, Nat.le_refl _⟩ rfl
  have e8 : nI xs.length - 1 = nI m := by rw [hm, nI_pred]
  rcases Nat.lt_or_ge i m with hlt | hge
  · have ez : zels ζ (zst τ al (alE (mc + 1) ea xs.length)) f (i + 1) (m - i) = true := by
      unfold zels
      rw [List.all_eq_true]
      intro j hj
      rw [List.mem_range] at hj
      rw [h5 (i + 1 + j) (by omega)]
      obtain ⟨c, fs, q1, q2⟩ := hx _ (List.getElem_mem (show i + 1 + j < xs.length by omega))
      show (zoL ζ _ _).isSome = true
      rw [(q1.st_ne (e' := alE (mc + 1) ea xs.length) (nal _ c fs q1 q2)).oL q2]
      rfl
    have ha2 : zin ζ (zst (zst τ al (alE (mc + 1) ea xs.length)) ea (aaE cap (va_cpy f f (i + 1) i (m - i)))) al (alE (mc + 1) ea xs.length) := ha1.st_ne (Ne.symm h3)
    have hb2 : zin ζ (zst (zst τ al (alE (mc + 1) ea xs.length)) ea (aaE cap (va_cpy f f (i + 1) i (m - i)))) ea (aaE cap (va_cpy f f (i + 1) i (m - i))) := zin_st hb1.1
    obtain ⟨d1, d2, d3⟩ := D _ _ ha2 hb2 (k1.tr (zk_st (Or.inr ⟨rfl, hb.1.1⟩))) rfl (fun j hj => by
      have hj2 := hj
      rw [List.length_eraseIdx_of_lt hi] at hj2
      rcases Nat.lt_or_ge j i with g | g
      · rw [pk_cpy_out (Or.inl g), List.getElem_eraseIdx_of_lt hj g]
        exact h5 j (by omega)
      · rw [pk_cpy_in g (by omega), List.getElem_eraseIdx_of_ge hj g, show i + 1 + (j - i) = j + 1 by omega]
        exact h5 (j + 1) (by omega))
    refine ⟨_, R _ ?_ d2.1, d2.1, d1, d2, d3⟩
    unfold fnJ2_fastRemove
    simp only [ha.ob, ha.wo (k := 0) (Nat.le_of_ble_eq_true rfl), dzb, dzc, dzl, fl0, fl1, fl2, fl3, fl4, fl5, fl6, fl7, fi0, fi1, fi2, fi3, fi4, fi5, fi6, fi7, fr0, fr1, fr2, fr3, fr4, fr5, fr6, fr7, fs0, fs1, fs2, fs3, fs4, fs5, fs6, fs7, ha1.ob]
    rw [e8, if_neg (nI_ge hlt (by omega))]
    refine (if_pos hb1.1).trans ((if_pos hb1.1).trans ?_)
    simp only [hb1.aq, dzb, dzc, dzl, fl0, fl1, fl2, fl3, fl4, fl5, fl6, fl7, fi0, fi1, fi2, fi3, fi4, fi5, fi6, fi7, fr0, fr1, fr2, fr3, fr4, fr5, fr6, fr7, fs0, fs1, fs2, fs3, fs4, fs5, fs6, fs7, nI_1, pk_sub (Nat.le_of_lt hlt)]
    rw [if_pos (nI_pos (by omega)), if_pos (nI_pos (by omega)), if_pos (nI_pos (by omega)), nI_clamp (by omega), nI_clamp (by omega), nI_clamp (by omega), if_pos (by omega), if_pos (by omega), if_pos ez]
    exact F _ _ ha2 hb2
  · obtain ⟨d1, d2, d3⟩ := D _ _ ha1 hb1 k1 rfl (fun j hj => by
      have hj2 := hj
      rw [List.length_eraseIdx_of_lt hi] at hj2
      rw [List.getElem_eraseIdx_of_lt hj (by omega)]
      exact h5 j (by omega))
    refine ⟨_, R _ ?_ d2.1, d2.1, d1, d2, d3⟩
    unfold fnJ2_fastRemove
    simp only [ha.ob, ha.wo (k := 0) (Nat.le_of_ble_eq_true rfl), dzb, dzc, dzl, fl0, fl1, fl2, fl3, fl4, fl5, fl6, fl7, fi0, fi1, fi2, fi3, fi4, fi5, fi6, fi7, fr0, fr1, fr2, fr3, fr4, fr5, fr6, fr7, fs0, fs1, fs2, fs3, fs4, fs5, fs6, fs7, ha1.ob]
    rw [e8, if_pos (nI_le (by omega) (by omega))]
    exact F _ _ ha1 hb1
theorem xsA_p (N : Nat) (A : Nat → lA) : (xsA (N + 1) A).eraseIdx N = xsA N A := by
  unfold xsA
  rw [List.eraseIdx_eq_dropLast (by rw [List.length_map, List.length_range]), List.range_succ, List.map_append, List.map_singleton, List.dropLast_concat]
/-- the ledger between its steps: faults are known up to some line -/
def zLq (ζ : pZ) (τ : pH) (own : Nat → Nat × Nat × Nat) (h al ea af laid ta taped ra da : Nat) (mc : Int32) (N : Nat) (A : Nat → lA) (L : Nat → sLn) (b : Nat) : Prop :=
  zin ζ τ h (ppE al af laid ta taped ra da) ∧ zAL ζ τ al ea mc (xsA N A) ∧ (∃ f, zin ζ τ af (faE f) ∧ ∀ k, k < b → f k = nI (sFt L k)) ∧ (laid ≤ 60 ∧ N ≤ 60) ∧ (∀ k, k < N → zLine ζ τ h (A k) (L k) ∧ oOk own (A k)) ∧ zRt own ζ h al ea af ta ra da ∧ ζ.2.2.2 0 < ζ.1
theorem zLd.q {ζ : pZ} {τ : pH} {own : Nat → Nat × Nat × Nat} {h al ea af laid ta taped ra da : Nat} {mc : Int32} {N : Nat} {A : Nat → lA} {L : Nat → sLn} (H : zLd ζ τ own h al ea af laid ta taped ra da mc N A L) (b : Nat) (hb : b ≤ laid) : zLq ζ τ own h al ea af laid ta taped ra da mc N A L b := by
  obtain ⟨a1, a2, ⟨f, a3, a3'⟩, a4, a5, a6, a7⟩ := H
  exact ⟨a1, a2, ⟨f, a3, fun k hk => a3' k (by omega)⟩, by omega, a5, a6, a7⟩
theorem hx_changes {K : Nat} {ζ : pZ} {τ : pH} {own : Nat → Nat × Nat × Nat} {h al ea af laid ta taped ra da : Nat} {mc : Int32} {N : Nat} {A : Nat → lA} {L : Nat → sLn} (m b : Nat) (hm : m ≤ 110) (H : zLq ζ τ own h al ea af laid ta taped ra da mc N A L b) (hb : min laid m ≤ b) (hN : min laid m ≤ N) : ∃ t, fnX0_changes K ζ h (nI m) τ = some ((), t) ∧ zge τ t ∧ zLd ζ t own h al ea af (min laid m) ta taped ra da mc N A L ∧ zk (fun z => z = h) τ t 0 0 := by
  obtain ⟨a1, a2, ⟨f, a3, a3'⟩, a4, a5, a6, a7⟩ := H
  have k1 : zk (fun z => z = h) τ (zst τ h (ppE al af (min laid m) ta taped ra da)) 0 0 := zk_st rfl
  have ne : ∀ x, (own x).1 ≠ 0 → ¬ x = h := fun x q e => q (by rw [e, a6.1])
  have S : ∀ x, x = h → (own x).1 < 10 := fun x e => by rw [e, a6.1]; decide
  refine ⟨zst τ h (ppE al af (min laid m) ta taped ra da), ?_, zge.rfl, ⟨zin_st a1.1, a2.k k1 (ne _ (by rw [a6.2.1]; decide)) ?_, ⟨f, k1.in a3 (ne _ (by rw [a6.2.2.2.1]; decide)), fun j hj => a3' j (by omega)⟩, ⟨hN, a4.2⟩, zLd.lines a5 k1 S, a6, a7⟩, k1⟩
  · have em : fnJ5_min_2 K (nI laid) (nI m) = some (nI (min laid m)) := by
      unfold fnJ5_min_2
      rcases Nat.lt_or_ge m laid with g | g
      · rw [if_pos (nI_lt g (by omega)), Nat.min_eq_right (by omega)]
      · rw [if_neg (nI_nlt g (by omega)), Nat.min_eq_left g]
    unfold fnX0_changes
    simp only [a1.ob, em, a1.wo (k := 2) (Nat.le_of_ble_eq_true rfl), dzb, dzc, dzl, fl0, fl1, fl2, fl3, fl4, fl5, fl6, fl7, fi0, fi1, fi2, fi3, fi4, fi5, fi6, fi7, fr0, fr1, fr2, fr3, fr4, fr5, fr6, fr7, fs0, fs1, fs2, fs3, fs4, fs5, fs6, fs7]
  · rcases a6.2.2.1 with e | e
    · exact ne _ (by rw [e]; decide)
    · have := a1.1.1
      omega
theorem zTb.h {ζ : pZ} {τ t : pH} {own : Nat → Nat × Nat × Nat} {h al ea af ta ra da c s : Nat} {tp : Nat → Int32} (T : zTb ζ τ ta ra da tp) (k : zk (fun z => z = h) τ t c s) (a6 : zRt own ζ h al ea af ta ra da) : zTb ζ t ta ra da tp := by
  have ne : ∀ x, (own x).1 ≠ 0 → ¬ x = h := fun x q e => q (by rw [e, a6.1])
  exact T.k k (ne _ (by rw [a6.2.2.2.2.1]; decide)) (ne _ (by rw [a6.2.2.2.2.2.1]; decide)) (ne _ (by rw [a6.2.2.2.2.2.2]; decide))
theorem zTb.l {ζ : pZ} {τ t : pH} {own : Nat → Nat × Nat × Nat} {h al ea af ta ra da c s : Nat} {tp : Nat → Int32} (T : zTb ζ τ ta ra da tp) (k : zk (fun z => z = al ∨ (z = ea ∧ ζ.1 ≤ z)) τ t c s) (a6 : zRt own ζ h al ea af ta ra da) (a7 : ζ.2.2.2 0 < ζ.1) : zTb ζ t ta ra da tp :=
  T.k k (a6.nS a7 (by rw [a6.2.2.2.2.1]; decide) (by rw [a6.2.2.2.2.1]; decide)) (a6.nS a7 (by rw [a6.2.2.2.2.2.1]; decide) (by rw [a6.2.2.2.2.2.1]; decide)) (a6.nS a7 (by rw [a6.2.2.2.2.2.2]; decide) (by rw [a6.2.2.2.2.2.2]; decide))
/-- lines from one on go -/
theorem hx_goesBackL {K : Nat} {ζ : pZ} {own : Nat → Nat × Nat × Nat} {h al ea af laid ta taped ra da : Nat} {A : Nat → lA} {L : Nat → sLn} {tp : Nat → Int32} (m : Nat) (hK : 2 ^ 50 ≤ K) : ∀ d N kk mc τ, N = m + d → ζ.1 ≤ τ.1 → zLq ζ τ own h al ea af laid ta taped ra da mc N A L (min laid m) → zTb ζ τ ta ra da tp → d + 1 ≤ kk →
    zR τ ((lfX0_goesBack K ζ kk) h (nI m) τ) (fun _ t => ∃ mc', zLd ζ t own h al ea af (min laid m) ta taped ra da mc' m A L ∧ zTb ζ t ta ra da tp ∧ zk (fun z => z = h ∨ z = al ∨ (z = ea ∧ ζ.1 ≤ z)) τ t 0 0) := by
  intro d
  induction d with
  | zero =>
    intro N kk mc τ hN hζ H T hk
    obtain ⟨k, rfl⟩ : ∃ j, kk = j + 1 := ⟨kk - 1, by omega⟩
    obtain rfl : N = m := by omega
    have hN60 := H.2.2.2.1.2
    rw [luX0_goesBack_1]
    simp only [H.1.ob, H.2.1.1.ob, dzb, dzc, dzl, fl0, fl1, fl2, fl3, fl4, fl5, fl6, fl7, fi0, fi1, fi2, fi3, fi4, fi5, fi6, fi7, fr0, fr1, fr2, fr3, fr4, fr5, fr6, fr7, fs0, fs1, fs2, fs3, fs4, fs5, fs6, fs7]
    refine zR_cl (Q := fun v t => v = nI N ∧ t = τ) (zR_eq (hj_size K ζ τ al ea mc _ H.2.1.1) ⟨by rw [xsA_len], rfl⟩ zge.rfl) ?_
    intro v t _ P
    obtain ⟨rfl, rfl⟩ := P
    refine zR_t (nI_le (Nat.le_refl _) (by omega)) ?_
    obtain ⟨t', e, g, H', k'⟩ := hx_changes (K := K) N (min laid N) (by omega) H (Nat.le_refl _) (Nat.min_le_right _ _)
    refine zR_b H.1.ob (zR_cl (Q := fun _ s => s = t') (zR_eq e rfl g) (fun _ s _ q => ?_))
    subst q
    exact zR_r ⟨mc, H', T.h k' H.2.2.2.2.2.1, k'.wk (fun _ _ e => Or.inl e)⟩
  | succ d ih =>
    intro N kk mc τ hN hζ H T hk
    obtain ⟨k, rfl⟩ : ∃ j, kk = j + 1 := ⟨kk - 1, by omega⟩
    obtain ⟨M, rfl⟩ : ∃ M, N = M + 1 := ⟨N - 1, by omega⟩
    obtain ⟨a1, a2, ⟨f, a3, a3'⟩, a4, a5, a6, a7⟩ := H
    rw [luX0_goesBack_1]
    simp only [a1.ob, a2.1.ob, dzb, dzc, dzl, fl0, fl1, fl2, fl3, fl4, fl5, fl6, fl7, fi0, fi1, fi2, fi3, fi4, fi5, fi6, fi7, fr0, fr1, fr2, fr3, fr4, fr5, fr6, fr7, fs0, fs1, fs2, fs3, fs4, fs5, fs6, fs7]
    refine zR_cl (Q := fun v t => v = nI (M + 1) ∧ t = τ) (zR_eq (hj_size K ζ τ al ea mc _ a2.1) ⟨by rw [xsA_len], rfl⟩ zge.rfl) ?_
    intro v t _ P
    obtain ⟨rfl, rfl⟩ := P
    refine zR_f (nI_ge (by omega) (by omega)) ?_
    simp only [a1.ob, a2.1.ob, dzb, dzc, dzl, fl0, fl1, fl2, fl3, fl4, fl5, fl6, fl7, fi0, fi1, fi2, fi3, fi4, fi5, fi6, fi7, fr0, fr1, fr2, fr3, fr4, fr5, fr6, fr7, fs0, fs1, fs2, fs3, fs4, fs5, fs6, fs7]
    refine zR_cl (Q := fun v t' => v = nI (M + 1) ∧ t' = t) (zR_eq (hj_size K ζ t al ea mc _ a2.1) ⟨by rw [xsA_len], rfl⟩ zge.rfl) ?_
    intro v t1 _ P
    obtain ⟨rfl, rfl⟩ := P
    simp only [a2.1.ob, dzb, dzc, dzl, fl0, fl1, fl2, fl3, fl4, fl5, fl6, fl7, fi0, fi1, fi2, fi3, fi4, fi5, fi6, fi7, fr0, fr1, fr2, fr3, fr4, fr5, fr6, fr7, fs0, fs1, fs2, fs3, fs4, fs5, fs6, fs7, nI_pred]
    obtain ⟨t2, e, g, e1, k2, z2⟩ := hj_remove K ζ t1 al ea mc (xsA (M + 1) A) a2 (by rw [xsA_len]; omega) (zxs a5) M (by rw [xsA_len]; omega) (by omega)
    refine zR_cl (Q := fun _ s => s = t2) (zR_eq e rfl g) (fun _ s _ q => ?_)
    subst q
    rw [xsA_p] at z2
    have H2 : zLq ζ s own h al ea af laid ta taped ra da (mc + 1) M A L (min laid m) := ⟨k2.in a1 (a6.nS a7 (by rw [a6.1]; decide) (by rw [a6.1]; decide)), z2, ⟨f, k2.in a3 (a6.nS a7 (by rw [a6.2.2.2.1]; decide) (by rw [a6.2.2.2.1]; decide)), a3'⟩, by omega, zLd.lines (fun j hj => a5 j (by omega)) k2 (a6.S10 a7), a6, a7⟩
    refine zR_imp (ih M k (mc + 1) s (by omega) (Nat.le_trans hζ g.1) H2 (T.l k2 a6 a7) (by omega)) (fun _ t _ P => ?_)
    obtain ⟨mc', p1, p2, p3⟩ := P
    exact ⟨mc', p1, p2, (k2.wk (fun _ _ e => Or.inr e)).tr p3⟩
theorem hx_goesBack {K : Nat} {ζ : pZ} {τ : pH} {own : Nat → Nat × Nat × Nat} {h al ea af laid ta taped ra da : Nat} {mc : Int32} {N : Nat} {A : Nat → lA} {L : Nat → sLn} {tp : Nat → Int32} (m : Nat) (hm : m ≤ N) (hζ : ζ.1 ≤ τ.1) (H : zLd ζ τ own h al ea af laid ta taped ra da mc N A L) (T : zTb ζ τ ta ra da tp) (hK : 2 ^ 50 ≤ K) :
    zR τ (fnX0_goesBack K ζ h (nI m) τ) (fun _ t => ∃ mc', zLd ζ t own h al ea af (min laid m) ta taped ra da mc' m A L ∧ zTb ζ t ta ra da tp ∧ zk (fun z => z = h ∨ z = al ∨ (z = ea ∧ ζ.1 ≤ z)) τ t 0 0) := by
  have := H.2.2.2.1.2
  exact hx_goesBackL m hK (N - m) N K mc τ (by omega) hζ (H.q _ (Nat.min_le_left _ _)) T (by omega)
