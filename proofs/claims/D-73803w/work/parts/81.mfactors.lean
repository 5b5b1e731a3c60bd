/-! the model's state, its factors -/
theorem beq_ne {a b : Nat} (h : a ≠ b) : Nat.beq a b = false := by
  cases e : Nat.beq a b with
  | false => rfl
  | true => exact absurd (Nat.eq_of_beq_eq_true e) h
theorem mF_eq {σ : pM} {k : Nat} {v : Int32} : (mF σ k v).1 k = v := by
  show (bif Nat.beq k k then v else σ.1 k) = v
  rw [Nat.beq_refl]; rfl
theorem mF_ne {σ : pM} {k j : Nat} {v : Int32} (h : j ≠ k) : (mF σ k v).1 j = σ.1 j := by
  show (bif Nat.beq j k then v else σ.1 j) = _
  rw [beq_ne h]; rfl
theorem mF_I {σ : pM} {k : Nat} {v : Int32} : (mF σ k v).2 = σ.2 := rfl
theorem mI_F {σ : pM} {a i : Nat} {v : Int32} : (mI σ a i v).1 = σ.1 := rfl
theorem mI_eq {σ : pM} {a i : Nat} {v : Int32} : (mI σ a i v).2.2.1 a i = v := by
  show (bif Nat.beq a a then upd (σ.2.2.1 a) i v else σ.2.2.1 a) i = v
  rw [Nat.beq_refl]; exact pk_us
theorem mI_i {σ : pM} {a i j : Nat} {v : Int32} (h : j ≠ i) : (mI σ a i v).2.2.1 a j = σ.2.2.1 a j := by
  show (bif Nat.beq a a then upd (σ.2.2.1 a) i v else σ.2.2.1 a) j = _
  rw [Nat.beq_refl]; exact pk_un h
theorem mI_a {σ : pM} {a b i : Nat} {v : Int32} (h : b ≠ a) : (mI σ a i v).2.2.1 b = σ.2.2.1 b := by
  show (bif Nat.beq b a then upd (σ.2.2.1 b) i v else σ.2.2.1 b) = _
  rw [beq_ne h]; rfl
/-- but for the factors all is the same -/
def mEqF (σ σ' : pM) : Prop := (∀ j, j ≠ 6 → σ'.1 j = σ.1 j) ∧ σ'.2.1 = σ.2.1 ∧ (∀ a, a ≠ 4 → a ≠ 5 → σ'.2.2.1 a = σ.2.2.1 a) ∧ σ'.2.2.2 = σ.2.2.2
theorem mEqF.rfl {σ : pM} : mEqF σ σ := ⟨fun _ _ => Eq.refl _, Eq.refl _, fun _ _ _ => Eq.refl _, Eq.refl _⟩
theorem mEqF.tr {σ σ1 σ2 : pM} (h : mEqF σ σ1) (h' : mEqF σ1 σ2) : mEqF σ σ2 :=
  ⟨fun j hj => (h'.1 j hj).trans (h.1 j hj), h'.2.1.trans h.2.1, fun a h4 h5 => (h'.2.2.1 a h4 h5).trans (h.2.2.1 a h4 h5), h'.2.2.2.trans h.2.2.2⟩
theorem mEqF_6 {σ : pM} {v : Int32} : mEqF σ (mF σ 6 v) := ⟨fun j hj => mF_ne hj, Eq.refl _, fun _ _ _ => Eq.refl _, Eq.refl _⟩
theorem mEqF_I {σ : pM} {a i : Nat} {v : Int32} (h : a = 4 ∨ a = 5) : mEqF σ (mI σ a i v) := ⟨fun _ _ => Eq.refl _, Eq.refl _, fun b h4 h5 => mI_a (by rcases h with rfl | rfl <;> assumption), Eq.refl _⟩
/-- the factors that are laid -/
def mFac (σ : pM) (fs : List (Nat × Nat)) : Prop := σ.1 6 = nI fs.length ∧ ∀ i (h : i < fs.length), σ.2.2.1 4 i = nI fs[i].1 ∧ σ.2.2.1 5 i = nI fs[i].2
theorem mFac_add {σ σ' : pM} {fs : List (Nat × Nat)} {x : Nat × Nat} (h : mFac σ fs) (h6 : σ'.1 6 = nI (fs.length + 1)) (h4 : ∀ i, i < fs.length → σ'.2.2.1 4 i = σ.2.2.1 4 i ∧ σ'.2.2.1 5 i = σ.2.2.1 5 i) (e4 : σ'.2.2.1 4 fs.length = nI x.1) (e5 : σ'.2.2.1 5 fs.length = nI x.2) : mFac σ' (fs ++ [x]) := by
  refine ⟨by rw [h6, List.length_append]; rfl, fun i hi => ?_⟩
  rw [List.length_append] at hi
  rcases Nat.lt_or_ge i fs.length with h3 | h3
  · rw [List.getElem_append_left h3, (h4 i h3).1, (h4 i h3).2]; exact h.2 i h3
  · have h5 : i = fs.length := by have : ([x] : List (Nat × Nat)).length = 1 := rfl; omega
    subst h5
    rw [List.getElem_append_right (Nat.le_refl _)]
    simp only [Nat.sub_self, List.getElem_singleton]
    exact ⟨e4, e5⟩
theorem hy_facStrip (K : Nat) (q : Nat) (hq : 2 ≤ q) (hq2 : q ≤ 46341) (σ0 : pM) (acc : List (Nat × Nat)) (hl9 : acc.length < 9) (Q : pM → Prop) : ∀ l, 0 < l → l < 2 ^ 31 → ∀ kk e σ, e + l < 2 ^ 31 → mEqF σ0 σ → mFac σ acc → σ.2.2.1 4 acc.length = nI q → σ.2.2.1 5 acc.length = nI e → l + 3 ≤ kk →
    (∀ k' σ', kk ≤ k' + l + 1 → mEqF σ0 σ' → mFac σ' (acc ++ [(q, (fC q l l e).2)]) → ∃ s, (lfX1_laysFactors K k').2.2 (lN (fC q l l e).1) (lN q) σ' = some s ∧ Q s) → ∃ s, (lfX1_laysFactors K kk).2.1 (lN l) (lN q) σ = some s ∧ Q s := by
  intro l
  induction l using Nat.strongRecOn with
  | ind l ih =>
    intro h0 hl kk e σ he hE hF h4 h5 hk cont
    obtain ⟨k, rfl⟩ : ∃ j, kk = j + 1 := ⟨kk - 1, by omega⟩
    have hz := pz_nz (m := q) (by omega) (by omega)
    rw [luX1_laysFactors_2, if_pos hz, pk_lRem (by omega) (by omega) (by omega), dzl]
    obtain ⟨w, rfl⟩ : ∃ j, l = j + 1 := ⟨l - 1, by omega⟩
    have hm : (w + 1) % q < q := Nat.mod_lt _ (by omega)
    by_cases hd : (w + 1) % q = 0
    · have h1 := dl_lt h0 hq
      have h2 := dl_pos h0 hq hd
      have hf : fC q (w + 1) (w + 1) e = fC q ((w + 1) / q) ((w + 1) / q) (e + 1) := by
        rw [fC_s, if_pos hd]; exact fC_k q hq _ h2 _ _ _ (by omega) (by omega)
      rw [hf] at cont
      rw [if_pos ((lN0 (by omega)).mpr hd), if_pos hz, pk_lDiv (by omega) (by omega) (by omega), dzl, hF.1, dzl, if_pos (nI_in (by omega) (by omega)), nI_clamp (by omega), h5, dzl, nI_1, dzl, if_pos (show ¬ (nI acc.length < 0 ∨ 12 ≤ acc.length) from fun q => q.elim (nI_pos (by omega)) (by omega)), dzl]
      refine ih ((w + 1) / q) h1 h2 (by omega) k (e + 1) _ (by omega) (hE.tr (mEqF_I (Or.inr rfl))) ?_ ?_ mI_eq (by omega) (fun k' σ' a b c => cont k' σ' (by omega) b c)
      · exact ⟨hF.1, fun i hi => ⟨by rw [mI_a (by decide)]; exact (hF.2 i hi).1, by rw [mI_i (by omega)]; exact (hF.2 i hi).2⟩⟩
      · rw [mI_a (by decide)]; exact h4
    · have hf : fC q (w + 1) (w + 1) e = (w + 1, e) := by rw [fC_s, if_neg hd]
      rw [hf] at cont
      rw [if_neg (fun x => hd ((lN0 (by omega)).mp x)), hF.1, dzl, nI_1, dzl, dzl]
      exact cont k _ (by omega) (hE.tr mEqF_6) (mFac_add hF mF_eq (fun i _ => ⟨rfl, rfl⟩) h4 h5)
theorem hy_facLoop (K : Nat) (σ0 : pM) : ∀ k q l kk σ acc, 2 ≤ q → 0 < l → l < 2 ^ 31 → 1 ≤ k → q + k = 46343 → mEqF σ0 σ → mFac σ acc → (acc ++ fL k q l).length ≤ 9 → k * 8589934592 + 10 ≤ kk →
    ∃ σ', (lfX1_laysFactors K kk).1 (lN l) (lN q) σ = some σ' ∧ mEqF σ0 σ' ∧ mFac σ' (acc ++ fL k q l) := by
  intro k
  induction k with
  | zero => intro q l kk s acc _ _ _ h1; exact absurd h1 (by omega)
  | succ k ih =>
    intro q l kk σ acc h2 h0 hl _ hq hE hF hlen hk
    obtain ⟨kk, rfl⟩ : ∃ j, kk = j + 1 := ⟨kk - 1, by omega⟩
    have hqq : q * q < 2 ^ 63 := by
      have := Nat.mul_le_mul (show q ≤ 46343 by omega) (show q ≤ 46343 by omega); omega
    rw [luX1_laysFactors_1, lN_mul]
    rw [fL_s] at hlen ⊢
    by_cases h : l < q * q
    · rw [if_pos h] at hlen ⊢
      rw [if_pos ((pk_lLT (by omega) hqq).mpr h)]
      by_cases h1 : l ≤ 1
      · rw [if_pos h1, List.append_nil, if_neg (fun x => by have := (pk_lLE (a := 2) (by omega) (by omega)).mp x; omega)]
        exact ⟨σ, rfl, hE, hF⟩
      · rw [if_neg h1] at hlen ⊢
        rw [List.length_append] at hlen
        have hl9 : acc.length < 9 := hlen
        rw [if_pos (show (2 : Int64) ≤ lN l from (pk_lLE (a := 2) (by omega) (by omega)).mpr (by omega)), hF.1, dzl, lN_i, dzl, if_pos (nI_in (by omega) (by omega)), nI_clamp (by omega), dzl]
        rw [show (mI σ 4 acc.length (nI l)).1 6 = nI acc.length from hF.1, dzl, if_pos (nI_in (by omega) (by omega)), nI_clamp (by omega), dzl]
        rw [show (mI (mI σ 4 acc.length (nI l)) 5 acc.length 1).1 6 = nI acc.length from hF.1, dzl, nI_1, dzl, dzl]
        refine ⟨_, rfl, hE.tr ((mEqF_I (Or.inl rfl)).tr ((mEqF_I (Or.inr rfl)).tr mEqF_6)), ?_⟩
        refine mFac_add (x := (l, 1)) hF mF_eq (fun i hi => ⟨?_, ?_⟩) ?_ ?_
        · show (mI (mI σ 4 acc.length (nI l)) 5 acc.length 1).2.2.1 4 i = _
          rw [mI_a (by decide), mI_i (by omega)]
        · show (mI (mI σ 4 acc.length (nI l)) 5 acc.length 1).2.2.1 5 i = _
          rw [mI_i (by omega), mI_a (by decide)]
        · show (mI (mI σ 4 acc.length (nI l)) 5 acc.length 1).2.2.1 4 acc.length = _
          rw [mI_a (by decide), mI_eq]
        · show (mI (mI σ 4 acc.length (nI l)) 5 acc.length 1).2.2.1 5 acc.length = _
          rw [mI_eq]; rfl
    · rw [if_neg h] at hlen ⊢
      have hq4 := nq_sq (q := q) (n := l) (by omega) hl
      rw [if_neg (fun x => h ((pk_lLT (by omega) hqq).mp x)), if_pos (pz_nz (by omega) (by omega)), pk_lRem (by omega) (by omega) (by omega), dzl]
      have hmq : l % q < q := Nat.mod_lt _ (by omega)
      obtain ⟨w1, w2, w3, w4, w5⟩ := fC_w q h2 l h0 l 0 (Nat.le_refl _)
      by_cases hd : l % q = 0
      · have he : (fC q l l 0).2 ≠ 0 := by
          intro e0
          rw [e0, Nat.sub_self, Nat.pow_zero, Nat.mul_one] at w4
          rw [w4] at w2
          exact w2 hd
        rw [if_neg he] at hlen ⊢
        rw [← List.append_assoc] at hlen ⊢
        have hl9 : acc.length < 9 := by rw [List.length_append, List.length_append] at hlen; have : ([(q, (fC q l l 0).2)] : List (Nat × Nat)).length = 1 := rfl; omega
        rw [if_pos ((lN0 (by omega)).mpr hd), hF.1, dzl, lN_i, dzl, if_pos (nI_in (by omega) (by omega)), nI_clamp (by omega), dzl]
        rw [show (mI σ 4 acc.length (nI q)).1 6 = nI acc.length from hF.1, dzl, if_pos (nI_in (by omega) (by omega)), nI_clamp (by omega), dzl]
        obtain ⟨σ', z1, z2, z3⟩ : ∃ σ', (lfX1_laysFactors K kk).2.1 (lN l) (lN q) (mI (mI σ 4 acc.length (nI q)) 5 acc.length 0) = some σ' ∧ mEqF σ0 σ' ∧ mFac σ' ((acc ++ [(q, (fC q l l 0).2)]) ++ fL k (q + 1) (fC q l l 0).1) := by
          have hF1 : mFac (mI (mI σ 4 acc.length (nI q)) 5 acc.length 0) acc := ⟨hF.1, fun i hi => ⟨by rw [mI_a (by decide), mI_i (by omega)]; exact (hF.2 i hi).1, by rw [mI_i (by omega), mI_a (by decide)]; exact (hF.2 i hi).2⟩⟩
          have hE1 : mEqF σ0 (mI (mI σ 4 acc.length (nI q)) 5 acc.length 0) := hE.tr ((mEqF_I (Or.inl rfl)).tr (mEqF_I (Or.inr rfl)))
          have b4 : (mI (mI σ 4 acc.length (nI q)) 5 acc.length 0).2.2.1 4 acc.length = nI q := by rw [mI_a (by decide), mI_eq]
          have key : ∀ k' s', kk ≤ k' + l + 1 → mEqF σ0 s' → mFac s' (acc ++ [(q, (fC q l l 0).2)]) → ∃ σ', (lfX1_laysFactors K k').2.2 (lN (fC q l l 0).1) (lN q) s' = some σ' ∧ mEqF σ0 σ' ∧ mFac σ' ((acc ++ [(q, (fC q l l 0).2)]) ++ fL k (q + 1) (fC q l l 0).1) := by
            intro k' s' a b c
            obtain ⟨k', rfl⟩ : ∃ j, k' = j + 1 := ⟨k' - 1, by omega⟩
            rw [luX1_laysFactors_3, dzl, lN_1]
            exact ih (q + 1) _ k' s' _ (by omega) w1 (by omega) (by omega) (by omega) b c hlen (fu_l hk a hl)
          exact hy_facStrip K q h2 (by omega) σ0 acc hl9 _ l h0 hl kk 0 _ (by omega) hE1 hF1 b4 mI_eq (by omega) key
        exact ⟨σ', z1, z2, z3⟩
      · have he : (fC q l l 0).2 = 0 ∧ (fC q l l 0).1 = l := by
          obtain ⟨w, rfl⟩ : ∃ j, l = j + 1 := ⟨l - 1, by omega⟩
          rw [fC_s, if_neg hd]; exact ⟨rfl, rfl⟩
        rw [if_pos he.1, List.nil_append, he.2] at hlen ⊢
        rw [if_neg (fun x => hd ((lN0 (by omega)).mp x))]
        obtain ⟨kk, rfl⟩ : ∃ j, kk = j + 1 := ⟨kk - 1, by omega⟩
        rw [luX1_laysFactors_3, dzl, lN_1]
        exact ih (q + 1) l kk σ acc (by omega) h0 hl (by omega) (by omega) hE hF hlen (fu_l (l := l) hk (by omega) hl)
theorem hy_laysFactors (K : Nat) (σ : pM) (n : Nat) (h0 : 0 < n) (hn : n < 2 ^ 31) (hl : (sfac n).length ≤ 9) (hK : 2 ^ 50 ≤ K) : ∃ σ', fnX1_laysFactors K (lN n) σ = some σ' ∧ mEqF σ σ' ∧ mFac σ' (sfac n) := by
  unfold fnX1_laysFactors
  rw [dzl]
  exact hy_facLoop K σ 46341 2 n K _ [] (by omega) h0 hn (by omega) (by omega) mEqF_6 ⟨mF_eq, fun i h => absurd h (Nat.not_lt_zero _)⟩ hl (by omega)
