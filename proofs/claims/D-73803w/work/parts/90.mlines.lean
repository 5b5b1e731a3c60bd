/-! the model's lines -/
def mRw (σ : pM) (a b : Nat) (at_ : Nat) (rs : List sR) : Prop := ∀ i (h : i < rs.length), σ.2.2.1 a (at_ + i) = nI rs[i].1 ∧ σ.2.2.1 b (at_ + i) = nI rs[i].2.1
def mBs (σ : pM) (at_ : Nat) (rs : List sR) : Prop := ∀ i (h : i < rs.length), σ.2.2.1 16 (at_ + i) = nI rs[i].2.2
/-- line k of the model -/
def mLn (σ : pM) (k s n p q : Nat) (dn up : List sR) : Prop := (σ.2.2.1 8 k = nI n ∧ σ.2.2.1 9 k = nI s ∧ σ.2.2.1 10 k = nI p ∧ σ.2.2.1 11 k = nI q) ∧ (σ.2.2.1 12 k = nI dn.length ∧ σ.2.2.1 13 k = nI up.length) ∧ mRw σ 14 15 (9 * k) dn ∧ mBs σ (9 * k) dn ∧ mRw σ 17 18 (9 * k) up
/-- numbers as they may be -/
def sLok (s n p q : Nat) (dn up : List sR) : Prop := s ≤ 4 ∧ (2 ≤ n ∧ n ≤ 1000000000) ∧ (p ≤ 99 ∧ q ≤ 99) ∧ (dn.length ≤ 9 ∧ up.length ≤ 9) ∧ (∀ r ∈ dn, sRok r) ∧ (∀ r ∈ up, sRok r)
theorem mLn.j {σ σ' : pM} {k s n p q : Nat} {dn up : List sR} (h : mLn σ k s n p q dn up) (e : σ'.2.2.1 = σ.2.2.1) : mLn σ' k s n p q dn up := by
  unfold mLn mRw mBs at *
  rw [e]
  exact h
theorem nI9 (k : Nat) : (9 : Int32) * nI k = nI (9 * k) := nIm 9 k
theorem min_div {all q : Nat} (hq : 1 ≤ q) : (4000000000 / q < all → min 4000000000 (all * q) = 4000000000) ∧ (¬ 4000000000 / q < all → min 4000000000 (all * q) = all * q) := by
  have h1 := Nat.div_add_mod 4000000000 q
  have h2 := Nat.mod_lt 4000000000 (show 0 < q by omega)
  constructor
  · intro h
    have : (4000000000 / q + 1) * q ≤ all * q := Nat.mul_le_mul_right _ h
    rw [Nat.add_mul, Nat.one_mul, Nat.mul_comm] at this
    exact Nat.min_eq_left (by omega)
  · intro h
    have : all * q ≤ 4000000000 / q * q := Nat.mul_le_mul_right _ (by omega)
    rw [Nat.mul_comm (4000000000 / q)] at this
    exact Nat.min_eq_right (by omega)
theorem ny_prodIn_14 (K : Nat) (σ : pM) (fr sz i q e : Nat) (hi : i < 1044) (hq : 1 ≤ q ∧ q ≤ 1000000001) (he : e ≤ 30) (h1 : σ.2.2.1 14 i = nI q) (h2 : σ.2.2.1 15 i = nI e) : ∀ j kk all, all ≤ 4000000000 → j ≤ e → j + 2 ≤ kk → ∃ k', kk ≤ k' + j + 1 ∧ (lfX1_product_14_15 K kk).2 (nI fr) (nI sz) (lN all) (nI i) (nI (e - j)) σ = (lfX1_product_14_15 K k').1 (nI fr) (nI sz) (lN (sPw q j all)) (nI (i + 1)) σ := by
  intro j
  induction j with
  | zero =>
    intro kk all _ _ hk
    obtain ⟨k, rfl⟩ : ∃ i, kk = i + 1 := ⟨kk - 1, by omega⟩
    refine ⟨k, by omega, ?_⟩
    rw [luX1_product_14_15_2, if_pos (nI_in hi (by omega)), nI_clamp (by omega), h2, dzl, if_pos (nI_le (by omega) (by omega)), dzl, nI_1]
    rfl
  | succ j ih =>
    intro kk all ha hj hk
    obtain ⟨k, rfl⟩ : ∃ i, kk = i + 1 := ⟨kk - 1, by omega⟩
    have hm : all * q ≤ 4000000000 * 1000000001 := Nat.mul_le_mul ha hq.2
    have hd : 4000000000 / q ≤ 4000000000 := Nat.div_le_self _ _
    obtain ⟨m1, m2⟩ := min_div (all := all) hq.1
    rw [luX1_product_14_15_2, if_pos (nI_in hi (by omega)), nI_clamp (by omega), h2, dzl, if_neg (nI_ge (by omega) (by omega)), if_pos (show ¬ (nI i < 0 ∨ 1044 ≤ i) from fun q => q.elim (nI_pos (by omega)) (by omega)), h1, dzl, nI_l (by omega), dzl, if_pos (pz_nz hq.1 (by omega)), show (4000000000 : Int64) = lN 4000000000 from rfl, pk_lDiv (by omega) hq.1 (by omega), dzl]
    by_cases hc : 4000000000 / q < all
    · rw [if_neg (fun x => by have := (pk_lLE (by omega) (by omega)).mp x; omega), dzl, nI_1, show e - (j + 1) + 1 = e - j by omega]
      obtain ⟨k', g1, g2⟩ := ih k 4000000000 (Nat.le_refl _) (by omega) (by omega)
      refine ⟨k', by omega, ?_⟩
      rw [g2, sPw_s, m1 hc]
    · rw [if_pos ((pk_lLE (by omega) (by omega)).mpr (by omega)), if_pos (show ¬ (nI i < 0 ∨ 1044 ≤ i) from fun q => q.elim (nI_pos (by omega)) (by omega)), dzl, nI_l (by omega), lN_mul, dzl, nI_1, dzl, show e - (j + 1) + 1 = e - j by omega]
      have hle : all * q ≤ 4000000000 := by rw [← m2 hc]; exact Nat.min_le_left _ _
      obtain ⟨k', g1, g2⟩ := ih k (all * q) hle (by omega) (by omega)
      refine ⟨k', by omega, ?_⟩
      rw [g2, sPw_s, m2 hc]
theorem ny_prodLoop_14 (K : Nat) (σ : pM) (fr : Nat) (rs : List sR) (hok : ∀ r ∈ rs, sRok r) (hf : fr + rs.length ≤ 1044) (hr : mRw σ 14 15 fr rs) : ∀ m i kk all, i + m = rs.length → all ≤ 4000000000 → m * 40 + 2 ≤ kk → (lfX1_product_14_15 K kk).1 (nI fr) (nI rs.length) (lN all) (nI (fr + i)) σ = some (lN (sProdF all (rs.drop i)), σ) := by
  intro m
  induction m with
  | zero =>
    intro i kk all hi _ hk
    obtain ⟨k, rfl⟩ : ∃ i, kk = i + 1 := ⟨kk - 1, by omega⟩
    rw [luX1_product_14_15_1, nI_add, if_pos (nI_le (by omega) (by omega)), List.drop_eq_nil_of_le (by omega)]
    rfl
  | succ m ih =>
    intro i kk all hi ha hk
    obtain ⟨k, rfl⟩ : ∃ i, kk = i + 1 := ⟨kk - 1, by omega⟩
    have hil : i < rs.length := by omega
    have ok := hok _ (List.getElem_mem hil)
    obtain ⟨q1, q2⟩ := hr i hil
    rw [luX1_product_14_15_1, nI_add, if_neg (nI_ge (by omega) (by omega)), show (0 : Int32) = nI 0 from rfl]
    obtain ⟨k', g1, g2⟩ := ny_prodIn_14 K σ fr rs.length (fr + i) rs[i].1 rs[i].2.1 (by omega) (by have := ok.1; omega) ok.2.1.2 q1 q2 rs[i].2.1 k all ha (Nat.le_refl _) (by have := ok.2.1.2; omega)
    rw [Nat.sub_self] at g2
    rw [g2, show fr + i + 1 = fr + (i + 1) by omega, ih (i + 1) k' _ (by omega) (sPw_le _ _ _ ha) (by have := ok.2.1.2; omega), List.drop_eq_getElem_cons hil]
    rfl
theorem ny_product_14 (K : Nat) (σ : pM) (fr : Nat) (rs : List sR) (hok : ∀ r ∈ rs, sRok r) (hl : rs.length ≤ 9) (hf : fr + rs.length ≤ 1044) (hr : mRw σ 14 15 fr rs) (hK : 1000 ≤ K) : fnX1_product_14_15 K (nI fr) (nI rs.length) σ = some (lN (sProd rs), σ) := by
  have := ny_prodLoop_14 K σ fr rs hok hf hr rs.length 0 K 1 (by omega) (by omega) (by omega)
  exact this
theorem ny_twIn_14 (K : Nat) (σ : pM) (fr : Nat) (rs : List sR) (hok : ∀ r ∈ rs, sRok r) (hf : fr + rs.length ≤ 1044) (hr : mRw σ 14 15 fr rs) (i : Nat) (hi : i < rs.length) : ∀ m j kk, j + m = i → m + 1 ≤ kk → (∃ k', kk ≤ k' + m + 1 ∧ (∀ t (h1 : t < rs.length), j ≤ t → t < i → rs[t].1 ≠ rs[i].1) ∧ (lfX1_areTwice_14 K kk).2 (nI fr) (nI rs.length) (nI (fr + i)) (nI (fr + j)) σ = (lfX1_areTwice_14 K k').1 (nI fr) (nI rs.length) (nI (fr + (i + 1))) σ) ∨ ((lfX1_areTwice_14 K kk).2 (nI fr) (nI rs.length) (nI (fr + i)) (nI (fr + j)) σ = some (1, σ) ∧ ∃ t, ∃ (h1 : t < rs.length), t < i ∧ rs[t].1 = rs[i].1) := by
  intro m
  induction m with
  | zero =>
    intro j kk hj hk
    obtain ⟨k, rfl⟩ : ∃ q, kk = q + 1 := ⟨kk - 1, by omega⟩
    refine Or.inl ⟨k, by omega, fun t _ h1 h2 => by omega, ?_⟩
    rw [luX1_areTwice_14_2, if_pos (nI_le (by omega) (by omega)), dzl, nI_1]
    rfl
  | succ m ih =>
    intro j kk hj hk
    obtain ⟨k, rfl⟩ : ∃ q, kk = q + 1 := ⟨kk - 1, by omega⟩
    have o1 := hok _ (List.getElem_mem hi)
    have o2 := hok _ (List.getElem_mem (show j < rs.length by omega))
    rw [luX1_areTwice_14_2, if_neg (nI_ge (by omega) (by omega)), if_pos (nI_in (by omega) (by omega)), nI_clamp (by omega), (hr i hi).1, dzl, if_pos (nI_in (by omega) (by omega)), nI_clamp (by omega), (hr j (by omega)).1, dzl]
    by_cases he : rs[i].1 = rs[j].1
    · rw [if_pos (by rw [he])]
      exact Or.inr ⟨rfl, j, by omega, by omega, he.symm⟩
    · rw [if_neg (fun e => he ((nI_eq (by have := o1.1.2; omega) (by have := o2.1.2; omega)).mp e)), dzl, nI_1]
      rcases ih (j + 1) k (by omega) (by omega) with ⟨k', g1, g2, g3⟩ | g
      · refine Or.inl ⟨k', by omega, fun t h1 h3 h4 => ?_, g3⟩
        rcases Nat.eq_or_lt_of_le h3 with h5 | h5
        · subst h5; exact fun e => he e.symm
        · exact g2 t h1 h5 h4
      · exact Or.inr g
theorem ny_twLoop_14 (K : Nat) (σ : pM) (fr : Nat) (rs : List sR) (hok : ∀ r ∈ rs, sRok r) (hl : rs.length ≤ 9) (hf : fr + rs.length ≤ 1044) (hr : mRw σ 14 15 fr rs) : ∀ m i kk, i + m = rs.length → m * 20 + 2 ≤ kk → (∀ t j (h1 : t < rs.length) (h2 : j < rs.length), t < j → j < i → rs[t].1 ≠ rs[j].1) → ((lfX1_areTwice_14 K kk).1 (nI fr) (nI rs.length) (nI (fr + i)) σ = some (0, σ) ∧ ∀ t j (h1 : t < rs.length) (h2 : j < rs.length), t < j → rs[t].1 ≠ rs[j].1) ∨ ((lfX1_areTwice_14 K kk).1 (nI fr) (nI rs.length) (nI (fr + i)) σ = some (1, σ) ∧ ∃ t j, ∃ (h1 : t < rs.length) (h2 : j < rs.length), t < j ∧ rs[t].1 = rs[j].1) := by
  intro m
  induction m with
  | zero =>
    intro i kk hi hk hd
    obtain ⟨k, rfl⟩ : ∃ q, kk = q + 1 := ⟨kk - 1, by omega⟩
    rw [luX1_areTwice_14_1, nI_add, if_pos (nI_le (by omega) (by omega))]
    exact Or.inl ⟨rfl, fun t j h1 h2 h3 => hd t j h1 h2 h3 (by omega)⟩
  | succ m ih =>
    intro i kk hi hk hd
    obtain ⟨k, rfl⟩ : ∃ q, kk = q + 1 := ⟨kk - 1, by omega⟩
    rw [luX1_areTwice_14_1, nI_add, if_neg (nI_ge (by omega) (by omega))]
    have hii : i < rs.length := by omega
    rcases ny_twIn_14 K σ fr rs hok hf hr i hii i 0 k (by omega) (by omega) with ⟨k', g1, g2, g3⟩ | ⟨g1, t, h1, g2, g3⟩
    · rw [Nat.add_zero] at g3
      rw [g3]
      refine ih (i + 1) k' (by omega) (by omega) (fun t j h1 h2 h3 h4 => ?_)
      rcases Nat.lt_or_ge j i with h5 | h5
      · exact hd t j h1 h2 h3 h5
      · have : j = i := by omega
        subst this
        exact g2 t h1 (by omega) h3
    · rw [Nat.add_zero] at g1
      rw [g1]
      exact Or.inr ⟨rfl, t, i, h1, hii, g2, g3⟩
theorem ny_areTwice_14 (K : Nat) (σ : pM) (fr : Nat) (rs : List sR) (hok : ∀ r ∈ rs, sRok r) (hl : rs.length ≤ 9) (hf : fr + rs.length ≤ 1044) (hr : mRw σ 14 15 fr rs) (hK : 1000 ≤ K) : fnX1_areTwice_14 K (nI fr) (nI rs.length) σ = some (nb (sTw rs), σ) := by
  rcases ny_twLoop_14 K σ fr rs hok hl hf hr rs.length 0 K (by omega) (by omega) (fun t j _ _ _ h => by omega) with ⟨g1, g2⟩ | ⟨g1, t, j, h1, h2, g2, g3⟩
  · rw [show sTw rs = false from decide_eq_false (fun q => q ((nodup_iff rs).mpr g2))]; exact g1
  · rw [show sTw rs = true from decide_eq_true (fun q => (nodup_iff rs).mp q t j h1 h2 g2 g3)]; exact g1
theorem ny_prodIn_17 (K : Nat) (σ : pM) (fr sz i q e : Nat) (hi : i < 1044) (hq : 1 ≤ q ∧ q ≤ 1000000001) (he : e ≤ 30) (h1 : σ.2.2.1 17 i = nI q) (h2 : σ.2.2.1 18 i = nI e) : ∀ j kk all, all ≤ 4000000000 → j ≤ e → j + 2 ≤ kk → ∃ k', kk ≤ k' + j + 1 ∧ (lfX1_product_17_18 K kk).2 (nI fr) (nI sz) (lN all) (nI i) (nI (e - j)) σ = (lfX1_product_17_18 K k').1 (nI fr) (nI sz) (lN (sPw q j all)) (nI (i + 1)) σ := by
  intro j
  induction j with
  | zero =>
    intro kk all _ _ hk
    obtain ⟨k, rfl⟩ : ∃ i, kk = i + 1 := ⟨kk - 1, by omega⟩
    refine ⟨k, by omega, ?_⟩
    rw [luX1_product_17_18_2, if_pos (nI_in hi (by omega)), nI_clamp (by omega), h2, dzl, if_pos (nI_le (by omega) (by omega)), dzl, nI_1]
    rfl
  | succ j ih =>
    intro kk all ha hj hk
    obtain ⟨k, rfl⟩ : ∃ i, kk = i + 1 := ⟨kk - 1, by omega⟩
    have hm : all * q ≤ 4000000000 * 1000000001 := Nat.mul_le_mul ha hq.2
    have hd : 4000000000 / q ≤ 4000000000 := Nat.div_le_self _ _
    obtain ⟨m1, m2⟩ := min_div (all := all) hq.1
    rw [luX1_product_17_18_2, if_pos (nI_in hi (by omega)), nI_clamp (by omega), h2, dzl, if_neg (nI_ge (by omega) (by omega)), if_pos (show ¬ (nI i < 0 ∨ 1044 ≤ i) from fun q => q.elim (nI_pos (by omega)) (by omega)), h1, dzl, nI_l (by omega), dzl, if_pos (pz_nz hq.1 (by omega)), show (4000000000 : Int64) = lN 4000000000 from rfl, pk_lDiv (by omega) hq.1 (by omega), dzl]
    by_cases hc : 4000000000 / q < all
    · rw [if_neg (fun x => by have := (pk_lLE (by omega) (by omega)).mp x; omega), dzl, nI_1, show e - (j + 1) + 1 = e - j by omega]
      obtain ⟨k', g1, g2⟩ := ih k 4000000000 (Nat.le_refl _) (by omega) (by omega)
      refine ⟨k', by omega, ?_⟩
      rw [g2, sPw_s, m1 hc]
    · rw [if_pos ((pk_lLE (by omega) (by omega)).mpr (by omega)), if_pos (show ¬ (nI i < 0 ∨ 1044 ≤ i) from fun q => q.elim (nI_pos (by omega)) (by omega)), dzl, nI_l (by omega), lN_mul, dzl, nI_1, dzl, show e - (j + 1) + 1 = e - j by omega]
      have hle : all * q ≤ 4000000000 := by rw [← m2 hc]; exact Nat.min_le_left _ _
      obtain ⟨k', g1, g2⟩ := ih k (all * q) hle (by omega) (by omega)
      refine ⟨k', by omega, ?_⟩
      rw [g2, sPw_s, m2 hc]
theorem ny_prodLoop_17 (K : Nat) (σ : pM) (fr : Nat) (rs : List sR) (hok : ∀ r ∈ rs, sRok r) (hf : fr + rs.length ≤ 1044) (hr : mRw σ 17 18 fr rs) : ∀ m i kk all, i + m = rs.length → all ≤ 4000000000 → m * 40 + 2 ≤ kk → (lfX1_product_17_18 K kk).1 (nI fr) (nI rs.length) (lN all) (nI (fr + i)) σ = some (lN (sProdF all (rs.drop i)), σ) := by
  intro m
  induction m with
  | zero =>
    intro i kk all hi _ hk
    obtain ⟨k, rfl⟩ : ∃ i, kk = i + 1 := ⟨kk - 1, by omega⟩
    rw [luX1_product_17_18_1, nI_add, if_pos (nI_le (by omega) (by omega)), List.drop_eq_nil_of_le (by omega)]
    rfl
  | succ m ih =>
    intro i kk all hi ha hk
    obtain ⟨k, rfl⟩ : ∃ i, kk = i + 1 := ⟨kk - 1, by omega⟩
    have hil : i < rs.length := by omega
    have ok := hok _ (List.getElem_mem hil)
    obtain ⟨q1, q2⟩ := hr i hil
    rw [luX1_product_17_18_1, nI_add, if_neg (nI_ge (by omega) (by omega)), show (0 : Int32) = nI 0 from rfl]
    obtain ⟨k', g1, g2⟩ := ny_prodIn_17 K σ fr rs.length (fr + i) rs[i].1 rs[i].2.1 (by omega) (by have := ok.1; omega) ok.2.1.2 q1 q2 rs[i].2.1 k all ha (Nat.le_refl _) (by have := ok.2.1.2; omega)
    rw [Nat.sub_self] at g2
    rw [g2, show fr + i + 1 = fr + (i + 1) by omega, ih (i + 1) k' _ (by omega) (sPw_le _ _ _ ha) (by have := ok.2.1.2; omega), List.drop_eq_getElem_cons hil]
    rfl
theorem ny_product_17 (K : Nat) (σ : pM) (fr : Nat) (rs : List sR) (hok : ∀ r ∈ rs, sRok r) (hl : rs.length ≤ 9) (hf : fr + rs.length ≤ 1044) (hr : mRw σ 17 18 fr rs) (hK : 1000 ≤ K) : fnX1_product_17_18 K (nI fr) (nI rs.length) σ = some (lN (sProd rs), σ) := by
  have := ny_prodLoop_17 K σ fr rs hok hf hr rs.length 0 K 1 (by omega) (by omega) (by omega)
  exact this
theorem ny_twIn_17 (K : Nat) (σ : pM) (fr : Nat) (rs : List sR) (hok : ∀ r ∈ rs, sRok r) (hf : fr + rs.length ≤ 1044) (hr : mRw σ 17 18 fr rs) (i : Nat) (hi : i < rs.length) : ∀ m j kk, j + m = i → m + 1 ≤ kk → (∃ k', kk ≤ k' + m + 1 ∧ (∀ t (h1 : t < rs.length), j ≤ t → t < i → rs[t].1 ≠ rs[i].1) ∧ (lfX1_areTwice_17 K kk).2 (nI fr) (nI rs.length) (nI (fr + i)) (nI (fr + j)) σ = (lfX1_areTwice_17 K k').1 (nI fr) (nI rs.length) (nI (fr + (i + 1))) σ) ∨ ((lfX1_areTwice_17 K kk).2 (nI fr) (nI rs.length) (nI (fr + i)) (nI (fr + j)) σ = some (1, σ) ∧ ∃ t, ∃ (h1 : t < rs.length), t < i ∧ rs[t].1 = rs[i].1) := by
  intro m
  induction m with
  | zero =>
    intro j kk hj hk
    obtain ⟨k, rfl⟩ : ∃ q, kk = q + 1 := ⟨kk - 1, by omega⟩
    refine Or.inl ⟨k, by omega, fun t _ h1 h2 => by omega, ?_⟩
    rw [luX1_areTwice_17_2, if_pos (nI_le (by omega) (by omega)), dzl, nI_1]
    rfl
  | succ m ih =>
    intro j kk hj hk
    obtain ⟨k, rfl⟩ : ∃ q, kk = q + 1 := ⟨kk - 1, by omega⟩
    have o1 := hok _ (List.getElem_mem hi)
    have o2 := hok _ (List.getElem_mem (show j < rs.length by omega))
    rw [luX1_areTwice_17_2, if_neg (nI_ge (by omega) (by omega)), if_pos (nI_in (by omega) (by omega)), nI_clamp (by omega), (hr i hi).1, dzl, if_pos (nI_in (by omega) (by omega)), nI_clamp (by omega), (hr j (by omega)).1, dzl]
    by_cases he : rs[i].1 = rs[j].1
    · rw [if_pos (by rw [he])]
      exact Or.inr ⟨rfl, j, by omega, by omega, he.symm⟩
    · rw [if_neg (fun e => he ((nI_eq (by have := o1.1.2; omega) (by have := o2.1.2; omega)).mp e)), dzl, nI_1]
      rcases ih (j + 1) k (by omega) (by omega) with ⟨k', g1, g2, g3⟩ | g
      · refine Or.inl ⟨k', by omega, fun t h1 h3 h4 => ?_, g3⟩
        rcases Nat.eq_or_lt_of_le h3 with h5 | h5
        · subst h5; exact fun e => he e.symm
        · exact g2 t h1 h5 h4
      · exact Or.inr g
theorem ny_twLoop_17 (K : Nat) (σ : pM) (fr : Nat) (rs : List sR) (hok : ∀ r ∈ rs, sRok r) (hl : rs.length ≤ 9) (hf : fr + rs.length ≤ 1044) (hr : mRw σ 17 18 fr rs) : ∀ m i kk, i + m = rs.length → m * 20 + 2 ≤ kk → (∀ t j (h1 : t < rs.length) (h2 : j < rs.length), t < j → j < i → rs[t].1 ≠ rs[j].1) → ((lfX1_areTwice_17 K kk).1 (nI fr) (nI rs.length) (nI (fr + i)) σ = some (0, σ) ∧ ∀ t j (h1 : t < rs.length) (h2 : j < rs.length), t < j → rs[t].1 ≠ rs[j].1) ∨ ((lfX1_areTwice_17 K kk).1 (nI fr) (nI rs.length) (nI (fr + i)) σ = some (1, σ) ∧ ∃ t j, ∃ (h1 : t < rs.length) (h2 : j < rs.length), t < j ∧ rs[t].1 = rs[j].1) := by
  intro m
  induction m with
  | zero =>
    intro i kk hi hk hd
    obtain ⟨k, rfl⟩ : ∃ q, kk = q + 1 := ⟨kk - 1, by omega⟩
    rw [luX1_areTwice_17_1, nI_add, if_pos (nI_le (by omega) (by omega))]
    exact Or.inl ⟨rfl, fun t j h1 h2 h3 => hd t j h1 h2 h3 (by omega)⟩
  | succ m ih =>
    intro i kk hi hk hd
    obtain ⟨k, rfl⟩ : ∃ q, kk = q + 1 := ⟨kk - 1, by omega⟩
    rw [luX1_areTwice_17_1, nI_add, if_neg (nI_ge (by omega) (by omega))]
    have hii : i < rs.length := by omega
    rcases ny_twIn_17 K σ fr rs hok hf hr i hii i 0 k (by omega) (by omega) with ⟨k', g1, g2, g3⟩ | ⟨g1, t, h1, g2, g3⟩
    · rw [Nat.add_zero] at g3
      rw [g3]
      refine ih (i + 1) k' (by omega) (by omega) (fun t j h1 h2 h3 h4 => ?_)
      rcases Nat.lt_or_ge j i with h5 | h5
      · exact hd t j h1 h2 h3 h5
      · have : j = i := by omega
        subst this
        exact g2 t h1 (by omega) h3
    · rw [Nat.add_zero] at g1
      rw [g1]
      exact Or.inr ⟨rfl, t, i, h1, hii, g2, g3⟩
theorem ny_areTwice_17 (K : Nat) (σ : pM) (fr : Nat) (rs : List sR) (hok : ∀ r ∈ rs, sRok r) (hl : rs.length ≤ 9) (hf : fr + rs.length ≤ 1044) (hr : mRw σ 17 18 fr rs) (hK : 1000 ≤ K) : fnX1_areTwice_17 K (nI fr) (nI rs.length) σ = some (nb (sTw rs), σ) := by
  rcases ny_twLoop_17 K σ fr rs hok hl hf hr rs.length 0 K (by omega) (by omega) (fun t j _ _ _ h => by omega) with ⟨g1, g2⟩ | ⟨g1, t, j, h1, h2, g2, g3⟩
  · rw [show sTw rs = false from decide_eq_false (fun q => q ((nodup_iff rs).mpr g2))]; exact g1
  · rw [show sTw rs = true from decide_eq_true (fun q => (nodup_iff rs).mp q t j h1 h2 g2 g3)]; exact g1
