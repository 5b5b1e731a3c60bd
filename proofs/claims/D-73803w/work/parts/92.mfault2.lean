/-! the fault of a line of the model, all faults laid -/
theorem nI1' {s : Nat} (h : s < 2 ^ 31) : nI s = 1 ↔ s = 1 := by rw [show (1 : Int32) = nI 1 from rfl, nI_eq h (by omega)]
theorem nI2' {s : Nat} (h : s < 2 ^ 31) : nI s = 2 ↔ s = 2 := by rw [show (2 : Int32) = nI 2 from rfl, nI_eq h (by omega)]
theorem nI0' {s : Nat} (h : s < 2 ^ 31) : nI s = 0 ↔ s = 0 := by rw [show (0 : Int32) = nI 0 from rfl, nI_eq h (by omega)]
theorem mb_if {c : Prop} {dc : Decidable c} {σ : pM} {b : Bool} (h : b = true ↔ c) : (@ite _ c dc (some ((1 : Int32), σ)) (some (0, σ))) = some (nb b, σ) := by
  by_cases hc : c
  · rw [if_pos hc, h.mpr hc]; rfl
  · rw [if_neg hc]
    cases b with
    | false => rfl
    | true => exact absurd (h.mp rfl) hc
theorem mb_if0 {c : Prop} {dc : Decidable c} {σ : pM} {b : Bool} (h : b = false ↔ c) : (@ite _ c dc (some ((0 : Int32), σ)) (some (1, σ))) = some (nb b, σ) := by
  by_cases hc : c
  · rw [if_pos hc, h.mpr hc]; rfl
  · rw [if_neg hc]
    cases b with
    | true => rfl
    | false => exact absurd (h.mp rfl) hc
section FIT
variable {K : Nat} {σ : pM} {k s n p q : Nat} {dn up : List sR}
theorem ny_below (hL : mLn σ k s n p q dn up) (ho : sLok s n p q dn up) (hk : k < 116) (hK : 1000 ≤ K) : fnX1_below K (nI k) σ = some (lN (sProd dn), σ) := by
  unfold fnX1_below
  rw [if_pos (nI_in hk (by omega)), nI_clamp (by omega), hL.2.1.1, dzl, nI9, ny_product_14 K σ (9 * k) dn ho.2.2.2.2.1 ho.2.2.2.1.1 (by have := ho.2.2.2.1.1; omega) hL.2.2.1 hK, dzc]
theorem ny_above (hL : mLn σ k s n p q dn up) (ho : sLok s n p q dn up) (hk : k < 116) (hK : 1000 ≤ K) : fnX1_above K (nI k) σ = some (lN (sProd up), σ) := by
  unfold fnX1_above
  rw [if_pos (nI_in hk (by omega)), nI_clamp (by omega), hL.2.1.2, dzl, nI9, ny_product_17 K σ (9 * k) up ho.2.2.2.2.2 ho.2.2.2.1.2 (by have := ho.2.2.2.1.2; omega) hL.2.2.2.2 hK, dzc]
theorem ny_isFit (hL : mLn σ k s n p q dn up) (ho : sLok s n p q dn up) (hk : k < 116) (hK : 1000 ≤ K) (hs : s ≠ 0) : fnX1_isFit K (nI k) σ = some (nb (sWhole s n (sProd dn) (sProd up)), σ) := by
  have hb1 := sProd_le dn
  have hb2 := sProd_le up
  have hp1 := sProd_pos dn ho.2.2.2.2.1
  have hp2 := sProd_pos up ho.2.2.2.2.2
  have hn := ho.2.1
  have hs4 := ho.1
  unfold fnX1_isFit
  rw [if_pos (nI_in hk (by omega)), nI_clamp (by omega), hL.1.1, dzl, nI_l (by omega), dzl, ny_below hL ho hk hK, dzc, ny_above hL ho hk hK, dzc, if_pos (show ¬ (nI k < 0 ∨ 116 ≤ k) from fun q => q.elim (nI_pos (by omega)) (by omega)), hL.1.2.1, dzl]
  generalize sProd dn = f at *
  generalize sProd up = g at *
  have hm1 : (n - 1) % f ≤ n - 1 := Nat.mod_le _ _
  have hm2 : (n + 1) % g ≤ n + 1 := Nat.mod_le _ _
  have hc : s = 1 ∨ s = 2 ∨ s = 3 ∨ s = 4 := by omega
  rcases hc with rfl | rfl | rfl | rfl
  · rw [if_pos (show nI 1 = 1 from rfl), lN_m1 (by omega)]
    exact mb_if (b := sWhole 1 n f g) (by rw [pk_lEQ (by omega) (by omega)]; exact decide_eq_true_iff)
  · rw [if_neg (by decide), if_pos (show nI 2 = 2 from rfl), if_pos (pz_nz hp1 (by omega)), lN_m1 (by omega), pk_lRem (by omega) hp1 (by omega), dzl]
    exact mb_if (b := sWhole 2 n f g) (by rw [lN0 (by omega)]; exact decide_eq_true_iff)
  · rw [if_neg (by decide), if_neg (by decide), if_pos (show nI 3 = 3 from rfl), lN_1]
    exact mb_if (b := sWhole 3 n f g) (by rw [pk_lEQ (by omega) (by omega)]; exact decide_eq_true_iff)
  · rw [if_neg (by decide), if_neg (by decide), if_neg (by decide), if_pos (pz_nz hp1 (by omega)), lN_m1 (by omega), pk_lRem (by omega) hp1 (by omega), dzl]
    by_cases h1 : (n - 1) % f = 0
    · rw [if_pos ((lN0 (by omega)).mpr h1), if_pos (pz_nz hp2 (by omega)), lN_1, pk_lRem (by omega) hp2 (by omega), dzl]
      refine mb_if (b := sWhole 4 n f g) ?_
      rw [lN0 (by omega)]
      show decide _ = true ↔ _
      rw [decide_eq_true_iff]
      exact ⟨fun q => q.2, fun q => ⟨h1, q⟩⟩
    · rw [if_neg (fun e => h1 ((lN0 (by omega)).mp e)), show sWhole 4 n f g = false from decide_eq_false (fun q => h1 q.1)]; rfl
theorem ny_isLittle {f g : Nat} (hn : 2 ≤ n ∧ n ≤ 1000000000) (hf : 1 ≤ f ∧ f ≤ 1000000001) (hg : 1 ≤ g ∧ g ≤ 1000000001) (hK : 2 ^ 50 ≤ K) : fnX1_isLittle K (lN n) (lN f) (lN g) = some (nb (sLit n (f / Nat.gcd f g * g))) := by
  unfold fnX1_isLittle
  have hgp : 0 < Nat.gcd f g := Nat.gcd_pos_of_pos_left _ hf.1
  have hgl : Nat.gcd f g ≤ f := Nat.gcd_le_left _ hf.1
  have hd1 : f / Nat.gcd f g ≤ f := Nat.div_le_self _ _
  have hd2 : 1 ≤ f / Nat.gcd f g := (Nat.one_le_div_iff hgp).mpr hgl
  have hm1 : f / Nat.gcd f g * g ≤ 1000000001 * 1000000001 := Nat.mul_le_mul (by omega) hg.2
  have hm2 : 1 ≤ f / Nat.gcd f g * g := Nat.mul_le_mul hd2 hg.1
  rw [show fnX1_common K (lN f) (lN g) = some (lN (Nat.gcd f g)) from nl_common K g K f (by omega) (by omega) (by omega), dzb, if_pos (pz_nz hgp (by omega)), pk_lDiv (by omega) hgp (by omega), dzl, lN_mul, dzl]
  generalize f / Nat.gcd f g * g = m at *
  have lab : ¬ m * m ≤ n → (lfX1_isLittle K K) (lN n) (lN m) = some (nb (sLit n m)) := by
    intro hmm
    obtain ⟨k, rfl⟩ : ∃ j, K = j + 1 := ⟨K - 1, by omega⟩
    have hr : n % m ≤ n := Nat.mod_le _ _
    have hr2 : n % (n % m) ≤ n := Nat.mod_le _ _
    have e0 : sLit n m = !(decide (n % m ≤ 1) || decide (n % m = n) || decide (¬ n % (n % m) = 0)) := by
      unfold sLit; rw [decide_eq_false hmm, Bool.false_or]
    rw [luX1_isLittle_1, if_pos (pz_nz hm2 (by omega)), pk_lRem (by omega) hm2 (by omega), dzl, e0]
    by_cases h1 : n % m ≤ 1
    · rw [if_pos (show lN (n % m) ≤ 1 from (pk_lLE (b := 1) (by omega) (by omega)).mpr h1), decide_eq_true h1]; rfl
    · rw [if_neg (show ¬ lN (n % m) ≤ 1 from fun q => h1 ((pk_lLE (b := 1) (by omega) (by omega)).mp q)), decide_eq_false h1]
      by_cases h2 : n % m = n
      · rw [if_pos ((pk_lLE (by omega) (by omega)).mpr (by omega)), decide_eq_true h2]; rfl
      · rw [if_neg (fun q => h2 (by have := (pk_lLE (by omega) (by omega)).mp q; omega)), if_pos (pz_nz (by omega) (by omega)), pk_lRem (by omega) (by omega) (by omega), dzl, decide_eq_false h2]
        by_cases h3 : n % (n % m) = 0
        · rw [if_pos ((lN0 (by omega)).mpr h3), decide_eq_false (fun q => q h3)]; rfl
        · rw [if_neg (fun q => h3 ((lN0 (by omega)).mp q)), decide_eq_true h3]; rfl
  by_cases h1 : 40000 < m
  · rw [if_pos (show (40000 : Int64) < lN m from (pk_lLT (a := 40000) (by omega) (by omega)).mpr h1)]
    refine lab (fun q => ?_)
    have : 40000 * 40000 ≤ m * m := Nat.mul_le_mul (by omega) (by omega)
    omega
  · have hmm : m * m ≤ 40000 * 40000 := Nat.mul_le_mul (by omega) (by omega)
    rw [if_neg (show ¬ (40000 : Int64) < lN m from fun q => h1 ((pk_lLT (a := 40000) (by omega) (by omega)).mp q)), lN_mul]
    by_cases h2 : n < m * m
    · rw [if_pos ((pk_lLT (by omega) (by omega)).mpr h2)]
      exact lab (by omega)
    · rw [if_neg (fun q => h2 ((pk_lLT (by omega) (by omega)).mp q)), show sLit n m = true by unfold sLit; rw [decide_eq_true (by omega), Bool.true_or]]; rfl
theorem ny_isEnough (hL : mLn σ k s n p q dn up) (ho : sLok s n p q dn up) (hk : k < 116) (hK : 2 ^ 50 ≤ K) (hf2 : s = 2 → sProd dn ≤ 2000000000) (hf4 : s = 4 → sProd dn ≤ 1000000001 ∧ sProd up ≤ 1000000001) : fnX1_isEnough K (nI k) σ = some (nb (sEnough s n (sProd dn) (sProd up)), σ) := by
  have hp1 := sProd_pos dn ho.2.2.2.2.1
  have hp2 := sProd_pos up ho.2.2.2.2.2
  have hn := ho.2.1
  have hs4 := ho.1
  have hin : ¬ (nI k < 0 ∨ 116 ≤ k) := fun q => q.elim (nI_pos (by omega)) (by omega)
  unfold fnX1_isEnough
  rw [ny_below hL ho hk (by omega), dzc, if_pos (nI_in hk (by omega)), nI_clamp (by omega), hL.1.2.1, dzl]
  by_cases h2 : s = 2
  · subst h2
    have hf := hf2 rfl
    have hff : sProd dn * sProd dn ≤ 2000000000 * 2000000000 := Nat.mul_le_mul hf hf
    rw [if_pos (show nI 2 = 2 from rfl), if_pos hin, hL.1.1, dzl, nI_l (by omega), lN_mul]
    refine mb_if0 (b := sEnough 2 n (sProd dn) (sProd up)) ?_
    rw [pk_lLE (by omega) (by omega)]
    show decide _ = false ↔ _
    rw [decide_eq_false_iff_not]
    exact Nat.not_lt
  · rw [if_neg (fun e => h2 ((nI2' (by omega)).mp e)), if_pos hin, dzl]
    obtain ⟨j, hj⟩ : ∃ j, K = j + 1 := ⟨K - 1, by omega⟩
    have hlab : (lfX1_isEnough K K) σ = some (1, σ) := by rw [hj, luX1_isEnough_1]
    by_cases h4 : s = 4
    · subst h4
      have hfg := hf4 rfl
      rw [if_pos (show nI 4 = 4 from rfl), if_pos hin, hL.1.1, dzl, ny_above hL ho hk (by omega), dzc, nI_l (by omega), ny_isLittle hn ⟨hp1, hfg.1⟩ ⟨hp2, hfg.2⟩ hK, dzb]
      show _ = some (nb (!sLit n (sProd dn / Nat.gcd (sProd dn) (sProd up) * sProd up)), σ)
      cases sLit n (sProd dn / Nat.gcd (sProd dn) (sProd up) * sProd up) with
      | false => rw [if_pos (show nb false = 0 from rfl), hlab]; rfl
      | true => rw [if_neg (by decide)]; rfl
    · rw [if_neg (fun e => h4 ((nI4 (by omega)).mp e)), hlab]
      have hc : s = 0 ∨ s = 1 ∨ s = 3 := by omega
      rcases hc with rfl | rfl | rfl <;> rfl
theorem ny_farL (hL : mLn σ k s n p q dn up) (ho : sLok s n p q dn up) (hk : k < 116) (hK : 2 ^ 50 ≤ K) : ∀ m i kk, i + m = dn.length → m + 1 ≤ kk → ∃ σ', (lfX1_faultOf K kk).2 (nI k) (nI n) (nI s) (nI (9 * k)) (nI (9 * k + i)) σ = some (nI (if !(dn.drop i).all (sFar n) then 6 else if s = 3 ∨ s = 4 then sPairF n p q up else 0), σ') ∧ mEqJ σ σ' := by
  obtain ⟨hs4, hn, hpq, hl, ok1, ok2⟩ := ho
  intro m
  induction m with
  | zero =>
    intro i kk hi hkk
    obtain ⟨j, rfl⟩ : ∃ j, kk = j + 1 := ⟨kk - 1, by omega⟩
    rw [luX1_faultOf_2, if_pos (nI_in hk (by omega)), nI_clamp (by omega), hL.2.1.1, dzl, nI_add, if_pos (nI_le (by omega) (by omega)), List.drop_eq_nil_of_le (by omega), List.all_nil, if_neg (show ¬ (!true) = true by decide)]
    obtain ⟨jj, hj⟩ : ∃ j, K = j + 1 := ⟨K - 1, by omega⟩
    have hin : ¬ (nI k < 0 ∨ 116 ≤ k) := fun q => q.elim (nI_pos (by omega)) (by omega)
    have hp : fnX1_hasPair K (nI s) = some (nb (decide (s = 3 ∨ s = 4))) := by
      have hlab : lfX1_hasPair K K = some 1 := by rw [hj, luX1_hasPair_1]
      unfold fnX1_hasPair
      rw [hlab]
      by_cases h3 : s = 3
      · rw [if_pos ((nI3 (by omega)).mpr h3), decide_eq_true (Or.inl h3)]; rfl
      · rw [if_neg (fun e => h3 ((nI3 (by omega)).mp e))]
        by_cases h4 : s = 4
        · rw [if_pos ((nI4 (by omega)).mpr h4), decide_eq_true (Or.inr h4)]; rfl
        · rw [if_neg (fun e => h4 ((nI4 (by omega)).mp e)), decide_eq_false (fun e => e.elim h3 h4)]; rfl
    rw [hp, dzb]
    by_cases h34 : s = 3 ∨ s = 4
    · rw [decide_eq_true h34, if_neg (show ¬ nb true = 0 by decide), if_pos hin, hL.1.2.2.1, dzl, if_pos hin, hL.1.2.2.2, dzl, nI_l (by omega), nI_l (by omega), if_pos h34]
      obtain ⟨σ1, e1, e2⟩ := ny_wrongPair K σ n p q k up (by omega) hpq.1 hpq.2 ok2 hl.2 hk hL.1.1 hL.2.1.2 hL.2.2.2.2 hK
      rw [e1, dzc]
      exact ⟨σ1, rfl, e2⟩
    · rw [decide_eq_false h34, if_pos (show nb false = 0 from rfl), if_neg h34]
      exact ⟨σ, rfl, mEqJ.rfl⟩
  | succ m ih =>
    intro i kk hi hkk
    obtain ⟨j, rfl⟩ : ∃ j, kk = j + 1 := ⟨kk - 1, by omega⟩
    have hil : i < dn.length := by omega
    have ok := ok1 _ (List.getElem_mem hil)
    have hin : ¬ (nI (9 * k + i) < 0 ∨ 1044 ≤ 9 * k + i) := fun q => q.elim (nI_pos (by omega)) (by omega)
    rw [luX1_faultOf_2, if_pos (nI_in hk (by omega)), nI_clamp (by omega), hL.2.1.1, dzl, nI_add, if_neg (nI_ge (by omega) (by omega)), if_pos (nI_in (by omega) (by omega)), nI_clamp (by omega), hL.2.2.2.1 i hil, dzl, if_pos hin, (hL.2.2.1 i hil).1, dzl, nI_l (by omega), nI_l (by have := ok.2.2; omega), nI_l (by have := ok.1.2; omega), ny_isApartBy K n dn[i] (by omega) ok.2.2 (by have := ok.1; omega) hK, dzb, List.drop_eq_getElem_cons hil, List.all_cons]
    cases hc : sFar n dn[i] with
    | false => rw [if_pos (show nb false = 0 from rfl)]; exact ⟨σ, rfl, mEqJ.rfl⟩
    | true =>
      rw [if_neg (show ¬ nb true = 0 by decide), dzl, nI_1, Bool.true_and]
      exact ih (i + 1) j (by omega) (by omega)
theorem ny_oneL (hL : mLn σ k s n p q dn up) (ho : sLok s n p q dn up) (hk : k < 116) (hK : 2 ^ 50 ≤ K) : ∀ m i kk, i + m = dn.length → m + 20 ≤ kk → ∃ σ', (lfX1_faultOf K kk).1 (nI k) (nI n) (nI s) (nI (9 * k)) (nI (9 * k + i)) σ = some (nI (if !(dn.drop i).all (sOne n) then 5 else if !dn.all (sFar n) then 6 else if s = 3 ∨ s = 4 then sPairF n p q up else 0), σ') ∧ mEqJ σ σ' := by
  have ho0 := ho
  obtain ⟨hs4, hn, hpq, hl, ok1, ok2⟩ := ho
  intro m
  induction m with
  | zero =>
    intro i kk hi hkk
    obtain ⟨j, rfl⟩ : ∃ j, kk = j + 1 := ⟨kk - 1, by omega⟩
    rw [luX1_faultOf_1, if_pos (nI_in hk (by omega)), nI_clamp (by omega), hL.2.1.1, dzl, nI_add, if_pos (nI_le (by omega) (by omega)), List.drop_eq_nil_of_le (by omega), List.all_nil, if_neg (show ¬ (!true) = true by decide)]
    have := ny_farL hL ho0 hk hK dn.length 0 j (by omega) (by omega)
    rw [List.drop_zero] at this
    exact this
  | succ m ih =>
    intro i kk hi hkk
    obtain ⟨j, rfl⟩ : ∃ j, kk = j + 1 := ⟨kk - 1, by omega⟩
    have hil : i < dn.length := by omega
    have ok := ok1 _ (List.getElem_mem hil)
    rw [luX1_faultOf_1, if_pos (nI_in hk (by omega)), nI_clamp (by omega), hL.2.1.1, dzl, nI_add, if_neg (nI_ge (by omega) (by omega)), if_pos (nI_in (by omega) (by omega)), nI_clamp (by omega), hL.2.2.2.1 i hil, dzl, nI_l (by omega), nI_l (by have := ok.2.2; omega), ny_isOneBy K n dn[i] (by omega) ok.2.2 hK, dzb, List.drop_eq_getElem_cons hil, List.all_cons]
    cases hc : sOne n dn[i] with
    | false => rw [if_pos (show nb false = 0 from rfl)]; exact ⟨σ, rfl, mEqJ.rfl⟩
    | true =>
      rw [if_neg (show ¬ nb true = 0 by decide), dzl, nI_1, Bool.true_and]
      exact ih (i + 1) j (by omega) (by omega)
end FIT
