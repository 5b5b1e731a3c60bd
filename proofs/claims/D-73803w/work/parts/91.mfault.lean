/-! what is wrong with a line of the model -/
/-- what is laid of the lines ahead -/
def mFl (σ : pM) (nf ff : Nat → Nat) (before : Nat) : Prop := ∀ k, k < before → σ.2.2.1 8 k = nI (nf k) ∧ σ.2.2.1 19 k = nb (decide (ff k = 0)) ∧ nf k ≤ 1000000000
theorem mFl.j {σ σ' : pM} {nf ff : Nat → Nat} {b : Nat} (h : mFl σ nf ff b) (e : σ'.2.2.1 = σ.2.2.1) : mFl σ' nf ff b := by
  unfold mFl at *
  rw [e]
  exact h
def oJ (o : Option Nat) : Int32 := match o with
  | some k => nI k
  | none => -1
theorem ny_lineForL (K : Nat) (σ : pM) (nf ff : Nat → Nat) (before q : Nat) (hq : q < 2 ^ 31) (hb : before ≤ 60) (H : mFl σ nf ff before) : ∀ m i kk, i + m = before → 2 * m + 1 ≤ kk → (lfX1_lineFor K kk).1 (nI q) (nI before) (nI i) σ = some (oJ (sRest nf ff q m i), σ) := by
  intro m
  induction m with
  | zero =>
    intro i kk hi hk
    obtain ⟨k, rfl⟩ : ∃ j, kk = j + 1 := ⟨kk - 1, by omega⟩
    rw [luX1_lineFor_1, if_pos (nI_le (by omega) (by omega))]
    rfl
  | succ m ih =>
    intro i kk hi hk
    obtain ⟨k, rfl⟩ : ∃ j, kk = j + 1 := ⟨kk - 1, by omega⟩
    obtain ⟨h1, h2, h3⟩ := H i (by omega)
    have next : (lfX1_lineFor K k).2 (nI q) (nI before) (nI i) σ = some (oJ (sRest nf ff q m (i + 1)), σ) := by
      obtain ⟨k, rfl⟩ : ∃ j, k = j + 1 := ⟨k - 1, by omega⟩
      rw [luX1_lineFor_2, dzl, nI_1]
      exact ih (i + 1) k (by omega) (by omega)
    rw [luX1_lineFor_1, if_neg (nI_ge (by omega) (by omega)), if_pos (nI_in (by omega) (by omega)), nI_clamp (by omega), h2, dzl, sRest_s]
    by_cases h0 : ff i = 0
    · rw [decide_eq_true h0, if_neg (by decide), if_pos (show ¬ (nI i < 0 ∨ 116 ≤ i) from fun q => q.elim (nI_pos (by omega)) (by omega)), h1, dzl]
      by_cases hn : nf i = q
      · rw [if_pos ((nI_eq (by omega) (by omega)).mpr hn), if_pos ⟨hn, h0⟩]; rfl
      · rw [if_neg (fun e => hn ((nI_eq (by omega) (by omega)).mp e)), if_neg (fun e => hn e.1)]; exact next
    · rw [decide_eq_false h0, if_pos (by decide), if_neg (fun e => h0 e.2)]; exact next
theorem ny_lineFor (K : Nat) (σ : pM) (nf ff : Nat → Nat) (before q : Nat) (hq : q < 2 ^ 31) (hb : before ≤ 60) (H : mFl σ nf ff before) (hK : 1000 ≤ K) : fnX1_lineFor K (nI q) (nI before) σ = some (oJ (sRest nf ff q before 0), σ) := ny_lineForL K σ nf ff before q hq hb H before 0 K (by omega) (by omega)
theorem oJ_n (o : Option Nat) (h : ∀ k, o = some k → k < 2 ^ 31) : oJ o = -1 ↔ o.isSome = false := by
  cases o with
  | none => exact ⟨fun _ => rfl, fun _ => rfl⟩
  | some k =>
    refine ⟨fun q => ?_, fun q => by cases q⟩
    have : nI k = -1 := q
    have h1 := nI_pos (h k rfl)
    rw [this] at h1
    exact absurd (by decide) h1
theorem ny_hasAllL_14 (K : Nat) (σ : pM) (nf ff : Nat → Nat) (before fr : Nat) (rs : List sR) (hb : before ≤ 60) (H : mFl σ nf ff before) (hok : ∀ r ∈ rs, sRok r) (hl : rs.length ≤ 9) (hf : fr + rs.length ≤ 1044) (hr : mRw σ 14 15 fr rs) (hK : 1000 ≤ K) : ∀ m i kk, i + m = rs.length → m + 1 ≤ kk → (lfX1_hasAll_14 K kk) (nI fr) (nI rs.length) (nI before) (nI (fr + i)) σ = some (nb ((rs.drop i).all (sBk nf ff before)), σ) := by
  intro m
  induction m with
  | zero =>
    intro i kk hi hk
    obtain ⟨k, rfl⟩ : ∃ j, kk = j + 1 := ⟨kk - 1, by omega⟩
    rw [luX1_hasAll_14_1, nI_add, if_pos (nI_le (by omega) (by omega)), List.drop_eq_nil_of_le (by omega)]
    rfl
  | succ m ih =>
    intro i kk hi hk
    obtain ⟨k, rfl⟩ : ∃ j, kk = j + 1 := ⟨kk - 1, by omega⟩
    have hil : i < rs.length := by omega
    have ok := hok _ (List.getElem_mem hil)
    rw [luX1_hasAll_14_1, nI_add, if_neg (nI_ge (by omega) (by omega)), if_pos (nI_in (by omega) (by omega)), nI_clamp (by omega), (hr i hil).1, dzl, ny_lineFor K σ nf ff before rs[i].1 (by have := ok.1.2; omega) hb H hK, dzc, List.drop_eq_getElem_cons hil, List.all_cons]
    have hn := oJ_n (sRest nf ff rs[i].1 before 0) (fun k hk => by have := sRest_lt nf ff _ _ _ _ hk; omega)
    by_cases hc : (sRest nf ff rs[i].1 before 0).isSome = false
    · rw [if_pos (hn.mpr hc), show sBk nf ff before rs[i] = false from hc, Bool.false_and]; rfl
    · rw [if_neg (fun e => hc (hn.mp e)), show sBk nf ff before rs[i] = true from Bool.not_eq_false _ ▸ hc, Bool.true_and, dzl, nI_1]
      exact ih (i + 1) k (by omega) (by omega)
theorem ny_hasAll_14 (K : Nat) (σ : pM) (nf ff : Nat → Nat) (before fr : Nat) (rs : List sR) (hb : before ≤ 60) (H : mFl σ nf ff before) (hok : ∀ r ∈ rs, sRok r) (hl : rs.length ≤ 9) (hf : fr + rs.length ≤ 1044) (hr : mRw σ 14 15 fr rs) (hK : 1000 ≤ K) : fnX1_hasAll_14 K (nI fr) (nI rs.length) (nI before) σ = some (nb (rs.all (sBk nf ff before)), σ) := by
  have := ny_hasAllL_14 K σ nf ff before fr rs hb H hok hl hf hr hK rs.length 0 K (by omega) (by omega)
  exact this
theorem ny_hasAllL_17 (K : Nat) (σ : pM) (nf ff : Nat → Nat) (before fr : Nat) (rs : List sR) (hb : before ≤ 60) (H : mFl σ nf ff before) (hok : ∀ r ∈ rs, sRok r) (hl : rs.length ≤ 9) (hf : fr + rs.length ≤ 1044) (hr : mRw σ 17 18 fr rs) (hK : 1000 ≤ K) : ∀ m i kk, i + m = rs.length → m + 1 ≤ kk → (lfX1_hasAll_17 K kk) (nI fr) (nI rs.length) (nI before) (nI (fr + i)) σ = some (nb ((rs.drop i).all (sBk nf ff before)), σ) := by
  intro m
  induction m with
  | zero =>
    intro i kk hi hk
    obtain ⟨k, rfl⟩ : ∃ j, kk = j + 1 := ⟨kk - 1, by omega⟩
    rw [luX1_hasAll_17_1, nI_add, if_pos (nI_le (by omega) (by omega)), List.drop_eq_nil_of_le (by omega)]
    rfl
  | succ m ih =>
    intro i kk hi hk
    obtain ⟨k, rfl⟩ : ∃ j, kk = j + 1 := ⟨kk - 1, by omega⟩
    have hil : i < rs.length := by omega
    have ok := hok _ (List.getElem_mem hil)
    rw [luX1_hasAll_17_1, nI_add, if_neg (nI_ge (by omega) (by omega)), if_pos (nI_in (by omega) (by omega)), nI_clamp (by omega), (hr i hil).1, dzl, ny_lineFor K σ nf ff before rs[i].1 (by have := ok.1.2; omega) hb H hK, dzc, List.drop_eq_getElem_cons hil, List.all_cons]
    have hn := oJ_n (sRest nf ff rs[i].1 before 0) (fun k hk => by have := sRest_lt nf ff _ _ _ _ hk; omega)
    by_cases hc : (sRest nf ff rs[i].1 before 0).isSome = false
    · rw [if_pos (hn.mpr hc), show sBk nf ff before rs[i] = false from hc, Bool.false_and]; rfl
    · rw [if_neg (fun e => hc (hn.mp e)), show sBk nf ff before rs[i] = true from Bool.not_eq_false _ ▸ hc, Bool.true_and, dzl, nI_1]
      exact ih (i + 1) k (by omega) (by omega)
theorem ny_hasAll_17 (K : Nat) (σ : pM) (nf ff : Nat → Nat) (before fr : Nat) (rs : List sR) (hb : before ≤ 60) (H : mFl σ nf ff before) (hok : ∀ r ∈ rs, sRok r) (hl : rs.length ≤ 9) (hf : fr + rs.length ≤ 1044) (hr : mRw σ 17 18 fr rs) (hK : 1000 ≤ K) : fnX1_hasAll_17 K (nI fr) (nI rs.length) (nI before) σ = some (nb (rs.all (sBk nf ff before)), σ) := by
  have := ny_hasAllL_17 K σ nf ff before fr rs hb H hok hl hf hr hK rs.length 0 K (by omega) (by omega)
  exact this
theorem nb_i1 {x : Nat} (h : x < 2 ^ 63) : (if lN x = (1 : Int64) then some (1 : Int32) else some 0) = some (nb (decide (x = 1))) := by
  by_cases e : x = 1
  · rw [if_pos ((lN1 h).mpr e), decide_eq_true e]; rfl
  · rw [if_neg (fun q => e ((lN1 h).mp q)), decide_eq_false e]; rfl
theorem ny_isOneBy (K n : Nat) (w : sR) (hn : 1 ≤ n ∧ n ≤ 1000000000) (hw : w.2.2 ≤ 999) (hK : 2 ^ 50 ≤ K) : fnX1_isOneBy K (lN n) (lN w.2.2) = some (nb (sOne n w)) := by
  unfold fnX1_isOneBy
  have hlt := Nat.mod_lt (w.2.2 ^ (n - 1)) (show n > 0 by omega)
  rw [lN_m1 hn.1, ny_powerOf K w.2.2 (n - 1) n (by omega) (by omega) (by omega) (by omega) (by omega), dzb, nb_i1 (by omega)]
  rfl
theorem ny_isApartBy (K n : Nat) (w : sR) (hn : 1 ≤ n ∧ n ≤ 1000000000) (hw : w.2.2 ≤ 999) (hq : 1 ≤ w.1 ∧ w.1 ≤ 1000000001) (hK : 2 ^ 50 ≤ K) : fnX1_isApartBy K (lN n) (lN w.2.2) (lN w.1) = some (nb (sFar n w)) := by
  unfold fnX1_isApartBy
  have hdv : (n - 1) / w.1 ≤ n - 1 := Nat.div_le_self _ _
  have hlt := Nat.mod_lt (w.2.2 ^ ((n - 1) / w.1)) (show n > 0 by omega)
  rw [if_pos (pz_nz hq.1 (by omega)), lN_m1 hn.1, pk_lDiv (by omega) hq.1 (by omega), dzl, ny_powerOf K w.2.2 ((n - 1) / w.1) n (by omega) (by omega) (by omega) (by omega) (by omega), dzb, dzl]
  have e : sFar n w = decide (Nat.gcd ((((w.2.2 ^ ((n - 1) / w.1) % n : Nat) : Int) - 1) % (n : Int)).toNat n = 1) := rfl
  rw [e]
  generalize w.2.2 ^ ((n - 1) / w.1) % n = y at *
  by_cases h0 : y = 0
  · subst h0
    rw [if_neg (by decide), show lN 0 - 1 + lN n = lN (n - 1) by
      rw [← lN_m1 hn.1, show lN 0 = 0 from rfl]
      rw [Int64.zero_sub, Int64.sub_eq_add_neg, Int64.add_comm], show fnX1_common K (lN (n - 1)) (lN n) = some (lN (Nat.gcd (n - 1) n)) from nl_common K n K (n - 1) (by omega) (by omega) (by omega), dzb]
    have hg : Nat.gcd (n - 1) n ≤ n := Nat.gcd_le_right _ (by omega)
    rw [nb_i1 (by omega)]
    have : ((((0 : Nat) : Int) - 1) % (n : Int)).toNat = n - 1 := by
      rw [show (((0 : Nat) : Int) - 1) = ((n - 1 : Nat) : Int) + (n : Int) * (-1) by omega, Int.add_mul_emod_self_left, ← Int.natCast_emod, Nat.mod_eq_of_lt (by omega)]
      omega
    rw [this]
  · have h1 : 1 ≤ y := by omega
    rw [lN_m1 h1, if_pos (show (0 : Int64) ≤ lN (y - 1) from (pk_lLE (a := 0) (by omega) (by omega)).mpr (Nat.zero_le _)), show fnX1_common K (lN (y - 1)) (lN n) = some (lN (Nat.gcd (y - 1) n)) from nl_common K n K (y - 1) (by omega) (by omega) (by omega), dzb]
    have hg : Nat.gcd (y - 1) n ≤ n := Nat.gcd_le_right _ (by omega)
    rw [nb_i1 (by omega)]
    have : (((y : Int) - 1) % (n : Int)).toNat = y - 1 := by
      rw [show ((y : Int) - 1) = ((y - 1 : Nat) : Int) by omega, ← Int.natCast_emod, Nat.mod_eq_of_lt (by omega)]
      omega
    rw [this]
theorem ny_pairL (K : Nat) (n p q k0 : Nat) (us : List sR) (hn : 1 ≤ n ∧ n ≤ 1000000000) (hp : p ≤ 99) (hq : q ≤ 99) (hok : ∀ r ∈ us, sRok r) (hl : us.length ≤ 9) (hk0 : k0 < 116) (hK : 2 ^ 50 ≤ K) : ∀ m i kk σ, i + m = us.length → σ.2.2.1 13 k0 = nI us.length → mRw σ 17 18 (9 * k0) us → m + 1 ≤ kk → ∃ σ', (lfX1_wrongPair K kk) (nI k0) (lN p) (lN q) (lN n) (nI i) σ = some (nI (if (us.drop i).all (sSeq n p q) then 0 else 9), σ') ∧ mEqJ σ σ' := by
  intro m
  induction m with
  | zero =>
    intro i kk σ hi h13 hr hk
    obtain ⟨k, rfl⟩ : ∃ j, kk = j + 1 := ⟨kk - 1, by omega⟩
    rw [luX1_wrongPair_1, if_pos (nI_in hk0 (by omega)), nI_clamp (by omega), h13, dzl, if_pos (nI_le (by omega) (by omega)), List.drop_eq_nil_of_le (by omega)]
    exact ⟨σ, rfl, mEqJ.rfl⟩
  | succ m ih =>
    intro i kk σ hi h13 hr hk
    obtain ⟨k, rfl⟩ : ∃ j, kk = j + 1 := ⟨kk - 1, by omega⟩
    have hil : i < us.length := by omega
    have ok := hok _ (List.getElem_mem hil)
    have hdv : (n + 1) / us[i].1 ≤ n + 1 := Nat.div_le_self _ _
    obtain ⟨σ1, e1, e2⟩ := hy_sequence K p q ((n + 1) / us[i].1) n σ (by omega) (by omega) (by omega) (by omega) (by omega) (by omega)
    rw [luX1_wrongPair_1, if_pos (nI_in hk0 (by omega)), nI_clamp (by omega), h13, dzl, if_neg (nI_ge (by omega) (by omega)), nI9, nI_add, dzl, if_pos (nI_in (by omega) (by omega)), nI_clamp (by omega), (hr i hil).1, dzl, nI_l (by have := ok.1.2; omega), dzl, if_pos (pz_nz (by have := ok.1.1; omega) (by have := ok.1.2; omega)), lN_1, pk_lDiv (by omega) (by have := ok.1.1; omega) (by have := ok.1.2; omega), dzl, e1, dzc]
    have hlt := uM_lt (p := p) (q := q) (m := n) (k := (n + 1) / us[i].1) (by omega)
    have hg : Nat.gcd (uM p q n ((n + 1) / us[i].1)) n ≤ n := Nat.gcd_le_right _ (by omega)
    rw [show fnX1_common K (lN (uM p q n ((n + 1) / us[i].1))) (lN n) = some (lN (Nat.gcd (uM p q n ((n + 1) / us[i].1)) n)) from nl_common K n K _ (by omega) (by omega) (by omega), dzb, List.drop_eq_getElem_cons hil, List.all_cons]
    by_cases hc : Nat.gcd (uM p q n ((n + 1) / us[i].1)) n = 1
    · rw [if_pos ((lN1 (by omega)).mpr hc), dzl, nI_1, show sSeq n p q us[i] = true from decide_eq_true hc, Bool.true_and]
      obtain ⟨σ2, f1, f2⟩ := ih (i + 1) k σ1 (by omega) (by rw [e2.2.2]; exact h13) (by unfold mRw at *; rw [e2.2.2]; exact hr) (by omega)
      exact ⟨σ2, f1, e2.tr f2⟩
    · rw [if_neg (fun e => hc ((lN1 (by omega)).mp e)), show sSeq n p q us[i] = false from decide_eq_false hc, Bool.false_and]
      exact ⟨σ1, rfl, e2⟩
theorem ny_wrongPair (K : Nat) (σ : pM) (n p q k0 : Nat) (us : List sR) (hn : 1 ≤ n ∧ n ≤ 1000000000) (hp : p ≤ 99) (hq : q ≤ 99) (hok : ∀ r ∈ us, sRok r) (hl : us.length ≤ 9) (hk0 : k0 < 116) (h8 : σ.2.2.1 8 k0 = nI n) (h13 : σ.2.2.1 13 k0 = nI us.length) (hr : mRw σ 17 18 (9 * k0) us) (hK : 2 ^ 50 ≤ K) : ∃ σ', fnX1_wrongPair K (nI k0) (lN p) (lN q) σ = some (nI (sPairF n p q us), σ') ∧ mEqJ σ σ' := by
  have hpp : p * p ≤ 99 * 99 := Nat.mul_le_mul hp hp
  have hppc : (p : Int) * p = ((p * p : Nat) : Int) := by rw [Int.natCast_mul]
  unfold fnX1_wrongPair sPairF
  rw [if_pos (nI_in hk0 (by omega)), nI_clamp (by omega), h8, dzl, nI_l (by omega), dzl, show lN p * lN p - 4 * lN q = Int64.ofInt ((p : Int) * p - 4 * q) by rw [lN_z, lN_z, show (4 : Int64) = Int64.ofInt 4 from rfl, z_mul, z_mul, z_sub], hy_signOf K _ n (by rw [hppc]; omega) (by rw [hppc]; omega) (by omega) (by omega) (by omega), dzb]
  by_cases hj : jac ((p : Int) * p - 4 * q) n = -1
  · rw [if_pos hj, if_pos hj, show fnX1_common K (lN q) (lN n) = some (lN (Nat.gcd q n)) from nl_common K n K q (by omega) (by omega) (by omega), dzb]
    have hg : Nat.gcd q n ≤ n := Nat.gcd_le_right _ (by omega)
    by_cases hc : Nat.gcd q n = 1
    · rw [if_pos ((lN1 (by omega)).mpr hc), if_pos hc, lN_1]
      obtain ⟨σ1, e1, e2⟩ := hy_sequence K p q (n + 1) n σ (by omega) (by omega) (by omega) (by omega) (by omega) (by omega)
      rw [e1, dzc]
      have hlt := uM_lt (p := p) (q := q) (m := n) (k := n + 1) (by omega)
      by_cases h0 : uM p q n (n + 1) = 0
      · rw [if_pos ((lN0 (by omega)).mpr h0), if_pos h0]
        obtain ⟨σ2, f1, f2⟩ := ny_pairL K n p q k0 us hn hp hq hok hl hk0 hK us.length 0 K σ1 (by omega) (by rw [e2.2.2]; exact h13) (by unfold mRw at *; rw [e2.2.2]; exact hr) (by omega)
        rw [List.drop_zero] at f1
        exact ⟨σ2, f1, e2.tr f2⟩
      · rw [if_neg (fun e => h0 ((lN0 (by omega)).mp e)), if_neg h0]
        exact ⟨σ1, rfl, e2⟩
    · rw [if_neg (fun e => hc ((lN1 (by omega)).mp e)), if_neg hc]
      exact ⟨σ, rfl, mEqJ.rfl⟩
  · rw [if_neg hj, if_neg hj]
    exact ⟨σ, rfl, mEqJ.rfl⟩
