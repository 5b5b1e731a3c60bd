/-! the model's faults: one, all -/
theorem i2r {n : Nat} (h : n < 2 ^ 31) : nI n - nI n / 2 * 2 = nI (n % 2) := by
  have e : nI n / 2 = nI (n / 2) := by
    apply Int32.toInt_inj.mp
    rw [Int32.toInt_div_of_ne_right _ _ (by decide), nI_toInt h, nI_toInt (by omega)]
    have : (2 : Int32).toInt = ((2 : Nat) : Int) := by decide
    rw [this, ← Int.ofNat_tdiv]
  rw [e, show (2 : Int32) = nI 2 from rfl, nIm]
  have h1 : nI n = nI (n % 2) + nI (n / 2 * 2) := by rw [nI_add]; congr 1; omega
  rw [h1, Int32.add_sub_cancel]
theorem ny_faultOf {K : Nat} {σ : pM} {k s n p q : Nat} {dn up : List sR} {nf ff : Nat → Nat} (hL : mLn σ k s n p q dn up) (ho : sLok s n p q dn up) (hk : k < 60) (hF : mFl σ nf ff k) (hK : 2 ^ 50 ≤ K) : ∃ σ', fnX1_faultOf K (nI k) σ = some (nI (sFault s n p q dn up nf ff k), σ') ∧ mEqJ σ σ' := by
  have ho0 := ho
  obtain ⟨hs4, hn, hpq, hl, ok1, ok2⟩ := ho
  have hin : ¬ (nI k < 0 ∨ 116 ≤ k) := fun q => q.elim (nI_pos (by omega)) (by omega)
  unfold fnX1_faultOf sFault
  rw [if_pos (nI_in (by omega) (by omega)), nI_clamp (by omega), hL.1.1, dzl, if_pos hin, hL.1.2.1, dzl]
  by_cases hs : s = 0
  · rw [if_pos ((nI0' (by omega)).mpr hs), if_pos hs]
    by_cases h100 : n < 100
    · rw [if_neg (show ¬ (100 : Int32) ≤ nI n from nI_ge (b := 100) h100 (by omega)), if_pos h100, nI_l (by omega), ny_isPrime K n (by omega) (by omega), dzb]
      cases prB n with
      | false => rw [if_pos (show nb false = 0 from rfl)]; exact ⟨σ, rfl, mEqJ.rfl⟩
      | true => rw [if_neg (show ¬ nb true = 0 by decide)]; exact ⟨σ, rfl, mEqJ.rfl⟩
    · rw [if_pos (show (100 : Int32) ≤ nI n from nI_le (a := 100) (by omega) (by omega)), if_neg h100]
      exact ⟨σ, rfl, mEqJ.rfl⟩
  · rw [if_neg (fun e => hs ((nI0' (by omega)).mp e)), if_neg hs, i2r (by omega), dzl]
    by_cases h2 : n % 2 = 0
    · rw [if_pos ((nI0' (by omega)).mpr h2), if_pos h2]; exact ⟨σ, rfl, mEqJ.rfl⟩
    · rw [if_neg (fun e => h2 ((nI0' (by omega)).mp e)), if_neg h2, nI9, dzl, if_pos hin, hL.2.1.1, dzl, ny_areTwice_14 K σ (9 * k) dn ok1 hl.1 (by omega) hL.2.2.1 (by omega), dzc]
      unfold sBacked
      cases sTw dn with
      | true => rw [if_neg (show ¬ nb true = 0 by decide)]; exact ⟨σ, rfl, mEqJ.rfl⟩
      | false =>
        rw [if_pos (show nb false = 0 from rfl), if_pos hin, hL.2.1.2, dzl, ny_areTwice_17 K σ (9 * k) up ok2 hl.2 (by omega) hL.2.2.2.2 (by omega), dzc]
        cases sTw up with
        | true =>
          rw [if_neg (show ¬ nb true = 0 by decide)]
          refine ⟨σ, ?_, mEqJ.rfl⟩
          by_cases hc : (!(!false && dn.all (sBk nf ff k))) = true
          · rw [if_pos hc]; rfl
          · rw [if_neg hc]; rfl
        | false =>
          rw [if_pos (show nb false = 0 from rfl), if_pos hin, hL.2.1.1, dzl, ny_hasAll_14 K σ nf ff k (9 * k) dn (by omega) hF ok1 hl.1 (by omega) hL.2.2.1 (by omega), dzc]
          cases dn.all (sBk nf ff k) with
          | false => rw [if_pos (show nb false = 0 from rfl)]; exact ⟨σ, rfl, mEqJ.rfl⟩
          | true =>
            rw [if_neg (show ¬ nb true = 0 by decide), if_pos hin, hL.2.1.2, dzl, ny_hasAll_17 K σ nf ff k (9 * k) up (by omega) hF ok2 hl.2 (by omega) hL.2.2.2.2 (by omega), dzc, if_neg (show ¬ (!(!false && true)) = true by decide)]
            cases up.all (sBk nf ff k) with
            | false => rw [if_pos (show nb false = 0 from rfl)]; exact ⟨σ, rfl, mEqJ.rfl⟩
            | true =>
              rw [if_neg (show ¬ nb true = 0 by decide), if_neg (show ¬ (!(!false && true)) = true by decide), ny_isFit hL ho0 (by omega) (by omega) hs, dzc]
              cases hwh : sWhole s n (sProd dn) (sProd up) with
              | false => rw [if_pos (show nb false = 0 from rfl)]; exact ⟨σ, rfl, mEqJ.rfl⟩
              | true =>
                rw [if_neg (show ¬ nb true = 0 by decide), if_neg (show ¬ (!true) = true by decide), ny_isEnough hL ho0 (by omega) hK (fun e => by subst e; have := wh2 hn.1 hwh; omega) (fun e => by subst e; have := wh4 hn.1 hwh; omega), dzc]
                cases sEnough s n (sProd dn) (sProd up) with
                | false => rw [if_pos (show nb false = 0 from rfl)]; exact ⟨σ, rfl, mEqJ.rfl⟩
                | true =>
                  rw [if_neg (show ¬ nb true = 0 by decide), if_neg (show ¬ (!true) = true by decide)]
                  have := ny_oneL hL ho0 (by omega) hK dn.length 0 K (by omega) (by omega)
                  rw [List.drop_zero] at this
                  exact this
/-- lines, and their faults by those ahead -/
abbrev sLn : Type := Nat × Nat × (Nat × Nat) × List sR × List sR
noncomputable def sFs (L : Nat → sLn) : Nat → Nat → Nat := Nat.rec (motive := fun _ => Nat → Nat) (fun _ => 1) (fun k F j => if j = k then sFault (L k).2.1 (L k).1 (L k).2.2.1.1 (L k).2.2.1.2 (L k).2.2.2.1 (L k).2.2.2.2 (fun i => (L i).1) F k else F j)
theorem sFs_s (L : Nat → sLn) (k j : Nat) : sFs L (k + 1) j = if j = k then sFault (L k).2.1 (L k).1 (L k).2.2.1.1 (L k).2.2.1.2 (L k).2.2.2.1 (L k).2.2.2.2 (fun i => (L i).1) (sFs L k) k else sFs L k j := rfl
theorem sFs_lt (L : Nat → sLn) (j : Nat) : ∀ k, j < k → sFs L k j = sFs L (j + 1) j := by
  intro k
  induction k with
  | zero => intro h; omega
  | succ k ih =>
    intro h
    rcases Nat.lt_or_ge j k with h1 | h1
    · rw [sFs_s, if_neg (by omega)]; exact ih h1
    · have : j = k := by omega
      subst this; rfl
/-- the fault of line j -/
noncomputable def sFt (L : Nat → sLn) (j : Nat) : Nat := sFs L (j + 1) j
theorem sFault_ext {s n p q : Nat} {dn up : List sR} {nf nf' ff ff' : Nat → Nat} {b : Nat} (h1 : ∀ k, k < b → nf k = nf' k) (h2 : ∀ k, k < b → ff k = ff' k) : sFault s n p q dn up nf ff b = sFault s n p q dn up nf' ff' b := by
  have hr : ∀ q m i, i + m ≤ b → sRest nf ff q m i = sRest nf' ff' q m i := by
    intro q m
    induction m with
    | zero => intro i _; rfl
    | succ m ih => intro i hi; rw [sRest_s, sRest_s, h1 i (by omega), h2 i (by omega), ih (i + 1) (by omega)]
  have hb : ∀ rs, sBacked nf ff b rs = sBacked nf' ff' b rs := by
    intro rs
    unfold sBacked
    congr 2
    funext r
    unfold sBk
    rw [hr r.1 b 0 (by omega)]
  unfold sFault
  rw [hb, hb]
theorem sFt_eq (L : Nat → sLn) (k : Nat) : sFt L k = sFault (L k).2.1 (L k).1 (L k).2.2.1.1 (L k).2.2.1.2 (L k).2.2.2.1 (L k).2.2.2.2 (fun i => (L i).1) (sFt L) k := by
  unfold sFt
  rw [sFs_s, if_pos rfl]
  exact sFault_ext (fun _ _ => rfl) (fun j hj => sFs_lt L j k hj)
theorem sFault_le (s n p q : Nat) (dn up : List sR) (nf ff : Nat → Nat) (b : Nat) : sFault s n p q dn up nf ff b ≤ 9 := by
  have := sPairF_le n p q up
  unfold sFault
  repeat' split
  all_goals omega
theorem sFt_le (L : Nat → sLn) (k : Nat) : sFt L k ≤ 9 := by rw [sFt_eq]; exact sFault_le _ _ _ _ _ _ _ _ _
/-- the ledger as the model has it -/
def mLd (σ : pM) (N : Nat) (L : Nat → sLn) : Prop := σ.1 7 = nI N ∧ N ≤ 60 ∧ ∀ k, k < N → mLn σ k (L k).2.1 (L k).1 (L k).2.2.1.1 (L k).2.2.1.2 (L k).2.2.2.1 (L k).2.2.2.2
def sOk (N : Nat) (L : Nat → sLn) : Prop := ∀ k, k < N → sLok (L k).2.1 (L k).1 (L k).2.2.1.1 (L k).2.2.1.2 (L k).2.2.2.1 (L k).2.2.2.2
/-- but for what is right, faults and long arrays all is the same -/
def mEqR (σ σ' : pM) : Prop := σ'.1 = σ.1 ∧ σ'.2.1 = σ.2.1 ∧ ∀ a, a ≠ 19 → a ≠ 20 → σ'.2.2.1 a = σ.2.2.1 a
theorem mEqR.rfl {σ : pM} : mEqR σ σ := ⟨Eq.refl _, Eq.refl _, fun _ _ _ => Eq.refl _⟩
theorem mEqR.tr {σ σ1 σ2 : pM} (h : mEqR σ σ1) (h' : mEqR σ1 σ2) : mEqR σ σ2 := ⟨h'.1.trans h.1, h'.2.1.trans h.2.1, fun a h1 h2 => (h'.2.2 a h1 h2).trans (h.2.2 a h1 h2)⟩
theorem mEqJ.R {σ σ' : pM} (h : mEqJ σ σ') : mEqR σ σ' := ⟨h.1, h.2.1, fun a _ _ => by rw [h.2.2]⟩
theorem mEqR_I {σ : pM} {a i : Nat} {v : Int32} (h : a = 19 ∨ a = 20) : mEqR σ (mI σ a i v) := ⟨Eq.refl _, Eq.refl _, fun b h1 h2 => mI_a (by rcases h with rfl | rfl <;> assumption)⟩
theorem mLn.R {σ σ' : pM} {k s n p q : Nat} {dn up : List sR} (h : mLn σ k s n p q dn up) (e : mEqR σ σ') : mLn σ' k s n p q dn up := by
  unfold mLn mRw mBs at *
  rw [e.2.2 8 (by decide) (by decide), e.2.2 9 (by decide) (by decide), e.2.2 10 (by decide) (by decide), e.2.2 11 (by decide) (by decide), e.2.2 12 (by decide) (by decide), e.2.2 13 (by decide) (by decide), e.2.2 14 (by decide) (by decide), e.2.2 15 (by decide) (by decide), e.2.2 16 (by decide) (by decide), e.2.2 17 (by decide) (by decide), e.2.2 18 (by decide) (by decide)]
  exact h
theorem mLd.R {σ σ' : pM} {N : Nat} {L : Nat → sLn} (h : mLd σ N L) (e : mEqR σ σ') : mLd σ' N L := ⟨by rw [e.1]; exact h.1, h.2.1, fun k hk => (h.2.2 k hk).R e⟩
/-- what is laid -/
def mRt (σ : pM) (L : Nat → sLn) (m : Nat) : Prop := ∀ k, k < m → σ.2.2.1 19 k = nb (decide (sFt L k = 0)) ∧ σ.2.2.1 20 k = nI (sFt L k)
theorem nar_b (b : Bool) : vp_nar .boolean (nb b) = nb b := by cases b <;> rfl
theorem ny_laysL (K : Nat) (N : Nat) (L : Nat → sLn) (hok : sOk N L) (hK : 2 ^ 50 ≤ K) : ∀ m i kk σ, i + m = N → mLd σ N L → mRt σ L i → m + 1 ≤ kk → ∃ σ', (lfX1_laysRight K kk) (nI i) σ = some σ' ∧ mEqR σ σ' ∧ mRt σ' L N := by
  intro m
  induction m with
  | zero =>
    intro i kk σ hi hL hR hk
    obtain ⟨k, rfl⟩ : ∃ j, kk = j + 1 := ⟨kk - 1, by omega⟩
    have hN := hL.2.1
    rw [luX1_laysRight_1, hL.1, dzl, if_pos (nI_le (by omega) (by omega))]
    exact ⟨σ, rfl, mEqR.rfl, by rw [show N = i by omega]; exact hR⟩
  | succ m ih =>
    intro i kk σ hi hL hR hk
    obtain ⟨k, rfl⟩ : ∃ j, kk = j + 1 := ⟨kk - 1, by omega⟩
    have hN := hL.2.1
    have hi60 : ¬ (nI i < 0 ∨ 60 ≤ i) := fun q => q.elim (nI_pos (by omega)) (by omega)
    have hFl : mFl σ (fun j => (L j).1) (sFt L) i := fun j hj => ⟨(hL.2.2 j (by omega)).1.1, (hR j hj).1, (hok j (by omega)).2.1.2⟩
    obtain ⟨σ1, e1, e2⟩ := ny_faultOf (hL.2.2 i (by omega)) (hok i (by omega)) (by omega) hFl hK
    rw [← sFt_eq] at e1
    have h9 := sFt_le L i
    rw [luX1_laysRight_1, hL.1, dzl, if_neg (nI_ge (by omega) (by omega)), e1, dzc, if_pos (nI_in (by omega) (by omega)), nI_clamp (by omega), dzl, if_pos hi60, mI_eq, dzl]
    have fin : ∀ b : Bool, b = decide (sFt L i = 0) → ∃ σ', (lfX1_laysRight K k) (nI (i + 1)) (mI (mI σ1 20 i (nI (sFt L i))) 19 i (nb b)) = some σ' ∧ mEqR σ σ' ∧ mRt σ' L N := by
      intro b hb
      have er : mEqR σ (mI (mI σ1 20 i (nI (sFt L i))) 19 i (nb b)) := e2.R.tr ((mEqR_I (Or.inr rfl)).tr (mEqR_I (Or.inl rfl)))
      have hm : mRt (mI (mI σ1 20 i (nI (sFt L i))) 19 i (nb b)) L (i + 1) := by
        intro j hj
        rcases Nat.lt_or_ge j i with h1 | h1
        · rw [mI_i (by omega), mI_a (show (19 : Nat) ≠ 20 by decide), mI_a (show (20 : Nat) ≠ 19 by decide), mI_i (by omega), e2.2.2]
          exact hR j h1
        · have : j = i := by omega
          subst this
          rw [mI_eq, mI_a (show (20 : Nat) ≠ 19 by decide), mI_eq, hb]
          exact ⟨rfl, rfl⟩
      obtain ⟨σ', f1, f2, f3⟩ := ih (i + 1) k (mI (mI σ1 20 i (nI (sFt L i))) 19 i (nb b)) (by omega) (hL.R er) hm (by omega)
      exact ⟨σ', f1, er.tr f2, f3⟩
    by_cases h0 : sFt L i = 0
    · rw [if_pos (by rw [h0]; rfl), if_pos hi60, show vp_nar .boolean 1 = nb true from rfl, dzl, nI_1, dzl]
      exact fin true (by rw [decide_eq_true h0])
    · rw [if_neg (nI_ne0 (by omega) (by omega)), if_pos hi60, show vp_nar .boolean 0 = nb false from rfl, dzl, nI_1, dzl]
      exact fin false (by rw [decide_eq_false h0])
theorem ny_laysRight {K N : Nat} {L : Nat → sLn} {σ : pM} (hok : sOk N L) (hL : mLd σ N L) (hK : 2 ^ 50 ≤ K) : ∃ σ', fnX1_laysRight K σ = some σ' ∧ mEqR σ σ' ∧ mRt σ' L N := by
  have := hL.2.1
  exact ny_laysL K N L hok hK N 0 K σ (by omega) hL (fun k h => absurd h (Nat.not_lt_zero _)) (by omega)
