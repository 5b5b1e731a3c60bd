/-! the whole of it -/
theorem dv_le {f n : Nat} (h0 : 1 ≤ n) (h : n % f = 0) : f ≤ n := Nat.le_of_dvd h0 (Nat.dvd_of_mod_eq_zero h)
theorem wh2 {n f g : Nat} (hn : 2 ≤ n) (h : sWhole 2 n f g = true) : f ≤ n - 1 := dv_le (by omega) (of_decide_eq_true h)
theorem wh4 {n f g : Nat} (hn : 2 ≤ n) (h : sWhole 4 n f g = true) : f ≤ n - 1 ∧ g ≤ n + 1 := by
  have h : (n - 1) % f = 0 ∧ (n + 1) % g = 0 := of_decide_eq_true h
  exact ⟨dv_le (by omega) h.1, dv_le (by omega) h.2⟩
theorem zFl.o {ζ : pZ} {τ τ' : pH} {h al ea af laid ta taped ra da : Nat} {mc : Int32} {xs : List Nat} {nf ff : Nat → Nat} {before : Nat} (H : zFl ζ τ h al ea af laid ta taped ra da mc xs nf ff before) (hc : ζ.2.2.2 0 < ζ.1) : ea < τ.1 := by
  rcases H.2.1.2 with ⟨e, -⟩ | ⟨cap, f, a, -⟩
  · have := H.1.1; omega
  · exact a.1.2
theorem hl_fault_5 (K : Nat) (ζ : pZ) (τ : pH) (x n p q d db u ub h al ea af laid ta taped ra da : Nat) (mc : Int32) (xs : List Nat) (nf ff : Nat → Nat) (before : Nat) (das uas : List Nat) (dn up : List sR) (hζ : ζ.1 ≤ τ.1) (hc0 : ζ.2.2.2 0 < ζ.1) (H : zLx ζ τ 5 x 0 n p q d db u ub h das uas dn up) (hF : zFl ζ τ h al ea af laid ta taped ra da mc xs nf ff before) (hff : ∀ k, k < before → ff k ≤ 9) (hK : 2 ^ 50 ≤ K) : zR τ (fnX6_fault_5__0 K ζ x (nI before) τ) (fun v t => v = nI (sFault 0 n p q dn up nf ff before) ∧ zc5 τ t 40) := by
  have H0 := H
  obtain ⟨hL, ⟨hr, hw, hr2, hw2⟩, ok1, ok2, hn, hp, hq⟩ := H
  unfold fnX6_fault_5__0
  simp only [hL.ob, dzb, dzc, dzl, fl0, fl1, fl2, fl3, fl4, fl5, fl6, fl7, fi0, fi1, fi2, fi3, fi4, fi5, fi6, fi7, fr0, fr1, fr2, fr3, fr4, fr5, fr6, fr7, fs0, fs1, fs2, fs3, fs4, fs5, fs6, fs7]
  unfold sFault
  have z0 : ∀ {c}, zc5 τ τ c := fun {c} => zk.rfl.le (by omega) (by omega)
  by_cases hs0 : (0 : Nat) = 0
  · rw [if_pos hs0]
    refine zR_t (by revert hs0; decide) ?_
    by_cases h100 : n < 100
    · rw [if_pos h100]
      refine zR_f (fun q => by have := (pk_lLE (a := 100) (by omega) (by omega)).mp q; omega) ?_
      rw [nx_isPrime K n (by omega) (by omega), dzb]
      cases prB n with
      | false => exact zR_t rfl (zR_r ⟨rfl, z0⟩)
      | true => exact zR_f (by decide) (zR_r ⟨rfl, z0⟩)
    · rw [if_neg h100]
      exact zR_t ((pk_lLE (a := 100) (by omega) (by omega)).mpr (by omega)) (zR_r ⟨rfl, z0⟩)
  · rw [if_neg hs0]
    refine zR_f (by revert hs0; decide) ?_
    rw [show (2 : Int64) = lN 2 from rfl, pk_lRem (by omega) (by omega) (by omega)]
    by_cases h2 : n % 2 = 0
    · rw [if_pos h2]
      exact zR_t ((lN0 (by omega)).mpr h2) (zR_r ⟨rfl, z0⟩)
    · rw [if_neg h2]
      refine zR_f (fun q => h2 ((lN0 (by omega)).mp q)) ?_
      refine zR_cl (hl_isBacked_5 K ζ τ x 0 n p q d u h al ea af laid ta taped ra da mc xs nf ff before d db das dn hζ ok1 hff hL hF (hF.o (τ' := τ) hc0) hr hw (by omega)) (fun v t1 g1 P => ?_)
      obtain ⟨rfl, k1⟩ := P
      cases sBacked nf ff before dn with
      | false => exact zR_t rfl (zR_r ⟨rfl, k1.le (by omega) (by omega)⟩)
      | true =>
        refine zR_f (by decide) ?_
        rw [if_neg (show ¬ (!true) = true by decide)]
        have H1 := H0.k k1
        have hF1 := hF.k k1
        simp only [H1.1.ob, dzb, dzc, dzl, fl0, fl1, fl2, fl3, fl4, fl5, fl6, fl7, fi0, fi1, fi2, fi3, fi4, fi5, fi6, fi7, fr0, fr1, fr2, fr3, fr4, fr5, fr6, fr7, fs0, fs1, fs2, fs3, fs4, fs5, fs6, fs7]
        refine zR_cl (hl_isBacked_5 K ζ t1 x 0 n p q d u h al ea af laid ta taped ra da mc xs nf ff before u ub uas up (Nat.le_trans hζ g1.1) ok2 hff H1.1 hF1 (hF1.o (τ' := τ) hc0) H1.2.1.2.2.1 H1.2.1.2.2.2 (by omega)) (fun v t2 g2 P => ?_)
        obtain ⟨rfl, k2⟩ := P
        have k12 := zc5.tr k1 k2
        cases sBacked nf ff before up with
        | false => exact zR_t rfl (zR_r ⟨rfl, k12.le (by omega) (by omega)⟩)
        | true =>
          refine zR_f (by decide) ?_
          rw [if_neg (show ¬ (!true) = true by decide)]
          have H2 := H1.k k2
          have z2 : ζ.1 ≤ t2.1 := Nat.le_trans hζ (Nat.le_trans g1.1 g2.1)
          simp only [H2.1.ob, dzb, dzc, dzl, fl0, fl1, fl2, fl3, fl4, fl5, fl6, fl7, fi0, fi1, fi2, fi3, fi4, fi5, fi6, fi7, fr0, fr1, fr2, fr3, fr4, fr5, fr6, fr7, fs0, fs1, fs2, fs3, fs4, fs5, fs6, fs7]
          refine zR_cl (hl_isWhole_5 K ζ t2 x 0 n p q d db u ub h das uas dn up z2 (by omega) H2) (fun v t3 g3 P => ?_)
          obtain ⟨rfl, k3⟩ := P
          have k13 := zc5.tr k12 k3
          cases hwh : sWhole 0 n (sProd dn) (sProd up) with
          | false => exact zR_t rfl (zR_r ⟨rfl, k13.le (by omega) (by omega)⟩)
          | true =>
            refine zR_f (by decide) ?_
            rw [if_neg (show ¬ (!true) = true by decide)]
            have H3 := H2.k k3
            have z3 : ζ.1 ≤ t3.1 := Nat.le_trans z2 g3.1
            simp only [H3.1.ob, dzb, dzc, dzl, fl0, fl1, fl2, fl3, fl4, fl5, fl6, fl7, fi0, fi1, fi2, fi3, fi4, fi5, fi6, fi7, fr0, fr1, fr2, fr3, fr4, fr5, fr6, fr7, fs0, fs1, fs2, fs3, fs4, fs5, fs6, fs7]
            refine zR_cl (hl_isEnough_5 K ζ t3 x 0 n p q d db u ub h das uas dn up z3 (by omega) H3 hwh) (fun v t4 g4 P => ?_)
            obtain ⟨rfl, k4⟩ := P
            have k14 := zc5.tr k13 k4
            cases sEnough 0 n (sProd dn) (sProd up) with
            | false => exact zR_t rfl (zR_r ⟨rfl, k14.le (by omega) (by omega)⟩)
            | true =>
              refine zR_f (by decide) ?_
              rw [if_neg (show ¬ (!true) = true by decide)]
              have H4 := H3.k k4
              have z4 : ζ.1 ≤ t4.1 := Nat.le_trans z3 g4.1
              obtain ⟨f, hd, hdb, hl9, -, -⟩ := H4.2.1.1
              obtain ⟨f2, hu, hub, -, -, -⟩ := H4.2.1.2.2.1
              simp only [H4.1.ob, hd.ob, dzb, dzc, dzl, fl0, fl1, fl2, fl3, fl4, fl5, fl6, fl7, fi0, fi1, fi2, fi3, fi4, fi5, fi6, fi7, fr0, fr1, fr2, fr3, fr4, fr5, fr6, fr7, fs0, fs1, fs2, fs3, fs4, fs5, fs6, fs7]
              refine zR_cl (Q := fun v t => v = t4.1 ∧ t = znw t4 2 (itE 0 d)) (zR_eq (hr_iter K ζ t4 d z4) ⟨rfl, rfl⟩ ⟨Nat.le_succ _, Nat.le_add_right _ _⟩) ?_
              intro v t5 _ P
              obtain ⟨rfl, rfl⟩ := P
              have k5 : zk zno t4 (znw t4 2 (itE 0 d)) 1 2 := zk_nw
              refine zR_imp (hl_oneLoop_5 K ζ x 0 n p q d db u ub h t4.1 das uas dn up (by omega) (Nat.ne_of_gt hd.1.2) (Nat.ne_of_gt hdb.1.2) (zin_as_ne H4.2.1.2.1) (Nat.ne_of_gt H4.1.1.2) ⟨Nat.ne_of_gt hu.1.2, Nat.ne_of_gt hub.1.2, zin_as_ne H4.2.1.2.2.2⟩ hK das.length 0 K _ (by omega) (Nat.le_succ_of_le z4) (H4.k k5) (zin_nw z4) (by omega)) (fun v t _ P => ?_)
              rw [List.drop_zero] at P
              refine ⟨P.1, ?_⟩
              have k6 := k5.new (P.2.wk (fun a _ h => (Or.inr (by rw [h]; exact Nat.le_refl _) : zno a ∨ t4.1 ≤ a)))
              exact (zk.tr k14 k6).le (by omega) (by omega)
theorem hl_fault_6 (K : Nat) (ζ : pZ) (τ : pH) (x n p q d db u ub h al ea af laid ta taped ra da : Nat) (mc : Int32) (xs : List Nat) (nf ff : Nat → Nat) (before : Nat) (das uas : List Nat) (dn up : List sR) (hζ : ζ.1 ≤ τ.1) (hc0 : ζ.2.2.2 0 < ζ.1) (H : zLx ζ τ 6 x 1 n p q d db u ub h das uas dn up) (hF : zFl ζ τ h al ea af laid ta taped ra da mc xs nf ff before) (hff : ∀ k, k < before → ff k ≤ 9) (hK : 2 ^ 50 ≤ K) : zR τ (fnX6_fault_6__0 K ζ x (nI before) τ) (fun v t => v = nI (sFault 1 n p q dn up nf ff before) ∧ zc5 τ t 40) := by
  have H0 := H
  obtain ⟨hL, ⟨hr, hw, hr2, hw2⟩, ok1, ok2, hn, hp, hq⟩ := H
  unfold fnX6_fault_6__0
  simp only [hL.ob, dzb, dzc, dzl, fl0, fl1, fl2, fl3, fl4, fl5, fl6, fl7, fi0, fi1, fi2, fi3, fi4, fi5, fi6, fi7, fr0, fr1, fr2, fr3, fr4, fr5, fr6, fr7, fs0, fs1, fs2, fs3, fs4, fs5, fs6, fs7]
  unfold sFault
  have z0 : ∀ {c}, zc5 τ τ c := fun {c} => zk.rfl.le (by omega) (by omega)
  by_cases hs0 : (1 : Nat) = 0
  · rw [if_pos hs0]
    refine zR_t (by revert hs0; decide) ?_
    by_cases h100 : n < 100
    · rw [if_pos h100]
      refine zR_f (fun q => by have := (pk_lLE (a := 100) (by omega) (by omega)).mp q; omega) ?_
      rw [nx_isPrime K n (by omega) (by omega), dzb]
      cases prB n with
      | false => exact zR_t rfl (zR_r ⟨rfl, z0⟩)
      | true => exact zR_f (by decide) (zR_r ⟨rfl, z0⟩)
    · rw [if_neg h100]
      exact zR_t ((pk_lLE (a := 100) (by omega) (by omega)).mpr (by omega)) (zR_r ⟨rfl, z0⟩)
  · rw [if_neg hs0]
    refine zR_f (by revert hs0; decide) ?_
    rw [show (2 : Int64) = lN 2 from rfl, pk_lRem (by omega) (by omega) (by omega)]
    by_cases h2 : n % 2 = 0
    · rw [if_pos h2]
      exact zR_t ((lN0 (by omega)).mpr h2) (zR_r ⟨rfl, z0⟩)
    · rw [if_neg h2]
      refine zR_f (fun q => h2 ((lN0 (by omega)).mp q)) ?_
      refine zR_cl (hl_isBacked_6 K ζ τ x 1 n p q d u h al ea af laid ta taped ra da mc xs nf ff before d db das dn hζ ok1 hff hL hF (hF.o (τ' := τ) hc0) hr hw (by omega)) (fun v t1 g1 P => ?_)
      obtain ⟨rfl, k1⟩ := P
      cases sBacked nf ff before dn with
      | false => exact zR_t rfl (zR_r ⟨rfl, k1.le (by omega) (by omega)⟩)
      | true =>
        refine zR_f (by decide) ?_
        rw [if_neg (show ¬ (!true) = true by decide)]
        have H1 := H0.k k1
        have hF1 := hF.k k1
        simp only [H1.1.ob, dzb, dzc, dzl, fl0, fl1, fl2, fl3, fl4, fl5, fl6, fl7, fi0, fi1, fi2, fi3, fi4, fi5, fi6, fi7, fr0, fr1, fr2, fr3, fr4, fr5, fr6, fr7, fs0, fs1, fs2, fs3, fs4, fs5, fs6, fs7]
        refine zR_cl (hl_isBacked_6 K ζ t1 x 1 n p q d u h al ea af laid ta taped ra da mc xs nf ff before u ub uas up (Nat.le_trans hζ g1.1) ok2 hff H1.1 hF1 (hF1.o (τ' := τ) hc0) H1.2.1.2.2.1 H1.2.1.2.2.2 (by omega)) (fun v t2 g2 P => ?_)
        obtain ⟨rfl, k2⟩ := P
        have k12 := zc5.tr k1 k2
        cases sBacked nf ff before up with
        | false => exact zR_t rfl (zR_r ⟨rfl, k12.le (by omega) (by omega)⟩)
        | true =>
          refine zR_f (by decide) ?_
          rw [if_neg (show ¬ (!true) = true by decide)]
          have H2 := H1.k k2
          have z2 : ζ.1 ≤ t2.1 := Nat.le_trans hζ (Nat.le_trans g1.1 g2.1)
          simp only [H2.1.ob, dzb, dzc, dzl, fl0, fl1, fl2, fl3, fl4, fl5, fl6, fl7, fi0, fi1, fi2, fi3, fi4, fi5, fi6, fi7, fr0, fr1, fr2, fr3, fr4, fr5, fr6, fr7, fs0, fs1, fs2, fs3, fs4, fs5, fs6, fs7]
          refine zR_cl (hl_isWhole_6 K ζ t2 x 1 n p q d db u ub h das uas dn up z2 (by omega) H2) (fun v t3 g3 P => ?_)
          obtain ⟨rfl, k3⟩ := P
          have k13 := zc5.tr k12 k3
          cases hwh : sWhole 1 n (sProd dn) (sProd up) with
          | false => exact zR_t rfl (zR_r ⟨rfl, k13.le (by omega) (by omega)⟩)
          | true =>
            refine zR_f (by decide) ?_
            rw [if_neg (show ¬ (!true) = true by decide)]
            have H3 := H2.k k3
            have z3 : ζ.1 ≤ t3.1 := Nat.le_trans z2 g3.1
            simp only [H3.1.ob, dzb, dzc, dzl, fl0, fl1, fl2, fl3, fl4, fl5, fl6, fl7, fi0, fi1, fi2, fi3, fi4, fi5, fi6, fi7, fr0, fr1, fr2, fr3, fr4, fr5, fr6, fr7, fs0, fs1, fs2, fs3, fs4, fs5, fs6, fs7]
            refine zR_cl (hl_isEnough_6 K ζ t3 x 1 n p q d db u ub h das uas dn up z3 (by omega) H3 hwh) (fun v t4 g4 P => ?_)
            obtain ⟨rfl, k4⟩ := P
            have k14 := zc5.tr k13 k4
            cases sEnough 1 n (sProd dn) (sProd up) with
            | false => exact zR_t rfl (zR_r ⟨rfl, k14.le (by omega) (by omega)⟩)
            | true =>
              refine zR_f (by decide) ?_
              rw [if_neg (show ¬ (!true) = true by decide)]
              have H4 := H3.k k4
              have z4 : ζ.1 ≤ t4.1 := Nat.le_trans z3 g4.1
              obtain ⟨f, hd, hdb, hl9, -, -⟩ := H4.2.1.1
              obtain ⟨f2, hu, hub, -, -, -⟩ := H4.2.1.2.2.1
              simp only [H4.1.ob, hd.ob, dzb, dzc, dzl, fl0, fl1, fl2, fl3, fl4, fl5, fl6, fl7, fi0, fi1, fi2, fi3, fi4, fi5, fi6, fi7, fr0, fr1, fr2, fr3, fr4, fr5, fr6, fr7, fs0, fs1, fs2, fs3, fs4, fs5, fs6, fs7]
              refine zR_cl (Q := fun v t => v = t4.1 ∧ t = znw t4 2 (itE 0 d)) (zR_eq (hr_iter K ζ t4 d z4) ⟨rfl, rfl⟩ ⟨Nat.le_succ _, Nat.le_add_right _ _⟩) ?_
              intro v t5 _ P
              obtain ⟨rfl, rfl⟩ := P
              have k5 : zk zno t4 (znw t4 2 (itE 0 d)) 1 2 := zk_nw
              refine zR_imp (hl_oneLoop_6 K ζ x 1 n p q d db u ub h t4.1 das uas dn up (by omega) (Nat.ne_of_gt hd.1.2) (Nat.ne_of_gt hdb.1.2) (zin_as_ne H4.2.1.2.1) (Nat.ne_of_gt H4.1.1.2) ⟨Nat.ne_of_gt hu.1.2, Nat.ne_of_gt hub.1.2, zin_as_ne H4.2.1.2.2.2⟩ hK das.length 0 K _ (by omega) (Nat.le_succ_of_le z4) (H4.k k5) (zin_nw z4) (by omega)) (fun v t _ P => ?_)
              rw [List.drop_zero] at P
              refine ⟨P.1, ?_⟩
              have k6 := k5.new (P.2.wk (fun a _ h => (Or.inr (by rw [h]; exact Nat.le_refl _) : zno a ∨ t4.1 ≤ a)))
              exact (zk.tr k14 k6).le (by omega) (by omega)
theorem hl_fault_7 (K : Nat) (ζ : pZ) (τ : pH) (x n p q d db u ub h al ea af laid ta taped ra da : Nat) (mc : Int32) (xs : List Nat) (nf ff : Nat → Nat) (before : Nat) (das uas : List Nat) (dn up : List sR) (hζ : ζ.1 ≤ τ.1) (hc0 : ζ.2.2.2 0 < ζ.1) (H : zLx ζ τ 7 x 2 n p q d db u ub h das uas dn up) (hF : zFl ζ τ h al ea af laid ta taped ra da mc xs nf ff before) (hff : ∀ k, k < before → ff k ≤ 9) (hK : 2 ^ 50 ≤ K) : zR τ (fnX6_fault_7__0 K ζ x (nI before) τ) (fun v t => v = nI (sFault 2 n p q dn up nf ff before) ∧ zc5 τ t 40) := by
  have H0 := H
  obtain ⟨hL, ⟨hr, hw, hr2, hw2⟩, ok1, ok2, hn, hp, hq⟩ := H
  unfold fnX6_fault_7__0
  simp only [hL.ob, dzb, dzc, dzl, fl0, fl1, fl2, fl3, fl4, fl5, fl6, fl7, fi0, fi1, fi2, fi3, fi4, fi5, fi6, fi7, fr0, fr1, fr2, fr3, fr4, fr5, fr6, fr7, fs0, fs1, fs2, fs3, fs4, fs5, fs6, fs7]
  unfold sFault
  have z0 : ∀ {c}, zc5 τ τ c := fun {c} => zk.rfl.le (by omega) (by omega)
  by_cases hs0 : (2 : Nat) = 0
  · rw [if_pos hs0]
    refine zR_t (by revert hs0; decide) ?_
    by_cases h100 : n < 100
    · rw [if_pos h100]
      refine zR_f (fun q => by have := (pk_lLE (a := 100) (by omega) (by omega)).mp q; omega) ?_
      rw [nx_isPrime K n (by omega) (by omega), dzb]
      cases prB n with
      | false => exact zR_t rfl (zR_r ⟨rfl, z0⟩)
      | true => exact zR_f (by decide) (zR_r ⟨rfl, z0⟩)
    · rw [if_neg h100]
      exact zR_t ((pk_lLE (a := 100) (by omega) (by omega)).mpr (by omega)) (zR_r ⟨rfl, z0⟩)
  · rw [if_neg hs0]
    refine zR_f (by revert hs0; decide) ?_
    rw [show (2 : Int64) = lN 2 from rfl, pk_lRem (by omega) (by omega) (by omega)]
    by_cases h2 : n % 2 = 0
    · rw [if_pos h2]
      exact zR_t ((lN0 (by omega)).mpr h2) (zR_r ⟨rfl, z0⟩)
    · rw [if_neg h2]
      refine zR_f (fun q => h2 ((lN0 (by omega)).mp q)) ?_
      refine zR_cl (hl_isBacked_7 K ζ τ x 2 n p q d u h al ea af laid ta taped ra da mc xs nf ff before d db das dn hζ ok1 hff hL hF (hF.o (τ' := τ) hc0) hr hw (by omega)) (fun v t1 g1 P => ?_)
      obtain ⟨rfl, k1⟩ := P
      cases sBacked nf ff before dn with
      | false => exact zR_t rfl (zR_r ⟨rfl, k1.le (by omega) (by omega)⟩)
      | true =>
        refine zR_f (by decide) ?_
        rw [if_neg (show ¬ (!true) = true by decide)]
        have H1 := H0.k k1
        have hF1 := hF.k k1
        simp only [H1.1.ob, dzb, dzc, dzl, fl0, fl1, fl2, fl3, fl4, fl5, fl6, fl7, fi0, fi1, fi2, fi3, fi4, fi5, fi6, fi7, fr0, fr1, fr2, fr3, fr4, fr5, fr6, fr7, fs0, fs1, fs2, fs3, fs4, fs5, fs6, fs7]
        refine zR_cl (hl_isBacked_7 K ζ t1 x 2 n p q d u h al ea af laid ta taped ra da mc xs nf ff before u ub uas up (Nat.le_trans hζ g1.1) ok2 hff H1.1 hF1 (hF1.o (τ' := τ) hc0) H1.2.1.2.2.1 H1.2.1.2.2.2 (by omega)) (fun v t2 g2 P => ?_)
        obtain ⟨rfl, k2⟩ := P
        have k12 := zc5.tr k1 k2
        cases sBacked nf ff before up with
        | false => exact zR_t rfl (zR_r ⟨rfl, k12.le (by omega) (by omega)⟩)
        | true =>
          refine zR_f (by decide) ?_
          rw [if_neg (show ¬ (!true) = true by decide)]
          have H2 := H1.k k2
          have z2 : ζ.1 ≤ t2.1 := Nat.le_trans hζ (Nat.le_trans g1.1 g2.1)
          simp only [H2.1.ob, dzb, dzc, dzl, fl0, fl1, fl2, fl3, fl4, fl5, fl6, fl7, fi0, fi1, fi2, fi3, fi4, fi5, fi6, fi7, fr0, fr1, fr2, fr3, fr4, fr5, fr6, fr7, fs0, fs1, fs2, fs3, fs4, fs5, fs6, fs7]
          refine zR_cl (hl_isWhole_7 K ζ t2 x 2 n p q d db u ub h das uas dn up z2 (by omega) H2) (fun v t3 g3 P => ?_)
          obtain ⟨rfl, k3⟩ := P
          have k13 := zc5.tr k12 k3
          cases hwh : sWhole 2 n (sProd dn) (sProd up) with
          | false => exact zR_t rfl (zR_r ⟨rfl, k13.le (by omega) (by omega)⟩)
          | true =>
            refine zR_f (by decide) ?_
            rw [if_neg (show ¬ (!true) = true by decide)]
            have H3 := H2.k k3
            have z3 : ζ.1 ≤ t3.1 := Nat.le_trans z2 g3.1
            simp only [H3.1.ob, dzb, dzc, dzl, fl0, fl1, fl2, fl3, fl4, fl5, fl6, fl7, fi0, fi1, fi2, fi3, fi4, fi5, fi6, fi7, fr0, fr1, fr2, fr3, fr4, fr5, fr6, fr7, fs0, fs1, fs2, fs3, fs4, fs5, fs6, fs7]
            refine zR_cl (hl_isEnough_7 K ζ t3 x 2 n p q d db u ub h das uas dn up z3 (by omega) H3 (by have := wh2 hn.1 hwh; omega)) (fun v t4 g4 P => ?_)
            obtain ⟨rfl, k4⟩ := P
            have k14 := zc5.tr k13 k4
            cases sEnough 2 n (sProd dn) (sProd up) with
            | false => exact zR_t rfl (zR_r ⟨rfl, k14.le (by omega) (by omega)⟩)
            | true =>
              refine zR_f (by decide) ?_
              rw [if_neg (show ¬ (!true) = true by decide)]
              have H4 := H3.k k4
              have z4 : ζ.1 ≤ t4.1 := Nat.le_trans z3 g4.1
              obtain ⟨f, hd, hdb, hl9, -, -⟩ := H4.2.1.1
              obtain ⟨f2, hu, hub, -, -, -⟩ := H4.2.1.2.2.1
              simp only [H4.1.ob, hd.ob, dzb, dzc, dzl, fl0, fl1, fl2, fl3, fl4, fl5, fl6, fl7, fi0, fi1, fi2, fi3, fi4, fi5, fi6, fi7, fr0, fr1, fr2, fr3, fr4, fr5, fr6, fr7, fs0, fs1, fs2, fs3, fs4, fs5, fs6, fs7]
              refine zR_cl (Q := fun v t => v = t4.1 ∧ t = znw t4 2 (itE 0 d)) (zR_eq (hr_iter K ζ t4 d z4) ⟨rfl, rfl⟩ ⟨Nat.le_succ _, Nat.le_add_right _ _⟩) ?_
              intro v t5 _ P
              obtain ⟨rfl, rfl⟩ := P
              have k5 : zk zno t4 (znw t4 2 (itE 0 d)) 1 2 := zk_nw
              refine zR_imp (hl_oneLoop_7 K ζ x 2 n p q d db u ub h t4.1 das uas dn up (by omega) (Nat.ne_of_gt hd.1.2) (Nat.ne_of_gt hdb.1.2) (zin_as_ne H4.2.1.2.1) (Nat.ne_of_gt H4.1.1.2) ⟨Nat.ne_of_gt hu.1.2, Nat.ne_of_gt hub.1.2, zin_as_ne H4.2.1.2.2.2⟩ hK das.length 0 K _ (by omega) (Nat.le_succ_of_le z4) (H4.k k5) (zin_nw z4) (by omega)) (fun v t _ P => ?_)
              rw [List.drop_zero] at P
              refine ⟨P.1, ?_⟩
              have k6 := k5.new (P.2.wk (fun a _ h => (Or.inr (by rw [h]; exact Nat.le_refl _) : zno a ∨ t4.1 ≤ a)))
              exact (zk.tr k14 k6).le (by omega) (by omega)
theorem hl_fault_8 (K : Nat) (ζ : pZ) (τ : pH) (x n p q d db u ub h al ea af laid ta taped ra da : Nat) (mc : Int32) (xs : List Nat) (nf ff : Nat → Nat) (before : Nat) (das uas : List Nat) (dn up : List sR) (hζ : ζ.1 ≤ τ.1) (hc0 : ζ.2.2.2 0 < ζ.1) (H : zLx ζ τ 8 x 3 n p q d db u ub h das uas dn up) (hF : zFl ζ τ h al ea af laid ta taped ra da mc xs nf ff before) (hff : ∀ k, k < before → ff k ≤ 9) (hK : 2 ^ 50 ≤ K) : zR τ (fnX6_fault_8__0 K ζ x (nI before) τ) (fun v t => v = nI (sFault 3 n p q dn up nf ff before) ∧ zc5 τ t 40) := by
  have H0 := H
  obtain ⟨hL, ⟨hr, hw, hr2, hw2⟩, ok1, ok2, hn, hp, hq⟩ := H
  unfold fnX6_fault_8__0
  simp only [hL.ob, dzb, dzc, dzl, fl0, fl1, fl2, fl3, fl4, fl5, fl6, fl7, fi0, fi1, fi2, fi3, fi4, fi5, fi6, fi7, fr0, fr1, fr2, fr3, fr4, fr5, fr6, fr7, fs0, fs1, fs2, fs3, fs4, fs5, fs6, fs7]
  unfold sFault
  have z0 : ∀ {c}, zc5 τ τ c := fun {c} => zk.rfl.le (by omega) (by omega)
  by_cases hs0 : (3 : Nat) = 0
  · rw [if_pos hs0]
    refine zR_t (by revert hs0; decide) ?_
    by_cases h100 : n < 100
    · rw [if_pos h100]
      refine zR_f (fun q => by have := (pk_lLE (a := 100) (by omega) (by omega)).mp q; omega) ?_
      rw [nx_isPrime K n (by omega) (by omega), dzb]
      cases prB n with
      | false => exact zR_t rfl (zR_r ⟨rfl, z0⟩)
      | true => exact zR_f (by decide) (zR_r ⟨rfl, z0⟩)
    · rw [if_neg h100]
      exact zR_t ((pk_lLE (a := 100) (by omega) (by omega)).mpr (by omega)) (zR_r ⟨rfl, z0⟩)
  · rw [if_neg hs0]
    refine zR_f (by revert hs0; decide) ?_
    rw [show (2 : Int64) = lN 2 from rfl, pk_lRem (by omega) (by omega) (by omega)]
    by_cases h2 : n % 2 = 0
    · rw [if_pos h2]
      exact zR_t ((lN0 (by omega)).mpr h2) (zR_r ⟨rfl, z0⟩)
    · rw [if_neg h2]
      refine zR_f (fun q => h2 ((lN0 (by omega)).mp q)) ?_
      refine zR_cl (hl_isBacked_8 K ζ τ x 3 n p q d u h al ea af laid ta taped ra da mc xs nf ff before d db das dn hζ ok1 hff hL hF (hF.o (τ' := τ) hc0) hr hw (by omega)) (fun v t1 g1 P => ?_)
      obtain ⟨rfl, k1⟩ := P
      cases sBacked nf ff before dn with
      | false => exact zR_t rfl (zR_r ⟨rfl, k1.le (by omega) (by omega)⟩)
      | true =>
        refine zR_f (by decide) ?_
        rw [if_neg (show ¬ (!true) = true by decide)]
        have H1 := H0.k k1
        have hF1 := hF.k k1
        simp only [H1.1.ob, dzb, dzc, dzl, fl0, fl1, fl2, fl3, fl4, fl5, fl6, fl7, fi0, fi1, fi2, fi3, fi4, fi5, fi6, fi7, fr0, fr1, fr2, fr3, fr4, fr5, fr6, fr7, fs0, fs1, fs2, fs3, fs4, fs5, fs6, fs7]
        refine zR_cl (hl_isBacked_8 K ζ t1 x 3 n p q d u h al ea af laid ta taped ra da mc xs nf ff before u ub uas up (Nat.le_trans hζ g1.1) ok2 hff H1.1 hF1 (hF1.o (τ' := τ) hc0) H1.2.1.2.2.1 H1.2.1.2.2.2 (by omega)) (fun v t2 g2 P => ?_)
        obtain ⟨rfl, k2⟩ := P
        have k12 := zc5.tr k1 k2
        cases sBacked nf ff before up with
        | false => exact zR_t rfl (zR_r ⟨rfl, k12.le (by omega) (by omega)⟩)
        | true =>
          refine zR_f (by decide) ?_
          rw [if_neg (show ¬ (!true) = true by decide)]
          have H2 := H1.k k2
          have z2 : ζ.1 ≤ t2.1 := Nat.le_trans hζ (Nat.le_trans g1.1 g2.1)
          simp only [H2.1.ob, dzb, dzc, dzl, fl0, fl1, fl2, fl3, fl4, fl5, fl6, fl7, fi0, fi1, fi2, fi3, fi4, fi5, fi6, fi7, fr0, fr1, fr2, fr3, fr4, fr5, fr6, fr7, fs0, fs1, fs2, fs3, fs4, fs5, fs6, fs7]
          refine zR_cl (hl_isWhole_8 K ζ t2 x 3 n p q d db u ub h das uas dn up z2 (by omega) H2) (fun v t3 g3 P => ?_)
          obtain ⟨rfl, k3⟩ := P
          have k13 := zc5.tr k12 k3
          cases hwh : sWhole 3 n (sProd dn) (sProd up) with
          | false => exact zR_t rfl (zR_r ⟨rfl, k13.le (by omega) (by omega)⟩)
          | true =>
            refine zR_f (by decide) ?_
            rw [if_neg (show ¬ (!true) = true by decide)]
            have H3 := H2.k k3
            have z3 : ζ.1 ≤ t3.1 := Nat.le_trans z2 g3.1
            simp only [H3.1.ob, dzb, dzc, dzl, fl0, fl1, fl2, fl3, fl4, fl5, fl6, fl7, fi0, fi1, fi2, fi3, fi4, fi5, fi6, fi7, fr0, fr1, fr2, fr3, fr4, fr5, fr6, fr7, fs0, fs1, fs2, fs3, fs4, fs5, fs6, fs7]
            refine zR_cl (hl_isEnough_8 K ζ t3 x 3 n p q d db u ub h das uas dn up z3 (by omega) H3 hwh) (fun v t4 g4 P => ?_)
            obtain ⟨rfl, k4⟩ := P
            have k14 := zc5.tr k13 k4
            cases sEnough 3 n (sProd dn) (sProd up) with
            | false => exact zR_t rfl (zR_r ⟨rfl, k14.le (by omega) (by omega)⟩)
            | true =>
              refine zR_f (by decide) ?_
              rw [if_neg (show ¬ (!true) = true by decide)]
              have H4 := H3.k k4
              have z4 : ζ.1 ≤ t4.1 := Nat.le_trans z3 g4.1
              obtain ⟨f, hd, hdb, hl9, -, -⟩ := H4.2.1.1
              obtain ⟨f2, hu, hub, -, -, -⟩ := H4.2.1.2.2.1
              simp only [H4.1.ob, hd.ob, dzb, dzc, dzl, fl0, fl1, fl2, fl3, fl4, fl5, fl6, fl7, fi0, fi1, fi2, fi3, fi4, fi5, fi6, fi7, fr0, fr1, fr2, fr3, fr4, fr5, fr6, fr7, fs0, fs1, fs2, fs3, fs4, fs5, fs6, fs7]
              refine zR_cl (Q := fun v t => v = t4.1 ∧ t = znw t4 2 (itE 0 d)) (zR_eq (hr_iter K ζ t4 d z4) ⟨rfl, rfl⟩ ⟨Nat.le_succ _, Nat.le_add_right _ _⟩) ?_
              intro v t5 _ P
              obtain ⟨rfl, rfl⟩ := P
              have k5 : zk zno t4 (znw t4 2 (itE 0 d)) 1 2 := zk_nw
              refine zR_imp (hl_oneLoop_8 K ζ x 3 n p q d db u ub h t4.1 das uas dn up (by omega) (Nat.ne_of_gt hd.1.2) (Nat.ne_of_gt hdb.1.2) (zin_as_ne H4.2.1.2.1) (Nat.ne_of_gt H4.1.1.2) ⟨Nat.ne_of_gt hu.1.2, Nat.ne_of_gt hub.1.2, zin_as_ne H4.2.1.2.2.2⟩ hK das.length 0 K _ (by omega) (Nat.le_succ_of_le z4) (H4.k k5) (zin_nw z4) (by omega)) (fun v t _ P => ?_)
              rw [List.drop_zero] at P
              refine ⟨P.1, ?_⟩
              have k6 := k5.new (P.2.wk (fun a _ h => (Or.inr (by rw [h]; exact Nat.le_refl _) : zno a ∨ t4.1 ≤ a)))
              exact (zk.tr k14 k6).le (by omega) (by omega)
theorem hl_fault_9 (K : Nat) (ζ : pZ) (τ : pH) (x n p q d db u ub h al ea af laid ta taped ra da : Nat) (mc : Int32) (xs : List Nat) (nf ff : Nat → Nat) (before : Nat) (das uas : List Nat) (dn up : List sR) (hζ : ζ.1 ≤ τ.1) (hc0 : ζ.2.2.2 0 < ζ.1) (H : zLx ζ τ 9 x 4 n p q d db u ub h das uas dn up) (hF : zFl ζ τ h al ea af laid ta taped ra da mc xs nf ff before) (hff : ∀ k, k < before → ff k ≤ 9) (hK : 2 ^ 50 ≤ K) : zR τ (fnX6_fault_9__0 K ζ x (nI before) τ) (fun v t => v = nI (sFault 4 n p q dn up nf ff before) ∧ zc5 τ t 40) := by
  have H0 := H
  obtain ⟨hL, ⟨hr, hw, hr2, hw2⟩, ok1, ok2, hn, hp, hq⟩ := H
  unfold fnX6_fault_9__0
  simp only [hL.ob, dzb, dzc, dzl, fl0, fl1, fl2, fl3, fl4, fl5, fl6, fl7, fi0, fi1, fi2, fi3, fi4, fi5, fi6, fi7, fr0, fr1, fr2, fr3, fr4, fr5, fr6, fr7, fs0, fs1, fs2, fs3, fs4, fs5, fs6, fs7]
  unfold sFault
  have z0 : ∀ {c}, zc5 τ τ c := fun {c} => zk.rfl.le (by omega) (by omega)
  by_cases hs0 : (4 : Nat) = 0
  · rw [if_pos hs0]
    refine zR_t (by revert hs0; decide) ?_
    by_cases h100 : n < 100
    · rw [if_pos h100]
      refine zR_f (fun q => by have := (pk_lLE (a := 100) (by omega) (by omega)).mp q; omega) ?_
      rw [nx_isPrime K n (by omega) (by omega), dzb]
      cases prB n with
      | false => exact zR_t rfl (zR_r ⟨rfl, z0⟩)
      | true => exact zR_f (by decide) (zR_r ⟨rfl, z0⟩)
    · rw [if_neg h100]
      exact zR_t ((pk_lLE (a := 100) (by omega) (by omega)).mpr (by omega)) (zR_r ⟨rfl, z0⟩)
  · rw [if_neg hs0]
    refine zR_f (by revert hs0; decide) ?_
    rw [show (2 : Int64) = lN 2 from rfl, pk_lRem (by omega) (by omega) (by omega)]
    by_cases h2 : n % 2 = 0
    · rw [if_pos h2]
      exact zR_t ((lN0 (by omega)).mpr h2) (zR_r ⟨rfl, z0⟩)
    · rw [if_neg h2]
      refine zR_f (fun q => h2 ((lN0 (by omega)).mp q)) ?_
      refine zR_cl (hl_isBacked_9 K ζ τ x 4 n p q d u h al ea af laid ta taped ra da mc xs nf ff before d db das dn hζ ok1 hff hL hF (hF.o (τ' := τ) hc0) hr hw (by omega)) (fun v t1 g1 P => ?_)
      obtain ⟨rfl, k1⟩ := P
      cases sBacked nf ff before dn with
      | false => exact zR_t rfl (zR_r ⟨rfl, k1.le (by omega) (by omega)⟩)
      | true =>
        refine zR_f (by decide) ?_
        rw [if_neg (show ¬ (!true) = true by decide)]
        have H1 := H0.k k1
        have hF1 := hF.k k1
        simp only [H1.1.ob, dzb, dzc, dzl, fl0, fl1, fl2, fl3, fl4, fl5, fl6, fl7, fi0, fi1, fi2, fi3, fi4, fi5, fi6, fi7, fr0, fr1, fr2, fr3, fr4, fr5, fr6, fr7, fs0, fs1, fs2, fs3, fs4, fs5, fs6, fs7]
        refine zR_cl (hl_isBacked_9 K ζ t1 x 4 n p q d u h al ea af laid ta taped ra da mc xs nf ff before u ub uas up (Nat.le_trans hζ g1.1) ok2 hff H1.1 hF1 (hF1.o (τ' := τ) hc0) H1.2.1.2.2.1 H1.2.1.2.2.2 (by omega)) (fun v t2 g2 P => ?_)
        obtain ⟨rfl, k2⟩ := P
        have k12 := zc5.tr k1 k2
        cases sBacked nf ff before up with
        | false => exact zR_t rfl (zR_r ⟨rfl, k12.le (by omega) (by omega)⟩)
        | true =>
          refine zR_f (by decide) ?_
          rw [if_neg (show ¬ (!true) = true by decide)]
          have H2 := H1.k k2
          have z2 : ζ.1 ≤ t2.1 := Nat.le_trans hζ (Nat.le_trans g1.1 g2.1)
          simp only [H2.1.ob, dzb, dzc, dzl, fl0, fl1, fl2, fl3, fl4, fl5, fl6, fl7, fi0, fi1, fi2, fi3, fi4, fi5, fi6, fi7, fr0, fr1, fr2, fr3, fr4, fr5, fr6, fr7, fs0, fs1, fs2, fs3, fs4, fs5, fs6, fs7]
          refine zR_cl (hl_isWhole_9 K ζ t2 x 4 n p q d db u ub h das uas dn up z2 (by omega) H2) (fun v t3 g3 P => ?_)
          obtain ⟨rfl, k3⟩ := P
          have k13 := zc5.tr k12 k3
          cases hwh : sWhole 4 n (sProd dn) (sProd up) with
          | false => exact zR_t rfl (zR_r ⟨rfl, k13.le (by omega) (by omega)⟩)
          | true =>
            refine zR_f (by decide) ?_
            rw [if_neg (show ¬ (!true) = true by decide)]
            have H3 := H2.k k3
            have z3 : ζ.1 ≤ t3.1 := Nat.le_trans z2 g3.1
            simp only [H3.1.ob, dzb, dzc, dzl, fl0, fl1, fl2, fl3, fl4, fl5, fl6, fl7, fi0, fi1, fi2, fi3, fi4, fi5, fi6, fi7, fr0, fr1, fr2, fr3, fr4, fr5, fr6, fr7, fs0, fs1, fs2, fs3, fs4, fs5, fs6, fs7]
            refine zR_cl (hl_isEnough_9 K ζ t3 x 4 n p q d db u ub h das uas dn up z3 (by omega) H3 (by have := wh4 hn.1 hwh; omega) (by have := wh4 hn.1 hwh; omega)) (fun v t4 g4 P => ?_)
            obtain ⟨rfl, k4⟩ := P
            have k14 := zc5.tr k13 k4
            cases sEnough 4 n (sProd dn) (sProd up) with
            | false => exact zR_t rfl (zR_r ⟨rfl, k14.le (by omega) (by omega)⟩)
            | true =>
              refine zR_f (by decide) ?_
              rw [if_neg (show ¬ (!true) = true by decide)]
              have H4 := H3.k k4
              have z4 : ζ.1 ≤ t4.1 := Nat.le_trans z3 g4.1
              obtain ⟨f, hd, hdb, hl9, -, -⟩ := H4.2.1.1
              obtain ⟨f2, hu, hub, -, -, -⟩ := H4.2.1.2.2.1
              simp only [H4.1.ob, hd.ob, dzb, dzc, dzl, fl0, fl1, fl2, fl3, fl4, fl5, fl6, fl7, fi0, fi1, fi2, fi3, fi4, fi5, fi6, fi7, fr0, fr1, fr2, fr3, fr4, fr5, fr6, fr7, fs0, fs1, fs2, fs3, fs4, fs5, fs6, fs7]
              refine zR_cl (Q := fun v t => v = t4.1 ∧ t = znw t4 2 (itE 0 d)) (zR_eq (hr_iter K ζ t4 d z4) ⟨rfl, rfl⟩ ⟨Nat.le_succ _, Nat.le_add_right _ _⟩) ?_
              intro v t5 _ P
              obtain ⟨rfl, rfl⟩ := P
              have k5 : zk zno t4 (znw t4 2 (itE 0 d)) 1 2 := zk_nw
              refine zR_imp (hl_oneLoop_9 K ζ x 4 n p q d db u ub h t4.1 das uas dn up (by omega) (Nat.ne_of_gt hd.1.2) (Nat.ne_of_gt hdb.1.2) (zin_as_ne H4.2.1.2.1) (Nat.ne_of_gt H4.1.1.2) ⟨Nat.ne_of_gt hu.1.2, Nat.ne_of_gt hub.1.2, zin_as_ne H4.2.1.2.2.2⟩ hK das.length 0 K _ (by omega) (Nat.le_succ_of_le z4) (H4.k k5) (zin_nw z4) (by omega)) (fun v t _ P => ?_)
              rw [List.drop_zero] at P
              refine ⟨P.1, ?_⟩
              have k6 := k5.new (P.2.wk (fun a _ h => (Or.inr (by rw [h]; exact Nat.le_refl _) : zno a ∨ t4.1 ≤ a)))
              exact (zk.tr k14 k6).le (by omega) (by omega)
