/-! what is wrong with a line first -/
noncomputable def sFault (s n p q : Nat) (dn up : List sR) (nf ff : Nat → Nat) (before : Nat) : Nat :=
  if s = 0 then (if n < 100 then (if prB n then 0 else 1) else 1) else if n % 2 = 0 then 1 else if !sBacked nf ff before dn then 2 else if !sBacked nf ff before up then 2 else if !sWhole s n (sProd dn) (sProd up) then 3 else if !sEnough s n (sProd dn) (sProd up) then 4 else if !dn.all (sOne n) then 5 else if !dn.all (sFar n) then 6 else if s = 3 ∨ s = 4 then sPairF n p q up else 0
theorem sCnt_le (f : sR → Bool) : ∀ rs, sCnt f rs ≤ rs.length := by
  intro rs
  induction rs with
  | nil => exact Nat.le_refl _
  | cons r rs ih =>
    show 1 + (if f r then sCnt f rs else 0) ≤ rs.length + 1
    by_cases h : f r = true
    · rw [if_pos h]; omega
    · rw [if_neg h]; omega
theorem sPairC_le (n p q : Nat) (up : List sR) : sPairC n p q up ≤ 2 + up.length := by
  have := sCnt_le (sSeq n p q) up
  unfold sPairC
  split
  · split
    · split <;> omega
    · omega
  · omega
theorem sPairF_le (n p q : Nat) (up : List sR) : sPairF n p q up ≤ 9 := by
  unfold sPairF
  split
  · split
    · split
      · split <;> omega
      · omega
    · omega
  · omega
theorem nI3 {s : Nat} (h : s < 2 ^ 31) : nI s = 3 ↔ s = 3 := by rw [show (3 : Int32) = nI 3 from rfl, nI_eq h (by omega)]
theorem nI4 {s : Nat} (h : s < 2 ^ 31) : nI s = 4 ↔ s = 4 := by rw [show (4 : Int32) = nI 4 from rfl, nI_eq h (by omega)]
theorem nb_ne0 {b : Bool} (h : b = true) : ¬ nb b = 0 := by rw [h]; decide
theorem hl_hasPair_5 (K : Nat) (ζ : pZ) (τ : pH) (x s n p q d u h : Nat) (hL : zin ζ τ x (lnE 5 s n p q d u h)) (hs : s ≤ 4) (hK : 1 ≤ K) : fnX6_hasPair_5 K ζ x τ = some (nb (decide (s = 3 ∨ s = 4)), τ) := by
  obtain ⟨k, rfl⟩ : ∃ j, K = j + 1 := ⟨K - 1, by omega⟩
  unfold fnX6_hasPair_5
  simp only [hL.ob, dzb, dzc, dzl, fl0, fl1, fl2, fl3, fl4, fl5, fl6, fl7, fi0, fi1, fi2, fi3, fi4, fi5, fi6, fi7, fr0, fr1, fr2, fr3, fr4, fr5, fr6, fr7, fs0, fs1, fs2, fs3, fs4, fs5, fs6, fs7]
  rw [luX6_hasPair_5_1]
  by_cases h3 : s = 3
  · rw [if_pos ((nI3 (by omega)).mpr h3), decide_eq_true (Or.inl h3)]; rfl
  · rw [if_neg (fun e => h3 ((nI3 (by omega)).mp e))]
    by_cases h4 : s = 4
    · rw [if_pos ((nI4 (by omega)).mpr h4), decide_eq_true (Or.inr h4)]; rfl
    · rw [if_neg (fun e => h4 ((nI4 (by omega)).mp e)), decide_eq_false (fun e => e.elim h3 h4)]; rfl
theorem hl_farLoop_5 (K : Nat) (ζ : pZ) (x s n p q d db u ub h it : Nat) (das uas : List Nat) (dn up : List sR) (hs : s ≤ 4) (h1 : it ≠ d) (h2 : it ≠ db) (h3 : it ∉ das) (h4 : it ≠ x) (h5 : it ≠ u ∧ it ≠ ub ∧ it ∉ uas) (hK : 2 ^ 50 ≤ K) : ∀ m i kk τ, i + m = das.length → ζ.1 ≤ τ.1 → zLx ζ τ 5 x s n p q d db u ub h das uas dn up → zin ζ τ it (itE i d) → m + 1 ≤ kk →
    zR τ ((lfX6_fault_5__0 K ζ kk).2 x it τ) (fun v t => v = nI (if !(dn.drop i).all (sFar n) then 6 else if s = 3 ∨ s = 4 then sPairF n p q up else 0) ∧ zk (fun a => a = it) τ t (m + 11) (5 * (m + 11))) := by
  intro m
  induction m with
  | zero =>
    intro i kk τ hi hζ H hit hk
    obtain ⟨hL, ⟨hr, hw, hr2, hw2⟩, ok1, ok2, hn, hp, hq⟩ := H
    obtain ⟨k, rfl⟩ : ∃ j, kk = j + 1 := ⟨kk - 1, by omega⟩
    rw [luX6_fault_5__0_2]
    refine zR_each K ζ τ it i d db das _ _ _ hit hr h1 h2 (by omega) (fun _ => ?_) (fun h => absurd h (by omega))
    rw [List.drop_eq_nil_of_le (by rw [← hw.1]; omega)]
    refine zR_b hL.ob (zR_cl (Q := fun v t => v = nb (decide (s = 3 ∨ s = 4)) ∧ t = τ) (zR_eq (hl_hasPair_5 K ζ τ x s n p q d u h hL hs (by omega)) ⟨rfl, rfl⟩ zge.rfl) ?_)
    intro v t _ P
    obtain ⟨rfl, rfl⟩ := P
    have hl9 : uas.length ≤ 9 := by obtain ⟨f, -, -, g, -⟩ := hr2; exact g
    have hc := sPairC_le n p q up
    have hlw := hw2.1
    by_cases h34 : s = 3 ∨ s = 4
    · refine zR_f (nb_ne0 (decide_eq_true h34)) (zR_b hL.ob (zR_cl (hl_pairFault_5 K ζ t x s n p q d u h ub uas up hζ hL hr2 hw2 (by omega) hp hq ok2 hK) (fun v t' _ P => zR_r ?_)))
      refine ⟨?_, (zk.wk P.2 (fun _ _ h => h.elim)).le (by omega) (by omega)⟩
      rw [P.1]
      show _ = nI (if !([] : List sR).all (sFar n) then 6 else _)
      rw [List.all_nil, if_neg (by decide), if_pos h34]
    · refine zR_t (by rw [decide_eq_false h34]; rfl) (zR_r ⟨?_, zk.rfl.le (by omega) (by omega)⟩)
      show _ = nI (if !([] : List sR).all (sFar n) then 6 else _)
      rw [List.all_nil, if_neg (by decide), if_neg h34]; rfl
  | succ m ih =>
    intro i kk τ hi hζ H hit hk
    have H0 := H
    obtain ⟨hL, ⟨hr, hw, hr2, hw2⟩, ok1, ok2, hn, hp, hq⟩ := H
    obtain ⟨k, rfl⟩ : ∃ j, kk = j + 1 := ⟨kk - 1, by omega⟩
    rw [luX6_fault_5__0_2]
    refine zR_each K ζ τ it i d db das _ _ _ hit hr h1 h2 (by omega) (fun h => absurd h (by omega)) (fun hil => ?_)
    have hlr : i < dn.length := by rw [← hw.1]; exact hil
    have k0 : zk (fun a => a = it) τ (zst τ it (itE (i + 1) d)) 0 0 := zk_st rfl
    have hrow := k0.in (hw.2 i hil hlr) (fun e => h3 (e ▸ List.getElem_mem hil))
    have hL0 := k0.in hL (Ne.symm h4)
    have ok := ok1 _ (List.getElem_mem hlr)
    refine zR_b hrow.ob (zR_b hL0.ob (zR_cl (hl_isFar_5 K ζ (zst τ it (itE (i + 1) d)) x s n p q d u h das[i] dn[i] hζ hL0 hrow (by omega) ok.2.2 (by have := ok.1; omega) (by omega)) (fun v t g P => ?_)))
    obtain ⟨rfl, k1⟩ := P
    have ka : zk (fun a => a = it) τ t (0 + 1) (0 + 5 * 1) := k0.tr (zk.wk k1 (fun _ _ h => h.elim))
    rw [List.drop_eq_getElem_cons hlr, List.all_cons]
    cases hc : sFar n dn[i] with
    | false =>
      exact zR_t rfl (zR_r ⟨rfl, ka.le (by omega) (by omega)⟩)
    | true =>
      refine zR_f (by decide) ?_
      rw [Bool.true_and]
      have H1 : zLx ζ t 5 x s n p q d db u ub h das uas dn up := zLx.k ⟨hL0, ⟨hr.k k0 (Ne.symm h1) (Ne.symm h2), hw.k k0 (fun a ha e => h3 (e ▸ ha)), hr2.k k0 (Ne.symm h5.1) (Ne.symm h5.2.1), hw2.k k0 (fun a ha e => h5.2.2 (e ▸ ha))⟩, H0.2.2⟩ k1
      exact zR_imp (ih (i + 1) k t (by omega) (Nat.le_trans hζ g.1) H1 (zk.i k1 (zin_st hit.1)) (by omega)) (fun v t' _ P => ⟨P.1, (ka.tr P.2).le (by omega) (by omega)⟩)
theorem hl_oneLoop_5 (K : Nat) (ζ : pZ) (x s n p q d db u ub h it : Nat) (das uas : List Nat) (dn up : List sR) (hs : s ≤ 4) (h1 : it ≠ d) (h2 : it ≠ db) (h3 : it ∉ das) (h4 : it ≠ x) (h5 : it ≠ u ∧ it ≠ ub ∧ it ∉ uas) (hK : 2 ^ 50 ≤ K) : ∀ m i kk τ, i + m = das.length → ζ.1 ≤ τ.1 → zLx ζ τ 5 x s n p q d db u ub h das uas dn up → zin ζ τ it (itE i d) → m + 20 ≤ kk →
    zR τ ((lfX6_fault_5__0 K ζ kk).1 x it τ) (fun v t => v = nI (if !(dn.drop i).all (sOne n) then 5 else if !dn.all (sFar n) then 6 else if s = 3 ∨ s = 4 then sPairF n p q up else 0) ∧ zk (fun a => a = it) τ t (m + 21) (5 * (m + 21))) := by
  intro m
  induction m with
  | zero =>
    intro i kk τ hi hζ H hit hk
    have H0 := H
    obtain ⟨hL, ⟨hr, hw, hr2, hw2⟩, ok1, ok2, hn, hp, hq⟩ := H
    obtain ⟨k, rfl⟩ : ∃ j, kk = j + 1 := ⟨kk - 1, by omega⟩
    rw [luX6_fault_5__0_1]
    refine zR_each K ζ τ it i d db das _ _ _ hit hr h1 h2 (by omega) (fun _ => ?_) (fun h => absurd h (by omega))
    have hr0 := hr
    obtain ⟨f, hd, hdb, hl9, -, -⟩ := hr
    simp only [hL.ob, dzb, dzc, dzl, fl0, fl1, fl2, fl3, fl4, fl5, fl6, fl7, fi0, fi1, fi2, fi3, fi4, fi5, fi6, fi7, fr0, fr1, fr2, fr3, fr4, fr5, fr6, fr7, fs0, fs1, fs2, fs3, fs4, fs5, fs6, fs7]
    refine zR_b hd.ob (zR_cl (Q := fun v t => v = τ.1 ∧ t = znw τ 2 (itE 0 d)) (zR_eq (hr_iter K ζ τ d hζ) ⟨rfl, rfl⟩ ⟨Nat.le_succ _, Nat.le_add_right _ _⟩) ?_)
    intro v t _ P
    obtain ⟨rfl, rfl⟩ := P
    have k1 : zk zno τ (znw τ 2 (itE 0 d)) 1 2 := zk_nw
    obtain ⟨f2, hu, hub, -, -, -⟩ := hr2
    refine zR_imp (hl_farLoop_5 K ζ x s n p q d db u ub h τ.1 das uas dn up hs (Nat.ne_of_gt hd.1.2) (Nat.ne_of_gt hdb.1.2) (zin_as_ne hw) (Nat.ne_of_gt hL.1.2) ⟨Nat.ne_of_gt hu.1.2, Nat.ne_of_gt hub.1.2, zin_as_ne hw2⟩ hK das.length 0 k _ (by omega) (Nat.le_succ_of_le hζ) (H0.k k1) (zin_nw hζ) (by omega)) (fun v t _ P => ?_)
    rw [List.drop_zero] at P
    refine ⟨?_, ?_⟩
    · rw [P.1, List.drop_eq_nil_of_le (by rw [← hw.1]; omega)]; rfl
    · exact (zk.wk (k1.new (P.2.wk (fun a _ h => (Or.inr (by rw [h]; exact Nat.le_refl _) : zno a ∨ τ.1 ≤ a)))) (fun _ _ h => h.elim)).le (by omega) (by omega)
  | succ m ih =>
    intro i kk τ hi hζ H hit hk
    have H0 := H
    obtain ⟨hL, ⟨hr, hw, hr2, hw2⟩, ok1, ok2, hn, hp, hq⟩ := H
    obtain ⟨k, rfl⟩ : ∃ j, kk = j + 1 := ⟨kk - 1, by omega⟩
    rw [luX6_fault_5__0_1]
    refine zR_each K ζ τ it i d db das _ _ _ hit hr h1 h2 (by omega) (fun h => absurd h (by omega)) (fun hil => ?_)
    have hlr : i < dn.length := by rw [← hw.1]; exact hil
    have k0 : zk (fun a => a = it) τ (zst τ it (itE (i + 1) d)) 0 0 := zk_st rfl
    have hrow := k0.in (hw.2 i hil hlr) (fun e => h3 (e ▸ List.getElem_mem hil))
    have hL0 := k0.in hL (Ne.symm h4)
    have ok := ok1 _ (List.getElem_mem hlr)
    refine zR_b hrow.ob (zR_b hL0.ob (zR_cl (hl_isOne_5 K ζ (zst τ it (itE (i + 1) d)) x s n p q d u h das[i] dn[i] hζ hL0 hrow (by omega) ok.2.2 (by omega)) (fun v t g P => ?_)))
    obtain ⟨rfl, k1⟩ := P
    have ka : zk (fun a => a = it) τ t (0 + 1) (0 + 5 * 1) := k0.tr (zk.wk k1 (fun _ _ h => h.elim))
    rw [List.drop_eq_getElem_cons hlr, List.all_cons]
    cases hc : sOne n dn[i] with
    | false =>
      exact zR_t rfl (zR_r ⟨rfl, ka.le (by omega) (by omega)⟩)
    | true =>
      refine zR_f (by decide) ?_
      rw [Bool.true_and]
      have H1 : zLx ζ t 5 x s n p q d db u ub h das uas dn up := zLx.k ⟨hL0, ⟨hr.k k0 (Ne.symm h1) (Ne.symm h2), hw.k k0 (fun a ha e => h3 (e ▸ ha)), hr2.k k0 (Ne.symm h5.1) (Ne.symm h5.2.1), hw2.k k0 (fun a ha e => h5.2.2 (e ▸ ha))⟩, H0.2.2⟩ k1
      exact zR_imp (ih (i + 1) k t (by omega) (Nat.le_trans hζ g.1) H1 (zk.i k1 (zin_st hit.1)) (by omega)) (fun v t' _ P => ⟨P.1, (ka.tr P.2).le (by omega) (by omega)⟩)
theorem hl_hasPair_6 (K : Nat) (ζ : pZ) (τ : pH) (x s n p q d u h : Nat) (hL : zin ζ τ x (lnE 6 s n p q d u h)) (hs : s ≤ 4) (hK : 1 ≤ K) : fnX6_hasPair_6 K ζ x τ = some (nb (decide (s = 3 ∨ s = 4)), τ) := by
  obtain ⟨k, rfl⟩ : ∃ j, K = j + 1 := ⟨K - 1, by omega⟩
  unfold fnX6_hasPair_6
  simp only [hL.ob, dzb, dzc, dzl, fl0, fl1, fl2, fl3, fl4, fl5, fl6, fl7, fi0, fi1, fi2, fi3, fi4, fi5, fi6, fi7, fr0, fr1, fr2, fr3, fr4, fr5, fr6, fr7, fs0, fs1, fs2, fs3, fs4, fs5, fs6, fs7]
  rw [luX6_hasPair_6_1]
  by_cases h3 : s = 3
  · rw [if_pos ((nI3 (by omega)).mpr h3), decide_eq_true (Or.inl h3)]; rfl
  · rw [if_neg (fun e => h3 ((nI3 (by omega)).mp e))]
    by_cases h4 : s = 4
    · rw [if_pos ((nI4 (by omega)).mpr h4), decide_eq_true (Or.inr h4)]; rfl
    · rw [if_neg (fun e => h4 ((nI4 (by omega)).mp e)), decide_eq_false (fun e => e.elim h3 h4)]; rfl
theorem hl_farLoop_6 (K : Nat) (ζ : pZ) (x s n p q d db u ub h it : Nat) (das uas : List Nat) (dn up : List sR) (hs : s ≤ 4) (h1 : it ≠ d) (h2 : it ≠ db) (h3 : it ∉ das) (h4 : it ≠ x) (h5 : it ≠ u ∧ it ≠ ub ∧ it ∉ uas) (hK : 2 ^ 50 ≤ K) : ∀ m i kk τ, i + m = das.length → ζ.1 ≤ τ.1 → zLx ζ τ 6 x s n p q d db u ub h das uas dn up → zin ζ τ it (itE i d) → m + 1 ≤ kk →
    zR τ ((lfX6_fault_6__0 K ζ kk).2 x it τ) (fun v t => v = nI (if !(dn.drop i).all (sFar n) then 6 else if s = 3 ∨ s = 4 then sPairF n p q up else 0) ∧ zk (fun a => a = it) τ t (m + 11) (5 * (m + 11))) := by
  intro m
  induction m with
  | zero =>
    intro i kk τ hi hζ H hit hk
    obtain ⟨hL, ⟨hr, hw, hr2, hw2⟩, ok1, ok2, hn, hp, hq⟩ := H
    obtain ⟨k, rfl⟩ : ∃ j, kk = j + 1 := ⟨kk - 1, by omega⟩
    rw [luX6_fault_6__0_2]
    refine zR_each K ζ τ it i d db das _ _ _ hit hr h1 h2 (by omega) (fun _ => ?_) (fun h => absurd h (by omega))
    rw [List.drop_eq_nil_of_le (by rw [← hw.1]; omega)]
    refine zR_b hL.ob (zR_cl (Q := fun v t => v = nb (decide (s = 3 ∨ s = 4)) ∧ t = τ) (zR_eq (hl_hasPair_6 K ζ τ x s n p q d u h hL hs (by omega)) ⟨rfl, rfl⟩ zge.rfl) ?_)
    intro v t _ P
    obtain ⟨rfl, rfl⟩ := P
    have hl9 : uas.length ≤ 9 := by obtain ⟨f, -, -, g, -⟩ := hr2; exact g
    have hc := sPairC_le n p q up
    have hlw := hw2.1
    by_cases h34 : s = 3 ∨ s = 4
    · refine zR_f (nb_ne0 (decide_eq_true h34)) (zR_b hL.ob (zR_cl (hl_pairFault_6 K ζ t x s n p q d u h ub uas up hζ hL hr2 hw2 (by omega) hp hq ok2 hK) (fun v t' _ P => zR_r ?_)))
      refine ⟨?_, (zk.wk P.2 (fun _ _ h => h.elim)).le (by omega) (by omega)⟩
      rw [P.1]
      show _ = nI (if !([] : List sR).all (sFar n) then 6 else _)
      rw [List.all_nil, if_neg (by decide), if_pos h34]
    · refine zR_t (by rw [decide_eq_false h34]; rfl) (zR_r ⟨?_, zk.rfl.le (by omega) (by omega)⟩)
      show _ = nI (if !([] : List sR).all (sFar n) then 6 else _)
      rw [List.all_nil, if_neg (by decide), if_neg h34]; rfl
  | succ m ih =>
    intro i kk τ hi hζ H hit hk
    have H0 := H
    obtain ⟨hL, ⟨hr, hw, hr2, hw2⟩, ok1, ok2, hn, hp, hq⟩ := H
    obtain ⟨k, rfl⟩ : ∃ j, kk = j + 1 := ⟨kk - 1, by omega⟩
    rw [luX6_fault_6__0_2]
    refine zR_each K ζ τ it i d db das _ _ _ hit hr h1 h2 (by omega) (fun h => absurd h (by omega)) (fun hil => ?_)
    have hlr : i < dn.length := by rw [← hw.1]; exact hil
    have k0 : zk (fun a => a = it) τ (zst τ it (itE (i + 1) d)) 0 0 := zk_st rfl
    have hrow := k0.in (hw.2 i hil hlr) (fun e => h3 (e ▸ List.getElem_mem hil))
    have hL0 := k0.in hL (Ne.symm h4)
    have ok := ok1 _ (List.getElem_mem hlr)
    refine zR_b hrow.ob (zR_b hL0.ob (zR_cl (hl_isFar_6 K ζ (zst τ it (itE (i + 1) d)) x s n p q d u h das[i] dn[i] hζ hL0 hrow (by omega) ok.2.2 (by have := ok.1; omega) (by omega)) (fun v t g P => ?_)))
    obtain ⟨rfl, k1⟩ := P
    have ka : zk (fun a => a = it) τ t (0 + 1) (0 + 5 * 1) := k0.tr (zk.wk k1 (fun _ _ h => h.elim))
    rw [List.drop_eq_getElem_cons hlr, List.all_cons]
    cases hc : sFar n dn[i] with
    | false =>
      exact zR_t rfl (zR_r ⟨rfl, ka.le (by omega) (by omega)⟩)
    | true =>
      refine zR_f (by decide) ?_
      rw [Bool.true_and]
      have H1 : zLx ζ t 6 x s n p q d db u ub h das uas dn up := zLx.k ⟨hL0, ⟨hr.k k0 (Ne.symm h1) (Ne.symm h2), hw.k k0 (fun a ha e => h3 (e ▸ ha)), hr2.k k0 (Ne.symm h5.1) (Ne.symm h5.2.1), hw2.k k0 (fun a ha e => h5.2.2 (e ▸ ha))⟩, H0.2.2⟩ k1
      exact zR_imp (ih (i + 1) k t (by omega) (Nat.le_trans hζ g.1) H1 (zk.i k1 (zin_st hit.1)) (by omega)) (fun v t' _ P => ⟨P.1, (ka.tr P.2).le (by omega) (by omega)⟩)
theorem hl_oneLoop_6 (K : Nat) (ζ : pZ) (x s n p q d db u ub h it : Nat) (das uas : List Nat) (dn up : List sR) (hs : s ≤ 4) (h1 : it ≠ d) (h2 : it ≠ db) (h3 : it ∉ das) (h4 : it ≠ x) (h5 : it ≠ u ∧ it ≠ ub ∧ it ∉ uas) (hK : 2 ^ 50 ≤ K) : ∀ m i kk τ, i + m = das.length → ζ.1 ≤ τ.1 → zLx ζ τ 6 x s n p q d db u ub h das uas dn up → zin ζ τ it (itE i d) → m + 20 ≤ kk →
    zR τ ((lfX6_fault_6__0 K ζ kk).1 x it τ) (fun v t => v = nI (if !(dn.drop i).all (sOne n) then 5 else if !dn.all (sFar n) then 6 else if s = 3 ∨ s = 4 then sPairF n p q up else 0) ∧ zk (fun a => a = it) τ t (m + 21) (5 * (m + 21))) := by
  intro m
  induction m with
  | zero =>
    intro i kk τ hi hζ H hit hk
    have H0 := H
    obtain ⟨hL, ⟨hr, hw, hr2, hw2⟩, ok1, ok2, hn, hp, hq⟩ := H
    obtain ⟨k, rfl⟩ : ∃ j, kk = j + 1 := ⟨kk - 1, by omega⟩
    rw [luX6_fault_6__0_1]
    refine zR_each K ζ τ it i d db das _ _ _ hit hr h1 h2 (by omega) (fun _ => ?_) (fun h => absurd h (by omega))
    have hr0 := hr
    obtain ⟨f, hd, hdb, hl9, -, -⟩ := hr
    simp only [hL.ob, dzb, dzc, dzl, fl0, fl1, fl2, fl3, fl4, fl5, fl6, fl7, fi0, fi1, fi2, fi3, fi4, fi5, fi6, fi7, fr0, fr1, fr2, fr3, fr4, fr5, fr6, fr7, fs0, fs1, fs2, fs3, fs4, fs5, fs6, fs7]
    refine zR_b hd.ob (zR_cl (Q := fun v t => v = τ.1 ∧ t = znw τ 2 (itE 0 d)) (zR_eq (hr_iter K ζ τ d hζ) ⟨rfl, rfl⟩ ⟨Nat.le_succ _, Nat.le_add_right _ _⟩) ?_)
    intro v t _ P
    obtain ⟨rfl, rfl⟩ := P
    have k1 : zk zno τ (znw τ 2 (itE 0 d)) 1 2 := zk_nw
    obtain ⟨f2, hu, hub, -, -, -⟩ := hr2
    refine zR_imp (hl_farLoop_6 K ζ x s n p q d db u ub h τ.1 das uas dn up hs (Nat.ne_of_gt hd.1.2) (Nat.ne_of_gt hdb.1.2) (zin_as_ne hw) (Nat.ne_of_gt hL.1.2) ⟨Nat.ne_of_gt hu.1.2, Nat.ne_of_gt hub.1.2, zin_as_ne hw2⟩ hK das.length 0 k _ (by omega) (Nat.le_succ_of_le hζ) (H0.k k1) (zin_nw hζ) (by omega)) (fun v t _ P => ?_)
    rw [List.drop_zero] at P
    refine ⟨?_, ?_⟩
    · rw [P.1, List.drop_eq_nil_of_le (by rw [← hw.1]; omega)]; rfl
    · exact (zk.wk (k1.new (P.2.wk (fun a _ h => (Or.inr (by rw [h]; exact Nat.le_refl _) : zno a ∨ τ.1 ≤ a)))) (fun _ _ h => h.elim)).le (by omega) (by omega)
  | succ m ih =>
    intro i kk τ hi hζ H hit hk
    have H0 := H
    obtain ⟨hL, ⟨hr, hw, hr2, hw2⟩, ok1, ok2, hn, hp, hq⟩ := H
    obtain ⟨k, rfl⟩ : ∃ j, kk = j + 1 := ⟨kk - 1, by omega⟩
    rw [luX6_fault_6__0_1]
    refine zR_each K ζ τ it i d db das _ _ _ hit hr h1 h2 (by omega) (fun h => absurd h (by omega)) (fun hil => ?_)
    have hlr : i < dn.length := by rw [← hw.1]; exact hil
    have k0 : zk (fun a => a = it) τ (zst τ it (itE (i + 1) d)) 0 0 := zk_st rfl
    have hrow := k0.in (hw.2 i hil hlr) (fun e => h3 (e ▸ List.getElem_mem hil))
    have hL0 := k0.in hL (Ne.symm h4)
    have ok := ok1 _ (List.getElem_mem hlr)
    refine zR_b hrow.ob (zR_b hL0.ob (zR_cl (hl_isOne_6 K ζ (zst τ it (itE (i + 1) d)) x s n p q d u h das[i] dn[i] hζ hL0 hrow (by omega) ok.2.2 (by omega)) (fun v t g P => ?_)))
    obtain ⟨rfl, k1⟩ := P
    have ka : zk (fun a => a = it) τ t (0 + 1) (0 + 5 * 1) := k0.tr (zk.wk k1 (fun _ _ h => h.elim))
    rw [List.drop_eq_getElem_cons hlr, List.all_cons]
    cases hc : sOne n dn[i] with
    | false =>
      exact zR_t rfl (zR_r ⟨rfl, ka.le (by omega) (by omega)⟩)
    | true =>
      refine zR_f (by decide) ?_
      rw [Bool.true_and]
      have H1 : zLx ζ t 6 x s n p q d db u ub h das uas dn up := zLx.k ⟨hL0, ⟨hr.k k0 (Ne.symm h1) (Ne.symm h2), hw.k k0 (fun a ha e => h3 (e ▸ ha)), hr2.k k0 (Ne.symm h5.1) (Ne.symm h5.2.1), hw2.k k0 (fun a ha e => h5.2.2 (e ▸ ha))⟩, H0.2.2⟩ k1
      exact zR_imp (ih (i + 1) k t (by omega) (Nat.le_trans hζ g.1) H1 (zk.i k1 (zin_st hit.1)) (by omega)) (fun v t' _ P => ⟨P.1, (ka.tr P.2).le (by omega) (by omega)⟩)
theorem hl_hasPair_7 (K : Nat) (ζ : pZ) (τ : pH) (x s n p q d u h : Nat) (hL : zin ζ τ x (lnE 7 s n p q d u h)) (hs : s ≤ 4) (hK : 1 ≤ K) : fnX6_hasPair_7 K ζ x τ = some (nb (decide (s = 3 ∨ s = 4)), τ) := by
  obtain ⟨k, rfl⟩ : ∃ j, K = j + 1 := ⟨K - 1, by omega⟩
  unfold fnX6_hasPair_7
  simp only [hL.ob, dzb, dzc, dzl, fl0, fl1, fl2, fl3, fl4, fl5, fl6, fl7, fi0, fi1, fi2, fi3, fi4, fi5, fi6, fi7, fr0, fr1, fr2, fr3, fr4, fr5, fr6, fr7, fs0, fs1, fs2, fs3, fs4, fs5, fs6, fs7]
  rw [luX6_hasPair_7_1]
  by_cases h3 : s = 3
  · rw [if_pos ((nI3 (by omega)).mpr h3), decide_eq_true (Or.inl h3)]; rfl
  · rw [if_neg (fun e => h3 ((nI3 (by omega)).mp e))]
    by_cases h4 : s = 4
    · rw [if_pos ((nI4 (by omega)).mpr h4), decide_eq_true (Or.inr h4)]; rfl
    · rw [if_neg (fun e => h4 ((nI4 (by omega)).mp e)), decide_eq_false (fun e => e.elim h3 h4)]; rfl
theorem hl_farLoop_7 (K : Nat) (ζ : pZ) (x s n p q d db u ub h it : Nat) (das uas : List Nat) (dn up : List sR) (hs : s ≤ 4) (h1 : it ≠ d) (h2 : it ≠ db) (h3 : it ∉ das) (h4 : it ≠ x) (h5 : it ≠ u ∧ it ≠ ub ∧ it ∉ uas) (hK : 2 ^ 50 ≤ K) : ∀ m i kk τ, i + m = das.length → ζ.1 ≤ τ.1 → zLx ζ τ 7 x s n p q d db u ub h das uas dn up → zin ζ τ it (itE i d) → m + 1 ≤ kk →
    zR τ ((lfX6_fault_7__0 K ζ kk).2 x it τ) (fun v t => v = nI (if !(dn.drop i).all (sFar n) then 6 else if s = 3 ∨ s = 4 then sPairF n p q up else 0) ∧ zk (fun a => a = it) τ t (m + 11) (5 * (m + 11))) := by
  intro m
  induction m with
  | zero =>
    intro i kk τ hi hζ H hit hk
    obtain ⟨hL, ⟨hr, hw, hr2, hw2⟩, ok1, ok2, hn, hp, hq⟩ := H
    obtain ⟨k, rfl⟩ : ∃ j, kk = j + 1 := ⟨kk - 1, by omega⟩
    rw [luX6_fault_7__0_2]
    refine zR_each K ζ τ it i d db das _ _ _ hit hr h1 h2 (by omega) (fun _ => ?_) (fun h => absurd h (by omega))
    rw [List.drop_eq_nil_of_le (by rw [← hw.1]; omega)]
    refine zR_b hL.ob (zR_cl (Q := fun v t => v = nb (decide (s = 3 ∨ s = 4)) ∧ t = τ) (zR_eq (hl_hasPair_7 K ζ τ x s n p q d u h hL hs (by omega)) ⟨rfl, rfl⟩ zge.rfl) ?_)
    intro v t _ P
    obtain ⟨rfl, rfl⟩ := P
    have hl9 : uas.length ≤ 9 := by obtain ⟨f, -, -, g, -⟩ := hr2; exact g
    have hc := sPairC_le n p q up
    have hlw := hw2.1
    by_cases h34 : s = 3 ∨ s = 4
    · refine zR_f (nb_ne0 (decide_eq_true h34)) (zR_b hL.ob (zR_cl (hl_pairFault_7 K ζ t x s n p q d u h ub uas up hζ hL hr2 hw2 (by omega) hp hq ok2 hK) (fun v t' _ P => zR_r ?_)))
      refine ⟨?_, (zk.wk P.2 (fun _ _ h => h.elim)).le (by omega) (by omega)⟩
      rw [P.1]
      show _ = nI (if !([] : List sR).all (sFar n) then 6 else _)
      rw [List.all_nil, if_neg (by decide), if_pos h34]
    · refine zR_t (by rw [decide_eq_false h34]; rfl) (zR_r ⟨?_, zk.rfl.le (by omega) (by omega)⟩)
      show _ = nI (if !([] : List sR).all (sFar n) then 6 else _)
      rw [List.all_nil, if_neg (by decide), if_neg h34]; rfl
  | succ m ih =>
    intro i kk τ hi hζ H hit hk
    have H0 := H
    obtain ⟨hL, ⟨hr, hw, hr2, hw2⟩, ok1, ok2, hn, hp, hq⟩ := H
    obtain ⟨k, rfl⟩ : ∃ j, kk = j + 1 := ⟨kk - 1, by omega⟩
    rw [luX6_fault_7__0_2]
    refine zR_each K ζ τ it i d db das _ _ _ hit hr h1 h2 (by omega) (fun h => absurd h (by omega)) (fun hil => ?_)
    have hlr : i < dn.length := by rw [← hw.1]; exact hil
    have k0 : zk (fun a => a = it) τ (zst τ it (itE (i + 1) d)) 0 0 := zk_st rfl
    have hrow := k0.in (hw.2 i hil hlr) (fun e => h3 (e ▸ List.getElem_mem hil))
    have hL0 := k0.in hL (Ne.symm h4)
    have ok := ok1 _ (List.getElem_mem hlr)
    refine zR_b hrow.ob (zR_b hL0.ob (zR_cl (hl_isFar_7 K ζ (zst τ it (itE (i + 1) d)) x s n p q d u h das[i] dn[i] hζ hL0 hrow (by omega) ok.2.2 (by have := ok.1; omega) (by omega)) (fun v t g P => ?_)))
    obtain ⟨rfl, k1⟩ := P
    have ka : zk (fun a => a = it) τ t (0 + 1) (0 + 5 * 1) := k0.tr (zk.wk k1 (fun _ _ h => h.elim))
    rw [List.drop_eq_getElem_cons hlr, List.all_cons]
    cases hc : sFar n dn[i] with
    | false =>
      exact zR_t rfl (zR_r ⟨rfl, ka.le (by omega) (by omega)⟩)
    | true =>
      refine zR_f (by decide) ?_
      rw [Bool.true_and]
      have H1 : zLx ζ t 7 x s n p q d db u ub h das uas dn up := zLx.k ⟨hL0, ⟨hr.k k0 (Ne.symm h1) (Ne.symm h2), hw.k k0 (fun a ha e => h3 (e ▸ ha)), hr2.k k0 (Ne.symm h5.1) (Ne.symm h5.2.1), hw2.k k0 (fun a ha e => h5.2.2 (e ▸ ha))⟩, H0.2.2⟩ k1
      exact zR_imp (ih (i + 1) k t (by omega) (Nat.le_trans hζ g.1) H1 (zk.i k1 (zin_st hit.1)) (by omega)) (fun v t' _ P => ⟨P.1, (ka.tr P.2).le (by omega) (by omega)⟩)
theorem hl_oneLoop_7 (K : Nat) (ζ : pZ) (x s n p q d db u ub h it : Nat) (das uas : List Nat) (dn up : List sR) (hs : s ≤ 4) (h1 : it ≠ d) (h2 : it ≠ db) (h3 : it ∉ das) (h4 : it ≠ x) (h5 : it ≠ u ∧ it ≠ ub ∧ it ∉ uas) (hK : 2 ^ 50 ≤ K) : ∀ m i kk τ, i + m = das.length → ζ.1 ≤ τ.1 → zLx ζ τ 7 x s n p q d db u ub h das uas dn up → zin ζ τ it (itE i d) → m + 20 ≤ kk →
    zR τ ((lfX6_fault_7__0 K ζ kk).1 x it τ) (fun v t => v = nI (if !(dn.drop i).all (sOne n) then 5 else if !dn.all (sFar n) then 6 else if s = 3 ∨ s = 4 then sPairF n p q up else 0) ∧ zk (fun a => a = it) τ t (m + 21) (5 * (m + 21))) := by
  intro m
  induction m with
  | zero =>
    intro i kk τ hi hζ H hit hk
    have H0 := H
    obtain ⟨hL, ⟨hr, hw, hr2, hw2⟩, ok1, ok2, hn, hp, hq⟩ := H
    obtain ⟨k, rfl⟩ : ∃ j, kk = j + 1 := ⟨kk - 1, by omega⟩
    rw [luX6_fault_7__0_1]
    refine zR_each K ζ τ it i d db das _ _ _ hit hr h1 h2 (by omega) (fun _ => ?_) (fun h => absurd h (by omega))
    have hr0 := hr
    obtain ⟨f, hd, hdb, hl9, -, -⟩ := hr
    simp only [hL.ob, dzb, dzc, dzl, fl0, fl1, fl2, fl3, fl4, fl5, fl6, fl7, fi0, fi1, fi2, fi3, fi4, fi5, fi6, fi7, fr0, fr1, fr2, fr3, fr4, fr5, fr6, fr7, fs0, fs1, fs2, fs3, fs4, fs5, fs6, fs7]
    refine zR_b hd.ob (zR_cl (Q := fun v t => v = τ.1 ∧ t = znw τ 2 (itE 0 d)) (zR_eq (hr_iter K ζ τ d hζ) ⟨rfl, rfl⟩ ⟨Nat.le_succ _, Nat.le_add_right _ _⟩) ?_)
    intro v t _ P
    obtain ⟨rfl, rfl⟩ := P
    have k1 : zk zno τ (znw τ 2 (itE 0 d)) 1 2 := zk_nw
    obtain ⟨f2, hu, hub, -, -, -⟩ := hr2
    refine zR_imp (hl_farLoop_7 K ζ x s n p q d db u ub h τ.1 das uas dn up hs (Nat.ne_of_gt hd.1.2) (Nat.ne_of_gt hdb.1.2) (zin_as_ne hw) (Nat.ne_of_gt hL.1.2) ⟨Nat.ne_of_gt hu.1.2, Nat.ne_of_gt hub.1.2, zin_as_ne hw2⟩ hK das.length 0 k _ (by omega) (Nat.le_succ_of_le hζ) (H0.k k1) (zin_nw hζ) (by omega)) (fun v t _ P => ?_)
    rw [List.drop_zero] at P
    refine ⟨?_, ?_⟩
    · rw [P.1, List.drop_eq_nil_of_le (by rw [← hw.1]; omega)]; rfl
    · exact (zk.wk (k1.new (P.2.wk (fun a _ h => (Or.inr (by rw [h]; exact Nat.le_refl _) : zno a ∨ τ.1 ≤ a)))) (fun _ _ h => h.elim)).le (by omega) (by omega)
  | succ m ih =>
    intro i kk τ hi hζ H hit hk
    have H0 := H
    obtain ⟨hL, ⟨hr, hw, hr2, hw2⟩, ok1, ok2, hn, hp, hq⟩ := H
    obtain ⟨k, rfl⟩ : ∃ j, kk = j + 1 := ⟨kk - 1, by omega⟩
    rw [luX6_fault_7__0_1]
    refine zR_each K ζ τ it i d db das _ _ _ hit hr h1 h2 (by omega) (fun h => absurd h (by omega)) (fun hil => ?_)
    have hlr : i < dn.length := by rw [← hw.1]; exact hil
    have k0 : zk (fun a => a = it) τ (zst τ it (itE (i + 1) d)) 0 0 := zk_st rfl
    have hrow := k0.in (hw.2 i hil hlr) (fun e => h3 (e ▸ List.getElem_mem hil))
    have hL0 := k0.in hL (Ne.symm h4)
    have ok := ok1 _ (List.getElem_mem hlr)
    refine zR_b hrow.ob (zR_b hL0.ob (zR_cl (hl_isOne_7 K ζ (zst τ it (itE (i + 1) d)) x s n p q d u h das[i] dn[i] hζ hL0 hrow (by omega) ok.2.2 (by omega)) (fun v t g P => ?_)))
    obtain ⟨rfl, k1⟩ := P
    have ka : zk (fun a => a = it) τ t (0 + 1) (0 + 5 * 1) := k0.tr (zk.wk k1 (fun _ _ h => h.elim))
    rw [List.drop_eq_getElem_cons hlr, List.all_cons]
    cases hc : sOne n dn[i] with
    | false =>
      exact zR_t rfl (zR_r ⟨rfl, ka.le (by omega) (by omega)⟩)
    | true =>
      refine zR_f (by decide) ?_
      rw [Bool.true_and]
      have H1 : zLx ζ t 7 x s n p q d db u ub h das uas dn up := zLx.k ⟨hL0, ⟨hr.k k0 (Ne.symm h1) (Ne.symm h2), hw.k k0 (fun a ha e => h3 (e ▸ ha)), hr2.k k0 (Ne.symm h5.1) (Ne.symm h5.2.1), hw2.k k0 (fun a ha e => h5.2.2 (e ▸ ha))⟩, H0.2.2⟩ k1
      exact zR_imp (ih (i + 1) k t (by omega) (Nat.le_trans hζ g.1) H1 (zk.i k1 (zin_st hit.1)) (by omega)) (fun v t' _ P => ⟨P.1, (ka.tr P.2).le (by omega) (by omega)⟩)
theorem hl_hasPair_8 (K : Nat) (ζ : pZ) (τ : pH) (x s n p q d u h : Nat) (hL : zin ζ τ x (lnE 8 s n p q d u h)) (hs : s ≤ 4) (hK : 1 ≤ K) : fnX6_hasPair_8 K ζ x τ = some (nb (decide (s = 3 ∨ s = 4)), τ) := by
  obtain ⟨k, rfl⟩ : ∃ j, K = j + 1 := ⟨K - 1, by omega⟩
  unfold fnX6_hasPair_8
  simp only [hL.ob, dzb, dzc, dzl, fl0, fl1, fl2, fl3, fl4, fl5, fl6, fl7, fi0, fi1, fi2, fi3, fi4, fi5, fi6, fi7, fr0, fr1, fr2, fr3, fr4, fr5, fr6, fr7, fs0, fs1, fs2, fs3, fs4, fs5, fs6, fs7]
  rw [luX6_hasPair_8_1]
  by_cases h3 : s = 3
  · rw [if_pos ((nI3 (by omega)).mpr h3), decide_eq_true (Or.inl h3)]; rfl
  · rw [if_neg (fun e => h3 ((nI3 (by omega)).mp e))]
    by_cases h4 : s = 4
    · rw [if_pos ((nI4 (by omega)).mpr h4), decide_eq_true (Or.inr h4)]; rfl
    · rw [if_neg (fun e => h4 ((nI4 (by omega)).mp e)), decide_eq_false (fun e => e.elim h3 h4)]; rfl
theorem hl_farLoop_8 (K : Nat) (ζ : pZ) (x s n p q d db u ub h it : Nat) (das uas : List Nat) (dn up : List sR) (hs : s ≤ 4) (h1 : it ≠ d) (h2 : it ≠ db) (h3 : it ∉ das) (h4 : it ≠ x) (h5 : it ≠ u ∧ it ≠ ub ∧ it ∉ uas) (hK : 2 ^ 50 ≤ K) : ∀ m i kk τ, i + m = das.length → ζ.1 ≤ τ.1 → zLx ζ τ 8 x s n p q d db u ub h das uas dn up → zin ζ τ it (itE i d) → m + 1 ≤ kk →
    zR τ ((lfX6_fault_8__0 K ζ kk).2 x it τ) (fun v t => v = nI (if !(dn.drop i).all (sFar n) then 6 else if s = 3 ∨ s = 4 then sPairF n p q up else 0) ∧ zk (fun a => a = it) τ t (m + 11) (5 * (m + 11))) := by
  intro m
  induction m with
  | zero =>
    intro i kk τ hi hζ H hit hk
    obtain ⟨hL, ⟨hr, hw, hr2, hw2⟩, ok1, ok2, hn, hp, hq⟩ := H
    obtain ⟨k, rfl⟩ : ∃ j, kk = j + 1 := ⟨kk - 1, by omega⟩
    rw [luX6_fault_8__0_2]
    refine zR_each K ζ τ it i d db das _ _ _ hit hr h1 h2 (by omega) (fun _ => ?_) (fun h => absurd h (by omega))
    rw [List.drop_eq_nil_of_le (by rw [← hw.1]; omega)]
    refine zR_b hL.ob (zR_cl (Q := fun v t => v = nb (decide (s = 3 ∨ s = 4)) ∧ t = τ) (zR_eq (hl_hasPair_8 K ζ τ x s n p q d u h hL hs (by omega)) ⟨rfl, rfl⟩ zge.rfl) ?_)
    intro v t _ P
    obtain ⟨rfl, rfl⟩ := P
    have hl9 : uas.length ≤ 9 := by obtain ⟨f, -, -, g, -⟩ := hr2; exact g
    have hc := sPairC_le n p q up
    have hlw := hw2.1
    by_cases h34 : s = 3 ∨ s = 4
    · refine zR_f (nb_ne0 (decide_eq_true h34)) (zR_b hL.ob (zR_cl (hl_pairFault_8 K ζ t x s n p q d u h ub uas up hζ hL hr2 hw2 (by omega) hp hq ok2 hK) (fun v t' _ P => zR_r ?_)))
      refine ⟨?_, (zk.wk P.2 (fun _ _ h => h.elim)).le (by omega) (by omega)⟩
      rw [P.1]
      show _ = nI (if !([] : List sR).all (sFar n) then 6 else _)
      rw [List.all_nil, if_neg (by decide), if_pos h34]
    · refine zR_t (by rw [decide_eq_false h34]; rfl) (zR_r ⟨?_, zk.rfl.le (by omega) (by omega)⟩)
      show _ = nI (if !([] : List sR).all (sFar n) then 6 else _)
      rw [List.all_nil, if_neg (by decide), if_neg h34]; rfl
  | succ m ih =>
    intro i kk τ hi hζ H hit hk
    have H0 := H
    obtain ⟨hL, ⟨hr, hw, hr2, hw2⟩, ok1, ok2, hn, hp, hq⟩ := H
    obtain ⟨k, rfl⟩ : ∃ j, kk = j + 1 := ⟨kk - 1, by omega⟩
    rw [luX6_fault_8__0_2]
    refine zR_each K ζ τ it i d db das _ _ _ hit hr h1 h2 (by omega) (fun h => absurd h (by omega)) (fun hil => ?_)
    have hlr : i < dn.length := by rw [← hw.1]; exact hil
    have k0 : zk (fun a => a = it) τ (zst τ it (itE (i + 1) d)) 0 0 := zk_st rfl
    have hrow := k0.in (hw.2 i hil hlr) (fun e => h3 (e ▸ List.getElem_mem hil))
    have hL0 := k0.in hL (Ne.symm h4)
    have ok := ok1 _ (List.getElem_mem hlr)
    refine zR_b hrow.ob (zR_b hL0.ob (zR_cl (hl_isFar_8 K ζ (zst τ it (itE (i + 1) d)) x s n p q d u h das[i] dn[i] hζ hL0 hrow (by omega) ok.2.2 (by have := ok.1; omega) (by omega)) (fun v t g P => ?_)))
    obtain ⟨rfl, k1⟩ := P
    have ka : zk (fun a => a = it) τ t (0 + 1) (0 + 5 * 1) := k0.tr (zk.wk k1 (fun _ _ h => h.elim))
    rw [List.drop_eq_getElem_cons hlr, List.all_cons]
    cases hc : sFar n dn[i] with
    | false =>
      exact zR_t rfl (zR_r ⟨rfl, ka.le (by omega) (by omega)⟩)
    | true =>
      refine zR_f (by decide) ?_
      rw [Bool.true_and]
      have H1 : zLx ζ t 8 x s n p q d db u ub h das uas dn up := zLx.k ⟨hL0, ⟨hr.k k0 (Ne.symm h1) (Ne.symm h2), hw.k k0 (fun a ha e => h3 (e ▸ ha)), hr2.k k0 (Ne.symm h5.1) (Ne.symm h5.2.1), hw2.k k0 (fun a ha e => h5.2.2 (e ▸ ha))⟩, H0.2.2⟩ k1
      exact zR_imp (ih (i + 1) k t (by omega) (Nat.le_trans hζ g.1) H1 (zk.i k1 (zin_st hit.1)) (by omega)) (fun v t' _ P => ⟨P.1, (ka.tr P.2).le (by omega) (by omega)⟩)
theorem hl_oneLoop_8 (K : Nat) (ζ : pZ) (x s n p q d db u ub h it : Nat) (das uas : List Nat) (dn up : List sR) (hs : s ≤ 4) (h1 : it ≠ d) (h2 : it ≠ db) (h3 : it ∉ das) (h4 : it ≠ x) (h5 : it ≠ u ∧ it ≠ ub ∧ it ∉ uas) (hK : 2 ^ 50 ≤ K) : ∀ m i kk τ, i + m = das.length → ζ.1 ≤ τ.1 → zLx ζ τ 8 x s n p q d db u ub h das uas dn up → zin ζ τ it (itE i d) → m + 20 ≤ kk →
    zR τ ((lfX6_fault_8__0 K ζ kk).1 x it τ) (fun v t => v = nI (if !(dn.drop i).all (sOne n) then 5 else if !dn.all (sFar n) then 6 else if s = 3 ∨ s = 4 then sPairF n p q up else 0) ∧ zk (fun a => a = it) τ t (m + 21) (5 * (m + 21))) := by
  intro m
  induction m with
  | zero =>
    intro i kk τ hi hζ H hit hk
    have H0 := H
    obtain ⟨hL, ⟨hr, hw, hr2, hw2⟩, ok1, ok2, hn, hp, hq⟩ := H
    obtain ⟨k, rfl⟩ : ∃ j, kk = j + 1 := ⟨kk - 1, by omega⟩
    rw [luX6_fault_8__0_1]
    refine zR_each K ζ τ it i d db das _ _ _ hit hr h1 h2 (by omega) (fun _ => ?_) (fun h => absurd h (by omega))
    have hr0 := hr
    obtain ⟨f, hd, hdb, hl9, -, -⟩ := hr
    simp only [hL.ob, dzb, dzc, dzl, fl0, fl1, fl2, fl3, fl4, fl5, fl6, fl7, fi0, fi1, fi2, fi3, fi4, fi5, fi6, fi7, fr0, fr1, fr2, fr3, fr4, fr5, fr6, fr7, fs0, fs1, fs2, fs3, fs4, fs5, fs6, fs7]
    refine zR_b hd.ob (zR_cl (Q := fun v t => v = τ.1 ∧ t = znw τ 2 (itE 0 d)) (zR_eq (hr_iter K ζ τ d hζ) ⟨rfl, rfl⟩ ⟨Nat.le_succ _, Nat.le_add_right _ _⟩) ?_)
    intro v t _ P
    obtain ⟨rfl, rfl⟩ := P
    have k1 : zk zno τ (znw τ 2 (itE 0 d)) 1 2 := zk_nw
    obtain ⟨f2, hu, hub, -, -, -⟩ := hr2
    refine zR_imp (hl_farLoop_8 K ζ x s n p q d db u ub h τ.1 das uas dn up hs (Nat.ne_of_gt hd.1.2) (Nat.ne_of_gt hdb.1.2) (zin_as_ne hw) (Nat.ne_of_gt hL.1.2) ⟨Nat.ne_of_gt hu.1.2, Nat.ne_of_gt hub.1.2, zin_as_ne hw2⟩ hK das.length 0 k _ (by omega) (Nat.le_succ_of_le hζ) (H0.k k1) (zin_nw hζ) (by omega)) (fun v t _ P => ?_)
    rw [List.drop_zero] at P
    refine ⟨?_, ?_⟩
    · rw [P.1, List.drop_eq_nil_of_le (by rw [← hw.1]; omega)]; rfl
    · exact (zk.wk (k1.new (P.2.wk (fun a _ h => (Or.inr (by rw [h]; exact Nat.le_refl _) : zno a ∨ τ.1 ≤ a)))) (fun _ _ h => h.elim)).le (by omega) (by omega)
  | succ m ih =>
    intro i kk τ hi hζ H hit hk
    have H0 := H
    obtain ⟨hL, ⟨hr, hw, hr2, hw2⟩, ok1, ok2, hn, hp, hq⟩ := H
    obtain ⟨k, rfl⟩ : ∃ j, kk = j + 1 := ⟨kk - 1, by omega⟩
    rw [luX6_fault_8__0_1]
    refine zR_each K ζ τ it i d db das _ _ _ hit hr h1 h2 (by omega) (fun h => absurd h (by omega)) (fun hil => ?_)
    have hlr : i < dn.length := by rw [← hw.1]; exact hil
    have k0 : zk (fun a => a = it) τ (zst τ it (itE (i + 1) d)) 0 0 := zk_st rfl
    have hrow := k0.in (hw.2 i hil hlr) (fun e => h3 (e ▸ List.getElem_mem hil))
    have hL0 := k0.in hL (Ne.symm h4)
    have ok := ok1 _ (List.getElem_mem hlr)
    refine zR_b hrow.ob (zR_b hL0.ob (zR_cl (hl_isOne_8 K ζ (zst τ it (itE (i + 1) d)) x s n p q d u h das[i] dn[i] hζ hL0 hrow (by omega) ok.2.2 (by omega)) (fun v t g P => ?_)))
    obtain ⟨rfl, k1⟩ := P
    have ka : zk (fun a => a = it) τ t (0 + 1) (0 + 5 * 1) := k0.tr (zk.wk k1 (fun _ _ h => h.elim))
    rw [List.drop_eq_getElem_cons hlr, List.all_cons]
    cases hc : sOne n dn[i] with
    | false =>
      exact zR_t rfl (zR_r ⟨rfl, ka.le (by omega) (by omega)⟩)
    | true =>
      refine zR_f (by decide) ?_
      rw [Bool.true_and]
      have H1 : zLx ζ t 8 x s n p q d db u ub h das uas dn up := zLx.k ⟨hL0, ⟨hr.k k0 (Ne.symm h1) (Ne.symm h2), hw.k k0 (fun a ha e => h3 (e ▸ ha)), hr2.k k0 (Ne.symm h5.1) (Ne.symm h5.2.1), hw2.k k0 (fun a ha e => h5.2.2 (e ▸ ha))⟩, H0.2.2⟩ k1
      exact zR_imp (ih (i + 1) k t (by omega) (Nat.le_trans hζ g.1) H1 (zk.i k1 (zin_st hit.1)) (by omega)) (fun v t' _ P => ⟨P.1, (ka.tr P.2).le (by omega) (by omega)⟩)
theorem hl_hasPair_9 (K : Nat) (ζ : pZ) (τ : pH) (x s n p q d u h : Nat) (hL : zin ζ τ x (lnE 9 s n p q d u h)) (hs : s ≤ 4) (hK : 1 ≤ K) : fnX6_hasPair_9 K ζ x τ = some (nb (decide (s = 3 ∨ s = 4)), τ) := by
  obtain ⟨k, rfl⟩ : ∃ j, K = j + 1 := ⟨K - 1, by omega⟩
  unfold fnX6_hasPair_9
  simp only [hL.ob, dzb, dzc, dzl, fl0, fl1, fl2, fl3, fl4, fl5, fl6, fl7, fi0, fi1, fi2, fi3, fi4, fi5, fi6, fi7, fr0, fr1, fr2, fr3, fr4, fr5, fr6, fr7, fs0, fs1, fs2, fs3, fs4, fs5, fs6, fs7]
  rw [luX6_hasPair_9_1]
  by_cases h3 : s = 3
  · rw [if_pos ((nI3 (by omega)).mpr h3), decide_eq_true (Or.inl h3)]; rfl
  · rw [if_neg (fun e => h3 ((nI3 (by omega)).mp e))]
    by_cases h4 : s = 4
    · rw [if_pos ((nI4 (by omega)).mpr h4), decide_eq_true (Or.inr h4)]; rfl
    · rw [if_neg (fun e => h4 ((nI4 (by omega)).mp e)), decide_eq_false (fun e => e.elim h3 h4)]; rfl
theorem hl_farLoop_9 (K : Nat) (ζ : pZ) (x s n p q d db u ub h it : Nat) (das uas : List Nat) (dn up : List sR) (hs : s ≤ 4) (h1 : it ≠ d) (h2 : it ≠ db) (h3 : it ∉ das) (h4 : it ≠ x) (h5 : it ≠ u ∧ it ≠ ub ∧ it ∉ uas) (hK : 2 ^ 50 ≤ K) : ∀ m i kk τ, i + m = das.length → ζ.1 ≤ τ.1 → zLx ζ τ 9 x s n p q d db u ub h das uas dn up → zin ζ τ it (itE i d) → m + 1 ≤ kk →
    zR τ ((lfX6_fault_9__0 K ζ kk).2 x it τ) (fun v t => v = nI (if !(dn.drop i).all (sFar n) then 6 else if s = 3 ∨ s = 4 then sPairF n p q up else 0) ∧ zk (fun a => a = it) τ t (m + 11) (5 * (m + 11))) := by
  intro m
  induction m with
  | zero =>
    intro i kk τ hi hζ H hit hk
    obtain ⟨hL, ⟨hr, hw, hr2, hw2⟩, ok1, ok2, hn, hp, hq⟩ := H
    obtain ⟨k, rfl⟩ : ∃ j, kk = j + 1 := ⟨kk - 1, by omega⟩
    rw [luX6_fault_9__0_2]
    refine zR_each K ζ τ it i d db das _ _ _ hit hr h1 h2 (by omega) (fun _ => ?_) (fun h => absurd h (by omega))
    rw [List.drop_eq_nil_of_le (by rw [← hw.1]; omega)]
    refine zR_b hL.ob (zR_cl (Q := fun v t => v = nb (decide (s = 3 ∨ s = 4)) ∧ t = τ) (zR_eq (hl_hasPair_9 K ζ τ x s n p q d u h hL hs (by omega)) ⟨rfl, rfl⟩ zge.rfl) ?_)
    intro v t _ P
    obtain ⟨rfl, rfl⟩ := P
    have hl9 : uas.length ≤ 9 := by obtain ⟨f, -, -, g, -⟩ := hr2; exact g
    have hc := sPairC_le n p q up
    have hlw := hw2.1
    by_cases h34 : s = 3 ∨ s = 4
    · refine zR_f (nb_ne0 (decide_eq_true h34)) (zR_b hL.ob (zR_cl (hl_pairFault_9 K ζ t x s n p q d u h ub uas up hζ hL hr2 hw2 (by omega) hp hq ok2 hK) (fun v t' _ P => zR_r ?_)))
      refine ⟨?_, (zk.wk P.2 (fun _ _ h => h.elim)).le (by omega) (by omega)⟩
      rw [P.1]
      show _ = nI (if !([] : List sR).all (sFar n) then 6 else _)
      rw [List.all_nil, if_neg (by decide), if_pos h34]
    · refine zR_t (by rw [decide_eq_false h34]; rfl) (zR_r ⟨?_, zk.rfl.le (by omega) (by omega)⟩)
      show _ = nI (if !([] : List sR).all (sFar n) then 6 else _)
      rw [List.all_nil, if_neg (by decide), if_neg h34]; rfl
  | succ m ih =>
    intro i kk τ hi hζ H hit hk
    have H0 := H
    obtain ⟨hL, ⟨hr, hw, hr2, hw2⟩, ok1, ok2, hn, hp, hq⟩ := H
    obtain ⟨k, rfl⟩ : ∃ j, kk = j + 1 := ⟨kk - 1, by omega⟩
    rw [luX6_fault_9__0_2]
    refine zR_each K ζ τ it i d db das _ _ _ hit hr h1 h2 (by omega) (fun h => absurd h (by omega)) (fun hil => ?_)
    have hlr : i < dn.length := by rw [← hw.1]; exact hil
    have k0 : zk (fun a => a = it) τ (zst τ it (itE (i + 1) d)) 0 0 := zk_st rfl
    have hrow := k0.in (hw.2 i hil hlr) (fun e => h3 (e ▸ List.getElem_mem hil))
    have hL0 := k0.in hL (Ne.symm h4)
    have ok := ok1 _ (List.getElem_mem hlr)
    refine zR_b hrow.ob (zR_b hL0.ob (zR_cl (hl_isFar_9 K ζ (zst τ it (itE (i + 1) d)) x s n p q d u h das[i] dn[i] hζ hL0 hrow (by omega) ok.2.2 (by have := ok.1; omega) (by omega)) (fun v t g P => ?_)))
    obtain ⟨rfl, k1⟩ := P
    have ka : zk (fun a => a = it) τ t (0 + 1) (0 + 5 * 1) := k0.tr (zk.wk k1 (fun _ _ h => h.elim))
    rw [List.drop_eq_getElem_cons hlr, List.all_cons]
    cases hc : sFar n dn[i] with
    | false =>
      exact zR_t rfl (zR_r ⟨rfl, ka.le (by omega) (by omega)⟩)
    | true =>
      refine zR_f (by decide) ?_
      rw [Bool.true_and]
      have H1 : zLx ζ t 9 x s n p q d db u ub h das uas dn up := zLx.k ⟨hL0, ⟨hr.k k0 (Ne.symm h1) (Ne.symm h2), hw.k k0 (fun a ha e => h3 (e ▸ ha)), hr2.k k0 (Ne.symm h5.1) (Ne.symm h5.2.1), hw2.k k0 (fun a ha e => h5.2.2 (e ▸ ha))⟩, H0.2.2⟩ k1
      exact zR_imp (ih (i + 1) k t (by omega) (Nat.le_trans hζ g.1) H1 (zk.i k1 (zin_st hit.1)) (by omega)) (fun v t' _ P => ⟨P.1, (ka.tr P.2).le (by omega) (by omega)⟩)
theorem hl_oneLoop_9 (K : Nat) (ζ : pZ) (x s n p q d db u ub h it : Nat) (das uas : List Nat) (dn up : List sR) (hs : s ≤ 4) (h1 : it ≠ d) (h2 : it ≠ db) (h3 : it ∉ das) (h4 : it ≠ x) (h5 : it ≠ u ∧ it ≠ ub ∧ it ∉ uas) (hK : 2 ^ 50 ≤ K) : ∀ m i kk τ, i + m = das.length → ζ.1 ≤ τ.1 → zLx ζ τ 9 x s n p q d db u ub h das uas dn up → zin ζ τ it (itE i d) → m + 20 ≤ kk →
    zR τ ((lfX6_fault_9__0 K ζ kk).1 x it τ) (fun v t => v = nI (if !(dn.drop i).all (sOne n) then 5 else if !dn.all (sFar n) then 6 else if s = 3 ∨ s = 4 then sPairF n p q up else 0) ∧ zk (fun a => a = it) τ t (m + 21) (5 * (m + 21))) := by
  intro m
  induction m with
  | zero =>
    intro i kk τ hi hζ H hit hk
    have H0 := H
    obtain ⟨hL, ⟨hr, hw, hr2, hw2⟩, ok1, ok2, hn, hp, hq⟩ := H
    obtain ⟨k, rfl⟩ : ∃ j, kk = j + 1 := ⟨kk - 1, by omega⟩
    rw [luX6_fault_9__0_1]
    refine zR_each K ζ τ it i d db das _ _ _ hit hr h1 h2 (by omega) (fun _ => ?_) (fun h => absurd h (by omega))
    have hr0 := hr
    obtain ⟨f, hd, hdb, hl9, -, -⟩ := hr
    simp only [hL.ob, dzb, dzc, dzl, fl0, fl1, fl2, fl3, fl4, fl5, fl6, fl7, fi0, fi1, fi2, fi3, fi4, fi5, fi6, fi7, fr0, fr1, fr2, fr3, fr4, fr5, fr6, fr7, fs0, fs1, fs2, fs3, fs4, fs5, fs6, fs7]
    refine zR_b hd.ob (zR_cl (Q := fun v t => v = τ.1 ∧ t = znw τ 2 (itE 0 d)) (zR_eq (hr_iter K ζ τ d hζ) ⟨rfl, rfl⟩ ⟨Nat.le_succ _, Nat.le_add_right _ _⟩) ?_)
    intro v t _ P
    obtain ⟨rfl, rfl⟩ := P
    have k1 : zk zno τ (znw τ 2 (itE 0 d)) 1 2 := zk_nw
    obtain ⟨f2, hu, hub, -, -, -⟩ := hr2
    refine zR_imp (hl_farLoop_9 K ζ x s n p q d db u ub h τ.1 das uas dn up hs (Nat.ne_of_gt hd.1.2) (Nat.ne_of_gt hdb.1.2) (zin_as_ne hw) (Nat.ne_of_gt hL.1.2) ⟨Nat.ne_of_gt hu.1.2, Nat.ne_of_gt hub.1.2, zin_as_ne hw2⟩ hK das.length 0 k _ (by omega) (Nat.le_succ_of_le hζ) (H0.k k1) (zin_nw hζ) (by omega)) (fun v t _ P => ?_)
    rw [List.drop_zero] at P
    refine ⟨?_, ?_⟩
    · rw [P.1, List.drop_eq_nil_of_le (by rw [← hw.1]; omega)]; rfl
    · exact (zk.wk (k1.new (P.2.wk (fun a _ h => (Or.inr (by rw [h]; exact Nat.le_refl _) : zno a ∨ τ.1 ≤ a)))) (fun _ _ h => h.elim)).le (by omega) (by omega)
  | succ m ih =>
    intro i kk τ hi hζ H hit hk
    have H0 := H
    obtain ⟨hL, ⟨hr, hw, hr2, hw2⟩, ok1, ok2, hn, hp, hq⟩ := H
    obtain ⟨k, rfl⟩ : ∃ j, kk = j + 1 := ⟨kk - 1, by omega⟩
    rw [luX6_fault_9__0_1]
    refine zR_each K ζ τ it i d db das _ _ _ hit hr h1 h2 (by omega) (fun h => absurd h (by omega)) (fun hil => ?_)
    have hlr : i < dn.length := by rw [← hw.1]; exact hil
    have k0 : zk (fun a => a = it) τ (zst τ it (itE (i + 1) d)) 0 0 := zk_st rfl
    have hrow := k0.in (hw.2 i hil hlr) (fun e => h3 (e ▸ List.getElem_mem hil))
    have hL0 := k0.in hL (Ne.symm h4)
    have ok := ok1 _ (List.getElem_mem hlr)
    refine zR_b hrow.ob (zR_b hL0.ob (zR_cl (hl_isOne_9 K ζ (zst τ it (itE (i + 1) d)) x s n p q d u h das[i] dn[i] hζ hL0 hrow (by omega) ok.2.2 (by omega)) (fun v t g P => ?_)))
    obtain ⟨rfl, k1⟩ := P
    have ka : zk (fun a => a = it) τ t (0 + 1) (0 + 5 * 1) := k0.tr (zk.wk k1 (fun _ _ h => h.elim))
    rw [List.drop_eq_getElem_cons hlr, List.all_cons]
    cases hc : sOne n dn[i] with
    | false =>
      exact zR_t rfl (zR_r ⟨rfl, ka.le (by omega) (by omega)⟩)
    | true =>
      refine zR_f (by decide) ?_
      rw [Bool.true_and]
      have H1 : zLx ζ t 9 x s n p q d db u ub h das uas dn up := zLx.k ⟨hL0, ⟨hr.k k0 (Ne.symm h1) (Ne.symm h2), hw.k k0 (fun a ha e => h3 (e ▸ ha)), hr2.k k0 (Ne.symm h5.1) (Ne.symm h5.2.1), hw2.k k0 (fun a ha e => h5.2.2 (e ▸ ha))⟩, H0.2.2⟩ k1
      exact zR_imp (ih (i + 1) k t (by omega) (Nat.le_trans hζ g.1) H1 (zk.i k1 (zin_st hit.1)) (by omega)) (fun v t' _ P => ⟨P.1, (ka.tr P.2).le (by omega) (by omega)⟩)
