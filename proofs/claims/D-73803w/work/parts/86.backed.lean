/-! twice the same; rows that are backed; whole and enough -/
def sTw (rs : List sR) : Bool := decide (¬ (rs.map (fun r => r.1)).Nodup)
/-- none of the first k is like row i -/
theorem hx_twIn (K : Nat) (ζ : pZ) (τ : pH) (a b : Nat) (as : List Nat) (rs : List sR) (hr : zRs ζ τ a b as) (hw : zRw ζ τ as rs) (hok : ∀ r ∈ rs, sRok r) (i : Nat) (hi : i < as.length) : ∀ m j kk, j + m = i → m + 1 ≤ kk → (∃ k', kk ≤ k' + m + 1 ∧ (∀ t (h1 : t < rs.length) (h2 : i < rs.length), j ≤ t → t < i → rs[t].1 ≠ rs[i].1) ∧ (lfX8_hasTwice K ζ kk).2 a (nI i) (nI j) τ = (lfX8_hasTwice K ζ k').1 a (nI (i + 1)) τ) ∨ ((lfX8_hasTwice K ζ kk).2 a (nI i) (nI j) τ = some (1, τ) ∧ ∃ t, ∃ (h1 : t < rs.length) (h2 : i < rs.length), t < i ∧ rs[t].1 = rs[i].1) := by
  obtain ⟨f, ha, hb, hl9, -, hf⟩ := hr
  have hlr : as.length = rs.length := hw.1
  intro m
  induction m with
  | zero =>
    intro j kk hj hk
    obtain ⟨k, rfl⟩ : ∃ q, kk = q + 1 := ⟨kk - 1, by omega⟩
    refine Or.inl ⟨k, by omega, fun t _ _ h1 h2 => by omega, ?_⟩
    rw [luX8_hasTwice_2, if_pos (nI_le (by omega) (by omega)), dzl, nI_1]
  | succ m ih =>
    intro j kk hj hk
    obtain ⟨k, rfl⟩ : ∃ q, kk = q + 1 := ⟨kk - 1, by omega⟩
    have r1 := hw.2 i hi (by omega)
    have r2 := hw.2 j (by omega) (by omega)
    have o1 := hok _ (List.getElem_mem (show i < rs.length by omega))
    have o2 := hok _ (List.getElem_mem (show j < rs.length by omega))
    rw [luX8_hasTwice_2, if_neg (nI_ge (by omega) (by omega))]
    simp only [ha.ob, hb.aq, dzb, dzc, dzl, fl0, fl1, fl2, fl3, fl4, fl5, fl6, fl7, fi0, fi1, fi2, fi3, fi4, fi5, fi6, fi7, fr0, fr1, fr2, fr3, fr4, fr5, fr6, fr7, fs0, fs1, fs2, fs3, fs4, fs5, fs6, fs7]
    rw [if_pos (nI_in (by omega) (by omega)), nI_clamp (by omega), hf i hi, dzb]
    simp only [r1.ob, dzb, dzc, dzl, fl0, fl1, fl2, fl3, fl4, fl5, fl6, fl7, fi0, fi1, fi2, fi3, fi4, fi5, fi6, fi7, fr0, fr1, fr2, fr3, fr4, fr5, fr6, fr7, fs0, fs1, fs2, fs3, fs4, fs5, fs6, fs7]
    rw [if_pos (nI_in (by omega) (by omega)), nI_clamp (by omega), hf j (by omega), dzb]
    simp only [r2.ob, dzb, dzc, dzl, fl0, fl1, fl2, fl3, fl4, fl5, fl6, fl7, fi0, fi1, fi2, fi3, fi4, fi5, fi6, fi7, fr0, fr1, fr2, fr3, fr4, fr5, fr6, fr7, fs0, fs1, fs2, fs3, fs4, fs5, fs6, fs7]
    by_cases he : rs[i].1 = rs[j].1
    · rw [if_pos (by rw [he])]
      exact Or.inr ⟨rfl, j, by omega, by omega, by omega, he.symm⟩
    · rw [if_neg (fun e => he ((pk_lEQ (by have := o1.1.2; omega) (by have := o2.1.2; omega)).mp e)), nI_1]
      rcases ih (j + 1) k (by omega) (by omega) with ⟨k', g1, g2, g3⟩ | g
      · refine Or.inl ⟨k', by omega, fun t h1 h2 h3 h4 => ?_, g3⟩
        rcases Nat.eq_or_lt_of_le h3 with h5 | h5
        · subst h5; exact fun e => he e.symm
        · exact g2 t h1 h2 h5 h4
      · exact Or.inr g
theorem hx_twLoop (K : Nat) (ζ : pZ) (τ : pH) (a b : Nat) (as : List Nat) (rs : List sR) (hr : zRs ζ τ a b as) (hw : zRw ζ τ as rs) (hok : ∀ r ∈ rs, sRok r) : ∀ m i kk, i + m = as.length → m * 20 + 2 ≤ kk → (∀ t j (h1 : t < rs.length) (h2 : j < rs.length), t < j → j < i → rs[t].1 ≠ rs[j].1) → ((lfX8_hasTwice K ζ kk).1 a (nI i) τ = some (0, τ) ∧ ∀ t j (h1 : t < rs.length) (h2 : j < rs.length), t < j → rs[t].1 ≠ rs[j].1) ∨ ((lfX8_hasTwice K ζ kk).1 a (nI i) τ = some (1, τ) ∧ ∃ t j, ∃ (h1 : t < rs.length) (h2 : j < rs.length), t < j ∧ rs[t].1 = rs[j].1) := by
  have hr0 := hr
  obtain ⟨f, ha, hb, hl9, -, hf⟩ := hr
  have hlr : as.length = rs.length := hw.1
  intro m
  induction m with
  | zero =>
    intro i kk hi hk hd
    obtain ⟨k, rfl⟩ : ∃ q, kk = q + 1 := ⟨kk - 1, by omega⟩
    rw [luX8_hasTwice_1]
    simp only [ha.ob, dzb, dzc, dzl, fl0, fl1, fl2, fl3, fl4, fl5, fl6, fl7, fi0, fi1, fi2, fi3, fi4, fi5, fi6, fi7, fr0, fr1, fr2, fr3, fr4, fr5, fr6, fr7, fs0, fs1, fs2, fs3, fs4, fs5, fs6, fs7]
    rw [if_pos (nI_le (by omega) (by omega))]
    exact Or.inl ⟨rfl, fun t j h1 h2 h3 => hd t j h1 h2 h3 (by omega)⟩
  | succ m ih =>
    intro i kk hi hk hd
    obtain ⟨k, rfl⟩ : ∃ q, kk = q + 1 := ⟨kk - 1, by omega⟩
    rw [luX8_hasTwice_1]
    simp only [ha.ob, dzb, dzc, dzl, fl0, fl1, fl2, fl3, fl4, fl5, fl6, fl7, fi0, fi1, fi2, fi3, fi4, fi5, fi6, fi7, fr0, fr1, fr2, fr3, fr4, fr5, fr6, fr7, fs0, fs1, fs2, fs3, fs4, fs5, fs6, fs7]
    rw [if_neg (nI_ge (by omega) (by omega)), show (0 : Int32) = nI 0 from rfl]
    rcases hx_twIn K ζ τ a b as rs hr0 hw hok i (by omega) i 0 k (by omega) (by omega) with ⟨k', g1, g2, g3⟩ | ⟨g1, t, h1, h2, g2, g3⟩
    · rw [g3]
      refine ih (i + 1) k' (by omega) (by omega) (fun t j h1 h2 h3 h4 => ?_)
      rcases Nat.lt_or_ge j i with h5 | h5
      · exact hd t j h1 h2 h3 h5
      · have : j = i := by omega
        subst this
        exact g2 t h1 h2 (by omega) h3
    · rw [g1]
      exact Or.inr ⟨rfl, t, i, h1, h2, g2, g3⟩
theorem nodup_iff (rs : List sR) : (rs.map (fun r => r.1)).Nodup ↔ ∀ t j (h1 : t < rs.length) (h2 : j < rs.length), t < j → rs[t].1 ≠ rs[j].1 := by
  unfold List.Nodup
  rw [List.pairwise_iff_getElem]
  constructor
  · intro h t j h1 h2 h3
    have := h t j (by rw [List.length_map]; exact h1) (by rw [List.length_map]; exact h2) h3
    rw [List.getElem_map, List.getElem_map] at this
    exact this
  · intro h t j h1 h2 h3
    rw [List.length_map] at h1 h2
    rw [List.getElem_map, List.getElem_map]
    exact h t j h1 h2 h3
theorem hx_hasTwice (K : Nat) (ζ : pZ) (τ : pH) (a b : Nat) (as : List Nat) (rs : List sR) (hr : zRs ζ τ a b as) (hw : zRw ζ τ as rs) (hok : ∀ r ∈ rs, sRok r) (hK : 1000 ≤ K) : fnX8_hasTwice K ζ a τ = some (nb (sTw rs), τ) := by
  have hl9 : as.length ≤ 9 := by obtain ⟨f, -, -, h, -⟩ := hr; exact h
  rcases hx_twLoop K ζ τ a b as rs hr hw hok as.length 0 K (by omega) (by omega) (fun t j _ _ _ h => by omega) with ⟨g1, g2⟩ | ⟨g1, t, j, h1, h2, g2, g3⟩
  · rw [show sTw rs = false from decide_eq_false (fun q => q ((nodup_iff rs).mpr g2))]; exact g1
  · rw [show sTw rs = true from decide_eq_true (fun q => (nodup_iff rs).mp q t j h1 h2 g2 g3)]; exact g1
def sBk (nf ff : Nat → Nat) (before : Nat) (r : sR) : Bool := (sRest nf ff r.1 before 0).isSome
def sBacked (nf ff : Nat → Nat) (before : Nat) (rs : List sR) : Bool := !sTw rs && rs.all (sBk nf ff before)
theorem bnot_t {b : Bool} (h : b = true) : (!b) = false := by rw [h]; rfl
theorem hl_bkLoop_5 (K : Nat) (ζ : pZ) (x s n p q d u h al ea af laid ta taped ra da : Nat) (mc : Int32) (xs : List Nat) (nf ff : Nat → Nat) (before a b it : Nat) (as : List Nat) (rs : List sR) (hok : ∀ r ∈ rs, sRok r) (hff : ∀ k, k < before → ff k ≤ 9) (h1 : it ≠ a) (h2 : it ≠ b) (h3 : it ∉ as) (h4 : it ≠ x) (h5 : it ≠ h ∧ it ≠ al ∧ it ≠ ea ∧ it ≠ af ∧ it ∉ xs) (hK : 1000 ≤ K) : ∀ m i kk τ, i + m = as.length → zin ζ τ x (lnE 5 s n p q d u h) → zFl ζ τ h al ea af laid ta taped ra da mc xs nf ff before → zin ζ τ it (itE i a) → zRs ζ τ a b as → zRw ζ τ as rs → m + 1 ≤ kk →
    zR τ ((lfX6_isBacked_5__0 K ζ kk) x (nI before) it τ) (fun v t => v = nb ((rs.drop i).all (sBk nf ff before)) ∧ zk (fun a => a = it) τ t 0 0) := by
  intro m
  induction m with
  | zero =>
    intro i kk τ hi hL hF hit hr hw hk
    obtain ⟨k, rfl⟩ : ∃ j, kk = j + 1 := ⟨kk - 1, by omega⟩
    rw [luX6_isBacked_5__0_1]
    refine zR_each K ζ τ it i a b as _ _ _ hit hr h1 h2 (by omega) (fun _ => zR_r ?_) (fun h => absurd h (by omega))
    rw [List.drop_eq_nil_of_le (by rw [← hw.1]; omega)]
    exact ⟨rfl, zk.rfl⟩
  | succ m ih =>
    intro i kk τ hi hL hF hit hr hw hk
    obtain ⟨k, rfl⟩ : ∃ j, kk = j + 1 := ⟨kk - 1, by omega⟩
    rw [luX6_isBacked_5__0_1]
    refine zR_each K ζ τ it i a b as _ _ _ hit hr h1 h2 (by omega) (fun h => absurd h (by omega)) (fun hil => ?_)
    have hlr : i < rs.length := by rw [← hw.1]; exact hil
    have k0 : zk (fun a => a = it) τ (zst τ it (itE (i + 1) a)) 0 0 := zk_st rfl
    have hrow := k0.in (hw.2 i hil hlr) (fun e => h3 (e ▸ List.getElem_mem hil))
    have hL0 := k0.in hL (Ne.symm h4)
    have hF0 := hF.z k0 (Ne.symm h5.1) (Ne.symm h5.2.1) (Ne.symm h5.2.2.1) (Ne.symm h5.2.2.2.1) (fun y hy e => h5.2.2.2.2 (e ▸ hy))
    have ok := hok _ (List.getElem_mem hlr)
    have hP := hF0.1
    simp only [hrow.ob, hL0.ob, dzb, dzc, dzl, fl0, fl1, fl2, fl3, fl4, fl5, fl6, fl7, fi0, fi1, fi2, fi3, fi4, fi5, fi6, fi7, fr0, fr1, fr2, fr3, fr4, fr5, fr6, fr7, fs0, fs1, fs2, fs3, fs4, fs5, fs6, fs7]
    refine zR_b hP.ob ?_
    have er := hx_rest0 K ζ (zst τ it (itE (i + 1) a)) h al ea af laid ta taped ra da mc xs nf ff before rs[i].1 (by have := ok.1.2; omega) hF0 hff hK
    refine zR_cl (Q := fun v t => v = oI (sRest nf ff rs[i].1 before 0) ∧ t = zst τ it (itE (i + 1) a)) (zR_eq er ⟨rfl, rfl⟩ zge.rfl) ?_
    intro v t _ kq
    obtain ⟨rfl, rfl⟩ := kq
    have hb60 := hF.2.2.2.2.2.1.1
    have hbl := hF.2.2.2.1
    have hsome := oI_nn (sRest nf ff rs[i].1 before 0) (fun k hk => by have := sRest_lt nf ff _ _ _ _ hk; omega)
    rw [List.drop_eq_getElem_cons hlr, List.all_cons]
    by_cases hc : (sRest nf ff rs[i].1 before 0).isSome = true
    · refine zR_t (hsome.mpr hc) ?_
      rw [show sBk nf ff before rs[i] = true from hc, Bool.true_and]
      refine zR_imp (ih (i + 1) k _ (by omega) hL0 hF0 (zin_st hit.1) (hr.k k0 (Ne.symm h1) (Ne.symm h2)) (hw.k k0 (fun a ha e => h3 (e ▸ ha))) (by omega)) (fun v t _ P => ⟨P.1, k0.tr P.2⟩)
    · refine zR_f (fun q => hc (hsome.mp q)) (zR_r ?_)
      rw [show sBk nf ff before rs[i] = false from Bool.not_eq_true _ ▸ hc, Bool.false_and]
      exact ⟨rfl, k0⟩
theorem hl_isBacked_5 (K : Nat) (ζ : pZ) (τ : pH) (x s n p q d u h al ea af laid ta taped ra da : Nat) (mc : Int32) (xs : List Nat) (nf ff : Nat → Nat) (before a b : Nat) (as : List Nat) (rs : List sR) (hζ : ζ.1 ≤ τ.1) (hok : ∀ r ∈ rs, sRok r) (hff : ∀ k, k < before → ff k ≤ 9) (hL : zin ζ τ x (lnE 5 s n p q d u h)) (hF : zFl ζ τ h al ea af laid ta taped ra da mc xs nf ff before) (hea : ea < τ.1) (hr : zRs ζ τ a b as) (hw : zRw ζ τ as rs) (hK : 1000 ≤ K) : zR τ (fnX6_isBacked_5__0 K ζ x a (nI before) τ) (fun v t => v = nb (sBacked nf ff before rs) ∧ zc5 τ t 1) := by
  have hr0 := hr
  obtain ⟨f, ha, hb, hl9, -, -⟩ := hr
  unfold fnX6_isBacked_5__0 sBacked
  refine zR_b ha.ob (zR_cl (Q := fun v t => v = nb (sTw rs) ∧ t = τ) (zR_eq (hx_hasTwice K ζ τ a b as rs hr0 hw hok hK) ⟨rfl, rfl⟩ zge.rfl) ?_)
  intro v t _ kq
  obtain ⟨rfl, rfl⟩ := kq
  by_cases ht : sTw rs = true
  · rw [ht]
    exact zR_f (by decide) (zR_r ⟨rfl, zk.rfl.le (by omega) (by omega)⟩)
  · have ht : sTw rs = false := Bool.not_eq_true _ ▸ ht
    rw [ht]
    refine zR_t rfl (zR_b ha.ob (zR_cl (Q := fun v s => v = t.1 ∧ s = znw t 2 (itE 0 a)) (zR_eq (hr_iter K ζ t a hζ) ⟨rfl, rfl⟩ ⟨Nat.le_succ _, Nat.le_add_right _ _⟩) ?_))
    intro v s' _ kq
    obtain ⟨rfl, rfl⟩ := kq
    have k1 : zk zno t (znw t 2 (itE 0 a)) 1 2 := zk_nw
    have hxs : t.1 ∉ xs := by
      intro hx
      obtain ⟨i, hi, e⟩ := List.getElem_of_mem hx
      obtain ⟨c, s, p, q, d, u, h', b1, -⟩ := hF.2.2.2.2.2.2 i hi
      have := b1.1.2
      rw [e] at this
      exact Nat.lt_irrefl _ this
    have haf : af < t.1 := by
      obtain ⟨f, q, -⟩ := hF.2.2.1
      exact q.1.2
    refine zR_imp (hl_bkLoop_5 K ζ x s n p q d u h al ea af laid ta taped ra da mc xs nf ff before a b t.1 as rs hok hff (Nat.ne_of_gt ha.1.2) (Nat.ne_of_gt hb.1.2) (zin_as_ne hw) (Nat.ne_of_gt hL.1.2) ⟨Nat.ne_of_gt hF.1.1.2, Nat.ne_of_gt hF.2.1.1.1.2, Nat.ne_of_gt hea, Nat.ne_of_gt haf, hxs⟩ hK as.length 0 K _ (by omega) (k1.i hL) (hF.k k1) (zin_nw hζ) (k1.R hr0) (k1.W hw) (by omega)) (fun v s'' _ P => ?_)
    rw [List.drop_zero] at P
    refine ⟨P.1, ?_⟩
    exact (k1.new (P.2.wk (fun a _ h => (Or.inr (by rw [h]; exact Nat.le_refl _) : zno a ∨ t.1 ≤ a)))).le (by omega) (by omega)
theorem hl_bkLoop_6 (K : Nat) (ζ : pZ) (x s n p q d u h al ea af laid ta taped ra da : Nat) (mc : Int32) (xs : List Nat) (nf ff : Nat → Nat) (before a b it : Nat) (as : List Nat) (rs : List sR) (hok : ∀ r ∈ rs, sRok r) (hff : ∀ k, k < before → ff k ≤ 9) (h1 : it ≠ a) (h2 : it ≠ b) (h3 : it ∉ as) (h4 : it ≠ x) (h5 : it ≠ h ∧ it ≠ al ∧ it ≠ ea ∧ it ≠ af ∧ it ∉ xs) (hK : 1000 ≤ K) : ∀ m i kk τ, i + m = as.length → zin ζ τ x (lnE 6 s n p q d u h) → zFl ζ τ h al ea af laid ta taped ra da mc xs nf ff before → zin ζ τ it (itE i a) → zRs ζ τ a b as → zRw ζ τ as rs → m + 1 ≤ kk →
    zR τ ((lfX6_isBacked_6__0 K ζ kk) x (nI before) it τ) (fun v t => v = nb ((rs.drop i).all (sBk nf ff before)) ∧ zk (fun a => a = it) τ t 0 0) := by
  intro m
  induction m with
  | zero =>
    intro i kk τ hi hL hF hit hr hw hk
    obtain ⟨k, rfl⟩ : ∃ j, kk = j + 1 := ⟨kk - 1, by omega⟩
    rw [luX6_isBacked_6__0_1]
    refine zR_each K ζ τ it i a b as _ _ _ hit hr h1 h2 (by omega) (fun _ => zR_r ?_) (fun h => absurd h (by omega))
    rw [List.drop_eq_nil_of_le (by rw [← hw.1]; omega)]
    exact ⟨rfl, zk.rfl⟩
  | succ m ih =>
    intro i kk τ hi hL hF hit hr hw hk
    obtain ⟨k, rfl⟩ : ∃ j, kk = j + 1 := ⟨kk - 1, by omega⟩
    rw [luX6_isBacked_6__0_1]
    refine zR_each K ζ τ it i a b as _ _ _ hit hr h1 h2 (by omega) (fun h => absurd h (by omega)) (fun hil => ?_)
    have hlr : i < rs.length := by rw [← hw.1]; exact hil
    have k0 : zk (fun a => a = it) τ (zst τ it (itE (i + 1) a)) 0 0 := zk_st rfl
    have hrow := k0.in (hw.2 i hil hlr) (fun e => h3 (e ▸ List.getElem_mem hil))
    have hL0 := k0.in hL (Ne.symm h4)
    have hF0 := hF.z k0 (Ne.symm h5.1) (Ne.symm h5.2.1) (Ne.symm h5.2.2.1) (Ne.symm h5.2.2.2.1) (fun y hy e => h5.2.2.2.2 (e ▸ hy))
    have ok := hok _ (List.getElem_mem hlr)
    have hP := hF0.1
    simp only [hrow.ob, hL0.ob, dzb, dzc, dzl, fl0, fl1, fl2, fl3, fl4, fl5, fl6, fl7, fi0, fi1, fi2, fi3, fi4, fi5, fi6, fi7, fr0, fr1, fr2, fr3, fr4, fr5, fr6, fr7, fs0, fs1, fs2, fs3, fs4, fs5, fs6, fs7]
    refine zR_b hP.ob ?_
    have er := hx_rest0 K ζ (zst τ it (itE (i + 1) a)) h al ea af laid ta taped ra da mc xs nf ff before rs[i].1 (by have := ok.1.2; omega) hF0 hff hK
    refine zR_cl (Q := fun v t => v = oI (sRest nf ff rs[i].1 before 0) ∧ t = zst τ it (itE (i + 1) a)) (zR_eq er ⟨rfl, rfl⟩ zge.rfl) ?_
    intro v t _ kq
    obtain ⟨rfl, rfl⟩ := kq
    have hb60 := hF.2.2.2.2.2.1.1
    have hbl := hF.2.2.2.1
    have hsome := oI_nn (sRest nf ff rs[i].1 before 0) (fun k hk => by have := sRest_lt nf ff _ _ _ _ hk; omega)
    rw [List.drop_eq_getElem_cons hlr, List.all_cons]
    by_cases hc : (sRest nf ff rs[i].1 before 0).isSome = true
    · refine zR_t (hsome.mpr hc) ?_
      rw [show sBk nf ff before rs[i] = true from hc, Bool.true_and]
      refine zR_imp (ih (i + 1) k _ (by omega) hL0 hF0 (zin_st hit.1) (hr.k k0 (Ne.symm h1) (Ne.symm h2)) (hw.k k0 (fun a ha e => h3 (e ▸ ha))) (by omega)) (fun v t _ P => ⟨P.1, k0.tr P.2⟩)
    · refine zR_f (fun q => hc (hsome.mp q)) (zR_r ?_)
      rw [show sBk nf ff before rs[i] = false from Bool.not_eq_true _ ▸ hc, Bool.false_and]
      exact ⟨rfl, k0⟩
theorem hl_isBacked_6 (K : Nat) (ζ : pZ) (τ : pH) (x s n p q d u h al ea af laid ta taped ra da : Nat) (mc : Int32) (xs : List Nat) (nf ff : Nat → Nat) (before a b : Nat) (as : List Nat) (rs : List sR) (hζ : ζ.1 ≤ τ.1) (hok : ∀ r ∈ rs, sRok r) (hff : ∀ k, k < before → ff k ≤ 9) (hL : zin ζ τ x (lnE 6 s n p q d u h)) (hF : zFl ζ τ h al ea af laid ta taped ra da mc xs nf ff before) (hea : ea < τ.1) (hr : zRs ζ τ a b as) (hw : zRw ζ τ as rs) (hK : 1000 ≤ K) : zR τ (fnX6_isBacked_6__0 K ζ x a (nI before) τ) (fun v t => v = nb (sBacked nf ff before rs) ∧ zc5 τ t 1) := by
  have hr0 := hr
  obtain ⟨f, ha, hb, hl9, -, -⟩ := hr
  unfold fnX6_isBacked_6__0 sBacked
  refine zR_b ha.ob (zR_cl (Q := fun v t => v = nb (sTw rs) ∧ t = τ) (zR_eq (hx_hasTwice K ζ τ a b as rs hr0 hw hok hK) ⟨rfl, rfl⟩ zge.rfl) ?_)
  intro v t _ kq
  obtain ⟨rfl, rfl⟩ := kq
  by_cases ht : sTw rs = true
  · rw [ht]
    exact zR_f (by decide) (zR_r ⟨rfl, zk.rfl.le (by omega) (by omega)⟩)
  · have ht : sTw rs = false := Bool.not_eq_true _ ▸ ht
    rw [ht]
    refine zR_t rfl (zR_b ha.ob (zR_cl (Q := fun v s => v = t.1 ∧ s = znw t 2 (itE 0 a)) (zR_eq (hr_iter K ζ t a hζ) ⟨rfl, rfl⟩ ⟨Nat.le_succ _, Nat.le_add_right _ _⟩) ?_))
    intro v s' _ kq
    obtain ⟨rfl, rfl⟩ := kq
    have k1 : zk zno t (znw t 2 (itE 0 a)) 1 2 := zk_nw
    have hxs : t.1 ∉ xs := by
      intro hx
      obtain ⟨i, hi, e⟩ := List.getElem_of_mem hx
      obtain ⟨c, s, p, q, d, u, h', b1, -⟩ := hF.2.2.2.2.2.2 i hi
      have := b1.1.2
      rw [e] at this
      exact Nat.lt_irrefl _ this
    have haf : af < t.1 := by
      obtain ⟨f, q, -⟩ := hF.2.2.1
      exact q.1.2
    refine zR_imp (hl_bkLoop_6 K ζ x s n p q d u h al ea af laid ta taped ra da mc xs nf ff before a b t.1 as rs hok hff (Nat.ne_of_gt ha.1.2) (Nat.ne_of_gt hb.1.2) (zin_as_ne hw) (Nat.ne_of_gt hL.1.2) ⟨Nat.ne_of_gt hF.1.1.2, Nat.ne_of_gt hF.2.1.1.1.2, Nat.ne_of_gt hea, Nat.ne_of_gt haf, hxs⟩ hK as.length 0 K _ (by omega) (k1.i hL) (hF.k k1) (zin_nw hζ) (k1.R hr0) (k1.W hw) (by omega)) (fun v s'' _ P => ?_)
    rw [List.drop_zero] at P
    refine ⟨P.1, ?_⟩
    exact (k1.new (P.2.wk (fun a _ h => (Or.inr (by rw [h]; exact Nat.le_refl _) : zno a ∨ t.1 ≤ a)))).le (by omega) (by omega)
theorem hl_bkLoop_7 (K : Nat) (ζ : pZ) (x s n p q d u h al ea af laid ta taped ra da : Nat) (mc : Int32) (xs : List Nat) (nf ff : Nat → Nat) (before a b it : Nat) (as : List Nat) (rs : List sR) (hok : ∀ r ∈ rs, sRok r) (hff : ∀ k, k < before → ff k ≤ 9) (h1 : it ≠ a) (h2 : it ≠ b) (h3 : it ∉ as) (h4 : it ≠ x) (h5 : it ≠ h ∧ it ≠ al ∧ it ≠ ea ∧ it ≠ af ∧ it ∉ xs) (hK : 1000 ≤ K) : ∀ m i kk τ, i + m = as.length → zin ζ τ x (lnE 7 s n p q d u h) → zFl ζ τ h al ea af laid ta taped ra da mc xs nf ff before → zin ζ τ it (itE i a) → zRs ζ τ a b as → zRw ζ τ as rs → m + 1 ≤ kk →
    zR τ ((lfX6_isBacked_7__0 K ζ kk) x (nI before) it τ) (fun v t => v = nb ((rs.drop i).all (sBk nf ff before)) ∧ zk (fun a => a = it) τ t 0 0) := by
  intro m
  induction m with
  | zero =>
    intro i kk τ hi hL hF hit hr hw hk
    obtain ⟨k, rfl⟩ : ∃ j, kk = j + 1 := ⟨kk - 1, by omega⟩
    rw [luX6_isBacked_7__0_1]
    refine zR_each K ζ τ it i a b as _ _ _ hit hr h1 h2 (by omega) (fun _ => zR_r ?_) (fun h => absurd h (by omega))
    rw [List.drop_eq_nil_of_le (by rw [← hw.1]; omega)]
    exact ⟨rfl, zk.rfl⟩
  | succ m ih =>
    intro i kk τ hi hL hF hit hr hw hk
    obtain ⟨k, rfl⟩ : ∃ j, kk = j + 1 := ⟨kk - 1, by omega⟩
    rw [luX6_isBacked_7__0_1]
    refine zR_each K ζ τ it i a b as _ _ _ hit hr h1 h2 (by omega) (fun h => absurd h (by omega)) (fun hil => ?_)
    have hlr : i < rs.length := by rw [← hw.1]; exact hil
    have k0 : zk (fun a => a = it) τ (zst τ it (itE (i + 1) a)) 0 0 := zk_st rfl
    have hrow := k0.in (hw.2 i hil hlr) (fun e => h3 (e ▸ List.getElem_mem hil))
    have hL0 := k0.in hL (Ne.symm h4)
    have hF0 := hF.z k0 (Ne.symm h5.1) (Ne.symm h5.2.1) (Ne.symm h5.2.2.1) (Ne.symm h5.2.2.2.1) (fun y hy e => h5.2.2.2.2 (e ▸ hy))
    have ok := hok _ (List.getElem_mem hlr)
    have hP := hF0.1
    simp only [hrow.ob, hL0.ob, dzb, dzc, dzl, fl0, fl1, fl2, fl3, fl4, fl5, fl6, fl7, fi0, fi1, fi2, fi3, fi4, fi5, fi6, fi7, fr0, fr1, fr2, fr3, fr4, fr5, fr6, fr7, fs0, fs1, fs2, fs3, fs4, fs5, fs6, fs7]
    refine zR_b hP.ob ?_
    have er := hx_rest0 K ζ (zst τ it (itE (i + 1) a)) h al ea af laid ta taped ra da mc xs nf ff before rs[i].1 (by have := ok.1.2; omega) hF0 hff hK
    refine zR_cl (Q := fun v t => v = oI (sRest nf ff rs[i].1 before 0) ∧ t = zst τ it (itE (i + 1) a)) (zR_eq er ⟨rfl, rfl⟩ zge.rfl) ?_
    intro v t _ kq
    obtain ⟨rfl, rfl⟩ := kq
    have hb60 := hF.2.2.2.2.2.1.1
    have hbl := hF.2.2.2.1
    have hsome := oI_nn (sRest nf ff rs[i].1 before 0) (fun k hk => by have := sRest_lt nf ff _ _ _ _ hk; omega)
    rw [List.drop_eq_getElem_cons hlr, List.all_cons]
    by_cases hc : (sRest nf ff rs[i].1 before 0).isSome = true
    · refine zR_t (hsome.mpr hc) ?_
      rw [show sBk nf ff before rs[i] = true from hc, Bool.true_and]
      refine zR_imp (ih (i + 1) k _ (by omega) hL0 hF0 (zin_st hit.1) (hr.k k0 (Ne.symm h1) (Ne.symm h2)) (hw.k k0 (fun a ha e => h3 (e ▸ ha))) (by omega)) (fun v t _ P => ⟨P.1, k0.tr P.2⟩)
    · refine zR_f (fun q => hc (hsome.mp q)) (zR_r ?_)
      rw [show sBk nf ff before rs[i] = false from Bool.not_eq_true _ ▸ hc, Bool.false_and]
      exact ⟨rfl, k0⟩
theorem hl_isBacked_7 (K : Nat) (ζ : pZ) (τ : pH) (x s n p q d u h al ea af laid ta taped ra da : Nat) (mc : Int32) (xs : List Nat) (nf ff : Nat → Nat) (before a b : Nat) (as : List Nat) (rs : List sR) (hζ : ζ.1 ≤ τ.1) (hok : ∀ r ∈ rs, sRok r) (hff : ∀ k, k < before → ff k ≤ 9) (hL : zin ζ τ x (lnE 7 s n p q d u h)) (hF : zFl ζ τ h al ea af laid ta taped ra da mc xs nf ff before) (hea : ea < τ.1) (hr : zRs ζ τ a b as) (hw : zRw ζ τ as rs) (hK : 1000 ≤ K) : zR τ (fnX6_isBacked_7__0 K ζ x a (nI before) τ) (fun v t => v = nb (sBacked nf ff before rs) ∧ zc5 τ t 1) := by
  have hr0 := hr
  obtain ⟨f, ha, hb, hl9, -, -⟩ := hr
  unfold fnX6_isBacked_7__0 sBacked
  refine zR_b ha.ob (zR_cl (Q := fun v t => v = nb (sTw rs) ∧ t = τ) (zR_eq (hx_hasTwice K ζ τ a b as rs hr0 hw hok hK) ⟨rfl, rfl⟩ zge.rfl) ?_)
  intro v t _ kq
  obtain ⟨rfl, rfl⟩ := kq
  by_cases ht : sTw rs = true
  · rw [ht]
    exact zR_f (by decide) (zR_r ⟨rfl, zk.rfl.le (by omega) (by omega)⟩)
  · have ht : sTw rs = false := Bool.not_eq_true _ ▸ ht
    rw [ht]
    refine zR_t rfl (zR_b ha.ob (zR_cl (Q := fun v s => v = t.1 ∧ s = znw t 2 (itE 0 a)) (zR_eq (hr_iter K ζ t a hζ) ⟨rfl, rfl⟩ ⟨Nat.le_succ _, Nat.le_add_right _ _⟩) ?_))
    intro v s' _ kq
    obtain ⟨rfl, rfl⟩ := kq
    have k1 : zk zno t (znw t 2 (itE 0 a)) 1 2 := zk_nw
    have hxs : t.1 ∉ xs := by
      intro hx
      obtain ⟨i, hi, e⟩ := List.getElem_of_mem hx
      obtain ⟨c, s, p, q, d, u, h', b1, -⟩ := hF.2.2.2.2.2.2 i hi
      have := b1.1.2
      rw [e] at this
      exact Nat.lt_irrefl _ this
    have haf : af < t.1 := by
      obtain ⟨f, q, -⟩ := hF.2.2.1
      exact q.1.2
    refine zR_imp (hl_bkLoop_7 K ζ x s n p q d u h al ea af laid ta taped ra da mc xs nf ff before a b t.1 as rs hok hff (Nat.ne_of_gt ha.1.2) (Nat.ne_of_gt hb.1.2) (zin_as_ne hw) (Nat.ne_of_gt hL.1.2) ⟨Nat.ne_of_gt hF.1.1.2, Nat.ne_of_gt hF.2.1.1.1.2, Nat.ne_of_gt hea, Nat.ne_of_gt haf, hxs⟩ hK as.length 0 K _ (by omega) (k1.i hL) (hF.k k1) (zin_nw hζ) (k1.R hr0) (k1.W hw) (by omega)) (fun v s'' _ P => ?_)
    rw [List.drop_zero] at P
    refine ⟨P.1, ?_⟩
    exact (k1.new (P.2.wk (fun a _ h => (Or.inr (by rw [h]; exact Nat.le_refl _) : zno a ∨ t.1 ≤ a)))).le (by omega) (by omega)
theorem hl_bkLoop_8 (K : Nat) (ζ : pZ) (x s n p q d u h al ea af laid ta taped ra da : Nat) (mc : Int32) (xs : List Nat) (nf ff : Nat → Nat) (before a b it : Nat) (as : List Nat) (rs : List sR) (hok : ∀ r ∈ rs, sRok r) (hff : ∀ k, k < before → ff k ≤ 9) (h1 : it ≠ a) (h2 : it ≠ b) (h3 : it ∉ as) (h4 : it ≠ x) (h5 : it ≠ h ∧ it ≠ al ∧ it ≠ ea ∧ it ≠ af ∧ it ∉ xs) (hK : 1000 ≤ K) : ∀ m i kk τ, i + m = as.length → zin ζ τ x (lnE 8 s n p q d u h) → zFl ζ τ h al ea af laid ta taped ra da mc xs nf ff before → zin ζ τ it (itE i a) → zRs ζ τ a b as → zRw ζ τ as rs → m + 1 ≤ kk →
    zR τ ((lfX6_isBacked_8__0 K ζ kk) x (nI before) it τ) (fun v t => v = nb ((rs.drop i).all (sBk nf ff before)) ∧ zk (fun a => a = it) τ t 0 0) := by
  intro m
  induction m with
  | zero =>
    intro i kk τ hi hL hF hit hr hw hk
    obtain ⟨k, rfl⟩ : ∃ j, kk = j + 1 := ⟨kk - 1, by omega⟩
    rw [luX6_isBacked_8__0_1]
    refine zR_each K ζ τ it i a b as _ _ _ hit hr h1 h2 (by omega) (fun _ => zR_r ?_) (fun h => absurd h (by omega))
    rw [List.drop_eq_nil_of_le (by rw [← hw.1]; omega)]
    exact ⟨rfl, zk.rfl⟩
  | succ m ih =>
    intro i kk τ hi hL hF hit hr hw hk
    obtain ⟨k, rfl⟩ : ∃ j, kk = j + 1 := ⟨kk - 1, by omega⟩
    rw [luX6_isBacked_8__0_1]
    refine zR_each K ζ τ it i a b as _ _ _ hit hr h1 h2 (by omega) (fun h => absurd h (by omega)) (fun hil => ?_)
    have hlr : i < rs.length := by rw [← hw.1]; exact hil
    have k0 : zk (fun a => a = it) τ (zst τ it (itE (i + 1) a)) 0 0 := zk_st rfl
    have hrow := k0.in (hw.2 i hil hlr) (fun e => h3 (e ▸ List.getElem_mem hil))
    have hL0 := k0.in hL (Ne.symm h4)
    have hF0 := hF.z k0 (Ne.symm h5.1) (Ne.symm h5.2.1) (Ne.symm h5.2.2.1) (Ne.symm h5.2.2.2.1) (fun y hy e => h5.2.2.2.2 (e ▸ hy))
    have ok := hok _ (List.getElem_mem hlr)
    have hP := hF0.1
    simp only [hrow.ob, hL0.ob, dzb, dzc, dzl, fl0, fl1, fl2, fl3, fl4, fl5, fl6, fl7, fi0, fi1, fi2, fi3, fi4, fi5, fi6, fi7, fr0, fr1, fr2, fr3, fr4, fr5, fr6, fr7, fs0, fs1, fs2, fs3, fs4, fs5, fs6, fs7]
    refine zR_b hP.ob ?_
    have er := hx_rest0 K ζ (zst τ it (itE (i + 1) a)) h al ea af laid ta taped ra da mc xs nf ff before rs[i].1 (by have := ok.1.2; omega) hF0 hff hK
    refine zR_cl (Q := fun v t => v = oI (sRest nf ff rs[i].1 before 0) ∧ t = zst τ it (itE (i + 1) a)) (zR_eq er ⟨rfl, rfl⟩ zge.rfl) ?_
    intro v t _ kq
    obtain ⟨rfl, rfl⟩ := kq
    have hb60 := hF.2.2.2.2.2.1.1
    have hbl := hF.2.2.2.1
    have hsome := oI_nn (sRest nf ff rs[i].1 before 0) (fun k hk => by have := sRest_lt nf ff _ _ _ _ hk; omega)
    rw [List.drop_eq_getElem_cons hlr, List.all_cons]
    by_cases hc : (sRest nf ff rs[i].1 before 0).isSome = true
    · refine zR_t (hsome.mpr hc) ?_
      rw [show sBk nf ff before rs[i] = true from hc, Bool.true_and]
      refine zR_imp (ih (i + 1) k _ (by omega) hL0 hF0 (zin_st hit.1) (hr.k k0 (Ne.symm h1) (Ne.symm h2)) (hw.k k0 (fun a ha e => h3 (e ▸ ha))) (by omega)) (fun v t _ P => ⟨P.1, k0.tr P.2⟩)
    · refine zR_f (fun q => hc (hsome.mp q)) (zR_r ?_)
      rw [show sBk nf ff before rs[i] = false from Bool.not_eq_true _ ▸ hc, Bool.false_and]
      exact ⟨rfl, k0⟩
theorem hl_isBacked_8 (K : Nat) (ζ : pZ) (τ : pH) (x s n p q d u h al ea af laid ta taped ra da : Nat) (mc : Int32) (xs : List Nat) (nf ff : Nat → Nat) (before a b : Nat) (as : List Nat) (rs : List sR) (hζ : ζ.1 ≤ τ.1) (hok : ∀ r ∈ rs, sRok r) (hff : ∀ k, k < before → ff k ≤ 9) (hL : zin ζ τ x (lnE 8 s n p q d u h)) (hF : zFl ζ τ h al ea af laid ta taped ra da mc xs nf ff before) (hea : ea < τ.1) (hr : zRs ζ τ a b as) (hw : zRw ζ τ as rs) (hK : 1000 ≤ K) : zR τ (fnX6_isBacked_8__0 K ζ x a (nI before) τ) (fun v t => v = nb (sBacked nf ff before rs) ∧ zc5 τ t 1) := by
  have hr0 := hr
  obtain ⟨f, ha, hb, hl9, -, -⟩ := hr
  unfold fnX6_isBacked_8__0 sBacked
  refine zR_b ha.ob (zR_cl (Q := fun v t => v = nb (sTw rs) ∧ t = τ) (zR_eq (hx_hasTwice K ζ τ a b as rs hr0 hw hok hK) ⟨rfl, rfl⟩ zge.rfl) ?_)
  intro v t _ kq
  obtain ⟨rfl, rfl⟩ := kq
  by_cases ht : sTw rs = true
  · rw [ht]
    exact zR_f (by decide) (zR_r ⟨rfl, zk.rfl.le (by omega) (by omega)⟩)
  · have ht : sTw rs = false := Bool.not_eq_true _ ▸ ht
    rw [ht]
    refine zR_t rfl (zR_b ha.ob (zR_cl (Q := fun v s => v = t.1 ∧ s = znw t 2 (itE 0 a)) (zR_eq (hr_iter K ζ t a hζ) ⟨rfl, rfl⟩ ⟨Nat.le_succ _, Nat.le_add_right _ _⟩) ?_))
    intro v s' _ kq
    obtain ⟨rfl, rfl⟩ := kq
    have k1 : zk zno t (znw t 2 (itE 0 a)) 1 2 := zk_nw
    have hxs : t.1 ∉ xs := by
      intro hx
      obtain ⟨i, hi, e⟩ := List.getElem_of_mem hx
      obtain ⟨c, s, p, q, d, u, h', b1, -⟩ := hF.2.2.2.2.2.2 i hi
      have := b1.1.2
      rw [e] at this
      exact Nat.lt_irrefl _ this
    have haf : af < t.1 := by
      obtain ⟨f, q, -⟩ := hF.2.2.1
      exact q.1.2
    refine zR_imp (hl_bkLoop_8 K ζ x s n p q d u h al ea af laid ta taped ra da mc xs nf ff before a b t.1 as rs hok hff (Nat.ne_of_gt ha.1.2) (Nat.ne_of_gt hb.1.2) (zin_as_ne hw) (Nat.ne_of_gt hL.1.2) ⟨Nat.ne_of_gt hF.1.1.2, Nat.ne_of_gt hF.2.1.1.1.2, Nat.ne_of_gt hea, Nat.ne_of_gt haf, hxs⟩ hK as.length 0 K _ (by omega) (k1.i hL) (hF.k k1) (zin_nw hζ) (k1.R hr0) (k1.W hw) (by omega)) (fun v s'' _ P => ?_)
    rw [List.drop_zero] at P
    refine ⟨P.1, ?_⟩
    exact (k1.new (P.2.wk (fun a _ h => (Or.inr (by rw [h]; exact Nat.le_refl _) : zno a ∨ t.1 ≤ a)))).le (by omega) (by omega)
theorem hl_bkLoop_9 (K : Nat) (ζ : pZ) (x s n p q d u h al ea af laid ta taped ra da : Nat) (mc : Int32) (xs : List Nat) (nf ff : Nat → Nat) (before a b it : Nat) (as : List Nat) (rs : List sR) (hok : ∀ r ∈ rs, sRok r) (hff : ∀ k, k < before → ff k ≤ 9) (h1 : it ≠ a) (h2 : it ≠ b) (h3 : it ∉ as) (h4 : it ≠ x) (h5 : it ≠ h ∧ it ≠ al ∧ it ≠ ea ∧ it ≠ af ∧ it ∉ xs) (hK : 1000 ≤ K) : ∀ m i kk τ, i + m = as.length → zin ζ τ x (lnE 9 s n p q d u h) → zFl ζ τ h al ea af laid ta taped ra da mc xs nf ff before → zin ζ τ it (itE i a) → zRs ζ τ a b as → zRw ζ τ as rs → m + 1 ≤ kk →
    zR τ ((lfX6_isBacked_9__0 K ζ kk) x (nI before) it τ) (fun v t => v = nb ((rs.drop i).all (sBk nf ff before)) ∧ zk (fun a => a = it) τ t 0 0) := by
  intro m
  induction m with
  | zero =>
    intro i kk τ hi hL hF hit hr hw hk
    obtain ⟨k, rfl⟩ : ∃ j, kk = j + 1 := ⟨kk - 1, by omega⟩
    rw [luX6_isBacked_9__0_1]
    refine zR_each K ζ τ it i a b as _ _ _ hit hr h1 h2 (by omega) (fun _ => zR_r ?_) (fun h => absurd h (by omega))
    rw [List.drop_eq_nil_of_le (by rw [← hw.1]; omega)]
    exact ⟨rfl, zk.rfl⟩
  | succ m ih =>
    intro i kk τ hi hL hF hit hr hw hk
    obtain ⟨k, rfl⟩ : ∃ j, kk = j + 1 := ⟨kk - 1, by omega⟩
    rw [luX6_isBacked_9__0_1]
    refine zR_each K ζ τ it i a b as _ _ _ hit hr h1 h2 (by omega) (fun h => absurd h (by omega)) (fun hil => ?_)
    have hlr : i < rs.length := by rw [← hw.1]; exact hil
    have k0 : zk (fun a => a = it) τ (zst τ it (itE (i + 1) a)) 0 0 := zk_st rfl
    have hrow := k0.in (hw.2 i hil hlr) (fun e => h3 (e ▸ List.getElem_mem hil))
    have hL0 := k0.in hL (Ne.symm h4)
    have hF0 := hF.z k0 (Ne.symm h5.1) (Ne.symm h5.2.1) (Ne.symm h5.2.2.1) (Ne.symm h5.2.2.2.1) (fun y hy e => h5.2.2.2.2 (e ▸ hy))
    have ok := hok _ (List.getElem_mem hlr)
    have hP := hF0.1
    simp only [hrow.ob, hL0.ob, dzb, dzc, dzl, fl0, fl1, fl2, fl3, fl4, fl5, fl6, fl7, fi0, fi1, fi2, fi3, fi4, fi5, fi6, fi7, fr0, fr1, fr2, fr3, fr4, fr5, fr6, fr7, fs0, fs1, fs2, fs3, fs4, fs5, fs6, fs7]
    refine zR_b hP.ob ?_
    have er := hx_rest0 K ζ (zst τ it (itE (i + 1) a)) h al ea af laid ta taped ra da mc xs nf ff before rs[i].1 (by have := ok.1.2; omega) hF0 hff hK
    refine zR_cl (Q := fun v t => v = oI (sRest nf ff rs[i].1 before 0) ∧ t = zst τ it (itE (i + 1) a)) (zR_eq er ⟨rfl, rfl⟩ zge.rfl) ?_
    intro v t _ kq
    obtain ⟨rfl, rfl⟩ := kq
    have hb60 := hF.2.2.2.2.2.1.1
    have hbl := hF.2.2.2.1
    have hsome := oI_nn (sRest nf ff rs[i].1 before 0) (fun k hk => by have := sRest_lt nf ff _ _ _ _ hk; omega)
    rw [List.drop_eq_getElem_cons hlr, List.all_cons]
    by_cases hc : (sRest nf ff rs[i].1 before 0).isSome = true
    · refine zR_t (hsome.mpr hc) ?_
      rw [show sBk nf ff before rs[i] = true from hc, Bool.true_and]
      refine zR_imp (ih (i + 1) k _ (by omega) hL0 hF0 (zin_st hit.1) (hr.k k0 (Ne.symm h1) (Ne.symm h2)) (hw.k k0 (fun a ha e => h3 (e ▸ ha))) (by omega)) (fun v t _ P => ⟨P.1, k0.tr P.2⟩)
    · refine zR_f (fun q => hc (hsome.mp q)) (zR_r ?_)
      rw [show sBk nf ff before rs[i] = false from Bool.not_eq_true _ ▸ hc, Bool.false_and]
      exact ⟨rfl, k0⟩
theorem hl_isBacked_9 (K : Nat) (ζ : pZ) (τ : pH) (x s n p q d u h al ea af laid ta taped ra da : Nat) (mc : Int32) (xs : List Nat) (nf ff : Nat → Nat) (before a b : Nat) (as : List Nat) (rs : List sR) (hζ : ζ.1 ≤ τ.1) (hok : ∀ r ∈ rs, sRok r) (hff : ∀ k, k < before → ff k ≤ 9) (hL : zin ζ τ x (lnE 9 s n p q d u h)) (hF : zFl ζ τ h al ea af laid ta taped ra da mc xs nf ff before) (hea : ea < τ.1) (hr : zRs ζ τ a b as) (hw : zRw ζ τ as rs) (hK : 1000 ≤ K) : zR τ (fnX6_isBacked_9__0 K ζ x a (nI before) τ) (fun v t => v = nb (sBacked nf ff before rs) ∧ zc5 τ t 1) := by
  have hr0 := hr
  obtain ⟨f, ha, hb, hl9, -, -⟩ := hr
  unfold fnX6_isBacked_9__0 sBacked
  refine zR_b ha.ob (zR_cl (Q := fun v t => v = nb (sTw rs) ∧ t = τ) (zR_eq (hx_hasTwice K ζ τ a b as rs hr0 hw hok hK) ⟨rfl, rfl⟩ zge.rfl) ?_)
  intro v t _ kq
  obtain ⟨rfl, rfl⟩ := kq
  by_cases ht : sTw rs = true
  · rw [ht]
    exact zR_f (by decide) (zR_r ⟨rfl, zk.rfl.le (by omega) (by omega)⟩)
  · have ht : sTw rs = false := Bool.not_eq_true _ ▸ ht
    rw [ht]
    refine zR_t rfl (zR_b ha.ob (zR_cl (Q := fun v s => v = t.1 ∧ s = znw t 2 (itE 0 a)) (zR_eq (hr_iter K ζ t a hζ) ⟨rfl, rfl⟩ ⟨Nat.le_succ _, Nat.le_add_right _ _⟩) ?_))
    intro v s' _ kq
    obtain ⟨rfl, rfl⟩ := kq
    have k1 : zk zno t (znw t 2 (itE 0 a)) 1 2 := zk_nw
    have hxs : t.1 ∉ xs := by
      intro hx
      obtain ⟨i, hi, e⟩ := List.getElem_of_mem hx
      obtain ⟨c, s, p, q, d, u, h', b1, -⟩ := hF.2.2.2.2.2.2 i hi
      have := b1.1.2
      rw [e] at this
      exact Nat.lt_irrefl _ this
    have haf : af < t.1 := by
      obtain ⟨f, q, -⟩ := hF.2.2.1
      exact q.1.2
    refine zR_imp (hl_bkLoop_9 K ζ x s n p q d u h al ea af laid ta taped ra da mc xs nf ff before a b t.1 as rs hok hff (Nat.ne_of_gt ha.1.2) (Nat.ne_of_gt hb.1.2) (zin_as_ne hw) (Nat.ne_of_gt hL.1.2) ⟨Nat.ne_of_gt hF.1.1.2, Nat.ne_of_gt hF.2.1.1.1.2, Nat.ne_of_gt hea, Nat.ne_of_gt haf, hxs⟩ hK as.length 0 K _ (by omega) (k1.i hL) (hF.k k1) (zin_nw hζ) (k1.R hr0) (k1.W hw) (by omega)) (fun v s'' _ P => ?_)
    rw [List.drop_zero] at P
    refine ⟨P.1, ?_⟩
    exact (k1.new (P.2.wk (fun a _ h => (Or.inr (by rw [h]; exact Nat.le_refl _) : zno a ∨ t.1 ≤ a)))).le (by omega) (by omega)
