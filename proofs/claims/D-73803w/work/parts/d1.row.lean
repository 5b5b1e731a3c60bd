/-! rows and lines that are asked for -/
theorem isIx (K : Nat) (x : Int32) (N : Nat) (hN : N ≤ 60) : (∃ k, k < N ∧ x = nI k ∧ fnX0_isIn K (Int32.toInt64 x) 0 (Int32.toInt64 (nI N - 1)) = some 1) ∨ ((¬ ∃ k, k < N ∧ x = nI k) ∧ fnX0_isIn K (Int32.toInt64 x) 0 (Int32.toInt64 (nI N - 1)) = some 0) := by
  rcases ix_cases x N hN with ⟨k, hk, ex, hd⟩ | ⟨hk, hd⟩
  · exact Or.inl ⟨k, hk, ex, by rw [nx_isIn, decide_eq_true hd]; rfl⟩
  · exact Or.inr ⟨hk, by rw [nx_isIn, decide_eq_false hd]; rfl⟩
def lRo (u : Int32) (l : sLn) : List sR := if u = 0 then l.2.2.2.1 else l.2.2.2.2
def lAd (u : Int32) (a : lA) : List Nat := if u = 0 then a.2.2.2.2.2.1 else a.2.2.2.2.2.2
theorem lRo_len {ζ : pZ} {τ : pH} {h : Nat} {a : lA} {l : sLn} (H : zLine ζ τ h a l) (u : Int32) : (lAd u a).length = (lRo u l).length ∧ (lAd u a).length ≤ 9 := by
  have h9 := H.2.2.2.2.1
  unfold lAd lRo
  by_cases hu : u = 0
  · rw [if_pos hu, if_pos hu]; exact ⟨H.1.2.1.2.1.1, by rw [H.1.2.1.2.1.1]; exact h9.1⟩
  · rw [if_neg hu, if_neg hu]; exact ⟨H.1.2.1.2.2.2.1, by rw [H.1.2.1.2.2.2.1]; exact h9.2⟩
theorem lRo_row {ζ : pZ} {τ : pH} {h : Nat} {a : lA} {l : sLn} (H : zLine ζ τ h a l) (u : Int32) (j : Nat) (h1 : j < (lAd u a).length) (h2 : j < (lRo u l).length) : zin ζ τ (lAd u a)[j] (rwE (lRo u l)[j].1 (lRo u l)[j].2.1 (lRo u l)[j].2.2) ∧ sRok (lRo u l)[j] := by
  revert h1 h2
  unfold lAd lRo
  by_cases hu : u = 0
  · simp only [if_pos hu]
    intro h1 h2
    exact ⟨H.1.2.1.2.1.2 j h1 h2, H.1.2.2.1 _ (List.getElem_mem h2)⟩
  · simp only [if_neg hu]
    intro h1 h2
    exact ⟨H.1.2.1.2.2.2.2 j h1 h2, H.1.2.2.2.1 _ (List.getElem_mem h2)⟩
theorem hx_rowOf {K : Nat} {ζ : pZ} {τ : pH} {own : Nat → Nat × Nat × Nat} {h al ea af laid ta taped ra da : Nat} {mc : Int32} {N : Nat} {A : Nat → lA} {L : Nat → sLn} (x u i : Int32) (H : zLd ζ τ own h al ea af laid ta taped ra da mc N A L) :
    (∃ k j, ∃ hj : j < (lAd u (A k)).length, k < N ∧ x = nI k ∧ i = nI j ∧ fnX0_rowOf K ζ h x u i τ = some (some (lAd u (A k))[j], τ)) ∨ ((¬ ∃ k j, k < N ∧ x = nI k ∧ i = nI j ∧ j < (lRo u (L k)).length) ∧ fnX0_rowOf K ζ h x u i τ = some (none, τ)) := by
  have hN := H.2.2.2.1.2
  unfold fnX0_rowOf
  rw [H.1.ob, dzb]
  rcases hx_isLine (K := K) x H with ⟨k, hk, rfl, eL⟩ | ⟨nk, eL⟩
  · obtain ⟨hln, hown⟩ := H.2.2.2.2.1 k hk
    have hs4 := hln.2.1
    have hx1 := hln.1.1
    have eg := hj_get K ζ τ al ea mc (xsA N A) H.2.1 k (by rw [xsA_len]; exact hk) (by rw [xsA_len]; omega)
    rw [xsA_get] at eg
    have h9 := lRo_len hln u
    have hk1 : ∀ k', k' < N → nI k = nI k' → k' = k := fun k' h1 e => ((nI_eq (by omega) (by omega)).mp e).symm
    by_cases hu : u = 0
    · have ea1 : lAd u (A k) = (A k).2.2.2.2.2.1 := if_pos hu
      have er1 : lRo u (L k) = (L k).2.2.2.1 := if_pos hu
      obtain ⟨f, d1, d2, d3, d4, d5⟩ := id hln.1.2.1.1
      rcases isIx K i (A k).2.2.2.2.2.1.length (by omega) with ⟨j, hj, rfl, ei⟩ | ⟨nj, ei⟩
      · refine Or.inl ⟨k, j, by rw [ea1]; exact hj, hk, rfl, rfl, ?_⟩
        simp only [ea1]
        refine zcl_i (x := 1) (τ1 := τ) eL ⟨Nat.le_refl _, Nat.le_refl _⟩ ⟨Nat.le_refl _, Nat.le_refl _⟩ ?_
        rw [if_neg (by decide), if_pos hu]
        simp only [H.1.ob, H.2.1.1.ob, dzb, dzc, dzl, fl0, fl1, fl2, fl3, fl4, fl5, fl6, fl7, fi0, fi1, fi2, fi3, fi4, fi5, fi6, fi7, fr0, fr1, fr2, fr3, fr4, fr5, fr6, fr7, fs0, fs1, fs2, fs3, fs4, fs5, fs6, fs7]
        refine zcl_i (x := (A k).1) (τ1 := τ) eg ⟨Nat.le_refl _, Nat.le_refl _⟩ ⟨Nat.le_refl _, Nat.le_refl _⟩ ?_
        simp only [hx1.oL (show 5 ≤ 5 + (L k).2.1 ∧ 5 + (L k).2.1 ≤ 9 by omega), d1.ob, dzb, dzc, dzl, fl0, fl1, fl2, fl3, fl4, fl5, fl6, fl7, fi0, fi1, fi2, fi3, fi4, fi5, fi6, fi7, fr0, fr1, fr2, fr3, fr4, fr5, fr6, fr7, fs0, fs1, fs2, fs3, fs4, fs5, fs6, fs7, ei]
        rw [if_neg (by decide), d2.aq, dzc, if_pos (nI_in (by omega) (by omega)), nI_clamp (by omega), d5 j hj]
        rfl
      · refine Or.inr ⟨fun ⟨k', j, h1, h2, h3, h4⟩ => nj ⟨j, ?_, h3⟩, ?_⟩
        · rw [hk1 k' h1 h2, er1, ← hln.1.2.1.2.1.1] at h4; exact h4
        · refine zcl_i (x := 1) (τ1 := τ) eL ⟨Nat.le_refl _, Nat.le_refl _⟩ ⟨Nat.le_refl _, Nat.le_refl _⟩ ?_
          rw [if_neg (by decide), if_pos hu]
          simp only [H.1.ob, H.2.1.1.ob, dzb, dzc, dzl, fl0, fl1, fl2, fl3, fl4, fl5, fl6, fl7, fi0, fi1, fi2, fi3, fi4, fi5, fi6, fi7, fr0, fr1, fr2, fr3, fr4, fr5, fr6, fr7, fs0, fs1, fs2, fs3, fs4, fs5, fs6, fs7]
          refine zcl_i (x := (A k).1) (τ1 := τ) eg ⟨Nat.le_refl _, Nat.le_refl _⟩ ⟨Nat.le_refl _, Nat.le_refl _⟩ ?_
          simp only [hx1.oL (show 5 ≤ 5 + (L k).2.1 ∧ 5 + (L k).2.1 ≤ 9 by omega), d1.ob, dzb, dzc, dzl, fl0, fl1, fl2, fl3, fl4, fl5, fl6, fl7, fi0, fi1, fi2, fi3, fi4, fi5, fi6, fi7, fr0, fr1, fr2, fr3, fr4, fr5, fr6, fr7, fs0, fs1, fs2, fs3, fs4, fs5, fs6, fs7, ei]
          exact if_pos trivial
    · have ea1 : lAd u (A k) = (A k).2.2.2.2.2.2 := if_neg hu
      have er1 : lRo u (L k) = (L k).2.2.2.2 := if_neg hu
      obtain ⟨f, d1, d2, d3, d4, d5⟩ := id hln.1.2.1.2.2.1
      rcases isIx K i (A k).2.2.2.2.2.2.length (by omega) with ⟨j, hj, rfl, ei⟩ | ⟨nj, ei⟩
      · refine Or.inl ⟨k, j, by rw [ea1]; exact hj, hk, rfl, rfl, ?_⟩
        simp only [ea1]
        refine zcl_i (x := 1) (τ1 := τ) eL ⟨Nat.le_refl _, Nat.le_refl _⟩ ⟨Nat.le_refl _, Nat.le_refl _⟩ ?_
        rw [if_neg (by decide), if_neg hu]
        simp only [H.1.ob, H.2.1.1.ob, dzb, dzc, dzl, fl0, fl1, fl2, fl3, fl4, fl5, fl6, fl7, fi0, fi1, fi2, fi3, fi4, fi5, fi6, fi7, fr0, fr1, fr2, fr3, fr4, fr5, fr6, fr7, fs0, fs1, fs2, fs3, fs4, fs5, fs6, fs7]
        refine zcl_i (x := (A k).1) (τ1 := τ) eg ⟨Nat.le_refl _, Nat.le_refl _⟩ ⟨Nat.le_refl _, Nat.le_refl _⟩ ?_
        simp only [hx1.oL (show 5 ≤ 5 + (L k).2.1 ∧ 5 + (L k).2.1 ≤ 9 by omega), d1.ob, dzb, dzc, dzl, fl0, fl1, fl2, fl3, fl4, fl5, fl6, fl7, fi0, fi1, fi2, fi3, fi4, fi5, fi6, fi7, fr0, fr1, fr2, fr3, fr4, fr5, fr6, fr7, fs0, fs1, fs2, fs3, fs4, fs5, fs6, fs7, ei]
        rw [if_neg (by decide), d2.aq, dzc, if_pos (nI_in (by omega) (by omega)), nI_clamp (by omega), d5 j hj]
        rfl
      · refine Or.inr ⟨fun ⟨k', j, h1, h2, h3, h4⟩ => nj ⟨j, ?_, h3⟩, ?_⟩
        · rw [hk1 k' h1 h2, er1, ← hln.1.2.1.2.2.2.1] at h4; exact h4
        · refine zcl_i (x := 1) (τ1 := τ) eL ⟨Nat.le_refl _, Nat.le_refl _⟩ ⟨Nat.le_refl _, Nat.le_refl _⟩ ?_
          rw [if_neg (by decide), if_neg hu]
          simp only [H.1.ob, H.2.1.1.ob, dzb, dzc, dzl, fl0, fl1, fl2, fl3, fl4, fl5, fl6, fl7, fi0, fi1, fi2, fi3, fi4, fi5, fi6, fi7, fr0, fr1, fr2, fr3, fr4, fr5, fr6, fr7, fs0, fs1, fs2, fs3, fs4, fs5, fs6, fs7]
          refine zcl_i (x := (A k).1) (τ1 := τ) eg ⟨Nat.le_refl _, Nat.le_refl _⟩ ⟨Nat.le_refl _, Nat.le_refl _⟩ ?_
          simp only [hx1.oL (show 5 ≤ 5 + (L k).2.1 ∧ 5 + (L k).2.1 ≤ 9 by omega), d1.ob, dzb, dzc, dzl, fl0, fl1, fl2, fl3, fl4, fl5, fl6, fl7, fi0, fi1, fi2, fi3, fi4, fi5, fi6, fi7, fr0, fr1, fr2, fr3, fr4, fr5, fr6, fr7, fs0, fs1, fs2, fs3, fs4, fs5, fs6, fs7, ei]
          exact if_pos trivial
  · refine Or.inr ⟨fun ⟨k', j, h1, h2, _⟩ => nk ⟨k', h1, h2⟩, ?_⟩
    refine zcl_i (x := 0) (τ1 := τ) eL ⟨Nat.le_refl _, Nat.le_refl _⟩ ⟨Nat.le_refl _, Nat.le_refl _⟩ ?_
    rw [if_pos rfl]
/-- a row that is meant: its line, its place -/
noncomputable def sRx (e : sLe) (x u i : Int32) : Option (Nat × Nat) := match iN x, iN i with
  | some k, some j => if k < e.1 ∧ j < (lRo u (e.2 k)).length then some (k, j) else none
  | _, _ => none
theorem sRx_y {e : sLe} {u : Int32} {k j : Nat} (hk : k < 2 ^ 31) (hj : j < 2 ^ 31) (h : k < e.1 ∧ j < (lRo u (e.2 k)).length) : sRx e (nI k) u (nI j) = some (k, j) := by
  unfold sRx
  rw [iN_nI hk, iN_nI hj]
  exact if_pos h
theorem sRx_n {e : sLe} {x u i : Int32} (h : ¬ ∃ k j, k < e.1 ∧ x = nI k ∧ i = nI j ∧ j < (lRo u (e.2 k)).length) : sRx e x u i = none := by
  unfold sRx
  rcases iN_cases x with ⟨-, e1⟩ | ⟨k, hk, e1, e2⟩
  · rw [e1]
  · rcases iN_cases i with ⟨-, e3⟩ | ⟨j, hj, e3, e4⟩
    · rw [e2, e3]
    · rw [e2, e4]
      exact if_neg (fun q => h ⟨k, j, q.1, e1, e3, q.2⟩)
theorem hx_row {K : Nat} {ζ : pZ} {τ : pH} {h N : Nat} {L : Nat → sLn} {taped : Nat} {tp : Nat → Int32} (x u i w : Int32) (hζ : ζ.1 ≤ τ.1) (U : zU ζ τ h N L taped tp) (hK : 2 ^ 50 ≤ K) :
    zR τ (fnX0_row K ζ h x u i w τ) (fun r t => r = (match sRx (N, L) x u i with
      | none => -1
      | some (k, j) => if w = 0 then nI ((lRo u (L k)).getD j (0, 0, 0)).1 else if w = 1 then nI ((lRo u (L k)).getD j (0, 0, 0)).2.1 else if w = 2 then nI ((lRo u (L k)).getD j (0, 0, 0)).2.2 else if w = 3 then oI (sRest (fun k => (L k).1) (sFt L) ((lRo u (L k)).getD j (0, 0, 0)).1 k 0) else -1) ∧ zU ζ t h N L taped tp ∧ zN τ t 2400 12000) := by
  have U0 := U
  obtain ⟨own, al, ea, af, laid, ta, ra, da, mc, A, H, T, D⟩ := U
  have hN := H.2.2.2.1
  have z0 : zN τ τ 2400 12000 := zk.rfl.N (S := zno) (by omega) (by omega)
  unfold fnX0_row
  refine zR_b H.1.ob ?_
  rcases hx_rowOf (K := K) x u i H with ⟨k, j, hj, hk, rfl, rfl, e⟩ | ⟨nn, e⟩
  · obtain ⟨hln, hown⟩ := H.2.2.2.2.1 k hk
    have h9 := lRo_len hln u
    have hj2 : j < (lRo u (L k)).length := by omega
    obtain ⟨hr, hok⟩ := lRo_row hln u j hj hj2
    have eg : (lRo u (L k)).getD j (0, 0, 0) = (lRo u (L k))[j] := by rw [List.getD_eq_getElem?_getD, List.getElem?_eq_getElem hj2]; rfl
    rw [sRx_y (e := (N, L)) (u := u) (by omega) (by omega) ⟨hk, hj2⟩]
    refine zR_cl (Q := fun r t => r = some (lAd u (A k))[j] ∧ t = τ) (zR_eq e ⟨rfl, rfl⟩ zge.rfl) ?_
    intro r t _ P
    obtain ⟨rfl, rfl⟩ := P
    simp only [eg]
    show zR t (if w = (0 : Int32) then _ else _) _
    by_cases h0 : w = 0
    · refine zR_t h0 ?_
      simp only [hr.ob, dzb, dzc, dzl, fl0, fl1, fl2, fl3, fl4, fl5, fl6, fl7, fi0, fi1, fi2, fi3, fi4, fi5, fi6, fi7, fr0, fr1, fr2, fr3, fr4, fr5, fr6, fr7, fs0, fs1, fs2, fs3, fs4, fs5, fs6, fs7, if_pos h0]
      exact zR_r ⟨lN_i _, U0, z0⟩
    refine zR_f h0 ?_
    by_cases h1 : w = 1
    · refine zR_t h1 ?_
      simp only [hr.ob, dzb, dzc, dzl, fl0, fl1, fl2, fl3, fl4, fl5, fl6, fl7, fi0, fi1, fi2, fi3, fi4, fi5, fi6, fi7, fr0, fr1, fr2, fr3, fr4, fr5, fr6, fr7, fs0, fs1, fs2, fs3, fs4, fs5, fs6, fs7, if_neg h0, if_pos h1]
      exact zR_r ⟨rfl, U0, z0⟩
    refine zR_f h1 ?_
    by_cases h2 : w = 2
    · refine zR_t h2 ?_
      simp only [hr.ob, dzb, dzc, dzl, fl0, fl1, fl2, fl3, fl4, fl5, fl6, fl7, fi0, fi1, fi2, fi3, fi4, fi5, fi6, fi7, fr0, fr1, fr2, fr3, fr4, fr5, fr6, fr7, fs0, fs1, fs2, fs3, fs4, fs5, fs6, fs7, if_neg h0, if_neg h1, if_pos h2]
      exact zR_r ⟨rfl, U0, z0⟩
    refine zR_f h2 ?_
    by_cases h3 : w = 3
    · refine zR_t h3 ?_
      simp only [hr.ob, H.1.ob, dzb, dzc, dzl, fl0, fl1, fl2, fl3, fl4, fl5, fl6, fl7, fi0, fi1, fi2, fi3, fi4, fi5, fi6, fi7, fr0, fr1, fr2, fr3, fr4, fr5, fr6, fr7, fs0, fs1, fs2, fs3, fs4, fs5, fs6, fs7, if_neg h0, if_neg h1, if_neg h2, if_pos h3]
      refine zR_cl (hx_restOn k (lRo u (L k))[j].1 (by have := hok.1.2; omega) (by omega) hζ H hK) (fun v t1 g P => ?_)
      obtain ⟨rfl, l1, b1, b2, b3⟩ := P
      have hN1 := b2.2.2.2.1
      have a6 := H.2.2.2.2.2.1
      have T1 : zTb ζ t1 ta ra da tp := T.s (own := own) b3 (fun z q => Or.inl (q.elim (fun q => by rw [q, a6.1]; decide) (fun q => by rw [q, a6.2.2.2.1]; decide))) a6
      exact zR_r ⟨rfl, ⟨own, al, ea, af, l1, ta, ra, da, mc, A, b2, T1, D⟩, b3.N (by omega) (by omega)⟩
    · refine zR_f h3 ?_
      simp only [if_neg h0, if_neg h1, if_neg h2, if_neg h3]
      exact zR_r ⟨rfl, U0, z0⟩
  · rw [sRx_n (e := (N, L)) nn]
    refine zR_cl (Q := fun r t => r = none ∧ t = τ) (zR_eq e ⟨rfl, rfl⟩ zge.rfl) ?_
    intro r t _ P
    obtain ⟨rfl, rfl⟩ := P
    exact zR_r ⟨rfl, U0, z0⟩
