/-! line; alter -/
theorem hx_line {K : Nat} {ζ : pZ} {τ : pH} {h N : Nat} {L : Nat → sLn} {taped : Nat} {tp : Nat → Int32} (x w : Int32) (hζ : ζ.1 ≤ τ.1) (U : zU ζ τ h N L taped tp) (hK : 2 ^ 50 ≤ K) :
    zR τ (fnX0_line K ζ h x w τ) (fun r t => r = (match iN x with
      | none => -1
      | some k => if k < N then (if w = 0 then nI (L k).1 else if w = 1 then nI (L k).2.1 else if w = 2 then nI (L k).2.2.1.1 else if w = 3 then nI (L k).2.2.1.2 else if w = 4 then nI (L k).2.2.2.1.length else if w = 5 then nI (L k).2.2.2.2.length else if w = 6 then nI (sFt L k) else -1) else -1) ∧ zU ζ t h N L taped tp ∧ zN τ t 2400 12000) := by
  have U0 := U
  obtain ⟨own, al, ea, af, laid, ta, ra, da, mc, A, H, T, D⟩ := U
  have hN := H.2.2.2.1
  have z0 : zN τ τ 2400 12000 := zk.rfl.N (S := zno) (by omega) (by omega)
  unfold fnX0_line
  refine zR_b H.1.ob ?_
  rcases hx_isLine (K := K) x H with ⟨k, hk, rfl, eL⟩ | ⟨nk, eL⟩
  · refine zR_cl (Q := fun r t => r = 1 ∧ t = τ) (zR_eq eL ⟨rfl, rfl⟩ zge.rfl) ?_
    intro r t _ P
    obtain ⟨rfl, rfl⟩ := P
    refine zR_f (by decide) ?_
    rw [iN_nI (show k < 2 ^ 31 by omega)]
    obtain ⟨hln, hown⟩ := H.2.2.2.2.1 k hk
    have hs4 := hln.2.1
    have hx1 := hln.1.1
    have eg := hj_get K ζ t al ea mc (xsA N A) H.2.1 k (by rw [xsA_len]; exact hk) (by rw [xsA_len]; omega)
    rw [xsA_get] at eg
    simp only [H.1.ob, H.2.1.1.ob, dzb, dzc, dzl, fl0, fl1, fl2, fl3, fl4, fl5, fl6, fl7, fi0, fi1, fi2, fi3, fi4, fi5, fi6, fi7, fr0, fr1, fr2, fr3, fr4, fr5, fr6, fr7, fs0, fs1, fs2, fs3, fs4, fs5, fs6, fs7, if_pos hk]
    refine zR_cl (Q := fun r s => r = (A k).1 ∧ s = t) (zR_eq eg ⟨rfl, rfl⟩ zge.rfl) ?_
    intro r s _ P
    obtain ⟨rfl, rfl⟩ := P
    have oL := hx1.oL (show 5 ≤ 5 + (L k).2.1 ∧ 5 + (L k).2.1 ≤ 9 by omega)
    refine zR_c oL ?_
    by_cases h0 : w = 0
    · refine zR_t h0 ?_
      simp only [oL, dzb, dzc, dzl, fl0, fl1, fl2, fl3, fl4, fl5, fl6, fl7, fi0, fi1, fi2, fi3, fi4, fi5, fi6, fi7, fr0, fr1, fr2, fr3, fr4, fr5, fr6, fr7, fs0, fs1, fs2, fs3, fs4, fs5, fs6, fs7, if_pos h0]
      exact zR_r ⟨lN_i _, U0, z0⟩
    refine zR_f h0 ?_
    by_cases h1 : w = 1
    · refine zR_t h1 ?_
      simp only [oL, dzb, dzc, dzl, fl0, fl1, fl2, fl3, fl4, fl5, fl6, fl7, fi0, fi1, fi2, fi3, fi4, fi5, fi6, fi7, fr0, fr1, fr2, fr3, fr4, fr5, fr6, fr7, fs0, fs1, fs2, fs3, fs4, fs5, fs6, fs7, if_neg h0, if_pos h1]
      exact zR_r ⟨rfl, U0, z0⟩
    refine zR_f h1 ?_
    by_cases h2 : w = 2
    · refine zR_t h2 ?_
      simp only [oL, dzb, dzc, dzl, fl0, fl1, fl2, fl3, fl4, fl5, fl6, fl7, fi0, fi1, fi2, fi3, fi4, fi5, fi6, fi7, fr0, fr1, fr2, fr3, fr4, fr5, fr6, fr7, fs0, fs1, fs2, fs3, fs4, fs5, fs6, fs7, if_neg h0, if_neg h1, if_pos h2]
      exact zR_r ⟨rfl, U0, z0⟩
    refine zR_f h2 ?_
    by_cases h3 : w = 3
    · refine zR_t h3 ?_
      simp only [oL, dzb, dzc, dzl, fl0, fl1, fl2, fl3, fl4, fl5, fl6, fl7, fi0, fi1, fi2, fi3, fi4, fi5, fi6, fi7, fr0, fr1, fr2, fr3, fr4, fr5, fr6, fr7, fs0, fs1, fs2, fs3, fs4, fs5, fs6, fs7, if_neg h0, if_neg h1, if_neg h2, if_pos h3]
      exact zR_r ⟨rfl, U0, z0⟩
    refine zR_f h3 ?_
    by_cases h4 : w = 4
    · obtain ⟨f, d1, -⟩ := id hln.1.2.1.1
      refine zR_t h4 ?_
      simp only [oL, d1.ob, dzb, dzc, dzl, fl0, fl1, fl2, fl3, fl4, fl5, fl6, fl7, fi0, fi1, fi2, fi3, fi4, fi5, fi6, fi7, fr0, fr1, fr2, fr3, fr4, fr5, fr6, fr7, fs0, fs1, fs2, fs3, fs4, fs5, fs6, fs7, if_neg h0, if_neg h1, if_neg h2, if_neg h3, if_pos h4]
      exact zR_r ⟨by rw [hln.1.2.1.2.1.1], U0, z0⟩
    refine zR_f h4 ?_
    by_cases h5 : w = 5
    · obtain ⟨f, d1, -⟩ := id hln.1.2.1.2.2.1
      refine zR_t h5 ?_
      simp only [oL, d1.ob, dzb, dzc, dzl, fl0, fl1, fl2, fl3, fl4, fl5, fl6, fl7, fi0, fi1, fi2, fi3, fi4, fi5, fi6, fi7, fr0, fr1, fr2, fr3, fr4, fr5, fr6, fr7, fs0, fs1, fs2, fs3, fs4, fs5, fs6, fs7, if_neg h0, if_neg h1, if_neg h2, if_neg h3, if_neg h4, if_pos h5]
      exact zR_r ⟨by rw [hln.1.2.1.2.2.2.1], U0, z0⟩
    refine zR_f h5 ?_
    by_cases h6 : w = 6
    · refine zR_t h6 ?_
      simp only [H.1.ob, dzb, dzc, dzl, fl0, fl1, fl2, fl3, fl4, fl5, fl6, fl7, fi0, fi1, fi2, fi3, fi4, fi5, fi6, fi7, fr0, fr1, fr2, fr3, fr4, fr5, fr6, fr7, fs0, fs1, fs2, fs3, fs4, fs5, fs6, fs7, if_neg h0, if_neg h1, if_neg h2, if_neg h3, if_neg h4, if_neg h5, if_pos h6]
      refine zR_cl (hx_isRight k hk hζ H hK) (fun w t6 g6 P => ?_)
      obtain ⟨rfl, H6, k6⟩ := P
      have a6 := H.2.2.2.2.2.1
      have T6 : zTb ζ t6 ta ra da tp := T.s (own := own) k6 (fun z q => Or.inl (q.elim (fun q => by rw [q, a6.1]; decide) (fun q => by rw [q, a6.2.2.2.1]; decide))) a6
      obtain ⟨d1, d2, ⟨f6, d3, d3'⟩, d4, -⟩ := id H6
      have zz : zN s t6 2400 12000 := k6.N (by omega) (by omega)
      by_cases h00 : sFt L k = 0
      · refine zR_f (nb_ne0 (decide_eq_true h00)) (zR_r ⟨?_, ⟨own, al, ea, af, _, ta, ra, da, mc, A, H6, T6, D⟩, zz⟩)
        rw [h00]; rfl
      · refine zR_t (by rw [decide_eq_false h00]; rfl) ?_
        simp only [d1.ob, d3.ai, dzb, dzc, dzl, fl0, fl1, fl2, fl3, fl4, fl5, fl6, fl7, fi0, fi1, fi2, fi3, fi4, fi5, fi6, fi7, fr0, fr1, fr2, fr3, fr4, fr5, fr6, fr7, fs0, fs1, fs2, fs3, fs4, fs5, fs6, fs7]
        refine zR_t (nI_in (by omega) (by omega)) (zR_r ⟨?_, ⟨own, al, ea, af, _, ta, ra, da, mc, A, H6, T6, D⟩, zz⟩)
        rw [nI_clamp (by omega)]
        exact d3' k (Nat.lt_of_lt_of_le (Nat.lt_succ_self k) (Nat.le_max_right _ _))
    · refine zR_f h6 ?_
      simp only [if_neg h0, if_neg h1, if_neg h2, if_neg h3, if_neg h4, if_neg h5, if_neg h6]
      exact zR_r ⟨rfl, U0, z0⟩
  · refine zR_cl (Q := fun r t => r = 0 ∧ t = τ) (zR_eq eL ⟨rfl, rfl⟩ zge.rfl) ?_
    intro r t _ P
    obtain ⟨rfl, rfl⟩ := P
    refine zR_t rfl (zR_r ⟨?_, U0, z0⟩)
    rcases iN_cases x with ⟨-, e⟩ | ⟨j, hj, e, e2⟩
    · rw [e]
    · rw [e2]
      exact (if_neg (fun q => nk ⟨j, q, e⟩)).symm
/-- rows of one side are others now -/
def lWi (u : Int32) (l : sLn) (rs : List sR) : sLn := if u = 0 then (l.1, l.2.1, l.2.2.1, rs, l.2.2.2.2) else (l.1, l.2.1, l.2.2.1, l.2.2.2.1, rs)
theorem oOk_inj {own : Nat → Nat × Nat × Nat} {a : lA} (ho : oOk own a) (u : Int32) {i j : Nat} (hi : i < (lAd u a).length) (hj : j < (lAd u a).length) (e : (lAd u a)[i] = (lAd u a)[j]) : i = j := by
  revert hi hj
  unfold lAd
  by_cases hu : u = 0
  · simp only [if_pos hu]
    intro hi hj e
    have q := ho.2.1 i hi
    rw [e, ho.2.1 j hj] at q
    exact (congrArg (fun z => z.2.2) q).symm
  · simp only [if_neg hu]
    intro hi hj e
    have q := ho.2.2 i hi
    rw [e, ho.2.2 j hj] at q
    exact (congrArg (fun z => z.2.2) q).symm
theorem lAd_own {own : Nat → Nat × Nat × Nat} {a : lA} (ho : oOk own a) (u : Int32) {j : Nat} (hj : j < (lAd u a).length) : own (lAd u a)[j] = ((if u = 0 then 15 else 16), a.1, j) := by
  revert hj
  unfold lAd
  by_cases hu : u = 0
  · simp only [if_pos hu]
    intro hj
    exact ho.2.1 j hj
  · simp only [if_neg hu]
    intro hj
    exact ho.2.2 j hj
theorem zRw.set {ζ : pZ} {τ : pH} {as : List Nat} {rs : List sR} {j : Nat} (H : zRw ζ τ as rs) (hj : j < as.length) (hi : ∀ i (h : i < as.length), as[i] = as[j] → i = j) (r : sR) : zRw ζ (zst τ as[j] (rwE r.1 r.2.1 r.2.2)) as (rs.set j r) := by
  refine ⟨by rw [List.length_set]; exact H.1, fun i h1 h2 => ?_⟩
  have h2' : i < rs.length := by rw [List.length_set] at h2; exact h2
  by_cases e : i = j
  · subst e
    rw [List.getElem_set_self]
    exact zin_st (H.2 i h1 h2').1
  · rw [List.getElem_set_ne (Ne.symm e)]
    exact (H.2 i h1 h2').st_ne (fun q => e (hi i h1 q))
theorem set_ok {rs : List sR} {j : Nat} {r : sR} (h : ∀ x ∈ rs, sRok x) (hr : sRok r) : ∀ x ∈ rs.set j r, sRok x := by
  intro x hx
  rcases List.mem_or_eq_of_mem_set hx with q | q
  · exact h x q
  · rw [q]; exact hr
theorem zLine_row {ζ : pZ} {τ : pH} {own : Nat → Nat × Nat × Nat} {h : Nat} {a : lA} {l : sLn} (u : Int32) (j : Nat) (hj : j < (lAd u a).length) (r : sR) (hr : sRok r) (H : zLine ζ τ h a l) (ho : oOk own a) : zLine ζ (zst τ (lAd u a)[j] (rwE r.1 r.2.1 r.2.2)) h a (lWi u l ((lRo u l).set j r)) := by
  have inj := fun i (h : i < (lAd u a).length) => oOk_inj ho u h hj
  have oj := lAd_own ho u hj
  have k : zk (fun z => z = (lAd u a)[j]) τ (zst τ (lAd u a)[j] (rwE r.1 r.2.1 r.2.2)) 0 0 := zk_st rfl
  have g : ∀ {x i m : Nat}, own x = (i, a.1, m) → i < 15 → ¬ x = (lAd u a)[j] := fun e hi q => by
    rw [q, oj] at e
    have := congrArg Prod.fst e
    simp only at this
    split at this <;> omega
  have h9 := H.2.2.2.2.1
  have hL := H.2
  by_cases hu : u = 0
  · have e1 : lAd u a = a.2.2.2.2.2.1 := if_pos hu
    have e2 : lRo u l = l.2.2.2.1 := if_pos hu
    have hj1 : j < a.2.2.2.2.2.1.length := by rw [← e1]; exact hj
    simp only [e1] at *
    rw [e2, show lWi u l (l.2.2.2.1.set j r) = (l.1, l.2.1, l.2.2.1, l.2.2.2.1.set j r, l.2.2.2.2) from if_pos hu]
    have g2 : ∀ x ∈ a.2.2.2.2.2.2, ¬ x = a.2.2.2.2.2.1[j] := fun x hx q => by
      obtain ⟨i, hi, e⟩ := List.getElem_of_mem hx
      have q1 := ho.2.2 i hi
      rw [e, q, oj, if_pos hu] at q1
      have := congrArg Prod.fst q1
      simp only at this
      omega
    exact ⟨⟨k.in H.1.1 (g ho.1.1 (by decide)), ⟨H.1.2.1.1.k k (g ho.1.2.1 (by decide)) (g ho.1.2.2.1 (by decide)), H.1.2.1.2.1.set hj1 (fun i h q => inj i h q) r, H.1.2.1.2.2.1.k k (g ho.1.2.2.2.1 (by decide)) (g ho.1.2.2.2.2 (by decide)), H.1.2.1.2.2.2.k k g2⟩, set_ok H.1.2.2.1 hr, H.1.2.2.2⟩, hL.1, hL.2.1, hL.2.2.1, ⟨by show (l.2.2.2.1.set j r).length ≤ 9; rw [List.length_set]; exact h9.1, h9.2⟩, set_ok hL.2.2.2.2.1 hr, hL.2.2.2.2.2⟩
  · have e1 : lAd u a = a.2.2.2.2.2.2 := if_neg hu
    have e2 : lRo u l = l.2.2.2.2 := if_neg hu
    have hj1 : j < a.2.2.2.2.2.2.length := by rw [← e1]; exact hj
    simp only [e1] at *
    rw [e2, show lWi u l (l.2.2.2.2.set j r) = (l.1, l.2.1, l.2.2.1, l.2.2.2.1, l.2.2.2.2.set j r) from if_neg hu]
    have g2 : ∀ x ∈ a.2.2.2.2.2.1, ¬ x = a.2.2.2.2.2.2[j] := fun x hx q => by
      obtain ⟨i, hi, e⟩ := List.getElem_of_mem hx
      have q1 := ho.2.1 i hi
      rw [e, q, oj, if_neg hu] at q1
      have := congrArg Prod.fst q1
      simp only at this
      omega
    exact ⟨⟨k.in H.1.1 (g ho.1.1 (by decide)), ⟨H.1.2.1.1.k k (g ho.1.2.1 (by decide)) (g ho.1.2.2.1 (by decide)), H.1.2.1.2.1.k k g2, H.1.2.1.2.2.1.k k (g ho.1.2.2.2.1 (by decide)) (g ho.1.2.2.2.2 (by decide)), H.1.2.1.2.2.2.set hj1 (fun i h q => inj i h q) r⟩, H.1.2.2.1, set_ok H.1.2.2.2.1 hr, H.1.2.2.2.2⟩, hL.1, hL.2.1, hL.2.2.1, ⟨h9.1, by show (l.2.2.2.2.set j r).length ≤ 9; rw [List.length_set]; exact h9.2⟩, hL.2.2.2.2.1, set_ok hL.2.2.2.2.2 hr⟩
