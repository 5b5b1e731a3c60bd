/-! cut, whole -/
theorem zLine_cut {ζ : pZ} {τ t : pH} {own : Nat → Nat × Nat × Nat} {h : Nat} {a : lA} {l : sLn} (u : Int32) (j : Nat) (hj : j < (lAd u a).length) (H : zLine ζ τ h a l) (ho : oOk own a) (k : zk (fun q => q = (if u = 0 then a.2.1 else a.2.2.2.1) ∨ q = (if u = 0 then a.2.2.1 else a.2.2.2.2.1)) τ t 0 0) (hr : zRs ζ t (if u = 0 then a.2.1 else a.2.2.2.1) (if u = 0 then a.2.2.1 else a.2.2.2.2.1) ((lAd u a).eraseIdx j)) : zLine ζ t h (lCa u a j) (lWi u l ((lRo u l).eraseIdx j)) := by
  have hL := H.2
  have h9 := H.2.2.2.2.1
  have er : ∀ (rs : List sR), (∀ x ∈ rs, sRok x) → ∀ x ∈ rs.eraseIdx j, sRok x := fun rs q x hx => q x (List.mem_of_mem_eraseIdx hx)
  by_cases hu : u = 0
  · have e1 : lAd u a = a.2.2.2.2.2.1 := if_pos hu
    have e2 : lRo u l = l.2.2.2.1 := if_pos hu
    rw [show lCa u a j = (a.1, a.2.1, a.2.2.1, a.2.2.2.1, a.2.2.2.2.1, a.2.2.2.2.2.1.eraseIdx j, a.2.2.2.2.2.2) from if_pos hu, e2, show lWi u l (l.2.2.2.1.eraseIdx j) = (l.1, l.2.1, l.2.2.1, l.2.2.2.1.eraseIdx j, l.2.2.2.2) from if_pos hu]
    simp only [if_pos hu] at k hr
    rw [e1] at hr hj
    have g : ∀ {x i m : Nat}, own x = (i, a.1, m) → i ≠ 11 → i ≠ 12 → ¬ (x = a.2.1 ∨ x = a.2.2.1) := fun e i1 i2 q => by
      rcases q with q | q
      · rw [q, ho.1.2.1] at e; exact i1 (congrArg Prod.fst e).symm
      · rw [q, ho.1.2.2.1] at e; exact i2 (congrArg Prod.fst e).symm
    refine ⟨⟨k.in H.1.1 (g ho.1.1 (by decide) (by decide)), ⟨hr, (H.1.2.1.2.1.k k (fun x hx => ?_)).er j hj, H.1.2.1.2.2.1.k k (g ho.1.2.2.2.1 (by decide) (by decide)) (g ho.1.2.2.2.2 (by decide) (by decide)), H.1.2.1.2.2.2.k k (fun x hx => ?_)⟩, er _ H.1.2.2.1, H.1.2.2.2⟩, hL.1, hL.2.1, hL.2.2.1, ⟨?_, h9.2⟩, er _ hL.2.2.2.2.1, hL.2.2.2.2.2⟩
    · obtain ⟨i, hi, e⟩ := List.getElem_of_mem hx
      rw [← e]; exact g (ho.2.1 i hi) (by decide) (by decide)
    · obtain ⟨i, hi, e⟩ := List.getElem_of_mem hx
      rw [← e]; exact g (ho.2.2 i hi) (by decide) (by decide)
    · exact Nat.le_trans (List.length_eraseIdx_le _ _) h9.1
  · have e1 : lAd u a = a.2.2.2.2.2.2 := if_neg hu
    have e2 : lRo u l = l.2.2.2.2 := if_neg hu
    rw [show lCa u a j = (a.1, a.2.1, a.2.2.1, a.2.2.2.1, a.2.2.2.2.1, a.2.2.2.2.2.1, a.2.2.2.2.2.2.eraseIdx j) from if_neg hu, e2, show lWi u l (l.2.2.2.2.eraseIdx j) = (l.1, l.2.1, l.2.2.1, l.2.2.2.1, l.2.2.2.2.eraseIdx j) from if_neg hu]
    simp only [if_neg hu] at k hr
    rw [e1] at hr hj
    have g : ∀ {x i m : Nat}, own x = (i, a.1, m) → i ≠ 13 → i ≠ 14 → ¬ (x = a.2.2.2.1 ∨ x = a.2.2.2.2.1) := fun e i1 i2 q => by
      rcases q with q | q
      · rw [q, ho.1.2.2.2.1] at e; exact i1 (congrArg Prod.fst e).symm
      · rw [q, ho.1.2.2.2.2] at e; exact i2 (congrArg Prod.fst e).symm
    refine ⟨⟨k.in H.1.1 (g ho.1.1 (by decide) (by decide)), ⟨H.1.2.1.1.k k (g ho.1.2.1 (by decide) (by decide)) (g ho.1.2.2.1 (by decide) (by decide)), H.1.2.1.2.1.k k (fun x hx => ?_), hr, (H.1.2.1.2.2.2.k k (fun x hx => ?_)).er j hj⟩, H.1.2.2.1, er _ H.1.2.2.2.1, H.1.2.2.2.2⟩, hL.1, hL.2.1, hL.2.2.1, ⟨h9.1, ?_⟩, hL.2.2.2.2.1, er _ hL.2.2.2.2.2⟩
    · obtain ⟨i, hi, e⟩ := List.getElem_of_mem hx
      rw [← e]; exact g (ho.2.1 i hi) (by decide) (by decide)
    · obtain ⟨i, hi, e⟩ := List.getElem_of_mem hx
      rw [← e]; exact g (ho.2.2 i hi) (by decide) (by decide)
    · exact Nat.le_trans (List.length_eraseIdx_le _ _) h9.2
noncomputable def sCut (e : sLe) (x u i : Int32) : Int32 × sLe := match sRx e x u i with
  | some (k, j) => (nI ((lRo u (e.2 k)).length - 1), (e.1, upA e.2 k (lWi u (e.2 k) ((lRo u (e.2 k)).eraseIdx j))))
  | none => (-1, e)
theorem sCut_y {e : sLe} {x u i : Int32} {k j : Nat} (h : sRx e x u i = some (k, j)) : sCut e x u i = (nI ((lRo u (e.2 k)).length - 1), (e.1, upA e.2 k (lWi u (e.2 k) ((lRo u (e.2 k)).eraseIdx j)))) := by
  unfold sCut
  rw [h]
theorem sCut_n {e : sLe} {x u i : Int32} (h : sRx e x u i = none) : sCut e x u i = (-1, e) := by
  unfold sCut
  rw [h]
theorem hx_cut {K : Nat} {ζ : pZ} {τ : pH} {h N : Nat} {L : Nat → sLn} {taped : Nat} {tp : Nat → Int32} (x u i : Int32) (hζ : ζ.1 ≤ τ.1) (U : zU ζ τ h N L taped tp) (hK : 2 ^ 50 ≤ K) :
    zR τ (fnX0_cut K ζ h x u i τ) (fun r t => r = (sCut (N, L) x u i).1 ∧ zU ζ t h (sCut (N, L) x u i).2.1 (sCut (N, L) x u i).2.2 taped tp ∧ zN τ t 0 0) := by
  have U0 := U
  obtain ⟨own, al, ea, af, laid, ta, ra, da, mc, A, H, T, D⟩ := U
  have z0 : zN τ τ 0 0 := zk.rfl.N (S := zno) (by omega) (by omega)
  have hN := H.2.2.2.1.2
  unfold fnX0_cut
  refine zR_b H.1.ob ?_
  rcases hx_rowOf (K := K) x u i H with ⟨k, j, hj, hk, rfl, rfl, e⟩ | ⟨nn, e⟩
  · obtain ⟨hln, hown⟩ := H.2.2.2.2.1 k hk
    have hs4 := hln.2.1
    have hx1 := hln.1.1
    have h9 := lRo_len hln u
    have hj2 : j < (lRo u (L k)).length := by omega
    have ex := sRx_y (e := (N, L)) (u := u) (k := k) (j := j) (by omega) (by omega) ⟨hk, hj2⟩
    rw [sCut_y ex]
    refine zR_cl (Q := fun r t => r = some (lAd u (A k))[j] ∧ t = τ) (zR_eq e ⟨rfl, rfl⟩ zge.rfl) ?_
    intro r t _ P
    obtain ⟨rfl, rfl⟩ := P
    have eg := hj_get K ζ t al ea mc (xsA N A) H.2.1 k (by rw [xsA_len]; exact hk) (by rw [xsA_len]; omega)
    rw [xsA_get] at eg
    have oL := hx1.oL (show 5 ≤ 5 + (L k).2.1 ∧ 5 + (L k).2.1 ≤ 9 by omega)
    -- the object that holds the rows
    have hrs : zRs ζ t (if u = 0 then (A k).2.1 else (A k).2.2.2.1) (if u = 0 then (A k).2.2.1 else (A k).2.2.2.2.1) (lAd u (A k)) ∧ zRw ζ t (lAd u (A k)) (lRo u (L k)) ∧ (if u = 0 then (A k).2.1 else (A k).2.2.2.1) ∉ lAd u (A k) ∧ (if u = 0 then (A k).2.2.1 else (A k).2.2.2.2.1) ∉ lAd u (A k) ∧ own (if u = 0 then (A k).2.1 else (A k).2.2.2.1) = ((if u = 0 then 11 else 13), (A k).1, 0) ∧ own (if u = 0 then (A k).2.2.1 else (A k).2.2.2.2.1) = ((if u = 0 then 12 else 14), (A k).1, 0) := by
      have nm : ∀ {z c : Nat}, own z = (c, (A k).1, 0) → c < 15 → z ∉ lAd u (A k) := fun q hc hz => by
        obtain ⟨i, hi, e⟩ := List.getElem_of_mem hz
        have q1 := lAd_own hown u hi
        rw [e, q] at q1
        have := congrArg Prod.fst q1
        simp only at this
        split at this <;> omega
      unfold lAd lRo at *
      by_cases hu : u = 0
      · simp only [if_pos hu] at *
        exact ⟨hln.1.2.1.1, hln.1.2.1.2.1, nm hown.1.2.1 (by decide), nm hown.1.2.2.1 (by decide), hown.1.2.1, hown.1.2.2.1⟩
      · simp only [if_neg hu] at *
        exact ⟨hln.1.2.1.2.2.1, hln.1.2.1.2.2.2, nm hown.1.2.2.2.1 (by decide), nm hown.1.2.2.2.2 (by decide), hown.1.2.2.2.1, hown.1.2.2.2.2⟩
    obtain ⟨q1, q2, q3, q4, q5, q6⟩ := hrs
    obtain ⟨t2, ec, k2, r2⟩ := hr_cuts K ζ t _ _ (lAd u (A k)) (lRo u (L k)) j hj q1 q2 q3 q4 (by omega)
    have hl2 := zLine_cut u j hj hln hown k2 r2
    have S1 : ∀ z, (z = (if u = 0 then (A k).2.1 else (A k).2.2.2.1) ∨ z = (if u = 0 then (A k).2.2.1 else (A k).2.2.2.2.1)) → 10 ≤ (own z).1 ∧ (own z).2.1 = (A k).1 ∧ ζ.1 ≤ z := fun z q => by
      obtain ⟨f, d1, d2, -⟩ := id q1
      rcases q with q | q
      · rw [q, q5]
        refine ⟨?_, rfl, d1.1.1⟩
        show 10 ≤ (if u = 0 then 11 else 13)
        split <;> omega
      · rw [q, q6]
        refine ⟨?_, rfl, d2.1.1⟩
        show 10 ≤ (if u = 0 then 12 else 14)
        split <;> omega
    have e1 : (lCa u (A k) j).1 = (A k).1 := by unfold lCa; split <;> rfl
    -- the ledger with the old owners, of the changed line apart
    have hc15 : (if u = 0 then 15 else 16 : Nat) = 15 ∨ (if u = 0 then 15 else 16 : Nat) = 16 := by split <;> omega
    obtain ⟨Hq, T2, D2⟩ := zLd.chgO k hk (lCa u (A k) j) (lWi u (L k) ((lRo u (L k)).eraseIdx j)) H T D k2 S1 hl2 (oOk_cut hown u j hj) e1 (fun z q => oCut_n (Or.inl (by omega))) (fun z q => oCut_n (Or.inr q))
    obtain ⟨t3, ech, g3, H3, k3⟩ := hx_changes (K := K) k (min laid k) (by omega) Hq (Nat.le_refl _) (by omega)
    have T3 := T2.h k3 Hq.2.2.2.2.2.1
    have er1 : (lAd u (A k)).eraseIdx j |>.length = (lRo u (L k)).length - 1 := by rw [List.length_eraseIdx_of_lt hj]; omega
    have zz : zN t t3 0 0 := by
      have a := k2.2.2
      have b := k3.2.2
      exact ⟨by omega, by omega⟩
    have UU : zU ζ t3 h N (upA L k (lWi u (L k) ((lRo u (L k)).eraseIdx j))) taped tp := ⟨_, al, ea, af, _, ta, ra, da, mc, _, H3, T3, D2⟩
    have hdh : (if u = 0 then (A k).2.1 else (A k).2.2.2.1) ≠ h := fun q => by
      have := q5
      rw [q, H.2.2.2.2.2.1.1] at this
      have := congrArg Prod.fst this
      simp only at this
      split at this <;> omega
    obtain ⟨f2, d1, d2, -⟩ := id r2
    have d13 := k3.in d1 hdh
    show zR t (if u = (0 : Int32) then _ else _) _
    by_cases hu : u = 0
    · simp only [if_pos hu] at *
      refine zR_t hu ?_
      simp only [H.1.ob, H.2.1.1.ob, dzb, dzc, dzl, fl0, fl1, fl2, fl3, fl4, fl5, fl6, fl7, fi0, fi1, fi2, fi3, fi4, fi5, fi6, fi7, fr0, fr1, fr2, fr3, fr4, fr5, fr6, fr7, fs0, fs1, fs2, fs3, fs4, fs5, fs6, fs7]
      refine zR_cl (Q := fun r s => r = (A k).1 ∧ s = t) (zR_eq eg ⟨rfl, rfl⟩ zge.rfl) ?_
      intro r s _ P
      obtain ⟨rfl, rfl⟩ := P
      obtain ⟨f0, d0, -⟩ := id q1
      simp only [oL, d0.ob, dzb, dzc, dzl, fl0, fl1, fl2, fl3, fl4, fl5, fl6, fl7, fi0, fi1, fi2, fi3, fi4, fi5, fi6, fi7, fr0, fr1, fr2, fr3, fr4, fr5, fr6, fr7, fs0, fs1, fs2, fs3, fs4, fs5, fs6, fs7]
      refine zR_cl (Q := fun _ s' => s' = t2) (zR_eq ec rfl k2.1) (fun _ s' _ q => ?_)
      subst q
      simp only [Hq.1.ob, dzb, dzc, dzl, fl0, fl1, fl2, fl3, fl4, fl5, fl6, fl7, fi0, fi1, fi2, fi3, fi4, fi5, fi6, fi7, fr0, fr1, fr2, fr3, fr4, fr5, fr6, fr7, fs0, fs1, fs2, fs3, fs4, fs5, fs6, fs7]
      refine zR_cl (Q := fun _ s'' => s'' = t3) (zR_eq ech rfl g3) (fun _ s'' _ q => ?_)
      subst q
      simp only [d13.ob, dzb, dzc, dzl, fl0, fl1, fl2, fl3, fl4, fl5, fl6, fl7, fi0, fi1, fi2, fi3, fi4, fi5, fi6, fi7, fr0, fr1, fr2, fr3, fr4, fr5, fr6, fr7, fs0, fs1, fs2, fs3, fs4, fs5, fs6, fs7]
      exact zR_r ⟨by rw [er1], UU, zz⟩
    · simp only [if_neg hu] at *
      refine zR_f hu ?_
      simp only [H.1.ob, H.2.1.1.ob, dzb, dzc, dzl, fl0, fl1, fl2, fl3, fl4, fl5, fl6, fl7, fi0, fi1, fi2, fi3, fi4, fi5, fi6, fi7, fr0, fr1, fr2, fr3, fr4, fr5, fr6, fr7, fs0, fs1, fs2, fs3, fs4, fs5, fs6, fs7]
      refine zR_cl (Q := fun r s => r = (A k).1 ∧ s = t) (zR_eq eg ⟨rfl, rfl⟩ zge.rfl) ?_
      intro r s _ P
      obtain ⟨rfl, rfl⟩ := P
      obtain ⟨f0, d0, -⟩ := id q1
      simp only [oL, d0.ob, dzb, dzc, dzl, fl0, fl1, fl2, fl3, fl4, fl5, fl6, fl7, fi0, fi1, fi2, fi3, fi4, fi5, fi6, fi7, fr0, fr1, fr2, fr3, fr4, fr5, fr6, fr7, fs0, fs1, fs2, fs3, fs4, fs5, fs6, fs7]
      refine zR_cl (Q := fun _ s' => s' = t2) (zR_eq ec rfl k2.1) (fun _ s' _ q => ?_)
      subst q
      simp only [Hq.1.ob, dzb, dzc, dzl, fl0, fl1, fl2, fl3, fl4, fl5, fl6, fl7, fi0, fi1, fi2, fi3, fi4, fi5, fi6, fi7, fr0, fr1, fr2, fr3, fr4, fr5, fr6, fr7, fs0, fs1, fs2, fs3, fs4, fs5, fs6, fs7]
      refine zR_cl (Q := fun _ s'' => s'' = t3) (zR_eq ech rfl g3) (fun _ s'' _ q => ?_)
      subst q
      simp only [d13.ob, dzb, dzc, dzl, fl0, fl1, fl2, fl3, fl4, fl5, fl6, fl7, fi0, fi1, fi2, fi3, fi4, fi5, fi6, fi7, fr0, fr1, fr2, fr3, fr4, fr5, fr6, fr7, fs0, fs1, fs2, fs3, fs4, fs5, fs6, fs7]
      exact zR_r ⟨by rw [er1], UU, zz⟩
  · rw [sCut_n (sRx_n (e := (N, L)) nn)]
    refine zR_cl (Q := fun r t => r = none ∧ t = τ) (zR_eq e ⟨rfl, rfl⟩ zge.rfl) ?_
    intro r t _ P
    obtain ⟨rfl, rfl⟩ := P
    exact zR_r ⟨rfl, U0, z0⟩
