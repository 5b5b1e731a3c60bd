/-! mend -/
theorem xsA_set (N : Nat) (A : Nat → lA) (k : Nat) (a : lA) : (xsA N A).set k a.1 = xsA N (upA A k a) := by
  apply List.ext_getElem
  · rw [List.length_set, xsA_len, xsA_len]
  · intro i h1 h2
    rw [xsA_get]
    by_cases e : i = k
    · subst e
      rw [List.getElem_set_self, upA_at]
    · rw [List.getElem_set_ne (Ne.symm e), xsA_get, upA_ne e]
noncomputable def sMend (k : Nat) (e : sLe) : sFz :=
  if sCan (e.2 k).1 (e.2 k).2.1 then
    (match (sFnd (e.2 k).2.1 (e.2 k).1).1 with
    | none => (-2, e, 5 + (sFnd (e.2 k).2.1 (e.2 k).1).2, 330 + 5 * (sFnd (e.2 k).2.1 (e.2 k).1).2)
    | some l => (nI (sFt (upA e.2 k l) k), (e.1, upA e.2 k l), 5 + (sFnd (e.2 k).2.1 (e.2 k).1).2, 330 + 5 * (sFnd (e.2 k).2.1 (e.2 k).1).2))
  else (-2, e, 5, 30)
theorem sMend_c {k : Nat} {e : sLe} (hc : sCan (e.2 k).1 (e.2 k).2.1 = false) : sMend k e = (-2, e, 5, 30) := by
  unfold sMend
  exact if_neg (by rw [hc]; decide)
theorem sMend_n {k : Nat} {e : sLe} (hc : sCan (e.2 k).1 (e.2 k).2.1 = true) (hf : (sFnd (e.2 k).2.1 (e.2 k).1).1 = none) : sMend k e = (-2, e, 5 + (sFnd (e.2 k).2.1 (e.2 k).1).2, 330 + 5 * (sFnd (e.2 k).2.1 (e.2 k).1).2) := by
  unfold sMend
  rw [if_pos hc, hf]
theorem sMend_s {k : Nat} {e : sLe} {l : sLn} (hc : sCan (e.2 k).1 (e.2 k).2.1 = true) (hf : (sFnd (e.2 k).2.1 (e.2 k).1).1 = some l) : sMend k e = (nI (sFt (upA e.2 k l) k), (e.1, upA e.2 k l), 5 + (sFnd (e.2 k).2.1 (e.2 k).1).2, 330 + 5 * (sFnd (e.2 k).2.1 (e.2 k).1).2) := by
  unfold sMend
  rw [if_pos hc, hf]
theorem sCan_p {n s : Nat} (hc : sCan n s = true) : pn_prime n ∧ (s = 0 ∨ 3 ≤ n) := by
  unfold sCan at hc
  rw [Bool.and_eq_true] at hc
  refine ⟨prB_t.mp hc.1, ?_⟩
  by_cases h0 : s = 0
  · exact Or.inl h0
  · rw [if_neg h0] at hc
    exact Or.inr (of_decide_eq_true hc.2)
theorem zDj_u {N k : Nat} {A : Nat → lA} {a : lA} (D : zDj N A) (na : ∀ j, j < N → (A j).1 ≠ a.1) : zDj N (upA A k a) := by
  intro j i hj hi e
  by_cases h1 : j = k
  · by_cases h2 : i = k
    · omega
    · rw [h1, upA_at, upA_ne h2] at e
      exact absurd e.symm (na i hi)
  · by_cases h2 : i = k
    · rw [h2, upA_at, upA_ne h1] at e
      exact absurd e (na j hj)
    · rw [upA_ne h1, upA_ne h2] at e
      exact D j i hj hi e
theorem ar3 (c : Nat) : 30 + (5 * c + 300) ≤ 330 + 5 * c + 12000 := by omega
theorem hx_mend {K : Nat} {ζ : pZ} {τ : pH} {h N : Nat} {L : Nat → sLn} {taped : Nat} {tp : Nat → Int32} (k : Nat) (hk : k < N) (hζ : ζ.1 ≤ τ.1) (U : zU ζ τ h N L taped tp) (hK : 2 ^ 50 ≤ K) :
    zR τ (fnX0_mend K ζ h (nI k) τ) (fun v t => v = (sMend k (N, L)).1 ∧ zU ζ t h (sMend k (N, L)).2.1.1 (sMend k (N, L)).2.1.2 taped tp ∧ zN τ t ((sMend k (N, L)).2.2.1 + 2400) ((sMend k (N, L)).2.2.2 + 12000)) := by
  obtain ⟨own, al, ea, af, laid, ta, ra, da, mc, A, H, T, D⟩ := U
  have H0 := H
  obtain ⟨a1, a2, ⟨ff, a3, a3'⟩, a4, a5, a6, a7⟩ := H
  obtain ⟨hln0, -⟩ := a5 k hk
  have hs4 := hln0.2.1
  have hnr := hln0.2.2.1
  have eL : fnX0_isLine K ζ h (nI k) τ = some (1, τ) := by
    rcases hx_isLine (K := K) (nI k) H0 with ⟨j, -, -, e⟩ | ⟨e, -⟩
    · exact e
    · exact absurd ⟨k, hk, rfl⟩ e
  unfold fnX0_mend
  refine zR_b a1.ob (zR_cl (Q := fun v t => v = 1 ∧ t = τ) (zR_eq eL ⟨rfl, rfl⟩ zge.rfl) ?_)
  intro v t _ P
  obtain ⟨rfl, rfl⟩ := P
  refine zR_f (by decide) ?_
  simp only [a1.ob, a2.1.ob, dzb, dzc, dzl, fl0, fl1, fl2, fl3, fl4, fl5, fl6, fl7, fi0, fi1, fi2, fi3, fi4, fi5, fi6, fi7, fr0, fr1, fr2, fr3, fr4, fr5, fr6, fr7, fs0, fs1, fs2, fs3, fs4, fs5, fs6, fs7]
  have eg := hj_get K ζ t al ea mc (xsA N A) a2 k (by rw [xsA_len]; exact hk) (by rw [xsA_len]; omega)
  rw [xsA_get] at eg
  refine zR_cl (Q := fun v t' => v = (A k).1 ∧ t' = t) (zR_eq eg ⟨rfl, rfl⟩ zge.rfl) ?_
  intro v t' _ P
  obtain ⟨rfl, rfl⟩ := P
  simp only [hln0.1.1.oL (show 5 ≤ 5 + (L k).2.1 ∧ 5 + (L k).2.1 ≤ 9 by omega), a1.ob, dzb, dzc, dzl, fl0, fl1, fl2, fl3, fl4, fl5, fl6, fl7, fi0, fi1, fi2, fi3, fi4, fi5, fi6, fi7, fr0, fr1, fr2, fr3, fr4, fr5, fr6, fr7, fs0, fs1, fs2, fs3, fs4, fs5, fs6, fs7]
  refine zR_cl (hm_made K ζ t' h (L k).1 (L k).2.1 hζ hnr hs4) (fun x t2 g2 P => ?_)
  obtain ⟨rfl, hx, kz⟩ := P
  have T2 : zTb ζ t2 ta ra da tp := T.k kz (fun e => e) (fun e => e) (fun e => e)
  simp only [hx.1.oL (show 5 ≤ 5 + (L k).2.1 ∧ 5 + (L k).2.1 ≤ 9 by omega), dzb, dzc, dzl, fl0, fl1, fl2, fl3, fl4, fl5, fl6, fl7, fi0, fi1, fi2, fi3, fi4, fi5, fi6, fi7, fr0, fr1, fr2, fr3, fr4, fr5, fr6, fr7, fs0, fs1, fs2, fs3, fs4, fs5, fs6, fs7]
  rw [nx_canBe K (L k).1 (L k).2.1 (by omega) (by omega) hs4, dzb]
  cases hc : sCan (L k).1 (L k).2.1 with
  | false =>
    rw [sMend_c (e := (N, L)) hc]
    exact zR_t rfl (zR_r ⟨rfl, ⟨own, al, ea, af, laid, ta, ra, da, mc, A, H0.k0 kz, T2, D⟩, kz.N (by show _ ≤ 5 + 2400; omega) (by show _ ≤ 30 + 12000; omega)⟩)
  | true =>
    have hp := sCan_p hc
    have ht5 : t'.1 + 5 ≤ t2.1 := by
      obtain ⟨f, -, hub, -⟩ := hx.2.1.2.2.1
      exact hub.1.2
    refine zR_f (by decide) (zR_cl (hf_isFound K ζ t2 t'.1 (L k).2.1 (L k).1 h (Nat.le_trans hζ g2.1) hx hs4 hp.2 hK) (fun v t3 g3 P => ?_))
    obtain ⟨po, k3⟩ := P
    have K2 : zk zno t' t3 (5 + (sFnd (L k).2.1 (L k).1).2) (30 + (5 * (sFnd (L k).2.1 (L k).1).2 + 300)) := kz.new (k3.wk (fun z _ e => Or.inr e.1))
    have T3 : zTb ζ t3 ta ra da tp := T.k K2 (fun e => e) (fun e => e) (fun e => e)
    cases ho : (sFnd (L k).2.1 (L k).1).1 with
    | none =>
      rw [ho] at po
      have po : v = 0 := po
      rw [sMend_n (e := (N, L)) hc ho]
      exact zR_t po (zR_r ⟨rfl, ⟨own, al, ea, af, laid, ta, ra, da, mc, A, H0.k0 K2, T3, D⟩, K2.N (by show _ ≤ 5 + (sFnd (L k).2.1 (L k).1).2 + 2400; omega) (ar3 _)⟩)
    | some l =>
      rw [ho] at po
      obtain ⟨hv, das, uas, hlx, ⟨e1, e2⟩, f1, f2, n1, n2, n3⟩ := po
      have el : l = ((L k).1, (L k).2.1, (l.2.2.1.1, l.2.2.1.2), l.2.2.2.1, l.2.2.2.2) := by
        rcases l with ⟨l1, l2, ⟨l3, l4⟩, l5, l6⟩
        have e1 : l1 = (L k).1 := e1
        have e2 : l2 = (L k).2.1 := e2
        rw [e1, e2]
      have hln := zLine_of hlx hs4
      rw [← el] at hln
      have he : ∀ z, z < t'.1 → oNew own t'.1 das uas z = own z := fun z hz => oNew_lt hz
      have ho1 := oNew_ok own t'.1 das uas (fun y hy => by have := f1 y hy; omega) (fun y hy => by have := f2 y hy; omega) n1 n2 n3
      have H3 := (H0.co T he).k0 K2
      rw [sMend_s (e := (N, L)) hc ho]
      refine zR_f (by rw [hv]; decide) ?_
      obtain ⟨c1, c2, ⟨f3, c3, c3'⟩, c4, c5, c6, c7⟩ := id H3
      generalize oNew own t'.1 das uas = own1 at *
      have hs41 := hln.2.1
      simp only [c1.ob, c2.1.ob, dzb, dzc, dzl, fl0, fl1, fl2, fl3, fl4, fl5, fl6, fl7, fi0, fi1, fi2, fi3, fi4, fi5, fi6, fi7, fr0, fr1, fr2, fr3, fr4, fr5, fr6, fr7, fs0, fs1, fs2, fs3, fs4, fs5, fs6, fs7]
      obtain ⟨t4, es, g4, e4, k4, z4⟩ := hj_set K ζ t3 al ea mc (xsA N A) c2 k t'.1 (5 + l.2.1) _ hln.1.1 (by omega) (by rw [xsA_len]; exact hk) (by rw [xsA_len]; omega)
      refine zR_cl (Q := fun _ s => s = t4) (zR_eq es rfl g4) (fun _ s _ q => ?_)
      subst q
      have hea : ζ.1 ≤ ea := by
        rcases c2.2 with ⟨-, e⟩ | ⟨cap, f, q, -⟩
        · have := congrArg List.length e
          rw [xsA_len] at this
          have : N = 0 := this
          omega
        · exact q.1.1
      have k4' : zk (fun z => z = al ∨ (z = ea ∧ ζ.1 ≤ z)) t3 s 0 0 := k4.wk (fun z _ e => Or.inr ⟨e, by rw [e]; exact hea⟩)
      rw [xsA_set N A k (t'.1, t'.1 + 1, t'.1 + 2, t'.1 + 3, t'.1 + 4, das, uas)] at z4
      have H4 : zLq ζ s own1 h al ea af laid ta taped ra da mc N (upA A k (t'.1, t'.1 + 1, t'.1 + 2, t'.1 + 3, t'.1 + 4, das, uas)) (upA L k l) (min laid k) := by
        refine ⟨k4'.in c1 (c6.nS c7 (by rw [c6.1]; decide) (by rw [c6.1]; decide)), z4, ⟨f3, k4'.in c3 (c6.nS c7 (by rw [c6.2.2.2.1]; decide) (by rw [c6.2.2.2.1]; decide)), fun j hj => ?_⟩, by omega, fun j hj => ?_, c6, c7⟩
        · rw [c3' j (by omega), sFt_co (L := L) (L' := upA L k l) (j + 1) j (by omega) (fun i hi => upA_ne (by omega))]
        · by_cases e : j = k
          · subst e
            rw [upA_at, upA_at]
            exact ⟨hln.k ho1 k4' (c6.S10 c7), ho1⟩
          · rw [upA_ne e, upA_ne e]
            exact ⟨(c5 j hj).1.k (c5 j hj).2 k4' (c6.S10 c7), (c5 j hj).2⟩
      have T4 := T3.l k4' c6 c7
      simp only [H4.1.ob, dzb, dzc, dzl, fl0, fl1, fl2, fl3, fl4, fl5, fl6, fl7, fi0, fi1, fi2, fi3, fi4, fi5, fi6, fi7, fr0, fr1, fr2, fr3, fr4, fr5, fr6, fr7, fs0, fs1, fs2, fs3, fs4, fs5, fs6, fs7]
      obtain ⟨t5, ec, g5, H5, k5⟩ := hx_changes (K := K) k (min laid k) (by omega) H4 (Nat.le_refl _) (by omega)
      refine zR_cl (Q := fun _ s' => s' = t5) (zR_eq ec rfl g5) (fun _ s' _ q => ?_)
      subst q
      have T5 := T4.h k5 c6
      simp only [H5.1.ob, dzb, dzc, dzl, fl0, fl1, fl2, fl3, fl4, fl5, fl6, fl7, fi0, fi1, fi2, fi3, fi4, fi5, fi6, fi7, fr0, fr1, fr2, fr3, fr4, fr5, fr6, fr7, fs0, fs1, fs2, fs3, fs4, fs5, fs6, fs7]
      have hζ5 : ζ.1 ≤ s'.1 := Nat.le_trans hζ (Nat.le_trans g2.1 (Nat.le_trans g3.1 (Nat.le_trans g4.1 g5.1)))
      refine zR_cl (hx_isRight k hk hζ5 H5 hK) (fun w t6 g6 P => ?_)
      obtain ⟨rfl, H6, k6⟩ := P
      have T6 : zTb ζ t6 ta ra da tp := T5.s (own := own1) k6 (fun z q => Or.inl (q.elim (fun q => by rw [q, c6.1]; decide) (fun q => by rw [q, c6.2.2.2.1]; decide))) c6
      have D6 : zDj N (upA A k (t'.1, t'.1 + 1, t'.1 + 2, t'.1 + 3, t'.1 + 4, das, uas)) := zDj_u D (fun j hj => Nat.ne_of_lt (H0.lt hj))
      have cells : zN t' t6 (5 + (sFnd (L k).2.1 (L k).1).2 + 2400) (330 + 5 * (sFnd (L k).2.1 (L k).1).2 + 12000) := by
        have q1 := K2.2.2
        have q2 := k4'.2.2
        have q3 := k5.2.2
        have q4 := k6.2.2
        have : k + 1 - min laid k ≤ 60 := by omega
        exact ⟨by omega, by omega⟩
      obtain ⟨d1, d2, ⟨f6, d3, d3'⟩, d4, -⟩ := id H6
      by_cases h0 : sFt (upA L k l) k = 0
      · refine zR_f (nb_ne0 (decide_eq_true h0)) (zR_r ⟨?_, ⟨own1, al, ea, af, _, ta, ra, da, mc, _, H6, T6, D6⟩, cells⟩)
        rw [h0]; rfl
      · refine zR_t (by rw [decide_eq_false h0]; rfl) ?_
        simp only [d1.ob, d3.ai, dzb, dzc, dzl, fl0, fl1, fl2, fl3, fl4, fl5, fl6, fl7, fi0, fi1, fi2, fi3, fi4, fi5, fi6, fi7, fr0, fr1, fr2, fr3, fr4, fr5, fr6, fr7, fs0, fs1, fs2, fs3, fs4, fs5, fs6, fs7]
        refine zR_t (nI_in (by omega) (by omega)) (zR_r ⟨?_, ⟨own1, al, ea, af, _, ta, ra, da, mc, _, H6, T6, D6⟩, cells⟩)
        rw [nI_clamp (by omega)]
        exact d3' k (Nat.lt_of_lt_of_le (Nat.lt_succ_self k) (Nat.le_max_right _ _))
theorem hx_mend_no {K : Nat} {ζ : pZ} {τ : pH} {h N : Nat} {L : Nat → sLn} {taped : Nat} {tp : Nat → Int32} (x : Int32) (hx : ¬ ∃ k, k < N ∧ x = nI k) (U : zU ζ τ h N L taped tp) : zR τ (fnX0_mend K ζ h x τ) (fun v t => v = -1 ∧ t = τ) := by
  obtain ⟨own, al, ea, af, laid, ta, ra, da, mc, A, H, T, D⟩ := U
  have eL : fnX0_isLine K ζ h x τ = some (0, τ) := by
    rcases hx_isLine (K := K) x H with ⟨j, q1, q2, -⟩ | ⟨-, e⟩
    · exact absurd ⟨j, q1, q2⟩ hx
    · exact e
  unfold fnX0_mend
  refine zR_b H.1.ob (zR_cl (Q := fun v t => v = 0 ∧ t = τ) (zR_eq eL ⟨rfl, rfl⟩ zge.rfl) ?_)
  intro v t _ P
  obtain ⟨rfl, rfl⟩ := P
  exact zR_t rfl (zR_r ⟨rfl, rfl⟩)
