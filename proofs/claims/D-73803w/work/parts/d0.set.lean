/-! set -/
theorem isNumber_nn (K : Nat) (x : Int32) : fnX0_isNumber K (Int32.toInt64 x) = some (nb (bIn 2 1000000000 (iN x))) := (nx_isNumber K _).trans ((nx_isIn K _ _ _).symm.trans (isIn_nn K 2 1000000000 x (by omega) (by omega)))
def sSetL (w v : Nat) (l : sLn) : sLn := if w = 0 then (v, l.2) else if w = 1 then (l.1, l.2.1, (v, l.2.2.1.2), l.2.2.2) else (l.1, l.2.1, (l.2.2.1.1, v), l.2.2.2)
def sSetV (w : Nat) (l : sLn) : Nat := if w = 0 then l.1 else if w = 1 then l.2.2.1.1 else l.2.2.1.2
def sSetOk (w v : Nat) (l : sLn) : Prop := w ≤ 2 ∧ (w = 0 → 2 ≤ v ∧ v ≤ 1000000000) ∧ (w ≠ 0 → (1 ≤ v ∧ v ≤ 99) ∧ (l.2.1 = 3 ∨ l.2.1 = 4))
/-- what set does, by its numbers -/
noncomputable def sSet (e : sLe) (x w v : Int32) : Int32 × sLe := match iN x, iN w, iN v with
  | some k, some w', some v' => @ite _ (k < e.1 ∧ sSetOk w' v' (e.2 k)) (Classical.propDecidable _) (nI (sSetV w' (e.2 k)), (e.1, upA e.2 k (sSetL w' v' (e.2 k)))) (-1, e)
  | _, _, _ => (-1, e)
theorem sSet_y {e : sLe} {k w v : Nat} (hk : k < 2 ^ 31) (hw : w < 2 ^ 31) (hv : v < 2 ^ 31) (h : k < e.1 ∧ sSetOk w v (e.2 k)) : sSet e (nI k) (nI w) (nI v) = (nI (sSetV w (e.2 k)), (e.1, upA e.2 k (sSetL w v (e.2 k)))) := by
  unfold sSet
  rw [iN_nI hk, iN_nI hw, iN_nI hv]
  exact if_pos h
theorem sSet_n {e : sLe} {x w v : Int32} (h : ¬ ∃ k w' v', iN x = some k ∧ iN w = some w' ∧ iN v = some v' ∧ k < e.1 ∧ sSetOk w' v' (e.2 k)) : sSet e x w v = (-1, e) := by
  unfold sSet
  cases h1 : iN x with
  | none => rfl
  | some k =>
    cases h2 : iN w with
    | none => rfl
    | some w' =>
      cases h3 : iN v with
      | none => rfl
      | some v' => exact if_neg (fun q => h ⟨k, w', v', h1, h2, h3, q⟩)
theorem hl_hasPair (K : Nat) (ζ : pZ) (τ : pH) (x s n p q d u h : Nat) (hL : zin ζ τ x (lnE (5 + s) s n p q d u h)) (hs : s ≤ 4) (hK : 1 ≤ K) : fnL_hasPair K ζ x τ = some (nb (decide (s = 3 ∨ s = 4)), τ) := by
  unfold fnL_hasPair
  rw [hL.oL (by omega), dzb]
  have hc : s = 0 ∨ s = 1 ∨ s = 2 ∨ s = 3 ∨ s = 4 := by omega
  rcases hc with rfl | rfl | rfl | rfl | rfl
  · rw [if_pos rfl]; exact hl_hasPair_5 K ζ τ x 0 n p q d u h hL hs hK
  · exact (if_neg (show ¬ 5 + 1 = 5 by decide)).trans ((if_pos rfl).trans (hl_hasPair_6 K ζ τ x 1 n p q d u h hL hs hK))
  · exact (if_neg (show ¬ 5 + 2 = 5 by decide)).trans ((if_neg (show ¬ 5 + 2 = 6 by decide)).trans ((if_pos rfl).trans (hl_hasPair_7 K ζ τ x 2 n p q d u h hL hs hK)))
  · exact (if_neg (show ¬ 5 + 3 = 5 by decide)).trans ((if_neg (show ¬ 5 + 3 = 6 by decide)).trans ((if_neg (show ¬ 5 + 3 = 7 by decide)).trans ((if_pos rfl).trans (hl_hasPair_8 K ζ τ x 3 n p q d u h hL hs hK))))
  · exact (if_neg (show ¬ 5 + 4 = 5 by decide)).trans ((if_neg (show ¬ 5 + 4 = 6 by decide)).trans ((if_neg (show ¬ 5 + 4 = 7 by decide)).trans ((if_neg (show ¬ 5 + 4 = 8 by decide)).trans ((if_pos rfl).trans (hl_hasPair_9 K ζ τ x 4 n p q d u h hL hs hK)))))
/-- a line has been changed; what is told is the old number -/
theorem hx_chgEnd {K : Nat} {ζ : pZ} {τ t : pH} {own : Nat → Nat × Nat × Nat} {h al ea af laid ta taped ra da : Nat} {mc : Int32} {N : Nat} {A : Nat → lA} {L : Nat → sLn} {S : Nat → Prop} {tp : Nat → Int32} (k : Nat) (hk : k < N) (a : lA) (l : sLn) (H : zLd ζ τ own h al ea af laid ta taped ra da mc N A L) (T : zTb ζ τ ta ra da tp) (D : zDj N A) (kk : zk S τ t 0 0) (hS : ∀ z, S z → 10 ≤ (own z).1 ∧ (own z).2.1 = (A k).1 ∧ ζ.1 ≤ z) (hl : zLine ζ t h a l) (ho : oOk own a) (ea1 : a.1 = (A k).1) :
    ∃ t', fnX0_changes K ζ h (nI k) t = some ((), t') ∧ zge t t' ∧ zin ζ t h (ppE al af laid ta taped ra da) ∧ zU ζ t' h N (upA L k l) taped tp ∧ zN τ t' 0 0 ∧ zk (fun z => z = h) t t' 0 0 ∧ own h = (0, 0, 0) := by
  obtain ⟨Hq, T', D'⟩ := H.chg k hk a l T D kk hS hl ho ea1
  have h60 := Hq.2.2.2.1
  obtain ⟨t', e, g, H', k'⟩ := hx_changes (K := K) k (min laid k) (by omega) Hq (Nat.le_refl _) (by omega)
  have q1 := kk.2.2
  have q2 := k'.2.2
  exact ⟨t', e, g, Hq.1, ⟨own, al, ea, af, _, ta, ra, da, mc, _, H', T'.h k' Hq.2.2.2.2.2.1, D'⟩, ⟨by omega, by omega⟩, k', Hq.2.2.2.2.2.1.1⟩
theorem hx_set {K : Nat} {ζ : pZ} {τ : pH} {h N : Nat} {L : Nat → sLn} {taped : Nat} {tp : Nat → Int32} (x w v : Int32) (hζ : ζ.1 ≤ τ.1) (U : zU ζ τ h N L taped tp) (hK : 2 ^ 50 ≤ K) :
    zR τ (fnX0_set K ζ h x w v τ) (fun r t => r = (sSet (N, L) x w v).1 ∧ zU ζ t h (sSet (N, L) x w v).2.1 (sSet (N, L) x w v).2.2 taped tp ∧ zN τ t 0 0) := by
  have U0 := U
  obtain ⟨own, al, ea, af, laid, ta, ra, da, mc, A, H, T, D⟩ := U
  have no : (¬ ∃ k w' v', iN x = some k ∧ iN w = some w' ∧ iN v = some v' ∧ k < N ∧ sSetOk w' v' (L k)) → zR τ (some ((-1 : Int32), τ)) (fun r t => r = (sSet (N, L) x w v).1 ∧ zU ζ t h (sSet (N, L) x w v).2.1 (sSet (N, L) x w v).2.2 taped tp ∧ zN τ t 0 0) := by
    intro q
    rw [sSet_n (e := (N, L)) q]
    exact zR_r ⟨rfl, U0, zk.rfl.N (S := zno) (by omega) (by omega)⟩
  have hN := H.2.2.2.1.2
  unfold fnX0_set
  refine zR_b H.1.ob ?_
  rcases hx_isLine (K := K) x H with ⟨k, hk, rfl, eL⟩ | ⟨nk, eL⟩
  · refine zR_cl (Q := fun r t => r = 1 ∧ t = τ) (zR_eq eL ⟨rfl, rfl⟩ zge.rfl) ?_
    intro r t _ P
    obtain ⟨rfl, rfl⟩ := P
    refine zR_f (by decide) ?_
    have ek : iN (nI k) = some k := iN_nI (by omega)
    rw [show (0 : Int64) = lN 0 from rfl, show (2 : Int64) = lN 2 from rfl, isIn_nn K 0 2 w (by omega) (by omega), dzb]
    obtain ⟨hln, hown⟩ := H.2.2.2.2.1 k hk
    have hs4 := hln.2.1
    obtain ⟨K1, hK1⟩ : ∃ j, K = j + 3 := ⟨K - 3, by omega⟩
    have eg := hj_get K ζ t al ea mc (xsA N A) H.2.1 k (by rw [xsA_len]; exact hk) (by rw [xsA_len]; omega)
    rw [xsA_get] at eg
    have hx1 := hln.1.1
    have hob := H.1.ob
    have S1 : ∀ z, z = (A k).1 → 10 ≤ (own z).1 ∧ (own z).2.1 = (A k).1 ∧ ζ.1 ≤ z := fun z e => by rw [e, hown.1.1]; exact ⟨Nat.le_refl 10, rfl, hx1.1.1⟩
    have fin : ∀ (n p q o : Nat), (2 ≤ n ∧ n ≤ 1000000000) → p ≤ 99 → q ≤ 99 → ∀ R : Int32 × sLe, R = (nI o, (N, upA L k (n, (L k).2.1, (p, q), (L k).2.2.2.1, (L k).2.2.2.2))) → zR t ((lfX0_set K ζ (K1 + 1)).2.2 h (nI k) (lN o) (zst t (A k).1 (lnE (5 + (L k).2.1) (L k).2.1 n p q (A k).2.1 (A k).2.2.2.1 h))) (fun r t' => r = R.1 ∧ zU ζ t' h R.2.1 R.2.2 taped tp ∧ zN t t' 0 0) := by
      intro n p q o hn hp hq R hR
      obtain ⟨t', e, g, hh, U', n', -, -⟩ := hx_chgEnd (K := K) (S := fun z => z = (A k).1) k hk (A k) _ H T D (zk_st rfl) S1 (zLine_set n p q hn hp hq hln hown) hown rfl
      rw [luX0_set_3, hR]
      refine zR_b hh.ob (zR_mono (s := zst t (A k).1 (lnE (5 + (L k).2.1) (L k).2.1 n p q (A k).2.1 (A k).2.2.2.1 h)) ⟨Nat.le_refl _, Nat.le_refl _⟩ (zR_cl (Q := fun _ s => s = t') (zR_eq e rfl g) (fun _ s _ q => ?_)))
      subst q
      refine zR_l (zR_r ⟨?_, U', n'⟩)
      exact lN_i o
    have top : ∀ R, (∀ t', zge t t' → True) → zR t ((lfX0_set K ζ (K1 + 2)).2.1 h (nI k) w v (A k).1 t) R → (w ≤ (0 : Int32) ∨ ((L k).2.1 = 3 ∨ (L k).2.1 = 4)) → zR t ((lfX0_set K ζ K).1 h (nI k) w v t) R := by
      intro R _ hR hc
      rw [show (lfX0_set K ζ K).1 = (lfX0_set K ζ (K1 + 2 + 1)).1 by rw [hK1], luX0_set_1]
      simp only [H.1.ob, H.2.1.1.ob, dzb, dzc, dzl, fl0, fl1, fl2, fl3, fl4, fl5, fl6, fl7, fi0, fi1, fi2, fi3, fi4, fi5, fi6, fi7, fr0, fr1, fr2, fr3, fr4, fr5, fr6, fr7, fs0, fs1, fs2, fs3, fs4, fs5, fs6, fs7]
      refine zR_cl (Q := fun r s => r = (A k).1 ∧ s = t) (zR_eq eg ⟨rfl, rfl⟩ zge.rfl) ?_
      intro r s _ P
      obtain ⟨rfl, rfl⟩ := P
      simp only [hx1.oL (show 5 ≤ 5 + (L k).2.1 ∧ 5 + (L k).2.1 ≤ 9 by omega), dzb, dzc, dzl, fl0, fl1, fl2, fl3, fl4, fl5, fl6, fl7, fi0, fi1, fi2, fi3, fi4, fi5, fi6, fi7, fr0, fr1, fr2, fr3, fr4, fr5, fr6, fr7, fs0, fs1, fs2, fs3, fs4, fs5, fs6, fs7]
      by_cases h0 : w ≤ (0 : Int32)
      · exact zR_t h0 hR
      · refine zR_f h0 (zR_cl (Q := fun r s' => r = nb (decide ((L k).2.1 = 3 ∨ (L k).2.1 = 4)) ∧ s' = s) (zR_eq (hl_hasPair K ζ s _ _ _ _ _ _ _ _ hx1 hs4 (by omega)) ⟨rfl, rfl⟩ zge.rfl) ?_)
        intro r s' _ P
        obtain ⟨rfl, rfl⟩ := P
        exact zR_f (nb_ne0 (decide_eq_true (hc.resolve_left h0))) hR
    have topn : ¬ w ≤ (0 : Int32) → ¬ ((L k).2.1 = 3 ∨ (L k).2.1 = 4) → ∀ R, zR t (some ((-1 : Int32), t)) R → zR t ((lfX0_set K ζ K).1 h (nI k) w v t) R := by
      intro h0 hc R hR
      rw [show (lfX0_set K ζ K).1 = (lfX0_set K ζ (K1 + 2 + 1)).1 by rw [hK1], luX0_set_1]
      simp only [H.1.ob, H.2.1.1.ob, dzb, dzc, dzl, fl0, fl1, fl2, fl3, fl4, fl5, fl6, fl7, fi0, fi1, fi2, fi3, fi4, fi5, fi6, fi7, fr0, fr1, fr2, fr3, fr4, fr5, fr6, fr7, fs0, fs1, fs2, fs3, fs4, fs5, fs6, fs7]
      refine zR_cl (Q := fun r s => r = (A k).1 ∧ s = t) (zR_eq eg ⟨rfl, rfl⟩ zge.rfl) ?_
      intro r s _ P
      obtain ⟨rfl, rfl⟩ := P
      simp only [hx1.oL (show 5 ≤ 5 + (L k).2.1 ∧ 5 + (L k).2.1 ≤ 9 by omega), dzb, dzc, dzl, fl0, fl1, fl2, fl3, fl4, fl5, fl6, fl7, fi0, fi1, fi2, fi3, fi4, fi5, fi6, fi7, fr0, fr1, fr2, fr3, fr4, fr5, fr6, fr7, fs0, fs1, fs2, fs3, fs4, fs5, fs6, fs7]
      refine zR_f h0 (zR_cl (Q := fun r s' => r = nb (decide ((L k).2.1 = 3 ∨ (L k).2.1 = 4)) ∧ s' = s) (zR_eq (hl_hasPair K ζ s _ _ _ _ _ _ _ _ hx1 hs4 (by omega)) ⟨rfl, rfl⟩ zge.rfl) ?_)
      intro r s' _ P
      obtain ⟨rfl, rfl⟩ := P
      exact zR_t (by rw [decide_eq_false hc]; rfl) hR
    rcases iN_cases w with ⟨hw, ew⟩ | ⟨w', hw', rfl, ew⟩
    · rw [ew]
      exact zR_t rfl (no (fun ⟨k', a, b, q1, q2, _⟩ => by rw [ew] at q2; cases q2))
    rw [ew]
    by_cases hw2 : w' ≤ 2
    · refine zR_f (nb_ne0 (bIn_t ⟨Nat.zero_le _, hw2⟩)) ?_
      have hc3 : w' = 0 ∨ w' = 1 ∨ w' = 2 := by omega
      rcases iN_cases v with ⟨hv, ev⟩ | ⟨v', hv', rfl, ev⟩
      · have nn := no (fun ⟨k', a, b, q1, q2, q3, _⟩ => by rw [ev] at q3; cases q3)
        rcases hc3 with rfl | hc
        · refine zR_t rfl ?_
          rw [isNumber_nn, dzb, ev]
          exact zR_t rfl nn
        · refine zR_f (nI_ne0 (by omega) (by omega)) ?_
          rw [show (1 : Int64) = lN 1 from rfl, show (99 : Int64) = lN 99 from rfl, isIn_nn K 1 99 v (by omega) (by omega), dzb, ev]
          exact zR_t rfl nn
      · rcases hc3 with rfl | hc
        · refine zR_t rfl ?_
          rw [isNumber_nn, dzb, ev]
          by_cases hr : 2 ≤ v' ∧ v' ≤ 1000000000
          · refine zR_f (nb_ne0 (bIn_t hr)) (top _ (fun _ _ => trivial) ?_ (Or.inl (by decide)))
            rw [luX0_set_2]
            refine zR_t rfl ?_
            simp only [hx1.oL (show 5 ≤ 5 + (L k).2.1 ∧ 5 + (L k).2.1 ≤ 9 by omega), dzb, dzc, dzl, fl0, fl1, fl2, fl3, fl4, fl5, fl6, fl7, fi0, fi1, fi2, fi3, fi4, fi5, fi6, fi7, fr0, fr1, fr2, fr3, fr4, fr5, fr6, fr7, fs0, fs1, fs2, fs3, fs4, fs5, fs6, fs7]
            refine zR_t rfl (zR_t hx1.1 ?_)
            refine zR_t (Nat.le_of_ble_eq_true rfl) ?_
            rw [nI_l (by omega)]
            exact fin v' (L k).2.2.1.1 (L k).2.2.1.2 (L k).1 hr hln.2.2.2.1.1 hln.2.2.2.1.2 _ (sSet_y (e := (N, L)) (by omega) (by omega) (by omega) ⟨hk, by omega, fun _ => hr, fun q => absurd rfl q⟩)
          · exact zR_t (nb_z (bIn_f hr)) (no (fun ⟨k', a, b, q1, q2, q3, q4, q5⟩ => by
              rw [ew] at q2; rw [ev] at q3
              cases q2; cases q3
              exact hr (q5.2.1 rfl)))
        · refine zR_f (nI_ne0 (by omega) (by omega)) ?_
          rw [show (1 : Int64) = lN 1 from rfl, show (99 : Int64) = lN 99 from rfl, isIn_nn K 1 99 (nI v') (by omega) (by omega), dzb, ev]
          by_cases hr : 1 ≤ v' ∧ v' ≤ 99
          · refine zR_f (nb_ne0 (bIn_t hr)) ?_
            have hw0 : ¬ nI w' ≤ (0 : Int32) := nI_nle (by omega) (by omega)
            by_cases hp : (L k).2.1 = 3 ∨ (L k).2.1 = 4
            · refine top _ (fun _ _ => trivial) ?_ (Or.inr hp)
              rw [luX0_set_2]
              refine zR_f (nI_ne0 (by omega) (by omega)) ?_
              rcases hc with rfl | rfl
              · refine zR_t rfl ?_
                simp only [hx1.oL (show 5 ≤ 5 + (L k).2.1 ∧ 5 + (L k).2.1 ≤ 9 by omega), dzb, dzc, dzl, fl0, fl1, fl2, fl3, fl4, fl5, fl6, fl7, fi0, fi1, fi2, fi3, fi4, fi5, fi6, fi7, fr0, fr1, fr2, fr3, fr4, fr5, fr6, fr7, fs0, fs1, fs2, fs3, fs4, fs5, fs6, fs7]
                refine zR_f (by decide) (zR_t rfl (zR_t hx1.1 (zR_t (Nat.le_of_ble_eq_true rfl) ?_)))
                rw [nI_l (by have := hln.2.2.2.1.1; omega)]
                exact fin (L k).1 v' (L k).2.2.1.2 (L k).2.2.1.1 hln.2.2.1 hr.2 hln.2.2.2.1.2 _ (sSet_y (e := (N, L)) (by omega) (by omega) (by omega) ⟨hk, by omega, fun q => by omega, fun _ => ⟨hr, hp⟩⟩)
              · refine zR_f (by decide) ?_
                simp only [hx1.oL (show 5 ≤ 5 + (L k).2.1 ∧ 5 + (L k).2.1 ≤ 9 by omega), dzb, dzc, dzl, fl0, fl1, fl2, fl3, fl4, fl5, fl6, fl7, fi0, fi1, fi2, fi3, fi4, fi5, fi6, fi7, fr0, fr1, fr2, fr3, fr4, fr5, fr6, fr7, fs0, fs1, fs2, fs3, fs4, fs5, fs6, fs7]
                refine zR_f (by decide) (zR_f (by decide) (zR_t hx1.1 (zR_t (Nat.le_of_ble_eq_true rfl) ?_)))
                rw [nI_l (by have := hln.2.2.2.1.2; omega)]
                exact fin (L k).1 (L k).2.2.1.1 v' (L k).2.2.1.2 hln.2.2.1 hln.2.2.2.1.1 hr.2 _ (sSet_y (e := (N, L)) (by omega) (by omega) (by omega) ⟨hk, by omega, fun q => by omega, fun _ => ⟨hr, hp⟩⟩)
            · exact topn hw0 hp _ (no (fun ⟨k', a, b, q1, q2, q3, q4, q5⟩ => by
                rw [ek] at q1; rw [ew] at q2
                cases q1; cases q2
                exact hp (q5.2.2 (by omega)).2))
          · exact zR_t (nb_z (bIn_f hr)) (no (fun ⟨k', a, b, q1, q2, q3, q4, q5⟩ => by
              rw [ew] at q2; rw [ev] at q3
              cases q2; cases q3
              exact hr (q5.2.2 (by omega)).1))
    · exact zR_t (nb_z (bIn_f (fun q => hw2 q.2))) (no (fun ⟨k', a, b, q1, q2, q3, q4, q5⟩ => by
        rw [ew] at q2
        cases q2
        exact hw2 q5.1))
  · refine zR_cl (Q := fun r t => r = 0 ∧ t = τ) (zR_eq eL ⟨rfl, rfl⟩ zge.rfl) ?_
    intro r t _ P
    obtain ⟨rfl, rfl⟩ := P
    refine zR_t rfl (no (fun ⟨k', a, b, q1, q2, q3, q4, q5⟩ => nk ⟨k', q4, ?_⟩))
    rcases iN_cases x with ⟨-, e⟩ | ⟨j, -, e, e2⟩
    · rw [e] at q1; cases q1
    · rw [e2] at q1; cases q1; exact e
