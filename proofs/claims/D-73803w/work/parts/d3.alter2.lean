/-! alter, whole -/
def aOk (u : Int32) (w v : Nat) : Prop := w ≤ (if u = 0 then 2 else 1) ∧ (w = 0 → 2 ≤ v ∧ v ≤ 1000000000) ∧ (w = 1 → 1 ≤ v ∧ v ≤ 30) ∧ (w = 2 → 2 ≤ v ∧ v ≤ 999)
def aRow (w v : Nat) (r : sR) : sR := if w = 0 then (v, r.2) else if w = 1 then (r.1, v, r.2.2) else (r.1, r.2.1, v)
def aOld (w : Nat) (r : sR) : Nat := if w = 0 then r.1 else if w = 1 then r.2.1 else r.2.2
abbrev gRo (u : Int32) (l : sLn) (j : Nat) : sR := (lRo u l).getD j (0, 0, 0)
noncomputable def sAlt (e : sLe) (x u i w v : Int32) : Int32 × sLe := match sRx e x u i, iN w, iN v with
  | some (k, j), some w', some v' => @ite _ (aOk u w' v') (Classical.propDecidable _) (nI (aOld w' (gRo u (e.2 k) j)), (e.1, upA e.2 k (lWi u (e.2 k) ((lRo u (e.2 k)).set j (aRow w' v' (gRo u (e.2 k) j)))))) (-1, e)
  | _, _, _ => (-1, e)
theorem sAlt_y {e : sLe} {x u i : Int32} {k j w v : Nat} (h : sRx e x u i = some (k, j)) (hw : w < 2 ^ 31) (hv : v < 2 ^ 31) (ho : aOk u w v) : sAlt e x u i (nI w) (nI v) = (nI (aOld w (gRo u (e.2 k) j)), (e.1, upA e.2 k (lWi u (e.2 k) ((lRo u (e.2 k)).set j (aRow w v (gRo u (e.2 k) j)))))) := by
  unfold sAlt
  rw [h, iN_nI hw, iN_nI hv]
  exact if_pos ho
theorem sAlt_r {e : sLe} {x u i w v : Int32} (h : sRx e x u i = none) : sAlt e x u i w v = (-1, e) := by
  unfold sAlt
  rw [h]
theorem sAlt_n {e : sLe} {x u i w v : Int32} (h : ¬ ∃ w' v', iN w = some w' ∧ iN v = some v' ∧ aOk u w' v') : sAlt e x u i w v = (-1, e) := by
  unfold sAlt
  cases h1 : sRx e x u i with
  | none => rfl
  | some p =>
    cases h2 : iN w with
    | none => rfl
    | some w' =>
      cases h3 : iN v with
      | none => rfl
      | some v' => exact if_neg (fun q => h ⟨w', v', h2, h3, q⟩)
theorem hx_alter {K : Nat} {ζ : pZ} {τ : pH} {h N : Nat} {L : Nat → sLn} {taped : Nat} {tp : Nat → Int32} (x u i w v : Int32) (hζ : ζ.1 ≤ τ.1) (U : zU ζ τ h N L taped tp) (hK : 2 ^ 50 ≤ K) :
    zR τ (fnX0_alter K ζ h x u i w v τ) (fun r t => r = (sAlt (N, L) x u i w v).1 ∧ zU ζ t h (sAlt (N, L) x u i w v).2.1 (sAlt (N, L) x u i w v).2.2 taped tp ∧ zN τ t 0 0) := by
  have U0 := U
  obtain ⟨own, al, ea, af, laid, ta, ra, da, mc, A, H, T, D⟩ := U
  have z0 : zN τ τ 0 0 := zk.rfl.N (S := zno) (by omega) (by omega)
  have hN := H.2.2.2.1.2
  unfold fnX0_alter
  refine zR_b H.1.ob ?_
  rcases hx_rowOf (K := K) x u i H with ⟨k, j, hj, hk, rfl, rfl, e⟩ | ⟨nn, e⟩
  · obtain ⟨hln, hown⟩ := H.2.2.2.2.1 k hk
    have h9 := lRo_len hln u
    have hj2 : j < (lRo u (L k)).length := by omega
    obtain ⟨hr, hok⟩ := lRo_row hln u j hj hj2
    have eg : gRo u (L k) j = (lRo u (L k))[j] := by show (lRo u (L k)).getD j (0, 0, 0) = _; rw [List.getD_eq_getElem?_getD, List.getElem?_eq_getElem hj2]; rfl
    have ex := sRx_y (e := (N, L)) (u := u) (k := k) (j := j) (by omega) (by omega) ⟨hk, hj2⟩
    refine zR_cl (Q := fun r t => r = some (lAd u (A k))[j] ∧ t = τ) (zR_eq e ⟨rfl, rfl⟩ zge.rfl) ?_
    intro r t _ P
    obtain ⟨rfl, rfl⟩ := P
    obtain ⟨K1, hK1⟩ : ∃ j, K = j + 2 := ⟨K - 2, by omega⟩
    have S1 : ∀ z, z = (lAd u (A k))[j] → 10 ≤ (own z).1 ∧ (own z).2.1 = (A k).1 ∧ ζ.1 ≤ z := fun z e => by
      rw [e, lAd_own hown u hj]
      refine ⟨?_, rfl, hr.1.1⟩
      show 10 ≤ (if u = 0 then 15 else 16)
      split <;> omega
    have no : (¬ ∃ w' v', iN w = some w' ∧ iN v = some v' ∧ aOk u w' v') → zR t (some ((-1 : Int32), t)) (fun r t' => r = (sAlt (N, L) (nI k) u (nI j) w v).1 ∧ zU ζ t' h (sAlt (N, L) (nI k) u (nI j) w v).2.1 (sAlt (N, L) (nI k) u (nI j) w v).2.2 taped tp ∧ zN t t' 0 0) := by
      intro q
      rw [sAlt_n q]
      exact zR_r ⟨rfl, U0, z0⟩
    have fin : ∀ (r : sR) (o : Nat), sRok r → ∀ R : Int32 × sLe, R = (nI o, (N, upA L k (lWi u (L k) ((lRo u (L k)).set j r)))) → zR t ((lfX0_alter K ζ (K1 + 1)).2 h (nI k) (lN o) (zst t (lAd u (A k))[j] (rwE r.1 r.2.1 r.2.2))) (fun r t' => r = R.1 ∧ zU ζ t' h R.2.1 R.2.2 taped tp ∧ zN t t' 0 0) := by
      intro r o hro R hR
      obtain ⟨t', e, g, hh, U', n', -, -⟩ := hx_chgEnd (K := K) (S := fun z => z = (lAd u (A k))[j]) k hk (A k) _ H T D (zk_st rfl) S1 (zLine_row u j hj r hro hln hown) hown rfl
      rw [luX0_alter_2, hR]
      refine zR_b hh.ob (zR_mono (s := zst t (lAd u (A k))[j] (rwE r.1 r.2.1 r.2.2)) ⟨Nat.le_refl _, Nat.le_refl _⟩ (zR_cl (Q := fun _ s => s = t') (zR_eq e rfl g) (fun _ s _ q => ?_)))
      subst q
      exact zR_l (zR_r ⟨lN_i o, U', n'⟩)
    have core : ∀ w' v', w' < 2 ^ 31 → v' < 2 ^ 31 → w = nI w' → v = nI v' → aOk u w' v' → zR t ((lfX0_alter K ζ K).1 h (nI k) w v (lAd u (A k))[j] t) (fun r t' => r = (sAlt (N, L) (nI k) u (nI j) w v).1 ∧ zU ζ t' h (sAlt (N, L) (nI k) u (nI j) w v).2.1 (sAlt (N, L) (nI k) u (nI j) w v).2.2 taped tp ∧ zN t t' 0 0) := by
      intro w' v' hw' hv' ew ev ok
      subst ew; subst ev
      have ey := sAlt_y ex hw' hv' ok
      rw [show (lfX0_alter K ζ K).1 = (lfX0_alter K ζ (K1 + 1 + 1)).1 by rw [hK1], luX0_alter_1]
      have ok1 := ok.1
      have hw2 : w' = 0 ∨ w' = 1 ∨ w' = 2 := by split at ok1 <;> omega
      rcases hw2 with rfl | rfl | rfl
      · refine zR_t rfl ?_
        simp only [hr.ob, dzb, dzc, dzl, fl0, fl1, fl2, fl3, fl4, fl5, fl6, fl7, fi0, fi1, fi2, fi3, fi4, fi5, fi6, fi7, fr0, fr1, fr2, fr3, fr4, fr5, fr6, fr7, fs0, fs1, fs2, fs3, fs4, fs5, fs6, fs7]
        refine zR_t rfl ?_
        simp only [hr.wo (k := 0) (Nat.le_of_ble_eq_true rfl), dzb, dzc, dzl, fl0, fl1, fl2, fl3, fl4, fl5, fl6, fl7, fi0, fi1, fi2, fi3, fi4, fi5, fi6, fi7, fr0, fr1, fr2, fr3, fr4, fr5, fr6, fr7, fs0, fs1, fs2, fs3, fs4, fs5, fs6, fs7]
        rw [nI_l hv']
        have b := ok.2.1 rfl
        exact fin (v', (lRo u (L k))[j].2.1, (lRo u (L k))[j].2.2) (lRo u (L k))[j].1 ⟨by omega, hok.2⟩ _ (by rw [ey, eg]; rfl)
      · refine zR_f (by decide) (zR_t rfl ?_)
        simp only [hr.ob, dzb, dzc, dzl, fl0, fl1, fl2, fl3, fl4, fl5, fl6, fl7, fi0, fi1, fi2, fi3, fi4, fi5, fi6, fi7, fr0, fr1, fr2, fr3, fr4, fr5, fr6, fr7, fs0, fs1, fs2, fs3, fs4, fs5, fs6, fs7]
        refine zR_f (by decide) (zR_t rfl ?_)
        simp only [hr.wo (k := 1) (Nat.le_of_ble_eq_true rfl), dzb, dzc, dzl, fl0, fl1, fl2, fl3, fl4, fl5, fl6, fl7, fi0, fi1, fi2, fi3, fi4, fi5, fi6, fi7, fr0, fr1, fr2, fr3, fr4, fr5, fr6, fr7, fs0, fs1, fs2, fs3, fs4, fs5, fs6, fs7]
        rw [nI_l (by have := hok.2.1.2; omega)]
        have b := ok.2.2.1 rfl
        exact fin ((lRo u (L k))[j].1, v', (lRo u (L k))[j].2.2) (lRo u (L k))[j].2.1 ⟨hok.1, b, hok.2.2⟩ _ (by rw [ey, eg]; rfl)
      · refine zR_f (by decide) (zR_f (by decide) ?_)
        simp only [hr.ob, dzb, dzc, dzl, fl0, fl1, fl2, fl3, fl4, fl5, fl6, fl7, fi0, fi1, fi2, fi3, fi4, fi5, fi6, fi7, fr0, fr1, fr2, fr3, fr4, fr5, fr6, fr7, fs0, fs1, fs2, fs3, fs4, fs5, fs6, fs7]
        refine zR_f (by decide) (zR_f (by decide) ?_)
        simp only [hr.wo (k := 2) (Nat.le_of_ble_eq_true rfl), dzb, dzc, dzl, fl0, fl1, fl2, fl3, fl4, fl5, fl6, fl7, fi0, fi1, fi2, fi3, fi4, fi5, fi6, fi7, fr0, fr1, fr2, fr3, fr4, fr5, fr6, fr7, fs0, fs1, fs2, fs3, fs4, fs5, fs6, fs7]
        rw [nI_l (by have := hok.2.2; omega)]
        have b := ok.2.2.2 rfl
        exact fin ((lRo u (L k))[j].1, (lRo u (L k))[j].2.1, v') (lRo u (L k))[j].2.2 ⟨hok.1, hok.2.1, b.2⟩ _ (by rw [ey, eg]; rfl)
    -- the ranges
    have rng : ∀ (m : Nat), m ≤ 2 → (if u = 0 then 2 else 1) = m → zR t (dz_b (fnX0_isIn K (Int32.toInt64 w) 0 (lN m)) fun x5 => if x5 = (0 : Int32) then (some ((-1 : Int32), t)) else (if w = (0 : Int32) then (dz_b (fnX0_isNumber K (Int32.toInt64 v)) fun x8 => if x8 = (0 : Int32) then (some ((-1), t)) else ((lfX0_alter K ζ K).1 h (nI k) w v (lAd u (A k))[j] t)) else (if w = (1 : Int32) then (dz_b (fnX0_isIn K (Int32.toInt64 v) 1 30) fun x7 => if x7 = (0 : Int32) then (some ((-1), t)) else ((lfX0_alter K ζ K).1 h (nI k) w v (lAd u (A k))[j] t)) else (dz_b (fnX0_isIn K (Int32.toInt64 v) 2 999) fun x6 => if x6 = (0 : Int32) then (some ((-1), t)) else ((lfX0_alter K ζ K).1 h (nI k) w v (lAd u (A k))[j] t))))) (fun r t' => r = (sAlt (N, L) (nI k) u (nI j) w v).1 ∧ zU ζ t' h (sAlt (N, L) (nI k) u (nI j) w v).2.1 (sAlt (N, L) (nI k) u (nI j) w v).2.2 taped tp ∧ zN t t' 0 0) := by
      intro m hm em
      rw [show (0 : Int64) = lN 0 from rfl, isIn_nn K 0 m w (by omega) (by omega), dzb]
      rcases iN_cases w with ⟨hw, ew⟩ | ⟨w', hw', ew0, ew⟩
      · rw [ew]
        exact zR_t rfl (no (fun ⟨a, b, q1, _⟩ => by rw [ew] at q1; cases q1))
      rw [ew]
      by_cases hwm : w' ≤ m
      · refine zR_f (nb_ne0 (bIn_t ⟨Nat.zero_le _, hwm⟩)) ?_
        have side : ∀ (lo hi : Nat), lo < 2 ^ 31 → hi < 2 ^ 31 → (∀ v', aOk u w' v' ↔ lo ≤ v' ∧ v' ≤ hi) → ∀ o, o = some (nb (bIn lo hi (iN v))) → zR t (dz_b o fun x8 => if x8 = (0 : Int32) then (some ((-1 : Int32), t)) else ((lfX0_alter K ζ K).1 h (nI k) w v (lAd u (A k))[j] t)) (fun r t' => r = (sAlt (N, L) (nI k) u (nI j) w v).1 ∧ zU ζ t' h (sAlt (N, L) (nI k) u (nI j) w v).2.1 (sAlt (N, L) (nI k) u (nI j) w v).2.2 taped tp ∧ zN t t' 0 0) := by
          intro lo hi hlo hhi hiff o ho
          rw [ho, dzb]
          rcases iN_cases v with ⟨hv, ev⟩ | ⟨v', hv', ev0, ev⟩
          · rw [ev]
            exact zR_t rfl (no (fun ⟨a, b, _, q2, _⟩ => by rw [ev] at q2; cases q2))
          · rw [ev]
            by_cases hr2 : lo ≤ v' ∧ v' ≤ hi
            · exact zR_f (nb_ne0 (bIn_t hr2)) (core w' v' hw' hv' ew0 ev0 ((hiff v').mpr hr2))
            · refine zR_t (nb_z (bIn_f hr2)) (no (fun ⟨a, b, q1, q2, q3⟩ => ?_))
              rw [ew] at q1; rw [ev] at q2
              cases q1; cases q2
              exact hr2 ((hiff v').mp q3)
        have hc : w' = 0 ∨ w' = 1 ∨ w' = 2 := by omega
        rcases hc with rfl | rfl | rfl
        · refine zR_t ew0 (side 2 1000000000 (by omega) (by omega) (fun v' => ⟨fun q => q.2.1 rfl, fun q => ⟨by omega, fun _ => q, fun q => by omega, fun q => by omega⟩⟩) _ (isNumber_nn K v))
        · refine zR_f (by rw [ew0]; decide) (zR_t ew0 (side 1 30 (by omega) (by omega) (fun v' => ⟨fun q => q.2.2.1 rfl, fun q => ⟨by omega, fun q => by omega, fun _ => q, fun q => by omega⟩⟩) _ (isIn_nn K 1 30 v (by omega) (by omega))))
        · refine zR_f (by rw [ew0]; decide) (zR_f (by rw [ew0]; decide) (side 2 999 (by omega) (by omega) (fun v' => ⟨fun q => q.2.2.2 rfl, fun q => ⟨by omega, fun q => by omega, fun q => by omega, fun _ => q⟩⟩) _ (isIn_nn K 2 999 v (by omega) (by omega))))
      · refine zR_t (nb_z (bIn_f (fun q => hwm q.2))) (no (fun ⟨a, b, q1, q2, q3⟩ => ?_))
        rw [ew] at q1
        cases q1
        have := q3.1
        omega
    show zR t (if u = (0 : Int32) then _ else _) _
    by_cases hu : u = 0
    · exact zR_t hu (rng 2 (by omega) (if_pos hu))
    · exact zR_f hu (rng 1 (by omega) (if_neg hu))
  · rw [sAlt_r (sRx_n (e := (N, L)) nn)]
    refine zR_cl (Q := fun r t => r = none ∧ t = τ) (zR_eq e ⟨rfl, rfl⟩ zge.rfl) ?_
    intro r t _ P
    obtain ⟨rfl, rfl⟩ := P
    exact zR_r ⟨rfl, U0, z0⟩
