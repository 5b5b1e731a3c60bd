/-! cut -/
theorem hr_cutsL (K : Nat) (ζ : pZ) (d b : Nat) (as : List Nat) (rs : List sR) (j : Nat) (hj : j < as.length) (h9 : as.length ≤ 9) (hdb : d ≠ b) (hnd : d ∉ as) (hnb : b ∉ as) : ∀ m v kk f τ, v + m = as.length → j + 1 ≤ v → zin ζ τ d (rsE b as.length) → zin ζ τ b (raE f) → zRw ζ τ as rs → (∀ i (h : i < as.length), v ≤ i → f i = some as[i]) → (∀ i (h : i < (as.eraseIdx j).length), i + 1 < v → f i = some (as.eraseIdx j)[i]) → m + 1 ≤ kk →
    ∃ t, (lfX8_cuts K ζ kk) d (nI v) τ = some ((), t) ∧ zk (fun q => q = d ∨ q = b) τ t 0 0 ∧ zRs ζ t d b (as.eraseIdx j) := by
  intro m
  induction m with
  | zero =>
    intro v kk f τ hv hjv hd hb hw h1 h2 hk
    obtain ⟨k, rfl⟩ : ∃ i, kk = i + 1 := ⟨kk - 1, by omega⟩
    obtain ⟨M, hM⟩ : ∃ M, as.length = M + 1 := ⟨as.length - 1, by omega⟩
    have el : (as.eraseIdx j).length = M := by rw [List.length_eraseIdx_of_lt hj]; omega
    refine ⟨zst τ d (rsE b M), ?_, zk_st (Or.inl rfl), f, ?_, hb.st_ne (Ne.symm hdb), by omega, hdb, fun i h => h2 i h (by omega)⟩
    · rw [luX8_cuts_1]
      simp only [hd.ob, dzb, dzc, dzl, fl0, fl1, fl2, fl3, fl4, fl5, fl6, fl7, fi0, fi1, fi2, fi3, fi4, fi5, fi6, fi7, fr0, fr1, fr2, fr3, fr4, fr5, fr6, fr7, fs0, fs1, fs2, fs3, fs4, fs5, fs6, fs7]
      rw [if_pos (nI_le (by omega) (by omega))]
      simp only [hd.wo (k := 1) (Nat.le_of_ble_eq_true rfl), dzb, dzc, dzl, fl0, fl1, fl2, fl3, fl4, fl5, fl6, fl7, fi0, fi1, fi2, fi3, fi4, fi5, fi6, fi7, fr0, fr1, fr2, fr3, fr4, fr5, fr6, fr7, fs0, fs1, fs2, fs3, fs4, fs5, fs6, fs7]
      rw [hM, nI_pred]
    · rw [el]; exact zin_st hd.1
  | succ m ih =>
    intro v kk f τ hv hjv hd hb hw h1 h2 hk
    obtain ⟨k, rfl⟩ : ∃ i, kk = i + 1 := ⟨kk - 1, by omega⟩
    obtain ⟨V, rfl⟩ : ∃ V, v = V + 1 := ⟨v - 1, by omega⟩
    have hlt : V + 1 < as.length := by omega
    have row := hw.2 (V + 1) hlt (by rw [← hw.1]; exact hlt)
    have k1 : zk (fun q => q = b) τ (zst τ b (raE (va_up f V (some as[V + 1])))) 0 0 := zk_st rfl
    obtain ⟨t, e, kt, rt⟩ := ih (V + 1 + 1) k (va_up f V (some as[V + 1])) (zst τ b (raE (va_up f V (some as[V + 1])))) (by omega) (by omega) (hd.st_ne hdb) (zin_st hb.1) (hw.k k1 (fun x hx q => hnb (by rw [← q]; exact hx)))
      (fun i h g => by rw [va_up_ne _ _ (by omega)]; exact h1 i h (by omega))
      (fun i h g => by
        by_cases e : i = V
        · subst e
          rw [va_up_self, List.getElem_eraseIdx_of_ge h (by omega)]
        · rw [va_up_ne _ _ e]; exact h2 i h (by omega)) (by omega)
    refine ⟨t, ?_, (k1.wk (fun _ _ q => Or.inr q)).tr kt, rt⟩
    rw [luX8_cuts_1]
    simp only [hd.ob, dzb, dzc, dzl, fl0, fl1, fl2, fl3, fl4, fl5, fl6, fl7, fi0, fi1, fi2, fi3, fi4, fi5, fi6, fi7, fr0, fr1, fr2, fr3, fr4, fr5, fr6, fr7, fs0, fs1, fs2, fs3, fs4, fs5, fs6, fs7]
    rw [if_neg (nI_ge (by omega) (by omega))]
    simp only [hb.aq, dzb, dzc, dzl, fl0, fl1, fl2, fl3, fl4, fl5, fl6, fl7, fi0, fi1, fi2, fi3, fi4, fi5, fi6, fi7, fr0, fr1, fr2, fr3, fr4, fr5, fr6, fr7, fs0, fs1, fs2, fs3, fs4, fs5, fs6, fs7]
    rw [if_pos (nI_in (by omega) (by omega)), nI_clamp (by omega), h1 (V + 1) hlt (Nat.le_refl _), dzb, if_pos hb.1, nI_pred, if_pos (nI_in (by omega) (by omega)), if_pos row.1, row.ob, dzb, nI_clamp (by omega), nI_1]
    exact e
theorem hr_cuts (K : Nat) (ζ : pZ) (τ : pH) (d b : Nat) (as : List Nat) (rs : List sR) (j : Nat) (hj : j < as.length) (hr : zRs ζ τ d b as) (hw : zRw ζ τ as rs) (hnd : d ∉ as) (hnb : b ∉ as) (hK : 100 ≤ K) : ∃ t, fnX8_cuts K ζ d (nI j) τ = some ((), t) ∧ zk (fun q => q = d ∨ q = b) τ t 0 0 ∧ zRs ζ t d b (as.eraseIdx j) := by
  obtain ⟨f, hd, hb, h9, hdb, hf⟩ := hr
  unfold fnX8_cuts
  rw [dzl, nI_1]
  exact hr_cutsL K ζ d b as rs j hj h9 hdb hnd hnb (as.length - (j + 1)) (j + 1) K f τ (by omega) (Nat.le_refl _) hd hb hw (fun i h _ => hf i h) (fun i h g => by rw [List.getElem_eraseIdx_of_lt h (by omega)]; exact hf i (by omega)) (by omega)
theorem zRw.er {ζ : pZ} {τ : pH} {as : List Nat} {rs : List sR} (H : zRw ζ τ as rs) (j : Nat) (hj : j < as.length) : zRw ζ τ (as.eraseIdx j) (rs.eraseIdx j) := by
  have hl := H.1
  refine ⟨by rw [List.length_eraseIdx_of_lt hj, List.length_eraseIdx_of_lt (by omega)]; omega, fun i h1 h2 => ?_⟩
  have g1 := h1
  rw [List.length_eraseIdx_of_lt hj] at g1
  rcases Nat.lt_or_ge i j with g | g
  · rw [List.getElem_eraseIdx_of_lt h1 g, List.getElem_eraseIdx_of_lt h2 g]
    exact H.2 i (by omega) (by omega)
  · rw [List.getElem_eraseIdx_of_ge h1 g, List.getElem_eraseIdx_of_ge h2 g]
    exact H.2 (i + 1) (by omega) (by omega)
/-- owners when a row goes -/
def oCut (own : Nat → Nat × Nat × Nat) (x c j : Nat) : Nat → Nat × Nat × Nat := fun z => if (own z).1 = c ∧ (own z).2.1 = x ∧ j < (own z).2.2 then (c, x, (own z).2.2 - 1) else own z
theorem oCut_n {own : Nat → Nat × Nat × Nat} {x c j z : Nat} (h : (own z).1 ≠ c ∨ (own z).2.1 ≠ x) : oCut own x c j z = own z := by
  unfold oCut
  exact if_neg (fun q => h.elim (fun g => g q.1) (fun g => g q.2.1))
theorem oCut_rows {own : Nat → Nat × Nat × Nat} {x c j : Nat} {as : List Nat} (ho : ∀ i (h : i < as.length), own as[i] = (c, x, i)) (hj : j < as.length) : ∀ i (h : i < (as.eraseIdx j).length), oCut own x c j (as.eraseIdx j)[i] = (c, x, i) := by
  intro i h
  have g1 := h
  rw [List.length_eraseIdx_of_lt hj] at g1
  unfold oCut
  rcases Nat.lt_or_ge i j with g | g
  · rw [List.getElem_eraseIdx_of_lt h g, ho i (by omega)]
    exact if_neg (fun q => by have := q.2.2; simp only at this; omega)
  · rw [List.getElem_eraseIdx_of_ge h g, ho (i + 1) (by omega)]
    rw [if_pos ⟨rfl, rfl, by show j < i + 1; omega⟩]
    rfl
def lCa (u : Int32) (a : lA) (j : Nat) : lA := if u = 0 then (a.1, a.2.1, a.2.2.1, a.2.2.2.1, a.2.2.2.2.1, a.2.2.2.2.2.1.eraseIdx j, a.2.2.2.2.2.2) else (a.1, a.2.1, a.2.2.1, a.2.2.2.1, a.2.2.2.2.1, a.2.2.2.2.2.1, a.2.2.2.2.2.2.eraseIdx j)
theorem oOk_cut {own : Nat → Nat × Nat × Nat} {a : lA} (ho : oOk own a) (u : Int32) (j : Nat) (hj : j < (lAd u a).length) : oOk (oCut own a.1 (if u = 0 then 15 else 16) j) (lCa u a j) := by
  obtain ⟨⟨o1, o2, o3, o4, o5⟩, o6, o7⟩ := ho
  have n : ∀ {z i m : Nat}, own z = (i, a.1, m) → i < 15 → oCut own a.1 (if u = 0 then 15 else 16) j z = (i, a.1, m) := fun e hi => by
    rw [oCut_n (Or.inl (by rw [e]; show _ ≠ _; split <;> omega)), e]
  by_cases hu : u = 0
  · have e1 : lAd u a = a.2.2.2.2.2.1 := if_pos hu
    have ec : lCa u a j = (a.1, a.2.1, a.2.2.1, a.2.2.2.1, a.2.2.2.2.1, a.2.2.2.2.2.1.eraseIdx j, a.2.2.2.2.2.2) := if_pos hu
    rw [ec]
    have hj1 : j < a.2.2.2.2.2.1.length := by rw [← e1]; exact hj
    refine ⟨⟨n o1 (by decide), n o2 (by decide), n o3 (by decide), n o4 (by decide), n o5 (by decide)⟩, ?_, fun i hi => ?_⟩
    · rw [if_pos hu]; exact oCut_rows o6 hj1
    · have hi : i < a.2.2.2.2.2.2.length := hi
      show oCut own a.1 (if u = 0 then 15 else 16) j a.2.2.2.2.2.2[i] = _
      rw [if_pos hu, oCut_n (Or.inl (by rw [o7 i hi]; show (16 : Nat) ≠ 15; decide)), o7 i hi]
  · have e1 : lAd u a = a.2.2.2.2.2.2 := if_neg hu
    have ec : lCa u a j = (a.1, a.2.1, a.2.2.1, a.2.2.2.1, a.2.2.2.2.1, a.2.2.2.2.2.1, a.2.2.2.2.2.2.eraseIdx j) := if_neg hu
    rw [ec]
    have hj1 : j < a.2.2.2.2.2.2.length := by rw [← e1]; exact hj
    refine ⟨⟨n o1 (by decide), n o2 (by decide), n o3 (by decide), n o4 (by decide), n o5 (by decide)⟩, fun i hi => ?_, ?_⟩
    · have hi : i < a.2.2.2.2.2.1.length := hi
      show oCut own a.1 (if u = 0 then 15 else 16) j a.2.2.2.2.2.1[i] = _
      rw [if_neg hu, oCut_n (Or.inl (by rw [o6 i hi]; show (15 : Nat) ≠ 16; decide)), o6 i hi]
    · rw [if_neg hu]; exact oCut_rows o7 hj1
/-- owners may change within one line -/
theorem zLq.ow {ζ : pZ} {τ : pH} {own own' : Nat → Nat × Nat × Nat} {h al ea af laid ta taped ra da b : Nat} {mc : Int32} {N : Nat} {A : Nat → lA} {L : Nat → sLn} (k : Nat) (H : zLq ζ τ own h al ea af laid ta taped ra da mc N A L b) (h1 : ∀ z, (own z).1 < 10 → own' z = own z) (h2 : ∀ z, (own z).2.1 ≠ (A k).1 → own' z = own z) (hk : oOk own' (A k)) (D : zDj N A) (hkN : k < N) : zLq ζ τ own' h al ea af laid ta taped ra da mc N A L b := by
  obtain ⟨a1, a2, a3, a4, a5, a6, a7⟩ := H
  have r : ∀ {x i : Nat}, own x = (i, 0, 0) → i < 10 → own' x = (i, 0, 0) := fun e hi => by rw [h1 _ (by rw [e]; exact hi), e]
  refine ⟨a1, a2, a3, a4, fun j hj => ⟨(a5 j hj).1, ?_⟩, ⟨r a6.1 (by decide), r a6.2.1 (by decide), a6.2.2.1.elim (fun e => Or.inl (r e (by decide))) Or.inr, r a6.2.2.2.1 (by decide), r a6.2.2.2.2.1 (by decide), r a6.2.2.2.2.2.1 (by decide), r a6.2.2.2.2.2.2 (by decide)⟩, a7⟩
  by_cases e : j = k
  · rw [e]; exact hk
  · have ne : (A j).1 ≠ (A k).1 := fun q => e (D j k hj hkN q)
    have o := (a5 j hj).2
    have g : ∀ {x i m : Nat}, own x = (i, (A j).1, m) → own' x = (i, (A j).1, m) := fun q => by rw [h2 _ (by rw [q]; exact ne), q]
    exact ⟨⟨g o.1.1, g o.1.2.1, g o.1.2.2.1, g o.1.2.2.2.1, g o.1.2.2.2.2⟩, fun i hi => g (o.2.1 i hi), fun i hi => g (o.2.2 i hi)⟩
theorem zLd.chgO {ζ : pZ} {τ t : pH} {own own' : Nat → Nat × Nat × Nat} {h al ea af laid ta taped ra da c s : Nat} {mc : Int32} {N : Nat} {A : Nat → lA} {L : Nat → sLn} {S : Nat → Prop} {tp : Nat → Int32} (k : Nat) (hk : k < N) (a : lA) (l : sLn) (H : zLd ζ τ own h al ea af laid ta taped ra da mc N A L) (T : zTb ζ τ ta ra da tp) (D : zDj N A) (kk : zk S τ t c s) (hS : ∀ z, S z → 10 ≤ (own z).1 ∧ (own z).2.1 = (A k).1 ∧ ζ.1 ≤ z) (hl : zLine ζ t h a l) (ho : oOk own' a) (ea1 : a.1 = (A k).1) (h1 : ∀ z, (own z).1 < 10 → own' z = own z) (h2 : ∀ z, (own z).2.1 ≠ (A k).1 → own' z = own z) :
    zLq ζ t own' h al ea af laid ta taped ra da mc N (upA A k a) (upA L k l) (min laid k) ∧ zTb ζ t ta ra da tp ∧ zDj N (upA A k a) := by
  obtain ⟨a1, a2, ⟨f, a3, a3'⟩, a4, a5, a6, a7⟩ := H
  have ne : ∀ {x i : Nat}, own x = (i, 0, 0) → i < 10 → ¬ S x := fun e hi q => by
    have := (hS _ q).1
    rw [e] at this
    omega
  have r : ∀ {x i : Nat}, own x = (i, 0, 0) → i < 10 → own' x = (i, 0, 0) := fun e hi => by rw [h1 _ (by rw [e]; exact hi), e]
  refine ⟨⟨kk.in a1 (ne a6.1 (by decide)), ?_, ⟨f, kk.in a3 (ne a6.2.2.2.1 (by decide)), fun j hj => ?_⟩, by omega, fun j hj => ?_, ⟨r a6.1 (by decide), r a6.2.1 (by decide), a6.2.2.1.elim (fun e => Or.inl (r e (by decide))) Or.inr, r a6.2.2.2.1 (by decide), r a6.2.2.2.2.1 (by decide), r a6.2.2.2.2.2.1 (by decide), r a6.2.2.2.2.2.2 (by decide)⟩, a7⟩, T.k kk (ne a6.2.2.2.2.1 (by decide)) (ne a6.2.2.2.2.2.1 (by decide)) (ne a6.2.2.2.2.2.2 (by decide)), zDj_e D ea1⟩
  · rw [xsA_same N A k a ea1]
    refine a2.k kk (ne a6.2.1 (by decide)) ?_
    rcases a6.2.2.1 with e | e
    · exact ne e (by decide)
    · intro q
      have := (hS _ q).2.2
      omega
  · rw [a3' j (by omega), sFt_co (L := L) (L' := upA L k l) (j + 1) j (by omega) (fun i hi => upA_ne (by omega))]
  · by_cases e : j = k
    · subst e
      rw [upA_at, upA_at]
      exact ⟨hl, ho⟩
    · rw [upA_ne e, upA_ne e]
      have ne2 : (A j).1 ≠ (A k).1 := fun q => e (D j k hj hk q)
      have o := (a5 j hj).2
      have g : ∀ {x i m : Nat}, own x = (i, (A j).1, m) → own' x = (i, (A j).1, m) := fun q => by rw [h2 _ (by rw [q]; exact ne2), q]
      refine ⟨(a5 j hj).1.o o kk (fun x q => ?_), ⟨g o.1.1, g o.1.2.1, g o.1.2.2.1, g o.1.2.2.2.1, g o.1.2.2.2.2⟩, fun i hi => g (o.2.1 i hi), fun i hi => g (o.2.2 i hi)⟩
      rw [(hS x q).2.1]
      exact fun q2 => ne2 q2.symm
