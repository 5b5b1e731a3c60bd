/-! rows on the heap, the factors of a number -/
abbrev sR : Type := Nat × Nat × Nat
abbrev rwE (q e b : Nat) : pE := .inr (11, [.long (lN q), .int (nI e), .int (nI b)])
abbrev rsE (b k : Nat) : pE := .inr (10, [.ref b, .int (nI k)])
abbrev raE (f : Nat → Option Nat) : pE := .inl (5, 9, .inr (.inr (.inr (.inr f))))
/-- rows lie at these addresses -/
def zRw (ζ : pZ) (τ : pH) (as : List Nat) (rs : List sR) : Prop := as.length = rs.length ∧ ∀ i (h : i < as.length) (h' : i < rs.length), zin ζ τ as[i] (rwE rs[i].1 rs[i].2.1 rs[i].2.2)
/-- an object that holds so many -/
def zRs (ζ : pZ) (τ : pH) (a b : Nat) (as : List Nat) : Prop := ∃ f, zin ζ τ a (rsE b as.length) ∧ zin ζ τ b (raE f) ∧ as.length ≤ 9 ∧ a ≠ b ∧ ∀ i (h : i < as.length), f i = some as[i]
theorem zRs.k {ζ : pZ} {τ τ' : pH} {a b c s : Nat} {as : List Nat} {S : Nat → Prop} (h : zRs ζ τ a b as) (k : zk S τ τ' c s) (ha : ¬ S a) (hb : ¬ S b) : zRs ζ τ' a b as := by
  obtain ⟨f, h1, h2, h3, h4, h5⟩ := h
  exact ⟨f, k.in h1 ha, k.in h2 hb, h3, h4, h5⟩
theorem zRw.k {ζ : pZ} {τ τ' : pH} {c s : Nat} {as : List Nat} {rs : List sR} {S : Nat → Prop} (h : zRw ζ τ as rs) (k : zk S τ τ' c s) (hs : ∀ x ∈ as, ¬ S x) : zRw ζ τ' as rs :=
  ⟨h.1, fun i h1 h2 => k.in (h.2 i h1 h2) (hs _ (List.getElem_mem h1))⟩
theorem zRw.nil {ζ : pZ} {τ : pH} : zRw ζ τ [] [] := ⟨rfl, fun i h => absurd h (Nat.not_lt_zero _)⟩
theorem zRw.snoc {ζ : pZ} {τ : pH} {as : List Nat} {rs : List sR} {r : Nat} {x : sR} (h : zRw ζ τ as rs) (hr : zin ζ τ r (rwE x.1 x.2.1 x.2.2)) : zRw ζ τ (as ++ [r]) (rs ++ [x]) := by
  refine ⟨by rw [List.length_append, List.length_append, h.1]; rfl, fun i h1 h2 => ?_⟩
  rw [List.length_append] at h1 h2
  rcases Nat.lt_or_ge i as.length with h3 | h3
  · rw [List.getElem_append_left h3, List.getElem_append_left (by rw [← h.1]; exact h3)]
    exact h.2 i h3 _
  · have h4 : i = as.length := by have : ([r] : List Nat).length = 1 := rfl; omega
    subst h4
    rw [List.getElem_append_right (Nat.le_refl _), List.getElem_append_right (by rw [h.1]; exact Nat.le_refl _)]
    simp only [Nat.sub_self, List.getElem_singleton]
    exact hr
/-- a row comes to an object -/
theorem hr_adds (K : Nat) (ζ : pZ) (τ : pH) (a b r : Nat) (as : List Nat) (x : sR) (h : zRs ζ τ a b as) (hl : as.length < 9) (hr : zin ζ τ r (rwE x.1 x.2.1 x.2.2)) (h1 : r ≠ a) (h2 : r ≠ b) : ∃ τ', fnX8_adds K ζ a r τ = some (a, τ') ∧ zk (fun q => q = a ∨ q = b) τ τ' 0 0 ∧ zRs ζ τ' a b (as ++ [r]) ∧ τ'.1 = τ.1 := by
  obtain ⟨f, ha, hb, -, hab, hf⟩ := h
  have hb2 : zin ζ (zst τ b (raE (va_up f as.length (some r)))) a (rsE b as.length) := ha.st_ne hab
  refine ⟨zst (zst τ b (raE (va_up f as.length (some r)))) a (rsE b (as.length + 1)), ?_, ?_, ?_, rfl⟩
  · unfold fnX8_adds
    simp only [ha.ob, dzb, dzc, dzl, fl0, fl1, fl2, fl3, fl4, fl5, fl6, fl7, fi0, fi1, fi2, fi3, fi4, fi5, fi6, fi7, fr0, fr1, fr2, fr3, fr4, fr5, fr6, fr7, fs0, fs1, fs2, fs3, fs4, fs5, fs6, fs7, hb.aq, hr.ob]
    rw [if_pos hb.1, if_pos (nI_in hl (by omega)), if_pos hr.1, nI_clamp (by omega)]
    simp only [hb2.ob, hb2.wo (k := 1) (Nat.le_of_ble_eq_true rfl), dzb, dzc, dzl, fl0, fl1, fl2, fl3, fl4, fl5, fl6, fl7, fi0, fi1, fi2, fi3, fi4, fi5, fi6, fi7, fr0, fr1, fr2, fr3, fr4, fr5, fr6, fr7, fs0, fs1, fs2, fs3, fs4, fs5, fs6, fs7, nI_1]
  · have k1 : zk (fun q => q = a ∨ q = b) τ (zst τ b (raE (va_up f as.length (some r)))) 0 0 := zk_st (Or.inr rfl)
    exact k1.tr (zk_st (Or.inl rfl))
  · refine ⟨va_up f as.length (some r), ?_, ?_, by rw [List.length_append]; exact hl, hab, ?_⟩
    · rw [List.length_append]; exact zin_st hb2.1
    · exact (zin_st (ζ := ζ) (τ := τ) hb.1).st_ne (Ne.symm hab)
    · intro i hi
      rw [List.length_append] at hi
      rcases Nat.lt_or_ge i as.length with h3 | h3
      · rw [va_up_ne _ _ (Nat.ne_of_lt h3), List.getElem_append_left h3]; exact hf i h3
      · have h4 : i = as.length := by have : ([r] : List Nat).length = 1 := rfl; omega
        subst h4
        rw [va_up_self, List.getElem_append_right (Nat.le_refl _)]
        simp only [Nat.sub_self, List.getElem_singleton]
theorem hr_row (K : Nat) (ζ : pZ) (s : pH) (q e b : Nat) (hζ : ζ.1 ≤ s.1) : fnX13_init K ζ s.1 (lN q) (nI e) (nI b) (znw s 3 (.inr (11, [.long 0, .int 0, .int 0]))) = some ((), znw s 3 (rwE q e b)) := by
  unfold fnX13_init
  simp only [(zin_nw (ζ := ζ) (τ := s) (n := 3) (e := .inr (11, [.long 0, .int 0, .int 0])) hζ).wo (k := 0) (Nat.le_of_ble_eq_true rfl), dzb, dzc, dzl, fl0, fl1, fl2, fl3, fl4, fl5, fl6, fl7, fi0, fi1, fi2, fi3, fi4, fi5, fi6, fi7, fr0, fr1, fr2, fr3, fr4, fr5, fr6, fr7, fs0, fs1, fs2, fs3, fs4, fs5, fs6, fs7, znw_st, (zin_nw (ζ := ζ) (τ := s) (n := 3) (e := .inr (11, [.long (lN q), .int 0, .int 0])) hζ).wo (k := 1) (Nat.le_of_ble_eq_true rfl), (zin_nw (ζ := ζ) (τ := s) (n := 3) (e := .inr (11, [.long (lN q), .int (nI e), .int 0])) hζ).wo (k := 2) (Nat.le_of_ble_eq_true rfl)]
/-- an empty object for rows -/
theorem hr_init (K : Nat) (ζ : pZ) (s : pH) (a : Nat) (ha : zin ζ s a (.inr (10, [.null, .int 0]))) (hζ : ζ.1 ≤ s.1) : fnX8_init K ζ a s = some ((), zst (znw s 9 (raE (fun _ => none))) a (rsE s.1 0)) ∧ zRs ζ (zst (znw s 9 (raE (fun _ => none))) a (rsE s.1 0)) a s.1 [] := by
  have h2 : zin ζ (znw s 9 (raE (fun _ => none))) a (.inr (10, [.null, .int 0])) := ha.nw
  have hne : a ≠ s.1 := Nat.ne_of_lt ha.1.2
  refine ⟨?_, fun _ => none, zin_st h2.1, (zin_nw hζ).st_ne (Ne.symm hne), by decide, hne, fun i h => absurd h (Nat.not_lt_zero _)⟩
  unfold fnX8_init
  simp only [dzb, dzc, dzl, fl0, fl1, fl2, fl3, fl4, fl5, fl6, fl7, fi0, fi1, fi2, fi3, fi4, fi5, fi6, fi7, fr0, fr1, fr2, fr3, fr4, fr5, fr6, fr7, fs0, fs1, fs2, fs3, fs4, fs5, fs6, fs7]
  refine zck_i ?_ (Nat.le_refl _) (Nat.le_refl _)
  simp only [h2.wo (k := 0) (Nat.le_of_ble_eq_true rfl), dzb, dzc, dzl, fl0, fl1, fl2, fl3, fl4, fl5, fl6, fl7, fi0, fi1, fi2, fi3, fi4, fi5, fi6, fi7, fr0, fr1, fr2, fr3, fr4, fr5, fr6, fr7, fs0, fs1, fs2, fs3, fs4, fs5, fs6, fs7]
  rfl
