/-! a line is made, empty -/
theorem hm_init_5 (K : Nat) (ζ : pZ) (τ0 τ : pH) (x h n s : Nat) (z7 : Value) (hζ : ζ.1 ≤ τ.1) (h0 : τ0.1 ≤ x) (hs : τ0.1 ≤ τ.1) (hx : zin ζ τ x (.inr (5, [.long 0, .int 0, .int 0, .int 0, .null, .null, .null, z7]))) : zR τ (fnX6_init_5 K ζ x h (lN n) (nI s) τ) (fun _ t => zin ζ t x (.inr (5, [.long (lN n), .int (nI s), .int 0, .int 0, .ref τ.1, .ref (τ.1 + 2), .ref h, z7])) ∧ zRs ζ t τ.1 (τ.1 + 1) [] ∧ zRs ζ t (τ.1 + 2) (τ.1 + 3) [] ∧ zk (fun q => q = x) τ t 4 22) := by
  unfold fnX6_init_5
  have hxl := hx.1.2
  refine zR_b (hx.wo (k := 6) (Nat.le_of_ble_eq_true rfl)) (zR_le (v' := zst τ x (.inr (5, [.long 0, .int 0, .int 0, .int 0, .null, .null, .ref h, z7]))) rfl ?_)
  have ka : zk (fun q => q = x) τ (zst τ x (.inr (5, [.long 0, .int 0, .int 0, .int 0, .null, .null, .ref h, z7]))) 0 0 := zk_st rfl
  have hxa : zin ζ (zst τ x (.inr (5, [.long 0, .int 0, .int 0, .int 0, .null, .null, .ref h, z7]))) x (.inr (5, [.long 0, .int 0, .int 0, .int 0, .null, .null, .ref h, z7])) := zin_st hx.1
  have e1 : (zst τ x (.inr (5, [.long 0, .int 0, .int 0, .int 0, .null, .null, .ref h, z7]))).1 = τ.1 := rfl
  have za : zge τ (zst τ x (.inr (5, [.long 0, .int 0, .int 0, .int 0, .null, .null, .ref h, z7]))) := ⟨Nat.le_refl _, Nat.le_refl _⟩
  generalize zst τ x (.inr (5, [.long 0, .int 0, .int 0, .int 0, .null, .null, .ref h, z7])) = s2 at *
  refine zR_mono za (zR_l (zR_l ?_))
  have kb : zk zno s2 (znw s2 2 (.inr (10, [.null, .int 0]))) 1 2 := zk_nw
  have hr3 := zin_nw (ζ := ζ) (τ := s2) (n := 2) (e := .inr (10, [.null, .int 0])) (by omega)
  obtain ⟨i1, i2⟩ := hr_init K ζ (znw s2 2 (.inr (10, [.null, .int 0]))) s2.1 hr3 (by show ζ.1 ≤ s2.1 + 1; omega)
  have kc : zk (fun q => q = s2.1) (znw s2 2 (.inr (10, [.null, .int 0]))) (zst (znw (znw s2 2 (.inr (10, [.null, .int 0]))) 9 (raE (fun _ => none))) s2.1 (rsE (s2.1 + 1) 0)) (1 + 0) (9 + 0) := zk_nw.tr (zk_st rfl)
  have kbc : zk zno s2 (zst (znw (znw s2 2 (.inr (10, [.null, .int 0]))) 9 (raE (fun _ => none))) s2.1 (rsE (s2.1 + 1) 0)) (1 + (1 + 0)) (2 + (9 + 0)) := kb.new (kc.wk (fun q _ e => (Or.inr (by rw [e]; exact Nat.le_refl _) : zno q ∨ s2.1 ≤ q)))
  refine zR_ck' kb.1 (zR_cl (Q := fun _ t => t = zst (znw (znw s2 2 (.inr (10, [.null, .int 0]))) 9 (raE (fun _ => none))) s2.1 (rsE (s2.1 + 1) 0)) (zR_eq i1 rfl kc.1) (fun _ t _ P => ?_))
  have hR : zRs ζ t s2.1 (s2.1 + 1) [] := by rw [P]; exact i2
  have hsz : t.1 = s2.1 + 2 := by rw [P]; rfl
  have kt : zk zno s2 t 2 11 := by rw [P]; exact kbc
  clear P i1 i2 kc kbc hr3
  have hxt := kt.i hxa
  refine zR_b (hxt.wo (k := 4) (Nat.le_of_ble_eq_true rfl)) (zR_le (v' := zst t x (.inr (5, [.long 0, .int 0, .int 0, .int 0, .ref s2.1, .null, .ref h, z7]))) rfl ?_)
  have kd : zk (fun q => q = x) t (zst t x (.inr (5, [.long 0, .int 0, .int 0, .int 0, .ref s2.1, .null, .ref h, z7]))) 0 0 := zk_st rfl
  have hxd : zin ζ (zst t x (.inr (5, [.long 0, .int 0, .int 0, .int 0, .ref s2.1, .null, .ref h, z7]))) x (.inr (5, [.long 0, .int 0, .int 0, .int 0, .ref s2.1, .null, .ref h, z7])) := zin_st hxt.1
  have hRd := hR.k kd (by omega) (by omega)
  have e2 : (zst t x (.inr (5, [.long 0, .int 0, .int 0, .int 0, .ref s2.1, .null, .ref h, z7]))).1 = t.1 := rfl
  have zd : zge t (zst t x (.inr (5, [.long 0, .int 0, .int 0, .int 0, .ref s2.1, .null, .ref h, z7]))) := ⟨Nat.le_refl _, Nat.le_refl _⟩
  generalize zst t x (.inr (5, [.long 0, .int 0, .int 0, .int 0, .ref s2.1, .null, .ref h, z7])) = s8 at *
  refine zR_mono zd (zR_l (zR_l ?_))
  have kb : zk zno s8 (znw s8 2 (.inr (10, [.null, .int 0]))) 1 2 := zk_nw
  have hr9 := zin_nw (ζ := ζ) (τ := s8) (n := 2) (e := .inr (10, [.null, .int 0])) (by omega)
  obtain ⟨i1, i2⟩ := hr_init K ζ (znw s8 2 (.inr (10, [.null, .int 0]))) s8.1 hr9 (by show ζ.1 ≤ s8.1 + 1; omega)
  have kc : zk (fun q => q = s8.1) (znw s8 2 (.inr (10, [.null, .int 0]))) (zst (znw (znw s8 2 (.inr (10, [.null, .int 0]))) 9 (raE (fun _ => none))) s8.1 (rsE (s8.1 + 1) 0)) (1 + 0) (9 + 0) := zk_nw.tr (zk_st rfl)
  have kbc : zk zno s8 (zst (znw (znw s8 2 (.inr (10, [.null, .int 0]))) 9 (raE (fun _ => none))) s8.1 (rsE (s8.1 + 1) 0)) (1 + (1 + 0)) (2 + (9 + 0)) := kb.new (kc.wk (fun q _ e => (Or.inr (by rw [e]; exact Nat.le_refl _) : zno q ∨ s8.1 ≤ q)))
  refine zR_ck' kb.1 (zR_cl (Q := fun _ t => t = zst (znw (znw s8 2 (.inr (10, [.null, .int 0]))) 9 (raE (fun _ => none))) s8.1 (rsE (s8.1 + 1) 0)) (zR_eq i1 rfl kc.1) (fun _ t' _ P => ?_))
  have hR2 : zRs ζ t' s8.1 (s8.1 + 1) [] := by rw [P]; exact i2
  have kt' : zk zno s8 t' 2 11 := by rw [P]; exact kbc
  clear P i1 i2 kc kbc hr9
  have hxt' := kt'.i hxd
  have hRt := kt'.R hRd
  refine zR_b (hxt'.wo (k := 5) (Nat.le_of_ble_eq_true rfl)) (zR_le (v' := zst t' x (.inr (5, [.long 0, .int 0, .int 0, .int 0, .ref s2.1, .ref s8.1, .ref h, z7]))) rfl ?_)
  refine zR_b ((zin_st hxt'.1).wo (k := 0) (Nat.le_of_ble_eq_true rfl)) (zR_le (v' := zst t' x (.inr (5, [.long (lN n), .int 0, .int 0, .int 0, .ref s2.1, .ref s8.1, .ref h, z7]))) zst2 ?_)
  refine zR_b ((zin_st hxt'.1).wo (k := 1) (Nat.le_of_ble_eq_true rfl)) (zR_le (v' := zst t' x (.inr (5, [.long (lN n), .int (nI s), .int 0, .int 0, .ref s2.1, .ref s8.1, .ref h, z7]))) zst2 ?_)
  have ke : zk (fun q => q = x) t' (zst t' x (.inr (5, [.long (lN n), .int (nI s), .int 0, .int 0, .ref s2.1, .ref s8.1, .ref h, z7]))) 0 0 := zk_st rfl
  refine zR_ret ⟨?_, ?_, ?_, ?_⟩ ⟨Nat.le_refl _, Nat.le_refl _⟩
  · rw [← e1, show s2.1 + 2 = s8.1 by omega]; exact zin_st hxt'.1
  · rw [← e1]; exact hRt.k ke (by omega) (by omega)
  · rw [← e1, show s2.1 + 2 = s8.1 by omega, show s2.1 + 3 = s8.1 + 1 by omega]; exact hR2.k ke (by omega) (by omega)
  · exact ((((ka.tr (kt.wk (fun _ _ e => e.elim))).tr kd).tr (kt'.wk (fun _ _ e => e.elim))).tr ke).le (by omega) (by omega)
theorem hm_init_6 (K : Nat) (ζ : pZ) (τ0 τ : pH) (x h n s : Nat) (z7 : Value) (hζ : ζ.1 ≤ τ.1) (h0 : τ0.1 ≤ x) (hs : τ0.1 ≤ τ.1) (hx : zin ζ τ x (.inr (6, [.long 0, .int 0, .int 0, .int 0, .null, .null, .null, z7]))) : zR τ (fnX6_init_6 K ζ x h (lN n) (nI s) τ) (fun _ t => zin ζ t x (.inr (6, [.long (lN n), .int (nI s), .int 0, .int 0, .ref τ.1, .ref (τ.1 + 2), .ref h, z7])) ∧ zRs ζ t τ.1 (τ.1 + 1) [] ∧ zRs ζ t (τ.1 + 2) (τ.1 + 3) [] ∧ zk (fun q => q = x) τ t 4 22) := by
  unfold fnX6_init_6
  have hxl := hx.1.2
  refine zR_b (hx.wo (k := 6) (Nat.le_of_ble_eq_true rfl)) (zR_le (v' := zst τ x (.inr (6, [.long 0, .int 0, .int 0, .int 0, .null, .null, .ref h, z7]))) rfl ?_)
  have ka : zk (fun q => q = x) τ (zst τ x (.inr (6, [.long 0, .int 0, .int 0, .int 0, .null, .null, .ref h, z7]))) 0 0 := zk_st rfl
  have hxa : zin ζ (zst τ x (.inr (6, [.long 0, .int 0, .int 0, .int 0, .null, .null, .ref h, z7]))) x (.inr (6, [.long 0, .int 0, .int 0, .int 0, .null, .null, .ref h, z7])) := zin_st hx.1
  have e1 : (zst τ x (.inr (6, [.long 0, .int 0, .int 0, .int 0, .null, .null, .ref h, z7]))).1 = τ.1 := rfl
  have za : zge τ (zst τ x (.inr (6, [.long 0, .int 0, .int 0, .int 0, .null, .null, .ref h, z7]))) := ⟨Nat.le_refl _, Nat.le_refl _⟩
  generalize zst τ x (.inr (6, [.long 0, .int 0, .int 0, .int 0, .null, .null, .ref h, z7])) = s2 at *
  refine zR_mono za (zR_l (zR_l ?_))
  have kb : zk zno s2 (znw s2 2 (.inr (10, [.null, .int 0]))) 1 2 := zk_nw
  have hr3 := zin_nw (ζ := ζ) (τ := s2) (n := 2) (e := .inr (10, [.null, .int 0])) (by omega)
  obtain ⟨i1, i2⟩ := hr_init K ζ (znw s2 2 (.inr (10, [.null, .int 0]))) s2.1 hr3 (by show ζ.1 ≤ s2.1 + 1; omega)
  have kc : zk (fun q => q = s2.1) (znw s2 2 (.inr (10, [.null, .int 0]))) (zst (znw (znw s2 2 (.inr (10, [.null, .int 0]))) 9 (raE (fun _ => none))) s2.1 (rsE (s2.1 + 1) 0)) (1 + 0) (9 + 0) := zk_nw.tr (zk_st rfl)
  have kbc : zk zno s2 (zst (znw (znw s2 2 (.inr (10, [.null, .int 0]))) 9 (raE (fun _ => none))) s2.1 (rsE (s2.1 + 1) 0)) (1 + (1 + 0)) (2 + (9 + 0)) := kb.new (kc.wk (fun q _ e => (Or.inr (by rw [e]; exact Nat.le_refl _) : zno q ∨ s2.1 ≤ q)))
  refine zR_ck' kb.1 (zR_cl (Q := fun _ t => t = zst (znw (znw s2 2 (.inr (10, [.null, .int 0]))) 9 (raE (fun _ => none))) s2.1 (rsE (s2.1 + 1) 0)) (zR_eq i1 rfl kc.1) (fun _ t _ P => ?_))
  have hR : zRs ζ t s2.1 (s2.1 + 1) [] := by rw [P]; exact i2
  have hsz : t.1 = s2.1 + 2 := by rw [P]; rfl
  have kt : zk zno s2 t 2 11 := by rw [P]; exact kbc
  clear P i1 i2 kc kbc hr3
  have hxt := kt.i hxa
  refine zR_b (hxt.wo (k := 4) (Nat.le_of_ble_eq_true rfl)) (zR_le (v' := zst t x (.inr (6, [.long 0, .int 0, .int 0, .int 0, .ref s2.1, .null, .ref h, z7]))) rfl ?_)
  have kd : zk (fun q => q = x) t (zst t x (.inr (6, [.long 0, .int 0, .int 0, .int 0, .ref s2.1, .null, .ref h, z7]))) 0 0 := zk_st rfl
  have hxd : zin ζ (zst t x (.inr (6, [.long 0, .int 0, .int 0, .int 0, .ref s2.1, .null, .ref h, z7]))) x (.inr (6, [.long 0, .int 0, .int 0, .int 0, .ref s2.1, .null, .ref h, z7])) := zin_st hxt.1
  have hRd := hR.k kd (by omega) (by omega)
  have e2 : (zst t x (.inr (6, [.long 0, .int 0, .int 0, .int 0, .ref s2.1, .null, .ref h, z7]))).1 = t.1 := rfl
  have zd : zge t (zst t x (.inr (6, [.long 0, .int 0, .int 0, .int 0, .ref s2.1, .null, .ref h, z7]))) := ⟨Nat.le_refl _, Nat.le_refl _⟩
  generalize zst t x (.inr (6, [.long 0, .int 0, .int 0, .int 0, .ref s2.1, .null, .ref h, z7])) = s8 at *
  refine zR_mono zd (zR_l (zR_l ?_))
  have kb : zk zno s8 (znw s8 2 (.inr (10, [.null, .int 0]))) 1 2 := zk_nw
  have hr9 := zin_nw (ζ := ζ) (τ := s8) (n := 2) (e := .inr (10, [.null, .int 0])) (by omega)
  obtain ⟨i1, i2⟩ := hr_init K ζ (znw s8 2 (.inr (10, [.null, .int 0]))) s8.1 hr9 (by show ζ.1 ≤ s8.1 + 1; omega)
  have kc : zk (fun q => q = s8.1) (znw s8 2 (.inr (10, [.null, .int 0]))) (zst (znw (znw s8 2 (.inr (10, [.null, .int 0]))) 9 (raE (fun _ => none))) s8.1 (rsE (s8.1 + 1) 0)) (1 + 0) (9 + 0) := zk_nw.tr (zk_st rfl)
  have kbc : zk zno s8 (zst (znw (znw s8 2 (.inr (10, [.null, .int 0]))) 9 (raE (fun _ => none))) s8.1 (rsE (s8.1 + 1) 0)) (1 + (1 + 0)) (2 + (9 + 0)) := kb.new (kc.wk (fun q _ e => (Or.inr (by rw [e]; exact Nat.le_refl _) : zno q ∨ s8.1 ≤ q)))
  refine zR_ck' kb.1 (zR_cl (Q := fun _ t => t = zst (znw (znw s8 2 (.inr (10, [.null, .int 0]))) 9 (raE (fun _ => none))) s8.1 (rsE (s8.1 + 1) 0)) (zR_eq i1 rfl kc.1) (fun _ t' _ P => ?_))
  have hR2 : zRs ζ t' s8.1 (s8.1 + 1) [] := by rw [P]; exact i2
  have kt' : zk zno s8 t' 2 11 := by rw [P]; exact kbc
  clear P i1 i2 kc kbc hr9
  have hxt' := kt'.i hxd
  have hRt := kt'.R hRd
  refine zR_b (hxt'.wo (k := 5) (Nat.le_of_ble_eq_true rfl)) (zR_le (v' := zst t' x (.inr (6, [.long 0, .int 0, .int 0, .int 0, .ref s2.1, .ref s8.1, .ref h, z7]))) rfl ?_)
  refine zR_b ((zin_st hxt'.1).wo (k := 0) (Nat.le_of_ble_eq_true rfl)) (zR_le (v' := zst t' x (.inr (6, [.long (lN n), .int 0, .int 0, .int 0, .ref s2.1, .ref s8.1, .ref h, z7]))) zst2 ?_)
  refine zR_b ((zin_st hxt'.1).wo (k := 1) (Nat.le_of_ble_eq_true rfl)) (zR_le (v' := zst t' x (.inr (6, [.long (lN n), .int (nI s), .int 0, .int 0, .ref s2.1, .ref s8.1, .ref h, z7]))) zst2 ?_)
  have ke : zk (fun q => q = x) t' (zst t' x (.inr (6, [.long (lN n), .int (nI s), .int 0, .int 0, .ref s2.1, .ref s8.1, .ref h, z7]))) 0 0 := zk_st rfl
  refine zR_ret ⟨?_, ?_, ?_, ?_⟩ ⟨Nat.le_refl _, Nat.le_refl _⟩
  · rw [← e1, show s2.1 + 2 = s8.1 by omega]; exact zin_st hxt'.1
  · rw [← e1]; exact hRt.k ke (by omega) (by omega)
  · rw [← e1, show s2.1 + 2 = s8.1 by omega, show s2.1 + 3 = s8.1 + 1 by omega]; exact hR2.k ke (by omega) (by omega)
  · exact ((((ka.tr (kt.wk (fun _ _ e => e.elim))).tr kd).tr (kt'.wk (fun _ _ e => e.elim))).tr ke).le (by omega) (by omega)
theorem hm_init_7 (K : Nat) (ζ : pZ) (τ0 τ : pH) (x h n s : Nat) (z7 : Value) (hζ : ζ.1 ≤ τ.1) (h0 : τ0.1 ≤ x) (hs : τ0.1 ≤ τ.1) (hx : zin ζ τ x (.inr (7, [.long 0, .int 0, .int 0, .int 0, .null, .null, .null, z7]))) : zR τ (fnX6_init_7 K ζ x h (lN n) (nI s) τ) (fun _ t => zin ζ t x (.inr (7, [.long (lN n), .int (nI s), .int 0, .int 0, .ref τ.1, .ref (τ.1 + 2), .ref h, z7])) ∧ zRs ζ t τ.1 (τ.1 + 1) [] ∧ zRs ζ t (τ.1 + 2) (τ.1 + 3) [] ∧ zk (fun q => q = x) τ t 4 22) := by
  unfold fnX6_init_7
  have hxl := hx.1.2
  refine zR_b (hx.wo (k := 6) (Nat.le_of_ble_eq_true rfl)) (zR_le (v' := zst τ x (.inr (7, [.long 0, .int 0, .int 0, .int 0, .null, .null, .ref h, z7]))) rfl ?_)
  have ka : zk (fun q => q = x) τ (zst τ x (.inr (7, [.long 0, .int 0, .int 0, .int 0, .null, .null, .ref h, z7]))) 0 0 := zk_st rfl
  have hxa : zin ζ (zst τ x (.inr (7, [.long 0, .int 0, .int 0, .int 0, .null, .null, .ref h, z7]))) x (.inr (7, [.long 0, .int 0, .int 0, .int 0, .null, .null, .ref h, z7])) := zin_st hx.1
  have e1 : (zst τ x (.inr (7, [.long 0, .int 0, .int 0, .int 0, .null, .null, .ref h, z7]))).1 = τ.1 := rfl
  have za : zge τ (zst τ x (.inr (7, [.long 0, .int 0, .int 0, .int 0, .null, .null, .ref h, z7]))) := ⟨Nat.le_refl _, Nat.le_refl _⟩
  generalize zst τ x (.inr (7, [.long 0, .int 0, .int 0, .int 0, .null, .null, .ref h, z7])) = s2 at *
  refine zR_mono za (zR_l (zR_l ?_))
  have kb : zk zno s2 (znw s2 2 (.inr (10, [.null, .int 0]))) 1 2 := zk_nw
  have hr3 := zin_nw (ζ := ζ) (τ := s2) (n := 2) (e := .inr (10, [.null, .int 0])) (by omega)
  obtain ⟨i1, i2⟩ := hr_init K ζ (znw s2 2 (.inr (10, [.null, .int 0]))) s2.1 hr3 (by show ζ.1 ≤ s2.1 + 1; omega)
  have kc : zk (fun q => q = s2.1) (znw s2 2 (.inr (10, [.null, .int 0]))) (zst (znw (znw s2 2 (.inr (10, [.null, .int 0]))) 9 (raE (fun _ => none))) s2.1 (rsE (s2.1 + 1) 0)) (1 + 0) (9 + 0) := zk_nw.tr (zk_st rfl)
  have kbc : zk zno s2 (zst (znw (znw s2 2 (.inr (10, [.null, .int 0]))) 9 (raE (fun _ => none))) s2.1 (rsE (s2.1 + 1) 0)) (1 + (1 + 0)) (2 + (9 + 0)) := kb.new (kc.wk (fun q _ e => (Or.inr (by rw [e]; exact Nat.le_refl _) : zno q ∨ s2.1 ≤ q)))
  refine zR_ck' kb.1 (zR_cl (Q := fun _ t => t = zst (znw (znw s2 2 (.inr (10, [.null, .int 0]))) 9 (raE (fun _ => none))) s2.1 (rsE (s2.1 + 1) 0)) (zR_eq i1 rfl kc.1) (fun _ t _ P => ?_))
  have hR : zRs ζ t s2.1 (s2.1 + 1) [] := by rw [P]; exact i2
  have hsz : t.1 = s2.1 + 2 := by rw [P]; rfl
  have kt : zk zno s2 t 2 11 := by rw [P]; exact kbc
  clear P i1 i2 kc kbc hr3
  have hxt := kt.i hxa
  refine zR_b (hxt.wo (k := 4) (Nat.le_of_ble_eq_true rfl)) (zR_le (v' := zst t x (.inr (7, [.long 0, .int 0, .int 0, .int 0, .ref s2.1, .null, .ref h, z7]))) rfl ?_)
  have kd : zk (fun q => q = x) t (zst t x (.inr (7, [.long 0, .int 0, .int 0, .int 0, .ref s2.1, .null, .ref h, z7]))) 0 0 := zk_st rfl
  have hxd : zin ζ (zst t x (.inr (7, [.long 0, .int 0, .int 0, .int 0, .ref s2.1, .null, .ref h, z7]))) x (.inr (7, [.long 0, .int 0, .int 0, .int 0, .ref s2.1, .null, .ref h, z7])) := zin_st hxt.1
  have hRd := hR.k kd (by omega) (by omega)
  have e2 : (zst t x (.inr (7, [.long 0, .int 0, .int 0, .int 0, .ref s2.1, .null, .ref h, z7]))).1 = t.1 := rfl
  have zd : zge t (zst t x (.inr (7, [.long 0, .int 0, .int 0, .int 0, .ref s2.1, .null, .ref h, z7]))) := ⟨Nat.le_refl _, Nat.le_refl _⟩
  generalize zst t x (.inr (7, [.long 0, .int 0, .int 0, .int 0, .ref s2.1, .null, .ref h, z7])) = s8 at *
  refine zR_mono zd (zR_l (zR_l ?_))
  have kb : zk zno s8 (znw s8 2 (.inr (10, [.null, .int 0]))) 1 2 := zk_nw
  have hr9 := zin_nw (ζ := ζ) (τ := s8) (n := 2) (e := .inr (10, [.null, .int 0])) (by omega)
  obtain ⟨i1, i2⟩ := hr_init K ζ (znw s8 2 (.inr (10, [.null, .int 0]))) s8.1 hr9 (by show ζ.1 ≤ s8.1 + 1; omega)
  have kc : zk (fun q => q = s8.1) (znw s8 2 (.inr (10, [.null, .int 0]))) (zst (znw (znw s8 2 (.inr (10, [.null, .int 0]))) 9 (raE (fun _ => none))) s8.1 (rsE (s8.1 + 1) 0)) (1 + 0) (9 + 0) := zk_nw.tr (zk_st rfl)
  have kbc : zk zno s8 (zst (znw (znw s8 2 (.inr (10, [.null, .int 0]))) 9 (raE (fun _ => none))) s8.1 (rsE (s8.1 + 1) 0)) (1 + (1 + 0)) (2 + (9 + 0)) := kb.new (kc.wk (fun q _ e => (Or.inr (by rw [e]; exact Nat.le_refl _) : zno q ∨ s8.1 ≤ q)))
  refine zR_ck' kb.1 (zR_cl (Q := fun _ t => t = zst (znw (znw s8 2 (.inr (10, [.null, .int 0]))) 9 (raE (fun _ => none))) s8.1 (rsE (s8.1 + 1) 0)) (zR_eq i1 rfl kc.1) (fun _ t' _ P => ?_))
  have hR2 : zRs ζ t' s8.1 (s8.1 + 1) [] := by rw [P]; exact i2
  have kt' : zk zno s8 t' 2 11 := by rw [P]; exact kbc
  clear P i1 i2 kc kbc hr9
  have hxt' := kt'.i hxd
  have hRt := kt'.R hRd
  refine zR_b (hxt'.wo (k := 5) (Nat.le_of_ble_eq_true rfl)) (zR_le (v' := zst t' x (.inr (7, [.long 0, .int 0, .int 0, .int 0, .ref s2.1, .ref s8.1, .ref h, z7]))) rfl ?_)
  refine zR_b ((zin_st hxt'.1).wo (k := 0) (Nat.le_of_ble_eq_true rfl)) (zR_le (v' := zst t' x (.inr (7, [.long (lN n), .int 0, .int 0, .int 0, .ref s2.1, .ref s8.1, .ref h, z7]))) zst2 ?_)
  refine zR_b ((zin_st hxt'.1).wo (k := 1) (Nat.le_of_ble_eq_true rfl)) (zR_le (v' := zst t' x (.inr (7, [.long (lN n), .int (nI s), .int 0, .int 0, .ref s2.1, .ref s8.1, .ref h, z7]))) zst2 ?_)
  have ke : zk (fun q => q = x) t' (zst t' x (.inr (7, [.long (lN n), .int (nI s), .int 0, .int 0, .ref s2.1, .ref s8.1, .ref h, z7]))) 0 0 := zk_st rfl
  refine zR_ret ⟨?_, ?_, ?_, ?_⟩ ⟨Nat.le_refl _, Nat.le_refl _⟩
  · rw [← e1, show s2.1 + 2 = s8.1 by omega]; exact zin_st hxt'.1
  · rw [← e1]; exact hRt.k ke (by omega) (by omega)
  · rw [← e1, show s2.1 + 2 = s8.1 by omega, show s2.1 + 3 = s8.1 + 1 by omega]; exact hR2.k ke (by omega) (by omega)
  · exact ((((ka.tr (kt.wk (fun _ _ e => e.elim))).tr kd).tr (kt'.wk (fun _ _ e => e.elim))).tr ke).le (by omega) (by omega)
theorem hm_init_8 (K : Nat) (ζ : pZ) (τ0 τ : pH) (x h n s : Nat) (z7 : Value) (hζ : ζ.1 ≤ τ.1) (h0 : τ0.1 ≤ x) (hs : τ0.1 ≤ τ.1) (hx : zin ζ τ x (.inr (8, [.long 0, .int 0, .int 0, .int 0, .null, .null, .null, z7]))) : zR τ (fnX6_init_8 K ζ x h (lN n) (nI s) τ) (fun _ t => zin ζ t x (.inr (8, [.long (lN n), .int (nI s), .int 0, .int 0, .ref τ.1, .ref (τ.1 + 2), .ref h, z7])) ∧ zRs ζ t τ.1 (τ.1 + 1) [] ∧ zRs ζ t (τ.1 + 2) (τ.1 + 3) [] ∧ zk (fun q => q = x) τ t 4 22) := by
  unfold fnX6_init_8
  have hxl := hx.1.2
  refine zR_b (hx.wo (k := 6) (Nat.le_of_ble_eq_true rfl)) (zR_le (v' := zst τ x (.inr (8, [.long 0, .int 0, .int 0, .int 0, .null, .null, .ref h, z7]))) rfl ?_)
  have ka : zk (fun q => q = x) τ (zst τ x (.inr (8, [.long 0, .int 0, .int 0, .int 0, .null, .null, .ref h, z7]))) 0 0 := zk_st rfl
  have hxa : zin ζ (zst τ x (.inr (8, [.long 0, .int 0, .int 0, .int 0, .null, .null, .ref h, z7]))) x (.inr (8, [.long 0, .int 0, .int 0, .int 0, .null, .null, .ref h, z7])) := zin_st hx.1
  have e1 : (zst τ x (.inr (8, [.long 0, .int 0, .int 0, .int 0, .null, .null, .ref h, z7]))).1 = τ.1 := rfl
  have za : zge τ (zst τ x (.inr (8, [.long 0, .int 0, .int 0, .int 0, .null, .null, .ref h, z7]))) := ⟨Nat.le_refl _, Nat.le_refl _⟩
  generalize zst τ x (.inr (8, [.long 0, .int 0, .int 0, .int 0, .null, .null, .ref h, z7])) = s2 at *
  refine zR_mono za (zR_l (zR_l ?_))
  have kb : zk zno s2 (znw s2 2 (.inr (10, [.null, .int 0]))) 1 2 := zk_nw
  have hr3 := zin_nw (ζ := ζ) (τ := s2) (n := 2) (e := .inr (10, [.null, .int 0])) (by omega)
  obtain ⟨i1, i2⟩ := hr_init K ζ (znw s2 2 (.inr (10, [.null, .int 0]))) s2.1 hr3 (by show ζ.1 ≤ s2.1 + 1; omega)
  have kc : zk (fun q => q = s2.1) (znw s2 2 (.inr (10, [.null, .int 0]))) (zst (znw (znw s2 2 (.inr (10, [.null, .int 0]))) 9 (raE (fun _ => none))) s2.1 (rsE (s2.1 + 1) 0)) (1 + 0) (9 + 0) := zk_nw.tr (zk_st rfl)
  have kbc : zk zno s2 (zst (znw (znw s2 2 (.inr (10, [.null, .int 0]))) 9 (raE (fun _ => none))) s2.1 (rsE (s2.1 + 1) 0)) (1 + (1 + 0)) (2 + (9 + 0)) := kb.new (kc.wk (fun q _ e => (Or.inr (by rw [e]; exact Nat.le_refl _) : zno q ∨ s2.1 ≤ q)))
  refine zR_ck' kb.1 (zR_cl (Q := fun _ t => t = zst (znw (znw s2 2 (.inr (10, [.null, .int 0]))) 9 (raE (fun _ => none))) s2.1 (rsE (s2.1 + 1) 0)) (zR_eq i1 rfl kc.1) (fun _ t _ P => ?_))
  have hR : zRs ζ t s2.1 (s2.1 + 1) [] := by rw [P]; exact i2
  have hsz : t.1 = s2.1 + 2 := by rw [P]; rfl
  have kt : zk zno s2 t 2 11 := by rw [P]; exact kbc
  clear P i1 i2 kc kbc hr3
  have hxt := kt.i hxa
  refine zR_b (hxt.wo (k := 4) (Nat.le_of_ble_eq_true rfl)) (zR_le (v' := zst t x (.inr (8, [.long 0, .int 0, .int 0, .int 0, .ref s2.1, .null, .ref h, z7]))) rfl ?_)
  have kd : zk (fun q => q = x) t (zst t x (.inr (8, [.long 0, .int 0, .int 0, .int 0, .ref s2.1, .null, .ref h, z7]))) 0 0 := zk_st rfl
  have hxd : zin ζ (zst t x (.inr (8, [.long 0, .int 0, .int 0, .int 0, .ref s2.1, .null, .ref h, z7]))) x (.inr (8, [.long 0, .int 0, .int 0, .int 0, .ref s2.1, .null, .ref h, z7])) := zin_st hxt.1
  have hRd := hR.k kd (by omega) (by omega)
  have e2 : (zst t x (.inr (8, [.long 0, .int 0, .int 0, .int 0, .ref s2.1, .null, .ref h, z7]))).1 = t.1 := rfl
  have zd : zge t (zst t x (.inr (8, [.long 0, .int 0, .int 0, .int 0, .ref s2.1, .null, .ref h, z7]))) := ⟨Nat.le_refl _, Nat.le_refl _⟩
  generalize zst t x (.inr (8, [.long 0, .int 0, .int 0, .int 0, .ref s2.1, .null, .ref h, z7])) = s8 at *
  refine zR_mono zd (zR_l (zR_l ?_))
  have kb : zk zno s8 (znw s8 2 (.inr (10, [.null, .int 0]))) 1 2 := zk_nw
  have hr9 := zin_nw (ζ := ζ) (τ := s8) (n := 2) (e := .inr (10, [.null, .int 0])) (by omega)
  obtain ⟨i1, i2⟩ := hr_init K ζ (znw s8 2 (.inr (10, [.null, .int 0]))) s8.1 hr9 (by show ζ.1 ≤ s8.1 + 1; omega)
  have kc : zk (fun q => q = s8.1) (znw s8 2 (.inr (10, [.null, .int 0]))) (zst (znw (znw s8 2 (.inr (10, [.null, .int 0]))) 9 (raE (fun _ => none))) s8.1 (rsE (s8.1 + 1) 0)) (1 + 0) (9 + 0) := zk_nw.tr (zk_st rfl)
  have kbc : zk zno s8 (zst (znw (znw s8 2 (.inr (10, [.null, .int 0]))) 9 (raE (fun _ => none))) s8.1 (rsE (s8.1 + 1) 0)) (1 + (1 + 0)) (2 + (9 + 0)) := kb.new (kc.wk (fun q _ e => (Or.inr (by rw [e]; exact Nat.le_refl _) : zno q ∨ s8.1 ≤ q)))
  refine zR_ck' kb.1 (zR_cl (Q := fun _ t => t = zst (znw (znw s8 2 (.inr (10, [.null, .int 0]))) 9 (raE (fun _ => none))) s8.1 (rsE (s8.1 + 1) 0)) (zR_eq i1 rfl kc.1) (fun _ t' _ P => ?_))
  have hR2 : zRs ζ t' s8.1 (s8.1 + 1) [] := by rw [P]; exact i2
  have kt' : zk zno s8 t' 2 11 := by rw [P]; exact kbc
  clear P i1 i2 kc kbc hr9
  have hxt' := kt'.i hxd
  have hRt := kt'.R hRd
  refine zR_b (hxt'.wo (k := 5) (Nat.le_of_ble_eq_true rfl)) (zR_le (v' := zst t' x (.inr (8, [.long 0, .int 0, .int 0, .int 0, .ref s2.1, .ref s8.1, .ref h, z7]))) rfl ?_)
  refine zR_b ((zin_st hxt'.1).wo (k := 0) (Nat.le_of_ble_eq_true rfl)) (zR_le (v' := zst t' x (.inr (8, [.long (lN n), .int 0, .int 0, .int 0, .ref s2.1, .ref s8.1, .ref h, z7]))) zst2 ?_)
  refine zR_b ((zin_st hxt'.1).wo (k := 1) (Nat.le_of_ble_eq_true rfl)) (zR_le (v' := zst t' x (.inr (8, [.long (lN n), .int (nI s), .int 0, .int 0, .ref s2.1, .ref s8.1, .ref h, z7]))) zst2 ?_)
  have ke : zk (fun q => q = x) t' (zst t' x (.inr (8, [.long (lN n), .int (nI s), .int 0, .int 0, .ref s2.1, .ref s8.1, .ref h, z7]))) 0 0 := zk_st rfl
  refine zR_ret ⟨?_, ?_, ?_, ?_⟩ ⟨Nat.le_refl _, Nat.le_refl _⟩
  · rw [← e1, show s2.1 + 2 = s8.1 by omega]; exact zin_st hxt'.1
  · rw [← e1]; exact hRt.k ke (by omega) (by omega)
  · rw [← e1, show s2.1 + 2 = s8.1 by omega, show s2.1 + 3 = s8.1 + 1 by omega]; exact hR2.k ke (by omega) (by omega)
  · exact ((((ka.tr (kt.wk (fun _ _ e => e.elim))).tr kd).tr (kt'.wk (fun _ _ e => e.elim))).tr ke).le (by omega) (by omega)
theorem hm_init_9 (K : Nat) (ζ : pZ) (τ0 τ : pH) (x h n s : Nat) (z7 : Value) (hζ : ζ.1 ≤ τ.1) (h0 : τ0.1 ≤ x) (hs : τ0.1 ≤ τ.1) (hx : zin ζ τ x (.inr (9, [.long 0, .int 0, .int 0, .int 0, .null, .null, .null, z7]))) : zR τ (fnX6_init_9 K ζ x h (lN n) (nI s) τ) (fun _ t => zin ζ t x (.inr (9, [.long (lN n), .int (nI s), .int 0, .int 0, .ref τ.1, .ref (τ.1 + 2), .ref h, z7])) ∧ zRs ζ t τ.1 (τ.1 + 1) [] ∧ zRs ζ t (τ.1 + 2) (τ.1 + 3) [] ∧ zk (fun q => q = x) τ t 4 22) := by
  unfold fnX6_init_9
  have hxl := hx.1.2
  refine zR_b (hx.wo (k := 6) (Nat.le_of_ble_eq_true rfl)) (zR_le (v' := zst τ x (.inr (9, [.long 0, .int 0, .int 0, .int 0, .null, .null, .ref h, z7]))) rfl ?_)
  have ka : zk (fun q => q = x) τ (zst τ x (.inr (9, [.long 0, .int 0, .int 0, .int 0, .null, .null, .ref h, z7]))) 0 0 := zk_st rfl
  have hxa : zin ζ (zst τ x (.inr (9, [.long 0, .int 0, .int 0, .int 0, .null, .null, .ref h, z7]))) x (.inr (9, [.long 0, .int 0, .int 0, .int 0, .null, .null, .ref h, z7])) := zin_st hx.1
  have e1 : (zst τ x (.inr (9, [.long 0, .int 0, .int 0, .int 0, .null, .null, .ref h, z7]))).1 = τ.1 := rfl
  have za : zge τ (zst τ x (.inr (9, [.long 0, .int 0, .int 0, .int 0, .null, .null, .ref h, z7]))) := ⟨Nat.le_refl _, Nat.le_refl _⟩
  generalize zst τ x (.inr (9, [.long 0, .int 0, .int 0, .int 0, .null, .null, .ref h, z7])) = s2 at *
  refine zR_mono za (zR_l (zR_l ?_))
  have kb : zk zno s2 (znw s2 2 (.inr (10, [.null, .int 0]))) 1 2 := zk_nw
  have hr3 := zin_nw (ζ := ζ) (τ := s2) (n := 2) (e := .inr (10, [.null, .int 0])) (by omega)
  obtain ⟨i1, i2⟩ := hr_init K ζ (znw s2 2 (.inr (10, [.null, .int 0]))) s2.1 hr3 (by show ζ.1 ≤ s2.1 + 1; omega)
  have kc : zk (fun q => q = s2.1) (znw s2 2 (.inr (10, [.null, .int 0]))) (zst (znw (znw s2 2 (.inr (10, [.null, .int 0]))) 9 (raE (fun _ => none))) s2.1 (rsE (s2.1 + 1) 0)) (1 + 0) (9 + 0) := zk_nw.tr (zk_st rfl)
  have kbc : zk zno s2 (zst (znw (znw s2 2 (.inr (10, [.null, .int 0]))) 9 (raE (fun _ => none))) s2.1 (rsE (s2.1 + 1) 0)) (1 + (1 + 0)) (2 + (9 + 0)) := kb.new (kc.wk (fun q _ e => (Or.inr (by rw [e]; exact Nat.le_refl _) : zno q ∨ s2.1 ≤ q)))
  refine zR_ck' kb.1 (zR_cl (Q := fun _ t => t = zst (znw (znw s2 2 (.inr (10, [.null, .int 0]))) 9 (raE (fun _ => none))) s2.1 (rsE (s2.1 + 1) 0)) (zR_eq i1 rfl kc.1) (fun _ t _ P => ?_))
  have hR : zRs ζ t s2.1 (s2.1 + 1) [] := by rw [P]; exact i2
  have hsz : t.1 = s2.1 + 2 := by rw [P]; rfl
  have kt : zk zno s2 t 2 11 := by rw [P]; exact kbc
  clear P i1 i2 kc kbc hr3
  have hxt := kt.i hxa
  refine zR_b (hxt.wo (k := 4) (Nat.le_of_ble_eq_true rfl)) (zR_le (v' := zst t x (.inr (9, [.long 0, .int 0, .int 0, .int 0, .ref s2.1, .null, .ref h, z7]))) rfl ?_)
  have kd : zk (fun q => q = x) t (zst t x (.inr (9, [.long 0, .int 0, .int 0, .int 0, .ref s2.1, .null, .ref h, z7]))) 0 0 := zk_st rfl
  have hxd : zin ζ (zst t x (.inr (9, [.long 0, .int 0, .int 0, .int 0, .ref s2.1, .null, .ref h, z7]))) x (.inr (9, [.long 0, .int 0, .int 0, .int 0, .ref s2.1, .null, .ref h, z7])) := zin_st hxt.1
  have hRd := hR.k kd (by omega) (by omega)
  have e2 : (zst t x (.inr (9, [.long 0, .int 0, .int 0, .int 0, .ref s2.1, .null, .ref h, z7]))).1 = t.1 := rfl
  have zd : zge t (zst t x (.inr (9, [.long 0, .int 0, .int 0, .int 0, .ref s2.1, .null, .ref h, z7]))) := ⟨Nat.le_refl _, Nat.le_refl _⟩
  generalize zst t x (.inr (9, [.long 0, .int 0, .int 0, .int 0, .ref s2.1, .null, .ref h, z7])) = s8 at *
  refine zR_mono zd (zR_l (zR_l ?_))
  have kb : zk zno s8 (znw s8 2 (.inr (10, [.null, .int 0]))) 1 2 := zk_nw
  have hr9 := zin_nw (ζ := ζ) (τ := s8) (n := 2) (e := .inr (10, [.null, .int 0])) (by omega)
  obtain ⟨i1, i2⟩ := hr_init K ζ (znw s8 2 (.inr (10, [.null, .int 0]))) s8.1 hr9 (by show ζ.1 ≤ s8.1 + 1; omega)
  have kc : zk (fun q => q = s8.1) (znw s8 2 (.inr (10, [.null, .int 0]))) (zst (znw (znw s8 2 (.inr (10, [.null, .int 0]))) 9 (raE (fun _ => none))) s8.1 (rsE (s8.1 + 1) 0)) (1 + 0) (9 + 0) := zk_nw.tr (zk_st rfl)
  have kbc : zk zno s8 (zst (znw (znw s8 2 (.inr (10, [.null, .int 0]))) 9 (raE (fun _ => none))) s8.1 (rsE (s8.1 + 1) 0)) (1 + (1 + 0)) (2 + (9 + 0)) := kb.new (kc.wk (fun q _ e => (Or.inr (by rw [e]; exact Nat.le_refl _) : zno q ∨ s8.1 ≤ q)))
  refine zR_ck' kb.1 (zR_cl (Q := fun _ t => t = zst (znw (znw s8 2 (.inr (10, [.null, .int 0]))) 9 (raE (fun _ => none))) s8.1 (rsE (s8.1 + 1) 0)) (zR_eq i1 rfl kc.1) (fun _ t' _ P => ?_))
  have hR2 : zRs ζ t' s8.1 (s8.1 + 1) [] := by rw [P]; exact i2
  have kt' : zk zno s8 t' 2 11 := by rw [P]; exact kbc
  clear P i1 i2 kc kbc hr9
  have hxt' := kt'.i hxd
  have hRt := kt'.R hRd
  refine zR_b (hxt'.wo (k := 5) (Nat.le_of_ble_eq_true rfl)) (zR_le (v' := zst t' x (.inr (9, [.long 0, .int 0, .int 0, .int 0, .ref s2.1, .ref s8.1, .ref h, z7]))) rfl ?_)
  refine zR_b ((zin_st hxt'.1).wo (k := 0) (Nat.le_of_ble_eq_true rfl)) (zR_le (v' := zst t' x (.inr (9, [.long (lN n), .int 0, .int 0, .int 0, .ref s2.1, .ref s8.1, .ref h, z7]))) zst2 ?_)
  refine zR_b ((zin_st hxt'.1).wo (k := 1) (Nat.le_of_ble_eq_true rfl)) (zR_le (v' := zst t' x (.inr (9, [.long (lN n), .int (nI s), .int 0, .int 0, .ref s2.1, .ref s8.1, .ref h, z7]))) zst2 ?_)
  have ke : zk (fun q => q = x) t' (zst t' x (.inr (9, [.long (lN n), .int (nI s), .int 0, .int 0, .ref s2.1, .ref s8.1, .ref h, z7]))) 0 0 := zk_st rfl
  refine zR_ret ⟨?_, ?_, ?_, ?_⟩ ⟨Nat.le_refl _, Nat.le_refl _⟩
  · rw [← e1, show s2.1 + 2 = s8.1 by omega]; exact zin_st hxt'.1
  · rw [← e1]; exact hRt.k ke (by omega) (by omega)
  · rw [← e1, show s2.1 + 2 = s8.1 by omega, show s2.1 + 3 = s8.1 + 1 by omega]; exact hR2.k ke (by omega) (by omega)
  · exact ((((ka.tr (kt.wk (fun _ _ e => e.elim))).tr kd).tr (kt'.wk (fun _ _ e => e.elim))).tr ke).le (by omega) (by omega)
