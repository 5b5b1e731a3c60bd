/-! the model's sequence: rows of two by rows of two -/
theorem vpL_eq {f : Nat → Int64} {i : Nat} {v : Int64} : vp_updL f i v i = v := by unfold vp_updL; rw [if_pos rfl]
theorem vpL_ne {f : Nat → Int64} {i j : Nat} {v : Int64} (h : j ≠ i) : vp_updL f i v j = f j := by unfold vp_updL; rw [if_neg h]
/-- a long array holds four numbers -/
def m4 (σ : pM) (a : Nat) (x0 x1 x2 x3 : Nat) : Prop := σ.2.2.2 a 0 = lN x0 ∧ σ.2.2.2 a 1 = lN x1 ∧ σ.2.2.2 a 2 = lN x2 ∧ σ.2.2.2 a 3 = lN x3
/-- but for the long arrays all is the same -/
def mEqJ (σ σ' : pM) : Prop := σ'.1 = σ.1 ∧ σ'.2.1 = σ.2.1 ∧ σ'.2.2.1 = σ.2.2.1
theorem mEqJ.rfl {σ : pM} : mEqJ σ σ := ⟨Eq.refl _, Eq.refl _, Eq.refl _⟩
theorem mEqJ.tr {σ σ1 σ2 : pM} (h : mEqJ σ σ1) (h' : mEqJ σ1 σ2) : mEqJ σ σ2 := ⟨h'.1.trans h.1, h'.2.1.trans h.2.1, h'.2.2.trans h.2.2⟩
theorem mJ_eq {σ : pM} {a i : Nat} {v : Int64} : (mJ σ a i v).2.2.2 a i = v := by
  show (bif Nat.beq a a then vp_updL (σ.2.2.2 a) i v else σ.2.2.2 a) i = v
  rw [Nat.beq_refl]; exact vpL_eq
theorem mJ_i {σ : pM} {a i j : Nat} {v : Int64} (h : j ≠ i) : (mJ σ a i v).2.2.2 a j = σ.2.2.2 a j := by
  show (bif Nat.beq a a then vp_updL (σ.2.2.2 a) i v else σ.2.2.2 a) j = _
  rw [Nat.beq_refl]; exact vpL_ne h
theorem mJ_a {σ : pM} {a b i j : Nat} {v : Int64} (h : b ≠ a) : (mJ σ a i v).2.2.2 b j = σ.2.2.2 b j := by
  show (bif Nat.beq b a then vp_updL (σ.2.2.2 b) i v else σ.2.2.2 b) j = _
  rw [show Nat.beq b a = false from (by cases e : Nat.beq b a with | false => exact Eq.refl _ | true => exact absurd (Nat.eq_of_beq_eq_true e) h)]; rfl
theorem nIm (a b : Nat) : nI a * nI b = nI (a * b) := (Int32.ofNat_mul a b).symm
theorem mJ_J {σ : pM} {a i : Nat} {v : Int64} : mEqJ σ (mJ σ a i v) := ⟨Eq.refl _, Eq.refl _, Eq.refl _⟩
theorem ty_b {x y u w m : Nat} (hx : x < m) (hy : y < m) (hu : u < m) (hw : w < m) (hm : m ≤ 2 ^ 30) : x * y + u * w < 2 ^ 62 := by
  have h1 : x * y ≤ 2 ^ 30 * 2 ^ 30 := Nat.mul_le_mul (by omega) (by omega)
  have h2 : u * w ≤ 2 ^ 30 * 2 ^ 30 := Nat.mul_le_mul (by omega) (by omega)
  omega
theorem ty1_step (K k m : Nat) (hm0 : 0 < m) (hm : m ≤ 2 ^ 30) (i j : Nat) (hi : i < 2) (hj : j < 2) (x y u w : Nat) (hx : x < m) (hy : y < m) (hu : u < m) (hw : w < m) (σ : pM) (e1 : σ.2.2.2 1 (2 * i) = lN x) (e2 : σ.2.2.2 2 j = lN y) (e3 : σ.2.2.2 1 (2 * i + 1) = lN u) (e4 : σ.2.2.2 2 (2 + j) = lN w) : (lfX1_times_1_2 K (k + 1)).2.1 (lN m) (nI i) (nI j) σ = (lfX1_times_1_2 K k).2.1 (lN m) (nI i) (nI (j + 1)) (mJ σ 3 (2 * i + j) (lN ((x * y + u * w) % m))) := by
  have hb := ty_b hx hy hu hw hm
  rw [luX1_times_1_2_2, show (2 : Int32) = nI 2 from rfl, if_neg (nI_ge hj (by omega)), nIm, nI_add, nI_1]
  simp only [dzl]
  rw [if_pos (nI_in (by omega) (by omega)), if_pos (nI_in (by omega) (by omega)), if_pos (nI_in (by omega) (by omega)), if_pos (nI_in (by omega) (by omega)), if_pos (pz_nz hm0 (by omega)), nI_add, if_pos (nI_in (by omega) (by omega)), nI_clamp (by omega), nI_clamp (by omega), nI_clamp (by omega), nI_clamp (by omega), nI_clamp (by omega), e1, e2, e3, e4, lN_mul, lN_mul, lN_add, pk_lRem (by omega) hm0 (by omega), nI_1]
theorem ty1_copy (K k : Nat) (i : Nat) (hi : i < 4) (σ : pM) : (lfX1_times_1_2 K (k + 1)).2.2 (nI i) σ = (lfX1_times_1_2 K k).2.2 (nI (i + 1)) (mJ σ 1 i (σ.2.2.2 3 i)) := by
  rw [luX1_times_1_2_3, show (4 : Int32) = nI 4 from rfl, if_neg (nI_ge hi (by omega)), if_pos (nI_in (by omega) (by omega))]
  simp only [dzl]
  rw [if_pos (nI_in (by omega) (by omega)), nI_clamp (by omega), nI_1]
theorem ty1_all (K k m : Nat) (hm0 : 0 < m) (hm : m ≤ 2 ^ 30) (σ : pM) (x0 x1 x2 x3 y0 y1 y2 y3 : Nat) (h1 : m4 σ 1 x0 x1 x2 x3) (h2 : m4 σ 2 y0 y1 y2 y3) (hx0 : x0 < m) (hx1 : x1 < m) (hx2 : x2 < m) (hx3 : x3 < m) (hy0 : y0 < m) (hy1 : y1 < m) (hy2 : y2 < m) (hy3 : y3 < m) : ∃ σ', (lfX1_times_1_2 K (k + 20)).1 (lN m) 0 σ = some σ' ∧ mEqJ σ σ' ∧ m4 σ' 1 ((x0 * y0 + x1 * y2) % m) ((x0 * y1 + x1 * y3) % m) ((x2 * y0 + x3 * y2) % m) ((x2 * y1 + x3 * y3) % m) ∧ (1 = 1 → m4 σ' 2 y0 y1 y2 y3) ∧ (1 = 2 → ∀ i, σ'.2.2.2 1 i = σ.2.2.2 1 i) := by
  obtain ⟨a0, a1, a2, a3⟩ := h1
  obtain ⟨b0, b1, b2, b3⟩ := h2
  have d2 : (2 : Nat) ≠ 3 := by decide
  have d1 : (1 : Nat) ≠ 3 := by decide
  have dA : (1 : Nat) ≠ 3 := by decide
  refine ⟨(mJ (mJ (mJ (mJ (mJ (mJ (mJ (mJ σ 3 (2 * 0 + 0) (lN ((x0 * y0 + x1 * y2) % m))) 3 (2 * 0 + 1) (lN ((x0 * y1 + x1 * y3) % m))) 3 (2 * 1 + 0) (lN ((x2 * y0 + x3 * y2) % m))) 3 (2 * 1 + 1) (lN ((x2 * y1 + x3 * y3) % m))) 1 0 ((mJ (mJ (mJ (mJ σ 3 (2 * 0 + 0) (lN ((x0 * y0 + x1 * y2) % m))) 3 (2 * 0 + 1) (lN ((x0 * y1 + x1 * y3) % m))) 3 (2 * 1 + 0) (lN ((x2 * y0 + x3 * y2) % m))) 3 (2 * 1 + 1) (lN ((x2 * y1 + x3 * y3) % m))).2.2.2 3 0)) 1 1 ((mJ (mJ (mJ (mJ (mJ σ 3 (2 * 0 + 0) (lN ((x0 * y0 + x1 * y2) % m))) 3 (2 * 0 + 1) (lN ((x0 * y1 + x1 * y3) % m))) 3 (2 * 1 + 0) (lN ((x2 * y0 + x3 * y2) % m))) 3 (2 * 1 + 1) (lN ((x2 * y1 + x3 * y3) % m))) 1 0 ((mJ (mJ (mJ (mJ σ 3 (2 * 0 + 0) (lN ((x0 * y0 + x1 * y2) % m))) 3 (2 * 0 + 1) (lN ((x0 * y1 + x1 * y3) % m))) 3 (2 * 1 + 0) (lN ((x2 * y0 + x3 * y2) % m))) 3 (2 * 1 + 1) (lN ((x2 * y1 + x3 * y3) % m))).2.2.2 3 0)).2.2.2 3 1)) 1 2 ((mJ (mJ (mJ (mJ (mJ (mJ σ 3 (2 * 0 + 0) (lN ((x0 * y0 + x1 * y2) % m))) 3 (2 * 0 + 1) (lN ((x0 * y1 + x1 * y3) % m))) 3 (2 * 1 + 0) (lN ((x2 * y0 + x3 * y2) % m))) 3 (2 * 1 + 1) (lN ((x2 * y1 + x3 * y3) % m))) 1 0 ((mJ (mJ (mJ (mJ σ 3 (2 * 0 + 0) (lN ((x0 * y0 + x1 * y2) % m))) 3 (2 * 0 + 1) (lN ((x0 * y1 + x1 * y3) % m))) 3 (2 * 1 + 0) (lN ((x2 * y0 + x3 * y2) % m))) 3 (2 * 1 + 1) (lN ((x2 * y1 + x3 * y3) % m))).2.2.2 3 0)) 1 1 ((mJ (mJ (mJ (mJ (mJ σ 3 (2 * 0 + 0) (lN ((x0 * y0 + x1 * y2) % m))) 3 (2 * 0 + 1) (lN ((x0 * y1 + x1 * y3) % m))) 3 (2 * 1 + 0) (lN ((x2 * y0 + x3 * y2) % m))) 3 (2 * 1 + 1) (lN ((x2 * y1 + x3 * y3) % m))) 1 0 ((mJ (mJ (mJ (mJ σ 3 (2 * 0 + 0) (lN ((x0 * y0 + x1 * y2) % m))) 3 (2 * 0 + 1) (lN ((x0 * y1 + x1 * y3) % m))) 3 (2 * 1 + 0) (lN ((x2 * y0 + x3 * y2) % m))) 3 (2 * 1 + 1) (lN ((x2 * y1 + x3 * y3) % m))).2.2.2 3 0)).2.2.2 3 1)).2.2.2 3 2)) 1 3 ((mJ (mJ (mJ (mJ (mJ (mJ (mJ σ 3 (2 * 0 + 0) (lN ((x0 * y0 + x1 * y2) % m))) 3 (2 * 0 + 1) (lN ((x0 * y1 + x1 * y3) % m))) 3 (2 * 1 + 0) (lN ((x2 * y0 + x3 * y2) % m))) 3 (2 * 1 + 1) (lN ((x2 * y1 + x3 * y3) % m))) 1 0 ((mJ (mJ (mJ (mJ σ 3 (2 * 0 + 0) (lN ((x0 * y0 + x1 * y2) % m))) 3 (2 * 0 + 1) (lN ((x0 * y1 + x1 * y3) % m))) 3 (2 * 1 + 0) (lN ((x2 * y0 + x3 * y2) % m))) 3 (2 * 1 + 1) (lN ((x2 * y1 + x3 * y3) % m))).2.2.2 3 0)) 1 1 ((mJ (mJ (mJ (mJ (mJ σ 3 (2 * 0 + 0) (lN ((x0 * y0 + x1 * y2) % m))) 3 (2 * 0 + 1) (lN ((x0 * y1 + x1 * y3) % m))) 3 (2 * 1 + 0) (lN ((x2 * y0 + x3 * y2) % m))) 3 (2 * 1 + 1) (lN ((x2 * y1 + x3 * y3) % m))) 1 0 ((mJ (mJ (mJ (mJ σ 3 (2 * 0 + 0) (lN ((x0 * y0 + x1 * y2) % m))) 3 (2 * 0 + 1) (lN ((x0 * y1 + x1 * y3) % m))) 3 (2 * 1 + 0) (lN ((x2 * y0 + x3 * y2) % m))) 3 (2 * 1 + 1) (lN ((x2 * y1 + x3 * y3) % m))).2.2.2 3 0)).2.2.2 3 1)) 1 2 ((mJ (mJ (mJ (mJ (mJ (mJ σ 3 (2 * 0 + 0) (lN ((x0 * y0 + x1 * y2) % m))) 3 (2 * 0 + 1) (lN ((x0 * y1 + x1 * y3) % m))) 3 (2 * 1 + 0) (lN ((x2 * y0 + x3 * y2) % m))) 3 (2 * 1 + 1) (lN ((x2 * y1 + x3 * y3) % m))) 1 0 ((mJ (mJ (mJ (mJ σ 3 (2 * 0 + 0) (lN ((x0 * y0 + x1 * y2) % m))) 3 (2 * 0 + 1) (lN ((x0 * y1 + x1 * y3) % m))) 3 (2 * 1 + 0) (lN ((x2 * y0 + x3 * y2) % m))) 3 (2 * 1 + 1) (lN ((x2 * y1 + x3 * y3) % m))).2.2.2 3 0)) 1 1 ((mJ (mJ (mJ (mJ (mJ σ 3 (2 * 0 + 0) (lN ((x0 * y0 + x1 * y2) % m))) 3 (2 * 0 + 1) (lN ((x0 * y1 + x1 * y3) % m))) 3 (2 * 1 + 0) (lN ((x2 * y0 + x3 * y2) % m))) 3 (2 * 1 + 1) (lN ((x2 * y1 + x3 * y3) % m))) 1 0 ((mJ (mJ (mJ (mJ σ 3 (2 * 0 + 0) (lN ((x0 * y0 + x1 * y2) % m))) 3 (2 * 0 + 1) (lN ((x0 * y1 + x1 * y3) % m))) 3 (2 * 1 + 0) (lN ((x2 * y0 + x3 * y2) % m))) 3 (2 * 1 + 1) (lN ((x2 * y1 + x3 * y3) % m))).2.2.2 3 0)).2.2.2 3 1)).2.2.2 3 2)).2.2.2 3 3)), ?_, ?_, ?_, ?_, ?_⟩
  · rw [luX1_times_1_2_1, if_neg (by decide)]
    rw [show (0 : Int32) = nI 0 from rfl]
    rw [ty1_step K _ m hm0 hm 0 0 (by omega) (by omega) x0 y0 x1 y2 hx0 hy0 hx1 hy2 σ a0 b0 a1 b2]
    rw [ty1_step K _ m hm0 hm 0 1 (by omega) (by omega) x0 y1 x1 y3 hx0 hy1 hx1 hy3 _ ((mJ_a dA).trans a0) ((mJ_a d2).trans b1) ((mJ_a dA).trans a1) ((mJ_a d2).trans b3)]
    rw [luX1_times_1_2_2, if_pos (by decide), dzl, nI_1, luX1_times_1_2_1, if_neg (by decide), show (0 : Int32) = nI 0 from rfl]
    rw [ty1_step K _ m hm0 hm 1 0 (by omega) (by omega) x2 y0 x3 y2 hx2 hy0 hx3 hy2 _ ((mJ_a dA).trans ((mJ_a dA).trans a2)) ((mJ_a d2).trans ((mJ_a d2).trans b0)) ((mJ_a dA).trans ((mJ_a dA).trans a3)) ((mJ_a d2).trans ((mJ_a d2).trans b2))]
    rw [ty1_step K _ m hm0 hm 1 1 (by omega) (by omega) x2 y1 x3 y3 hx2 hy1 hx3 hy3 _ ((mJ_a dA).trans ((mJ_a dA).trans ((mJ_a dA).trans a2))) ((mJ_a d2).trans ((mJ_a d2).trans ((mJ_a d2).trans b1))) ((mJ_a dA).trans ((mJ_a dA).trans ((mJ_a dA).trans a3))) ((mJ_a d2).trans ((mJ_a d2).trans ((mJ_a d2).trans b3)))]
    rw [luX1_times_1_2_2, if_pos (by decide), dzl, nI_1, luX1_times_1_2_1, if_pos (by decide), show (0 : Int32) = nI 0 from rfl]
    rw [ty1_copy K _ 0 (by omega), ty1_copy K _ 1 (by omega), ty1_copy K _ 2 (by omega), ty1_copy K _ 3 (by omega), luX1_times_1_2_3, if_pos (by decide)]
  · exact ((((((mJ_J.tr mJ_J).tr mJ_J).tr mJ_J).tr mJ_J).tr mJ_J).tr mJ_J).tr mJ_J
  · unfold m4
    simp only [mJ_eq, mJ_i (show (0 : Nat) ≠ 1 by decide), mJ_i (show (0 : Nat) ≠ 2 by decide), mJ_i (show (0 : Nat) ≠ 3 by decide), mJ_i (show (1 : Nat) ≠ 2 by decide), mJ_i (show (1 : Nat) ≠ 3 by decide), mJ_i (show (2 : Nat) ≠ 3 by decide), mJ_i (show (1 : Nat) ≠ 0 by decide), mJ_i (show (2 : Nat) ≠ 0 by decide), mJ_i (show (2 : Nat) ≠ 1 by decide), mJ_i (show (3 : Nat) ≠ 0 by decide), mJ_i (show (3 : Nat) ≠ 1 by decide), mJ_i (show (3 : Nat) ≠ 2 by decide), mJ_a (show (3 : Nat) ≠ 1 by decide), Nat.mul_zero, Nat.mul_one, Nat.zero_add, Nat.add_zero, Nat.reduceAdd, and_self]
  · intro hA
    unfold m4
    first
    | (exact absurd hA (by decide))
    | (simp only [mJ_a (show (2 : Nat) ≠ 3 by decide), mJ_a (show (2 : Nat) ≠ 1 by decide)]; exact ⟨b0, b1, b2, b3⟩)
  · intro hA i
    first
    | (exact absurd hA (by decide))
    | (simp only [mJ_a (show (1 : Nat) ≠ 3 by decide), mJ_a (show (1 : Nat) ≠ 2 by decide)])
theorem ty2_step (K k m : Nat) (hm0 : 0 < m) (hm : m ≤ 2 ^ 30) (i j : Nat) (hi : i < 2) (hj : j < 2) (x y u w : Nat) (hx : x < m) (hy : y < m) (hu : u < m) (hw : w < m) (σ : pM) (e1 : σ.2.2.2 2 (2 * i) = lN x) (e2 : σ.2.2.2 2 j = lN y) (e3 : σ.2.2.2 2 (2 * i + 1) = lN u) (e4 : σ.2.2.2 2 (2 + j) = lN w) : (lfX1_times_2_2 K (k + 1)).2.1 (lN m) (nI i) (nI j) σ = (lfX1_times_2_2 K k).2.1 (lN m) (nI i) (nI (j + 1)) (mJ σ 3 (2 * i + j) (lN ((x * y + u * w) % m))) := by
  have hb := ty_b hx hy hu hw hm
  rw [luX1_times_2_2_2, show (2 : Int32) = nI 2 from rfl, if_neg (nI_ge hj (by omega)), nIm, nI_add, nI_1]
  simp only [dzl]
  rw [if_pos (nI_in (by omega) (by omega)), if_pos (nI_in (by omega) (by omega)), if_pos (nI_in (by omega) (by omega)), if_pos (nI_in (by omega) (by omega)), if_pos (pz_nz hm0 (by omega)), nI_add, if_pos (nI_in (by omega) (by omega)), nI_clamp (by omega), nI_clamp (by omega), nI_clamp (by omega), nI_clamp (by omega), nI_clamp (by omega), e1, e2, e3, e4, lN_mul, lN_mul, lN_add, pk_lRem (by omega) hm0 (by omega), nI_1]
theorem ty2_copy (K k : Nat) (i : Nat) (hi : i < 4) (σ : pM) : (lfX1_times_2_2 K (k + 1)).2.2 (nI i) σ = (lfX1_times_2_2 K k).2.2 (nI (i + 1)) (mJ σ 2 i (σ.2.2.2 3 i)) := by
  rw [luX1_times_2_2_3, show (4 : Int32) = nI 4 from rfl, if_neg (nI_ge hi (by omega)), if_pos (nI_in (by omega) (by omega))]
  simp only [dzl]
  rw [if_pos (nI_in (by omega) (by omega)), nI_clamp (by omega), nI_1]
theorem ty2_all (K k m : Nat) (hm0 : 0 < m) (hm : m ≤ 2 ^ 30) (σ : pM) (x0 x1 x2 x3 y0 y1 y2 y3 : Nat) (h1 : m4 σ 2 x0 x1 x2 x3) (h2 : m4 σ 2 y0 y1 y2 y3) (hx0 : x0 < m) (hx1 : x1 < m) (hx2 : x2 < m) (hx3 : x3 < m) (hy0 : y0 < m) (hy1 : y1 < m) (hy2 : y2 < m) (hy3 : y3 < m) : ∃ σ', (lfX1_times_2_2 K (k + 20)).1 (lN m) 0 σ = some σ' ∧ mEqJ σ σ' ∧ m4 σ' 2 ((x0 * y0 + x1 * y2) % m) ((x0 * y1 + x1 * y3) % m) ((x2 * y0 + x3 * y2) % m) ((x2 * y1 + x3 * y3) % m) ∧ (2 = 1 → m4 σ' 2 y0 y1 y2 y3) ∧ (2 = 2 → ∀ i, σ'.2.2.2 1 i = σ.2.2.2 1 i) := by
  obtain ⟨a0, a1, a2, a3⟩ := h1
  obtain ⟨b0, b1, b2, b3⟩ := h2
  have d2 : (2 : Nat) ≠ 3 := by decide
  have d1 : (1 : Nat) ≠ 3 := by decide
  have dA : (2 : Nat) ≠ 3 := by decide
  refine ⟨(mJ (mJ (mJ (mJ (mJ (mJ (mJ (mJ σ 3 (2 * 0 + 0) (lN ((x0 * y0 + x1 * y2) % m))) 3 (2 * 0 + 1) (lN ((x0 * y1 + x1 * y3) % m))) 3 (2 * 1 + 0) (lN ((x2 * y0 + x3 * y2) % m))) 3 (2 * 1 + 1) (lN ((x2 * y1 + x3 * y3) % m))) 2 0 ((mJ (mJ (mJ (mJ σ 3 (2 * 0 + 0) (lN ((x0 * y0 + x1 * y2) % m))) 3 (2 * 0 + 1) (lN ((x0 * y1 + x1 * y3) % m))) 3 (2 * 1 + 0) (lN ((x2 * y0 + x3 * y2) % m))) 3 (2 * 1 + 1) (lN ((x2 * y1 + x3 * y3) % m))).2.2.2 3 0)) 2 1 ((mJ (mJ (mJ (mJ (mJ σ 3 (2 * 0 + 0) (lN ((x0 * y0 + x1 * y2) % m))) 3 (2 * 0 + 1) (lN ((x0 * y1 + x1 * y3) % m))) 3 (2 * 1 + 0) (lN ((x2 * y0 + x3 * y2) % m))) 3 (2 * 1 + 1) (lN ((x2 * y1 + x3 * y3) % m))) 2 0 ((mJ (mJ (mJ (mJ σ 3 (2 * 0 + 0) (lN ((x0 * y0 + x1 * y2) % m))) 3 (2 * 0 + 1) (lN ((x0 * y1 + x1 * y3) % m))) 3 (2 * 1 + 0) (lN ((x2 * y0 + x3 * y2) % m))) 3 (2 * 1 + 1) (lN ((x2 * y1 + x3 * y3) % m))).2.2.2 3 0)).2.2.2 3 1)) 2 2 ((mJ (mJ (mJ (mJ (mJ (mJ σ 3 (2 * 0 + 0) (lN ((x0 * y0 + x1 * y2) % m))) 3 (2 * 0 + 1) (lN ((x0 * y1 + x1 * y3) % m))) 3 (2 * 1 + 0) (lN ((x2 * y0 + x3 * y2) % m))) 3 (2 * 1 + 1) (lN ((x2 * y1 + x3 * y3) % m))) 2 0 ((mJ (mJ (mJ (mJ σ 3 (2 * 0 + 0) (lN ((x0 * y0 + x1 * y2) % m))) 3 (2 * 0 + 1) (lN ((x0 * y1 + x1 * y3) % m))) 3 (2 * 1 + 0) (lN ((x2 * y0 + x3 * y2) % m))) 3 (2 * 1 + 1) (lN ((x2 * y1 + x3 * y3) % m))).2.2.2 3 0)) 2 1 ((mJ (mJ (mJ (mJ (mJ σ 3 (2 * 0 + 0) (lN ((x0 * y0 + x1 * y2) % m))) 3 (2 * 0 + 1) (lN ((x0 * y1 + x1 * y3) % m))) 3 (2 * 1 + 0) (lN ((x2 * y0 + x3 * y2) % m))) 3 (2 * 1 + 1) (lN ((x2 * y1 + x3 * y3) % m))) 2 0 ((mJ (mJ (mJ (mJ σ 3 (2 * 0 + 0) (lN ((x0 * y0 + x1 * y2) % m))) 3 (2 * 0 + 1) (lN ((x0 * y1 + x1 * y3) % m))) 3 (2 * 1 + 0) (lN ((x2 * y0 + x3 * y2) % m))) 3 (2 * 1 + 1) (lN ((x2 * y1 + x3 * y3) % m))).2.2.2 3 0)).2.2.2 3 1)).2.2.2 3 2)) 2 3 ((mJ (mJ (mJ (mJ (mJ (mJ (mJ σ 3 (2 * 0 + 0) (lN ((x0 * y0 + x1 * y2) % m))) 3 (2 * 0 + 1) (lN ((x0 * y1 + x1 * y3) % m))) 3 (2 * 1 + 0) (lN ((x2 * y0 + x3 * y2) % m))) 3 (2 * 1 + 1) (lN ((x2 * y1 + x3 * y3) % m))) 2 0 ((mJ (mJ (mJ (mJ σ 3 (2 * 0 + 0) (lN ((x0 * y0 + x1 * y2) % m))) 3 (2 * 0 + 1) (lN ((x0 * y1 + x1 * y3) % m))) 3 (2 * 1 + 0) (lN ((x2 * y0 + x3 * y2) % m))) 3 (2 * 1 + 1) (lN ((x2 * y1 + x3 * y3) % m))).2.2.2 3 0)) 2 1 ((mJ (mJ (mJ (mJ (mJ σ 3 (2 * 0 + 0) (lN ((x0 * y0 + x1 * y2) % m))) 3 (2 * 0 + 1) (lN ((x0 * y1 + x1 * y3) % m))) 3 (2 * 1 + 0) (lN ((x2 * y0 + x3 * y2) % m))) 3 (2 * 1 + 1) (lN ((x2 * y1 + x3 * y3) % m))) 2 0 ((mJ (mJ (mJ (mJ σ 3 (2 * 0 + 0) (lN ((x0 * y0 + x1 * y2) % m))) 3 (2 * 0 + 1) (lN ((x0 * y1 + x1 * y3) % m))) 3 (2 * 1 + 0) (lN ((x2 * y0 + x3 * y2) % m))) 3 (2 * 1 + 1) (lN ((x2 * y1 + x3 * y3) % m))).2.2.2 3 0)).2.2.2 3 1)) 2 2 ((mJ (mJ (mJ (mJ (mJ (mJ σ 3 (2 * 0 + 0) (lN ((x0 * y0 + x1 * y2) % m))) 3 (2 * 0 + 1) (lN ((x0 * y1 + x1 * y3) % m))) 3 (2 * 1 + 0) (lN ((x2 * y0 + x3 * y2) % m))) 3 (2 * 1 + 1) (lN ((x2 * y1 + x3 * y3) % m))) 2 0 ((mJ (mJ (mJ (mJ σ 3 (2 * 0 + 0) (lN ((x0 * y0 + x1 * y2) % m))) 3 (2 * 0 + 1) (lN ((x0 * y1 + x1 * y3) % m))) 3 (2 * 1 + 0) (lN ((x2 * y0 + x3 * y2) % m))) 3 (2 * 1 + 1) (lN ((x2 * y1 + x3 * y3) % m))).2.2.2 3 0)) 2 1 ((mJ (mJ (mJ (mJ (mJ σ 3 (2 * 0 + 0) (lN ((x0 * y0 + x1 * y2) % m))) 3 (2 * 0 + 1) (lN ((x0 * y1 + x1 * y3) % m))) 3 (2 * 1 + 0) (lN ((x2 * y0 + x3 * y2) % m))) 3 (2 * 1 + 1) (lN ((x2 * y1 + x3 * y3) % m))) 2 0 ((mJ (mJ (mJ (mJ σ 3 (2 * 0 + 0) (lN ((x0 * y0 + x1 * y2) % m))) 3 (2 * 0 + 1) (lN ((x0 * y1 + x1 * y3) % m))) 3 (2 * 1 + 0) (lN ((x2 * y0 + x3 * y2) % m))) 3 (2 * 1 + 1) (lN ((x2 * y1 + x3 * y3) % m))).2.2.2 3 0)).2.2.2 3 1)).2.2.2 3 2)).2.2.2 3 3)), ?_, ?_, ?_, ?_, ?_⟩
  · rw [luX1_times_2_2_1, if_neg (by decide)]
    rw [show (0 : Int32) = nI 0 from rfl]
    rw [ty2_step K _ m hm0 hm 0 0 (by omega) (by omega) x0 y0 x1 y2 hx0 hy0 hx1 hy2 σ a0 b0 a1 b2]
    rw [ty2_step K _ m hm0 hm 0 1 (by omega) (by omega) x0 y1 x1 y3 hx0 hy1 hx1 hy3 _ ((mJ_a dA).trans a0) ((mJ_a d2).trans b1) ((mJ_a dA).trans a1) ((mJ_a d2).trans b3)]
    rw [luX1_times_2_2_2, if_pos (by decide), dzl, nI_1, luX1_times_2_2_1, if_neg (by decide), show (0 : Int32) = nI 0 from rfl]
    rw [ty2_step K _ m hm0 hm 1 0 (by omega) (by omega) x2 y0 x3 y2 hx2 hy0 hx3 hy2 _ ((mJ_a dA).trans ((mJ_a dA).trans a2)) ((mJ_a d2).trans ((mJ_a d2).trans b0)) ((mJ_a dA).trans ((mJ_a dA).trans a3)) ((mJ_a d2).trans ((mJ_a d2).trans b2))]
    rw [ty2_step K _ m hm0 hm 1 1 (by omega) (by omega) x2 y1 x3 y3 hx2 hy1 hx3 hy3 _ ((mJ_a dA).trans ((mJ_a dA).trans ((mJ_a dA).trans a2))) ((mJ_a d2).trans ((mJ_a d2).trans ((mJ_a d2).trans b1))) ((mJ_a dA).trans ((mJ_a dA).trans ((mJ_a dA).trans a3))) ((mJ_a d2).trans ((mJ_a d2).trans ((mJ_a d2).trans b3)))]
    rw [luX1_times_2_2_2, if_pos (by decide), dzl, nI_1, luX1_times_2_2_1, if_pos (by decide), show (0 : Int32) = nI 0 from rfl]
    rw [ty2_copy K _ 0 (by omega), ty2_copy K _ 1 (by omega), ty2_copy K _ 2 (by omega), ty2_copy K _ 3 (by omega), luX1_times_2_2_3, if_pos (by decide)]
  · exact ((((((mJ_J.tr mJ_J).tr mJ_J).tr mJ_J).tr mJ_J).tr mJ_J).tr mJ_J).tr mJ_J
  · unfold m4
    simp only [mJ_eq, mJ_i (show (0 : Nat) ≠ 1 by decide), mJ_i (show (0 : Nat) ≠ 2 by decide), mJ_i (show (0 : Nat) ≠ 3 by decide), mJ_i (show (1 : Nat) ≠ 2 by decide), mJ_i (show (1 : Nat) ≠ 3 by decide), mJ_i (show (2 : Nat) ≠ 3 by decide), mJ_i (show (1 : Nat) ≠ 0 by decide), mJ_i (show (2 : Nat) ≠ 0 by decide), mJ_i (show (2 : Nat) ≠ 1 by decide), mJ_i (show (3 : Nat) ≠ 0 by decide), mJ_i (show (3 : Nat) ≠ 1 by decide), mJ_i (show (3 : Nat) ≠ 2 by decide), mJ_a (show (3 : Nat) ≠ 2 by decide), Nat.mul_zero, Nat.mul_one, Nat.zero_add, Nat.add_zero, Nat.reduceAdd, and_self]
  · intro hA
    unfold m4
    first
    | (exact absurd hA (by decide))
    | (simp only [mJ_a (show (2 : Nat) ≠ 3 by decide), mJ_a (show (2 : Nat) ≠ 1 by decide)]; exact ⟨b0, b1, b2, b3⟩)
  · intro hA i
    first
    | (exact absurd hA (by decide))
    | (simp only [mJ_a (show (1 : Nat) ≠ 3 by decide), mJ_a (show (1 : Nat) ≠ 2 by decide)])
theorem uU_ab (p q : Int) (a b : Nat) : uU p q (a + b) = uU p q (a + 1) * uU p q b + uU p q a * uU p q (b + 1) - p * (uU p q a * uU p q b) := by
  cases b with
  | zero => rw [uU_0, uU_1, Int.mul_zero, Int.mul_zero, Int.mul_zero, Int.mul_one, Int.zero_add, Int.sub_zero]; rfl
  | succ b =>
    rw [show a + (b + 1) = a + b + 1 from rfl, (uU_add p q a b).1, uU_s]
    simp only [Int.mul_sub, Int.mul_left_comm, Int.mul_comm]
    omega
def e_ (m : Nat) (z : Int) : Nat := (z % (m : Int)).toNat
theorem e_lt {m : Nat} {z : Int} (h : 0 < m) : e_ m z < m := by
  have := Int.emod_lt_of_pos z (show (0 : Int) < m by omega)
  have := Int.emod_nonneg z (show (m : Int) ≠ 0 by omega)
  unfold e_; omega
theorem e_c {m : Nat} {z : Int} (h : 0 < m) : ((e_ m z : Nat) : Int) = z % (m : Int) := toNat_mod h
theorem e_mm {m : Nat} (h : 0 < m) (a b c d : Int) : (e_ m a * e_ m b + e_ m c * e_ m d) % m = e_ m (a * b + c * d) := by
  apply Int.ofNat_inj.mp
  rw [e_c h, Int.natCast_emod, Int.natCast_add, Int.natCast_mul, Int.natCast_mul, e_c h, e_c h, e_c h, e_c h, Int.add_emod, ← Int.mul_emod, ← Int.mul_emod, ← Int.add_emod]
def mMx (σ : pM) (r : Nat) (p q : Int) (m a : Nat) : Prop := m4 σ r (e_ m (uU p q (a + 1))) (e_ m (-(q * uU p q a))) (e_ m (uU p q a)) (e_ m (uU p q (a + 1) - p * uU p q a))
theorem mMx_mul {p q : Int} {m : Nat} (h : 0 < m) (a b : Nat) : (e_ m (uU p q (a + 1)) * e_ m (uU p q (b + 1)) + e_ m (-(q * uU p q a)) * e_ m (uU p q b)) % m = e_ m (uU p q (a + b + 1)) ∧ (e_ m (uU p q (a + 1)) * e_ m (-(q * uU p q b)) + e_ m (-(q * uU p q a)) * e_ m (uU p q (b + 1) - p * uU p q b)) % m = e_ m (-(q * uU p q (a + b))) ∧ (e_ m (uU p q a) * e_ m (uU p q (b + 1)) + e_ m (uU p q (a + 1) - p * uU p q a) * e_ m (uU p q b)) % m = e_ m (uU p q (a + b)) ∧ (e_ m (uU p q a) * e_ m (-(q * uU p q b)) + e_ m (uU p q (a + 1) - p * uU p q a) * e_ m (uU p q (b + 1) - p * uU p q b)) % m = e_ m (uU p q (a + b + 1) - p * uU p q (a + b)) := by
  have h1 := (uU_add p q a b).1
  have h2 := uU_ab p q a b
  refine ⟨?_, ?_, ?_, ?_⟩
  · rw [e_mm h, h1]; congr 1; rw [Int.neg_mul, Int.mul_assoc]; omega
  · rw [e_mm h, h2]; congr 1
    simp only [Int.mul_add, Int.mul_sub, Int.neg_mul, Int.mul_neg, Int.mul_assoc, Int.mul_left_comm, Int.mul_comm]
    omega
  · rw [e_mm h, h2]; congr 1
    simp only [Int.sub_mul, Int.mul_sub, Int.mul_assoc, Int.mul_left_comm, Int.mul_comm]
    omega
  · rw [e_mm h, h1, h2]; congr 1
    simp only [Int.mul_add, Int.mul_sub, Int.sub_mul, Int.neg_mul, Int.mul_neg, Int.mul_assoc, Int.mul_left_comm, Int.mul_comm]
    omega
theorem my_mul1 (K m : Nat) (hK : 20 ≤ K) (hm0 : 0 < m) (hm : m ≤ 2 ^ 30) (p q : Int) (σ : pM) (a b : Nat) (h1 : mMx σ 1 p q m a) (h2 : mMx σ 2 p q m b) : ∃ σ', fnX1_times_1_2 K (lN m) σ = some σ' ∧ mEqJ σ σ' ∧ mMx σ' 1 p q m (a + b) ∧ mMx σ' 2 p q m b := by
  obtain ⟨k, rfl⟩ : ∃ j, K = j + 20 := ⟨K - 20, by omega⟩
  obtain ⟨σ', g1, g2, g3, g4, -⟩ := ty1_all (k + 20) k m hm0 hm σ _ _ _ _ _ _ _ _ h1 h2 (e_lt hm0) (e_lt hm0) (e_lt hm0) (e_lt hm0) (e_lt hm0) (e_lt hm0) (e_lt hm0) (e_lt hm0)
  obtain ⟨q1, q2, q3, q4⟩ := mMx_mul (p := p) (q := q) hm0 a b
  rw [q1, q2, q3, q4] at g3
  exact ⟨σ', g1, g2, g3, g4 rfl⟩
theorem my_mul2 (K m : Nat) (hK : 20 ≤ K) (hm0 : 0 < m) (hm : m ≤ 2 ^ 30) (p q : Int) (σ : pM) (a b : Nat) (h1 : mMx σ 1 p q m a) (h2 : mMx σ 2 p q m b) : ∃ σ', fnX1_times_2_2 K (lN m) σ = some σ' ∧ mEqJ σ σ' ∧ mMx σ' 1 p q m a ∧ mMx σ' 2 p q m (b + b) := by
  obtain ⟨k, rfl⟩ : ∃ j, K = j + 20 := ⟨K - 20, by omega⟩
  obtain ⟨σ', g1, g2, g3, -, g4⟩ := ty2_all (k + 20) k m hm0 hm σ _ _ _ _ _ _ _ _ h2 h2 (e_lt hm0) (e_lt hm0) (e_lt hm0) (e_lt hm0) (e_lt hm0) (e_lt hm0) (e_lt hm0) (e_lt hm0)
  obtain ⟨q1, q2, q3, q4⟩ := mMx_mul (p := p) (q := q) hm0 b b
  rw [q1, q2, q3, q4] at g3
  have g4 := g4 rfl
  exact ⟨σ', g1, g2, ⟨(g4 0).trans h1.1, (g4 1).trans h1.2.1, (g4 2).trans h1.2.2.1, (g4 3).trans h1.2.2.2⟩, g3⟩
theorem my_seq (K m : Nat) (hK : 20 ≤ K) (hm0 : 0 < m) (hm : m ≤ 2 ^ 30) (p q : Int) : ∀ t, t < 2 ^ 62 → ∀ kk σ a b, 2 * t + 1 ≤ kk → mMx σ 1 p q m a → mMx σ 2 p q m b → ∃ σ', (lfX1_sequence K kk).1 (lN m) (lN t) σ = some (lN (e_ m (uU p q (a + b * t))), σ') ∧ mEqJ σ σ' := by
  intro t
  induction t using Nat.strongRecOn with
  | ind t ih =>
    intro ht kk σ a b hk h1 h2
    obtain ⟨k, rfl⟩ : ∃ j, kk = j + 1 := ⟨kk - 1, by omega⟩
    rw [luX1_sequence_1]
    by_cases h0 : t = 0
    · subst h0
      rw [if_pos (show lN 0 ≤ 0 by decide), dzl]
      refine ⟨σ, ?_, mEqJ.rfl⟩
      rw [show Int32.toNatClampNeg 2 = 2 from rfl, h1.2.2.1, Nat.mul_zero, Nat.add_zero]
    · rw [if_neg (fun e => h0 (by have := (pk_lLE (b := 0) (by omega) (by omega)).mp e; omega)), pz_and1 (by omega)]
      obtain ⟨k, rfl⟩ : ∃ j, k = j + 1 := ⟨k - 1, by omega⟩
      have step : ∀ (s : pM) (a' : Nat), mMx s 1 p q m a' → mMx s 2 p q m b → mEqJ σ s → a' + (b + b) * (t / 2) = a + b * t → ∃ σ', (lfX1_sequence K (k + 1)).2 (lN m) (lN t) s = some (lN (e_ m (uU p q (a + b * t))), σ') ∧ mEqJ σ σ' := by
        intro s a' g1 g2 g3 g4
        obtain ⟨s2, f1, f2, f3, f4⟩ := my_mul2 K m hK hm0 hm p q s a' b g1 g2
        rw [luX1_sequence_2, f1, dzb, pf_shr (d := 1) (by decide) ht, dzl]
        obtain ⟨σ', z1, z2⟩ := ih (t / 2) (by omega) (by omega) k s2 a' (b + b) (by omega) f3 f4
        rw [g4] at z1
        exact ⟨σ', z1, g3.tr (f2.tr z2)⟩
      have ed : t = 2 * (t / 2) + t % 2 := by omega
      by_cases ho : t % 2 = 1
      · rw [if_pos ((lN1 (by omega)).mpr ho)]
        obtain ⟨s, f1, f2, f3, f4⟩ := my_mul1 K m hK hm0 hm p q σ a b h1 h2
        rw [f1, dzb]
        refine step s (a + b) f3 f4 f2 ?_
        have : b * t = b * (2 * (t / 2) + 1) := by rw [← ho]; exact congrArg _ ed
        rw [this, Nat.mul_add, Nat.mul_one, ← Nat.mul_assoc, Nat.mul_two]; omega
      · rw [if_neg (fun e => ho ((lN1 (by omega)).mp e))]
        refine step σ a h1 h2 mEqJ.rfl ?_
        have : b * t = b * (2 * (t / 2)) := congrArg _ (by omega)
        rw [this, ← Nat.mul_assoc, Nat.mul_two]
theorem e_n (m a : Nat) : e_ m (a : Int) = a % m := by
  unfold e_
  rw [← Int.natCast_emod]; rfl
theorem e_neg (m q : Nat) (h : 0 < m) : e_ m (-(q : Int)) = (m - q % m) % m := by
  have h1 := Nat.mod_lt q h
  apply Int.ofNat_inj.mp
  rw [e_c h, Int.natCast_emod, Int.ofNat_sub (by omega), Int.natCast_emod]
  have e2 : (m : Int) - (q : Int) % (m : Int) = -(q : Int) + (m : Int) * (1 + (q : Int) / (m : Int)) := by
    have := Int.emod_add_mul_ediv (q : Int) (m : Int)
    rw [Int.mul_add, Int.mul_one]; omega
  rw [e2, Int.add_mul_emod_self_left]
theorem hy_sequence (K : Nat) (p q t m : Nat) (σ : pM) (hm0 : 0 < m) (hm : m ≤ 2 ^ 30) (hp : p < 2 ^ 20) (hq : q < 2 ^ 20) (ht : t < 2 ^ 62) (hK : 2 * t + 30 ≤ K) : ∃ σ', fnX1_sequence K (lN p) (lN q) (lN t) (lN m) σ = some (lN (uM p q m t), σ') ∧ mEqJ σ σ' := by
  unfold fnX1_sequence
  have hz := pz_nz hm0 (show m < 2 ^ 63 by omega)
  rw [if_pos hz, show (1 : Int64) = lN 1 from rfl, pk_lRem (by omega) hm0 (by omega), pk_lRem (by omega) hm0 (by omega), pk_lRem (by omega) hm0 (by omega)]
  have hqm := Nat.mod_lt q hm0
  simp only [dzl, if_pos hz]
  rw [lN_sub (by omega), pk_lRem (by omega) hm0 (by omega)]
  refine (fun (h : ∀ s : pM, mEqJ σ s → mMx s 1 p q m 0 → mMx s 2 p q m 1 → ∃ σ', (lfX1_sequence K K).1 (lN m) (lN t) s = some (lN (uM p q m t), σ') ∧ mEqJ σ σ') => h _ ?_ ?_ ?_) ?_
  · exact ((((((mJ_J.tr mJ_J).tr mJ_J).tr mJ_J).tr mJ_J).tr mJ_J).tr mJ_J).tr mJ_J
  · unfold mMx m4
    simp only [mJ_eq, mJ_i (show (0 : Nat) ≠ 1 by decide), mJ_i (show (0 : Nat) ≠ 2 by decide), mJ_i (show (0 : Nat) ≠ 3 by decide), mJ_i (show (1 : Nat) ≠ 2 by decide), mJ_i (show (1 : Nat) ≠ 3 by decide), mJ_i (show (2 : Nat) ≠ 3 by decide), mJ_a (show (1 : Nat) ≠ 2 by decide), mJ_a (show (2 : Nat) ≠ 1 by decide), show Int32.toNatClampNeg 0 = 0 from rfl, show Int32.toNatClampNeg 1 = 1 from rfl, show Int32.toNatClampNeg 2 = 2 from rfl, show Int32.toNatClampNeg 3 = 3 from rfl, Nat.zero_add, uU_0, uU_1, Int.mul_zero, Int.neg_zero, Int.sub_zero]
    rw [show (1 : Int) = ((1 : Nat) : Int) from rfl, show (0 : Int) = ((0 : Nat) : Int) from rfl, e_n, e_n, Nat.zero_mod]
    exact ⟨Eq.refl _, Eq.refl _, Eq.refl _, Eq.refl _⟩
  · unfold mMx m4
    have u2 : uU p q (1 + 1) = (p : Int) := by rw [show 1 + 1 = 0 + 2 from rfl, uU_s, uU_0, uU_1, Int.mul_zero, Int.mul_one, Int.sub_zero]
    simp only [mJ_eq, mJ_i (show (0 : Nat) ≠ 1 by decide), mJ_i (show (0 : Nat) ≠ 2 by decide), mJ_i (show (0 : Nat) ≠ 3 by decide), mJ_i (show (1 : Nat) ≠ 2 by decide), mJ_i (show (1 : Nat) ≠ 3 by decide), mJ_i (show (2 : Nat) ≠ 3 by decide), mJ_a (show (1 : Nat) ≠ 2 by decide), mJ_a (show (2 : Nat) ≠ 1 by decide), show Int32.toNatClampNeg 0 = 0 from rfl, show Int32.toNatClampNeg 1 = 1 from rfl, show Int32.toNatClampNeg 2 = 2 from rfl, show Int32.toNatClampNeg 3 = 3 from rfl, u2, uU_1, Int.mul_one, Int.sub_self]
    rw [show (1 : Int) = ((1 : Nat) : Int) from rfl, show (0 : Int) = ((0 : Nat) : Int) from rfl, e_n, e_n, e_n, e_neg m q hm0, Nat.zero_mod]
    exact ⟨Eq.refl _, Eq.refl _, Eq.refl _, Eq.refl _⟩
  · intro s g1 g2 g3
    obtain ⟨σ', z1, z2⟩ := my_seq K m (by omega) hm0 hm p q t ht K s 0 1 (by omega) g2 g3
    rw [Nat.zero_add, Nat.one_mul] at z1
    exact ⟨σ', z1, g1.tr z2⟩
