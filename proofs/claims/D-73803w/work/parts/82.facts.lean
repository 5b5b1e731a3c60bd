/-! what the list of factors is -/
def fPr (fs : List (Nat × Nat)) : Nat := fs.foldr (fun x r => x.1 ^ x.2 * r) 1
theorem fPr_nil : fPr [] = 1 := rfl
theorem fPr_cons (x : Nat × Nat) (fs : List (Nat × Nat)) : fPr (x :: fs) = x.1 ^ x.2 * fPr fs := rfl
def fOk (q : Nat) (fs : List (Nat × Nat)) : Prop := (∀ x ∈ fs, pn_prime x.1 ∧ 1 ≤ x.2 ∧ q ≤ x.1) ∧ fs.Pairwise (fun a b => a.1 < b.1)
theorem md0 {a b c : Nat} (h1 : b % a = 0) (h2 : c % b = 0) : c % a = 0 := Nat.mod_eq_zero_of_dvd (Nat.dvd_trans (Nat.dvd_of_mod_eq_zero h1) (Nat.dvd_of_mod_eq_zero h2))
theorem fL_ok : ∀ k q l, 2 ≤ q → 0 < l → l < 2 ^ 31 → 1 ≤ k → q + k = 46343 → (∀ d, 2 ≤ d → d < q → ¬ l % d = 0) → fPr (fL k q l) = l ∧ fOk q (fL k q l) := by
  intro k
  induction k with
  | zero => intro q l _ _ _ h1; exact absurd h1 (by omega)
  | succ k ih =>
    intro q l h2 h0 hl _ hq hd
    rw [fL_s]
    by_cases h : l < q * q
    · rw [if_pos h]
      by_cases h1 : l ≤ 1
      · rw [if_pos h1]
        exact ⟨by rw [fPr_nil]; omega, fun x hx => (List.not_mem_nil hx).elim, List.Pairwise.nil⟩
      · rw [if_neg h1]
        refine ⟨by rw [fPr_cons, fPr_nil, Nat.pow_one, Nat.mul_one], fun x hx => ?_, List.pairwise_singleton _ _⟩
        rw [List.mem_singleton.mp hx]
        refine ⟨⟨by omega, fun d h3 h4 => hd d h3 ?_⟩, Nat.le_refl _, ?_⟩
        · rcases Nat.lt_or_ge d q with h5 | h5
          · exact h5
          · have := Nat.mul_le_mul h5 h5; omega
        · rcases Nat.lt_or_ge l q with h5 | h5
          · exact absurd (Nat.mod_self l) (hd l (by omega) h5)
          · exact h5
    · rw [if_neg h]
      have hq4 := nq_sq (q := q) (n := l) (by omega) hl
      obtain ⟨w1, w2, w3, w4, w5⟩ := fC_w q h2 l h0 l 0 (Nat.le_refl _)
      rw [Nat.sub_zero] at w4
      have hdv : l % (fC q l l 0).1 = 0 := Nat.mod_eq_zero_of_dvd ⟨q ^ (fC q l l 0).2, w4.symm⟩
      obtain ⟨r1, r2, r3⟩ := ih (q + 1) (fC q l l 0).1 (by omega) w1 (by omega) (by omega) (by omega) (fun d h3 h4 h5 => by
        rcases Nat.lt_or_ge d q with h6 | h6
        · exact hd d h3 h6 (md0 h5 hdv)
        · have : d = q := by omega
          subst this
          exact w2 h5)
      by_cases he : (fC q l l 0).2 = 0
      · rw [if_pos he, List.nil_append]
        rw [he, Nat.pow_zero, Nat.mul_one] at w4
        refine ⟨r1.trans w4, fun x hx => ?_, r3⟩
        obtain ⟨a, b, c⟩ := r2 x hx
        exact ⟨a, b, by omega⟩
      · rw [if_neg he]
        have hlq : l % q = 0 := by
          obtain ⟨j, hj⟩ : ∃ j, (fC q l l 0).2 = j + 1 := ⟨(fC q l l 0).2 - 1, by omega⟩
          have hw := w4
          rw [hj, Nat.pow_succ] at hw
          exact Nat.mod_eq_zero_of_dvd ⟨(fC q l l 0).1 * q ^ j, by rw [Nat.mul_comm q, Nat.mul_assoc]; exact hw.symm⟩
        refine ⟨?_, fun x hx => ?_, ?_⟩
        · rw [List.singleton_append, fPr_cons, r1, Nat.mul_comm]; exact w4
        · rcases List.mem_append.mp hx with hx | hx
          · rw [List.mem_singleton.mp hx]
            refine ⟨⟨by show 1 < q; omega, fun d h3 h4 h5 => hd d h3 ?_ (md0 h5 hlq)⟩, by show 1 ≤ (fC q l l 0).2; omega, Nat.le_refl _⟩
            have h4 : d * d ≤ q := h4
            rcases Nat.lt_or_ge d q with h6 | h6
            · exact h6
            · have := Nat.mul_le_mul h6 h6
              have : q * 2 ≤ q * q := Nat.mul_le_mul_left _ h2
              omega
          · obtain ⟨a, b, c⟩ := r2 x hx
            exact ⟨a, b, by omega⟩
        · rw [List.singleton_append]
          refine List.pairwise_cons.mpr ⟨fun x hx => ?_, r3⟩
          have := (r2 x hx).2.2
          show q < x.1
          omega
theorem sfac_ok (n : Nat) (h0 : 0 < n) (hn : n < 2 ^ 31) : fPr (sfac n) = n ∧ fOk 2 (sfac n) := fL_ok 46341 2 n (by omega) h0 hn (by omega) (by omega) (fun d a b => by omega)
theorem fPr_pos {q : Nat} (hq : 1 ≤ q) : ∀ fs, fOk q fs → 1 ≤ fPr fs := by
  intro fs
  induction fs with
  | nil => intro _; exact Nat.le_refl _
  | cons x fs ih =>
    intro h
    rw [fPr_cons]
    have h1 := (h.1 x List.mem_cons_self).2.2
    have h2 := ih ⟨fun y hy => h.1 y (List.mem_cons_of_mem _ hy), (List.pairwise_cons.mp h.2).2⟩
    have h3 : 1 ≤ x.1 ^ x.2 := Nat.one_le_pow _ _ (by omega)
    exact Nat.mul_le_mul h3 h2
theorem np_2 {x : Nat} (h : pn_prime x) (hx : 2 < x) : 3 ≤ x := by
  omega
theorem np_3 {x : Nat} (h : pn_prime x) (hx : 3 < x) : 5 ≤ x := by
  rcases Nat.lt_or_ge x 5 with h1 | h1
  · exfalso
    have : x = 4 := by omega
    rcases this with rfl
    · exact h.2 2 (by omega) (by omega) rfl
  · exact h1
theorem np_5 {x : Nat} (h : pn_prime x) (hx : 5 < x) : 7 ≤ x := by
  rcases Nat.lt_or_ge x 7 with h1 | h1
  · exfalso
    have : x = 6 := by omega
    rcases this with rfl
    · exact h.2 2 (by omega) (by omega) rfl
  · exact h1
theorem np_7 {x : Nat} (h : pn_prime x) (hx : 7 < x) : 11 ≤ x := by
  rcases Nat.lt_or_ge x 11 with h1 | h1
  · exfalso
    have : x = 8 ∨ x = 9 ∨ x = 10 := by omega
    rcases this with rfl | rfl | rfl
    · exact h.2 2 (by omega) (by omega) rfl
    · exact h.2 3 (by omega) (by omega) rfl
    · exact h.2 2 (by omega) (by omega) rfl
  · exact h1
theorem np_11 {x : Nat} (h : pn_prime x) (hx : 11 < x) : 13 ≤ x := by
  rcases Nat.lt_or_ge x 13 with h1 | h1
  · exfalso
    have : x = 12 := by omega
    rcases this with rfl
    · exact h.2 2 (by omega) (by omega) rfl
  · exact h1
theorem np_13 {x : Nat} (h : pn_prime x) (hx : 13 < x) : 17 ≤ x := by
  rcases Nat.lt_or_ge x 17 with h1 | h1
  · exfalso
    have : x = 14 ∨ x = 15 ∨ x = 16 := by omega
    rcases this with rfl | rfl | rfl
    · exact h.2 2 (by omega) (by omega) rfl
    · exact h.2 3 (by omega) (by omega) rfl
    · exact h.2 2 (by omega) (by omega) rfl
  · exact h1
theorem np_17 {x : Nat} (h : pn_prime x) (hx : 17 < x) : 19 ≤ x := by
  rcases Nat.lt_or_ge x 19 with h1 | h1
  · exfalso
    have : x = 18 := by omega
    rcases this with rfl
    · exact h.2 2 (by omega) (by omega) rfl
  · exact h1
theorem np_19 {x : Nat} (h : pn_prime x) (hx : 19 < x) : 23 ≤ x := by
  rcases Nat.lt_or_ge x 23 with h1 | h1
  · exfalso
    have : x = 20 ∨ x = 21 ∨ x = 22 := by omega
    rcases this with rfl | rfl | rfl
    · exact h.2 2 (by omega) (by omega) rfl
    · exact h.2 3 (by omega) (by omega) rfl
    · exact h.2 2 (by omega) (by omega) rfl
  · exact h1
theorem np_23 {x : Nat} (h : pn_prime x) (hx : 23 < x) : 29 ≤ x := by
  rcases Nat.lt_or_ge x 29 with h1 | h1
  · exfalso
    have : x = 24 ∨ x = 25 ∨ x = 26 ∨ x = 27 ∨ x = 28 := by omega
    rcases this with rfl | rfl | rfl | rfl | rfl
    · exact h.2 2 (by omega) (by omega) rfl
    · exact h.2 5 (by omega) (by omega) rfl
    · exact h.2 2 (by omega) (by omega) rfl
    · exact h.2 3 (by omega) (by omega) rfl
    · exact h.2 2 (by omega) (by omega) rfl
  · exact h1
theorem fp_step {p q m : Nat} {x : Nat × Nat} {fs : List (Nat × Nat)} (hx : pn_prime x.1 ∧ 1 ≤ x.2 ∧ q ≤ x.1) (hp : p ≤ x.1) (hm : m ≤ fPr fs) : p * m ≤ fPr (x :: fs) := by
  rw [fPr_cons]
  have h1 : x.1 ≤ x.1 ^ x.2 := by
    have := Nat.pow_le_pow_right (n := x.1) (by have := hx.1.1; omega) hx.2.1
    rw [Nat.pow_one] at this
    exact this
  exact Nat.mul_le_mul (Nat.le_trans hp h1) hm
theorem fp_len (n : Nat) (h0 : 0 < n) (hn : n ≤ 1000000001) : (sfac n).length ≤ 9 := by
  obtain ⟨e, h⟩ := sfac_ok n h0 (by omega)
  rcases Nat.lt_or_ge 9 (sfac n).length with hl | hl
  · exfalso
    generalize sfac n = fs at e h hl
    obtain ⟨x0, fs, rfl⟩ : ∃ x t, fs = x :: t := by
      cases fs with
      | nil => exact absurd hl (by simp)
      | cons x t => exact ⟨x, t, rfl⟩
    have hl : 8 < fs.length := by rw [List.length_cons] at hl; omega
    obtain ⟨x1, fs, rfl⟩ : ∃ x t, fs = x :: t := by
      cases fs with
      | nil => exact absurd hl (by simp)
      | cons x t => exact ⟨x, t, rfl⟩
    have hl : 7 < fs.length := by rw [List.length_cons] at hl; omega
    obtain ⟨x2, fs, rfl⟩ : ∃ x t, fs = x :: t := by
      cases fs with
      | nil => exact absurd hl (by simp)
      | cons x t => exact ⟨x, t, rfl⟩
    have hl : 6 < fs.length := by rw [List.length_cons] at hl; omega
    obtain ⟨x3, fs, rfl⟩ : ∃ x t, fs = x :: t := by
      cases fs with
      | nil => exact absurd hl (by simp)
      | cons x t => exact ⟨x, t, rfl⟩
    have hl : 5 < fs.length := by rw [List.length_cons] at hl; omega
    obtain ⟨x4, fs, rfl⟩ : ∃ x t, fs = x :: t := by
      cases fs with
      | nil => exact absurd hl (by simp)
      | cons x t => exact ⟨x, t, rfl⟩
    have hl : 4 < fs.length := by rw [List.length_cons] at hl; omega
    obtain ⟨x5, fs, rfl⟩ : ∃ x t, fs = x :: t := by
      cases fs with
      | nil => exact absurd hl (by simp)
      | cons x t => exact ⟨x, t, rfl⟩
    have hl : 3 < fs.length := by rw [List.length_cons] at hl; omega
    obtain ⟨x6, fs, rfl⟩ : ∃ x t, fs = x :: t := by
      cases fs with
      | nil => exact absurd hl (by simp)
      | cons x t => exact ⟨x, t, rfl⟩
    have hl : 2 < fs.length := by rw [List.length_cons] at hl; omega
    obtain ⟨x7, fs, rfl⟩ : ∃ x t, fs = x :: t := by
      cases fs with
      | nil => exact absurd hl (by simp)
      | cons x t => exact ⟨x, t, rfl⟩
    have hl : 1 < fs.length := by rw [List.length_cons] at hl; omega
    obtain ⟨x8, fs, rfl⟩ : ∃ x t, fs = x :: t := by
      cases fs with
      | nil => exact absurd hl (by simp)
      | cons x t => exact ⟨x, t, rfl⟩
    have hl : 0 < fs.length := by rw [List.length_cons] at hl; omega
    obtain ⟨x9, fs, rfl⟩ : ∃ x t, fs = x :: t := by
      cases fs with
      | nil => exact absurd hl (by simp)
      | cons x t => exact ⟨x, t, rfl⟩
    obtain ⟨ha, hb⟩ := h
    have a0 := ha x0 List.mem_cons_self
    have a1 := ha x1 (List.mem_cons_of_mem _ List.mem_cons_self)
    have a2 := ha x2 (List.mem_cons_of_mem _ (List.mem_cons_of_mem _ List.mem_cons_self))
    have a3 := ha x3 (List.mem_cons_of_mem _ (List.mem_cons_of_mem _ (List.mem_cons_of_mem _ List.mem_cons_self)))
    have a4 := ha x4 (List.mem_cons_of_mem _ (List.mem_cons_of_mem _ (List.mem_cons_of_mem _ (List.mem_cons_of_mem _ List.mem_cons_self))))
    have a5 := ha x5 (List.mem_cons_of_mem _ (List.mem_cons_of_mem _ (List.mem_cons_of_mem _ (List.mem_cons_of_mem _ (List.mem_cons_of_mem _ List.mem_cons_self)))))
    have a6 := ha x6 (List.mem_cons_of_mem _ (List.mem_cons_of_mem _ (List.mem_cons_of_mem _ (List.mem_cons_of_mem _ (List.mem_cons_of_mem _ (List.mem_cons_of_mem _ List.mem_cons_self))))))
    have a7 := ha x7 (List.mem_cons_of_mem _ (List.mem_cons_of_mem _ (List.mem_cons_of_mem _ (List.mem_cons_of_mem _ (List.mem_cons_of_mem _ (List.mem_cons_of_mem _ (List.mem_cons_of_mem _ List.mem_cons_self)))))))
    have a8 := ha x8 (List.mem_cons_of_mem _ (List.mem_cons_of_mem _ (List.mem_cons_of_mem _ (List.mem_cons_of_mem _ (List.mem_cons_of_mem _ (List.mem_cons_of_mem _ (List.mem_cons_of_mem _ (List.mem_cons_of_mem _ List.mem_cons_self))))))))
    have a9 := ha x9 (List.mem_cons_of_mem _ (List.mem_cons_of_mem _ (List.mem_cons_of_mem _ (List.mem_cons_of_mem _ (List.mem_cons_of_mem _ (List.mem_cons_of_mem _ (List.mem_cons_of_mem _ (List.mem_cons_of_mem _ (List.mem_cons_of_mem _ List.mem_cons_self)))))))))
    have c0 : 2 ≤ x0.1 := a0.2.2
    have p0 := (List.pairwise_cons.mp hb)
    have c1 := np_2 a1.1 (Nat.lt_of_le_of_lt c0 (p0.1 x1 List.mem_cons_self))
    have p1 := (List.pairwise_cons.mp p0.2)
    have c2 := np_3 a2.1 (Nat.lt_of_le_of_lt c1 (p1.1 x2 List.mem_cons_self))
    have p2 := (List.pairwise_cons.mp p1.2)
    have c3 := np_5 a3.1 (Nat.lt_of_le_of_lt c2 (p2.1 x3 List.mem_cons_self))
    have p3 := (List.pairwise_cons.mp p2.2)
    have c4 := np_7 a4.1 (Nat.lt_of_le_of_lt c3 (p3.1 x4 List.mem_cons_self))
    have p4 := (List.pairwise_cons.mp p3.2)
    have c5 := np_11 a5.1 (Nat.lt_of_le_of_lt c4 (p4.1 x5 List.mem_cons_self))
    have p5 := (List.pairwise_cons.mp p4.2)
    have c6 := np_13 a6.1 (Nat.lt_of_le_of_lt c5 (p5.1 x6 List.mem_cons_self))
    have p6 := (List.pairwise_cons.mp p5.2)
    have c7 := np_17 a7.1 (Nat.lt_of_le_of_lt c6 (p6.1 x7 List.mem_cons_self))
    have p7 := (List.pairwise_cons.mp p6.2)
    have c8 := np_19 a8.1 (Nat.lt_of_le_of_lt c7 (p7.1 x8 List.mem_cons_self))
    have p8 := (List.pairwise_cons.mp p7.2)
    have c9 := np_23 a9.1 (Nat.lt_of_le_of_lt c8 (p8.1 x9 List.mem_cons_self))
    have hfin : 1 ≤ fPr fs := fPr_pos (q := 2) (by omega) fs ⟨fun y hy => ha y (by simp [hy]), (List.pairwise_cons.mp p8.2).2⟩
    have := (fp_step a0 c0 (fp_step a1 c1 (fp_step a2 c2 (fp_step a3 c3 (fp_step a4 c4 (fp_step a5 c5 (fp_step a6 c6 (fp_step a7 c7 (fp_step a8 c8 (fp_step a9 c9 hfin))))))))))
    rw [e] at this
    omega
  · exact hl
