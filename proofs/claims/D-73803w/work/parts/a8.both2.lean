/-! Both: the line found -/
def sQ (n : Nat) : (Nat × Nat) × Nat := sQi n (rw0 (sfac (n - 1))) (rw0 (sfac (n + 1))) ((sfac (n - 1)).length + (sfac (n + 1)).length) (sfac (n - 1)).length (sfac (n + 1)).length true
def sQd (n : Nat) : List sR := ((rw0 (sfac (n - 1))).drop (sQ n).1.1).reverse
def sQu (n : Nat) : List sR := ((rw0 (sfac (n + 1))).drop (sQ n).1.2).reverse
def sQc (n : Nat) : Nat := 4 + 3 * (sfac (n - 1)).length + 3 * (sfac (n + 1)).length
theorem nd_dr {as : List Nat} (h : as.Nodup) (j : Nat) : ((as.drop j).reverse).Nodup := by
  have h1 : (as.drop j).Nodup := List.Pairwise.sublist (List.drop_sublist _ _) h
  exact List.pairwise_reverse.mpr (h1.imp (fun e => Ne.symm e))
theorem hw_lays (K : Nat) (ζ : pZ) (τ : pH) (x n d db u ub h : Nat) (hζ : ζ.1 ≤ τ.1) (H : zLx ζ τ 9 x 4 n 0 0 d db u ub h [] [] [] []) (hx : x ≠ d ∧ x ≠ db ∧ x ≠ u ∧ x ≠ ub) (hx2 : u ≠ d ∧ u ≠ db ∧ ub ≠ d ∧ ub ≠ db) (hn3 : 3 ≤ n) (hK : 2 ^ 50 ≤ K) : zR τ (fnX12_lays K ζ x τ) (fun _ t => ∃ as bs, zLx ζ t 9 x 4 n 0 0 d db u ub h as bs (sQd n) (sQu n) ∧ (∀ y ∈ as, τ.1 ≤ y ∧ y < t.1) ∧ (∀ y ∈ bs, τ.1 ≤ y ∧ y < t.1) ∧ as.Nodup ∧ bs.Nodup ∧ (∀ y ∈ as, y ∉ bs) ∧ zk (fun q => (q = d ∨ q = db) ∨ (q = u ∨ q = ub)) τ t (sQc n) (5 * sQc n + 2)) := by
  obtain ⟨hL, ⟨hr, hw, hr2, hw2⟩, ok1, ok2, hn, hp, hq⟩ := id H
  have hdl : d < τ.1 ∧ db < τ.1 ∧ u < τ.1 ∧ ub < τ.1 := by
    obtain ⟨f, a, a2, -⟩ := hr
    obtain ⟨f, b, b2, -⟩ := hr2
    exact ⟨a.1.2, a2.1.2, b.1.2, b2.1.2⟩
  unfold fnX12_lays
  simp only [hL.ob, dzb, dzc, dzl, fl0, fl1, fl2, fl3, fl4, fl5, fl6, fl7, fi0, fi1, fi2, fi3, fi4, fi5, fi6, fi7, fr0, fr1, fr2, fr3, fr4, fr5, fr6, fr7, fs0, fs1, fs2, fs3, fs4, fs5, fs6, fs7]
  rw [lN_m1 (by omega)]
  refine zR_cl (hx_factors K ζ τ (n - 1) hζ (by omega) (by omega) (fp_len (n - 1) (by omega) (by omega)) hK) (fun v s g P => ?_)
  obtain ⟨rfl, as, k1, hr1, hw1, has, hnd⟩ := P
  have H1 := H.k k1
  have z1 : ζ.1 ≤ s.1 := Nat.le_trans hζ g.1
  simp only [H1.1.ob, dzb, dzc, dzl, fl0, fl1, fl2, fl3, fl4, fl5, fl6, fl7, fi0, fi1, fi2, fi3, fi4, fi5, fi6, fi7, fr0, fr1, fr2, fr3, fr4, fr5, fr6, fr7, fs0, fs1, fs2, fs3, fs4, fs5, fs6, fs7]
  rw [lN_1]
  refine zR_cl (hx_factors K ζ s (n + 1) z1 (by omega) (by omega) (fp_len (n + 1) (by omega) (by omega)) hK) (fun v t g' P => ?_)
  obtain ⟨rfl, bs, k2, hr3, hw3, hbs, hnd2⟩ := P
  have hr1 := k2.R hr1
  have hw1 : zRw ζ t as (rw0 (sfac (n - 1))) := k2.W hw1
  have hw3 : zRw ζ t bs (rw0 (sfac (n + 1))) := hw3
  have H2 := H1.k k2
  obtain ⟨f, ha1, hb1, hl9, hab, hf⟩ := id hr1
  obtain ⟨f', ha1', hb1', hl9', hab', hf'⟩ := id hr3
  simp only [ha1.ob, ha1'.ob, dzb, dzc, dzl, fl0, fl1, fl2, fl3, fl4, fl5, fl6, fl7, fi0, fi1, fi2, fi3, fi4, fi5, fi6, fi7, fr0, fr1, fr2, fr3, fr4, fr5, fr6, fr7, fs0, fs1, fs2, fs3, fs4, fs5, fs6, fs7]
  have hlen : as.length = (sfac (n - 1)).length := by rw [hw1.1, rw0_len]
  have hlen2 : bs.length = (sfac (n + 1)).length := by rw [hw3.1, rw0_len]
  have e1 : (as.drop as.length).reverse = [] := by rw [List.drop_eq_nil_of_le (Nat.le_refl _)]; rfl
  have e2 : ((rw0 (sfac (n - 1))).drop as.length).reverse = [] := by rw [List.drop_eq_nil_of_le (by rw [← hw1.1]; exact Nat.le_refl _)]; rfl
  have e3 : (bs.drop bs.length).reverse = [] := by rw [List.drop_eq_nil_of_le (Nat.le_refl _)]; rfl
  have e4 : ((rw0 (sfac (n + 1))).drop bs.length).reverse = [] := by rw [List.drop_eq_nil_of_le (by rw [← hw3.1]; exact Nat.le_refl _)]; rfl
  have H3 : zLx ζ t 9 x 4 n 0 0 d db u ub h (as.drop as.length).reverse (bs.drop bs.length).reverse ((rw0 (sfac (n - 1))).drop as.length).reverse ((rw0 (sfac (n + 1))).drop bs.length).reverse := by rw [e1, e2, e3, e4]; exact H2
  have g1 := g.1
  refine zR_imp (hw_loop K ζ τ x n d db u ub h τ.1 (τ.1 + 1) s.1 (s.1 + 1) as bs (rw0 (sfac (n - 1))) (rw0 (sfac (n + 1))) hdl ⟨Nat.le_refl _, Nat.le_succ _, g1, by omega⟩ (fun y hy => by have := (has y hy).1; omega) (fun y hy => by have := (hbs y hy).1; omega) hx hx2 (rw0_ok (by omega) (by omega)) (rw0_ok (by omega) (by omega)) (fun j => by have := sProd_dr (n - 1) (by omega) (by omega) j; omega) (fun j => by have := sProd_dr (n + 1) (by omega) (by omega) j; omega) (by omega) (as.length + bs.length) as.length bs.length true K t _ _ rfl (Nat.le_refl _) (Nat.le_refl _) ((k1.tr k2).wk (fun _ _ e => e.elim)) (Nat.le_trans z1 g'.1) hr1 hw1 hr3 hw3 H3 (by omega)) (fun v t' g2 P => ?_)
  obtain ⟨A, B⟩ := P
  rw [hlen, hlen2] at A B
  have le := sQi_le n (rw0 (sfac (n - 1))) (rw0 (sfac (n + 1))) ((sfac (n - 1)).length + (sfac (n + 1)).length) (sfac (n - 1)).length (sfac (n + 1)).length true
  have h2 := g2.1
  have h3 := g'.1
  refine ⟨_, _, A, fun y hy => ?_, fun y hy => ?_, nd_dr hnd _, nd_dr hnd2 _, fun y hy hy2 => ?_, B.le (by unfold sQc; omega) (by unfold sQc; omega)⟩
  · have h1 := has y (List.mem_of_mem_drop (List.mem_reverse.mp hy))
    omega
  · have h1 := hbs y (List.mem_of_mem_drop (List.mem_reverse.mp hy))
    omega
  · have h1 := has y (List.mem_of_mem_drop (List.mem_reverse.mp hy))
    have h4 := hbs y (List.mem_of_mem_drop (List.mem_reverse.mp hy2))
    omega
