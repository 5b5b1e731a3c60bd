/-! Lucas: the line found -/
def fOutL (ζ : pZ) (x n d db u ub h : Nat) (τ0 : pH) (o : Option (Nat × Nat)) (v : Int32) (t : pH) : Prop := match o with
  | some r => v = 1 ∧ ∃ uas, zLx ζ t 8 x 3 n r.1 r.2 d db u ub h [] uas [] (rw0 (sfac (n + 1))) ∧ (∀ y ∈ uas, τ0.1 ≤ y ∧ y < t.1) ∧ uas.Nodup
  | none => v = 0
theorem hu_isFound (K : Nat) (ζ : pZ) (τ : pH) (x n d db u ub h : Nat) (hζ : ζ.1 ≤ τ.1) (H : zLx ζ τ 8 x 3 n 0 0 d db u ub h [] [] [] []) (hx : x ≠ d ∧ x ≠ db ∧ x ≠ u ∧ x ≠ ub) (hx2 : d ≠ u ∧ d ≠ ub ∧ db ≠ u ∧ db ≠ ub) (hn3 : 3 ≤ n) (hK : 2 ^ 50 ≤ K) : zR τ (fnX6_isFound_8 K ζ x τ) (fun v t => fOutL ζ x n d db u ub h τ (sPair n (rw0 (sfac (n + 1)))).1 v t ∧ zk (fun q => q = x ∨ q = u ∨ q = ub) τ t (4 + (sfac (n + 1)).length + (sPair n (rw0 (sfac (n + 1)))).2) (15 + 3 * (sfac (n + 1)).length + 5 * (sPair n (rw0 (sfac (n + 1)))).2)) := by
  obtain ⟨hL, ⟨hr, hw, hr2, hw2⟩, ok1, ok2, hn, hp, hq⟩ := H
  have hul : u < τ.1 := by obtain ⟨f, a, -⟩ := hr2; exact a.1.2
  have hubl : ub < τ.1 := by obtain ⟨f, -, a, -⟩ := hr2; exact a.1.2
  unfold fnX6_isFound_8
  refine zR_b hL.ob ?_
  have hlays : zR τ (fnX11_lays K ζ x τ) (fun _ t => ∃ as, zLy ζ τ t u ub as (rw0 (sfac (n + 1))) (3 + (sfac (n + 1)).length) (13 + 3 * (sfac (n + 1)).length)) := by
    unfold fnX11_lays
    simp only [hL.ob, dzb, dzc, dzl, fl0, fl1, fl2, fl3, fl4, fl5, fl6, fl7, fi0, fi1, fi2, fi3, fi4, fi5, fi6, fi7, fr0, fr1, fr2, fr3, fr4, fr5, fr6, fr7, fs0, fs1, fs2, fs3, fs4, fs5, fs6, fs7]
    rw [lN_1]
    exact zR_cl (hl_laysAll_8 K ζ τ x u ub (n + 1) hζ hr2 (by omega) (by omega) hK) (fun v t _ P => zR_r P)
  refine zR_cl hlays (fun v t g P => ?_)
  obtain ⟨uas, hr1, hw1, has, hnd, k1⟩ := P
  have z1 : ζ.1 ≤ t.1 := Nat.le_trans hζ g.1
  have hL1 : zin ζ t x (lnE 8 3 n 0 0 d u h) := k1.in hL (fun e => e.elim hx.2.2.1 hx.2.2.2)
  have hd1 : zRs ζ t d db [] := hr.k k1 (fun e => e.elim hx2.1 hx2.2.1) (fun e => e.elim hx2.2.2.1 hx2.2.2.2)
  have nin : ∀ y, y < τ.1 → y ∉ uas := fun y hy hm => by have := (has y hm).1; omega
  have hokr := rw0_ok (n := n + 1) (by omega) (by omega)
  have H1 : zLx ζ t 8 x 3 n 0 0 d db u ub h [] uas [] (rw0 (sfac (n + 1))) := ⟨hL1, ⟨hd1, zRw.nil, hr1, hw1⟩, ok1, hokr, hn, by omega, by omega⟩
  obtain ⟨f, hd, hdb, -, hddb, -⟩ := hd1
  have hd1 : zRs ζ t d db [] := H1.2.1.1
  refine zR_b hL1.ob ?_
  have k2 : zk zno t (znw t 2 (itE 0 d)) 1 2 := zk_nw
  have hfb : zR t (fnX6_findsBases_8 K ζ x t) (fun v t2 => v = 1 ∧ t2 = znw t 2 (itE 0 d)) := by
    unfold fnX6_findsBases_8
    simp only [hL1.ob, hd.ob, dzb, dzc, dzl, fl0, fl1, fl2, fl3, fl4, fl5, fl6, fl7, fi0, fi1, fi2, fi3, fi4, fi5, fi6, fi7, fr0, fr1, fr2, fr3, fr4, fr5, fr6, fr7, fs0, fs1, fs2, fs3, fs4, fs5, fs6, fs7]
    refine zR_cl (Q := fun v t2 => v = t.1 ∧ t2 = znw t 2 (itE 0 d)) (zR_eq (hr_iter K ζ t d z1) ⟨rfl, rfl⟩ ⟨Nat.le_succ _, Nat.le_add_right _ _⟩) ?_
    intro v t2 _ P
    obtain ⟨rfl, rfl⟩ := P
    obtain ⟨kk, hkk⟩ : ∃ j, K = j + 1 := ⟨K - 1, by omega⟩
    have e : (lfX6_findsBases_8 K ζ K) x t.1 (znw t 2 (itE 0 d)) = (lfX6_findsBases_8 K ζ (kk + 1)) x t.1 (znw t 2 (itE 0 d)) := by rw [← hkk]
    rw [e, luX6_findsBases_8_1]
    exact zR_each K ζ _ t.1 0 d db [] _ _ _ (zin_nw z1) (k2.R hd1) (Nat.ne_of_gt hd.1.2) (Nat.ne_of_gt hdb.1.2) (Nat.le_refl _) (fun _ => zR_r ⟨rfl, rfl⟩) (fun h => absurd h (Nat.not_lt_zero _))
  refine zR_cl hfb (fun v t2 g2 P => ?_)
  obtain ⟨rfl, rfl⟩ := P
  have H2 := H1.k k2
  have z2 : ζ.1 ≤ (znw t 2 (itE 0 d)).1 := Nat.le_succ_of_le z1
  refine zR_f (by decide) (zR_b H2.1.ob (zR_cl (Q := fun v t' => v = nb (decide ((3 : Nat) = 3 ∨ (3 : Nat) = 4)) ∧ t' = znw t 2 (itE 0 d)) (zR_eq (hl_hasPair_8 K ζ (znw t 2 (itE 0 d)) x 3 n 0 0 d u h H2.1 (by omega) (by omega)) ⟨rfl, rfl⟩ zge.rfl) (fun v t3 _ P => ?_)))
  obtain ⟨rfl, rfl⟩ := P
  refine zR_f (by decide) (zR_b H2.1.ob (zR_cl (hl_findsPair_8 K ζ (znw t 2 (itE 0 d)) x 3 n 0 0 d db u ub h [] uas [] (rw0 (sfac (n + 1))) z2 ⟨hx.1, hx.2.1, hx.2.2.1, hx.2.2.2, List.not_mem_nil, nin _ hL.1.2⟩ H2 hK) (fun v t4 g4 P => ?_)))
  obtain ⟨hb, k3⟩ := P
  have k13 : zk (fun q => q = x ∨ q = u ∨ q = ub) τ t4 (4 + (sfac (n + 1)).length + (sPair n (rw0 (sfac (n + 1)))).2) (15 + 3 * (sfac (n + 1)).length + 5 * (sPair n (rw0 (sfac (n + 1)))).2) :=
    ((((k1.wk (fun q _ e => Or.inr e)).tr (k2.wk (fun _ _ e => e.elim))).tr (k3.wk (fun q _ e => Or.inl e)))).le (by omega) (by omega)
  obtain ⟨kk, hkk⟩ : ∃ j, K = j + 1 := ⟨K - 1, by omega⟩
  cases hs : (sPair n (rw0 (sfac (n + 1)))).1 with
  | none =>
    rw [hs] at hb
    exact zR_t hb (zR_r ⟨rfl, k13⟩)
  | some r =>
    rw [hs] at hb
    obtain ⟨hv, X⟩ := hb
    subst hv
    refine zR_f (by decide) ?_
    rw [hkk, luX6_isFound_8_1]
    refine zR_r ⟨⟨rfl, uas, X, fun y hy => ⟨(has y hy).1, ?_⟩, hnd⟩, k13⟩
    have h1 := (has y hy).2
    have h2 := g4.1
    have h3 : (znw t 2 (itE 0 d)).1 = t.1 + 1 := rfl
    omega
