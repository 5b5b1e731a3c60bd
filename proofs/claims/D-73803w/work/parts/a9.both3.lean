/-! Both: isFound -/
/-- rows with bases and the pair; cells of the search -/
def sQf (n : Nat) : Option (List sR × Nat × Nat) × Nat := match (sBl n (sQd n)).1 with
  | none => (none, (sBl n (sQd n)).2)
  | some l => ((sPair n (sQu n)).1.map (fun r => (l, r)), (sBl n (sQd n)).2 + (sPair n (sQu n)).2)
theorem sQf_no {n : Nat} (h : (sBl n (sQd n)).1 = none) : sQf n = (none, (sBl n (sQd n)).2) := by unfold sQf; rw [h]
theorem sQf_so {n : Nat} {l : List sR} (h : (sBl n (sQd n)).1 = some l) : sQf n = ((sPair n (sQu n)).1.map (fun r => (l, r)), (sBl n (sQd n)).2 + (sPair n (sQu n)).2) := by unfold sQf; rw [h]
def fOutW (ζ : pZ) (x n d db u ub h : Nat) (τ0 : pH) (o : Option (List sR × Nat × Nat)) (v : Int32) (t : pH) : Prop := match o with
  | some l => v = 1 ∧ ∃ das uas, zLx ζ t 9 x 4 n l.2.1 l.2.2 d db u ub h das uas l.1 (sQu n) ∧ (∀ y ∈ das, τ0.1 ≤ y ∧ y < t.1) ∧ (∀ y ∈ uas, τ0.1 ≤ y ∧ y < t.1) ∧ das.Nodup ∧ uas.Nodup ∧ (∀ y ∈ das, y ∉ uas)
  | none => v = 0
theorem hw_isFound (K : Nat) (ζ : pZ) (τ : pH) (x n d db u ub h : Nat) (hζ : ζ.1 ≤ τ.1) (H : zLx ζ τ 9 x 4 n 0 0 d db u ub h [] [] [] []) (hx : x ≠ d ∧ x ≠ db ∧ x ≠ u ∧ x ≠ ub) (hx2 : u ≠ d ∧ u ≠ db ∧ ub ≠ d ∧ ub ≠ db) (hn3 : 3 ≤ n) (hK : 2 ^ 50 ≤ K) : zR τ (fnX6_isFound_9 K ζ x τ) (fun v t => fOutW ζ x n d db u ub h τ (sQf n).1 v t ∧ zk (fun q => q = x ∨ (q = d ∨ q = db) ∨ (q = u ∨ q = ub)) τ t (sQc n + 1 + (sQf n).2) (5 * (sQc n + 2 + (sQf n).2))) := by
  have hL := H.1
  have hdl : d < τ.1 ∧ db < τ.1 ∧ u < τ.1 ∧ ub < τ.1 := by
    obtain ⟨f, a, a2, -⟩ := H.2.1.1
    obtain ⟨f, b, b2, -⟩ := H.2.1.2.2.1
    exact ⟨a.1.2, a2.1.2, b.1.2, b2.1.2⟩
  unfold fnX6_isFound_9
  refine zR_b hL.ob (zR_cl (hw_lays K ζ τ x n d db u ub h hζ H hx hx2 hn3 hK) (fun v t g P => ?_))
  obtain ⟨das, uas, H1, has, hus, hnd, hnd2, hdj, k1⟩ := P
  obtain ⟨hL1, ⟨hr1, hw1, hu1, hv1⟩, ok1, ok2, hn, hp, hq⟩ := H1
  have nin : ∀ y, y < τ.1 → y ∉ das := fun y hy hm => by have := (has y hm).1; omega
  have nin2 : ∀ y, y < τ.1 → y ∉ uas := fun y hy hm => by have := (hus y hm).1; omega
  have zt : ζ.1 ≤ t.1 := Nat.le_trans hζ g.1
  refine zR_b hL1.ob (zR_cl (hb_findsBases_9 K ζ t x 4 n 0 0 d db u h das (sQd n) zt (by omega) ok1 ⟨nin _ hdl.1, nin _ hdl.2.1⟩ (nin _ hL.1.2) hnd hL1 hr1 hw1 hK) (fun v t2 g2 P => ?_))
  obtain ⟨hb, k2⟩ := P
  have k12 : zk (fun q => q = x ∨ (q = d ∨ q = db) ∨ (q = u ∨ q = ub)) τ t2 (sQc n + (1 + (sBl n (sQd n)).2)) (5 * sQc n + 2 + 5 * (1 + (sBl n (sQd n)).2)) :=
    (k1.wk (fun q _ e => (Or.inr e : q = x ∨ (q = d ∨ q = db) ∨ (q = u ∨ q = ub)))).new (k2.wk (fun q _ hq => (Or.inr (has q hq).1 : (q = x ∨ (q = d ∨ q = db) ∨ (q = u ∨ q = ub)) ∨ τ.1 ≤ q)))
  obtain ⟨kk, hkk⟩ : ∃ j, K = j + 1 := ⟨K - 1, by omega⟩
  cases hs : (sBl n (sQd n)).1 with
  | none =>
    rw [hs] at hb
    rw [sQf_no hs]
    exact zR_t hb (zR_r ⟨rfl, k12.le (by omega) (by omega)⟩)
  | some l =>
    rw [hs] at hb
    rw [sQf_so hs]
    obtain ⟨hv, X, Y⟩ := hb
    subst hv
    have hL2 : zin ζ t2 x (lnE 9 4 n 0 0 d u h) := k2.in hL1 (nin _ hL.1.2)
    have hu2 : zRs ζ t2 u ub uas := hu1.k k2 (nin _ hdl.2.2.1) (nin _ hdl.2.2.2)
    have hv2 : zRw ζ t2 uas (sQu n) := hv1.k k2 (fun y hy e => hdj y e hy)
    have H2 : zLx ζ t2 9 x 4 n 0 0 d db u ub h das uas l (sQu n) := ⟨hL2, ⟨X, Y, hu2, hv2⟩, (sBl_ok ok1 hs).2, ok2, hn, hp, hq⟩
    refine zR_f (by decide) (zR_b hL2.ob (zR_cl (Q := fun v t => v = nb (decide ((4 : Nat) = 3 ∨ (4 : Nat) = 4)) ∧ t = t2) (zR_eq (hl_hasPair_9 K ζ t2 x 4 n 0 0 d u h hL2 (by omega) (by omega)) ⟨rfl, rfl⟩ zge.rfl) (fun v t3 _ P => ?_)))
    obtain ⟨rfl, rfl⟩ := P
    refine zR_f (by decide) (zR_b hL2.ob (zR_cl (hl_findsPair_9 K ζ t3 x 4 n 0 0 d db u ub h das uas l (sQu n) (Nat.le_trans zt g2.1) ⟨hx.1, hx.2.1, hx.2.2.1, hx.2.2.2, nin _ hL.1.2, nin2 _ hL.1.2⟩ H2 hK) (fun v t4 g4 P => ?_)))
    obtain ⟨hb, k3⟩ := P
    have k13 := (k12.tr (k3.wk (fun q _ e => (Or.inl e : q = x ∨ (q = d ∨ q = db) ∨ (q = u ∨ q = ub)))))
    have k14 : zk (fun q => q = x ∨ (q = d ∨ q = db) ∨ (q = u ∨ q = ub)) τ t4 (sQc n + 1 + ((sBl n (sQd n)).2 + (sPair n (sQu n)).2)) (5 * (sQc n + 2 + ((sBl n (sQd n)).2 + (sPair n (sQu n)).2))) := k13.le (by omega) (by omega)
    cases hp' : (sPair n (sQu n)).1 with
    | none =>
      rw [hp'] at hb
      exact zR_t hb (zR_r ⟨rfl, k14⟩)
    | some r =>
      rw [hp'] at hb
      obtain ⟨hv, Z⟩ := hb
      subst hv
      refine zR_f (by decide) ?_
      rw [hkk, luX6_isFound_9_1]
      have a1 := g2.1
      have a2 := g4.1
      exact zR_r ⟨⟨rfl, das, uas, Z, fun y hy => ⟨(has y hy).1, by have := (has y hy).2; omega⟩, fun y hy => ⟨(hus y hy).1, by have := (hus y hy).2; omega⟩, hnd, hnd2, hdj⟩, k14⟩
