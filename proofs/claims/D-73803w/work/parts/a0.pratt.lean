/-! Pratt: the base, the line found -/
theorem map_wB (a b : Nat) (dn : List sR) : (dn.map (wB b)).map (wB a) = dn.map (wB a) := by rw [List.map_map]; rfl
/-- how the search for a base ends -/
def bOut (ζ : pZ) (d db : Nat) (das : List Nat) (dn : List sR) (o : Option Nat) (v : Int32) (t : pH) : Prop := match o with
  | some a => v = 1 ∧ zRs ζ t d db das ∧ zRw ζ t das (dn.map (wB a))
  | none => v = 0
theorem hp_loop (K : Nat) (ζ : pZ) (x s n p q d db u h : Nat) (das : List Nat) (dn : List sR) (hn : 1 ≤ n ∧ n ≤ 1000000000) (hok : ∀ r ∈ dn, sRok r) (h4 : d ∉ das ∧ db ∉ das) (h5 : x ∉ das) (hnd : das.Nodup) (hl : das.length = dn.length) (hK : 2 ^ 50 ≤ K) : ∀ m a b kk τ, a + m = 1000 → ζ.1 ≤ τ.1 → zin ζ τ x (lnE 6 s n p q d u h) → zRs ζ τ d db das → zRw ζ τ das (dn.map (wB b)) → m * 30 + 2 ≤ kk →
    zR τ ((lfX9_findsBases K ζ kk).1 x (nI a) τ) (fun v t => bOut ζ d db das dn (sBs n dn m a).1 v t ∧ zk (fun q => q ∈ das) τ t (sBs n dn m a).2 (5 * (sBs n dn m a).2)) := by
  intro m
  induction m with
  | zero =>
    intro a b kk τ ha hζ hL hr hw hk
    obtain ⟨k, rfl⟩ : ∃ j, kk = j + 1 := ⟨kk - 1, by omega⟩
    obtain rfl : a = 1000 := by omega
    rw [luX9_findsBases_1]
    exact zR_t (show (999 : Int32) < nI 1000 by decide) (zR_r ⟨rfl, zk.rfl⟩)
  | succ m ih =>
    intro a b kk τ ha hζ hL hr hw hk
    obtain ⟨k, rfl⟩ : ∃ j, kk = j + 1 := ⟨kk - 1, by omega⟩
    have hr0 := hr
    obtain ⟨f, hd, hdb, hl9, -, -⟩ := hr
    rw [luX9_findsBases_1]
    refine zR_f (show ¬ (999 : Int32) < nI a from nI_nlt (b := a) (a := 999) (by omega) (by omega)) ?_
    simp only [hL.ob, hd.ob, dzb, dzc, dzl, fl0, fl1, fl2, fl3, fl4, fl5, fl6, fl7, fi0, fi1, fi2, fi3, fi4, fi5, fi6, fi7, fr0, fr1, fr2, fr3, fr4, fr5, fr6, fr7, fs0, fs1, fs2, fs3, fs4, fs5, fs6, fs7]
    refine zR_cl (Q := fun v t => v = τ.1 ∧ t = znw τ 2 (itE 0 d)) (zR_eq (hr_iter K ζ τ d hζ) ⟨rfl, rfl⟩ ⟨Nat.le_succ _, Nat.le_add_right _ _⟩) ?_
    intro v t _ P
    obtain ⟨rfl, rfl⟩ := P
    have k1 : zk zno τ (znw τ 2 (itE 0 d)) 1 2 := zk_nw
    have nw : ∀ {t c s'}, zk (fun q => q = τ.1 ∨ q ∈ das) (znw τ 2 (itE 0 d)) t c s' → zk (fun q => q ∈ das) τ t (1 + c) (2 + s') := by
      intro t c s' kz
      have := (zk.wk (S' := fun q => q ∈ das) k1 (fun _ _ e => e.elim)).new (kz.wk (fun q _ e => e.elim (fun e => (Or.inr (by rw [e]; exact Nat.le_refl _) : q ∈ das ∨ τ.1 ≤ q)) Or.inl))
      exact this
    rw [sBs_s]
    have hL1 := k1.i hL
    have hw1 : zRw ζ (znw τ 2 (itE 0 d)) das (mix a b 0 dn) := k1.W hw
    have htl := zin_as_ne hw
    refine hp_on K ζ x s n p q d db u h τ.1 a b das dn (by omega) hn hok (Nat.ne_of_gt hd.1.2) (Nat.ne_of_gt hdb.1.2) htl h4 ⟨Nat.ne_of_lt hL.1.2, h5⟩ hnd hK _ das.length 0 k _ (by omega) (Nat.le_succ_of_le hζ) hL1 (zin_nw hζ) (k1.R hr0) hw1 hl (by omega) (fun t e g kz X Y => ?_) (fun t k' e f g kz X Y => ?_)
    · rw [List.drop_zero] at e kz
      rw [if_pos e]
      exact ⟨⟨rfl, X, Y⟩, (nw kz).le (by show _ ≤ 1 + sBc n a dn; omega) (by show _ ≤ 5 * (1 + sBc n a dn); omega)⟩
    · rw [List.drop_zero] at e kz
      rw [if_neg (by rw [e]; decide)]
      have kz' := nw kz
      have hL2 : zin ζ t x (lnE 6 s n p q d u h) := kz'.in hL h5
      refine zR_imp (ih (a + 1) a k' t (by omega) (Nat.le_trans (Nat.le_succ_of_le hζ) g.1) hL2 X Y (by omega)) (fun v t2 _ P => ⟨P.1, ?_⟩)
      exact (kz'.tr P.2).le (by show _ ≤ 1 + sBc n a dn + (sBs n dn m (a + 1)).2; omega) (by show _ ≤ 5 * (1 + sBc n a dn + (sBs n dn m (a + 1)).2); omega)
theorem hp_findsBases (K : Nat) (ζ : pZ) (τ : pH) (x s n p q d db u h b : Nat) (das : List Nat) (dn : List sR) (hζ : ζ.1 ≤ τ.1) (hn : 1 ≤ n ∧ n ≤ 1000000000) (hok : ∀ r ∈ dn, sRok r) (h4 : d ∉ das ∧ db ∉ das) (h5 : x ∉ das) (hnd : das.Nodup) (hl : das.length = dn.length) (hL : zin ζ τ x (lnE 6 s n p q d u h)) (hr : zRs ζ τ d db das) (hw : zRw ζ τ das (dn.map (wB b))) (hK : 2 ^ 50 ≤ K) : zR τ (fnX9_findsBases K ζ x τ) (fun v t => bOut ζ d db das dn (sBase n dn).1 v t ∧ zk (fun q => q ∈ das) τ t (sBase n dn).2 (5 * (sBase n dn).2)) :=
  hp_loop K ζ x s n p q d db u h das dn hn hok h4 h5 hnd hl hK 998 2 b K τ (by omega) hζ hL hr hw (by omega)
theorem rw0_wB (fs : List (Nat × Nat)) : (rw0 fs).map (wB 0) = rw0 fs := by
  unfold rw0
  rw [List.map_map]
  rfl
theorem rw0_ok {n : Nat} (h0 : 0 < n) (hn : n ≤ 1000000001) : ∀ r ∈ rw0 (sfac n), sRok r := by
  intro r hr
  unfold rw0 at hr
  obtain ⟨x, hx, rfl⟩ := List.mem_map.mp hr
  exact sfac_rok n h0 hn x hx
theorem sBs_b (n : Nat) (rs : List sR) : ∀ m a r, (sBs n rs m a).1 = some r → a ≤ r ∧ r < a + m ∧ sBok n r rs = true := by
  intro m
  induction m with
  | zero => intro a r h; cases h
  | succ m ih =>
    intro a r h
    rw [sBs_s] at h
    by_cases hc : sBok n a rs = true
    · rw [if_pos hc] at h
      have : a = r := Option.some.inj h
      subst this
      exact ⟨Nat.le_refl _, by omega, hc⟩
    · rw [if_neg hc] at h
      have := ih (a + 1) r h
      exact ⟨by omega, by omega, this.2.2⟩
/-- how a line of the sort Pratt is found: its rows with their base; else nothing is said of it but that old cells are kept -/
def fOutP (ζ : pZ) (x n d db u ub h : Nat) (τ0 : pH) (o : Option Nat) (v : Int32) (t : pH) : Prop := match o with
  | some a => v = 1 ∧ ∃ das, zLx ζ t 6 x 1 n 0 0 d db u ub h das [] ((rw0 (sfac (n - 1))).map (wB a)) [] ∧ (∀ y ∈ das, τ0.1 ≤ y ∧ y < t.1) ∧ das.Nodup
  | none => v = 0
theorem hp_isFound (K : Nat) (ζ : pZ) (τ : pH) (x n d db u ub h : Nat) (hζ : ζ.1 ≤ τ.1) (H : zLx ζ τ 6 x 1 n 0 0 d db u ub h [] [] [] []) (hx : x ≠ d ∧ x ≠ db ∧ u ≠ d ∧ u ≠ db ∧ ub ≠ d ∧ ub ≠ db) (hn3 : 3 ≤ n) (hK : 2 ^ 50 ≤ K) : zR τ (fnX6_isFound_6 K ζ x τ) (fun v t => fOutP ζ x n d db u ub h τ (sBase n (rw0 (sfac (n - 1)))).1 v t ∧ zk (fun q => q = d ∨ q = db) τ t (3 + (sfac (n - 1)).length + (sBase n (rw0 (sfac (n - 1)))).2) (13 + 3 * (sfac (n - 1)).length + 5 * (sBase n (rw0 (sfac (n - 1)))).2)) := by
  have H0 := H
  obtain ⟨hL, ⟨hr, hw, hr2, hw2⟩, ok1, ok2, hn, hp, hq⟩ := H
  have hdl : d < τ.1 := by obtain ⟨f, a, -⟩ := hr; exact a.1.2
  have hdbl : db < τ.1 := by obtain ⟨f, -, a, -⟩ := hr; exact a.1.2
  unfold fnX6_isFound_6
  refine zR_b hL.ob ?_
  have hlays : zR τ (fnX9_lays K ζ x τ) (fun _ t => ∃ as, zLy ζ τ t d db as (rw0 (sfac (n - 1))) (3 + (sfac (n - 1)).length) (13 + 3 * (sfac (n - 1)).length)) := by
    unfold fnX9_lays
    simp only [hL.ob, dzb, dzc, dzl, fl0, fl1, fl2, fl3, fl4, fl5, fl6, fl7, fi0, fi1, fi2, fi3, fi4, fi5, fi6, fi7, fr0, fr1, fr2, fr3, fr4, fr5, fr6, fr7, fs0, fs1, fs2, fs3, fs4, fs5, fs6, fs7]
    rw [lN_m1 (by omega)]
    exact zR_cl (hl_laysAll_6 K ζ τ x d db (n - 1) hζ hr (by omega) (by omega) hK) (fun v t _ P => zR_r P)
  refine zR_cl hlays (fun v t g P => ?_)
  obtain ⟨das, hr1, hw1, has, hnd, k1⟩ := P
  have hL1 : zin ζ t x (lnE 6 1 n 0 0 d u h) := k1.in hL (fun e => e.elim hx.1 hx.2.1)
  have hu1 : zRs ζ t u ub [] := hr2.k k1 (fun e => e.elim hx.2.2.1 hx.2.2.2.1) (fun e => e.elim hx.2.2.2.2.1 hx.2.2.2.2.2)
  have nin : ∀ y, y < τ.1 → y ∉ das := fun y hy hm => by have := (has y hm).1; omega
  refine zR_b hL1.ob ?_
  have hokr := rw0_ok (n := n - 1) (by omega) (by omega)
  have hww : zRw ζ t das ((rw0 (sfac (n - 1))).map (wB 0)) := by rw [rw0_wB]; exact hw1
  refine zR_cl (hp_findsBases K ζ t x 1 n 0 0 d db u h 0 das (rw0 (sfac (n - 1))) (Nat.le_trans hζ g.1) (by omega) hokr ⟨nin _ hdl, nin _ hdbl⟩ (nin _ hL.1.2) hnd hw1.1 hL1 hr1 hww hK) (fun v t2 g2 P => ?_)
  obtain ⟨hb, k2⟩ := P
  have k12 : zk (fun q => q = d ∨ q = db) τ t2 (3 + (sfac (n - 1)).length + (sBase n (rw0 (sfac (n - 1)))).2) (13 + 3 * (sfac (n - 1)).length + 5 * (sBase n (rw0 (sfac (n - 1)))).2) :=
    k1.new (k2.wk (fun q _ hq => (Or.inr (has q hq).1 : (q = d ∨ q = db) ∨ τ.1 ≤ q)))
  obtain ⟨kk, hkk⟩ : ∃ j, K = j + 1 := ⟨K - 1, by omega⟩
  cases hs : (sBase n (rw0 (sfac (n - 1)))).1 with
  | none =>
    rw [hs] at hb
    exact zR_t hb (zR_r ⟨rfl, k12⟩)
  | some a =>
    rw [hs] at hb
    obtain ⟨hv, X, Y⟩ := hb
    subst hv
    have hL2 : zin ζ t2 x (lnE 6 1 n 0 0 d u h) := k2.in hL1 (nin _ hL.1.2)
    have hu2 : zRs ζ t2 u ub [] := hu1.k k2 (nin _ (by obtain ⟨f, q, -⟩ := hr2; exact q.1.2)) (nin _ (by obtain ⟨f, -, q, -⟩ := hr2; exact q.1.2))
    refine zR_f (by decide) (zR_b hL2.ob (zR_cl (Q := fun v t => v = nb (decide ((1 : Nat) = 3 ∨ (1 : Nat) = 4)) ∧ t = t2) (zR_eq (hl_hasPair_6 K ζ t2 x 1 n 0 0 d u h hL2 (by omega) (by omega)) ⟨rfl, rfl⟩ zge.rfl) (fun v t3 _ P => ?_)))
    obtain ⟨rfl, rfl⟩ := P
    refine zR_t (by decide) ?_
    rw [hkk, luX6_isFound_6_1]
    refine zR_r ⟨⟨rfl, das, ⟨hL2, ⟨X, Y, hu2, zRw.nil⟩, ?_, ok2, hn, by omega, by omega⟩, fun y hy => ⟨(has y hy).1, Nat.lt_of_lt_of_le (has y hy).2 g2.1⟩, hnd⟩, k12⟩
    intro r hr'
    obtain ⟨r0, hr0, rfl⟩ := List.mem_map.mp hr'
    have ha := sBs_b n (rw0 (sfac (n - 1))) 998 2 a hs
    have := hokr r0 hr0
    exact ⟨this.1, this.2.1, by show a ≤ 999; omega⟩
