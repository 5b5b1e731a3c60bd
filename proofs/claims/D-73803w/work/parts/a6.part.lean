/-! Part: rows from the greatest down, till they are enough -/
def sPi (n : Nat) (rs : List sR) : Nat → Nat × Nat := Nat.rec (motive := fun _ => Nat × Nat) (0, 0) (fun i G => if sEnough 2 n (sProd (rs.drop (i + 1)).reverse) (sProd []) then (i + 1, 2) else (G.1, 2 + G.2))
theorem sPi_s (n : Nat) (rs : List sR) (i : Nat) : sPi n rs (i + 1) = if sEnough 2 n (sProd (rs.drop (i + 1)).reverse) (sProd []) then (i + 1, 2) else ((sPi n rs i).1, 2 + (sPi n rs i).2) := rfl
theorem sPi_le (n : Nat) (rs : List sR) : ∀ i, (sPi n rs i).1 ≤ i ∧ (sPi n rs i).2 ≤ 2 * i := by
  intro i
  induction i with
  | zero => exact ⟨Nat.le_refl _, Nat.le_refl _⟩
  | succ i ih =>
    rw [sPi_s]
    by_cases h : sEnough 2 n (sProd (rs.drop (i + 1)).reverse) (sProd []) = true
    · rw [if_pos h]; exact ⟨Nat.le_refl _, by show 2 ≤ _; omega⟩
    · rw [if_neg h]; exact ⟨by show (sPi n rs i).1 ≤ _; omega, by show 2 + (sPi n rs i).2 ≤ _; omega⟩
/-- the plain product -/
def pPr (rs : List sR) : Nat := rs.foldr (fun r a => r.1 ^ r.2.1 * a) 1
theorem pPr_app : ∀ a b : List sR, pPr (a ++ b) = pPr a * pPr b := by
  intro a
  induction a with
  | nil => intro b; show pPr b = 1 * pPr b; omega
  | cons x a ih =>
    intro b
    show x.1 ^ x.2.1 * pPr (a ++ b) = x.1 ^ x.2.1 * pPr a * pPr b
    rw [ih, Nat.mul_assoc]
theorem pPr_rev : ∀ a : List sR, pPr a.reverse = pPr a := by
  intro a
  induction a with
  | nil => rfl
  | cons x a ih =>
    rw [List.reverse_cons, pPr_app, ih]
    show pPr a * (x.1 ^ x.2.1 * 1) = x.1 ^ x.2.1 * pPr a
    rw [Nat.mul_one, Nat.mul_comm]
theorem sPw_pow (q : Nat) : ∀ e all, sPw q e all ≤ all * q ^ e := by
  intro e
  induction e with
  | zero => intro all; show all ≤ all * 1; omega
  | succ e ih =>
    intro all
    rw [sPw_s]
    refine Nat.le_trans (ih _) ?_
    rw [Nat.pow_succ, Nat.mul_comm (q ^ e) q, ← Nat.mul_assoc]
    exact Nat.mul_le_mul_right _ (Nat.min_le_right _ _)
theorem sProdF_pPr : ∀ (rs : List sR) all, sProdF all rs ≤ all * pPr rs := by
  intro rs
  induction rs with
  | nil => intro all; show all ≤ all * 1; omega
  | cons r rs ih =>
    intro all
    refine Nat.le_trans (ih (sPw r.1 r.2.1 all)) ?_
    show _ ≤ all * (r.1 ^ r.2.1 * pPr rs)
    rw [← Nat.mul_assoc]
    exact Nat.mul_le_mul_right _ (sPw_pow _ _ _)
theorem sProd_pPr (rs : List sR) : sProd rs ≤ pPr rs := by
  have := sProdF_pPr rs 1
  rw [Nat.one_mul] at this
  exact this
theorem pPr_rw0 : ∀ fs : List (Nat × Nat), pPr (rw0 fs) = fPr fs := by
  intro fs
  induction fs with
  | nil => rfl
  | cons x fs ih =>
    rw [fPr_cons, ← ih]
    rfl
theorem pPr_drop (rs : List sR) (hp : 0 < pPr rs) (j : Nat) : pPr (rs.drop j) ≤ pPr rs := by
  have e : pPr rs = pPr (rs.take j) * pPr (rs.drop j) := by rw [← pPr_app, List.take_append_drop]
  have h0 : 0 < pPr (rs.take j) := by
    rcases Nat.eq_zero_or_pos (pPr (rs.take j)) with h | h
    · rw [h, Nat.zero_mul] at e; omega
    · exact h
  rw [e]
  exact Nat.le_mul_of_pos_left _ h0
theorem sProd_dr (n : Nat) (h0 : 0 < n) (hn : n ≤ 1000000001) (j : Nat) : sProd ((rw0 (sfac n)).drop j).reverse ≤ n := by
  have e := (sfac_ok n h0 (by omega)).1
  have e2 : pPr (rw0 (sfac n)) = n := by rw [pPr_rw0, e]
  refine Nat.le_trans (sProd_pPr _) ?_
  rw [pPr_rev]
  have := pPr_drop (rw0 (sfac n)) (by omega) j
  omega
theorem zRw.dr {ζ : pZ} {τ : pH} {as : List Nat} {rs : List sR} (h : zRw ζ τ as rs) (j : Nat) : zRw ζ τ (as.drop j).reverse (rs.drop j).reverse := by
  have hl := h.1
  refine ⟨by rw [List.length_reverse, List.length_reverse, List.length_drop, List.length_drop, hl], fun i h1 h2 => ?_⟩
  have a1 : i < as.length - j := by rw [List.length_reverse, List.length_drop] at h1; exact h1
  rw [List.getElem_reverse, List.getElem_reverse, List.getElem_drop, List.getElem_drop]
  have e : j + ((rs.drop j).length - 1 - i) = j + ((as.drop j).length - 1 - i) := by rw [List.length_drop, List.length_drop, hl]
  simp only [e]
  exact h.2 _ (by rw [List.length_drop]; omega) (by rw [List.length_drop]; omega)
theorem dr_s {α : Type} (l : List α) (i : Nat) (h : i < l.length) : (l.drop (i + 1)).reverse ++ [l[i]] = (l.drop i).reverse := by
  rw [List.drop_eq_getElem_cons h, List.reverse_cons]
theorem hq_loop (K : Nat) (ζ : pZ) (τ0 : pH) (x n d db u ub h a b : Nat) (as : List Nat) (rs : List sR) (hd : d < τ0.1) (hdb : db < τ0.1) (ha : τ0.1 ≤ a) (hb : τ0.1 ≤ b) (has : ∀ y ∈ as, τ0.1 ≤ y) (hx : x ≠ d ∧ x ≠ db ∧ u ≠ d ∧ u ≠ db ∧ ub ≠ d ∧ ub ≠ db) (hok : ∀ r ∈ rs, sRok r) (hpr : ∀ j, sProd (rs.drop j).reverse ≤ 2000000000) (hK : 1000 ≤ K) : ∀ i kk τ c s, i ≤ as.length → zk (fun q => q = d ∨ q = db) τ0 τ c s → ζ.1 ≤ τ.1 → zRs ζ τ a b as → zRw ζ τ as rs → zLx ζ τ 7 x 2 n 0 0 d db u ub h (as.drop i).reverse [] (rs.drop i).reverse [] → i + 1 ≤ kk →
    zR τ ((lfX10_lays K ζ kk) x a (nI i - 1) τ) (fun _ t => zLx ζ t 7 x 2 n 0 0 d db u ub h (as.drop (sPi n rs i).1).reverse [] (rs.drop (sPi n rs i).1).reverse [] ∧ zk (fun q => q = d ∨ q = db) τ0 t (c + (sPi n rs i).2) (s + 5 * (sPi n rs i).2)) := by
  intro i
  induction i with
  | zero =>
    intro kk τ c s _ hk _ _ _ H hkk
    obtain ⟨k, rfl⟩ : ∃ j, kk = j + 1 := ⟨kk - 1, by omega⟩
    rw [luX10_lays_1]
    exact zR_t (show nI 0 - 1 < (0 : Int32) by decide) (zR_r ⟨H, hk⟩)
  | succ i ih =>
    intro kk τ c s hi hk hζ hr hw H hkk
    obtain ⟨k, rfl⟩ : ∃ j, kk = j + 1 := ⟨kk - 1, by omega⟩
    rw [luX10_lays_1, nI_pred, sPi_s]
    have hl9 : as.length ≤ 9 := by obtain ⟨f, -, -, g, -⟩ := hr; exact g
    refine zR_f (show ¬ nI i < (0 : Int32) from nI_pos (by omega)) (zR_b H.1.ob (zR_cl (hl_isEnough_7 K ζ τ x 2 n 0 0 d db u ub h _ [] _ [] hζ hK H (hpr _)) (fun v t g P => ?_)))
    obtain ⟨rfl, k1⟩ := P
    have H1 := H.k k1
    have hr1 := k1.R hr
    have hw1 := k1.W hw
    have hk1 : zk (fun q => q = d ∨ q = db) τ0 t (c + 2) (s + 10) := hk.tr (k1.wk (fun _ _ e => e.elim))
    cases he : sEnough 2 n (sProd (rs.drop (i + 1)).reverse) (sProd []) with
    | true => exact zR_f (by decide) (zR_r ⟨H1, hk1⟩)
    | false =>
      refine zR_t rfl ?_
      obtain ⟨hL, ⟨hr2, hw2, hr3, hw3⟩, ok1, ok2, hn, hp, hq⟩ := H1
      obtain ⟨fs, ho⟩ := hr2.o
      obtain ⟨f, ha1, hb1, -, -, hf⟩ := id hr1
      simp only [hL.ob, ha1.ob, hb1.aq, dzb, dzc, dzl, fl0, fl1, fl2, fl3, fl4, fl5, fl6, fl7, fi0, fi1, fi2, fi3, fi4, fi5, fi6, fi7, fr0, fr1, fr2, fr3, fr4, fr5, fr6, fr7, fs0, fs1, fs2, fs3, fs4, fs5, fs6, fs7]
      refine zR_t (nI_in (by omega) (by omega)) ?_
      rw [nI_clamp (by omega)]
      have hia : i < as.length := by omega
      have hir : i < rs.length := by rw [← hw1.1]; exact hia
      refine zR_b (hf i hia) (zR_b ho ?_)
      have hai := has _ (List.getElem_mem hia)
      obtain ⟨s6, b1, b2, b3, b4⟩ := hr_adds K ζ t d db as[i] (as.drop (i + 1)).reverse rs[i] hr2 (by rw [List.length_reverse, List.length_drop]; omega) (hw1.2 i hia hir) (by omega) (by omega)
      rw [dr_s as i hia] at b3
      refine zR_cl (Q := fun v t => t = s6) (zR_eq b1 rfl b2.1) ?_
      intro v t' _ P
      obtain rfl : t' = s6 := P
      rw [show nI i + -1 = nI i - 1 from (Int32.sub_eq_add_neg ..).symm]
      have nn : ∀ y, τ0.1 ≤ y → ¬ (y = d ∨ y = db) := fun y hy e => by omega
      have hw4 := hw1.k b2 (fun y hy => nn y (has y hy))
      have H2 : zLx ζ t' 7 x 2 n 0 0 d db u ub h (as.drop i).reverse [] (rs.drop i).reverse [] :=
        ⟨b2.in hL (fun e => e.elim hx.1 hx.2.1), ⟨b3, hw4.dr i, hr3.k b2 (fun e => e.elim hx.2.2.1 hx.2.2.2.1) (fun e => e.elim hx.2.2.2.2.1 hx.2.2.2.2.2), zRw.nil⟩, fun r hr => hok r (List.mem_of_mem_drop (List.mem_reverse.mp hr)), ok2, hn, hp, hq⟩
      refine zR_imp (ih k t' (c + 2) (s + 10) (by omega) ((hk1.tr b2).le (by omega) (by omega)) (Nat.le_trans hζ (Nat.le_trans g.1 b2.1.1)) (hr1.k b2 (nn _ ha) (nn _ hb)) hw4 H2 (by omega)) (fun v t2 _ P => ⟨P.1, P.2.le (by show _ ≤ c + (2 + (sPi n rs i).2); omega) (by show _ ≤ s + 5 * (2 + (sPi n rs i).2); omega)⟩)
/-- the rows of a Part line, without their bases -/
def sPr (n : Nat) : List sR := ((rw0 (sfac (n - 1))).drop (sPi n (rw0 (sfac (n - 1))) (sfac (n - 1)).length).1).reverse
theorem hq_lays (K : Nat) (ζ : pZ) (τ : pH) (x n d db u ub h : Nat) (hζ : ζ.1 ≤ τ.1) (H : zLx ζ τ 7 x 2 n 0 0 d db u ub h [] [] [] []) (hx : x ≠ d ∧ x ≠ db ∧ u ≠ d ∧ u ≠ db ∧ ub ≠ d ∧ ub ≠ db) (hn3 : 3 ≤ n) (hK : 2 ^ 50 ≤ K) : zR τ (fnX10_lays K ζ x τ) (fun _ t => ∃ as, zLx ζ t 7 x 2 n 0 0 d db u ub h as [] (sPr n) [] ∧ (∀ y ∈ as, τ.1 ≤ y ∧ y < t.1) ∧ as.Nodup ∧ zk (fun q => q = d ∨ q = db) τ t (2 + 3 * (sfac (n - 1)).length) (11 + 13 * (sfac (n - 1)).length)) := by
  obtain ⟨hL, ⟨hr, hw, hr2, hw2⟩, ok1, ok2, hn, hp, hq⟩ := id H
  have hdl : d < τ.1 := by obtain ⟨f, a, -⟩ := hr; exact a.1.2
  have hdbl : db < τ.1 := by obtain ⟨f, -, a, -⟩ := hr; exact a.1.2
  unfold fnX10_lays
  simp only [hL.ob, dzb, dzc, dzl, fl0, fl1, fl2, fl3, fl4, fl5, fl6, fl7, fi0, fi1, fi2, fi3, fi4, fi5, fi6, fi7, fr0, fr1, fr2, fr3, fr4, fr5, fr6, fr7, fs0, fs1, fs2, fs3, fs4, fs5, fs6, fs7]
  rw [lN_m1 (by omega)]
  refine zR_cl (hx_factors K ζ τ (n - 1) hζ (by omega) (by omega) (fp_len (n - 1) (by omega) (by omega)) hK) (fun v s g P => ?_)
  obtain ⟨rfl, as, k1, hr1, hw1, has, hnd⟩ := P
  obtain ⟨f, ha1, hb1, hl9, hab, hf⟩ := id hr1
  simp only [ha1.ob, dzb, dzc, dzl, fl0, fl1, fl2, fl3, fl4, fl5, fl6, fl7, fi0, fi1, fi2, fi3, fi4, fi5, fi6, fi7, fr0, fr1, fr2, fr3, fr4, fr5, fr6, fr7, fs0, fs1, fs2, fs3, fs4, fs5, fs6, fs7]
  have hw1' : zRw ζ s as (rw0 (sfac (n - 1))) := hw1
  have hlen : as.length = (sfac (n - 1)).length := by rw [hw1'.1, rw0_len]
  have H1 := H.k k1
  have e1 : (as.drop as.length).reverse = [] := by rw [List.drop_eq_nil_of_le (Nat.le_refl _)]; rfl
  have e2 : ((rw0 (sfac (n - 1))).drop as.length).reverse = [] := by rw [List.drop_eq_nil_of_le (by rw [← hw1'.1]; exact Nat.le_refl _)]; rfl
  have H2 : zLx ζ s 7 x 2 n 0 0 d db u ub h (as.drop as.length).reverse [] ((rw0 (sfac (n - 1))).drop as.length).reverse [] := by rw [e1, e2]; exact H1
  refine zR_imp (hq_loop K ζ τ x n d db u ub h τ.1 (τ.1 + 1) as (rw0 (sfac (n - 1))) hdl hdbl (Nat.le_refl _) (Nat.le_succ _) (fun y hy => by have := (has y hy).1; omega) hx (rw0_ok (by omega) (by omega)) (fun j => by have := sProd_dr (n - 1) (by omega) (by omega) j; omega) (by omega) as.length K s _ _ (Nat.le_refl _) (k1.wk (fun _ _ e => e.elim)) (Nat.le_trans hζ g.1) hr1 hw1' H2 (by omega)) (fun v t g2 P => ?_)
  obtain ⟨A, B⟩ := P
  rw [hlen] at A B
  have le := sPi_le n (rw0 (sfac (n - 1))) (sfac (n - 1)).length
  refine ⟨_, A, fun y hy => ?_, ?_, B.le (by omega) (by omega)⟩
  · have h1 := has y (List.mem_of_mem_drop (List.mem_reverse.mp hy))
    have h2 := g2.1
    omega
  · have h1 : (as.drop (sPi n (rw0 (sfac (n - 1))) (sfac (n - 1)).length).1).Nodup := List.Pairwise.sublist (List.drop_sublist _ _) hnd
    exact List.pairwise_reverse.mpr (h1.imp (fun e => Ne.symm e))
def fOutQ (ζ : pZ) (x n d db u ub h : Nat) (τ0 : pH) (o : Option (List sR)) (v : Int32) (t : pH) : Prop := match o with
  | some l => v = 1 ∧ ∃ das, zLx ζ t 7 x 2 n 0 0 d db u ub h das [] l [] ∧ (∀ y ∈ das, τ0.1 ≤ y ∧ y < t.1) ∧ das.Nodup
  | none => v = 0
theorem hq_isFound (K : Nat) (ζ : pZ) (τ : pH) (x n d db u ub h : Nat) (hζ : ζ.1 ≤ τ.1) (H : zLx ζ τ 7 x 2 n 0 0 d db u ub h [] [] [] []) (hx : x ≠ d ∧ x ≠ db ∧ u ≠ d ∧ u ≠ db ∧ ub ≠ d ∧ ub ≠ db) (hn3 : 3 ≤ n) (hK : 2 ^ 50 ≤ K) : zR τ (fnX6_isFound_7 K ζ x τ) (fun v t => fOutQ ζ x n d db u ub h τ (sBl n (sPr n)).1 v t ∧ zk (fun q => q = d ∨ q = db) τ t (3 + 3 * (sfac (n - 1)).length + (sBl n (sPr n)).2) (16 + 13 * (sfac (n - 1)).length + 5 * (sBl n (sPr n)).2)) := by
  have hL := H.1
  have hdl : d < τ.1 := by obtain ⟨f, a, -⟩ := H.2.1.1; exact a.1.2
  have hdbl : db < τ.1 := by obtain ⟨f, -, a, -⟩ := H.2.1.1; exact a.1.2
  have hul : u < τ.1 := by obtain ⟨f, a, -⟩ := H.2.1.2.2.1; exact a.1.2
  have hubl : ub < τ.1 := by obtain ⟨f, -, a, -⟩ := H.2.1.2.2.1; exact a.1.2
  unfold fnX6_isFound_7
  refine zR_b hL.ob (zR_cl (hq_lays K ζ τ x n d db u ub h hζ H hx hn3 hK) (fun v t g P => ?_))
  obtain ⟨das, H1, has, hnd, k1⟩ := P
  obtain ⟨hL1, ⟨hr1, hw1, hu1, -⟩, ok1, ok2, hn, hp, hq⟩ := H1
  have nin : ∀ y, y < τ.1 → y ∉ das := fun y hy hm => by have := (has y hm).1; omega
  refine zR_b hL1.ob (zR_cl (hb_findsBases_7 K ζ t x 2 n 0 0 d db u h das (sPr n) (Nat.le_trans hζ g.1) (by omega) ok1 ⟨nin _ hdl, nin _ hdbl⟩ (nin _ hL.1.2) hnd hL1 hr1 hw1 hK) (fun v t2 g2 P => ?_))
  obtain ⟨hb, k2⟩ := P
  have k12 : zk (fun q => q = d ∨ q = db) τ t2 (3 + 3 * (sfac (n - 1)).length + (sBl n (sPr n)).2) (16 + 13 * (sfac (n - 1)).length + 5 * (sBl n (sPr n)).2) :=
    (k1.new (k2.wk (fun q _ hq => (Or.inr (has q hq).1 : (q = d ∨ q = db) ∨ τ.1 ≤ q)))).le (by omega) (by omega)
  obtain ⟨kk, hkk⟩ : ∃ j, K = j + 1 := ⟨K - 1, by omega⟩
  cases hs : (sBl n (sPr n)).1 with
  | none =>
    rw [hs] at hb
    exact zR_t hb (zR_r ⟨rfl, k12⟩)
  | some l =>
    rw [hs] at hb
    obtain ⟨hv, X, Y⟩ := hb
    subst hv
    have hL2 : zin ζ t2 x (lnE 7 2 n 0 0 d u h) := k2.in hL1 (nin _ hL.1.2)
    have hu2 : zRs ζ t2 u ub [] := hu1.k k2 (nin _ hul) (nin _ hubl)
    refine zR_f (by decide) (zR_b hL2.ob (zR_cl (Q := fun v t => v = nb (decide ((2 : Nat) = 3 ∨ (2 : Nat) = 4)) ∧ t = t2) (zR_eq (hl_hasPair_7 K ζ t2 x 2 n 0 0 d u h hL2 (by omega) (by omega)) ⟨rfl, rfl⟩ zge.rfl) (fun v t3 _ P => ?_)))
    obtain ⟨rfl, rfl⟩ := P
    refine zR_t (by decide) ?_
    rw [hkk, luX6_isFound_7_1]
    exact zR_r ⟨⟨rfl, das, ⟨hL2, ⟨X, Y, hu2, zRw.nil⟩, (sBl_ok ok1 hs).2, ok2, hn, hp, hq⟩, fun y hy => ⟨(has y hy).1, Nat.lt_of_lt_of_le (has y hy).2 g2.1⟩, hnd⟩, k12⟩
