/-! lines: one row, the pair -/
abbrev lnE (c s n p q d u h : Nat) : pE := .inr (c, [.long (lN n), .int (nI s), .int (nI p), .int (nI q), .ref d, .ref u, .ref h, .ref h])
def sOne (n : Nat) (r : sR) : Bool := decide (r.2.2 ^ (n - 1) % n = 1)
def sFar (n : Nat) (r : sR) : Bool := decide (Nat.gcd ((((r.2.2 ^ ((n - 1) / r.1) % n : Nat) : Int) - 1) % (n : Int)).toNat n = 1)
def sSeq (n p q : Nat) (r : sR) : Bool := decide (Nat.gcd (uM p q n ((n + 1) / r.1)) n = 1)
def sPairF (n p q : Nat) (up : List sR) : Nat := if jac ((p : Int) * p - 4 * q) n = -1 then (if Nat.gcd q n = 1 then (if uM p q n (n + 1) = 0 then (if up.all (sSeq n p q) then 0 else 9) else 8) else 7) else 7
/-- how many are looked at until one is not so -/
def sCnt (f : sR → Bool) : List sR → Nat
  | [] => 0
  | r :: rs => 1 + (if f r then sCnt f rs else 0)
def sPairC (n p q : Nat) (up : List sR) : Nat := if jac ((p : Int) * p - 4 * q) n = -1 then (if Nat.gcd q n = 1 then (if uM p q n (n + 1) = 0 then 2 + sCnt (sSeq n p q) up else 1) else 0) else 0
theorem zk.i {ζ : pZ} {τ τ' : pH} {c s a : Nat} {e : pE} (h : zk zno τ τ' c s) (hi : zin ζ τ a e) : zin ζ τ' a e := h.in hi (fun q => q)
theorem zk.R {ζ : pZ} {τ τ' : pH} {c s a b : Nat} {as : List Nat} (k : zk zno τ τ' c s) (h : zRs ζ τ a b as) : zRs ζ τ' a b as := h.k k (fun q => q) (fun q => q)
theorem zk.W {ζ : pZ} {τ τ' : pH} {c s : Nat} {as : List Nat} {rs : List sR} (k : zk zno τ τ' c s) (h : zRw ζ τ as rs) : zRw ζ τ' as rs := h.k k (fun _ _ q => q)
theorem lN_m1 {n : Nat} (h : 1 ≤ n) : lN n - 1 = lN (n - 1) := by rw [show (1 : Int64) = lN 1 from rfl, lN_sub h]
theorem nb_eq1 {x : Nat} (h : x < 2 ^ 63) {τ : pH} : (if lN x = (1 : Int64) then some ((1 : Int32), τ) else some (0, τ)) = some (nb (decide (x = 1)), τ) := by
  by_cases e : x = 1
  · rw [if_pos ((lN1 h).mpr e), decide_eq_true e]; rfl
  · rw [if_neg (fun q => e ((lN1 h).mp q)), decide_eq_false e]; rfl
theorem zin_as_ne {ζ : pZ} {τ : pH} {as : List Nat} {rs : List sR} (hw : zRw ζ τ as rs) : τ.1 ∉ as := by
  intro h
  obtain ⟨i, hi, e⟩ := List.getElem_of_mem h
  have := (hw.2 i hi (by rw [← hw.1]; exact hi)).1.2
  rw [e] at this
  exact Nat.lt_irrefl _ this
/-- so many cells, each of at most five slots -/
def zc5 (τ s : pH) (n : Nat) : Prop := zk zno τ s n (5 * n)
theorem zc5.tr {τ s t : pH} {a b : Nat} (h : zc5 τ s a) (h' : zc5 s t b) : zc5 τ t (a + b) := zk.le (zk.tr h h') (Nat.le_refl _) (by omega)
theorem hl_isOne_5 (K : Nat) (ζ : pZ) (τ : pH) (x s n p q d u h r : Nat) (w : sR) (hζ : ζ.1 ≤ τ.1) (hL : zin ζ τ x (lnE 5 s n p q d u h)) (hr : zin ζ τ r (rwE w.1 w.2.1 w.2.2)) (hn : 1 ≤ n ∧ n ≤ 1000000000) (hw : w.2.2 ≤ 999) (hK : 200 ≤ K) : zR τ (fnX6_isOne_5 K ζ x r τ) (fun v t => v = nb (sOne n w) ∧ zc5 τ t 1) := by
  unfold fnX6_isOne_5
  simp only [hr.ob, hL.ob, dzb, dzc, dzl, fl0, fl1, fl2, fl3, fl4, fl5, fl6, fl7, fi0, fi1, fi2, fi3, fi4, fi5, fi6, fi7, fr0, fr1, fr2, fr3, fr4, fr5, fr6, fr7, fs0, fs1, fs2, fs3, fs4, fs5, fs6, fs7]
  rw [nI_l (by omega), lN_m1 hn.1]
  refine zR_cl (Q := fun v t => v = lN (w.2.2 ^ (n - 1) % n) ∧ zc5 τ t 1) (zR_eq (hx_powerOf K ζ τ w.2.2 (n - 1) n hζ (by omega) (by omega) (by omega) (by omega) hK) ⟨rfl, zk_nw.le (Nat.le_refl _) (by omega)⟩ ⟨Nat.le_succ _, Nat.le_add_right _ _⟩) ?_
  intro v t _ k
  obtain ⟨rfl, k⟩ := k
  have hlt := Nat.mod_lt (w.2.2 ^ (n - 1)) (show n > 0 by omega)
  exact zR_eq (nb_eq1 (by omega)) ⟨rfl, k⟩ zge.rfl
theorem hl_isFar_5 (K : Nat) (ζ : pZ) (τ : pH) (x s n p q d u h r : Nat) (w : sR) (hζ : ζ.1 ≤ τ.1) (hL : zin ζ τ x (lnE 5 s n p q d u h)) (hr : zin ζ τ r (rwE w.1 w.2.1 w.2.2)) (hn : 1 ≤ n ∧ n ≤ 1000000000) (hw : w.2.2 ≤ 999) (hq : 1 ≤ w.1 ∧ w.1 ≤ 1000000001) (hK : 200 ≤ K) : zR τ (fnX6_isFar_5 K ζ x r τ) (fun v t => v = nb (sFar n w) ∧ zc5 τ t 1) := by
  unfold fnX6_isFar_5
  simp only [hr.ob, hL.ob, dzb, dzc, dzl, fl0, fl1, fl2, fl3, fl4, fl5, fl6, fl7, fi0, fi1, fi2, fi3, fi4, fi5, fi6, fi7, fr0, fr1, fr2, fr3, fr4, fr5, fr6, fr7, fs0, fs1, fs2, fs3, fs4, fs5, fs6, fs7]
  refine zR_t (pz_nz hq.1 (by omega)) ?_
  have hdv : (n - 1) / w.1 ≤ n - 1 := Nat.div_le_self _ _
  rw [nI_l (by omega), lN_m1 hn.1, pk_lDiv (by omega) (by omega) (by omega)]
  refine zR_cl (Q := fun v t => v = lN (w.2.2 ^ ((n - 1) / w.1) % n) ∧ zc5 τ t 1) (zR_eq (hx_powerOf K ζ τ w.2.2 ((n - 1) / w.1) n hζ (by omega) (by omega) (by omega) (by omega) hK) ⟨rfl, zk_nw.le (Nat.le_refl _) (by omega)⟩ ⟨Nat.le_succ _, Nat.le_add_right _ _⟩) ?_
  intro v t _ k
  obtain ⟨rfl, k⟩ := k
  have hlt := Nat.mod_lt (w.2.2 ^ ((n - 1) / w.1)) (show n > 0 by omega)
  have hL' := zk.i k hL
  simp only [hL'.ob, dzb, dzc, dzl, fl0, fl1, fl2, fl3, fl4, fl5, fl6, fl7, fi0, fi1, fi2, fi3, fi4, fi5, fi6, fi7, fr0, fr1, fr2, fr3, fr4, fr5, fr6, fr7, fs0, fs1, fs2, fs3, fs4, fs5, fs6, fs7]
  rw [show lN (w.2.2 ^ ((n - 1) / w.1) % n) - 1 = Int64.ofInt (((w.2.2 ^ ((n - 1) / w.1) % n : Nat) : Int) - 1) by rw [lN_z, show (1 : Int64) = Int64.ofInt 1 from rfl, z_sub], hj_floorMod K _ n (by omega) (by omega) (by omega) (by omega), dzb]
  have hlt2 : ((((w.2.2 ^ ((n - 1) / w.1) % n : Nat) : Int) - 1) % (n : Int)).toNat < n := by
    have := Int.emod_lt_of_pos (((w.2.2 ^ ((n - 1) / w.1) % n : Nat) : Int) - 1) (show (0 : Int) < n by omega); omega
  rw [hx_common _ n (by omega) (by omega), dzb]
  have hg : Nat.gcd ((((w.2.2 ^ ((n - 1) / w.1) % n : Nat) : Int) - 1) % (n : Int)).toNat n ≤ n := Nat.gcd_le_right _ (by omega)
  exact zR_eq (nb_eq1 (by omega)) ⟨rfl, k⟩ zge.rfl
theorem hl_pairLoop_5 (K : Nat) (ζ : pZ) (x s n p q d u h ub it : Nat) (uas : List Nat) (us : List sR) (hn : 1 ≤ n ∧ n ≤ 1000000000) (hp : p ≤ 99) (hq : q ≤ 99) (hus : ∀ r ∈ us, sRok r) (h1 : it ≠ u) (h2 : it ≠ ub) (h3 : it ∉ uas) (h4 : it ≠ x) (hK : 200 ≤ K) : ∀ m i kk τ, i + m = uas.length → ζ.1 ≤ τ.1 → zin ζ τ x (lnE 5 s n p q d u h) → zin ζ τ it (itE i u) → zRs ζ τ u ub uas → zRw ζ τ uas us → m + 1 ≤ kk →
    zR τ ((lfX6_pairFault_5 K ζ kk) x it τ) (fun v t => v = nI (if (us.drop i).all (sSeq n p q) then 0 else 9) ∧ zk (fun a => a = it) τ t (sCnt (sSeq n p q) (us.drop i)) (5 * sCnt (sSeq n p q) (us.drop i))) := by
  intro m
  induction m with
  | zero =>
    intro i kk τ hi hζ hL hit hr hw hk
    obtain ⟨k, rfl⟩ : ∃ j, kk = j + 1 := ⟨kk - 1, by omega⟩
    rw [luX6_pairFault_5_1]
    refine zR_each K ζ τ it i u ub uas _ _ _ hit hr h1 h2 (by omega) (fun _ => zR_r ?_) (fun h => absurd h (by omega))
    rw [List.drop_eq_nil_of_le (by rw [← hw.1]; omega)]
    exact ⟨rfl, zk.rfl⟩
  | succ m ih =>
    intro i kk τ hi hζ hL hit hr hw hk
    obtain ⟨k, rfl⟩ : ∃ j, kk = j + 1 := ⟨kk - 1, by omega⟩
    rw [luX6_pairFault_5_1]
    refine zR_each K ζ τ it i u ub uas _ _ _ hit hr h1 h2 (by omega) (fun h => absurd h (by omega)) (fun hil => ?_)
    have hlr : i < us.length := by rw [← hw.1]; exact hil
    have k0 : zk (fun a => a = it) τ (zst τ it (itE (i + 1) u)) 0 0 := zk_st rfl
    have hrow := k0.in (hw.2 i hil hlr) (fun e => h3 (e ▸ List.getElem_mem hil))
    have hL0 := k0.in hL (Ne.symm h4)
    have ok := hus _ (List.getElem_mem hlr)
    simp only [hrow.ob, hL0.ob, dzb, dzc, dzl, fl0, fl1, fl2, fl3, fl4, fl5, fl6, fl7, fi0, fi1, fi2, fi3, fi4, fi5, fi6, fi7, fr0, fr1, fr2, fr3, fr4, fr5, fr6, fr7, fs0, fs1, fs2, fs3, fs4, fs5, fs6, fs7]
    refine zR_t (pz_nz (by have := ok.1.1; omega) (by have := ok.1.2; omega)) ?_
    have hdv : (n + 1) / us[i].1 ≤ n + 1 := Nat.div_le_self _ _
    rw [nI_l (by omega), nI_l (by omega), lN_1, pk_lDiv (by omega) (by have := ok.1.1; omega) (by have := ok.1.2; omega)]
    obtain ⟨e, he⟩ := hx_sequenceOf K ζ (zst τ it (itE (i + 1) u)) p q ((n + 1) / us[i].1) n hζ (by omega) (by omega) (by omega) (by omega) (by omega) hK
    refine zR_cl (Q := fun v t => v = lN (uM p q n ((n + 1) / us[i].1)) ∧ t = znw (zst τ it (itE (i + 1) u)) 5 e) (zR_eq he ⟨rfl, rfl⟩ ⟨Nat.le_succ _, Nat.le_add_right _ _⟩) ?_
    intro v t _ kq
    obtain ⟨rfl, rfl⟩ := kq
    have k1 : zk zno (zst τ it (itE (i + 1) u)) (znw (zst τ it (itE (i + 1) u)) 5 e) 1 5 := zk_nw
    have hL1 := k1.i hL0
    have hlt := uM_lt (p := p) (q := q) (m := n) (k := (n + 1) / us[i].1) (by omega)
    simp only [hL1.ob, dzb, dzc, dzl, fl0, fl1, fl2, fl3, fl4, fl5, fl6, fl7, fi0, fi1, fi2, fi3, fi4, fi5, fi6, fi7, fr0, fr1, fr2, fr3, fr4, fr5, fr6, fr7, fs0, fs1, fs2, fs3, fs4, fs5, fs6, fs7]
    rw [hx_common _ n (by omega) (by omega), dzb]
    have hg : Nat.gcd (uM p q n ((n + 1) / us[i].1)) n ≤ n := Nat.gcd_le_right _ (by omega)
    have ka : zk (fun a => a = it) τ (znw (zst τ it (itE (i + 1) u)) 5 e) (0 + 1) (0 + 5) := k0.tr (k1.wk (fun _ _ h => h.elim))
    rw [List.drop_eq_getElem_cons hlr]
    by_cases hc : Nat.gcd (uM p q n ((n + 1) / us[i].1)) n = 1
    · have hs : sSeq n p q us[i] = true := decide_eq_true hc
      refine zR_t ((lN1 (by omega)).mpr hc) ?_
      refine zR_imp (ih (i + 1) k (znw (zst τ it (itE (i + 1) u)) 5 e) (by omega) (Nat.le_succ_of_le hζ) hL1 (k1.i (zin_st hit.1)) (k1.R (hr.k k0 (Ne.symm h1) (Ne.symm h2))) (k1.W (hw.k k0 (fun a ha e => h3 (e ▸ ha)))) (by omega)) (fun v t _ P => ?_)
      rw [List.all_cons, hs, Bool.true_and, show sCnt (sSeq n p q) (us[i] :: us.drop (i + 1)) = 1 + sCnt (sSeq n p q) (us.drop (i + 1)) by rw [sCnt, if_pos hs]]
      exact ⟨P.1, (ka.tr P.2).le (by omega) (by omega)⟩
    · have hs : sSeq n p q us[i] = false := decide_eq_false hc
      refine zR_f (fun q => hc ((lN1 (by omega)).mp q)) (zR_r ?_)
      rw [List.all_cons, hs, Bool.false_and, show sCnt (sSeq n p q) (us[i] :: us.drop (i + 1)) = 1 + 0 by rw [sCnt, hs]; rfl]
      exact ⟨rfl, ka.le (by omega) (by omega)⟩
theorem hl_pairFault_5 (K : Nat) (ζ : pZ) (τ : pH) (x s n p q d u h ub : Nat) (uas : List Nat) (us : List sR) (hζ : ζ.1 ≤ τ.1) (hL : zin ζ τ x (lnE 5 s n p q d u h)) (hr : zRs ζ τ u ub uas) (hw : zRw ζ τ uas us) (hn : 1 ≤ n ∧ n ≤ 1000000000) (hp : p ≤ 99) (hq : q ≤ 99) (hus : ∀ r ∈ us, sRok r) (hK : 2 ^ 50 ≤ K) : zR τ (fnX6_pairFault_5 K ζ x τ) (fun v t => v = nI (sPairF n p q us) ∧ zc5 τ t (sPairC n p q us)) := by
  have hpp : p * p ≤ 99 * 99 := Nat.mul_le_mul hp hp
  have hppc : (p : Int) * p = ((p * p : Nat) : Int) := by rw [Int.natCast_mul]
  have hz1 : -(2 ^ 62) < (p : Int) * p - 4 * q := by rw [hppc]; omega
  have hz2 : (p : Int) * p - 4 * q < 2 ^ 62 := by rw [hppc]; omega
  have hr0 := hr
  obtain ⟨f, hu, hub, hl9, -, -⟩ := hr
  unfold fnX6_pairFault_5
  simp only [hL.ob, dzb, dzc, dzl, fl0, fl1, fl2, fl3, fl4, fl5, fl6, fl7, fi0, fi1, fi2, fi3, fi4, fi5, fi6, fi7, fr0, fr1, fr2, fr3, fr4, fr5, fr6, fr7, fs0, fs1, fs2, fs3, fs4, fs5, fs6, fs7]
  rw [nI_l (by omega), nI_l (by omega), show lN p * lN p - 4 * lN q = Int64.ofInt ((p : Int) * p - 4 * q) by rw [lN_z, lN_z, show (4 : Int64) = Int64.ofInt 4 from rfl, z_mul, z_mul, z_sub], hx_jacobiOf K _ n hz1 hz2 (by omega) (by omega) (by omega), dzb]
  unfold sPairF sPairC
  by_cases hj : jac ((p : Int) * p - 4 * q) n = -1
  · rw [if_pos hj, if_pos hj, if_pos hj]
    rw [hx_common q n (by omega) (by omega), dzb]
    have hg : Nat.gcd q n ≤ n := Nat.gcd_le_right _ (by omega)
    by_cases hc : Nat.gcd q n = 1
    · rw [if_pos hc, if_pos hc]
      refine zR_t ((lN1 (by omega)).mpr hc) ?_
      obtain ⟨e, he⟩ := hx_sequenceOf K ζ τ p q (n + 1) n hζ (by omega) (by omega) (by omega) (by omega) (by omega) (by omega)
      rw [lN_1]
      refine zR_cl (Q := fun v t => v = lN (uM p q n (n + 1)) ∧ t = znw τ 5 e) (zR_eq he ⟨rfl, rfl⟩ ⟨Nat.le_succ _, Nat.le_add_right _ _⟩) ?_
      intro v t _ kq
      obtain ⟨rfl, rfl⟩ := kq
      have k1 : zk zno τ (znw τ 5 e) 1 5 := zk_nw
      have hlt := uM_lt (p := p) (q := q) (m := n) (k := n + 1) (by omega)
      by_cases h8 : uM p q n (n + 1) = 0
      · rw [if_pos h8, if_pos h8]
        refine zR_t ((lN0 (by omega)).mpr h8) ?_
        have hL1 := k1.i hL
        have hu1 := k1.i hu
        simp only [hL1.ob, hu1.ob, dzb, dzc, dzl, fl0, fl1, fl2, fl3, fl4, fl5, fl6, fl7, fi0, fi1, fi2, fi3, fi4, fi5, fi6, fi7, fr0, fr1, fr2, fr3, fr4, fr5, fr6, fr7, fs0, fs1, fs2, fs3, fs4, fs5, fs6, fs7]
        refine zR_cl (Q := fun v t => v = τ.1 + 1 ∧ t = znw (znw τ 5 e) 2 (itE 0 u)) (zR_eq (hr_iter K ζ (znw τ 5 e) u (Nat.le_succ_of_le hζ)) ⟨rfl, rfl⟩ ⟨Nat.le_succ _, Nat.le_add_right _ _⟩) ?_
        intro v t _ kq
        obtain ⟨rfl, rfl⟩ := kq
        have k2 : zk zno (znw τ 5 e) (znw (znw τ 5 e) 2 (itE 0 u)) 1 2 := zk_nw
        have hub1 := hub.1.2
        have hu1' := hu.1.2
        have hL1' := hL.1.2
        refine zR_imp (hl_pairLoop_5 K ζ x s n p q d u h ub (τ.1 + 1) uas us hn hp hq hus (by omega) (by omega) (zin_as_ne (k1.W hw)) (by omega) (by omega) uas.length 0 K _ (by omega) (Nat.le_succ_of_le (Nat.le_succ_of_le hζ)) (k2.i hL1) (zin_nw (Nat.le_succ_of_le hζ)) (k2.R (k1.R hr0)) (k2.W (k1.W hw)) (by omega)) (fun v t _ P => ?_)
        rw [List.drop_zero] at P
        refine ⟨P.1, ?_⟩
        have := (k1.tr k2).new (P.2.wk (fun a _ h => (Or.inr (by rw [h]; exact Nat.le_succ _) : zno a ∨ τ.1 ≤ a)))
        exact this.le (by omega) (by omega)
      · rw [if_neg h8, if_neg h8]
        exact zR_f (fun q => h8 ((lN0 (by omega)).mp q)) (zR_r ⟨rfl, k1⟩)
    · rw [if_neg hc, if_neg hc]
      exact zR_f (fun q => hc ((lN1 (by omega)).mp q)) (zR_r ⟨rfl, zk.rfl⟩)
  · rw [if_neg hj, if_neg hj, if_neg hj]
    exact zR_r ⟨rfl, zk.rfl⟩
theorem hl_isOne_6 (K : Nat) (ζ : pZ) (τ : pH) (x s n p q d u h r : Nat) (w : sR) (hζ : ζ.1 ≤ τ.1) (hL : zin ζ τ x (lnE 6 s n p q d u h)) (hr : zin ζ τ r (rwE w.1 w.2.1 w.2.2)) (hn : 1 ≤ n ∧ n ≤ 1000000000) (hw : w.2.2 ≤ 999) (hK : 200 ≤ K) : zR τ (fnX6_isOne_6 K ζ x r τ) (fun v t => v = nb (sOne n w) ∧ zc5 τ t 1) := by
  unfold fnX6_isOne_6
  simp only [hr.ob, hL.ob, dzb, dzc, dzl, fl0, fl1, fl2, fl3, fl4, fl5, fl6, fl7, fi0, fi1, fi2, fi3, fi4, fi5, fi6, fi7, fr0, fr1, fr2, fr3, fr4, fr5, fr6, fr7, fs0, fs1, fs2, fs3, fs4, fs5, fs6, fs7]
  rw [nI_l (by omega), lN_m1 hn.1]
  refine zR_cl (Q := fun v t => v = lN (w.2.2 ^ (n - 1) % n) ∧ zc5 τ t 1) (zR_eq (hx_powerOf K ζ τ w.2.2 (n - 1) n hζ (by omega) (by omega) (by omega) (by omega) hK) ⟨rfl, zk_nw.le (Nat.le_refl _) (by omega)⟩ ⟨Nat.le_succ _, Nat.le_add_right _ _⟩) ?_
  intro v t _ k
  obtain ⟨rfl, k⟩ := k
  have hlt := Nat.mod_lt (w.2.2 ^ (n - 1)) (show n > 0 by omega)
  exact zR_eq (nb_eq1 (by omega)) ⟨rfl, k⟩ zge.rfl
theorem hl_isFar_6 (K : Nat) (ζ : pZ) (τ : pH) (x s n p q d u h r : Nat) (w : sR) (hζ : ζ.1 ≤ τ.1) (hL : zin ζ τ x (lnE 6 s n p q d u h)) (hr : zin ζ τ r (rwE w.1 w.2.1 w.2.2)) (hn : 1 ≤ n ∧ n ≤ 1000000000) (hw : w.2.2 ≤ 999) (hq : 1 ≤ w.1 ∧ w.1 ≤ 1000000001) (hK : 200 ≤ K) : zR τ (fnX6_isFar_6 K ζ x r τ) (fun v t => v = nb (sFar n w) ∧ zc5 τ t 1) := by
  unfold fnX6_isFar_6
  simp only [hr.ob, hL.ob, dzb, dzc, dzl, fl0, fl1, fl2, fl3, fl4, fl5, fl6, fl7, fi0, fi1, fi2, fi3, fi4, fi5, fi6, fi7, fr0, fr1, fr2, fr3, fr4, fr5, fr6, fr7, fs0, fs1, fs2, fs3, fs4, fs5, fs6, fs7]
  refine zR_t (pz_nz hq.1 (by omega)) ?_
  have hdv : (n - 1) / w.1 ≤ n - 1 := Nat.div_le_self _ _
  rw [nI_l (by omega), lN_m1 hn.1, pk_lDiv (by omega) (by omega) (by omega)]
  refine zR_cl (Q := fun v t => v = lN (w.2.2 ^ ((n - 1) / w.1) % n) ∧ zc5 τ t 1) (zR_eq (hx_powerOf K ζ τ w.2.2 ((n - 1) / w.1) n hζ (by omega) (by omega) (by omega) (by omega) hK) ⟨rfl, zk_nw.le (Nat.le_refl _) (by omega)⟩ ⟨Nat.le_succ _, Nat.le_add_right _ _⟩) ?_
  intro v t _ k
  obtain ⟨rfl, k⟩ := k
  have hlt := Nat.mod_lt (w.2.2 ^ ((n - 1) / w.1)) (show n > 0 by omega)
  have hL' := zk.i k hL
  simp only [hL'.ob, dzb, dzc, dzl, fl0, fl1, fl2, fl3, fl4, fl5, fl6, fl7, fi0, fi1, fi2, fi3, fi4, fi5, fi6, fi7, fr0, fr1, fr2, fr3, fr4, fr5, fr6, fr7, fs0, fs1, fs2, fs3, fs4, fs5, fs6, fs7]
  rw [show lN (w.2.2 ^ ((n - 1) / w.1) % n) - 1 = Int64.ofInt (((w.2.2 ^ ((n - 1) / w.1) % n : Nat) : Int) - 1) by rw [lN_z, show (1 : Int64) = Int64.ofInt 1 from rfl, z_sub], hj_floorMod K _ n (by omega) (by omega) (by omega) (by omega), dzb]
  have hlt2 : ((((w.2.2 ^ ((n - 1) / w.1) % n : Nat) : Int) - 1) % (n : Int)).toNat < n := by
    have := Int.emod_lt_of_pos (((w.2.2 ^ ((n - 1) / w.1) % n : Nat) : Int) - 1) (show (0 : Int) < n by omega); omega
  rw [hx_common _ n (by omega) (by omega), dzb]
  have hg : Nat.gcd ((((w.2.2 ^ ((n - 1) / w.1) % n : Nat) : Int) - 1) % (n : Int)).toNat n ≤ n := Nat.gcd_le_right _ (by omega)
  exact zR_eq (nb_eq1 (by omega)) ⟨rfl, k⟩ zge.rfl
theorem hl_pairLoop_6 (K : Nat) (ζ : pZ) (x s n p q d u h ub it : Nat) (uas : List Nat) (us : List sR) (hn : 1 ≤ n ∧ n ≤ 1000000000) (hp : p ≤ 99) (hq : q ≤ 99) (hus : ∀ r ∈ us, sRok r) (h1 : it ≠ u) (h2 : it ≠ ub) (h3 : it ∉ uas) (h4 : it ≠ x) (hK : 200 ≤ K) : ∀ m i kk τ, i + m = uas.length → ζ.1 ≤ τ.1 → zin ζ τ x (lnE 6 s n p q d u h) → zin ζ τ it (itE i u) → zRs ζ τ u ub uas → zRw ζ τ uas us → m + 1 ≤ kk →
    zR τ ((lfX6_pairFault_6 K ζ kk) x it τ) (fun v t => v = nI (if (us.drop i).all (sSeq n p q) then 0 else 9) ∧ zk (fun a => a = it) τ t (sCnt (sSeq n p q) (us.drop i)) (5 * sCnt (sSeq n p q) (us.drop i))) := by
  intro m
  induction m with
  | zero =>
    intro i kk τ hi hζ hL hit hr hw hk
    obtain ⟨k, rfl⟩ : ∃ j, kk = j + 1 := ⟨kk - 1, by omega⟩
    rw [luX6_pairFault_6_1]
    refine zR_each K ζ τ it i u ub uas _ _ _ hit hr h1 h2 (by omega) (fun _ => zR_r ?_) (fun h => absurd h (by omega))
    rw [List.drop_eq_nil_of_le (by rw [← hw.1]; omega)]
    exact ⟨rfl, zk.rfl⟩
  | succ m ih =>
    intro i kk τ hi hζ hL hit hr hw hk
    obtain ⟨k, rfl⟩ : ∃ j, kk = j + 1 := ⟨kk - 1, by omega⟩
    rw [luX6_pairFault_6_1]
    refine zR_each K ζ τ it i u ub uas _ _ _ hit hr h1 h2 (by omega) (fun h => absurd h (by omega)) (fun hil => ?_)
    have hlr : i < us.length := by rw [← hw.1]; exact hil
    have k0 : zk (fun a => a = it) τ (zst τ it (itE (i + 1) u)) 0 0 := zk_st rfl
    have hrow := k0.in (hw.2 i hil hlr) (fun e => h3 (e ▸ List.getElem_mem hil))
    have hL0 := k0.in hL (Ne.symm h4)
    have ok := hus _ (List.getElem_mem hlr)
    simp only [hrow.ob, hL0.ob, dzb, dzc, dzl, fl0, fl1, fl2, fl3, fl4, fl5, fl6, fl7, fi0, fi1, fi2, fi3, fi4, fi5, fi6, fi7, fr0, fr1, fr2, fr3, fr4, fr5, fr6, fr7, fs0, fs1, fs2, fs3, fs4, fs5, fs6, fs7]
    refine zR_t (pz_nz (by have := ok.1.1; omega) (by have := ok.1.2; omega)) ?_
    have hdv : (n + 1) / us[i].1 ≤ n + 1 := Nat.div_le_self _ _
    rw [nI_l (by omega), nI_l (by omega), lN_1, pk_lDiv (by omega) (by have := ok.1.1; omega) (by have := ok.1.2; omega)]
    obtain ⟨e, he⟩ := hx_sequenceOf K ζ (zst τ it (itE (i + 1) u)) p q ((n + 1) / us[i].1) n hζ (by omega) (by omega) (by omega) (by omega) (by omega) hK
    refine zR_cl (Q := fun v t => v = lN (uM p q n ((n + 1) / us[i].1)) ∧ t = znw (zst τ it (itE (i + 1) u)) 5 e) (zR_eq he ⟨rfl, rfl⟩ ⟨Nat.le_succ _, Nat.le_add_right _ _⟩) ?_
    intro v t _ kq
    obtain ⟨rfl, rfl⟩ := kq
    have k1 : zk zno (zst τ it (itE (i + 1) u)) (znw (zst τ it (itE (i + 1) u)) 5 e) 1 5 := zk_nw
    have hL1 := k1.i hL0
    have hlt := uM_lt (p := p) (q := q) (m := n) (k := (n + 1) / us[i].1) (by omega)
    simp only [hL1.ob, dzb, dzc, dzl, fl0, fl1, fl2, fl3, fl4, fl5, fl6, fl7, fi0, fi1, fi2, fi3, fi4, fi5, fi6, fi7, fr0, fr1, fr2, fr3, fr4, fr5, fr6, fr7, fs0, fs1, fs2, fs3, fs4, fs5, fs6, fs7]
    rw [hx_common _ n (by omega) (by omega), dzb]
    have hg : Nat.gcd (uM p q n ((n + 1) / us[i].1)) n ≤ n := Nat.gcd_le_right _ (by omega)
    have ka : zk (fun a => a = it) τ (znw (zst τ it (itE (i + 1) u)) 5 e) (0 + 1) (0 + 5) := k0.tr (k1.wk (fun _ _ h => h.elim))
    rw [List.drop_eq_getElem_cons hlr]
    by_cases hc : Nat.gcd (uM p q n ((n + 1) / us[i].1)) n = 1
    · have hs : sSeq n p q us[i] = true := decide_eq_true hc
      refine zR_t ((lN1 (by omega)).mpr hc) ?_
      refine zR_imp (ih (i + 1) k (znw (zst τ it (itE (i + 1) u)) 5 e) (by omega) (Nat.le_succ_of_le hζ) hL1 (k1.i (zin_st hit.1)) (k1.R (hr.k k0 (Ne.symm h1) (Ne.symm h2))) (k1.W (hw.k k0 (fun a ha e => h3 (e ▸ ha)))) (by omega)) (fun v t _ P => ?_)
      rw [List.all_cons, hs, Bool.true_and, show sCnt (sSeq n p q) (us[i] :: us.drop (i + 1)) = 1 + sCnt (sSeq n p q) (us.drop (i + 1)) by rw [sCnt, if_pos hs]]
      exact ⟨P.1, (ka.tr P.2).le (by omega) (by omega)⟩
    · have hs : sSeq n p q us[i] = false := decide_eq_false hc
      refine zR_f (fun q => hc ((lN1 (by omega)).mp q)) (zR_r ?_)
      rw [List.all_cons, hs, Bool.false_and, show sCnt (sSeq n p q) (us[i] :: us.drop (i + 1)) = 1 + 0 by rw [sCnt, hs]; rfl]
      exact ⟨rfl, ka.le (by omega) (by omega)⟩
theorem hl_pairFault_6 (K : Nat) (ζ : pZ) (τ : pH) (x s n p q d u h ub : Nat) (uas : List Nat) (us : List sR) (hζ : ζ.1 ≤ τ.1) (hL : zin ζ τ x (lnE 6 s n p q d u h)) (hr : zRs ζ τ u ub uas) (hw : zRw ζ τ uas us) (hn : 1 ≤ n ∧ n ≤ 1000000000) (hp : p ≤ 99) (hq : q ≤ 99) (hus : ∀ r ∈ us, sRok r) (hK : 2 ^ 50 ≤ K) : zR τ (fnX6_pairFault_6 K ζ x τ) (fun v t => v = nI (sPairF n p q us) ∧ zc5 τ t (sPairC n p q us)) := by
  have hpp : p * p ≤ 99 * 99 := Nat.mul_le_mul hp hp
  have hppc : (p : Int) * p = ((p * p : Nat) : Int) := by rw [Int.natCast_mul]
  have hz1 : -(2 ^ 62) < (p : Int) * p - 4 * q := by rw [hppc]; omega
  have hz2 : (p : Int) * p - 4 * q < 2 ^ 62 := by rw [hppc]; omega
  have hr0 := hr
  obtain ⟨f, hu, hub, hl9, -, -⟩ := hr
  unfold fnX6_pairFault_6
  simp only [hL.ob, dzb, dzc, dzl, fl0, fl1, fl2, fl3, fl4, fl5, fl6, fl7, fi0, fi1, fi2, fi3, fi4, fi5, fi6, fi7, fr0, fr1, fr2, fr3, fr4, fr5, fr6, fr7, fs0, fs1, fs2, fs3, fs4, fs5, fs6, fs7]
  rw [nI_l (by omega), nI_l (by omega), show lN p * lN p - 4 * lN q = Int64.ofInt ((p : Int) * p - 4 * q) by rw [lN_z, lN_z, show (4 : Int64) = Int64.ofInt 4 from rfl, z_mul, z_mul, z_sub], hx_jacobiOf K _ n hz1 hz2 (by omega) (by omega) (by omega), dzb]
  unfold sPairF sPairC
  by_cases hj : jac ((p : Int) * p - 4 * q) n = -1
  · rw [if_pos hj, if_pos hj, if_pos hj]
    rw [hx_common q n (by omega) (by omega), dzb]
    have hg : Nat.gcd q n ≤ n := Nat.gcd_le_right _ (by omega)
    by_cases hc : Nat.gcd q n = 1
    · rw [if_pos hc, if_pos hc]
      refine zR_t ((lN1 (by omega)).mpr hc) ?_
      obtain ⟨e, he⟩ := hx_sequenceOf K ζ τ p q (n + 1) n hζ (by omega) (by omega) (by omega) (by omega) (by omega) (by omega)
      rw [lN_1]
      refine zR_cl (Q := fun v t => v = lN (uM p q n (n + 1)) ∧ t = znw τ 5 e) (zR_eq he ⟨rfl, rfl⟩ ⟨Nat.le_succ _, Nat.le_add_right _ _⟩) ?_
      intro v t _ kq
      obtain ⟨rfl, rfl⟩ := kq
      have k1 : zk zno τ (znw τ 5 e) 1 5 := zk_nw
      have hlt := uM_lt (p := p) (q := q) (m := n) (k := n + 1) (by omega)
      by_cases h8 : uM p q n (n + 1) = 0
      · rw [if_pos h8, if_pos h8]
        refine zR_t ((lN0 (by omega)).mpr h8) ?_
        have hL1 := k1.i hL
        have hu1 := k1.i hu
        simp only [hL1.ob, hu1.ob, dzb, dzc, dzl, fl0, fl1, fl2, fl3, fl4, fl5, fl6, fl7, fi0, fi1, fi2, fi3, fi4, fi5, fi6, fi7, fr0, fr1, fr2, fr3, fr4, fr5, fr6, fr7, fs0, fs1, fs2, fs3, fs4, fs5, fs6, fs7]
        refine zR_cl (Q := fun v t => v = τ.1 + 1 ∧ t = znw (znw τ 5 e) 2 (itE 0 u)) (zR_eq (hr_iter K ζ (znw τ 5 e) u (Nat.le_succ_of_le hζ)) ⟨rfl, rfl⟩ ⟨Nat.le_succ _, Nat.le_add_right _ _⟩) ?_
        intro v t _ kq
        obtain ⟨rfl, rfl⟩ := kq
        have k2 : zk zno (znw τ 5 e) (znw (znw τ 5 e) 2 (itE 0 u)) 1 2 := zk_nw
        have hub1 := hub.1.2
        have hu1' := hu.1.2
        have hL1' := hL.1.2
        refine zR_imp (hl_pairLoop_6 K ζ x s n p q d u h ub (τ.1 + 1) uas us hn hp hq hus (by omega) (by omega) (zin_as_ne (k1.W hw)) (by omega) (by omega) uas.length 0 K _ (by omega) (Nat.le_succ_of_le (Nat.le_succ_of_le hζ)) (k2.i hL1) (zin_nw (Nat.le_succ_of_le hζ)) (k2.R (k1.R hr0)) (k2.W (k1.W hw)) (by omega)) (fun v t _ P => ?_)
        rw [List.drop_zero] at P
        refine ⟨P.1, ?_⟩
        have := (k1.tr k2).new (P.2.wk (fun a _ h => (Or.inr (by rw [h]; exact Nat.le_succ _) : zno a ∨ τ.1 ≤ a)))
        exact this.le (by omega) (by omega)
      · rw [if_neg h8, if_neg h8]
        exact zR_f (fun q => h8 ((lN0 (by omega)).mp q)) (zR_r ⟨rfl, k1⟩)
    · rw [if_neg hc, if_neg hc]
      exact zR_f (fun q => hc ((lN1 (by omega)).mp q)) (zR_r ⟨rfl, zk.rfl⟩)
  · rw [if_neg hj, if_neg hj, if_neg hj]
    exact zR_r ⟨rfl, zk.rfl⟩
theorem hl_isOne_7 (K : Nat) (ζ : pZ) (τ : pH) (x s n p q d u h r : Nat) (w : sR) (hζ : ζ.1 ≤ τ.1) (hL : zin ζ τ x (lnE 7 s n p q d u h)) (hr : zin ζ τ r (rwE w.1 w.2.1 w.2.2)) (hn : 1 ≤ n ∧ n ≤ 1000000000) (hw : w.2.2 ≤ 999) (hK : 200 ≤ K) : zR τ (fnX6_isOne_7 K ζ x r τ) (fun v t => v = nb (sOne n w) ∧ zc5 τ t 1) := by
  unfold fnX6_isOne_7
  simp only [hr.ob, hL.ob, dzb, dzc, dzl, fl0, fl1, fl2, fl3, fl4, fl5, fl6, fl7, fi0, fi1, fi2, fi3, fi4, fi5, fi6, fi7, fr0, fr1, fr2, fr3, fr4, fr5, fr6, fr7, fs0, fs1, fs2, fs3, fs4, fs5, fs6, fs7]
  rw [nI_l (by omega), lN_m1 hn.1]
  refine zR_cl (Q := fun v t => v = lN (w.2.2 ^ (n - 1) % n) ∧ zc5 τ t 1) (zR_eq (hx_powerOf K ζ τ w.2.2 (n - 1) n hζ (by omega) (by omega) (by omega) (by omega) hK) ⟨rfl, zk_nw.le (Nat.le_refl _) (by omega)⟩ ⟨Nat.le_succ _, Nat.le_add_right _ _⟩) ?_
  intro v t _ k
  obtain ⟨rfl, k⟩ := k
  have hlt := Nat.mod_lt (w.2.2 ^ (n - 1)) (show n > 0 by omega)
  exact zR_eq (nb_eq1 (by omega)) ⟨rfl, k⟩ zge.rfl
theorem hl_isFar_7 (K : Nat) (ζ : pZ) (τ : pH) (x s n p q d u h r : Nat) (w : sR) (hζ : ζ.1 ≤ τ.1) (hL : zin ζ τ x (lnE 7 s n p q d u h)) (hr : zin ζ τ r (rwE w.1 w.2.1 w.2.2)) (hn : 1 ≤ n ∧ n ≤ 1000000000) (hw : w.2.2 ≤ 999) (hq : 1 ≤ w.1 ∧ w.1 ≤ 1000000001) (hK : 200 ≤ K) : zR τ (fnX6_isFar_7 K ζ x r τ) (fun v t => v = nb (sFar n w) ∧ zc5 τ t 1) := by
  unfold fnX6_isFar_7
  simp only [hr.ob, hL.ob, dzb, dzc, dzl, fl0, fl1, fl2, fl3, fl4, fl5, fl6, fl7, fi0, fi1, fi2, fi3, fi4, fi5, fi6, fi7, fr0, fr1, fr2, fr3, fr4, fr5, fr6, fr7, fs0, fs1, fs2, fs3, fs4, fs5, fs6, fs7]
  refine zR_t (pz_nz hq.1 (by omega)) ?_
  have hdv : (n - 1) / w.1 ≤ n - 1 := Nat.div_le_self _ _
  rw [nI_l (by omega), lN_m1 hn.1, pk_lDiv (by omega) (by omega) (by omega)]
  refine zR_cl (Q := fun v t => v = lN (w.2.2 ^ ((n - 1) / w.1) % n) ∧ zc5 τ t 1) (zR_eq (hx_powerOf K ζ τ w.2.2 ((n - 1) / w.1) n hζ (by omega) (by omega) (by omega) (by omega) hK) ⟨rfl, zk_nw.le (Nat.le_refl _) (by omega)⟩ ⟨Nat.le_succ _, Nat.le_add_right _ _⟩) ?_
  intro v t _ k
  obtain ⟨rfl, k⟩ := k
  have hlt := Nat.mod_lt (w.2.2 ^ ((n - 1) / w.1)) (show n > 0 by omega)
  have hL' := zk.i k hL
  simp only [hL'.ob, dzb, dzc, dzl, fl0, fl1, fl2, fl3, fl4, fl5, fl6, fl7, fi0, fi1, fi2, fi3, fi4, fi5, fi6, fi7, fr0, fr1, fr2, fr3, fr4, fr5, fr6, fr7, fs0, fs1, fs2, fs3, fs4, fs5, fs6, fs7]
  rw [show lN (w.2.2 ^ ((n - 1) / w.1) % n) - 1 = Int64.ofInt (((w.2.2 ^ ((n - 1) / w.1) % n : Nat) : Int) - 1) by rw [lN_z, show (1 : Int64) = Int64.ofInt 1 from rfl, z_sub], hj_floorMod K _ n (by omega) (by omega) (by omega) (by omega), dzb]
  have hlt2 : ((((w.2.2 ^ ((n - 1) / w.1) % n : Nat) : Int) - 1) % (n : Int)).toNat < n := by
    have := Int.emod_lt_of_pos (((w.2.2 ^ ((n - 1) / w.1) % n : Nat) : Int) - 1) (show (0 : Int) < n by omega); omega
  rw [hx_common _ n (by omega) (by omega), dzb]
  have hg : Nat.gcd ((((w.2.2 ^ ((n - 1) / w.1) % n : Nat) : Int) - 1) % (n : Int)).toNat n ≤ n := Nat.gcd_le_right _ (by omega)
  exact zR_eq (nb_eq1 (by omega)) ⟨rfl, k⟩ zge.rfl
theorem hl_pairLoop_7 (K : Nat) (ζ : pZ) (x s n p q d u h ub it : Nat) (uas : List Nat) (us : List sR) (hn : 1 ≤ n ∧ n ≤ 1000000000) (hp : p ≤ 99) (hq : q ≤ 99) (hus : ∀ r ∈ us, sRok r) (h1 : it ≠ u) (h2 : it ≠ ub) (h3 : it ∉ uas) (h4 : it ≠ x) (hK : 200 ≤ K) : ∀ m i kk τ, i + m = uas.length → ζ.1 ≤ τ.1 → zin ζ τ x (lnE 7 s n p q d u h) → zin ζ τ it (itE i u) → zRs ζ τ u ub uas → zRw ζ τ uas us → m + 1 ≤ kk →
    zR τ ((lfX6_pairFault_7 K ζ kk) x it τ) (fun v t => v = nI (if (us.drop i).all (sSeq n p q) then 0 else 9) ∧ zk (fun a => a = it) τ t (sCnt (sSeq n p q) (us.drop i)) (5 * sCnt (sSeq n p q) (us.drop i))) := by
  intro m
  induction m with
  | zero =>
    intro i kk τ hi hζ hL hit hr hw hk
    obtain ⟨k, rfl⟩ : ∃ j, kk = j + 1 := ⟨kk - 1, by omega⟩
    rw [luX6_pairFault_7_1]
    refine zR_each K ζ τ it i u ub uas _ _ _ hit hr h1 h2 (by omega) (fun _ => zR_r ?_) (fun h => absurd h (by omega))
    rw [List.drop_eq_nil_of_le (by rw [← hw.1]; omega)]
    exact ⟨rfl, zk.rfl⟩
  | succ m ih =>
    intro i kk τ hi hζ hL hit hr hw hk
    obtain ⟨k, rfl⟩ : ∃ j, kk = j + 1 := ⟨kk - 1, by omega⟩
    rw [luX6_pairFault_7_1]
    refine zR_each K ζ τ it i u ub uas _ _ _ hit hr h1 h2 (by omega) (fun h => absurd h (by omega)) (fun hil => ?_)
    have hlr : i < us.length := by rw [← hw.1]; exact hil
    have k0 : zk (fun a => a = it) τ (zst τ it (itE (i + 1) u)) 0 0 := zk_st rfl
    have hrow := k0.in (hw.2 i hil hlr) (fun e => h3 (e ▸ List.getElem_mem hil))
    have hL0 := k0.in hL (Ne.symm h4)
    have ok := hus _ (List.getElem_mem hlr)
    simp only [hrow.ob, hL0.ob, dzb, dzc, dzl, fl0, fl1, fl2, fl3, fl4, fl5, fl6, fl7, fi0, fi1, fi2, fi3, fi4, fi5, fi6, fi7, fr0, fr1, fr2, fr3, fr4, fr5, fr6, fr7, fs0, fs1, fs2, fs3, fs4, fs5, fs6, fs7]
    refine zR_t (pz_nz (by have := ok.1.1; omega) (by have := ok.1.2; omega)) ?_
    have hdv : (n + 1) / us[i].1 ≤ n + 1 := Nat.div_le_self _ _
    rw [nI_l (by omega), nI_l (by omega), lN_1, pk_lDiv (by omega) (by have := ok.1.1; omega) (by have := ok.1.2; omega)]
    obtain ⟨e, he⟩ := hx_sequenceOf K ζ (zst τ it (itE (i + 1) u)) p q ((n + 1) / us[i].1) n hζ (by omega) (by omega) (by omega) (by omega) (by omega) hK
    refine zR_cl (Q := fun v t => v = lN (uM p q n ((n + 1) / us[i].1)) ∧ t = znw (zst τ it (itE (i + 1) u)) 5 e) (zR_eq he ⟨rfl, rfl⟩ ⟨Nat.le_succ _, Nat.le_add_right _ _⟩) ?_
    intro v t _ kq
    obtain ⟨rfl, rfl⟩ := kq
    have k1 : zk zno (zst τ it (itE (i + 1) u)) (znw (zst τ it (itE (i + 1) u)) 5 e) 1 5 := zk_nw
    have hL1 := k1.i hL0
    have hlt := uM_lt (p := p) (q := q) (m := n) (k := (n + 1) / us[i].1) (by omega)
    simp only [hL1.ob, dzb, dzc, dzl, fl0, fl1, fl2, fl3, fl4, fl5, fl6, fl7, fi0, fi1, fi2, fi3, fi4, fi5, fi6, fi7, fr0, fr1, fr2, fr3, fr4, fr5, fr6, fr7, fs0, fs1, fs2, fs3, fs4, fs5, fs6, fs7]
    rw [hx_common _ n (by omega) (by omega), dzb]
    have hg : Nat.gcd (uM p q n ((n + 1) / us[i].1)) n ≤ n := Nat.gcd_le_right _ (by omega)
    have ka : zk (fun a => a = it) τ (znw (zst τ it (itE (i + 1) u)) 5 e) (0 + 1) (0 + 5) := k0.tr (k1.wk (fun _ _ h => h.elim))
    rw [List.drop_eq_getElem_cons hlr]
    by_cases hc : Nat.gcd (uM p q n ((n + 1) / us[i].1)) n = 1
    · have hs : sSeq n p q us[i] = true := decide_eq_true hc
      refine zR_t ((lN1 (by omega)).mpr hc) ?_
      refine zR_imp (ih (i + 1) k (znw (zst τ it (itE (i + 1) u)) 5 e) (by omega) (Nat.le_succ_of_le hζ) hL1 (k1.i (zin_st hit.1)) (k1.R (hr.k k0 (Ne.symm h1) (Ne.symm h2))) (k1.W (hw.k k0 (fun a ha e => h3 (e ▸ ha)))) (by omega)) (fun v t _ P => ?_)
      rw [List.all_cons, hs, Bool.true_and, show sCnt (sSeq n p q) (us[i] :: us.drop (i + 1)) = 1 + sCnt (sSeq n p q) (us.drop (i + 1)) by rw [sCnt, if_pos hs]]
      exact ⟨P.1, (ka.tr P.2).le (by omega) (by omega)⟩
    · have hs : sSeq n p q us[i] = false := decide_eq_false hc
      refine zR_f (fun q => hc ((lN1 (by omega)).mp q)) (zR_r ?_)
      rw [List.all_cons, hs, Bool.false_and, show sCnt (sSeq n p q) (us[i] :: us.drop (i + 1)) = 1 + 0 by rw [sCnt, hs]; rfl]
      exact ⟨rfl, ka.le (by omega) (by omega)⟩
theorem hl_pairFault_7 (K : Nat) (ζ : pZ) (τ : pH) (x s n p q d u h ub : Nat) (uas : List Nat) (us : List sR) (hζ : ζ.1 ≤ τ.1) (hL : zin ζ τ x (lnE 7 s n p q d u h)) (hr : zRs ζ τ u ub uas) (hw : zRw ζ τ uas us) (hn : 1 ≤ n ∧ n ≤ 1000000000) (hp : p ≤ 99) (hq : q ≤ 99) (hus : ∀ r ∈ us, sRok r) (hK : 2 ^ 50 ≤ K) : zR τ (fnX6_pairFault_7 K ζ x τ) (fun v t => v = nI (sPairF n p q us) ∧ zc5 τ t (sPairC n p q us)) := by
  have hpp : p * p ≤ 99 * 99 := Nat.mul_le_mul hp hp
  have hppc : (p : Int) * p = ((p * p : Nat) : Int) := by rw [Int.natCast_mul]
  have hz1 : -(2 ^ 62) < (p : Int) * p - 4 * q := by rw [hppc]; omega
  have hz2 : (p : Int) * p - 4 * q < 2 ^ 62 := by rw [hppc]; omega
  have hr0 := hr
  obtain ⟨f, hu, hub, hl9, -, -⟩ := hr
  unfold fnX6_pairFault_7
  simp only [hL.ob, dzb, dzc, dzl, fl0, fl1, fl2, fl3, fl4, fl5, fl6, fl7, fi0, fi1, fi2, fi3, fi4, fi5, fi6, fi7, fr0, fr1, fr2, fr3, fr4, fr5, fr6, fr7, fs0, fs1, fs2, fs3, fs4, fs5, fs6, fs7]
  rw [nI_l (by omega), nI_l (by omega), show lN p * lN p - 4 * lN q = Int64.ofInt ((p : Int) * p - 4 * q) by rw [lN_z, lN_z, show (4 : Int64) = Int64.ofInt 4 from rfl, z_mul, z_mul, z_sub], hx_jacobiOf K _ n hz1 hz2 (by omega) (by omega) (by omega), dzb]
  unfold sPairF sPairC
  by_cases hj : jac ((p : Int) * p - 4 * q) n = -1
  · rw [if_pos hj, if_pos hj, if_pos hj]
    rw [hx_common q n (by omega) (by omega), dzb]
    have hg : Nat.gcd q n ≤ n := Nat.gcd_le_right _ (by omega)
    by_cases hc : Nat.gcd q n = 1
    · rw [if_pos hc, if_pos hc]
      refine zR_t ((lN1 (by omega)).mpr hc) ?_
      obtain ⟨e, he⟩ := hx_sequenceOf K ζ τ p q (n + 1) n hζ (by omega) (by omega) (by omega) (by omega) (by omega) (by omega)
      rw [lN_1]
      refine zR_cl (Q := fun v t => v = lN (uM p q n (n + 1)) ∧ t = znw τ 5 e) (zR_eq he ⟨rfl, rfl⟩ ⟨Nat.le_succ _, Nat.le_add_right _ _⟩) ?_
      intro v t _ kq
      obtain ⟨rfl, rfl⟩ := kq
      have k1 : zk zno τ (znw τ 5 e) 1 5 := zk_nw
      have hlt := uM_lt (p := p) (q := q) (m := n) (k := n + 1) (by omega)
      by_cases h8 : uM p q n (n + 1) = 0
      · rw [if_pos h8, if_pos h8]
        refine zR_t ((lN0 (by omega)).mpr h8) ?_
        have hL1 := k1.i hL
        have hu1 := k1.i hu
        simp only [hL1.ob, hu1.ob, dzb, dzc, dzl, fl0, fl1, fl2, fl3, fl4, fl5, fl6, fl7, fi0, fi1, fi2, fi3, fi4, fi5, fi6, fi7, fr0, fr1, fr2, fr3, fr4, fr5, fr6, fr7, fs0, fs1, fs2, fs3, fs4, fs5, fs6, fs7]
        refine zR_cl (Q := fun v t => v = τ.1 + 1 ∧ t = znw (znw τ 5 e) 2 (itE 0 u)) (zR_eq (hr_iter K ζ (znw τ 5 e) u (Nat.le_succ_of_le hζ)) ⟨rfl, rfl⟩ ⟨Nat.le_succ _, Nat.le_add_right _ _⟩) ?_
        intro v t _ kq
        obtain ⟨rfl, rfl⟩ := kq
        have k2 : zk zno (znw τ 5 e) (znw (znw τ 5 e) 2 (itE 0 u)) 1 2 := zk_nw
        have hub1 := hub.1.2
        have hu1' := hu.1.2
        have hL1' := hL.1.2
        refine zR_imp (hl_pairLoop_7 K ζ x s n p q d u h ub (τ.1 + 1) uas us hn hp hq hus (by omega) (by omega) (zin_as_ne (k1.W hw)) (by omega) (by omega) uas.length 0 K _ (by omega) (Nat.le_succ_of_le (Nat.le_succ_of_le hζ)) (k2.i hL1) (zin_nw (Nat.le_succ_of_le hζ)) (k2.R (k1.R hr0)) (k2.W (k1.W hw)) (by omega)) (fun v t _ P => ?_)
        rw [List.drop_zero] at P
        refine ⟨P.1, ?_⟩
        have := (k1.tr k2).new (P.2.wk (fun a _ h => (Or.inr (by rw [h]; exact Nat.le_succ _) : zno a ∨ τ.1 ≤ a)))
        exact this.le (by omega) (by omega)
      · rw [if_neg h8, if_neg h8]
        exact zR_f (fun q => h8 ((lN0 (by omega)).mp q)) (zR_r ⟨rfl, k1⟩)
    · rw [if_neg hc, if_neg hc]
      exact zR_f (fun q => hc ((lN1 (by omega)).mp q)) (zR_r ⟨rfl, zk.rfl⟩)
  · rw [if_neg hj, if_neg hj, if_neg hj]
    exact zR_r ⟨rfl, zk.rfl⟩
theorem hl_isOne_8 (K : Nat) (ζ : pZ) (τ : pH) (x s n p q d u h r : Nat) (w : sR) (hζ : ζ.1 ≤ τ.1) (hL : zin ζ τ x (lnE 8 s n p q d u h)) (hr : zin ζ τ r (rwE w.1 w.2.1 w.2.2)) (hn : 1 ≤ n ∧ n ≤ 1000000000) (hw : w.2.2 ≤ 999) (hK : 200 ≤ K) : zR τ (fnX6_isOne_8 K ζ x r τ) (fun v t => v = nb (sOne n w) ∧ zc5 τ t 1) := by
  unfold fnX6_isOne_8
  simp only [hr.ob, hL.ob, dzb, dzc, dzl, fl0, fl1, fl2, fl3, fl4, fl5, fl6, fl7, fi0, fi1, fi2, fi3, fi4, fi5, fi6, fi7, fr0, fr1, fr2, fr3, fr4, fr5, fr6, fr7, fs0, fs1, fs2, fs3, fs4, fs5, fs6, fs7]
  rw [nI_l (by omega), lN_m1 hn.1]
  refine zR_cl (Q := fun v t => v = lN (w.2.2 ^ (n - 1) % n) ∧ zc5 τ t 1) (zR_eq (hx_powerOf K ζ τ w.2.2 (n - 1) n hζ (by omega) (by omega) (by omega) (by omega) hK) ⟨rfl, zk_nw.le (Nat.le_refl _) (by omega)⟩ ⟨Nat.le_succ _, Nat.le_add_right _ _⟩) ?_
  intro v t _ k
  obtain ⟨rfl, k⟩ := k
  have hlt := Nat.mod_lt (w.2.2 ^ (n - 1)) (show n > 0 by omega)
  exact zR_eq (nb_eq1 (by omega)) ⟨rfl, k⟩ zge.rfl
theorem hl_isFar_8 (K : Nat) (ζ : pZ) (τ : pH) (x s n p q d u h r : Nat) (w : sR) (hζ : ζ.1 ≤ τ.1) (hL : zin ζ τ x (lnE 8 s n p q d u h)) (hr : zin ζ τ r (rwE w.1 w.2.1 w.2.2)) (hn : 1 ≤ n ∧ n ≤ 1000000000) (hw : w.2.2 ≤ 999) (hq : 1 ≤ w.1 ∧ w.1 ≤ 1000000001) (hK : 200 ≤ K) : zR τ (fnX6_isFar_8 K ζ x r τ) (fun v t => v = nb (sFar n w) ∧ zc5 τ t 1) := by
  unfold fnX6_isFar_8
  simp only [hr.ob, hL.ob, dzb, dzc, dzl, fl0, fl1, fl2, fl3, fl4, fl5, fl6, fl7, fi0, fi1, fi2, fi3, fi4, fi5, fi6, fi7, fr0, fr1, fr2, fr3, fr4, fr5, fr6, fr7, fs0, fs1, fs2, fs3, fs4, fs5, fs6, fs7]
  refine zR_t (pz_nz hq.1 (by omega)) ?_
  have hdv : (n - 1) / w.1 ≤ n - 1 := Nat.div_le_self _ _
  rw [nI_l (by omega), lN_m1 hn.1, pk_lDiv (by omega) (by omega) (by omega)]
  refine zR_cl (Q := fun v t => v = lN (w.2.2 ^ ((n - 1) / w.1) % n) ∧ zc5 τ t 1) (zR_eq (hx_powerOf K ζ τ w.2.2 ((n - 1) / w.1) n hζ (by omega) (by omega) (by omega) (by omega) hK) ⟨rfl, zk_nw.le (Nat.le_refl _) (by omega)⟩ ⟨Nat.le_succ _, Nat.le_add_right _ _⟩) ?_
  intro v t _ k
  obtain ⟨rfl, k⟩ := k
  have hlt := Nat.mod_lt (w.2.2 ^ ((n - 1) / w.1)) (show n > 0 by omega)
  have hL' := zk.i k hL
  simp only [hL'.ob, dzb, dzc, dzl, fl0, fl1, fl2, fl3, fl4, fl5, fl6, fl7, fi0, fi1, fi2, fi3, fi4, fi5, fi6, fi7, fr0, fr1, fr2, fr3, fr4, fr5, fr6, fr7, fs0, fs1, fs2, fs3, fs4, fs5, fs6, fs7]
  rw [show lN (w.2.2 ^ ((n - 1) / w.1) % n) - 1 = Int64.ofInt (((w.2.2 ^ ((n - 1) / w.1) % n : Nat) : Int) - 1) by rw [lN_z, show (1 : Int64) = Int64.ofInt 1 from rfl, z_sub], hj_floorMod K _ n (by omega) (by omega) (by omega) (by omega), dzb]
  have hlt2 : ((((w.2.2 ^ ((n - 1) / w.1) % n : Nat) : Int) - 1) % (n : Int)).toNat < n := by
    have := Int.emod_lt_of_pos (((w.2.2 ^ ((n - 1) / w.1) % n : Nat) : Int) - 1) (show (0 : Int) < n by omega); omega
  rw [hx_common _ n (by omega) (by omega), dzb]
  have hg : Nat.gcd ((((w.2.2 ^ ((n - 1) / w.1) % n : Nat) : Int) - 1) % (n : Int)).toNat n ≤ n := Nat.gcd_le_right _ (by omega)
  exact zR_eq (nb_eq1 (by omega)) ⟨rfl, k⟩ zge.rfl
theorem hl_pairLoop_8 (K : Nat) (ζ : pZ) (x s n p q d u h ub it : Nat) (uas : List Nat) (us : List sR) (hn : 1 ≤ n ∧ n ≤ 1000000000) (hp : p ≤ 99) (hq : q ≤ 99) (hus : ∀ r ∈ us, sRok r) (h1 : it ≠ u) (h2 : it ≠ ub) (h3 : it ∉ uas) (h4 : it ≠ x) (hK : 200 ≤ K) : ∀ m i kk τ, i + m = uas.length → ζ.1 ≤ τ.1 → zin ζ τ x (lnE 8 s n p q d u h) → zin ζ τ it (itE i u) → zRs ζ τ u ub uas → zRw ζ τ uas us → m + 1 ≤ kk →
    zR τ ((lfX6_pairFault_8 K ζ kk) x it τ) (fun v t => v = nI (if (us.drop i).all (sSeq n p q) then 0 else 9) ∧ zk (fun a => a = it) τ t (sCnt (sSeq n p q) (us.drop i)) (5 * sCnt (sSeq n p q) (us.drop i))) := by
  intro m
  induction m with
  | zero =>
    intro i kk τ hi hζ hL hit hr hw hk
    obtain ⟨k, rfl⟩ : ∃ j, kk = j + 1 := ⟨kk - 1, by omega⟩
    rw [luX6_pairFault_8_1]
    refine zR_each K ζ τ it i u ub uas _ _ _ hit hr h1 h2 (by omega) (fun _ => zR_r ?_) (fun h => absurd h (by omega))
    rw [List.drop_eq_nil_of_le (by rw [← hw.1]; omega)]
    exact ⟨rfl, zk.rfl⟩
  | succ m ih =>
    intro i kk τ hi hζ hL hit hr hw hk
    obtain ⟨k, rfl⟩ : ∃ j, kk = j + 1 := ⟨kk - 1, by omega⟩
    rw [luX6_pairFault_8_1]
    refine zR_each K ζ τ it i u ub uas _ _ _ hit hr h1 h2 (by omega) (fun h => absurd h (by omega)) (fun hil => ?_)
    have hlr : i < us.length := by rw [← hw.1]; exact hil
    have k0 : zk (fun a => a = it) τ (zst τ it (itE (i + 1) u)) 0 0 := zk_st rfl
    have hrow := k0.in (hw.2 i hil hlr) (fun e => h3 (e ▸ List.getElem_mem hil))
    have hL0 := k0.in hL (Ne.symm h4)
    have ok := hus _ (List.getElem_mem hlr)
    simp only [hrow.ob, hL0.ob, dzb, dzc, dzl, fl0, fl1, fl2, fl3, fl4, fl5, fl6, fl7, fi0, fi1, fi2, fi3, fi4, fi5, fi6, fi7, fr0, fr1, fr2, fr3, fr4, fr5, fr6, fr7, fs0, fs1, fs2, fs3, fs4, fs5, fs6, fs7]
    refine zR_t (pz_nz (by have := ok.1.1; omega) (by have := ok.1.2; omega)) ?_
    have hdv : (n + 1) / us[i].1 ≤ n + 1 := Nat.div_le_self _ _
    rw [nI_l (by omega), nI_l (by omega), lN_1, pk_lDiv (by omega) (by have := ok.1.1; omega) (by have := ok.1.2; omega)]
    obtain ⟨e, he⟩ := hx_sequenceOf K ζ (zst τ it (itE (i + 1) u)) p q ((n + 1) / us[i].1) n hζ (by omega) (by omega) (by omega) (by omega) (by omega) hK
    refine zR_cl (Q := fun v t => v = lN (uM p q n ((n + 1) / us[i].1)) ∧ t = znw (zst τ it (itE (i + 1) u)) 5 e) (zR_eq he ⟨rfl, rfl⟩ ⟨Nat.le_succ _, Nat.le_add_right _ _⟩) ?_
    intro v t _ kq
    obtain ⟨rfl, rfl⟩ := kq
    have k1 : zk zno (zst τ it (itE (i + 1) u)) (znw (zst τ it (itE (i + 1) u)) 5 e) 1 5 := zk_nw
    have hL1 := k1.i hL0
    have hlt := uM_lt (p := p) (q := q) (m := n) (k := (n + 1) / us[i].1) (by omega)
    simp only [hL1.ob, dzb, dzc, dzl, fl0, fl1, fl2, fl3, fl4, fl5, fl6, fl7, fi0, fi1, fi2, fi3, fi4, fi5, fi6, fi7, fr0, fr1, fr2, fr3, fr4, fr5, fr6, fr7, fs0, fs1, fs2, fs3, fs4, fs5, fs6, fs7]
    rw [hx_common _ n (by omega) (by omega), dzb]
    have hg : Nat.gcd (uM p q n ((n + 1) / us[i].1)) n ≤ n := Nat.gcd_le_right _ (by omega)
    have ka : zk (fun a => a = it) τ (znw (zst τ it (itE (i + 1) u)) 5 e) (0 + 1) (0 + 5) := k0.tr (k1.wk (fun _ _ h => h.elim))
    rw [List.drop_eq_getElem_cons hlr]
    by_cases hc : Nat.gcd (uM p q n ((n + 1) / us[i].1)) n = 1
    · have hs : sSeq n p q us[i] = true := decide_eq_true hc
      refine zR_t ((lN1 (by omega)).mpr hc) ?_
      refine zR_imp (ih (i + 1) k (znw (zst τ it (itE (i + 1) u)) 5 e) (by omega) (Nat.le_succ_of_le hζ) hL1 (k1.i (zin_st hit.1)) (k1.R (hr.k k0 (Ne.symm h1) (Ne.symm h2))) (k1.W (hw.k k0 (fun a ha e => h3 (e ▸ ha)))) (by omega)) (fun v t _ P => ?_)
      rw [List.all_cons, hs, Bool.true_and, show sCnt (sSeq n p q) (us[i] :: us.drop (i + 1)) = 1 + sCnt (sSeq n p q) (us.drop (i + 1)) by rw [sCnt, if_pos hs]]
      exact ⟨P.1, (ka.tr P.2).le (by omega) (by omega)⟩
    · have hs : sSeq n p q us[i] = false := decide_eq_false hc
      refine zR_f (fun q => hc ((lN1 (by omega)).mp q)) (zR_r ?_)
      rw [List.all_cons, hs, Bool.false_and, show sCnt (sSeq n p q) (us[i] :: us.drop (i + 1)) = 1 + 0 by rw [sCnt, hs]; rfl]
      exact ⟨rfl, ka.le (by omega) (by omega)⟩
theorem hl_pairFault_8 (K : Nat) (ζ : pZ) (τ : pH) (x s n p q d u h ub : Nat) (uas : List Nat) (us : List sR) (hζ : ζ.1 ≤ τ.1) (hL : zin ζ τ x (lnE 8 s n p q d u h)) (hr : zRs ζ τ u ub uas) (hw : zRw ζ τ uas us) (hn : 1 ≤ n ∧ n ≤ 1000000000) (hp : p ≤ 99) (hq : q ≤ 99) (hus : ∀ r ∈ us, sRok r) (hK : 2 ^ 50 ≤ K) : zR τ (fnX6_pairFault_8 K ζ x τ) (fun v t => v = nI (sPairF n p q us) ∧ zc5 τ t (sPairC n p q us)) := by
  have hpp : p * p ≤ 99 * 99 := Nat.mul_le_mul hp hp
  have hppc : (p : Int) * p = ((p * p : Nat) : Int) := by rw [Int.natCast_mul]
  have hz1 : -(2 ^ 62) < (p : Int) * p - 4 * q := by rw [hppc]; omega
  have hz2 : (p : Int) * p - 4 * q < 2 ^ 62 := by rw [hppc]; omega
  have hr0 := hr
  obtain ⟨f, hu, hub, hl9, -, -⟩ := hr
  unfold fnX6_pairFault_8
  simp only [hL.ob, dzb, dzc, dzl, fl0, fl1, fl2, fl3, fl4, fl5, fl6, fl7, fi0, fi1, fi2, fi3, fi4, fi5, fi6, fi7, fr0, fr1, fr2, fr3, fr4, fr5, fr6, fr7, fs0, fs1, fs2, fs3, fs4, fs5, fs6, fs7]
  rw [nI_l (by omega), nI_l (by omega), show lN p * lN p - 4 * lN q = Int64.ofInt ((p : Int) * p - 4 * q) by rw [lN_z, lN_z, show (4 : Int64) = Int64.ofInt 4 from rfl, z_mul, z_mul, z_sub], hx_jacobiOf K _ n hz1 hz2 (by omega) (by omega) (by omega), dzb]
  unfold sPairF sPairC
  by_cases hj : jac ((p : Int) * p - 4 * q) n = -1
  · rw [if_pos hj, if_pos hj, if_pos hj]
    rw [hx_common q n (by omega) (by omega), dzb]
    have hg : Nat.gcd q n ≤ n := Nat.gcd_le_right _ (by omega)
    by_cases hc : Nat.gcd q n = 1
    · rw [if_pos hc, if_pos hc]
      refine zR_t ((lN1 (by omega)).mpr hc) ?_
      obtain ⟨e, he⟩ := hx_sequenceOf K ζ τ p q (n + 1) n hζ (by omega) (by omega) (by omega) (by omega) (by omega) (by omega)
      rw [lN_1]
      refine zR_cl (Q := fun v t => v = lN (uM p q n (n + 1)) ∧ t = znw τ 5 e) (zR_eq he ⟨rfl, rfl⟩ ⟨Nat.le_succ _, Nat.le_add_right _ _⟩) ?_
      intro v t _ kq
      obtain ⟨rfl, rfl⟩ := kq
      have k1 : zk zno τ (znw τ 5 e) 1 5 := zk_nw
      have hlt := uM_lt (p := p) (q := q) (m := n) (k := n + 1) (by omega)
      by_cases h8 : uM p q n (n + 1) = 0
      · rw [if_pos h8, if_pos h8]
        refine zR_t ((lN0 (by omega)).mpr h8) ?_
        have hL1 := k1.i hL
        have hu1 := k1.i hu
        simp only [hL1.ob, hu1.ob, dzb, dzc, dzl, fl0, fl1, fl2, fl3, fl4, fl5, fl6, fl7, fi0, fi1, fi2, fi3, fi4, fi5, fi6, fi7, fr0, fr1, fr2, fr3, fr4, fr5, fr6, fr7, fs0, fs1, fs2, fs3, fs4, fs5, fs6, fs7]
        refine zR_cl (Q := fun v t => v = τ.1 + 1 ∧ t = znw (znw τ 5 e) 2 (itE 0 u)) (zR_eq (hr_iter K ζ (znw τ 5 e) u (Nat.le_succ_of_le hζ)) ⟨rfl, rfl⟩ ⟨Nat.le_succ _, Nat.le_add_right _ _⟩) ?_
        intro v t _ kq
        obtain ⟨rfl, rfl⟩ := kq
        have k2 : zk zno (znw τ 5 e) (znw (znw τ 5 e) 2 (itE 0 u)) 1 2 := zk_nw
        have hub1 := hub.1.2
        have hu1' := hu.1.2
        have hL1' := hL.1.2
        refine zR_imp (hl_pairLoop_8 K ζ x s n p q d u h ub (τ.1 + 1) uas us hn hp hq hus (by omega) (by omega) (zin_as_ne (k1.W hw)) (by omega) (by omega) uas.length 0 K _ (by omega) (Nat.le_succ_of_le (Nat.le_succ_of_le hζ)) (k2.i hL1) (zin_nw (Nat.le_succ_of_le hζ)) (k2.R (k1.R hr0)) (k2.W (k1.W hw)) (by omega)) (fun v t _ P => ?_)
        rw [List.drop_zero] at P
        refine ⟨P.1, ?_⟩
        have := (k1.tr k2).new (P.2.wk (fun a _ h => (Or.inr (by rw [h]; exact Nat.le_succ _) : zno a ∨ τ.1 ≤ a)))
        exact this.le (by omega) (by omega)
      · rw [if_neg h8, if_neg h8]
        exact zR_f (fun q => h8 ((lN0 (by omega)).mp q)) (zR_r ⟨rfl, k1⟩)
    · rw [if_neg hc, if_neg hc]
      exact zR_f (fun q => hc ((lN1 (by omega)).mp q)) (zR_r ⟨rfl, zk.rfl⟩)
  · rw [if_neg hj, if_neg hj, if_neg hj]
    exact zR_r ⟨rfl, zk.rfl⟩
theorem hl_isOne_9 (K : Nat) (ζ : pZ) (τ : pH) (x s n p q d u h r : Nat) (w : sR) (hζ : ζ.1 ≤ τ.1) (hL : zin ζ τ x (lnE 9 s n p q d u h)) (hr : zin ζ τ r (rwE w.1 w.2.1 w.2.2)) (hn : 1 ≤ n ∧ n ≤ 1000000000) (hw : w.2.2 ≤ 999) (hK : 200 ≤ K) : zR τ (fnX6_isOne_9 K ζ x r τ) (fun v t => v = nb (sOne n w) ∧ zc5 τ t 1) := by
  unfold fnX6_isOne_9
  simp only [hr.ob, hL.ob, dzb, dzc, dzl, fl0, fl1, fl2, fl3, fl4, fl5, fl6, fl7, fi0, fi1, fi2, fi3, fi4, fi5, fi6, fi7, fr0, fr1, fr2, fr3, fr4, fr5, fr6, fr7, fs0, fs1, fs2, fs3, fs4, fs5, fs6, fs7]
  rw [nI_l (by omega), lN_m1 hn.1]
  refine zR_cl (Q := fun v t => v = lN (w.2.2 ^ (n - 1) % n) ∧ zc5 τ t 1) (zR_eq (hx_powerOf K ζ τ w.2.2 (n - 1) n hζ (by omega) (by omega) (by omega) (by omega) hK) ⟨rfl, zk_nw.le (Nat.le_refl _) (by omega)⟩ ⟨Nat.le_succ _, Nat.le_add_right _ _⟩) ?_
  intro v t _ k
  obtain ⟨rfl, k⟩ := k
  have hlt := Nat.mod_lt (w.2.2 ^ (n - 1)) (show n > 0 by omega)
  exact zR_eq (nb_eq1 (by omega)) ⟨rfl, k⟩ zge.rfl
theorem hl_isFar_9 (K : Nat) (ζ : pZ) (τ : pH) (x s n p q d u h r : Nat) (w : sR) (hζ : ζ.1 ≤ τ.1) (hL : zin ζ τ x (lnE 9 s n p q d u h)) (hr : zin ζ τ r (rwE w.1 w.2.1 w.2.2)) (hn : 1 ≤ n ∧ n ≤ 1000000000) (hw : w.2.2 ≤ 999) (hq : 1 ≤ w.1 ∧ w.1 ≤ 1000000001) (hK : 200 ≤ K) : zR τ (fnX6_isFar_9 K ζ x r τ) (fun v t => v = nb (sFar n w) ∧ zc5 τ t 1) := by
  unfold fnX6_isFar_9
  simp only [hr.ob, hL.ob, dzb, dzc, dzl, fl0, fl1, fl2, fl3, fl4, fl5, fl6, fl7, fi0, fi1, fi2, fi3, fi4, fi5, fi6, fi7, fr0, fr1, fr2, fr3, fr4, fr5, fr6, fr7, fs0, fs1, fs2, fs3, fs4, fs5, fs6, fs7]
  refine zR_t (pz_nz hq.1 (by omega)) ?_
  have hdv : (n - 1) / w.1 ≤ n - 1 := Nat.div_le_self _ _
  rw [nI_l (by omega), lN_m1 hn.1, pk_lDiv (by omega) (by omega) (by omega)]
  refine zR_cl (Q := fun v t => v = lN (w.2.2 ^ ((n - 1) / w.1) % n) ∧ zc5 τ t 1) (zR_eq (hx_powerOf K ζ τ w.2.2 ((n - 1) / w.1) n hζ (by omega) (by omega) (by omega) (by omega) hK) ⟨rfl, zk_nw.le (Nat.le_refl _) (by omega)⟩ ⟨Nat.le_succ _, Nat.le_add_right _ _⟩) ?_
  intro v t _ k
  obtain ⟨rfl, k⟩ := k
  have hlt := Nat.mod_lt (w.2.2 ^ ((n - 1) / w.1)) (show n > 0 by omega)
  have hL' := zk.i k hL
  simp only [hL'.ob, dzb, dzc, dzl, fl0, fl1, fl2, fl3, fl4, fl5, fl6, fl7, fi0, fi1, fi2, fi3, fi4, fi5, fi6, fi7, fr0, fr1, fr2, fr3, fr4, fr5, fr6, fr7, fs0, fs1, fs2, fs3, fs4, fs5, fs6, fs7]
  rw [show lN (w.2.2 ^ ((n - 1) / w.1) % n) - 1 = Int64.ofInt (((w.2.2 ^ ((n - 1) / w.1) % n : Nat) : Int) - 1) by rw [lN_z, show (1 : Int64) = Int64.ofInt 1 from rfl, z_sub], hj_floorMod K _ n (by omega) (by omega) (by omega) (by omega), dzb]
  have hlt2 : ((((w.2.2 ^ ((n - 1) / w.1) % n : Nat) : Int) - 1) % (n : Int)).toNat < n := by
    have := Int.emod_lt_of_pos (((w.2.2 ^ ((n - 1) / w.1) % n : Nat) : Int) - 1) (show (0 : Int) < n by omega); omega
  rw [hx_common _ n (by omega) (by omega), dzb]
  have hg : Nat.gcd ((((w.2.2 ^ ((n - 1) / w.1) % n : Nat) : Int) - 1) % (n : Int)).toNat n ≤ n := Nat.gcd_le_right _ (by omega)
  exact zR_eq (nb_eq1 (by omega)) ⟨rfl, k⟩ zge.rfl
theorem hl_pairLoop_9 (K : Nat) (ζ : pZ) (x s n p q d u h ub it : Nat) (uas : List Nat) (us : List sR) (hn : 1 ≤ n ∧ n ≤ 1000000000) (hp : p ≤ 99) (hq : q ≤ 99) (hus : ∀ r ∈ us, sRok r) (h1 : it ≠ u) (h2 : it ≠ ub) (h3 : it ∉ uas) (h4 : it ≠ x) (hK : 200 ≤ K) : ∀ m i kk τ, i + m = uas.length → ζ.1 ≤ τ.1 → zin ζ τ x (lnE 9 s n p q d u h) → zin ζ τ it (itE i u) → zRs ζ τ u ub uas → zRw ζ τ uas us → m + 1 ≤ kk →
    zR τ ((lfX6_pairFault_9 K ζ kk) x it τ) (fun v t => v = nI (if (us.drop i).all (sSeq n p q) then 0 else 9) ∧ zk (fun a => a = it) τ t (sCnt (sSeq n p q) (us.drop i)) (5 * sCnt (sSeq n p q) (us.drop i))) := by
  intro m
  induction m with
  | zero =>
    intro i kk τ hi hζ hL hit hr hw hk
    obtain ⟨k, rfl⟩ : ∃ j, kk = j + 1 := ⟨kk - 1, by omega⟩
    rw [luX6_pairFault_9_1]
    refine zR_each K ζ τ it i u ub uas _ _ _ hit hr h1 h2 (by omega) (fun _ => zR_r ?_) (fun h => absurd h (by omega))
    rw [List.drop_eq_nil_of_le (by rw [← hw.1]; omega)]
    exact ⟨rfl, zk.rfl⟩
  | succ m ih =>
    intro i kk τ hi hζ hL hit hr hw hk
    obtain ⟨k, rfl⟩ : ∃ j, kk = j + 1 := ⟨kk - 1, by omega⟩
    rw [luX6_pairFault_9_1]
    refine zR_each K ζ τ it i u ub uas _ _ _ hit hr h1 h2 (by omega) (fun h => absurd h (by omega)) (fun hil => ?_)
    have hlr : i < us.length := by rw [← hw.1]; exact hil
    have k0 : zk (fun a => a = it) τ (zst τ it (itE (i + 1) u)) 0 0 := zk_st rfl
    have hrow := k0.in (hw.2 i hil hlr) (fun e => h3 (e ▸ List.getElem_mem hil))
    have hL0 := k0.in hL (Ne.symm h4)
    have ok := hus _ (List.getElem_mem hlr)
    simp only [hrow.ob, hL0.ob, dzb, dzc, dzl, fl0, fl1, fl2, fl3, fl4, fl5, fl6, fl7, fi0, fi1, fi2, fi3, fi4, fi5, fi6, fi7, fr0, fr1, fr2, fr3, fr4, fr5, fr6, fr7, fs0, fs1, fs2, fs3, fs4, fs5, fs6, fs7]
    refine zR_t (pz_nz (by have := ok.1.1; omega) (by have := ok.1.2; omega)) ?_
    have hdv : (n + 1) / us[i].1 ≤ n + 1 := Nat.div_le_self _ _
    rw [nI_l (by omega), nI_l (by omega), lN_1, pk_lDiv (by omega) (by have := ok.1.1; omega) (by have := ok.1.2; omega)]
    obtain ⟨e, he⟩ := hx_sequenceOf K ζ (zst τ it (itE (i + 1) u)) p q ((n + 1) / us[i].1) n hζ (by omega) (by omega) (by omega) (by omega) (by omega) hK
    refine zR_cl (Q := fun v t => v = lN (uM p q n ((n + 1) / us[i].1)) ∧ t = znw (zst τ it (itE (i + 1) u)) 5 e) (zR_eq he ⟨rfl, rfl⟩ ⟨Nat.le_succ _, Nat.le_add_right _ _⟩) ?_
    intro v t _ kq
    obtain ⟨rfl, rfl⟩ := kq
    have k1 : zk zno (zst τ it (itE (i + 1) u)) (znw (zst τ it (itE (i + 1) u)) 5 e) 1 5 := zk_nw
    have hL1 := k1.i hL0
    have hlt := uM_lt (p := p) (q := q) (m := n) (k := (n + 1) / us[i].1) (by omega)
    simp only [hL1.ob, dzb, dzc, dzl, fl0, fl1, fl2, fl3, fl4, fl5, fl6, fl7, fi0, fi1, fi2, fi3, fi4, fi5, fi6, fi7, fr0, fr1, fr2, fr3, fr4, fr5, fr6, fr7, fs0, fs1, fs2, fs3, fs4, fs5, fs6, fs7]
    rw [hx_common _ n (by omega) (by omega), dzb]
    have hg : Nat.gcd (uM p q n ((n + 1) / us[i].1)) n ≤ n := Nat.gcd_le_right _ (by omega)
    have ka : zk (fun a => a = it) τ (znw (zst τ it (itE (i + 1) u)) 5 e) (0 + 1) (0 + 5) := k0.tr (k1.wk (fun _ _ h => h.elim))
    rw [List.drop_eq_getElem_cons hlr]
    by_cases hc : Nat.gcd (uM p q n ((n + 1) / us[i].1)) n = 1
    · have hs : sSeq n p q us[i] = true := decide_eq_true hc
      refine zR_t ((lN1 (by omega)).mpr hc) ?_
      refine zR_imp (ih (i + 1) k (znw (zst τ it (itE (i + 1) u)) 5 e) (by omega) (Nat.le_succ_of_le hζ) hL1 (k1.i (zin_st hit.1)) (k1.R (hr.k k0 (Ne.symm h1) (Ne.symm h2))) (k1.W (hw.k k0 (fun a ha e => h3 (e ▸ ha)))) (by omega)) (fun v t _ P => ?_)
      rw [List.all_cons, hs, Bool.true_and, show sCnt (sSeq n p q) (us[i] :: us.drop (i + 1)) = 1 + sCnt (sSeq n p q) (us.drop (i + 1)) by rw [sCnt, if_pos hs]]
      exact ⟨P.1, (ka.tr P.2).le (by omega) (by omega)⟩
    · have hs : sSeq n p q us[i] = false := decide_eq_false hc
      refine zR_f (fun q => hc ((lN1 (by omega)).mp q)) (zR_r ?_)
      rw [List.all_cons, hs, Bool.false_and, show sCnt (sSeq n p q) (us[i] :: us.drop (i + 1)) = 1 + 0 by rw [sCnt, hs]; rfl]
      exact ⟨rfl, ka.le (by omega) (by omega)⟩
theorem hl_pairFault_9 (K : Nat) (ζ : pZ) (τ : pH) (x s n p q d u h ub : Nat) (uas : List Nat) (us : List sR) (hζ : ζ.1 ≤ τ.1) (hL : zin ζ τ x (lnE 9 s n p q d u h)) (hr : zRs ζ τ u ub uas) (hw : zRw ζ τ uas us) (hn : 1 ≤ n ∧ n ≤ 1000000000) (hp : p ≤ 99) (hq : q ≤ 99) (hus : ∀ r ∈ us, sRok r) (hK : 2 ^ 50 ≤ K) : zR τ (fnX6_pairFault_9 K ζ x τ) (fun v t => v = nI (sPairF n p q us) ∧ zc5 τ t (sPairC n p q us)) := by
  have hpp : p * p ≤ 99 * 99 := Nat.mul_le_mul hp hp
  have hppc : (p : Int) * p = ((p * p : Nat) : Int) := by rw [Int.natCast_mul]
  have hz1 : -(2 ^ 62) < (p : Int) * p - 4 * q := by rw [hppc]; omega
  have hz2 : (p : Int) * p - 4 * q < 2 ^ 62 := by rw [hppc]; omega
  have hr0 := hr
  obtain ⟨f, hu, hub, hl9, -, -⟩ := hr
  unfold fnX6_pairFault_9
  simp only [hL.ob, dzb, dzc, dzl, fl0, fl1, fl2, fl3, fl4, fl5, fl6, fl7, fi0, fi1, fi2, fi3, fi4, fi5, fi6, fi7, fr0, fr1, fr2, fr3, fr4, fr5, fr6, fr7, fs0, fs1, fs2, fs3, fs4, fs5, fs6, fs7]
  rw [nI_l (by omega), nI_l (by omega), show lN p * lN p - 4 * lN q = Int64.ofInt ((p : Int) * p - 4 * q) by rw [lN_z, lN_z, show (4 : Int64) = Int64.ofInt 4 from rfl, z_mul, z_mul, z_sub], hx_jacobiOf K _ n hz1 hz2 (by omega) (by omega) (by omega), dzb]
  unfold sPairF sPairC
  by_cases hj : jac ((p : Int) * p - 4 * q) n = -1
  · rw [if_pos hj, if_pos hj, if_pos hj]
    rw [hx_common q n (by omega) (by omega), dzb]
    have hg : Nat.gcd q n ≤ n := Nat.gcd_le_right _ (by omega)
    by_cases hc : Nat.gcd q n = 1
    · rw [if_pos hc, if_pos hc]
      refine zR_t ((lN1 (by omega)).mpr hc) ?_
      obtain ⟨e, he⟩ := hx_sequenceOf K ζ τ p q (n + 1) n hζ (by omega) (by omega) (by omega) (by omega) (by omega) (by omega)
      rw [lN_1]
      refine zR_cl (Q := fun v t => v = lN (uM p q n (n + 1)) ∧ t = znw τ 5 e) (zR_eq he ⟨rfl, rfl⟩ ⟨Nat.le_succ _, Nat.le_add_right _ _⟩) ?_
      intro v t _ kq
      obtain ⟨rfl, rfl⟩ := kq
      have k1 : zk zno τ (znw τ 5 e) 1 5 := zk_nw
      have hlt := uM_lt (p := p) (q := q) (m := n) (k := n + 1) (by omega)
      by_cases h8 : uM p q n (n + 1) = 0
      · rw [if_pos h8, if_pos h8]
        refine zR_t ((lN0 (by omega)).mpr h8) ?_
        have hL1 := k1.i hL
        have hu1 := k1.i hu
        simp only [hL1.ob, hu1.ob, dzb, dzc, dzl, fl0, fl1, fl2, fl3, fl4, fl5, fl6, fl7, fi0, fi1, fi2, fi3, fi4, fi5, fi6, fi7, fr0, fr1, fr2, fr3, fr4, fr5, fr6, fr7, fs0, fs1, fs2, fs3, fs4, fs5, fs6, fs7]
        refine zR_cl (Q := fun v t => v = τ.1 + 1 ∧ t = znw (znw τ 5 e) 2 (itE 0 u)) (zR_eq (hr_iter K ζ (znw τ 5 e) u (Nat.le_succ_of_le hζ)) ⟨rfl, rfl⟩ ⟨Nat.le_succ _, Nat.le_add_right _ _⟩) ?_
        intro v t _ kq
        obtain ⟨rfl, rfl⟩ := kq
        have k2 : zk zno (znw τ 5 e) (znw (znw τ 5 e) 2 (itE 0 u)) 1 2 := zk_nw
        have hub1 := hub.1.2
        have hu1' := hu.1.2
        have hL1' := hL.1.2
        refine zR_imp (hl_pairLoop_9 K ζ x s n p q d u h ub (τ.1 + 1) uas us hn hp hq hus (by omega) (by omega) (zin_as_ne (k1.W hw)) (by omega) (by omega) uas.length 0 K _ (by omega) (Nat.le_succ_of_le (Nat.le_succ_of_le hζ)) (k2.i hL1) (zin_nw (Nat.le_succ_of_le hζ)) (k2.R (k1.R hr0)) (k2.W (k1.W hw)) (by omega)) (fun v t _ P => ?_)
        rw [List.drop_zero] at P
        refine ⟨P.1, ?_⟩
        have := (k1.tr k2).new (P.2.wk (fun a _ h => (Or.inr (by rw [h]; exact Nat.le_succ _) : zno a ∨ τ.1 ≤ a)))
        exact this.le (by omega) (by omega)
      · rw [if_neg h8, if_neg h8]
        exact zR_f (fun q => h8 ((lN0 (by omega)).mp q)) (zR_r ⟨rfl, k1⟩)
    · rw [if_neg hc, if_neg hc]
      exact zR_f (fun q => hc ((lN1 (by omega)).mp q)) (zR_r ⟨rfl, zk.rfl⟩)
  · rw [if_neg hj, if_neg hj, if_neg hj]
    exact zR_r ⟨rfl, zk.rfl⟩
