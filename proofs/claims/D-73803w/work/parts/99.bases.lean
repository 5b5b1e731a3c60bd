/-! one base for all rows (Pratt) -/
theorem nd_inj {as : List Nat} (h : as.Nodup) {i j : Nat} (hi : i < as.length) (hj : j < as.length) (e : as[i] = as[j]) : i = j := by
  have h := List.pairwise_iff_getElem.mp h
  rcases Nat.lt_trichotomy i j with h1 | h1 | h1
  · exact absurd e (h i j hi hj h1)
  · exact h1
  · exact absurd e.symm (h j i hj hi h1)
def wB (a : Nat) (r : sR) : sR := (r.1, r.2.1, a)
def mix (a b i : Nat) (dn : List sR) : List sR := (dn.take i).map (wB a) ++ (dn.drop i).map (wB b)
theorem mix_len (a b i : Nat) (dn : List sR) : (mix a b i dn).length = dn.length := by
  unfold mix
  rw [List.length_append, List.length_map, List.length_map, List.length_take, List.length_drop]
  omega
theorem mix_lt {a b i j : Nat} {dn : List sR} (h : j < (mix a b i dn).length) (hj : j < dn.length) : (mix a b i dn)[j] = if j < i then wB a dn[j] else wB b dn[j] := by
  unfold mix at *
  by_cases hji : j < i
  · rw [if_pos hji]
    rw [List.getElem_append_left (by rw [List.length_map, List.length_take]; omega), List.getElem_map, List.getElem_take]
  · rw [if_neg hji]
    rw [List.getElem_append_right (by rw [List.length_map, List.length_take]; omega), List.getElem_map, List.getElem_drop]
    congr 1
    have : i + (j - ((dn.take i).map (wB a)).length) = j := by rw [List.length_map, List.length_take]; omega
    simp only [this]
theorem mix_all (a b : Nat) (dn : List sR) : mix a b dn.length dn = dn.map (wB a) := by
  unfold mix
  rw [List.take_of_length_le (Nat.le_refl _), List.drop_eq_nil_of_le (Nat.le_refl _), List.map_nil, List.append_nil]
theorem mix_0 (a b : Nat) (dn : List sR) : mix a b 0 dn = dn.map (wB b) := rfl
/-- a row's base is written -/
theorem zRw.base {ζ : pZ} {τ : pH} {as : List Nat} {dn : List sR} {a b i : Nat} (h : zRw ζ τ as (mix a b i dn)) (hnd : as.Nodup) (hi : i < as.length) (hd : i < dn.length) : zRw ζ (zst τ as[i] (rwE dn[i].1 dn[i].2.1 a)) as (mix a b (i + 1) dn) := by
  refine ⟨by rw [h.1, mix_len, mix_len], fun j h1 h2 => ?_⟩
  have hj : j < dn.length := by rw [mix_len] at h2; exact h2
  rw [mix_lt h2 hj]
  by_cases hji : j = i
  · subst hji
    rw [if_pos (by omega)]
    exact zin_st (h.2 j h1 (by rw [mix_len]; exact hj)).1
  · have hne : as[j] ≠ as[i] := fun e => hji (nd_inj hnd h1 hi e)
    have := (h.2 j h1 (by rw [mix_len]; exact hj)).st_ne (e' := rwE dn[i].1 dn[i].2.1 a) hne
    rw [mix_lt _ hj] at this
    by_cases hlt : j < i
    · rw [if_pos hlt] at this; rw [if_pos (by omega)]; exact this
    · rw [if_neg hlt] at this; rw [if_neg (by omega)]; exact this
def sBc (n a : Nat) : List sR → Nat
  | [] => 0
  | r :: rs => if sOne n (wB a r) then (if sFar n (wB a r) then 2 + sBc n a rs else 2) else 1
def sBok (n a : Nat) (rs : List sR) : Bool := rs.all (fun r => sOne n (wB a r) && sFar n (wB a r))
/-- so many bases from one on: the first that is good; cells -/
def sBs (n : Nat) (rs : List sR) : Nat → Nat → Option Nat × Nat := Nat.rec (motive := fun _ => Nat → Option Nat × Nat) (fun _ => (none, 0)) (fun _ G a => if sBok n a rs then (some a, 1 + sBc n a rs) else ((G (a + 1)).1, 1 + sBc n a rs + (G (a + 1)).2))
theorem sBs_s (n : Nat) (rs : List sR) (m a : Nat) : sBs n rs (m + 1) a = if sBok n a rs then (some a, 1 + sBc n a rs) else ((sBs n rs m (a + 1)).1, 1 + sBc n a rs + (sBs n rs m (a + 1)).2) := rfl
def sBase (n : Nat) (rs : List sR) : Option Nat × Nat := sBs n rs 998 2
theorem zR_le {α β : Type} {τ : pH} {v v' : β} {f : β → Option (α × pH)} {P : α → pH → Prop} (e : v = v') (k : zR τ (f v') P) : zR τ (dz_l v f) P := by subst e; exact k
/-- the rows behind, when a base has failed already -/
theorem hp_off (K : Nat) (ζ : pZ) (x d db it a b : Nat) (das : List Nat) (dn : List sR) (ha : a ≤ 999) (h1 : it ≠ d) (h2 : it ≠ db) (h3 : it ∉ das) (h4 : d ∉ das ∧ db ∉ das) (hnd : das.Nodup) (P : Int32 → pH → Prop) : ∀ m i kk τ, i + m = das.length → zin ζ τ it (itE i d) → zRs ζ τ d db das → zRw ζ τ das (mix a b i dn) → das.length = dn.length → 2 * m + 2 ≤ kk →
    (∀ t k', kk ≤ k' + 2 * m + 2 → zk (fun q => q = it ∨ q ∈ das) τ t 0 0 → zRs ζ t d db das → zRw ζ t das (dn.map (wB a)) → zR t ((lfX9_findsBases K ζ k').1 x (nI (a + 1)) t) P) →
    zR τ ((lfX9_findsBases K ζ kk).2.1 x (nI a) 0 it τ) P := by
  intro m
  induction m with
  | zero =>
    intro i kk τ hi hit hr hw hl hk hN
    obtain ⟨k, rfl⟩ : ∃ j, kk = j + 1 := ⟨kk - 1, by omega⟩
    rw [luX9_findsBases_2]
    refine zR_each K ζ τ it i d db das _ _ _ hit hr h1 h2 (by omega) (fun _ => ?_) (fun h => absurd h (by omega))
    refine zR_t rfl (zR_l ?_)
    rw [nI_1]
    rw [show i = dn.length by omega, mix_all] at hw
    exact hN τ k (by omega) zk.rfl hr hw
  | succ m ih =>
    intro i kk τ hi hit hr hw hl hk hN
    obtain ⟨k, rfl⟩ : ∃ j, kk = j + 1 := ⟨kk - 1, by omega⟩
    rw [luX9_findsBases_2]
    refine zR_each K ζ τ it i d db das _ _ _ hit hr h1 h2 (by omega) (fun h => absurd h (by omega)) (fun hil => ?_)
    have k0 : zk (fun q => q = it ∨ q ∈ das) τ (zst τ it (itE (i + 1) d)) 0 0 := zk_st (Or.inl rfl)
    have k0' : zk (fun q => q = it) τ (zst τ it (itE (i + 1) d)) 0 0 := zk_st rfl
    have hw0 := hw.k k0' (fun q hq e => h3 (e ▸ hq))
    have hdl : i < dn.length := by omega
    have hrow := hw0.2 i hil (by rw [mix_len]; exact hdl)
    rw [mix_lt _ hdl, if_neg (Nat.lt_irrefl _)] at hrow
    have hmem := List.getElem_mem hil
    refine zR_b hrow.ob (zR_b (hrow.wo (k := 2) (Nat.le_of_ble_eq_true rfl)) ?_)
    refine zR_l (zR_t rfl ?_)
    have hw1 := hw0.base hnd hil hdl
    have k1 : zk (fun q => q = it ∨ q ∈ das) (zst τ it (itE (i + 1) d)) (zst (zst τ it (itE (i + 1) d)) das[i] (rwE dn[i].1 dn[i].2.1 a)) 0 0 := zk_st (Or.inr hmem)
    have k01 := k0.tr k1
    have hr1 : zRs ζ (zst (zst τ it (itE (i + 1) d)) das[i] (rwE dn[i].1 dn[i].2.1 a)) d db das := hr.k k01 (fun e => e.elim (Ne.symm h1) h4.1) (fun e => e.elim (Ne.symm h2) h4.2)
    have hit1 : zin ζ (zst (zst τ it (itE (i + 1) d)) das[i] (rwE dn[i].1 dn[i].2.1 a)) it (itE (i + 1) d) := (zin_st hit.1).st_ne (fun e => h3 (e ▸ hmem))
    obtain ⟨k, rfl⟩ : ∃ j, k = j + 1 := ⟨k - 1, by omega⟩
    refine zR_mono (s := zst (zst τ it (itE (i + 1) d)) das[i] (rwE dn[i].1 dn[i].2.1 a)) ⟨Nat.le_refl _, Nat.le_refl _⟩ ?_
    show zR _ ((lfX9_findsBases K ζ (k + 1)).2.2 x (nI a) it (zst (zst τ it (itE (i + 1) d)) das[i] (rwE dn[i].1 dn[i].2.1 a))) P
    rw [luX9_findsBases_3]
    exact ih (i + 1) k _ (by omega) hit1 hr1 hw1 hl (by omega) (fun t k' e kz X Y => hN t k' (by omega) ((k01.tr kz).le (by omega) (by omega)) X Y)
/-- the rows, while the base is good -/
theorem hp_on (K : Nat) (ζ : pZ) (x s n p q d db u h it a b : Nat) (das : List Nat) (dn : List sR) (ha : a ≤ 999) (hn : 1 ≤ n ∧ n ≤ 1000000000) (hok : ∀ r ∈ dn, sRok r) (h1 : it ≠ d) (h2 : it ≠ db) (h3 : it ∉ das) (h4 : d ∉ das ∧ db ∉ das) (h5 : x ≠ it ∧ x ∉ das) (hnd : das.Nodup) (hK : 2 ^ 50 ≤ K) (P : Int32 → pH → Prop) : ∀ m i kk τ, i + m = das.length → ζ.1 ≤ τ.1 → zin ζ τ x (lnE 6 s n p q d u h) → zin ζ τ it (itE i d) → zRs ζ τ d db das → zRw ζ τ das (mix a b i dn) → das.length = dn.length → 2 * m + 2 ≤ kk →
    (∀ t, sBok n a (dn.drop i) = true → zge τ t → zk (fun q => q = it ∨ q ∈ das) τ t (sBc n a (dn.drop i)) (5 * sBc n a (dn.drop i)) → zRs ζ t d db das → zRw ζ t das (dn.map (wB a)) → P 1 t) →
    (∀ t k', sBok n a (dn.drop i) = false → kk ≤ k' + 2 * m + 2 → zge τ t → zk (fun q => q = it ∨ q ∈ das) τ t (sBc n a (dn.drop i)) (5 * sBc n a (dn.drop i)) → zRs ζ t d db das → zRw ζ t das (dn.map (wB a)) → zR t ((lfX9_findsBases K ζ k').1 x (nI (a + 1)) t) P) →
    zR τ ((lfX9_findsBases K ζ kk).2.1 x (nI a) 1 it τ) P := by
  intro m
  induction m with
  | zero =>
    intro i kk τ hi hζ hL hit hr hw hl hk hS hN
    obtain ⟨k, rfl⟩ : ∃ j, kk = j + 1 := ⟨kk - 1, by omega⟩
    rw [luX9_findsBases_2]
    refine zR_each K ζ τ it i d db das _ _ _ hit hr h1 h2 (by omega) (fun _ => ?_) (fun h => absurd h (by omega))
    rw [show i = dn.length by omega, mix_all] at hw
    rw [List.drop_eq_nil_of_le (show dn.length ≤ i by omega)] at hS
    exact zR_f (by decide) (zR_r (hS τ rfl zge.rfl zk.rfl hr hw))
  | succ m ih =>
    intro i kk τ hi hζ hL hit hr hw hl hk hS hN
    obtain ⟨k, rfl⟩ : ∃ j, kk = j + 1 := ⟨kk - 1, by omega⟩
    rw [luX9_findsBases_2]
    refine zR_each K ζ τ it i d db das _ _ _ hit hr h1 h2 (by omega) (fun h => absurd h (by omega)) (fun hil => ?_)
    have k0 : zk (fun q => q = it ∨ q ∈ das) τ (zst τ it (itE (i + 1) d)) 0 0 := zk_st (Or.inl rfl)
    have k0' : zk (fun q => q = it) τ (zst τ it (itE (i + 1) d)) 0 0 := zk_st rfl
    have hw0 := hw.k k0' (fun q hq e => h3 (e ▸ hq))
    have hdl : i < dn.length := by omega
    have hrow := hw0.2 i hil (by rw [mix_len]; exact hdl)
    rw [mix_lt _ hdl, if_neg (Nat.lt_irrefl _)] at hrow
    have hmem := List.getElem_mem hil
    have ok := hok _ (List.getElem_mem hdl)
    refine zR_b hrow.ob (zR_b (hrow.wo (k := 2) (Nat.le_of_ble_eq_true rfl)) ?_)
    refine zR_le (v' := zst (zst τ it (itE (i + 1) d)) das[i] (rwE dn[i].1 dn[i].2.1 a)) rfl (zR_f (by decide) ?_)
    have hw1 := hw0.base hnd hil hdl
    have k1 : zk (fun q => q = it ∨ q ∈ das) (zst τ it (itE (i + 1) d)) (zst (zst τ it (itE (i + 1) d)) das[i] (rwE dn[i].1 dn[i].2.1 a)) 0 0 := zk_st (Or.inr hmem)
    have k01 := k0.tr k1
    have hr1 : zRs ζ (zst (zst τ it (itE (i + 1) d)) das[i] (rwE dn[i].1 dn[i].2.1 a)) d db das := hr.k k01 (fun e => e.elim (Ne.symm h1) h4.1) (fun e => e.elim (Ne.symm h2) h4.2)
    have hit1 : zin ζ (zst (zst τ it (itE (i + 1) d)) das[i] (rwE dn[i].1 dn[i].2.1 a)) it (itE (i + 1) d) := (zin_st hit.1).st_ne (fun e => h3 (e ▸ hmem))
    have hL1 : zin ζ (zst (zst τ it (itE (i + 1) d)) das[i] (rwE dn[i].1 dn[i].2.1 a)) x (lnE 6 s n p q d u h) := k01.in hL (fun e => e.elim h5.1 h5.2)
    have hrow1 : zin ζ (zst (zst τ it (itE (i + 1) d)) das[i] (rwE dn[i].1 dn[i].2.1 a)) das[i] (rwE (wB a dn[i]).1 (wB a dn[i]).2.1 (wB a dn[i]).2.2) := zin_st hrow.1
    refine zR_mono (s := zst (zst τ it (itE (i + 1) d)) das[i] (rwE dn[i].1 dn[i].2.1 a)) ⟨Nat.le_refl _, Nat.le_refl _⟩ ?_
    have g01 : zge τ (zst (zst τ it (itE (i + 1) d)) das[i] (rwE dn[i].1 dn[i].2.1 a)) := ⟨Nat.le_refl _, Nat.le_refl _⟩
    generalize zst (zst τ it (itE (i + 1) d)) das[i] (rwE dn[i].1 dn[i].2.1 a) = τ1 at *
    rw [List.drop_eq_getElem_cons hdl] at hS hN
    have go : ∀ t2 c, zge τ1 t2 → zc5 τ1 t2 c → sBok n a (dn[i] :: dn.drop (i + 1)) = false → sBc n a (dn[i] :: dn.drop (i + 1)) = c → zR t2 ((lfX9_findsBases K ζ k).2.2 x (nI a) it t2) P := by
      intro t2 c g kc e1 e2
      obtain ⟨k, rfl⟩ : ∃ j, k = j + 1 := ⟨k - 1, by omega⟩
      rw [luX9_findsBases_3]
      refine hp_off K ζ x d db it a b das dn ha h1 h2 h3 h4 hnd P m (i + 1) k t2 (by omega) (zk.i kc hit1) (zk.R kc hr1) (zk.W kc hw1) hl (by omega) (fun t k' e kz X Y => ?_)
      exact hN t k' e1 (by omega) (g01.tr (g.tr kz.1)) (((k01.tr (zk.wk kc (fun _ _ e => e.elim))).tr kz).le (by omega) (by omega)) X Y
    refine zR_b hL1.ob (zR_cl (hl_isOne_6 K ζ τ1 x s n p q d u h das[i] (wB a dn[i]) (Nat.le_trans hζ g01.1) hL1 hrow1 hn ha (by omega)) (fun v t1 g1 Q => ?_))
    obtain ⟨rfl, kc1⟩ := Q
    cases hc1 : sOne n (wB a dn[i]) with
    | false =>
      refine zR_t rfl (go t1 1 g1 kc1 ?_ ?_)
      · show ((sOne n (wB a dn[i]) && sFar n (wB a dn[i])) && _) = false
        rw [hc1]; rfl
      · show (if sOne n (wB a dn[i]) = true then _ else 1) = 1
        rw [hc1]; rfl
    | true =>
      refine zR_f (by decide) (zR_b (zk.i kc1 hL1).ob (zR_cl (hl_isFar_6 K ζ t1 x s n p q d u h das[i] (wB a dn[i]) (Nat.le_trans hζ (Nat.le_trans g01.1 g1.1)) (zk.i kc1 hL1) (zk.i kc1 hrow1) hn ha (by have := ok.1; show 1 ≤ dn[i].1 ∧ dn[i].1 ≤ 1000000001; omega) (by omega)) (fun v t2 g2 Q => ?_)))
      obtain ⟨rfl, kc2⟩ := Q
      have kc := zc5.tr kc1 kc2
      cases hc2 : sFar n (wB a dn[i]) with
      | false =>
        refine zR_t rfl (go t2 (1 + 1) (g1.tr g2) kc ?_ ?_)
        · show ((sOne n (wB a dn[i]) && sFar n (wB a dn[i])) && _) = false
          rw [hc1, hc2]; rfl
        · show (if sOne n (wB a dn[i]) = true then (if sFar n (wB a dn[i]) = true then _ else 2) else 1) = 1 + 1
          rw [hc1, hc2]; rfl
      | true =>
        refine zR_f (by decide) ?_
        have eb : sBok n a (dn[i] :: dn.drop (i + 1)) = sBok n a (dn.drop (i + 1)) := by
          show ((sOne n (wB a dn[i]) && sFar n (wB a dn[i])) && _) = _
          rw [hc1, hc2]; rfl
        have ec : sBc n a (dn[i] :: dn.drop (i + 1)) = 2 + sBc n a (dn.drop (i + 1)) := by
          show (if sOne n (wB a dn[i]) = true then (if sFar n (wB a dn[i]) = true then _ else 2) else 1) = _
          rw [hc1, hc2]; rfl
        rw [eb, ec] at hS hN
        have k2 := k01.tr (zk.wk (S' := fun q => q = it ∨ q ∈ das) kc (fun _ _ e => e.elim))
        refine ih (i + 1) k t2 (by omega) (Nat.le_trans hζ (Nat.le_trans g01.1 (Nat.le_trans g1.1 g2.1))) (zk.i kc hL1) (zk.i kc hit1) (zk.R kc hr1) (zk.W kc hw1) hl (by omega) (fun t e g kz X Y => ?_) (fun t k' e f g kz X Y => ?_)
        · exact hS t e (g01.tr (g1.tr (g2.tr g))) ((k2.tr kz).le (by omega) (by omega)) X Y
        · exact hN t k' e (by omega) (g01.tr (g1.tr (g2.tr g))) ((k2.tr kz).le (by omega) (by omega)) X Y
