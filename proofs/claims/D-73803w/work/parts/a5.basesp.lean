/-! a base of its own for each row: the list -/
def sBl (n : Nat) : List sR → Option (List sR) × Nat
  | [] => (some [], 0)
  | w :: ws => match (sB1 n w 998 2).1 with
    | none => (none, (sB1 n w 998 2).2)
    | some a => ((sBl n ws).1.map (fun l => wB a w :: l), (sB1 n w 998 2).2 + (sBl n ws).2)
theorem sBl_no {n : Nat} {w : sR} {ws : List sR} (h : (sB1 n w 998 2).1 = none) : sBl n (w :: ws) = (none, (sB1 n w 998 2).2) := by
  show (match (sB1 n w 998 2).1 with | none => (none, (sB1 n w 998 2).2) | some a => ((sBl n ws).1.map (fun l => wB a w :: l), (sB1 n w 998 2).2 + (sBl n ws).2)) = _
  rw [h]
theorem sBl_so {n a : Nat} {w : sR} {ws : List sR} (h : (sB1 n w 998 2).1 = some a) : sBl n (w :: ws) = ((sBl n ws).1.map (fun l => wB a w :: l), (sB1 n w 998 2).2 + (sBl n ws).2) := by
  show (match (sB1 n w 998 2).1 with | none => (none, (sB1 n w 998 2).2) | some a => ((sBl n ws).1.map (fun l => wB a w :: l), (sB1 n w 998 2).2 + (sBl n ws).2)) = _
  rw [h]
theorem sBl_ok {n : Nat} : ∀ {ws l : List sR}, (∀ r ∈ ws, sRok r) → (sBl n ws).1 = some l → l.length = ws.length ∧ ∀ r ∈ l, sRok r := by
  intro ws
  induction ws with
  | nil =>
    intro l _ e
    have : [] = l := Option.some.inj e
    subst this
    exact ⟨rfl, fun r h => absurd h List.not_mem_nil⟩
  | cons w ws ih =>
    intro l hk e
    cases h : (sB1 n w 998 2).1 with
    | none => rw [sBl_no h] at e; cases e
    | some a =>
      rw [sBl_so h] at e
      cases h2 : (sBl n ws).1 with
      | none => rw [h2] at e; cases e
      | some l' =>
        rw [h2] at e
        have e : wB a w :: l' = l := Option.some.inj e
        subst e
        have i := ih (fun r hr => hk r (List.mem_cons_of_mem _ hr)) h2
        have ha := sB1_b n w 998 2 a h
        have hw := hk w List.mem_cons_self
        refine ⟨by rw [List.length_cons, List.length_cons, i.1], fun r hr => ?_⟩
        rcases List.mem_cons.mp hr with e | hr
        · subst e; exact ⟨hw.1, hw.2.1, by show a ≤ 999; omega⟩
        · exact i.2 r hr
/-- one row of a list has moved -/
theorem zRw.up1 {ζ : pZ} {τ t : pH} {c s : Nat} {as : List Nat} {l ws : List sR} {w w' : sR} (h : zRw ζ τ as (l ++ w :: ws)) (hnd : as.Nodup) (hi : l.length < as.length) (k : zk (fun y => y = as[l.length]) τ t c s) (hr : zin ζ t as[l.length] (rwE w'.1 w'.2.1 w'.2.2)) : zRw ζ t as (l ++ w' :: ws) := by
  have e1 : (l ++ w' :: ws).length = (l ++ w :: ws).length := by simp only [List.length_append, List.length_cons]
  refine ⟨by rw [h.1, e1], fun j h1 h2 => ?_⟩
  have h2' : j < (l ++ w :: ws).length := by omega
  by_cases hj : j = l.length
  · subst hj
    have : (l ++ w' :: ws)[l.length] = w' := by rw [List.getElem_append_right (Nat.le_refl _)]; simp only [Nat.sub_self, List.getElem_cons_zero]
    rw [this]
    exact hr
  · have hne : as[j] ≠ as[l.length] := fun e => hj (nd_inj hnd h1 hi e)
    have e2 : (l ++ w' :: ws)[j] = (l ++ w :: ws)[j] := by
      by_cases hlt : j < l.length
      · rw [List.getElem_append_left hlt, List.getElem_append_left hlt]
      · rw [List.getElem_append_right (by omega), List.getElem_append_right (by omega)]
        obtain ⟨m, hm⟩ : ∃ m, j - l.length = m + 1 := ⟨j - l.length - 1, by omega⟩
        simp only [hm, List.getElem_cons_succ]
    rw [e2]
    exact k.in (h.2 j h1 h2') hne
def blOut (ζ : pZ) (d db : Nat) (das : List Nat) (l : List sR) (o : Option (List sR)) (v : Int32) (t : pH) : Prop := match o with
  | some r => v = 1 ∧ zRs ζ t d db das ∧ zRw ζ t das (l ++ r)
  | none => v = 0
theorem hb_list_7 (K : Nat) (ζ : pZ) (x s n p q d db u h it : Nat) (das : List Nat) (hn : 1 ≤ n ∧ n ≤ 1000000000) (h1 : it ≠ d) (h2 : it ≠ db) (h3 : it ∉ das) (h4 : d ∉ das ∧ db ∉ das) (h5 : x ≠ it ∧ x ∉ das) (hnd : das.Nodup) (hK : 2 ^ 50 ≤ K) : ∀ (ws l : List sR) kk τ, (∀ r ∈ ws, sRok r) → ζ.1 ≤ τ.1 → zin ζ τ x (lnE 7 s n p q d u h) → zin ζ τ it (itE l.length d) → zRs ζ τ d db das → zRw ζ τ das (l ++ ws) → ws.length + 1 ≤ kk →
    zR τ ((lfX6_findsBases_7 K ζ kk) x it τ) (fun v t => blOut ζ d db das l (sBl n ws).1 v t ∧ zk (fun y => y = it ∨ y ∈ das) τ t (sBl n ws).2 (5 * (sBl n ws).2)) := by
  intro ws
  induction ws with
  | nil =>
    intro l kk τ hok hζ hL hit hr hw hk
    obtain ⟨k, rfl⟩ : ∃ j, kk = j + 1 := ⟨kk - 1, by omega⟩
    rw [luX6_findsBases_7_1]
    have hl := hw.1
    rw [List.append_nil] at hl
    refine zR_each K ζ τ it l.length d db das _ _ _ hit hr h1 h2 (by omega) (fun _ => ?_) (fun h => absurd h (by omega))
    exact zR_r ⟨⟨rfl, hr, hw⟩, zk.rfl⟩
  | cons w ws ih =>
    intro l kk τ hok hζ hL hit hr hw hk
    obtain ⟨k, rfl⟩ : ∃ j, kk = j + 1 := ⟨kk - 1, by rw [List.length_cons] at hk; omega⟩
    rw [luX6_findsBases_7_1]
    have hl := hw.1
    rw [List.length_append, List.length_cons] at hl
    rw [List.length_cons] at hk
    refine zR_each K ζ τ it l.length d db das _ _ _ hit hr h1 h2 (by omega) (fun h => absurd h (by omega)) (fun hil => ?_)
    have k0 : zk (fun y => y = it ∨ y ∈ das) τ (zst τ it (itE (l.length + 1) d)) 0 0 := zk_st (Or.inl rfl)
    have k0' : zk (fun y => y = it) τ (zst τ it (itE (l.length + 1) d)) 0 0 := zk_st rfl
    have hw0 := hw.k k0' (fun y hy e => h3 (e ▸ hy))
    have hrow := hw0.2 l.length hil (by rw [List.length_append, List.length_cons]; omega)
    have hget : (l ++ w :: ws)[l.length]'(by rw [List.length_append, List.length_cons]; omega) = w := by rw [List.getElem_append_right (Nat.le_refl _)]; simp only [Nat.sub_self, List.getElem_cons_zero]
    rw [hget] at hrow
    have hmem := List.getElem_mem hil
    have ok := hok w List.mem_cons_self
    have hL0 := k0'.in hL h5.1
    have hit0 : zin ζ (zst τ it (itE (l.length + 1) d)) it (itE (l.length + 1) d) := zin_st hit.1
    have hr0 := hr.k k0' (fun e => h1 e.symm) (fun e => h2 e.symm)
    refine zR_b hrow.ob (zR_b hL0.ob ?_)
    refine zR_cl (hb_findsBase_7 K ζ (zst τ it (itE (l.length + 1) d)) x s n p q d u h das[l.length] w.2.2 w hζ hn ⟨Nat.le_of_succ_le ok.1.1, ok.1.2⟩ (fun e => h5.2 (e ▸ hmem)) hL0 hrow hK) (fun v t g P => ?_)
    obtain ⟨hb, k1⟩ := P
    have k01 : zk (fun y => y = it ∨ y ∈ das) τ t (sB1 n w 998 2).2 (5 * (sB1 n w 998 2).2) := (k0.tr (k1.wk (fun y _ e => Or.inr (e ▸ hmem)))).le (by omega) (by omega)
    cases hs : (sB1 n w 998 2).1 with
    | none =>
      rw [hs] at hb
      rw [sBl_no hs]
      exact zR_t hb (zR_r ⟨rfl, k01⟩)
    | some a =>
      rw [hs] at hb
      obtain ⟨hv, hin⟩ := hb
      subst hv
      rw [sBl_so hs]
      refine zR_f (by decide) ?_
      have hw1 := hw0.up1 (w' := wB a w) hnd hil k1 hin
      have hL1 := k1.in hL0 (fun e => h5.2 (e ▸ hmem))
      have hit1 := k1.in hit0 (fun e => h3 (e ▸ hmem))
      have hr1 := hr0.k k1 (fun e => h4.1 (e ▸ hmem)) (fun e => h4.2 (e ▸ hmem))
      have hw2 : zRw ζ t das ((l ++ [wB a w]) ++ ws) := by rw [List.append_assoc]; exact hw1
      have hit2 : zin ζ t it (itE (l ++ [wB a w]).length d) := by rw [List.length_append]; exact hit1
      refine zR_imp (ih (l ++ [wB a w]) k t (fun r hr => hok r (List.mem_cons_of_mem _ hr)) (Nat.le_trans hζ g.1) hL1 hit2 hr1 hw2 (by omega)) (fun v t2 _ P => ⟨?_, (k01.tr P.2).le (by show _ ≤ (sB1 n w 998 2).2 + (sBl n ws).2; omega) (by show _ ≤ 5 * ((sB1 n w 998 2).2 + (sBl n ws).2); omega)⟩)
      have := P.1
      cases h2 : (sBl n ws).1 with
      | none => rw [h2] at this; exact this
      | some r =>
        rw [h2] at this
        obtain ⟨A, B, C⟩ := this
        rw [List.append_assoc] at C
        exact ⟨A, B, C⟩
theorem hb_findsBases_7 (K : Nat) (ζ : pZ) (τ : pH) (x s n p q d db u h : Nat) (das : List Nat) (dn : List sR) (hζ : ζ.1 ≤ τ.1) (hn : 1 ≤ n ∧ n ≤ 1000000000) (hok : ∀ r ∈ dn, sRok r) (h4 : d ∉ das ∧ db ∉ das) (h5 : x ∉ das) (hnd : das.Nodup) (hL : zin ζ τ x (lnE 7 s n p q d u h)) (hr : zRs ζ τ d db das) (hw : zRw ζ τ das dn) (hK : 2 ^ 50 ≤ K) : zR τ (fnX6_findsBases_7 K ζ x τ) (fun v t => blOut ζ d db das [] (sBl n dn).1 v t ∧ zk (fun y => y ∈ das) τ t (1 + (sBl n dn).2) (5 * (1 + (sBl n dn).2))) := by
  have hr0 := hr
  obtain ⟨f, hd, hdb, hl9, -, -⟩ := hr
  unfold fnX6_findsBases_7
  simp only [hL.ob, hd.ob, dzb, dzc, dzl, fl0, fl1, fl2, fl3, fl4, fl5, fl6, fl7, fi0, fi1, fi2, fi3, fi4, fi5, fi6, fi7, fr0, fr1, fr2, fr3, fr4, fr5, fr6, fr7, fs0, fs1, fs2, fs3, fs4, fs5, fs6, fs7]
  refine zR_cl (Q := fun v t => v = τ.1 ∧ t = znw τ 2 (itE 0 d)) (zR_eq (hr_iter K ζ τ d hζ) ⟨rfl, rfl⟩ ⟨Nat.le_succ _, Nat.le_add_right _ _⟩) ?_
  intro v t _ P
  obtain ⟨rfl, rfl⟩ := P
  have k1 : zk zno τ (znw τ 2 (itE 0 d)) 1 2 := zk_nw
  have hl := hw.1
  refine zR_imp (hb_list_7 K ζ x s n p q d db u h τ.1 das hn (Nat.ne_of_gt hd.1.2) (Nat.ne_of_gt hdb.1.2) (zin_as_ne hw) h4 ⟨Nat.ne_of_lt hL.1.2, h5⟩ hnd hK dn [] K _ hok (Nat.le_succ_of_le hζ) (k1.i hL) (zin_nw hζ) (k1.R hr0) (k1.W hw) (by omega)) (fun v t _ P => ⟨P.1, ?_⟩)
  have := (zk.wk (S' := fun y => y ∈ das) k1 (fun _ _ e => e.elim)).new (P.2.wk (fun y _ e => e.elim (fun e => (Or.inr (by rw [e]; exact Nat.le_refl _) : y ∈ das ∨ τ.1 ≤ y)) Or.inl))
  exact this.le (by omega) (by omega)
theorem hb_list_9 (K : Nat) (ζ : pZ) (x s n p q d db u h it : Nat) (das : List Nat) (hn : 1 ≤ n ∧ n ≤ 1000000000) (h1 : it ≠ d) (h2 : it ≠ db) (h3 : it ∉ das) (h4 : d ∉ das ∧ db ∉ das) (h5 : x ≠ it ∧ x ∉ das) (hnd : das.Nodup) (hK : 2 ^ 50 ≤ K) : ∀ (ws l : List sR) kk τ, (∀ r ∈ ws, sRok r) → ζ.1 ≤ τ.1 → zin ζ τ x (lnE 9 s n p q d u h) → zin ζ τ it (itE l.length d) → zRs ζ τ d db das → zRw ζ τ das (l ++ ws) → ws.length + 1 ≤ kk →
    zR τ ((lfX6_findsBases_9 K ζ kk) x it τ) (fun v t => blOut ζ d db das l (sBl n ws).1 v t ∧ zk (fun y => y = it ∨ y ∈ das) τ t (sBl n ws).2 (5 * (sBl n ws).2)) := by
  intro ws
  induction ws with
  | nil =>
    intro l kk τ hok hζ hL hit hr hw hk
    obtain ⟨k, rfl⟩ : ∃ j, kk = j + 1 := ⟨kk - 1, by omega⟩
    rw [luX6_findsBases_9_1]
    have hl := hw.1
    rw [List.append_nil] at hl
    refine zR_each K ζ τ it l.length d db das _ _ _ hit hr h1 h2 (by omega) (fun _ => ?_) (fun h => absurd h (by omega))
    exact zR_r ⟨⟨rfl, hr, hw⟩, zk.rfl⟩
  | cons w ws ih =>
    intro l kk τ hok hζ hL hit hr hw hk
    obtain ⟨k, rfl⟩ : ∃ j, kk = j + 1 := ⟨kk - 1, by rw [List.length_cons] at hk; omega⟩
    rw [luX6_findsBases_9_1]
    have hl := hw.1
    rw [List.length_append, List.length_cons] at hl
    rw [List.length_cons] at hk
    refine zR_each K ζ τ it l.length d db das _ _ _ hit hr h1 h2 (by omega) (fun h => absurd h (by omega)) (fun hil => ?_)
    have k0 : zk (fun y => y = it ∨ y ∈ das) τ (zst τ it (itE (l.length + 1) d)) 0 0 := zk_st (Or.inl rfl)
    have k0' : zk (fun y => y = it) τ (zst τ it (itE (l.length + 1) d)) 0 0 := zk_st rfl
    have hw0 := hw.k k0' (fun y hy e => h3 (e ▸ hy))
    have hrow := hw0.2 l.length hil (by rw [List.length_append, List.length_cons]; omega)
    have hget : (l ++ w :: ws)[l.length]'(by rw [List.length_append, List.length_cons]; omega) = w := by rw [List.getElem_append_right (Nat.le_refl _)]; simp only [Nat.sub_self, List.getElem_cons_zero]
    rw [hget] at hrow
    have hmem := List.getElem_mem hil
    have ok := hok w List.mem_cons_self
    have hL0 := k0'.in hL h5.1
    have hit0 : zin ζ (zst τ it (itE (l.length + 1) d)) it (itE (l.length + 1) d) := zin_st hit.1
    have hr0 := hr.k k0' (fun e => h1 e.symm) (fun e => h2 e.symm)
    refine zR_b hrow.ob (zR_b hL0.ob ?_)
    refine zR_cl (hb_findsBase_9 K ζ (zst τ it (itE (l.length + 1) d)) x s n p q d u h das[l.length] w.2.2 w hζ hn ⟨Nat.le_of_succ_le ok.1.1, ok.1.2⟩ (fun e => h5.2 (e ▸ hmem)) hL0 hrow hK) (fun v t g P => ?_)
    obtain ⟨hb, k1⟩ := P
    have k01 : zk (fun y => y = it ∨ y ∈ das) τ t (sB1 n w 998 2).2 (5 * (sB1 n w 998 2).2) := (k0.tr (k1.wk (fun y _ e => Or.inr (e ▸ hmem)))).le (by omega) (by omega)
    cases hs : (sB1 n w 998 2).1 with
    | none =>
      rw [hs] at hb
      rw [sBl_no hs]
      exact zR_t hb (zR_r ⟨rfl, k01⟩)
    | some a =>
      rw [hs] at hb
      obtain ⟨hv, hin⟩ := hb
      subst hv
      rw [sBl_so hs]
      refine zR_f (by decide) ?_
      have hw1 := hw0.up1 (w' := wB a w) hnd hil k1 hin
      have hL1 := k1.in hL0 (fun e => h5.2 (e ▸ hmem))
      have hit1 := k1.in hit0 (fun e => h3 (e ▸ hmem))
      have hr1 := hr0.k k1 (fun e => h4.1 (e ▸ hmem)) (fun e => h4.2 (e ▸ hmem))
      have hw2 : zRw ζ t das ((l ++ [wB a w]) ++ ws) := by rw [List.append_assoc]; exact hw1
      have hit2 : zin ζ t it (itE (l ++ [wB a w]).length d) := by rw [List.length_append]; exact hit1
      refine zR_imp (ih (l ++ [wB a w]) k t (fun r hr => hok r (List.mem_cons_of_mem _ hr)) (Nat.le_trans hζ g.1) hL1 hit2 hr1 hw2 (by omega)) (fun v t2 _ P => ⟨?_, (k01.tr P.2).le (by show _ ≤ (sB1 n w 998 2).2 + (sBl n ws).2; omega) (by show _ ≤ 5 * ((sB1 n w 998 2).2 + (sBl n ws).2); omega)⟩)
      have := P.1
      cases h2 : (sBl n ws).1 with
      | none => rw [h2] at this; exact this
      | some r =>
        rw [h2] at this
        obtain ⟨A, B, C⟩ := this
        rw [List.append_assoc] at C
        exact ⟨A, B, C⟩
theorem hb_findsBases_9 (K : Nat) (ζ : pZ) (τ : pH) (x s n p q d db u h : Nat) (das : List Nat) (dn : List sR) (hζ : ζ.1 ≤ τ.1) (hn : 1 ≤ n ∧ n ≤ 1000000000) (hok : ∀ r ∈ dn, sRok r) (h4 : d ∉ das ∧ db ∉ das) (h5 : x ∉ das) (hnd : das.Nodup) (hL : zin ζ τ x (lnE 9 s n p q d u h)) (hr : zRs ζ τ d db das) (hw : zRw ζ τ das dn) (hK : 2 ^ 50 ≤ K) : zR τ (fnX6_findsBases_9 K ζ x τ) (fun v t => blOut ζ d db das [] (sBl n dn).1 v t ∧ zk (fun y => y ∈ das) τ t (1 + (sBl n dn).2) (5 * (1 + (sBl n dn).2))) := by
  have hr0 := hr
  obtain ⟨f, hd, hdb, hl9, -, -⟩ := hr
  unfold fnX6_findsBases_9
  simp only [hL.ob, hd.ob, dzb, dzc, dzl, fl0, fl1, fl2, fl3, fl4, fl5, fl6, fl7, fi0, fi1, fi2, fi3, fi4, fi5, fi6, fi7, fr0, fr1, fr2, fr3, fr4, fr5, fr6, fr7, fs0, fs1, fs2, fs3, fs4, fs5, fs6, fs7]
  refine zR_cl (Q := fun v t => v = τ.1 ∧ t = znw τ 2 (itE 0 d)) (zR_eq (hr_iter K ζ τ d hζ) ⟨rfl, rfl⟩ ⟨Nat.le_succ _, Nat.le_add_right _ _⟩) ?_
  intro v t _ P
  obtain ⟨rfl, rfl⟩ := P
  have k1 : zk zno τ (znw τ 2 (itE 0 d)) 1 2 := zk_nw
  have hl := hw.1
  refine zR_imp (hb_list_9 K ζ x s n p q d db u h τ.1 das hn (Nat.ne_of_gt hd.1.2) (Nat.ne_of_gt hdb.1.2) (zin_as_ne hw) h4 ⟨Nat.ne_of_lt hL.1.2, h5⟩ hnd hK dn [] K _ hok (Nat.le_succ_of_le hζ) (k1.i hL) (zin_nw hζ) (k1.R hr0) (k1.W hw) (by omega)) (fun v t _ P => ⟨P.1, ?_⟩)
  have := (zk.wk (S' := fun y => y ∈ das) k1 (fun _ _ e => e.elim)).new (P.2.wk (fun y _ e => e.elim (fun e => (Or.inr (by rw [e]; exact Nat.le_refl _) : y ∈ das ∨ τ.1 ≤ y)) Or.inl))
  exact this.le (by omega) (by omega)
