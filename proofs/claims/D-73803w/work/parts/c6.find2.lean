/-! find, whole -/
theorem sBks_lt : ∀ F l e, (sBks F l e).1 = true → e.1 < (sBks F l e).2.1.1 := by
  intro F l e h
  cases F with
  | zero => cases h
  | succ F =>
    have hF : ∀ q e, sPre e (sBkF (sBks F) q e).2.1 := by
      intro q e
      cases hr : sRest (fun k => (e.2 k).1) (sFt e.2) q e.1 0 with
      | some k => rw [sBkF_y (by rw [hr]; rfl)]; exact sPre.rf
      | none =>
        cases ho : (sFnd (if q < 100 then 0 else 1) q).1 with
        | none => rw [sBkF_n rfl hr ho]; exact sPre.rf
        | some l => rw [sBkF_s rfl hr ho]; exact sBks_pre F l e
    have hR : ∀ rs e, sPre e (sBkR (sBkF (sBks F)) rs e).2.1 := by
      intro rs
      induction rs with
      | nil => intro e; exact sPre.rf
      | cons r rs ih2 =>
        intro e
        cases hb : (sBkF (sBks F) r.1 e).1 with
        | false => rw [sBkR_f hb]; exact hF _ _
        | true => rw [sBkR_t hb]; exact (hF _ _).tr (ih2 _)
    rw [sBks_s] at h
    rw [sBks_s]
    have h : (sMid (sBkF (sBks F)) l (sBkR (sBkF (sBks F)) l.2.2.2.1 e)).1 = true := h
    show e.1 < (sMid (sBkF (sBks F)) l (sBkR (sBkF (sBks F)) l.2.2.2.1 e)).2.1.1
    have p1 := hR l.2.2.2.1 e
    generalize sBkR (sBkF (sBks F)) l.2.2.2.1 e = x at *
    unfold sMid at *
    by_cases h1 : x.1 = true
    · rw [if_pos h1] at h
      rw [if_pos h1]
      have p2 := hR l.2.2.2.2 x.2.1
      generalize sBkR (sBkF (sBks F)) l.2.2.2.2 x.2.1 = y at *
      have h : (sEnd l y).1 = true := h
      show e.1 < (sEnd l y).2.1.1
      unfold sEnd at *
      by_cases h2 : y.1 = true
      · rw [if_pos h2] at h
        rw [if_pos h2]
        by_cases h3 : y.2.1.1 = 60
        · rw [if_pos h3] at h; cases h
        · rw [if_neg h3]
          have := p1.1
          have := p2.1
          show e.1 < y.2.1.1 + 1
          omega
      · rw [if_neg h2] at h; exact absurd h h2
    · rw [if_neg h1] at h; exact absurd h h1
theorem nx_in4 (K s : Nat) (hs : s ≤ 4) : fnX0_isIn K (Int32.toInt64 (nI s)) 0 4 = some 1 := by
  rw [nx_isIn, nI_l (by omega), decide_eq_true (show (0 : Int64) ≤ lN s ∧ lN s ≤ (4 : Int64) from ⟨(pk_lLE (a := 0) (b := s) (by omega) (by omega)).mpr (Nat.zero_le _), (pk_lLE (a := s) (b := 4) (by omega) (by omega)).mpr hs⟩)]
  rfl
theorem nx_num (K n : Nat) (hn : 2 ≤ n ∧ n ≤ 1000000000) : fnX0_isNumber K (Int32.toInt64 (nI n)) = some 1 := by
  rw [nx_isNumber, nI_l (by omega), decide_eq_true (show (2 : Int64) ≤ lN n ∧ lN n ≤ (1000000000 : Int64) from ⟨(pk_lLE (a := 2) (b := n) (by omega) (by omega)).mpr hn.1, (pk_lLE (a := n) (b := 1000000000) (by omega) (by omega)).mpr hn.2⟩)]
  rfl
theorem sFind_y {n s k : Nat} {e : sLe} (h : sFr e.2 n s e.1 0 = some k) : sFind n s e = (nI k, e, 0, 0) := by
  unfold sFind
  rw [h]
theorem sFind_c {n s : Nat} {e : sLe} (h : sFr e.2 n s e.1 0 = none) (hc : sCan n s = false) : sFind n s e = (-2, e, 5, 30) := by
  unfold sFind
  rw [h]
  exact if_neg (by rw [hc]; decide)
theorem sFind_n {n s : Nat} {e : sLe} (h : sFr e.2 n s e.1 0 = none) (hc : sCan n s = true) (hf : (sFnd s n).1 = none) : sFind n s e = (-2, e, 5 + (sFnd s n).2, 330 + 5 * (sFnd s n).2) := by
  unfold sFind
  rw [h]
  show (if sCan n s = true then _ else _ : sFz) = _
  rw [if_pos hc, hf]
theorem sFind_t {n s : Nat} {e : sLe} {l : sLn} (h : sFr e.2 n s e.1 0 = none) (hc : sCan n s = true) (hf : (sFnd s n).1 = some l) (hb : (sBks 64 l e).1 = true) : sFind n s e = (nI ((sBks 64 l e).2.1.1 - 1), (sBks 64 l e).2.1, 5 + (sFnd s n).2 + (sBks 64 l e).2.2.1, 330 + 5 * (sFnd s n).2 + (sBks 64 l e).2.2.2) := by
  unfold sFind
  rw [h]
  show (if sCan n s = true then _ else _ : sFz) = _
  rw [if_pos hc, hf]
  exact if_pos hb
theorem sFind_f {n s : Nat} {e : sLe} {l : sLn} (h : sFr e.2 n s e.1 0 = none) (hc : sCan n s = true) (hf : (sFnd s n).1 = some l) (hb : (sBks 64 l e).1 = false) : sFind n s e = (-3, e, 5 + (sFnd s n).2 + (sBks 64 l e).2.2.1, 330 + 5 * (sFnd s n).2 + (sBks 64 l e).2.2.2) := by
  unfold sFind
  rw [h]
  show (if sCan n s = true then _ else _ : sFz) = _
  rw [if_pos hc, hf]
  exact if_neg (by rw [hb]; decide)
theorem ar2 (c l1 laid : Nat) (h : l1 ≤ 60) : 0 + 200 * (l1 - laid) + (30 + (5 * c + 300)) ≤ 330 + 5 * c + 12000 := by omega
theorem hx_find {K : Nat} {ζ : pZ} {τ : pH} {h N : Nat} {L : Nat → sLn} {taped : Nat} {tp : Nat → Int32} (n s : Nat) (hn : 2 ≤ n ∧ n ≤ 1000000000) (hs : s ≤ 4) (hζ : ζ.1 ≤ τ.1) (U : zU ζ τ h N L taped tp) (hK : 2 ^ 50 ≤ K) :
    zR τ (fnX0_find K ζ h (nI n) (nI s) τ) (fun v t => v = (sFind n s (N, L)).1 ∧ zU ζ t h (sFind n s (N, L)).2.1.1 (sFind n s (N, L)).2.1.2 taped tp ∧ zN τ t ((sFind n s (N, L)).2.2.1 + 2400) ((sFind n s (N, L)).2.2.2 + 12000)) := by
  obtain ⟨own, al, ea, af, laid, ta, ra, da, mc, A, H, T, D⟩ := U
  have a6 := H.2.2.2.2.2.1
  have a7 := H.2.2.2.2.2.2
  have hN := H.2.2.2.1
  unfold fnX0_find
  rw [nx_in4 K s hs, dzb, if_neg (by decide), nx_num K n hn, dzb, if_neg (by decide), nI_l (by omega)]
  refine zR_b H.1.ob (zR_cl (hx_findRight n s (by omega) (by omega) hζ H hK) (fun v t1 g1 P => ?_))
  obtain ⟨rfl, l1, b1, b2, b3⟩ := P
  have hN1 := b2.2.2.2.1
  have b3' : zk (zS ζ h al af ea h) τ t1 (0 + 40 * (l1 - laid)) (0 + 200 * (l1 - laid)) := (b3.wk (fun z _ e => e.elim (fun e => Or.inl e) (fun e => Or.inr (Or.inl e)))).le (by omega) (by omega)
  have T1 : zTb ζ t1 ta ra da tp := T.s (own := own) b3' (fun z q => Or.inl (a6.S a7 z q)) a6
  cases hf : sFr L n s N 0 with
  | some k =>
    have hk := (sFr_lt L n s N 0 k hf).2.1
    rw [sFind_y (e := (N, L)) hf]
    exact zR_f (nI_pos (by omega)) (zR_r ⟨rfl, ⟨own, al, ea, af, l1, ta, ra, da, mc, A, b2, T1, D⟩, b3'.N (by omega) (by omega)⟩)
  | none =>
    refine zR_t (by decide) (zR_b b2.1.ob (zR_cl (hm_made K ζ t1 h n s (Nat.le_trans hζ g1.1) hn hs) (fun x t2 g2 P => ?_)))
    obtain ⟨rfl, hx, kz⟩ := P
    rw [nx_canBe K n s (by omega) (by omega) hs, dzb]
    cases hc : sCan n s with
    | false =>
      rw [sFind_c (e := (N, L)) hf hc]
      have k2 := b3'.tr (kz.wk (fun _ _ e => e.elim))
      exact zR_t rfl (zR_r ⟨rfl, ⟨own, al, ea, af, l1, ta, ra, da, mc, A, b2.k0 kz, T1.k kz (fun e => e) (fun e => e) (fun e => e), D⟩, k2.N (by show _ ≤ 5 + 2400; omega) (by show _ ≤ 30 + 12000; omega)⟩)
    | true =>
      have hp : pn_prime n ∧ (s = 0 ∨ 3 ≤ n) := by
        unfold sCan at hc
        rw [Bool.and_eq_true] at hc
        refine ⟨prB_t.mp hc.1, ?_⟩
        by_cases h0 : s = 0
        · exact Or.inl h0
        · rw [if_neg h0] at hc
          have := of_decide_eq_true hc.2
          exact Or.inr this
      have ht5 : t1.1 + 5 ≤ t2.1 := by
        obtain ⟨f, -, hub, -⟩ := hx.2.1.2.2.1
        exact hub.1.2
      refine zR_f (by decide) (zR_cl (hf_isFound K ζ t2 t1.1 s n h (Nat.le_trans hζ (Nat.le_trans g1.1 g2.1)) hx hs hp.2 hK) (fun v t3 g3 P => ?_))
      obtain ⟨po, k3⟩ := P
      have K2 : zk zno t1 t3 (5 + (sFnd s n).2) (30 + (5 * (sFnd s n).2 + 300)) := kz.new (k3.wk (fun z _ e => Or.inr e.1))
      have T3 : zTb ζ t3 ta ra da tp := T1.k K2 (fun e => e) (fun e => e) (fun e => e)
      have K3 := b3'.tr (K2.wk (fun _ _ e => e.elim))
      cases ho : (sFnd s n).1 with
      | none =>
        rw [ho] at po
        have po : v = 0 := po
        rw [sFind_n (e := (N, L)) hf hc ho]
        exact zR_t po (zR_r ⟨rfl, ⟨own, al, ea, af, l1, ta, ra, da, mc, A, b2.k0 K2, T3, D⟩, K3.N (by show _ ≤ 5 + (sFnd s n).2 + 2400; omega) (ar2 _ _ _ (by omega))⟩)
      | some l =>
        rw [ho] at po
        obtain ⟨hv, das, uas, hlx, ⟨e1, e2⟩, f1, f2, n1, n2, n3⟩ := po
        have lo := sLow_top hp.1 hn.2 hp.2 ho
        have el : l = (n, s, (l.2.2.1.1, l.2.2.1.2), l.2.2.2.1, l.2.2.2.2) := by
          rcases l with ⟨l1, l2, ⟨l3, l4⟩, l5, l6⟩
          have e1 : l1 = n := e1
          have e2 : l2 = s := e2
          subst e1; subst e2; rfl
        have hln := zLine_of hlx hs
        rw [← el] at hln
        have he : ∀ z, z < t1.1 → oNew own t1.1 das uas z = own z := fun z hz => oNew_lt hz
        have ho1 := oNew_ok own t1.1 das uas (fun y hy => by have := f1 y hy; omega) (fun y hy => by have := f2 y hy; omega) n1 n2 n3
        have H3 := (b2.co T1 he).k0 K2
        refine zR_f (by rw [hv]; decide) ?_
        simp only [H3.1.ob, H3.2.1.1.ob, dzb, dzc, dzl, fl0, fl1, fl2, fl3, fl4, fl5, fl6, fl7, fi0, fi1, fi2, fi3, fi4, fi5, fi6, fi7, fr0, fr1, fr2, fr3, fr4, fr5, fr6, fr7, fs0, fs1, fs2, fs3, fs4, fs5, fs6, fs7]
        refine zR_cl (Q := fun v t => v = nI N ∧ t = t3) (zR_eq (hj_size K ζ t3 al ea mc _ H3.2.1.1) ⟨by rw [xsA_len], rfl⟩ zge.rfl) ?_
        intro v t _ P
        obtain ⟨rfl, rfl⟩ := P
        simp only [H3.1.ob, dzb, dzc, dzl, fl0, fl1, fl2, fl3, fl4, fl5, fl6, fl7, fi0, fi1, fi2, fi3, fi4, fi5, fi6, fi7, fr0, fr1, fr2, fr3, fr4, fr5, fr6, fr7, fs0, fs1, fs2, fs3, fs4, fs5, fs6, fs7]
        refine zR_cl (hx_backs hK _ l N A L _ ea l1 mc t (Nat.le_trans hζ (Nat.le_trans g1.1 (Nat.le_trans g2.1 g3.1))) H3 T3 hln ho1 D (fun j hj => Nat.ne_of_lt (b2.lt hj)) lo.1 lo.2) (fun w t4 g4 P => ?_)
        obtain ⟨hw, own', ea', laid', mc', A', p2, p3, p4, p5, p6, p7, p8, p9⟩ := P
        have hN4 := p4.2.2.2.1
        have hζ4 : ζ.1 ≤ t4.1 := Nat.le_trans hζ (Nat.le_trans g1.1 (Nat.le_trans g2.1 (Nat.le_trans g3.1 g4.1)))
        have K4 := K3.tr p6
        cases hb : (sBks 64 l (N, L)).1 with
        | false =>
          rw [sFind_f (e := (N, L)) hf hc ho hb]
          refine zR_t (by rw [hw, hb]; rfl) ?_
          simp only [p4.1.ob, dzb, dzc, dzl, fl0, fl1, fl2, fl3, fl4, fl5, fl6, fl7, fi0, fi1, fi2, fi3, fi4, fi5, fi6, fi7, fr0, fr1, fr2, fr3, fr4, fr5, fr6, fr7, fs0, fs1, fs2, fs3, fs4, fs5, fs6, fs7]
          have pre := sBks_pre 64 l (N, L)
          refine zR_cl (hx_goesBack N pre.1 hζ4 p4 p5 hK) (fun _ t5 g5 P => ?_)
          obtain ⟨mc5, q1, q2, q3⟩ := P
          have n5 := q3.2.2
          refine zR_r ⟨rfl, ⟨own', al, ea', af, _, ta, ra, da, mc5, A', q1.cL (fun k hk => (pre.2 k hk).symm), q2, fun j k hj hk e => p8 j k (Nat.lt_of_lt_of_le hj pre.1) (Nat.lt_of_lt_of_le hk pre.1) e⟩, ?_, ?_⟩
          · have := K4.2.2.1
            show t5.1 ≤ τ.1 + (5 + (sFnd s n).2 + (sBks 64 l (N, L)).2.2.1 + 2400)
            omega
          · have := K4.2.2.2
            show t5.2.1 ≤ τ.2.1 + (330 + 5 * (sFnd s n).2 + (sBks 64 l (N, L)).2.2.2 + 12000)
            omega
        | true =>
          rw [sFind_t (e := (N, L)) hf hc ho hb]
          refine zR_f (by rw [hw, hb]; decide) ?_
          simp only [p4.1.ob, p4.2.1.1.ob, dzb, dzc, dzl, fl0, fl1, fl2, fl3, fl4, fl5, fl6, fl7, fi0, fi1, fi2, fi3, fi4, fi5, fi6, fi7, fr0, fr1, fr2, fr3, fr4, fr5, fr6, fr7, fs0, fs1, fs2, fs3, fs4, fs5, fs6, fs7]
          refine zR_cl (Q := fun v t' => v = nI (sBks 64 l (N, L)).2.1.1 ∧ t' = t4) (zR_eq (hj_size K ζ t4 al ea' mc' _ p4.2.1.1) ⟨by rw [xsA_len], rfl⟩ zge.rfl) ?_
          intro v t' _ P
          obtain ⟨rfl, rfl⟩ := P
          have lt := sBks_lt 64 l (N, L) hb
          refine zR_l (zR_r ⟨?_, ⟨own', al, ea', af, laid', ta, ra, da, mc', A', p4, p5, p8⟩, ?_, ?_⟩)
          · show nI (sBks 64 l (N, L)).2.1.1 - 1 = nI ((sBks 64 l (N, L)).2.1.1 - 1)
            obtain ⟨j, hj⟩ : ∃ j, (sBks 64 l (N, L)).2.1.1 = j + 1 := ⟨(sBks 64 l (N, L)).2.1.1 - 1, by omega⟩
            rw [hj, nI_pred]
            rfl
          · have := K4.2.2.1
            show t'.1 ≤ τ.1 + (5 + (sFnd s n).2 + (sBks 64 l (N, L)).2.2.1 + 2400)
            omega
          · have := K4.2.2.2
            show t'.2.1 ≤ τ.2.1 + (330 + 5 * (sFnd s n).2 + (sBks 64 l (N, L)).2.2.2 + 12000)
            omega
