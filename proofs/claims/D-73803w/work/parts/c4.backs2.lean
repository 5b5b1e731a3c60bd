/-! the loops of backs -/
theorem sEnd_add (l : sLn) (y : sRz) (c s : Nat) : sEnd l (y.1, y.2.1, c + y.2.2.1, s + y.2.2.2) = ((sEnd l y).1, (sEnd l y).2.1, c + (sEnd l y).2.2.1, s + (sEnd l y).2.2.2) := by
  obtain ⟨y1, y2, y3, y4⟩ := y
  unfold sEnd
  cases y1 with
  | false => rfl
  | true =>
    by_cases h : y2.1 = 60
    · simp only [if_pos h, if_true]
    · simp only [if_neg h, if_true, Nat.add_assoc]
theorem sMid_add (F : Nat → sLe → sRz) (l : sLn) (x : sRz) (c s : Nat) : sMid F l (x.1, x.2.1, c + x.2.2.1, s + x.2.2.2) = ((sMid F l x).1, (sMid F l x).2.1, c + (sMid F l x).2.2.1, s + (sMid F l x).2.2.2) := by
  obtain ⟨x1, x2, x3, x4⟩ := x
  unfold sMid
  cases x1 with
  | false => rfl
  | true => simp only [if_true, Nat.add_assoc]
theorem zDj_s {N : Nat} {A : Nat → lA} {a : lA} (D : zDj N A) (na : ∀ j, j < N → (A j).1 ≠ a.1) : zDj (N + 1) (upA A N a) := by
  intro j k hj hk e
  by_cases h1 : j = N
  · by_cases h2 : k = N
    · omega
    · rw [h1, upA_at, upA_ne h2] at e
      exact absurd e.symm (na k (by omega))
  · by_cases h2 : k = N
    · rw [h2, upA_at, upA_ne h1] at e
      exact absurd e (na j (by omega))
    · rw [upA_ne h1, upA_ne h2] at e
      exact D j k (by omega) (by omega) e
theorem zNwl_s {b N : Nat} {A : Nat → lA} {a : lA} : zNwl b N A a.1 (N + 1) (upA A N a) := by
  intro j hj
  by_cases h1 : j = N
  · rw [h1, upA_at]; exact Or.inr (Or.inr rfl)
  · rw [upA_ne h1]; exact Or.inl ⟨j, by omega, rfl⟩
section BL
variable {K : Nat} {ζ : pZ} {h al af ta taped ra da : Nat} {tp : Nat → Int32}
/-- what is asked of backsFor at some rows -/
def cBf (K : Nat) (ζ : pZ) (h al af ta taped ra da : Nat) (tp : Nat → Int32) (F : Nat) (rs : List sR) : Prop := ∀ r ∈ rs, ∀ (N : Nat) (A : Nat → lA) (L : Nat → sLn) (own : Nat → Nat × Nat × Nat) (ea laid : Nat) (mc : Int32) (τ : pH), ζ.1 ≤ τ.1 → zLd ζ τ own h al ea af laid ta taped ra da mc N A L → zTb ζ τ ta ra da tp → zDj N A → zR τ (foX0_backsFor (fdX0_backs F) K ζ h (lN r.1) τ) (zBP ζ h al af ta taped ra da tp h h N A own ea laid τ (sBkF (sBks F) r.1 (N, L)))
theorem zS_it {own : Nat → Nat × Nat × Nat} {ea it : Nat} (a6 : zRt own ζ h al ea af ta ra da) (a7 : ζ.2.2.2 0 < ζ.1) (ho : own it = (9, 0, 0)) : ¬ zS ζ h al af ea h it := by
  intro q
  have := a6.S a7 it q
  rw [ho] at this
  omega
theorem zS_h {ea it : Nat} : ∀ z, zS ζ h al af ea h z → zS ζ h al af ea it z := by
  intro z q
  rcases q with q | q | q | q | q
  · exact Or.inl q
  · exact Or.inr (Or.inl q)
  · exact Or.inr (Or.inr (Or.inl q))
  · exact Or.inr (Or.inr (Or.inr (Or.inl q)))
  · exact Or.inl q
theorem hx_bkU (hK : 2 ^ 50 ≤ K) (F : Nat) (a : lA) (l : sLn) (it : Nat) (BF : cBf K ζ h al af ta taped ra da tp F l.2.2.2.2) : ∀ m i kk N A L own ea laid mc τ, i + m = a.2.2.2.2.2.2.length → ζ.1 ≤ τ.1 → zLd ζ τ own h al ea af laid ta taped ra da mc N A L → zTb ζ τ ta ra da tp → zLine ζ τ h a l → oOk own a → zin ζ τ it (itE i a.2.2.2.1) → own it = (9, 0, 0) → zDj N A → (∀ j, j < N → (A j).1 ≠ a.1) → m + 1 ≤ kk →
    zR τ ((lfX0_backs (foX0_backsFor (fdX0_backs F)) K ζ kk).2 h a.1 it τ) (zBP ζ h al af ta taped ra da tp it a.1 N A own ea laid τ (sEnd l (sBkR (sBkF (sBks F)) (l.2.2.2.2.drop i) (N, L)))) := by
  intro m
  induction m with
  | zero =>
    intro i kk N A L own ea laid mc τ hi hζ H T hl ho hit hoi D na hk
    obtain ⟨k, rfl⟩ : ∃ j, kk = j + 1 := ⟨kk - 1, by omega⟩
    have hN := H.2.2.2.1.2
    obtain ⟨f, u1, u2, -⟩ := id hl.1.2.1.2.2.1
    have n1 : it ≠ a.2.2.2.1 := fun e => by have := ho.1.2.2.2.1; rw [← e, hoi] at this; have q := congrArg Prod.fst this; simp only at q; omega
    have n2 : it ≠ a.2.2.2.2.1 := fun e => by have := ho.1.2.2.2.2; rw [← e, hoi] at this; have q := congrArg Prod.fst this; simp only at q; omega
    rw [luX0_backs_2]
    refine zR_each K ζ τ it i _ _ _ _ _ _ hit hl.1.2.1.2.2.1 n1 n2 (by omega) (fun _ => ?_) (fun h => absurd h (by omega))
    rw [List.drop_eq_nil_of_le (by rw [← hl.1.2.1.2.2.2.1]; omega)]
    simp only [H.1.ob, H.2.1.1.ob, dzb, dzc, dzl, fl0, fl1, fl2, fl3, fl4, fl5, fl6, fl7, fi0, fi1, fi2, fi3, fi4, fi5, fi6, fi7, fr0, fr1, fr2, fr3, fr4, fr5, fr6, fr7, fs0, fs1, fs2, fs3, fs4, fs5, fs6, fs7]
    refine zR_cl (Q := fun v t => v = nI N ∧ t = τ) (zR_eq (hj_size K ζ τ al ea mc _ H.2.1.1) ⟨by rw [xsA_len], rfl⟩ zge.rfl) ?_
    intro v t _ P
    obtain ⟨rfl, rfl⟩ := P
    by_cases h60 : N = 60
    · refine zR_t (by rw [h60]; rfl) (zR_r ?_)
      have e : sEnd l (sBkR (sBkF (sBks F)) [] (N, L)) = (false, (N, L), 0, 0) := by
        show sEnd l (true, (N, L), 0, 0) = _
        unfold sEnd
        rw [if_pos rfl, if_pos h60]
      rw [e]
      exact ⟨rfl, own, ea, laid, mc, A, fun _ _ => rfl, Nat.le_refl _, H, T, zk.rfl.le (by omega) (by omega), Or.inl rfl, D, zNwl.rf⟩
    · refine zR_f (fun e => h60 ((nI_eq (by omega) (by omega)).mp (show nI N = nI 60 from e))) ?_
      simp only [H.1.ob, dzb, dzc, dzl, fl0, fl1, fl2, fl3, fl4, fl5, fl6, fl7, fi0, fi1, fi2, fi3, fi4, fi5, fi6, fi7, fr0, fr1, fr2, fr3, fr4, fr5, fr6, fr7, fs0, fs1, fs2, fs3, fs4, fs5, fs6, fs7]
      refine zR_cl (hx_comes a l hζ H T hl ho (by omega) (by omega)) (fun _ t2 _ P => ?_)
      obtain ⟨own', ea', p1, p2, p3, p4, p5⟩ := P
      have e : sEnd l (sBkR (sBkF (sBks F)) [] (N, L)) = (true, (N + 1, upA L N l), 1, 92) := by
        show sEnd l (true, (N, L), 0, 0) = _
        unfold sEnd
        rw [if_pos rfl, if_neg h60]
      rw [e]
      exact zR_r ⟨rfl, own', ea', laid, mc + 1, _, p1, Nat.le_refl _, p2, p3, (p4.wk (fun z _ q => q.elim (fun q => Or.inr (Or.inr (Or.inl q))) (fun q => Or.inr (Or.inr (Or.inr (Or.inl q)))))).le (show 1 ≤ 1 + 40 * (laid - laid) by omega) (show 92 ≤ 92 + 200 * (laid - laid) by omega), p5, zDj_s D na, zNwl_s⟩
  | succ m ih =>
    intro i kk N A L own ea laid mc τ hi hζ H T hl ho hit hoi D na hk
    obtain ⟨k, rfl⟩ : ∃ j, kk = j + 1 := ⟨kk - 1, by omega⟩
    have a6 := H.2.2.2.2.2.1
    have a7 := H.2.2.2.2.2.2
    obtain ⟨f, u1, u2, -⟩ := id hl.1.2.1.2.2.1
    have n1 : it ≠ a.2.2.2.1 := fun e => by have := ho.1.2.2.2.1; rw [← e, hoi] at this; have q := congrArg Prod.fst this; simp only at q; omega
    have n2 : it ≠ a.2.2.2.2.1 := fun e => by have := ho.1.2.2.2.2; rw [← e, hoi] at this; have q := congrArg Prod.fst this; simp only at q; omega
    rw [luX0_backs_2]
    refine zR_each K ζ τ it i _ _ _ _ _ _ hit hl.1.2.1.2.2.1 n1 n2 (by omega) (fun h => absurd h (by omega)) (fun hlt => ?_)
    have k0 : zk (fun q => q = it) τ (zst τ it (itE (i + 1) a.2.2.2.1)) 0 0 := zk_st rfl
    have hit' : zin ζ (zst τ it (itE (i + 1) a.2.2.2.1)) it (itE (i + 1) a.2.2.2.1) := zin_st hit.1
    have H' := H.k9 k0 (fun z e => by rw [e]; exact ⟨by rw [hoi], hit.1.1⟩)
    have T' := T.s (own := own) k0 (fun z e => Or.inr (by rw [e, hoi]; decide)) a6
    have hl' := hl.k ho k0 (fun x e => by rw [e, hoi]; decide)
    have e1 : (zst τ it (itE (i + 1) a.2.2.2.1)).1 = τ.1 := rfl
    generalize zst τ it (itE (i + 1) a.2.2.2.1) = s' at *
    have hlr : i < l.2.2.2.2.length := by rw [← hl.1.2.1.2.2.2.1]; exact hlt
    have row := hl'.1.2.1.2.2.2.2 i hlt hlr
    simp only [row.ob, H'.1.ob, dzb, dzc, dzl, fl0, fl1, fl2, fl3, fl4, fl5, fl6, fl7, fi0, fi1, fi2, fi3, fi4, fi5, fi6, fi7, fr0, fr1, fr2, fr3, fr4, fr5, fr6, fr7, fs0, fs1, fs2, fs3, fs4, fs5, fs6, fs7]
    have BFi := BF _ (List.getElem_mem hlr) N A L own ea laid mc s' (by omega) H' T' D
    refine zR_cl BFi (fun v t1 g P => ?_)
    rw [List.drop_eq_getElem_cons hlr]
    have hv := P.1
    cases hb : (sBkF (sBks F) l.2.2.2.2[i].1 (N, L)).1 with
    | false =>
      refine zR_t (by rw [hv, hb]; rfl) (zR_r ?_)
      rw [sBkR_f hb]
      have e : sEnd l (sBkF (sBks F) l.2.2.2.2[i].1 (N, L)) = sBkF (sBks F) l.2.2.2.2[i].1 (N, L) := by
        unfold sEnd
        exact if_neg (by rw [hb]; decide)
      rw [e]
      have P2 := zBP_tr (it := it) (c := 0) (s := 0) (fun _ _ => rfl) (Nat.le_refl laid) ((k0.wk (fun z _ q => (Or.inr (Or.inr (Or.inr (Or.inr q))) : zS ζ h al af ea it z))).le (by omega) (by omega)) (Or.inl rfl) (Or.inr (Or.inl rfl)) (zNwl.rf (x := a.1)) (Or.inr (Or.inl rfl)) P
      rw [Nat.zero_add, Nat.zero_add] at P2
      obtain ⟨-, P3⟩ := P2
      exact ⟨by rw [hb]; rfl, P3⟩
    | true =>
      refine zR_f (by rw [hv, hb]; decide) ?_
      obtain ⟨-, own1, ea1, laid1, mc1, A1, p1, p2, p3, p4, p5, p6, p7, p8⟩ := P
      have hl1 := hl'.k ho p5 (fun x q => by have := a6.S a7 x q; omega)
      have ho1 := oOk.co hl' ho p1
      have hit1 := p5.in hit' (zS_it a6 a7 hoi)
      have hoi1 : own1 it = (9, 0, 0) := by rw [p1 it hit'.1.2]; exact hoi
      have na1 : ∀ j, j < _ → (A1 j).1 ≠ a.1 := fun j hj e => by
        rcases p8 j hj with ⟨i', hi', q⟩ | q | q
        · exact na i' hi' (by rw [← q, e])
        · have := hl'.1.1.1.2; omega
        · exact p3.nh hj q
      refine zR_imp (ih (i + 1) k _ A1 _ own1 ea1 laid1 mc1 t1 (by omega) (Nat.le_trans hζ (by rw [← e1]; exact g.1)) p3 p4 hl1 ho1 hit1 hoi1 p7 na1 (by omega)) (fun w t2 _ P2 => ?_)
      rw [sBkR_t hb, sEnd_add l (sBkR (sBkF (sBks F)) (List.drop (i + 1) l.2.2.2.2) (sBkF (sBks F) l.2.2.2.2[i].1 (N, L)).2.1)]
      exact zBP_tr (fun z hz => p1 z (by rw [e1]; exact hz)) p2 ((k0.wk (fun z _ q => (Or.inr (Or.inr (Or.inr (Or.inr q))) : zS ζ h al af ea it z))).tr (p5.wk (fun z _ q => zS_h z q)) |>.le (by omega) (by omega)) (by rw [← e1]; exact p6) (Or.inl rfl) (fun j hj => by
        rcases p8 j hj with q | q | q
        · exact Or.inl q
        · exact Or.inr (Or.inl (by rw [← e1]; exact q))
        · exact absurd q (p3.nh hj)) (Or.inl rfl) P2
theorem hx_bkD (hK : 2 ^ 50 ≤ K) (F : Nat) (a : lA) (l : sLn) (it : Nat) (BD : cBf K ζ h al af ta taped ra da tp F l.2.2.2.1) (BF : cBf K ζ h al af ta taped ra da tp F l.2.2.2.2) : ∀ m i kk N A L own ea laid mc τ, i + m = a.2.2.2.2.2.1.length → ζ.1 ≤ τ.1 → zLd ζ τ own h al ea af laid ta taped ra da mc N A L → zTb ζ τ ta ra da tp → zLine ζ τ h a l → oOk own a → zin ζ τ it (itE i a.2.1) → own it = (9, 0, 0) → zDj N A → (∀ j, j < N → (A j).1 ≠ a.1) → m + 20 ≤ kk →
    zR τ ((lfX0_backs (foX0_backsFor (fdX0_backs F)) K ζ kk).1 h a.1 it τ) (zBP ζ h al af ta taped ra da tp it a.1 N A own ea laid τ (sMid (sBkF (sBks F)) l (sBkR (sBkF (sBks F)) (l.2.2.2.1.drop i) (N, L)))) := by
  intro m
  induction m with
  | zero =>
    intro i kk N A L own ea laid mc τ hi hζ H T hl ho hit hoi D na hk
    obtain ⟨k, rfl⟩ : ∃ j, kk = j + 1 := ⟨kk - 1, by omega⟩
    have n1 : it ≠ a.2.1 := fun e => by have := ho.1.2.1; rw [← e, hoi] at this; have q := congrArg Prod.fst this; simp only at q; omega
    have n2 : it ≠ a.2.2.1 := fun e => by have := ho.1.2.2.1; rw [← e, hoi] at this; have q := congrArg Prod.fst this; simp only at q; omega
    have hs4 := hl.2.1
    have hu9 := hl.2.2.2.2.1.2
    rw [luX0_backs_1]
    refine zR_each K ζ τ it i _ _ _ _ _ _ hit hl.1.2.1.1 n1 n2 (by omega) (fun _ => ?_) (fun h => absurd h (by omega))
    rw [List.drop_eq_nil_of_le (by rw [← hl.1.2.1.2.1.1]; omega)]
    obtain ⟨fu, hfu⟩ := hl.1.2.1.2.2.1.o
    simp only [hl.1.1.oL (show 5 ≤ 5 + l.2.1 ∧ 5 + l.2.1 ≤ 9 by omega), hfu, dzb, dzc, dzl, fl0, fl1, fl2, fl3, fl4, fl5, fl6, fl7, fi0, fi1, fi2, fi3, fi4, fi5, fi6, fi7, fr0, fr1, fr2, fr3, fr4, fr5, fr6, fr7, fs0, fs1, fs2, fs3, fs4, fs5, fs6, fs7]
    refine zR_cl (Q := fun v t => v = τ.1 ∧ t = znw τ 2 (itE 0 a.2.2.2.1)) (zR_eq (hr_iter K ζ τ a.2.2.2.1 hζ) ⟨rfl, rfl⟩ ⟨Nat.le_succ _, Nat.le_add_right _ _⟩) ?_
    intro v t _ P
    obtain ⟨rfl, rfl⟩ := P
    have kn : zk zno τ (znw τ 2 (itE 0 a.2.2.2.1)) 1 2 := zk_nw
    have he : ∀ z, z < τ.1 → (fun z => if z < τ.1 then own z else (9, 0, 0)) z = own z := fun z hz => if_pos hz
    have H1 := (H.co T he).k0 kn
    have ho1 := oOk.co hl ho he
    have hl1 := hl.k ho kn (fun _ q => q.elim)
    have eu : a.2.2.2.2.2.2.length = l.2.2.2.2.length := hl.1.2.1.2.2.2.1
    have P := hx_bkU hK F a l τ.1 BF a.2.2.2.2.2.2.length 0 k N A L _ ea laid mc _ (by omega) (Nat.le_succ_of_le hζ) H1 (T.k kn (fun q => q) (fun q => q) (fun q => q)) hl1 ho1 (zin_nw hζ) (if_neg (Nat.lt_irrefl _)) D na (by omega)
    rw [List.drop_zero] at P
    refine zR_imp P (fun w t2 _ P2 => ?_)
    have P3 := zBP_tr (it := it) (c := 0 + 1) (s := 0 + 2) he (Nat.le_refl laid) ((kn.wk (fun _ _ e => e.elim)).le (by omega) (by omega)) (Or.inl rfl) (Or.inr (Or.inr (Nat.le_refl _))) (zNwl.rf (x := a.1)) (Or.inl rfl) P2
    have e : sMid (sBkF (sBks F)) l (sBkR (sBkF (sBks F)) [] (N, L)) = ((sEnd l (sBkR (sBkF (sBks F)) l.2.2.2.2 (N, L))).1, (sEnd l (sBkR (sBkF (sBks F)) l.2.2.2.2 (N, L))).2.1, 0 + 1 + (sEnd l (sBkR (sBkF (sBks F)) l.2.2.2.2 (N, L))).2.2.1, 0 + 2 + (sEnd l (sBkR (sBkF (sBks F)) l.2.2.2.2 (N, L))).2.2.2) := by
      show sMid (sBkF (sBks F)) l (true, (N, L), 0, 0) = _
      unfold sMid
      simp only [if_true, Nat.add_assoc]
    rw [e]
    exact P3
  | succ m ih =>
    intro i kk N A L own ea laid mc τ hi hζ H T hl ho hit hoi D na hk
    obtain ⟨k, rfl⟩ : ∃ j, kk = j + 1 := ⟨kk - 1, by omega⟩
    have a6 := H.2.2.2.2.2.1
    have a7 := H.2.2.2.2.2.2
    have n1 : it ≠ a.2.1 := fun e => by have := ho.1.2.1; rw [← e, hoi] at this; have q := congrArg Prod.fst this; simp only at q; omega
    have n2 : it ≠ a.2.2.1 := fun e => by have := ho.1.2.2.1; rw [← e, hoi] at this; have q := congrArg Prod.fst this; simp only at q; omega
    rw [luX0_backs_1]
    refine zR_each K ζ τ it i _ _ _ _ _ _ hit hl.1.2.1.1 n1 n2 (by omega) (fun h => absurd h (by omega)) (fun hlt => ?_)
    have k0 : zk (fun q => q = it) τ (zst τ it (itE (i + 1) a.2.1)) 0 0 := zk_st rfl
    have hit' : zin ζ (zst τ it (itE (i + 1) a.2.1)) it (itE (i + 1) a.2.1) := zin_st hit.1
    have H' := H.k9 k0 (fun z e => by rw [e]; exact ⟨by rw [hoi], hit.1.1⟩)
    have T' := T.s (own := own) k0 (fun z e => Or.inr (by rw [e, hoi]; decide)) a6
    have hl' := hl.k ho k0 (fun x e => by rw [e, hoi]; decide)
    have e1 : (zst τ it (itE (i + 1) a.2.1)).1 = τ.1 := rfl
    generalize zst τ it (itE (i + 1) a.2.1) = s' at *
    have hlr : i < l.2.2.2.1.length := by rw [← hl.1.2.1.2.1.1]; exact hlt
    have row := hl'.1.2.1.2.1.2 i hlt hlr
    simp only [row.ob, H'.1.ob, dzb, dzc, dzl, fl0, fl1, fl2, fl3, fl4, fl5, fl6, fl7, fi0, fi1, fi2, fi3, fi4, fi5, fi6, fi7, fr0, fr1, fr2, fr3, fr4, fr5, fr6, fr7, fs0, fs1, fs2, fs3, fs4, fs5, fs6, fs7]
    have BFi := BD _ (List.getElem_mem hlr) N A L own ea laid mc s' (by omega) H' T' D
    refine zR_cl BFi (fun v t1 g P => ?_)
    rw [List.drop_eq_getElem_cons hlr]
    have hv := P.1
    cases hb : (sBkF (sBks F) l.2.2.2.1[i].1 (N, L)).1 with
    | false =>
      refine zR_t (by rw [hv, hb]; rfl) (zR_r ?_)
      rw [sBkR_f hb]
      have e : sMid (sBkF (sBks F)) l (sBkF (sBks F) l.2.2.2.1[i].1 (N, L)) = sBkF (sBks F) l.2.2.2.1[i].1 (N, L) := by
        unfold sMid
        exact if_neg (by rw [hb]; decide)
      rw [e]
      have P2 := zBP_tr (it := it) (c := 0) (s := 0) (fun _ _ => rfl) (Nat.le_refl laid) ((k0.wk (fun z _ q => (Or.inr (Or.inr (Or.inr (Or.inr q))) : zS ζ h al af ea it z))).le (by omega) (by omega)) (Or.inl rfl) (Or.inr (Or.inl rfl)) (zNwl.rf (x := a.1)) (Or.inr (Or.inl rfl)) P
      rw [Nat.zero_add, Nat.zero_add] at P2
      obtain ⟨-, P3⟩ := P2
      exact ⟨by rw [hb]; rfl, P3⟩
    | true =>
      refine zR_f (by rw [hv, hb]; decide) ?_
      obtain ⟨-, own1, ea1, laid1, mc1, A1, p1, p2, p3, p4, p5, p6, p7, p8⟩ := P
      have hl1 := hl'.k ho p5 (fun x q => by have := a6.S a7 x q; omega)
      have ho1 := oOk.co hl' ho p1
      have hit1 := p5.in hit' (zS_it a6 a7 hoi)
      have hoi1 : own1 it = (9, 0, 0) := by rw [p1 it hit'.1.2]; exact hoi
      have na1 : ∀ j, j < _ → (A1 j).1 ≠ a.1 := fun j hj e => by
        rcases p8 j hj with ⟨i', hi', q⟩ | q | q
        · exact na i' hi' (by rw [← q, e])
        · have := hl'.1.1.1.2; omega
        · exact p3.nh hj q
      refine zR_imp (ih (i + 1) k _ A1 _ own1 ea1 laid1 mc1 t1 (by omega) (Nat.le_trans hζ (by rw [← e1]; exact g.1)) p3 p4 hl1 ho1 hit1 hoi1 p7 na1 (by omega)) (fun w t2 _ P2 => ?_)
      rw [sBkR_t hb, sMid_add (sBkF (sBks F)) l (sBkR (sBkF (sBks F)) (List.drop (i + 1) l.2.2.2.1) (sBkF (sBks F) l.2.2.2.1[i].1 (N, L)).2.1)]
      exact zBP_tr (fun z hz => p1 z (by rw [e1]; exact hz)) p2 ((k0.wk (fun z _ q => (Or.inr (Or.inr (Or.inr (Or.inr q))) : zS ζ h al af ea it z))).tr (p5.wk (fun z _ q => zS_h z q)) |>.le (by omega) (by omega)) (by rw [← e1]; exact p6) (Or.inl rfl) (fun j hj => by
        rcases p8 j hj with q | q | q
        · exact Or.inl q
        · exact Or.inr (Or.inl (by rw [← e1]; exact q))
        · exact absurd q (p3.nh hj)) (Or.inl rfl) P2
/-- one step of depth -/
theorem hx_backs1 (hK : 2 ^ 50 ≤ K) (F : Nat) (a : lA) (l : sLn) (BD : cBf K ζ h al af ta taped ra da tp F l.2.2.2.1) (BF : cBf K ζ h al af ta taped ra da tp F l.2.2.2.2) (N : Nat) (A : Nat → lA) (L : Nat → sLn) (own : Nat → Nat × Nat × Nat) (ea laid : Nat) (mc : Int32) (τ : pH) (hζ : ζ.1 ≤ τ.1) (H : zLd ζ τ own h al ea af laid ta taped ra da mc N A L) (T : zTb ζ τ ta ra da tp) (hl : zLine ζ τ h a l) (ho : oOk own a) (D : zDj N A) (na : ∀ j, j < N → (A j).1 ≠ a.1) : zR τ (fdX0_backs (F + 1) K ζ h a.1 τ) (zBP ζ h al af ta taped ra da tp h a.1 N A own ea laid τ (sBks (F + 1) l (N, L))) := by
  have hs4 := hl.2.1
  have hd9 := hl.2.2.2.2.1.1
  obtain ⟨fd, hfd⟩ := hl.1.2.1.1.o
  show zR τ (foX0_backs (foX0_backsFor (fdX0_backs F)) K ζ h a.1 τ) _
  unfold foX0_backs
  simp only [hl.1.1.oL (show 5 ≤ 5 + l.2.1 ∧ 5 + l.2.1 ≤ 9 by omega), hfd, dzb, dzc, dzl, fl0, fl1, fl2, fl3, fl4, fl5, fl6, fl7, fi0, fi1, fi2, fi3, fi4, fi5, fi6, fi7, fr0, fr1, fr2, fr3, fr4, fr5, fr6, fr7, fs0, fs1, fs2, fs3, fs4, fs5, fs6, fs7]
  refine zR_cl (Q := fun v t => v = τ.1 ∧ t = znw τ 2 (itE 0 a.2.1)) (zR_eq (hr_iter K ζ τ a.2.1 hζ) ⟨rfl, rfl⟩ ⟨Nat.le_succ _, Nat.le_add_right _ _⟩) ?_
  intro v t _ P
  obtain ⟨rfl, rfl⟩ := P
  have kn : zk zno τ (znw τ 2 (itE 0 a.2.1)) 1 2 := zk_nw
  have he : ∀ z, z < τ.1 → (fun z => if z < τ.1 then own z else (9, 0, 0)) z = own z := fun z hz => if_pos hz
  have H1 := (H.co T he).k0 kn
  have ho1 := oOk.co hl ho he
  have hl1 := hl.k ho kn (fun _ q => q.elim)
  have eu : a.2.2.2.2.2.1.length = l.2.2.2.1.length := hl.1.2.1.2.1.1
  have P := hx_bkD hK F a l τ.1 BD BF a.2.2.2.2.2.1.length 0 K N A L _ ea laid mc _ (by omega) (Nat.le_succ_of_le hζ) H1 (T.k kn (fun q => q) (fun q => q) (fun q => q)) hl1 ho1 (zin_nw hζ) (if_neg (Nat.lt_irrefl _)) D na (by omega)
  rw [List.drop_zero] at P
  refine zR_imp P (fun w t2 _ P2 => ?_)
  rw [sBks_s]
  exact zBP_tr (it := h) (c := 1) (s := 2) he (Nat.le_refl laid) ((kn.wk (fun _ _ e => e.elim)).le (by omega) (by omega)) (Or.inl rfl) (Or.inr (Or.inr (Nat.le_refl _))) (zNwl.rf (x := a.1)) (Or.inl rfl) P2
theorem hx_backsD (hK : 2 ^ 50 ≤ K) : ∀ d F, d ≤ 29 → d + 1 ≤ F → cBk K ζ h al af ta taped ra da tp F d := by
  intro d
  induction d with
  | zero =>
    intro F _ hF a l N A L own ea laid mc τ hζ H T hl ho D na lo1 lo2
    obtain ⟨G, rfl⟩ : ∃ G, F = G + 1 := ⟨F - 1, by omega⟩
    refine hx_backs1 hK G a l (fun r hr => ?_) (fun r hr => ?_) N A L own ea laid mc τ hζ H T hl ho D na
    · have := lo1 r hr; have := this.1.1; omega
    · have := lo2 r hr; have := this.1.1; omega
  | succ d ih =>
    intro F hd hF a l N A L own ea laid mc τ hζ H T hl ho D na lo1 lo2
    obtain ⟨G, rfl⟩ : ∃ G, F = G + 1 := ⟨F - 1, by omega⟩
    have IH := ih G (by omega) (by omega)
    have hp : (2 : Nat) ^ (d + 1) ≤ 2 ^ 29 := Nat.pow_le_pow_right (by omega) hd
    refine hx_backs1 hK G a l (fun r hr N A L own ea laid mc τ hζ H T D => ?_) (fun r hr N A L own ea laid mc τ hζ H T D => ?_) N A L own ea laid mc τ hζ H T hl ho D na
    · obtain ⟨q1, q2⟩ := lo1 r hr
      exact hx_backsFor hK G d r.1 IH q1 q2 (by omega) N A L own ea laid mc τ hζ H T D
    · obtain ⟨q1, q2⟩ := lo2 r hr
      exact hx_backsFor hK G d r.1 IH q1 q2 (by omega) N A L own ea laid mc τ hζ H T D
/-- backs, as the class calls it -/
theorem hx_backs (hK : 2 ^ 50 ≤ K) : cBk K ζ h al af ta taped ra da tp 64 29 := hx_backsD hK 29 64 (by omega) (by omega)
end BL
