/-! the class's backs and backsFor -/
def zS (ζ : pZ) (h al af ea it z : Nat) : Prop := z = h ∨ z = af ∨ z = al ∨ (z = ea ∧ ζ.1 ≤ z) ∨ z = it
theorem zRt.S {ζ : pZ} {own : Nat → Nat × Nat × Nat} {h al ea af ta ra da : Nat} (a6 : zRt own ζ h al ea af ta ra da) (a7 : ζ.2.2.2 0 < ζ.1) : ∀ x, zS ζ h al af ea h x → (own x).1 < 4 := by
  intro x q
  rcases q with q | q | q | ⟨q, q2⟩ | q
  · rw [q, a6.1]; decide
  · rw [q, a6.2.2.2.1]; decide
  · rw [q, a6.2.1]; decide
  · rcases a6.2.2.1 with e | e
    · rw [q, e]; decide
    · omega
  · rw [q, a6.1]; decide
theorem zTb.s {ζ : pZ} {τ t : pH} {own : Nat → Nat × Nat × Nat} {h al ea af ta ra da c s : Nat} {tp : Nat → Int32} {S : Nat → Prop} (T : zTb ζ τ ta ra da tp) (k : zk S τ t c s) (hS : ∀ z, S z → (own z).1 < 4 ∨ 6 < (own z).1) (a6 : zRt own ζ h al ea af ta ra da) : zTb ζ t ta ra da tp := by
  refine T.k k (fun q => ?_) (fun q => ?_) (fun q => ?_)
  · have := hS _ q; rw [a6.2.2.2.2.1] at this; omega
  · have := hS _ q; rw [a6.2.2.2.2.2.1] at this; omega
  · have := hS _ q; rw [a6.2.2.2.2.2.2] at this; omega
/-- the ledger stays where only others' cells have changed -/
theorem zLd.k9 {ζ : pZ} {τ t : pH} {own : Nat → Nat × Nat × Nat} {h al ea af laid ta taped ra da c s : Nat} {mc : Int32} {N : Nat} {A : Nat → lA} {L : Nat → sLn} {S : Nat → Prop} (H : zLd ζ τ own h al ea af laid ta taped ra da mc N A L) (k : zk S τ t c s) (hS : ∀ z, S z → (own z).1 = 9 ∧ ζ.1 ≤ z) : zLd ζ t own h al ea af laid ta taped ra da mc N A L := by
  obtain ⟨a1, a2, ⟨f, a3, a3'⟩, a4, a5, a6, a7⟩ := H
  have ne : ∀ {x i : Nat}, own x = (i, 0, 0) → i ≠ 9 → ¬ S x := fun e hi q => hi (by have := (hS _ q).1; rw [e] at this; exact this)
  refine ⟨k.in a1 (ne a6.1 (by decide)), a2.k k (ne a6.2.1 (by decide)) ?_, ⟨f, k.in a3 (ne a6.2.2.2.1 (by decide)), a3'⟩, a4, zLd.lines a5 k (fun z q => by have := (hS z q).1; omega), a6, a7⟩
  rcases a6.2.2.1 with e | e
  · exact ne e (by decide)
  · intro q
    have := (hS _ q).2
    omega
/-- no line lies twice in the ledger -/
def zDj (N : Nat) (A : Nat → lA) : Prop := ∀ j k, j < N → k < N → (A j).1 = (A k).1 → j = k
/-- lines are old ones, new ones, or one that waits -/
def zNwl (b N : Nat) (A : Nat → lA) (x N' : Nat) (A' : Nat → lA) : Prop := ∀ j, j < N' → (∃ i, i < N ∧ (A' j).1 = (A i).1) ∨ b ≤ (A' j).1 ∨ (A' j).1 = x
theorem zNwl.rf {b N x : Nat} {A : Nat → lA} : zNwl b N A x N A := fun j hj => Or.inl ⟨j, hj, rfl⟩
theorem zLd.lt {ζ : pZ} {τ : pH} {own : Nat → Nat × Nat × Nat} {h al ea af laid ta taped ra da : Nat} {mc : Int32} {N : Nat} {A : Nat → lA} {L : Nat → sLn} (H : zLd ζ τ own h al ea af laid ta taped ra da mc N A L) {j : Nat} (hj : j < N) : (A j).1 < τ.1 := (H.2.2.2.2.1 j hj).1.1.1.1.2
theorem zLd.nh {ζ : pZ} {τ : pH} {own : Nat → Nat × Nat × Nat} {h al ea af laid ta taped ra da : Nat} {mc : Int32} {N : Nat} {A : Nat → lA} {L : Nat → sLn} (H : zLd ζ τ own h al ea af laid ta taped ra da mc N A L) {j : Nat} (hj : j < N) : (A j).1 ≠ h := by
  intro e
  have q1 := (H.2.2.2.2.1 j hj).2.1.1
  rw [e, H.2.2.2.2.2.1.1] at q1
  have q2 := congrArg Prod.fst q1
  simp only at q2
  omega
theorem ar1 (c l : Nat) : 30 + (5 * c + 300) ≤ 330 + 5 * c + 200 * (l - l) := by omega
section BK
variable {K : Nat} {ζ : pZ} {h al af ta taped ra da : Nat} {tp : Nat → Int32}
def zBP (ζ : pZ) (h al af ta taped ra da : Nat) (tp : Nat → Int32) (it : Nat) (x N : Nat) (A : Nat → lA) (own : Nat → Nat × Nat × Nat) (ea laid : Nat) (τ : pH) (R : sRz) (v : Int32) (t : pH) : Prop :=
  v = nb R.1 ∧ ∃ own' ea' laid' mc' A', (∀ z, z < τ.1 → own' z = own z) ∧ laid ≤ laid' ∧ zLd ζ t own' h al ea' af laid' ta taped ra da mc' R.2.1.1 A' R.2.1.2 ∧ zTb ζ t ta ra da tp ∧ zk (zS ζ h al af ea it) τ t (R.2.2.1 + 40 * (laid' - laid)) (R.2.2.2 + 200 * (laid' - laid)) ∧ (ea' = ea ∨ τ.1 ≤ ea') ∧ zDj R.2.1.1 A' ∧ zNwl τ.1 N A x R.2.1.1 A'
theorem zBP_tr {own own1 : Nat → Nat × Nat × Nat} {it it1 ea ea1 laid laid1 c s x x1 N N1 : Nat} {A A1 : Nat → lA} {τ t1 t2 : pH} {R : sRz} {v : Int32} (h0 : ∀ z, z < τ.1 → own1 z = own z) (hl : laid ≤ laid1) (k : zk (zS ζ h al af ea it) τ t1 (c + 40 * (laid1 - laid)) (s + 200 * (laid1 - laid))) (he : ea1 = ea ∨ τ.1 ≤ ea1) (hi : it1 = it ∨ it1 = h ∨ τ.1 ≤ it1) (hw : zNwl τ.1 N A x N1 A1) (hx : x1 = x ∨ x1 = h ∨ τ.1 ≤ x1) (P : zBP ζ h al af ta taped ra da tp it1 x1 N1 A1 own1 ea1 laid1 t1 R v t2) : zBP ζ h al af ta taped ra da tp it x N A own ea laid τ (R.1, R.2.1, c + R.2.2.1, s + R.2.2.2) v t2 := by
  obtain ⟨p1, own', ea', laid', mc', A', p2, p3, p4, p5, p6, p7, p8, p9⟩ := P
  refine ⟨p1, own', ea', laid', mc', A', fun z hz => (p2 z (Nat.lt_of_lt_of_le hz k.1.1)).trans (h0 z hz), by omega, p4, p5, ?_, ?_, p8, fun j hj => ?_⟩
  · refine (k.new (p6.wk (fun z _ q => ?_))).le ?_ ?_
    · rcases q with q | q | q | ⟨q, q2⟩ | q
      · exact Or.inl (Or.inl q)
      · exact Or.inl (Or.inr (Or.inl q))
      · exact Or.inl (Or.inr (Or.inr (Or.inl q)))
      · rcases he with e | e
        · exact Or.inl (Or.inr (Or.inr (Or.inr (Or.inl ⟨by rw [q, e], q2⟩))))
        · exact Or.inr (by rw [q]; exact e)
      · rcases hi with e | e | e
        · exact Or.inl (Or.inr (Or.inr (Or.inr (Or.inr (by rw [q, e])))))
        · exact Or.inl (Or.inl (by rw [q, e]))
        · exact Or.inr (by rw [q]; exact e)
    · show _ ≤ c + R.2.2.1 + 40 * (laid' - laid); omega
    · show _ ≤ s + R.2.2.2 + 200 * (laid' - laid); omega
  · rcases p7 with e | e
    · rw [e]; exact he
    · exact Or.inr (Nat.le_trans k.1.1 e)
  · rcases p9 j hj with ⟨i, hi, e⟩ | e | e
    · rw [e]; exact hw i hi
    · exact Or.inr (Or.inl (Nat.le_trans k.1.1 e))
    · rcases hx with q | q | q
      · exact Or.inr (Or.inr (by rw [e, q]))
      · exact absurd (by rw [e, q]) (p4.nh hj)
      · exact Or.inr (Or.inl (by rw [e]; exact q))
theorem oI_neg {o : Option Nat} (hk : ∀ k, o = some k → k < 2 ^ 31) : (oI o < (0 : Int32)) ↔ o = none := by
  cases o with
  | none => exact ⟨fun _ => rfl, fun _ => by decide⟩
  | some k => exact ⟨fun q => absurd q (nI_pos (hk k rfl)), fun q => by cases q⟩
/-- what is asked of backs with some fuel -/
def cBk (K : Nat) (ζ : pZ) (h al af ta taped ra da : Nat) (tp : Nat → Int32) (F d : Nat) : Prop := ∀ (a : lA) (l : sLn) (N : Nat) (A : Nat → lA) (L : Nat → sLn) (own : Nat → Nat × Nat × Nat) (ea laid : Nat) (mc : Int32) (τ : pH), ζ.1 ≤ τ.1 → zLd ζ τ own h al ea af laid ta taped ra da mc N A L → zTb ζ τ ta ra da tp → zLine ζ τ h a l → oOk own a → zDj N A → (∀ j, j < N → (A j).1 ≠ a.1) → sLow d l.2.2.2.1 → sLow d l.2.2.2.2 → zR τ (fdX0_backs F K ζ h a.1 τ) (zBP ζ h al af ta taped ra da tp h a.1 N A own ea laid τ (sBks F l (N, L)))
theorem hx_bfTail (hK : 2 ^ 50 ≤ K) (F d q s : Nat) (IH : cBk K ζ h al af ta taped ra da tp F d) (hp : pn_prime q) (hq : q < 2 ^ (d + 1)) (hq9 : q ≤ 1000000000) (hs : (if q < 100 then 0 else 1) = s) (N : Nat) (A : Nat → lA) (L : Nat → sLn) (own : Nat → Nat × Nat × Nat) (ea laid : Nat) (mc : Int32) (τ : pH) (hζ : ζ.1 ≤ τ.1) (H : zLd ζ τ own h al ea af laid ta taped ra da mc N A L) (T : zTb ζ τ ta ra da tp) (D : zDj N A) (hr : sRest (fun k => (L k).1) (sFt L) q N 0 = none) :
    zR τ (dz_b (zob ζ τ h 0) fun _ => zcl τ (fnX0_made K ζ h (lN q) (nI s) τ) fun x9 s10 => zcl s10 (fnL_isFound K ζ x9 s10) fun x12 s13 => if x12 = (0 : Int32) then (some ((0 : Int32), s13)) else (dz_b (zob ζ s13 h 0) fun _ => zcl s13 (fdX0_backs F K ζ h x9 s13) fun x14 s15 => if x14 = (0 : Int32) then (some (0, s15)) else (some (1, s15)))) (zBP ζ h al af ta taped ra da tp h h N A own ea laid τ (sBkF (sBks F) q (N, L))) := by
  have hs1 : s ≤ 1 := by rw [← hs]; split <;> omega
  have hq2 := hp.1
  refine zR_b H.1.ob (zR_cl (hm_made K ζ τ h q s hζ ⟨by omega, hq9⟩ (by omega)) (fun x t g P => ?_))
  obtain ⟨rfl, hx, kz⟩ := P
  have ht5 : τ.1 + 5 ≤ t.1 := by
    obtain ⟨f, -, hub, -⟩ := hx.2.1.2.2.1
    exact hub.1.2
  have hn3 : s = 0 ∨ 3 ≤ q := by
    rcases Nat.lt_or_ge q 100 with g2 | g2
    · left; rw [← hs, if_pos g2]
    · right; omega
  refine zR_cl (hf_isFound K ζ t τ.1 s q h (Nat.le_trans hζ g.1) hx (by omega) hn3 hK) (fun v t2 g2 P => ?_)
  obtain ⟨po, k2⟩ := P
  have K2 : zk zno τ t2 (5 + (sFnd s q).2) (30 + (5 * (sFnd s q).2 + 300)) := kz.new (k2.wk (fun z _ e => Or.inr e.1))
  have T2 : zTb ζ t2 ta ra da tp := T.k K2 (fun e => e) (fun e => e) (fun e => e)
  cases ho : (sFnd s q).1 with
  | none =>
    rw [ho] at po
    have po : v = 0 := po
    refine zR_t po (zR_ret ⟨?_, own, ea, laid, mc, A, fun _ _ => rfl, Nat.le_refl _, ?_, T2, ?_, Or.inl rfl, ?_, ?_⟩ zge.rfl)
    · rw [sBkF_n hs hr ho]; rfl
    · rw [sBkF_n hs hr ho]; exact H.k0 K2
    · rw [sBkF_n hs hr ho]
      refine (K2.wk (fun _ _ e => e.elim)).le ?_ ?_
      · show _ ≤ 5 + (sFnd s q).2 + 40 * (laid - laid); omega
      · exact ar1 _ _
    · rw [sBkF_n hs hr ho]; exact D
    · rw [sBkF_n hs hr ho]; exact zNwl.rf
  | some l =>
    rw [ho] at po
    obtain ⟨hv, das, uas, hlx, ⟨e1, e2⟩, f1, f2, n1, n2, n3⟩ := po
    have lo := sLow_child hp hq (by omega) (by rw [hs]; exact ho)
    have el : l = (q, s, (l.2.2.1.1, l.2.2.1.2), l.2.2.2.1, l.2.2.2.2) := by
      rcases l with ⟨l1, l2, ⟨l3, l4⟩, l5, l6⟩
      have e1 : l1 = q := e1
      have e2 : l2 = s := e2
      subst e1; subst e2; rfl
    have hln := zLine_of hlx (by omega)
    rw [← el] at hln
    have he : ∀ z, z < τ.1 → oNew own τ.1 das uas z = own z := fun z hz => oNew_lt hz
    have ho1 := oNew_ok own τ.1 das uas (fun y hy => by have := f1 y hy; omega) (fun y hy => by have := f2 y hy; omega) n1 n2 n3
    have H2 := (H.co T he).k0 K2
    refine zR_f (by rw [hv]; decide) (zR_b H2.1.ob (zR_cl (IH _ l N A L _ ea laid mc t2 (Nat.le_trans hζ (Nat.le_trans g.1 g2.1)) H2 T2 hln ho1 D (fun j hj => Nat.ne_of_lt (H.lt hj)) lo.1 lo.2) (fun w t3 g3 P => ?_)))
    have P2 := zBP_tr (c := 5 + (sFnd s q).2) (s := 330 + 5 * (sFnd s q).2) he (Nat.le_refl laid) ((K2.wk (fun _ _ e => e.elim)).le (by omega) (ar1 _ _)) (Or.inl rfl) (Or.inl rfl) (zNwl.rf (x := h)) (Or.inr (Or.inr (Nat.le_refl _))) P
    rw [sBkF_s hs hr ho]
    have hw := P2.1
    cases hb : (sBks F l (N, L)).1 with
    | false =>
      refine zR_t (by rw [hw, hb]; rfl) (zR_r ?_)
      obtain ⟨-, P3⟩ := P2
      rw [hb] at P3
      exact ⟨rfl, P3⟩
    | true =>
      refine zR_f (by rw [hw, hb]; decide) (zR_r ?_)
      obtain ⟨-, P3⟩ := P2
      rw [hb] at P3
      exact ⟨rfl, P3⟩
theorem hx_backsFor (hK : 2 ^ 50 ≤ K) (F d q : Nat) (IH : cBk K ζ h al af ta taped ra da tp F d) (hp : pn_prime q) (hq : q < 2 ^ (d + 1)) (hq9 : q ≤ 1000000000) (N : Nat) (A : Nat → lA) (L : Nat → sLn) (own : Nat → Nat × Nat × Nat) (ea laid : Nat) (mc : Int32) (τ : pH) (hζ : ζ.1 ≤ τ.1) (H : zLd ζ τ own h al ea af laid ta taped ra da mc N A L) (T : zTb ζ τ ta ra da tp) (D : zDj N A) :
    zR τ (foX0_backsFor (fdX0_backs F) K ζ h (lN q) τ) (zBP ζ h al af ta taped ra da tp h h N A own ea laid τ (sBkF (sBks F) q (N, L))) := by
  have hN := H.2.2.2.1.2
  unfold foX0_backsFor
  simp only [H.1.ob, H.2.1.1.ob, dzb, dzc, dzl, fl0, fl1, fl2, fl3, fl4, fl5, fl6, fl7, fi0, fi1, fi2, fi3, fi4, fi5, fi6, fi7, fr0, fr1, fr2, fr3, fr4, fr5, fr6, fr7, fs0, fs1, fs2, fs3, fs4, fs5, fs6, fs7]
  refine zR_cl (Q := fun v t => v = nI N ∧ t = τ) (zR_eq (hj_size K ζ τ al ea mc _ H.2.1.1) ⟨by rw [xsA_len], rfl⟩ zge.rfl) ?_
  intro v t _ P
  obtain ⟨rfl, rfl⟩ := P
  simp only [H.1.ob, dzb, dzc, dzl, fl0, fl1, fl2, fl3, fl4, fl5, fl6, fl7, fi0, fi1, fi2, fi3, fi4, fi5, fi6, fi7, fr0, fr1, fr2, fr3, fr4, fr5, fr6, fr7, fs0, fs1, fs2, fs3, fs4, fs5, fs6, fs7]
  refine zR_cl (hx_restOn N q (by omega) (Nat.le_refl _) hζ H hK) (fun v t1 g P => ?_)
  obtain ⟨rfl, l1, b1, b2, b3⟩ := P
  have a6 := H.2.2.2.2.2.1
  have b3' : zk (zS ζ h al af ea h) t t1 (0 + 40 * (l1 - laid)) (0 + 200 * (l1 - laid)) := (b3.wk (fun z _ e => e.elim (fun e => Or.inl e) (fun e => Or.inr (Or.inl e)))).le (by omega) (by omega)
  have T1 : zTb ζ t1 ta ra da tp := T.s (own := own) b3' (fun z q => Or.inl (a6.S H.2.2.2.2.2.2 z q)) a6
  have hlt : ∀ k, sRest (fun k => (L k).1) (sFt L) q N 0 = some k → k < 2 ^ 31 := fun k e => by have := (sRest_lt _ _ _ _ _ _ e).2.1; omega
  cases hr : sRest (fun k => (L k).1) (sFt L) q N 0 with
  | some k =>
    rw [hr] at hlt
    refine zR_f (fun e => by have := (oI_neg hlt).mp e; cases this) (zR_r ?_)
    rw [sBkF_y (by show (sRest (fun k => (L k).1) (sFt L) q N 0).isSome = true; rw [hr]; rfl)]
    exact ⟨rfl, own, ea, l1, mc, A, fun _ _ => rfl, b1, b2, T1, b3', Or.inl rfl, D, zNwl.rf⟩
  | none =>
    refine zR_t (by decide) ?_
    rcases Nat.lt_or_ge q 100 with g2 | g2
    · have hs : (if q < 100 then 0 else 1) = 0 := if_pos g2
      refine zR_f (fun e => ?_) ?_
      · have := (pk_lLE (a := 100) (b := q) (by omega) (by omega)).mp e; omega
      · refine zR_imp (hx_bfTail hK F d q 0 IH hp hq hq9 hs N A L own ea l1 mc t1 (Nat.le_trans hζ g.1) b2 T1 D hr) (fun v t2 _ P => ?_)
        have := zBP_tr (c := 0) (s := 0) (fun _ _ => rfl) b1 b3' (Or.inl rfl) (Or.inl rfl) (zNwl.rf (x := h)) (Or.inl rfl) P
        rw [Nat.zero_add, Nat.zero_add] at this
        exact this
    · have hs : (if q < 100 then 0 else 1) = 1 := if_neg (by omega)
      refine zR_t ?_ ?_
      · exact (pk_lLE (a := 100) (b := q) (by omega) (by omega)).mpr g2
      · refine zR_imp (hx_bfTail hK F d q 1 IH hp hq hq9 hs N A L own ea l1 mc t1 (Nat.le_trans hζ g.1) b2 T1 D hr) (fun v t2 _ P => ?_)
        have := zBP_tr (c := 0) (s := 0) (fun _ _ => rfl) b1 b3' (Or.inl rfl) (Or.inl rfl) (zNwl.rf (x := h)) (Or.inl rfl) P
        rw [Nat.zero_add, Nat.zero_add] at this
        exact this
end BK
