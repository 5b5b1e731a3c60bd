/-! the ledger as the class has it -/
abbrev lA : Type := Nat × Nat × Nat × Nat × Nat × List Nat × List Nat
/-- each address has one owner: what it is, of which line, which row -/
def oOk (own : Nat → Nat × Nat × Nat) (a : lA) : Prop := (own a.1 = (10, a.1, 0) ∧ own a.2.1 = (11, a.1, 0) ∧ own a.2.2.1 = (12, a.1, 0) ∧ own a.2.2.2.1 = (13, a.1, 0) ∧ own a.2.2.2.2.1 = (14, a.1, 0)) ∧ (∀ i (h : i < a.2.2.2.2.2.1.length), own a.2.2.2.2.2.1[i] = (15, a.1, i)) ∧ ∀ i (h : i < a.2.2.2.2.2.2.length), own a.2.2.2.2.2.2[i] = (16, a.1, i)
def zLine (ζ : pZ) (τ : pH) (h : Nat) (a : lA) (l : sLn) : Prop := zLx ζ τ (5 + l.2.1) a.1 l.2.1 l.1 l.2.2.1.1 l.2.2.1.2 a.2.1 a.2.2.1 a.2.2.2.1 a.2.2.2.2.1 h a.2.2.2.2.2.1 a.2.2.2.2.2.2 l.2.2.2.1 l.2.2.2.2 ∧ sLok l.2.1 l.1 l.2.2.1.1 l.2.2.1.2 l.2.2.2.1 l.2.2.2.2
def xsA (N : Nat) (A : Nat → lA) : List Nat := (List.range N).map (fun k => (A k).1)
theorem xsA_len (N : Nat) (A : Nat → lA) : (xsA N A).length = N := by unfold xsA; rw [List.length_map, List.length_range]
theorem xsA_get (N : Nat) (A : Nat → lA) (k : Nat) (h : k < (xsA N A).length) : (xsA N A)[k] = (A k).1 := by simp only [xsA, List.getElem_map, List.getElem_range]
def zRt (own : Nat → Nat × Nat × Nat) (ζ : pZ) (h al ea af ta ra da : Nat) : Prop := own h = (0, 0, 0) ∧ own al = (1, 0, 0) ∧ (own ea = (2, 0, 0) ∨ ea = ζ.2.2.2 0) ∧ own af = (3, 0, 0) ∧ own ta = (4, 0, 0) ∧ own ra = (5, 0, 0) ∧ own da = (6, 0, 0)
def zLd (ζ : pZ) (τ : pH) (own : Nat → Nat × Nat × Nat) (h al ea af laid ta taped ra da : Nat) (mc : Int32) (N : Nat) (A : Nat → lA) (L : Nat → sLn) : Prop :=
  zin ζ τ h (ppE al af laid ta taped ra da) ∧ zAL ζ τ al ea mc (xsA N A) ∧ (∃ f, zin ζ τ af (faE f) ∧ ∀ k, k < laid → f k = nI (sFt L k)) ∧ (laid ≤ N ∧ N ≤ 60) ∧ (∀ k, k < N → zLine ζ τ h (A k) (L k) ∧ oOk own (A k)) ∧ zRt own ζ h al ea af ta ra da ∧ ζ.2.2.2 0 < ζ.1
theorem zLine.k {ζ : pZ} {τ τ' : pH} {h c s : Nat} {a : lA} {l : sLn} {S : Nat → Prop} {own : Nat → Nat × Nat × Nat} (H : zLine ζ τ h a l) (ho : oOk own a) (k : zk S τ τ' c s) (hS : ∀ x, S x → (own x).1 < 10) : zLine ζ τ' h a l := by
  have g : ∀ {x : Nat} {i j m : Nat}, own x = (10 + i, j, m) → ¬ S x := fun e q => by have := hS _ q; rw [e] at this; omega
  refine ⟨⟨k.in H.1.1 (g (i := 0) ho.1.1), ⟨H.1.2.1.1.k k (g (i := 1) ho.1.2.1) (g (i := 2) ho.1.2.2.1), H.1.2.1.2.1.k k (fun x hx => ?_), H.1.2.1.2.2.1.k k (g (i := 3) ho.1.2.2.2.1) (g (i := 4) ho.1.2.2.2.2), H.1.2.1.2.2.2.k k (fun x hx => ?_)⟩, H.1.2.2⟩, H.2⟩
  · obtain ⟨i, hi, e⟩ := List.getElem_of_mem hx
    rw [← e]; exact g (i := 5) (ho.2.1 i hi)
  · obtain ⟨i, hi, e⟩ := List.getElem_of_mem hx
    rw [← e]; exact g (i := 6) (ho.2.2 i hi)
theorem zLd.fl {ζ : pZ} {τ : pH} {own : Nat → Nat × Nat × Nat} {h al ea af laid ta taped ra da : Nat} {mc : Int32} {N : Nat} {A : Nat → lA} {L : Nat → sLn} (H : zLd ζ τ own h al ea af laid ta taped ra da mc N A L) : zFl ζ τ h al ea af laid ta taped ra da mc (xsA N A) (fun k => (L k).1) (sFt L) laid := by
  obtain ⟨a1, a2, a3, a4, a5, a6, a7⟩ := H
  refine ⟨a1, a2, a3, Nat.le_refl _, by rw [xsA_len]; exact a4.1, by rw [xsA_len]; omega, fun k hk => ?_⟩
  have hk' : k < N := by rw [xsA_len] at hk; exact hk
  obtain ⟨b, -⟩ := a5 k hk'
  rw [xsA_get]
  exact ⟨_, _, _, _, _, _, _, b.1.1, by have := b.2.1; omega, b.2.2.1.2⟩
theorem hl_dfault (K : Nat) (ζ : pZ) (τ : pH) (h al ea af laid ta taped ra da : Nat) (mc : Int32) (xs : List Nat) (nf ff : Nat → Nat) (before : Nat) (a : lA) (l : sLn) (hζ : ζ.1 ≤ τ.1) (hc0 : ζ.2.2.2 0 < ζ.1) (H : zLine ζ τ h a l) (hF : zFl ζ τ h al ea af laid ta taped ra da mc xs nf ff before) (hff : ∀ k, k < before → ff k ≤ 9) (hK : 2 ^ 50 ≤ K) : zR τ (fnL_fault K ζ a.1 (nI before) τ) (fun v t => v = nI (sFault l.2.1 l.1 l.2.2.1.1 l.2.2.1.2 l.2.2.2.1 l.2.2.2.2 nf ff before) ∧ zc5 τ t 40) := by
  obtain ⟨Hx, ho⟩ := H
  have hs := ho.1
  unfold fnL_fault
  refine zR_b (Hx.1.oL (by omega)) ?_
  generalize hse : l.2.1 = s at *
  have hc : s = 0 ∨ s = 1 ∨ s = 2 ∨ s = 3 ∨ s = 4 := by omega
  rcases hc with rfl | rfl | rfl | rfl | rfl
  · exact zR_t rfl (hl_fault_5 K ζ τ a.1 l.1 _ _ _ _ _ _ h al ea af laid ta taped ra da mc xs nf ff before _ _ _ _ hζ hc0 Hx hF hff hK)
  · exact zR_f (show ¬ 5 + 1 = 5 by decide) (zR_t rfl (hl_fault_6 K ζ τ a.1 l.1 _ _ _ _ _ _ h al ea af laid ta taped ra da mc xs nf ff before _ _ _ _ hζ hc0 Hx hF hff hK))
  · exact zR_f (show ¬ 5 + 2 = 5 by decide) (zR_f (show ¬ 5 + 2 = 6 by decide) (zR_t rfl (hl_fault_7 K ζ τ a.1 l.1 _ _ _ _ _ _ h al ea af laid ta taped ra da mc xs nf ff before _ _ _ _ hζ hc0 Hx hF hff hK)))
  · exact zR_f (show ¬ 5 + 3 = 5 by decide) (zR_f (show ¬ 5 + 3 = 6 by decide) (zR_f (show ¬ 5 + 3 = 7 by decide) (zR_t rfl (hl_fault_8 K ζ τ a.1 l.1 _ _ _ _ _ _ h al ea af laid ta taped ra da mc xs nf ff before _ _ _ _ hζ hc0 Hx hF hff hK))))
  · exact zR_f (show ¬ 5 + 4 = 5 by decide) (zR_f (show ¬ 5 + 4 = 6 by decide) (zR_f (show ¬ 5 + 4 = 7 by decide) (zR_f (show ¬ 5 + 4 = 8 by decide) (zR_t rfl (hl_fault_9 K ζ τ a.1 l.1 _ _ _ _ _ _ h al ea af laid ta taped ra da mc xs nf ff before _ _ _ _ hζ hc0 Hx hF hff hK)))))
theorem by9 : ∀ f, f ≤ 9 → Int8.toInt32 (Int32.toInt8 (nI f)) = nI f := by decide
theorem by9' : ∀ f, f ≤ 9 → vp_nar .byte (nI f) = nI f := by decide
/-- the ledger moved on: cells that are no line's have changed, the roots as said -/
theorem zLd.lines {ζ : pZ} {τ τ' : pH} {own : Nat → Nat × Nat × Nat} {h c s : Nat} {N : Nat} {A : Nat → lA} {L : Nat → sLn} {S : Nat → Prop} (H : ∀ k, k < N → zLine ζ τ h (A k) (L k) ∧ oOk own (A k)) (k : zk S τ τ' c s) (hS : ∀ x, S x → (own x).1 < 10) : ∀ k, k < N → zLine ζ τ' h (A k) (L k) ∧ oOk own (A k) := fun j hj => ⟨(H j hj).1.k (H j hj).2 k hS, (H j hj).2⟩
theorem hx_isRightL (K : Nat) (ζ : pZ) (own : Nat → Nat × Nat × Nat) (h al ea af ta taped ra da : Nat) (mc : Int32) (N : Nat) (A : Nat → lA) (L : Nat → sLn) (k : Nat) (hk : k < N) (hK : 2 ^ 50 ≤ K) : ∀ m laid kk τ, k + 1 - laid = m → ζ.1 ≤ τ.1 → zLd ζ τ own h al ea af laid ta taped ra da mc N A L → m + 1 ≤ kk →
    zR τ ((lfX0_isRight K ζ kk) h (nI k) τ) (fun v t => v = nb (decide (sFt L k = 0)) ∧ zLd ζ t own h al ea af (max laid (k + 1)) ta taped ra da mc N A L ∧ zk (fun a => a = h ∨ a = af) τ t (40 * m) (200 * m)) := by
  intro m
  induction m with
  | zero =>
    intro laid kk τ hm hζ H hkk
    obtain ⟨kk, rfl⟩ : ∃ j, kk = j + 1 := ⟨kk - 1, by omega⟩
    have H0 := H
    obtain ⟨a1, a2, ⟨f, a3, a3'⟩, a4, a5, a6, a7⟩ := H
    rw [luX0_isRight_1]
    simp only [a1.ob, dzb, dzc, dzl, fl0, fl1, fl2, fl3, fl4, fl5, fl6, fl7, fi0, fi1, fi2, fi3, fi4, fi5, fi6, fi7, fr0, fr1, fr2, fr3, fr4, fr5, fr6, fr7, fs0, fs1, fs2, fs3, fs4, fs5, fs6, fs7]
    refine zR_t (nI_lt (by omega) (by omega)) ?_
    rw [a3.ai, dzc]
    refine zR_t (nI_in (by omega) (by omega)) ?_
    rw [nI_clamp (by omega), a3' k (by omega)]
    have h9 := sFt_le L k
    rw [show max laid (k + 1) = laid from Nat.max_eq_left (by omega)]
    by_cases h0 : sFt L k = 0
    · exact zR_t (by rw [h0]; rfl) (zR_r ⟨by rw [decide_eq_true h0]; rfl, H0, zk.rfl⟩)
    · exact zR_f (nI_ne0 (by omega) (by omega)) (zR_r ⟨by rw [decide_eq_false h0]; rfl, H0, zk.rfl⟩)
  | succ m ih =>
    intro laid kk τ hm hζ H hkk
    obtain ⟨kk, rfl⟩ : ∃ j, kk = j + 1 := ⟨kk - 1, by omega⟩
    have H0 := H
    obtain ⟨a1, a2, ⟨f, a3, a3'⟩, a4, a5, a6, a7⟩ := H
    have hll : laid < N := by omega
    obtain ⟨hln, hown⟩ := a5 laid hll
    rw [luX0_isRight_1]
    simp only [a1.ob, a2.1.ob, dzb, dzc, dzl, fl0, fl1, fl2, fl3, fl4, fl5, fl6, fl7, fi0, fi1, fi2, fi3, fi4, fi5, fi6, fi7, fr0, fr1, fr2, fr3, fr4, fr5, fr6, fr7, fs0, fs1, fs2, fs3, fs4, fs5, fs6, fs7]
    refine zR_f (nI_nlt (by omega) (by omega)) ?_
    have eg := hj_get K ζ τ al ea mc (xsA N A) a2 laid (by rw [xsA_len]; exact hll) (by rw [xsA_len]; omega)
    rw [xsA_get] at eg
    refine zR_cl (Q := fun v t => v = (A laid).1 ∧ t = τ) (zR_eq eg ⟨rfl, rfl⟩ zge.rfl) ?_
    intro v t _ P
    obtain ⟨rfl, rfl⟩ := P
    have hs4 := hln.2.1
    simp only [hln.1.1.oL (show 5 ≤ 5 + (L laid).2.1 ∧ 5 + (L laid).2.1 ≤ 9 by omega), a1.ob, dzb, dzc, dzl, fl0, fl1, fl2, fl3, fl4, fl5, fl6, fl7, fi0, fi1, fi2, fi3, fi4, fi5, fi6, fi7, fr0, fr1, fr2, fr3, fr4, fr5, fr6, fr7, fs0, fs1, fs2, fs3, fs4, fs5, fs6, fs7]
    refine zR_cl (hl_dfault K ζ t h al ea af laid ta taped ra da mc (xsA N A) (fun k => (L k).1) (sFt L) laid (A laid) (L laid) hζ a7 hln H0.fl (fun j _ => sFt_le L j) hK) (fun v t1 g1 P => ?_)
    obtain ⟨rfl, k1⟩ := P
    rw [← sFt_eq]
    have h9 := sFt_le L laid
    have a3b := k1.i a3
    have a1b := k1.i a1
    rw [by9 _ h9, by9' _ h9]
    refine zR_t a3b.1 ?_
    rw [a3b.ai, dzc]
    refine zR_t (nI_in (by omega) (by omega)) ?_
    rw [nI_clamp (by omega)]
    have hne : h ≠ af := fun e => by
      have q1 := a6.1
      have q2 := a6.2.2.2.1
      rw [e, q2] at q1
      exact absurd q1 (by decide)
    have a1c := a1b.st_ne (e' := faE (upd f laid (nI (sFt L laid)))) hne
    simp only [a1c.ob, a1c.wo (k := 2) (Nat.le_of_ble_eq_true rfl), dzb, dzc, dzl, fl0, fl1, fl2, fl3, fl4, fl5, fl6, fl7, fi0, fi1, fi2, fi3, fi4, fi5, fi6, fi7, fr0, fr1, fr2, fr3, fr4, fr5, fr6, fr7, fs0, fs1, fs2, fs3, fs4, fs5, fs6, fs7, nI_1]
    have S0 : ∀ x, (x = h ∨ x = af) → (own x).1 < 10 := by
      intro x hx
      rcases hx with rfl | rfl
      · rw [a6.1]; decide
      · rw [a6.2.2.2.1]; decide
    have k2 : zk (fun a => a = h ∨ a = af) t (zst (zst t1 af (faE (upd f laid (nI (sFt L laid))))) h (ppE al af (laid + 1) ta taped ra da)) (40 + 0 + 0) (5 * 40 + 0 + 0) :=
      ((zk.wk k1 (fun _ _ q => q.elim)).tr (zk_st (Or.inr rfl))).tr (zk_st (Or.inl rfl))
    have nal : ¬ (al = h ∨ al = af) := by
      intro q
      rcases q with q | q
      · have e := a6.2.1; rw [q, a6.1] at e; exact absurd e (by decide)
      · have e := a6.2.1; rw [q, a6.2.2.2.1] at e; exact absurd e (by decide)
    have nea : ¬ (ea = h ∨ ea = af) := by
      intro q
      rcases a6.2.2.1 with e | e
      · rcases q with q | q
        · rw [q, a6.1] at e; exact absurd e (by decide)
        · rw [q, a6.2.2.2.1] at e; exact absurd e (by decide)
      · rcases q with q | q
        · have := a1.1.1; omega
        · have := a3.1.1; omega
    have H2 : zLd ζ (zst (zst t1 af (faE (upd f laid (nI (sFt L laid))))) h (ppE al af (laid + 1) ta taped ra da)) own h al ea af (laid + 1) ta taped ra da mc N A L := by
      refine ⟨zin_st a1c.1, a2.k k2 nal nea, ⟨upd f laid (nI (sFt L laid)), (zin_st a3b.1).st_ne (Ne.symm hne), fun j hj => ?_⟩, ⟨by omega, a4.2⟩, zLd.lines a5 k2 S0, a6, a7⟩
      rcases Nat.lt_or_ge j laid with h1 | h1
      · rw [pk_un (by omega)]; exact a3' j h1
      · rw [show j = laid by omega, pk_us]
    refine zR_mono (τ := t1) (s := zst (zst t1 af (faE (upd f laid (nI (sFt L laid))))) h (ppE al af (laid + 1) ta taped ra da)) ⟨Nat.le_refl _, Nat.le_refl _⟩ ?_
    refine zR_imp (ih (laid + 1) kk _ (by omega) (Nat.le_trans hζ g1.1) H2 (by omega)) (fun v t2 _ P => ?_)
    refine ⟨P.1, ?_, (k2.tr P.2.2).le (by omega) (by omega)⟩
    rw [show max laid (k + 1) = max (laid + 1) (k + 1) by rw [Nat.max_eq_right (by omega), Nat.max_eq_right (by omega)]]
    exact P.2.1
theorem hx_isRight {K : Nat} {ζ : pZ} {τ : pH} {own : Nat → Nat × Nat × Nat} {h al ea af laid ta taped ra da : Nat} {mc : Int32} {N : Nat} {A : Nat → lA} {L : Nat → sLn} (k : Nat) (hk : k < N) (hζ : ζ.1 ≤ τ.1) (H : zLd ζ τ own h al ea af laid ta taped ra da mc N A L) (hK : 2 ^ 50 ≤ K) : zR τ (fnX0_isRight K ζ h (nI k) τ) (fun v t => v = nb (decide (sFt L k = 0)) ∧ zLd ζ t own h al ea af (max laid (k + 1)) ta taped ra da mc N A L ∧ zk (fun a => a = h ∨ a = af) τ t (40 * (k + 1 - laid)) (200 * (k + 1 - laid))) := by
  have := H.2.2.2.1.2
  exact hx_isRightL K ζ own h al ea af ta taped ra da mc N A L k hk hK _ laid K τ rfl hζ H (by omega)
