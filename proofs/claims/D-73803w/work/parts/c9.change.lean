/-! a line is changed where it lies -/
theorem zLine.o {ζ : pZ} {τ t : pH} {h c s : Nat} {a : lA} {l : sLn} {S : Nat → Prop} {own : Nat → Nat × Nat × Nat} (H : zLine ζ τ h a l) (ho : oOk own a) (k : zk S τ t c s) (hS : ∀ x, S x → (own x).2.1 ≠ a.1) : zLine ζ t h a l := by
  have g : ∀ {x i m : Nat}, own x = (i, a.1, m) → ¬ S x := fun e q => hS _ q (by rw [e])
  refine ⟨⟨k.in H.1.1 (g ho.1.1), ⟨H.1.2.1.1.k k (g ho.1.2.1) (g ho.1.2.2.1), H.1.2.1.2.1.k k (fun x hx => ?_), H.1.2.1.2.2.1.k k (g ho.1.2.2.2.1) (g ho.1.2.2.2.2), H.1.2.1.2.2.2.k k (fun x hx => ?_)⟩, H.1.2.2⟩, H.2⟩
  · obtain ⟨i, hi, e⟩ := List.getElem_of_mem hx
    rw [← e]; exact g (ho.2.1 i hi)
  · obtain ⟨i, hi, e⟩ := List.getElem_of_mem hx
    rw [← e]; exact g (ho.2.2 i hi)
theorem xsA_same (N : Nat) (A : Nat → lA) (k : Nat) (a : lA) (e : a.1 = (A k).1) : xsA N (upA A k a) = xsA N A := by
  unfold xsA
  apply List.map_congr_left
  intro j _
  by_cases h : j = k
  · rw [h, upA_at, e]
  · rw [upA_ne h]
theorem zDj_e {N k : Nat} {A : Nat → lA} {a : lA} (D : zDj N A) (e : a.1 = (A k).1) : zDj N (upA A k a) := by
  have g : ∀ j, (upA A k a j).1 = (A j).1 := fun j => by
    by_cases h : j = k
    · rw [h, upA_at, e]
    · rw [upA_ne h]
  intro j i hj hi q
  rw [g j, g i] at q
  exact D j i hj hi q
theorem zLd.chg {ζ : pZ} {τ t : pH} {own : Nat → Nat × Nat × Nat} {h al ea af laid ta taped ra da c s : Nat} {mc : Int32} {N : Nat} {A : Nat → lA} {L : Nat → sLn} {S : Nat → Prop} {tp : Nat → Int32} (k : Nat) (hk : k < N) (a : lA) (l : sLn) (H : zLd ζ τ own h al ea af laid ta taped ra da mc N A L) (T : zTb ζ τ ta ra da tp) (D : zDj N A) (kk : zk S τ t c s) (hS : ∀ z, S z → 10 ≤ (own z).1 ∧ (own z).2.1 = (A k).1 ∧ ζ.1 ≤ z) (hl : zLine ζ t h a l) (ho : oOk own a) (ea1 : a.1 = (A k).1) :
    zLq ζ t own h al ea af laid ta taped ra da mc N (upA A k a) (upA L k l) (min laid k) ∧ zTb ζ t ta ra da tp ∧ zDj N (upA A k a) := by
  obtain ⟨a1, a2, ⟨f, a3, a3'⟩, a4, a5, a6, a7⟩ := H
  have ne : ∀ {x i : Nat}, own x = (i, 0, 0) → i < 10 → ¬ S x := fun e hi q => by
    have := (hS _ q).1
    rw [e] at this
    omega
  refine ⟨⟨kk.in a1 (ne a6.1 (by decide)), ?_, ⟨f, kk.in a3 (ne a6.2.2.2.1 (by decide)), fun j hj => ?_⟩, by omega, fun j hj => ?_, a6, a7⟩, T.k kk (ne a6.2.2.2.2.1 (by decide)) (ne a6.2.2.2.2.2.1 (by decide)) (ne a6.2.2.2.2.2.2 (by decide)), zDj_e D ea1⟩
  · rw [xsA_same N A k a ea1]
    refine a2.k kk (ne a6.2.1 (by decide)) ?_
    rcases a6.2.2.1 with e | e
    · exact ne e (by decide)
    · intro q
      have := (hS _ q).2.2
      omega
  · rw [a3' j (by omega), sFt_co (L := L) (L' := upA L k l) (j + 1) j (by omega) (fun i hi => upA_ne (by omega))]
  · by_cases e : j = k
    · subst e
      rw [upA_at, upA_at]
      exact ⟨hl, ho⟩
    · rw [upA_ne e, upA_ne e]
      refine ⟨(a5 j hj).1.o (a5 j hj).2 kk (fun x q => ?_), (a5 j hj).2⟩
      rw [(hS x q).2.1]
      intro q2
      exact e (D k j hk hj q2).symm
/-- number or pair of a line are set -/
theorem zLine_set {ζ : pZ} {τ : pH} {own : Nat → Nat × Nat × Nat} {h : Nat} {a : lA} {l : sLn} (n p q : Nat) (hn : 2 ≤ n ∧ n ≤ 1000000000) (hp : p ≤ 99) (hq : q ≤ 99) (H : zLine ζ τ h a l) (ho : oOk own a) : zLine ζ (zst τ a.1 (lnE (5 + l.2.1) l.2.1 n p q a.2.1 a.2.2.2.1 h)) h a (n, l.2.1, (p, q), l.2.2.2.1, l.2.2.2.2) := by
  have k : zk (fun z => z = a.1) τ (zst τ a.1 (lnE (5 + l.2.1) l.2.1 n p q a.2.1 a.2.2.2.1 h)) 0 0 := zk_st rfl
  have g : ∀ {x i m : Nat}, own x = (i, a.1, m) → i ≠ 10 → ¬ x = a.1 := fun e hi q => by
    have := ho.1.1
    rw [← q, e] at this
    exact hi (congrArg Prod.fst this)
  have hL := H.2
  refine ⟨⟨zin_st H.1.1.1, ⟨H.1.2.1.1.k k (g ho.1.2.1 (by decide)) (g ho.1.2.2.1 (by decide)), H.1.2.1.2.1.k k (fun x hx => ?_), H.1.2.1.2.2.1.k k (g ho.1.2.2.2.1 (by decide)) (g ho.1.2.2.2.2 (by decide)), H.1.2.1.2.2.2.k k (fun x hx => ?_)⟩, H.1.2.2.1, H.1.2.2.2.1, hn, hp, hq⟩, hL.1, hn, ⟨hp, hq⟩, hL.2.2.2⟩
  · obtain ⟨i, hi, e⟩ := List.getElem_of_mem hx
    rw [← e]; exact g (ho.2.1 i hi) (by decide)
  · obtain ⟨i, hi, e⟩ := List.getElem_of_mem hx
    rw [← e]; exact g (ho.2.2 i hi) (by decide)
/-- a number that isn't below nought -/
def iN (x : Int32) : Option Nat := if x < 0 then none else some x.toNatClampNeg
theorem iN_nI {k : Nat} (h : k < 2 ^ 31) : iN (nI k) = some k := by
  unfold iN
  rw [if_neg (nI_pos h), nI_clamp h]
theorem iN_neg {x : Int32} (h : x < 0) : iN x = none := if_pos h
theorem iN_cases (x : Int32) : (x < 0 ∧ iN x = none) ∨ ∃ k, k < 2 ^ 31 ∧ x = nI k ∧ iN x = some k := by
  by_cases h : x < 0
  · exact Or.inl ⟨h, iN_neg h⟩
  · obtain ⟨j, hj, e⟩ := nI_of h
    exact Or.inr ⟨j, hj, e, by rw [e]; exact iN_nI hj⟩
def bIn (lo hi : Nat) (o : Option Nat) : Bool := match o with
  | some k => decide (lo ≤ k ∧ k ≤ hi)
  | none => false
theorem bIn_t {lo hi k : Nat} (h : lo ≤ k ∧ k ≤ hi) : bIn lo hi (some k) = true := decide_eq_true h
theorem bIn_f {lo hi k : Nat} (h : ¬ (lo ≤ k ∧ k ≤ hi)) : bIn lo hi (some k) = false := decide_eq_false h
theorem nb_z {b : Bool} (h : b = false) : nb b = 0 := by rw [h]; rfl
theorem isIn_nn (K lo hi : Nat) (x : Int32) (hlo : lo < 2 ^ 31) (hhi : hi < 2 ^ 31) : fnX0_isIn K (Int32.toInt64 x) (lN lo) (lN hi) = some (nb (bIn lo hi (iN x))) := by
  rw [nx_isIn]
  rcases iN_cases x with ⟨h, e⟩ | ⟨k, hk, e, e2⟩
  · rw [e, decide_eq_false]
    · rfl
    intro q
    have q := q.1
    rw [Int64.le_iff_toInt_le, Int32.toInt_toInt64, lN_toInt hlo] at q
    rw [Int32.lt_iff_toInt_lt] at h
    have : (0 : Int32).toInt = 0 := by decide
    omega
  · rw [e2, e, nI_l hk]
    congr 2
    exact decide_eq_decide.mpr ⟨fun q => ⟨(pk_lLE (by omega) (by omega)).mp q.1, (pk_lLE (by omega) (by omega)).mp q.2⟩, fun q => ⟨(pk_lLE (by omega) (by omega)).mpr q.1, (pk_lLE (by omega) (by omega)).mpr q.2⟩⟩
