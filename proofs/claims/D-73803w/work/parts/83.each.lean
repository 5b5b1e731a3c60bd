/-! going over rows -/
abbrev itE (i a : Nat) : pE := .inr (2, [.int (nI i), .ref a])
theorem hr_iter (K : Nat) (ζ : pZ) (τ : pH) (a : Nat) (hζ : ζ.1 ≤ τ.1) : fnX8_iterator K ζ a τ = some (τ.1, znw τ 2 (itE 0 a)) := by
  have hi := zin_nw (ζ := ζ) (τ := τ) (n := 2) (e := .inr (2, [.int 0, .null])) hζ
  unfold fnX8_iterator
  simp only [dzb, dzc, dzl, fl0, fl1, fl2, fl3, fl4, fl5, fl6, fl7, fi0, fi1, fi2, fi3, fi4, fi5, fi6, fi7, fr0, fr1, fr2, fr3, fr4, fr5, fr6, fr7, fs0, fs1, fs2, fs3, fs4, fs5, fs6, fs7]
  refine zck_i (τ := znw τ 2 (.inr (2, [.int 0, .null]))) ?_ (Nat.le_refl _) (Nat.le_refl _)
  have e : fnX2_init K ζ τ.1 a (znw τ 2 (.inr (2, [.int 0, .null]))) = some ((), znw τ 2 (itE 0 a)) := by
    unfold fnX2_init
    simp only [hi.wo (k := 1) (Nat.le_of_ble_eq_true rfl), dzb, dzc, dzl, fl0, fl1, fl2, fl3, fl4, fl5, fl6, fl7, fi0, fi1, fi2, fi3, fi4, fi5, fi6, fi7, fr0, fr1, fr2, fr3, fr4, fr5, fr6, fr7, fs0, fs1, fs2, fs3, fs4, fs5, fs6, fs7, znw_st]
    rfl
  exact zcl_i e ⟨Nat.le_refl _, Nat.le_refl _⟩ ⟨Nat.le_refl _, Nat.le_refl _⟩ rfl
theorem hr_hasNext (K : Nat) (ζ : pZ) (τ : pH) (it i a b : Nat) (as : List Nat) (hi : zin ζ τ it (itE i a)) (hr : zRs ζ τ a b as) (hil : i ≤ 9) : fnX2_hasNext K ζ it τ = some (nb (decide (i < as.length)), τ) := by
  obtain ⟨f, ha, -, hl, -, -⟩ := hr
  unfold fnX2_hasNext
  simp only [hi.ob, ha.ob, dzb, dzc, dzl, fl0, fl1, fl2, fl3, fl4, fl5, fl6, fl7, fi0, fi1, fi2, fi3, fi4, fi5, fi6, fi7, fr0, fr1, fr2, fr3, fr4, fr5, fr6, fr7, fs0, fs1, fs2, fs3, fs4, fs5, fs6, fs7]
  by_cases h : i < as.length
  · rw [if_neg (nI_ge h (by omega)), decide_eq_true h]; rfl
  · rw [if_pos (nI_le (by omega) (by omega)), decide_eq_false h]; rfl
theorem hr_next (K : Nat) (ζ : pZ) (τ : pH) (it i a b : Nat) (as : List Nat) (hi : zin ζ τ it (itE i a)) (hr : zRs ζ τ a b as) (h1 : it ≠ a) (h2 : it ≠ b) (h : i < as.length) : fnX2_next K ζ it τ = some (as[i], zst τ it (itE (i + 1) a)) := by
  obtain ⟨f, ha, hb, hl, -, hf⟩ := hr
  have hi2 := zin_st (ζ := ζ) (τ := τ) (a := it) (e := itE (i + 1) a) hi.1
  have ha2 := ha.st_ne (e' := itE (i + 1) a) (Ne.symm h1)
  have hb2 := hb.st_ne (e' := itE (i + 1) a) (Ne.symm h2)
  unfold fnX2_next
  simp only [hi.ob, dzb, dzc, dzl, fl0, fl1, fl2, fl3, fl4, fl5, fl6, fl7, fi0, fi1, fi2, fi3, fi4, fi5, fi6, fi7, fr0, fr1, fr2, fr3, fr4, fr5, fr6, fr7, fs0, fs1, fs2, fs3, fs4, fs5, fs6, fs7]
  refine zcl_i (x := as[i]) (τ1 := zst τ it (itE (i + 1) a)) ?_ ⟨Nat.le_refl _, Nat.le_refl _⟩ ⟨Nat.le_refl _, Nat.le_refl _⟩ rfl
  unfold fnX2_next_2
  simp only [hi.ob, hi.wo (k := 0) (Nat.le_of_ble_eq_true rfl), dzb, dzc, dzl, fl0, fl1, fl2, fl3, fl4, fl5, fl6, fl7, fi0, fi1, fi2, fi3, fi4, fi5, fi6, fi7, fr0, fr1, fr2, fr3, fr4, fr5, fr6, fr7, fs0, fs1, fs2, fs3, fs4, fs5, fs6, fs7, nI_1, hi2.ob, ha2.ob, hb2.aq, nI_pred]
  rw [if_pos (nI_in (by omega) (by omega)), nI_clamp (by omega), hf i h]
  rfl
/-- one round of a loop over rows -/
theorem zR_each {α : Type} (K : Nat) (ζ : pZ) (τ : pH) (it i a b : Nat) (as : List Nat) (E : pH → Option (α × pH)) (B : Nat → pH → Option (α × pH)) (P : α → pH → Prop) (hi : zin ζ τ it (itE i a)) (hr : zRs ζ τ a b as) (h1 : it ≠ a) (h2 : it ≠ b) (hil : i ≤ as.length)
    (hE : i = as.length → zR τ (E τ) P) (hB : ∀ (h : i < as.length), zR (zst τ it (itE (i + 1) a)) (B as[i] (zst τ it (itE (i + 1) a))) P) :
    zR τ (dz_b (zob ζ τ it 2) fun _ => zcl τ (fnX2_hasNext K ζ it τ) fun x1 s2 => if x1 = (0 : Int32) then E s2 else dz_b (zob ζ s2 it 2) fun _ => zcl s2 (fnX2_next K ζ it s2) fun x4 s5 => B x4 s5) P := by
  have hl9 : as.length ≤ 9 := by obtain ⟨f, -, -, h, -⟩ := hr; exact h
  refine zR_b hi.ob (zR_cl (Q := fun x s => x = nb (decide (i < as.length)) ∧ s = τ) (zR_eq (hr_hasNext K ζ τ it i a b as hi hr (by omega)) ⟨rfl, rfl⟩ zge.rfl) ?_)
  intro x s _ q
  obtain ⟨rfl, rfl⟩ := q
  by_cases h : i < as.length
  · refine zR_f (by rw [decide_eq_true h]; decide) (zR_b hi.ob (zR_cl (Q := fun x s' => x = as[i] ∧ s' = zst s it (itE (i + 1) a)) (zR_eq (hr_next K ζ s it i a b as hi hr h1 h2 h) ⟨rfl, rfl⟩ ⟨Nat.le_refl _, Nat.le_refl _⟩) ?_))
    intro x s' _ q
    obtain ⟨rfl, rfl⟩ := q
    exact hB h
  · exact zR_t (by rw [decide_eq_false h]; rfl) (hE (by omega))
/-- products: what all come to, much if more -/
def sPw (q : Nat) : Nat → Nat → Nat := Nat.rec (motive := fun _ => Nat → Nat) (fun all => all) (fun _ F all => F (min 4000000000 (all * q)))
theorem sPw_s (q e all : Nat) : sPw q (e + 1) all = sPw q e (min 4000000000 (all * q)) := rfl
theorem sPw_le (q : Nat) : ∀ e all, all ≤ 4000000000 → sPw q e all ≤ 4000000000 := by
  intro e
  induction e with
  | zero => intro all h; exact h
  | succ e ih => intro all _; rw [sPw_s]; exact ih _ (Nat.min_le_left _ _)
def sProdF (all : Nat) (rs : List sR) : Nat := rs.foldl (fun a r => sPw r.1 r.2.1 a) all
def sProd (rs : List sR) : Nat := sProdF 1 rs
theorem sProdF_le : ∀ (rs : List sR) all, all ≤ 4000000000 → sProdF all rs ≤ 4000000000 := by
  intro rs
  induction rs with
  | nil => intro all h; exact h
  | cons r rs ih => intro all h; exact ih _ (sPw_le _ _ _ h)
theorem sProd_le (rs : List sR) : sProd rs ≤ 4000000000 := sProdF_le rs 1 (by omega)
/-- rows as they may be -/
def sRok (r : sR) : Prop := (2 ≤ r.1 ∧ r.1 ≤ 1000000001) ∧ (1 ≤ r.2.1 ∧ r.2.1 ≤ 30) ∧ r.2.2 ≤ 999
theorem hj_min {K a b : Nat} (ha : a < 2 ^ 63) (hb : b < 2 ^ 63) : fnJ5_min K (lN a) (lN b) = some (lN (min a b)) := by
  unfold fnJ5_min
  by_cases h : b < a
  · rw [if_pos ((pk_lLT hb ha).mpr h), Nat.min_eq_right (by omega)]
  · rw [if_neg (fun q => h ((pk_lLT hb ha).mp q)), Nat.min_eq_left (by omega)]
theorem hx_product_in (K : Nat) (ζ : pZ) (τ : pH) (it r q e b : Nat) (hr : zin ζ τ r (rwE q e b)) (hq : q ≤ 1000000001) (he : e ≤ 30) : ∀ j kk all, all ≤ 4000000000 → j ≤ e → j + 2 ≤ kk → ∃ k', kk ≤ k' + j + 1 ∧ (lfX8_product K ζ kk).2 (lN all) it r (nI (e - j)) τ = (lfX8_product K ζ k').1 (lN (sPw q j all)) it τ := by
  intro j
  induction j with
  | zero =>
    intro kk all _ _ hk
    obtain ⟨k, rfl⟩ : ∃ i, kk = i + 1 := ⟨kk - 1, by omega⟩
    refine ⟨k, by omega, ?_⟩
    rw [luX8_product_2]
    simp only [hr.ob, dzb, dzc, dzl, fl0, fl1, fl2, fl3, fl4, fl5, fl6, fl7, fi0, fi1, fi2, fi3, fi4, fi5, fi6, fi7, fr0, fr1, fr2, fr3, fr4, fr5, fr6, fr7, fs0, fs1, fs2, fs3, fs4, fs5, fs6, fs7]
    rw [if_pos (nI_le (by omega) (by omega))]
    rfl
  | succ j ih =>
    intro kk all ha hj hk
    obtain ⟨k, rfl⟩ : ∃ i, kk = i + 1 := ⟨kk - 1, by omega⟩
    rw [luX8_product_2]
    simp only [hr.ob, dzb, dzc, dzl, fl0, fl1, fl2, fl3, fl4, fl5, fl6, fl7, fi0, fi1, fi2, fi3, fi4, fi5, fi6, fi7, fr0, fr1, fr2, fr3, fr4, fr5, fr6, fr7, fs0, fs1, fs2, fs3, fs4, fs5, fs6, fs7]
    have hm : all * q ≤ 4000000000 * 1000000001 := Nat.mul_le_mul ha hq
    rw [if_neg (nI_ge (by omega) (by omega)), lN_mul, show (4000000000 : Int64) = lN 4000000000 from rfl, hj_min (by omega) (by omega), dzb, nI_1, show e - (j + 1) + 1 = e - j by omega]
    obtain ⟨k', h1, h2⟩ := ih k (min 4000000000 (all * q)) (Nat.min_le_left _ _) (by omega) (by omega)
    exact ⟨k', by omega, h2⟩
theorem hx_product_loop (K : Nat) (ζ : pZ) (it a b : Nat) (as : List Nat) (rs : List sR) (hok : ∀ r ∈ rs, sRok r) (h1 : it ≠ a) (h2 : it ≠ b) (h3 : it ∉ as) : ∀ m i kk all τ, i + m = as.length → all ≤ 4000000000 → zin ζ τ it (itE i a) → zRs ζ τ a b as → zRw ζ τ as rs → m * 40 + 2 ≤ kk →
    zR τ ((lfX8_product K ζ kk).1 (lN all) it τ) (fun x s => x = lN (sProdF all (rs.drop i)) ∧ zk (fun q => q = it) τ s 0 0) := by
  intro m
  induction m with
  | zero =>
    intro i kk all τ hi ha hit hr hw hk
    obtain ⟨k, rfl⟩ : ∃ j, kk = j + 1 := ⟨kk - 1, by omega⟩
    rw [luX8_product_1]
    refine zR_each K ζ τ it i a b as _ _ _ hit hr h1 h2 (by omega) (fun _ => zR_r ⟨?_, zk.rfl⟩) (fun h => absurd h (by omega))
    rw [List.drop_eq_nil_of_le (by rw [← hw.1]; omega)]; rfl
  | succ m ih =>
    intro i kk all τ hi ha hit hr hw hk
    obtain ⟨k, rfl⟩ : ∃ j, kk = j + 1 := ⟨kk - 1, by omega⟩
    rw [luX8_product_1]
    refine zR_each K ζ τ it i a b as _ _ _ hit hr h1 h2 (by omega) (fun h => absurd h (by omega)) (fun h => ?_)
    have hlr : i < rs.length := by rw [← hw.1]; exact h
    have k0 : zk (fun q => q = it) τ (zst τ it (itE (i + 1) a)) 0 0 := zk_st rfl
    have hrow := hw.2 i h hlr
    have hne : as[i] ≠ it := fun e => h3 (e ▸ List.getElem_mem h)
    have hrow2 := k0.in hrow hne
    have ok := hok _ (List.getElem_mem hlr)
    refine zR_b hrow2.ob ?_
    obtain ⟨k', g1, g2⟩ := hx_product_in K ζ (zst τ it (itE (i + 1) a)) it as[i] _ _ _ hrow2 ok.1.2 ok.2.1.2 rs[i].2.1 k all ha (Nat.le_refl _) (by have := ok.2.1.2; omega)
    rw [Nat.sub_self] at g2
    rw [show (0 : Int32) = nI 0 from rfl, g2]
    refine zR_imp (ih (i + 1) k' _ (zst τ it (itE (i + 1) a)) (by omega) (sPw_le _ _ _ ha) (zin_st hit.1) (hr.k k0 (Ne.symm h1) (Ne.symm h2)) (hw.k k0 (fun x hx e => h3 (e ▸ hx))) (by have := ok.2.1.2; omega)) (fun x s _ p => ?_)
    refine ⟨?_, k0.tr p.2⟩
    rw [p.1, List.drop_eq_getElem_cons hlr]
    rfl
theorem hx_product (K : Nat) (ζ : pZ) (τ : pH) (a b : Nat) (as : List Nat) (rs : List sR) (hζ : ζ.1 ≤ τ.1) (hr : zRs ζ τ a b as) (hw : zRw ζ τ as rs) (hok : ∀ r ∈ rs, sRok r) (hK : 1000 ≤ K) : zR τ (fnX8_product K ζ a τ) (fun x s => x = lN (sProd rs) ∧ zk zno τ s 1 2) := by
  have hr0 := hr
  obtain ⟨f, ha, hb, hl9, -, -⟩ := hr
  unfold fnX8_product
  refine zR_b ha.ob (zR_cl (Q := fun x s => x = τ.1 ∧ s = znw τ 2 (itE 0 a)) (zR_eq (hr_iter K ζ τ a hζ) ⟨rfl, rfl⟩ ⟨Nat.le_succ _, Nat.le_add_right _ _⟩) ?_)
  intro x s _ q
  obtain ⟨rfl, rfl⟩ := q
  have k0 : zk zno τ (znw τ 2 (itE 0 a)) 1 2 := zk_nw
  have hin : τ.1 ∉ as := by
    intro h
    obtain ⟨i, hi, e⟩ := List.getElem_of_mem h
    have := (hw.2 i hi (by rw [← hw.1]; exact hi)).1.2
    rw [e] at this
    exact Nat.lt_irrefl _ this
  refine zR_imp (hx_product_loop K ζ τ.1 a b as rs hok (Nat.ne_of_gt ha.1.2) (Nat.ne_of_gt hb.1.2) hin as.length 0 K 1 _ (by omega) (by omega) (zin_nw hζ) (hr0.k k0 (fun q => q) (fun q => q)) (hw.k k0 (fun _ _ q => q)) (by omega)) (fun x s _ p => ⟨p.1, ?_⟩)
  exact k0.new (p.2.wk (fun q _ h => Or.inr (by rw [h]; exact Nat.le_refl _)))
