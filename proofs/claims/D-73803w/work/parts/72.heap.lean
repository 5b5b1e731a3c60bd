/-! running pure programs over the pure heap -/
def zge (τ τ' : pH) : Prop := τ.1 ≤ τ'.1 ∧ τ.2.1 ≤ τ'.2.1
theorem zge.rfl {τ : pH} : zge τ τ := ⟨Nat.le_refl _, Nat.le_refl _⟩
theorem zge.tr {τ τ1 τ2 : pH} (h : zge τ τ1) (h' : zge τ1 τ2) : zge τ τ2 := ⟨Nat.le_trans h.1 h'.1, Nat.le_trans h.2 h'.2⟩
/-- it comes to an end, and its end is such -/
def zR {α : Type} (τ : pH) (o : Option (α × pH)) (P : α → pH → Prop) : Prop := ∃ x τ', o = some (x, τ') ∧ zge τ τ' ∧ P x τ'
theorem zR_ret {α : Type} {τ τ' : pH} {x : α} {P : α → pH → Prop} (h : P x τ') (g : zge τ τ') : zR τ (some (x, τ')) P := ⟨x, τ', rfl, g, h⟩
theorem zR_r {α : Type} {τ : pH} {x : α} {P : α → pH → Prop} (h : P x τ) : zR τ (some (x, τ)) P := ⟨x, τ, rfl, zge.rfl, h⟩
theorem zR_eq {α : Type} {τ τ' : pH} {x : α} {o : Option (α × pH)} {P : α → pH → Prop} (e : o = some (x, τ')) (h : P x τ') (g : zge τ τ') : zR τ o P := ⟨x, τ', e, g, h⟩
theorem zR_b {α β : Type} {τ : pH} {o : Option β} {x : β} {f : β → Option (α × pH)} {P : α → pH → Prop} (h : o = some x) (k : zR τ (f x) P) : zR τ (dz_b o f) P := by rw [h]; exact k
theorem zR_c {α β γ : Type} {τ : pH} {o : Option (β × γ)} {x : β} {y : γ} {f : β → γ → Option (α × pH)} {P : α → pH → Prop} (h : o = some (x, y)) (k : zR τ (f x y) P) : zR τ (dz_c o f) P := by rw [h]; exact k
theorem zR_l {α β : Type} {τ : pH} {v : β} {f : β → Option (α × pH)} {P : α → pH → Prop} (k : zR τ (f v) P) : zR τ (dz_l v f) P := k
theorem zR_mono {α : Type} {τ s : pH} {o : Option (α × pH)} {P : α → pH → Prop} (g : zge τ s) (h : zR s o P) : zR τ o P := by
  obtain ⟨x, τ', e, g', h⟩ := h
  exact ⟨x, τ', e, g.tr g', h⟩
theorem zR_imp {α : Type} {τ : pH} {o : Option (α × pH)} {P Q : α → pH → Prop} (h : zR τ o P) (k : ∀ x τ', zge τ τ' → P x τ' → Q x τ') : zR τ o Q := by
  obtain ⟨x, τ', e, g', h⟩ := h
  exact ⟨x, τ', e, g', k x τ' g' h⟩
theorem zR_cl {α β : Type} {τ : pH} {o : Option (β × pH)} {f : β → pH → Option (α × pH)} {Q : β → pH → Prop} {P : α → pH → Prop} (h : zR τ o Q) (k : ∀ x τ1, zge τ τ1 → Q x τ1 → zR τ1 (f x τ1) P) : zR τ (zcl τ o f) P := by
  obtain ⟨x, τ1, e, g, q⟩ := h
  obtain ⟨y, τ2, e2, g2, p⟩ := k x τ1 g q
  exact ⟨y, τ2, zcl_i e g g2 e2, g.tr g2, p⟩
theorem zR_ck {α : Type} {τ : pH} {o : Option (α × pH)} {P : α → pH → Prop} (h : zR τ o P) : zR τ (zck τ o) P := by
  obtain ⟨x, τ', e, g', h⟩ := h
  exact ⟨x, τ', zck_i e g'.1 g'.2, g', h⟩
theorem zR_ck' {α : Type} {τ s : pH} {o : Option (α × pH)} {P : α → pH → Prop} (g : zge τ s) (h : zR s o P) : zR τ (zck s o) P := zR_mono g (zR_ck h)
theorem zR_t {α : Type} {τ : pH} {c : Prop} {d : Decidable c} {a b : Option (α × pH)} {P : α → pH → Prop} (hc : c) (h : zR τ a P) : zR τ (@ite _ c d a b) P := by rw [if_pos hc]; exact h
theorem zR_f {α : Type} {τ : pH} {c : Prop} {d : Decidable c} {a b : Option (α × pH)} {P : α → pH → Prop} (hc : ¬ c) (h : zR τ b P) : zR τ (@ite _ c d a b) P := by rw [if_neg hc]; exact h
theorem zR_if {α : Type} {τ : pH} {c : Prop} {d : Decidable c} {a b : Option (α × pH)} {P : α → pH → Prop} (h1 : c → zR τ a P) (h2 : ¬ c → zR τ b P) : zR τ (@ite _ c d a b) P := by
  by_cases hc : c
  · exact zR_t hc (h1 hc)
  · exact zR_f hc (h2 hc)
/-- an own cell holds this -/
def zin (ζ : pZ) (τ : pH) (a : Nat) (e : pE) : Prop := (ζ.1 ≤ a ∧ a < τ.1) ∧ τ.2.2 a = e
theorem zin.rd {ζ : pZ} {τ : pH} {a : Nat} {e : pE} (h : zin ζ τ a e) : zrd ζ τ a = some e := by unfold zrd; rw [if_pos h.1, h.2]
theorem zin.ob {ζ : pZ} {τ : pH} {a c : Nat} {fs : List Value} (h : zin ζ τ a (.inr (c, fs))) : zob ζ τ a c = some fs := by
  unfold zob; rw [h.rd]; exact if_pos rfl
theorem zin.wo {ζ : pZ} {τ : pH} {a c k : Nat} {fs : List Value} (h : zin ζ τ a (.inr (c, fs))) (hk : k < fs.length) : zwo ζ τ a c k = some fs := by
  unfold zwo; rw [if_pos h.1, h.2]; exact if_pos ⟨rfl, hk⟩
theorem zin.oL {ζ : pZ} {τ : pH} {a c : Nat} {fs : List Value} (h : zin ζ τ a (.inr (c, fs))) (hc : 5 ≤ c ∧ c ≤ 9) : zoL ζ τ a = some (c, fs) := by
  unfold zoL; rw [h.rd]; exact if_pos hc
theorem zin.ai {ζ : pZ} {τ : pH} {a j n : Nat} {f : Nat → Int32} (h : zin ζ τ a (.inl (j, n, .inl f))) : zai ζ τ a j = some (n, f) := by
  unfold zai; rw [h.rd]; exact if_pos rfl
theorem zin.al {ζ : pZ} {τ : pH} {a j n : Nat} {f : Nat → Int64} (h : zin ζ τ a (.inl (j, n, .inr (.inl f)))) : zal ζ τ a j = some (n, f) := by
  unfold zal; rw [h.rd]; exact if_pos rfl
theorem zin.aq {ζ : pZ} {τ : pH} {a j n : Nat} {f : Nat → Option Nat} (h : zin ζ τ a (.inl (j, n, .inr (.inr (.inr (.inr f)))))) : zaq ζ τ a j = some (n, f) := by
  unfold zaq; rw [h.rd]; exact if_pos rfl
theorem zin.st_ne {ζ : pZ} {τ : pH} {a b : Nat} {e e' : pE} (h : zin ζ τ a e) (hn : a ≠ b) : zin ζ (zst τ b e') a e := ⟨h.1, by show va_up τ.2.2 b e' a = e; unfold va_up; rw [if_neg hn]; exact h.2⟩
theorem zin_st {ζ : pZ} {τ : pH} {a : Nat} {e : pE} (h : ζ.1 ≤ a ∧ a < τ.1) : zin ζ (zst τ a e) a e := ⟨h, by show va_up τ.2.2 a e a = e; unfold va_up; rw [if_pos rfl]⟩
theorem zin_nw {ζ : pZ} {τ : pH} {n : Nat} {e : pE} (h : ζ.1 ≤ τ.1) : zin ζ (znw τ n e) τ.1 e := ⟨⟨h, Nat.lt_succ_self _⟩, by show va_up τ.2.2 τ.1 e τ.1 = e; unfold va_up; rw [if_pos rfl]⟩
theorem zin.nw {ζ : pZ} {τ : pH} {a n : Nat} {e e' : pE} (h : zin ζ τ a e) : zin ζ (znw τ n e') a e := ⟨⟨h.1.1, Nat.lt_succ_of_lt h.1.2⟩, by show va_up τ.2.2 τ.1 e' a = e; unfold va_up; rw [if_neg (Nat.ne_of_lt h.1.2)]; exact h.2⟩
/-- old cells are kept but some; so much is new -/
def zk (S : Nat → Prop) (τ τ' : pH) (c s : Nat) : Prop := zge τ τ' ∧ (∀ a, a < τ.1 → ¬ S a → τ'.2.2 a = τ.2.2 a) ∧ τ'.1 ≤ τ.1 + c ∧ τ'.2.1 ≤ τ.2.1 + s
abbrev zno : Nat → Prop := fun _ => False
theorem zk.rfl {S : Nat → Prop} {τ : pH} : zk S τ τ 0 0 := ⟨zge.rfl, fun _ _ _ => Eq.refl _, Nat.le_refl _, Nat.le_refl _⟩
theorem zk.tr {S : Nat → Prop} {τ τ1 τ2 : pH} {c s c' s' : Nat} (h : zk S τ τ1 c s) (h' : zk S τ1 τ2 c' s') : zk S τ τ2 (c + c') (s + s') :=
  ⟨h.1.tr h'.1, fun a ha hs => (h'.2.1 a (Nat.lt_of_lt_of_le ha h.1.1) hs).trans (h.2.1 a ha hs), by have := h.2.2.1; have := h'.2.2.1; omega, by have := h.2.2.2; have := h'.2.2.2; omega⟩
theorem zk.le {S : Nat → Prop} {τ τ' : pH} {c s c' s' : Nat} (h : zk S τ τ' c s) (hc : c ≤ c') (hs : s ≤ s') : zk S τ τ' c' s' :=
  ⟨h.1, h.2.1, Nat.le_trans h.2.2.1 (by omega), Nat.le_trans h.2.2.2 (by omega)⟩
theorem zk.wk {S S' : Nat → Prop} {τ τ' : pH} {c s : Nat} (h : zk S τ τ' c s) (hS : ∀ a, a < τ.1 → S a → S' a) : zk S' τ τ' c s :=
  ⟨h.1, fun a ha hs => h.2.1 a ha (fun q => hs (hS a ha q)), h.2.2⟩
theorem zk.in {S : Nat → Prop} {ζ : pZ} {τ τ' : pH} {c s a : Nat} {e : pE} (h : zk S τ τ' c s) (hi : zin ζ τ a e) (hs : ¬ S a) : zin ζ τ' a e :=
  ⟨⟨hi.1.1, Nat.lt_of_lt_of_le hi.1.2 h.1.1⟩, (h.2.1 a hi.1.2 hs).trans hi.2⟩
theorem zk_st {S : Nat → Prop} {τ : pH} {a : Nat} {e : pE} (h : S a) : zk S τ (zst τ a e) 0 0 :=
  ⟨⟨Nat.le_refl _, Nat.le_refl _⟩, fun b _ hs => by show va_up τ.2.2 a e b = _; unfold va_up; rw [if_neg (fun (q : b = a) => hs (by rw [q]; exact h))], Nat.le_refl _, Nat.le_refl _⟩
theorem zk_nw {S : Nat → Prop} {τ : pH} {n : Nat} {e : pE} : zk S τ (znw τ n e) 1 n :=
  ⟨⟨Nat.le_succ _, Nat.le_add_right _ _⟩, fun b hb _ => by show va_up τ.2.2 τ.1 e b = _; unfold va_up; rw [if_neg (Nat.ne_of_lt hb)], Nat.le_refl _, Nat.le_refl _⟩
/-- what is written into a cell that is new since τ0 counts for nothing -/
theorem zk.new {S : Nat → Prop} {τ0 τ τ' : pH} {c s c' s' : Nat} (h : zk S τ0 τ c s) (h' : zk (fun a => S a ∨ τ0.1 ≤ a) τ τ' c' s') : zk S τ0 τ' (c + c') (s + s') :=
  ⟨h.1.tr h'.1, fun a ha hs => (h'.2.1 a (Nat.lt_of_lt_of_le ha h.1.1) (fun q => q.elim hs (fun q => absurd ha (Nat.not_lt.mpr q)))).trans (h.2.1 a ha hs), by have := h.2.2.1; have := h'.2.2.1; omega, by have := h.2.2.2; have := h'.2.2.2; omega⟩
theorem zst2 {τ : pH} {a : Nat} {e e' : pE} : zst (zst τ a e) a e' = zst τ a e' := by
  unfold zst
  show (τ.1, τ.2.1, va_up (va_up τ.2.2 a e) a e') = _
  congr 2
  funext b
  unfold va_up
  by_cases h : b = a
  · rw [if_pos h, if_pos h]
  · rw [if_neg h, if_neg h, if_neg h]
theorem znw_st {τ : pH} {n : Nat} {e e' : pE} : zst (znw τ n e) τ.1 e' = znw τ n e' := by
  unfold zst znw
  show (τ.1 + 1, τ.2.1 + n, va_up (va_up τ.2.2 τ.1 e) τ.1 e') = _
  congr 2
  funext b
  unfold va_up
  by_cases h : b = τ.1
  · rw [if_pos h, if_pos h]
  · rw [if_neg h, if_neg h, if_neg h]
theorem dzb {α γ : Type} {x : α} {f : α → Option γ} : dz_b (some x) f = f x := rfl
theorem dzc {α β γ : Type} {x : α} {y : β} {f : α → β → Option γ} : dz_c (some (x, y)) f = f x y := rfl
theorem dzl {α β : Type} {v : α} {f : α → β} : dz_l v f = f v := rfl
theorem fl0 {x : Int64} {t : List Value} : zvl ((.long x :: t)[0]?) = some x := rfl
theorem fl1 {x : Int64} {v0 : Value} {t : List Value} : zvl ((v0 :: .long x :: t)[1]?) = some x := rfl
theorem fl2 {x : Int64} {v0 v1 : Value} {t : List Value} : zvl ((v0 :: v1 :: .long x :: t)[2]?) = some x := rfl
theorem fl3 {x : Int64} {v0 v1 v2 : Value} {t : List Value} : zvl ((v0 :: v1 :: v2 :: .long x :: t)[3]?) = some x := rfl
theorem fl4 {x : Int64} {v0 v1 v2 v3 : Value} {t : List Value} : zvl ((v0 :: v1 :: v2 :: v3 :: .long x :: t)[4]?) = some x := rfl
theorem fl5 {x : Int64} {v0 v1 v2 v3 v4 : Value} {t : List Value} : zvl ((v0 :: v1 :: v2 :: v3 :: v4 :: .long x :: t)[5]?) = some x := rfl
theorem fl6 {x : Int64} {v0 v1 v2 v3 v4 v5 : Value} {t : List Value} : zvl ((v0 :: v1 :: v2 :: v3 :: v4 :: v5 :: .long x :: t)[6]?) = some x := rfl
theorem fl7 {x : Int64} {v0 v1 v2 v3 v4 v5 v6 : Value} {t : List Value} : zvl ((v0 :: v1 :: v2 :: v3 :: v4 :: v5 :: v6 :: .long x :: t)[7]?) = some x := rfl
theorem fi0 {x : Int32} {t : List Value} : zvi ((.int x :: t)[0]?) = some x := rfl
theorem fi1 {x : Int32} {v0 : Value} {t : List Value} : zvi ((v0 :: .int x :: t)[1]?) = some x := rfl
theorem fi2 {x : Int32} {v0 v1 : Value} {t : List Value} : zvi ((v0 :: v1 :: .int x :: t)[2]?) = some x := rfl
theorem fi3 {x : Int32} {v0 v1 v2 : Value} {t : List Value} : zvi ((v0 :: v1 :: v2 :: .int x :: t)[3]?) = some x := rfl
theorem fi4 {x : Int32} {v0 v1 v2 v3 : Value} {t : List Value} : zvi ((v0 :: v1 :: v2 :: v3 :: .int x :: t)[4]?) = some x := rfl
theorem fi5 {x : Int32} {v0 v1 v2 v3 v4 : Value} {t : List Value} : zvi ((v0 :: v1 :: v2 :: v3 :: v4 :: .int x :: t)[5]?) = some x := rfl
theorem fi6 {x : Int32} {v0 v1 v2 v3 v4 v5 : Value} {t : List Value} : zvi ((v0 :: v1 :: v2 :: v3 :: v4 :: v5 :: .int x :: t)[6]?) = some x := rfl
theorem fi7 {x : Int32} {v0 v1 v2 v3 v4 v5 v6 : Value} {t : List Value} : zvi ((v0 :: v1 :: v2 :: v3 :: v4 :: v5 :: v6 :: .int x :: t)[7]?) = some x := rfl
theorem fr0 {x : Nat} {t : List Value} : zvr ((.ref x :: t)[0]?) = some x := rfl
theorem fr1 {x : Nat} {v0 : Value} {t : List Value} : zvr ((v0 :: .ref x :: t)[1]?) = some x := rfl
theorem fr2 {x : Nat} {v0 v1 : Value} {t : List Value} : zvr ((v0 :: v1 :: .ref x :: t)[2]?) = some x := rfl
theorem fr3 {x : Nat} {v0 v1 v2 : Value} {t : List Value} : zvr ((v0 :: v1 :: v2 :: .ref x :: t)[3]?) = some x := rfl
theorem fr4 {x : Nat} {v0 v1 v2 v3 : Value} {t : List Value} : zvr ((v0 :: v1 :: v2 :: v3 :: .ref x :: t)[4]?) = some x := rfl
theorem fr5 {x : Nat} {v0 v1 v2 v3 v4 : Value} {t : List Value} : zvr ((v0 :: v1 :: v2 :: v3 :: v4 :: .ref x :: t)[5]?) = some x := rfl
theorem fr6 {x : Nat} {v0 v1 v2 v3 v4 v5 : Value} {t : List Value} : zvr ((v0 :: v1 :: v2 :: v3 :: v4 :: v5 :: .ref x :: t)[6]?) = some x := rfl
theorem fr7 {x : Nat} {v0 v1 v2 v3 v4 v5 v6 : Value} {t : List Value} : zvr ((v0 :: v1 :: v2 :: v3 :: v4 :: v5 :: v6 :: .ref x :: t)[7]?) = some x := rfl
theorem fs0 {w v0 : Value} {t : List Value} : (v0 :: t).set 0 w = w :: t := rfl
theorem fs1 {w v0 v1 : Value} {t : List Value} : (v0 :: v1 :: t).set 1 w = v0 :: w :: t := rfl
theorem fs2 {w v0 v1 v2 : Value} {t : List Value} : (v0 :: v1 :: v2 :: t).set 2 w = v0 :: v1 :: w :: t := rfl
theorem fs3 {w v0 v1 v2 v3 : Value} {t : List Value} : (v0 :: v1 :: v2 :: v3 :: t).set 3 w = v0 :: v1 :: v2 :: w :: t := rfl
theorem fs4 {w v0 v1 v2 v3 v4 : Value} {t : List Value} : (v0 :: v1 :: v2 :: v3 :: v4 :: t).set 4 w = v0 :: v1 :: v2 :: v3 :: w :: t := rfl
theorem fs5 {w v0 v1 v2 v3 v4 v5 : Value} {t : List Value} : (v0 :: v1 :: v2 :: v3 :: v4 :: v5 :: t).set 5 w = v0 :: v1 :: v2 :: v3 :: v4 :: w :: t := rfl
theorem fs6 {w v0 v1 v2 v3 v4 v5 v6 : Value} {t : List Value} : (v0 :: v1 :: v2 :: v3 :: v4 :: v5 :: v6 :: t).set 6 w = v0 :: v1 :: v2 :: v3 :: v4 :: v5 :: w :: t := rfl
theorem fs7 {w v0 v1 v2 v3 v4 v5 v6 v7 : Value} {t : List Value} : (v0 :: v1 :: v2 :: v3 :: v4 :: v5 :: v6 :: v7 :: t).set 7 w = v0 :: v1 :: v2 :: v3 :: v4 :: v5 :: v6 :: w :: t := rfl
