/-! a line comes to the ledger -/
def upA {α : Type} (A : Nat → α) (N : Nat) (a : α) : Nat → α := fun k => if k = N then a else A k
theorem upA_at {α : Type} {A : Nat → α} {N : Nat} {a : α} : upA A N a N = a := if_pos rfl
theorem upA_ne {α : Type} {A : Nat → α} {N k : Nat} {a : α} (h : k ≠ N) : upA A N a k = A k := if_neg h
theorem xsA_s (N : Nat) (A : Nat → lA) (a : lA) : xsA (N + 1) (upA A N a) = xsA N A ++ [a.1] := by
  unfold xsA
  rw [List.range_succ, List.map_append, List.map_singleton, upA_at]
  congr 1
  apply List.map_congr_left
  intro k hk
  rw [upA_ne (Nat.ne_of_lt (List.mem_range.mp hk))]
theorem zxs {ζ : pZ} {τ : pH} {own : Nat → Nat × Nat × Nat} {h : Nat} {N : Nat} {A : Nat → lA} {L : Nat → sLn} (a5 : ∀ k, k < N → zLine ζ τ h (A k) (L k) ∧ oOk own (A k)) : ∀ y ∈ xsA N A, ∃ c fs, zin ζ τ y (.inr (c, fs)) ∧ 5 ≤ c ∧ c ≤ 9 := by
  intro y hy
  unfold xsA at hy
  obtain ⟨k, hk, e⟩ := List.mem_map.mp hy
  have hk := List.mem_range.mp hk
  obtain ⟨q, -⟩ := a5 k hk
  have := q.2.1
  rw [← e]
  exact ⟨_, _, q.1.1, by omega, by omega⟩
theorem zRt.nS {ζ : pZ} {own : Nat → Nat × Nat × Nat} {h al ea af ta ra da : Nat} (a6 : zRt own ζ h al ea af ta ra da) (a7 : ζ.2.2.2 0 < ζ.1) {x : Nat} (h1 : (own x).1 ≠ 1) (h2 : (own x).1 ≠ 2) : ¬ (x = al ∨ (x = ea ∧ ζ.1 ≤ x)) := by
  intro q
  rcases q with q | ⟨q, q2⟩
  · rw [q, a6.2.1] at h1; exact h1 rfl
  · rcases a6.2.2.1 with e | e
    · rw [q, e] at h2; exact h2 rfl
    · omega
theorem zRt.S10 {ζ : pZ} {own : Nat → Nat × Nat × Nat} {h al ea af ta ra da : Nat} (a6 : zRt own ζ h al ea af ta ra da) (a7 : ζ.2.2.2 0 < ζ.1) : ∀ x, (x = al ∨ (x = ea ∧ ζ.1 ≤ x)) → (own x).1 < 10 := by
  intro x q
  rcases Nat.lt_or_ge (own x).1 10 with g | g
  · exact g
  · exact absurd q (a6.nS a7 (by omega) (by omega))
theorem zLd.nS {ζ : pZ} {τ : pH} {own : Nat → Nat × Nat × Nat} {h al ea af laid ta taped ra da : Nat} {mc : Int32} {N : Nat} {A : Nat → lA} {L : Nat → sLn} (H : zLd ζ τ own h al ea af laid ta taped ra da mc N A L) {x : Nat} (h1 : (own x).1 ≠ 1) (h2 : (own x).1 ≠ 2) : ¬ (x = al ∨ (x = ea ∧ ζ.1 ≤ x)) := H.2.2.2.2.2.1.nS H.2.2.2.2.2.2 h1 h2
theorem zLd.S10 {ζ : pZ} {τ : pH} {own : Nat → Nat × Nat × Nat} {h al ea af laid ta taped ra da : Nat} {mc : Int32} {N : Nat} {A : Nat → lA} {L : Nat → sLn} (H : zLd ζ τ own h al ea af laid ta taped ra da mc N A L) : ∀ x, (x = al ∨ (x = ea ∧ ζ.1 ≤ x)) → (own x).1 < 10 := H.2.2.2.2.2.1.S10 H.2.2.2.2.2.2
theorem hx_comes {K : Nat} {ζ : pZ} {τ : pH} {own : Nat → Nat × Nat × Nat} {h al ea af laid ta taped ra da : Nat} {mc : Int32} {N : Nat} {A : Nat → lA} {L : Nat → sLn} {tp : Nat → Int32} (a : lA) (l : sLn) (hζ : ζ.1 ≤ τ.1) (H : zLd ζ τ own h al ea af laid ta taped ra da mc N A L) (T : zTb ζ τ ta ra da tp) (hl : zLine ζ τ h a l) (ho : oOk own a) (hN : N < 60) (hK : 1 ≤ K) :
    zR τ (fnX0_comes K ζ h a.1 τ) (fun _ t => ∃ own' ea', (∀ z, z < τ.1 → own' z = own z) ∧ zLd ζ t own' h al ea' af laid ta taped ra da (mc + 1) (N + 1) (upA A N a) (upA L N l) ∧ zTb ζ t ta ra da tp ∧ zk (fun z => z = al ∨ (z = ea ∧ ζ.1 ≤ z)) τ t 1 92 ∧ (ea' = ea ∨ τ.1 ≤ ea')) := by
  have H0 := H
  obtain ⟨a1, a2, ⟨f, a3, a3'⟩, a4, a5, a6, a7⟩ := H
  have hs4 := hl.2.1
  obtain ⟨t, ea', e, g, k, z, hea⟩ := hj_add K ζ τ al ea mc (xsA N A) hζ a2 (by rw [xsA_len]; exact hN) (zxs a5) a.1 (5 + l.2.1) _ hl.1.1 (by omega) a7 hK
  unfold fnX0_comes
  simp only [a1.ob, a2.1.ob, dzb, dzc, dzl, fl0, fl1, fl2, fl3, fl4, fl5, fl6, fl7, fi0, fi1, fi2, fi3, fi4, fi5, fi6, fi7, fr0, fr1, fr2, fr3, fr4, fr5, fr6, fr7, fs0, fs1, fs2, fs3, fs4, fs5, fs6, fs7]
  refine zR_cl (Q := fun _ s => s = t) (zR_eq e rfl g) (fun _ s _ q => ?_)
  subst q
  have he : ∀ z, z < τ.1 → (fun z => if z < τ.1 then own z else (2, 0, 0)) z = own z := fun z hz => if_pos hz
  have Hn := fun {x : Nat} (h1 : (own x).1 ≠ 1) (h2 : (own x).1 ≠ 2) => H0.nS (x := x) h1 h2
  refine zR_r ⟨fun z => if z < τ.1 then own z else (2, 0, 0), ea', he, ⟨k.in a1 (Hn (by rw [a6.1]; decide) (by rw [a6.1]; decide)), ?_, ⟨f, k.in a3 (Hn (by rw [a6.2.2.2.1]; decide) (by rw [a6.2.2.2.1]; decide)), fun j hj => ?_⟩, ⟨by omega, by omega⟩, fun j hj => ?_, ?_, a7⟩, ?_, k, hea.elim Or.inl (fun q => Or.inr (by rw [q.1]; exact Nat.le_refl _))⟩
  · rw [xsA_s]; exact z
  · rw [a3' j hj, sFt_co (L := L) (L' := upA L N l) (j + 1) j (by omega) (fun i hi => upA_ne (by omega))]
  · rcases Nat.lt_or_ge j N with h1 | h1
    · rw [upA_ne (Nat.ne_of_lt h1), upA_ne (Nat.ne_of_lt h1)]
      exact ⟨(a5 j h1).1.k (a5 j h1).2 k H0.S10, oOk.co (a5 j h1).1 (a5 j h1).2 he⟩
    · obtain rfl : j = N := by omega
      rw [upA_at, upA_at]
      exact ⟨hl.k ho k H0.S10, oOk.co hl ho he⟩
  · obtain ⟨t1, ⟨rf, t2⟩, df, t3⟩ := T
    refine ⟨?_, ?_, ?_, ?_, ?_, ?_, ?_⟩
    · rw [he _ a1.1.2]; exact a6.1
    · rw [he _ a2.1.1.2]; exact a6.2.1
    · rcases hea with rfl | ⟨rfl, -⟩
      · rcases a6.2.2.1 with e | e
        · rcases a2.2 with q | ⟨cap, g, q, -⟩
          · exact Or.inr q.1
          · exact Or.inl (by rw [he _ q.1.2]; exact e)
        · exact Or.inr e
      · exact Or.inl (if_neg (Nat.lt_irrefl _))
    · rw [he _ a3.1.2]; exact a6.2.2.2.1
    · rw [he _ t1.1.2]; exact a6.2.2.2.2.1
    · rw [he _ t2.1.2]; exact a6.2.2.2.2.2.1
    · rw [he _ t3.1.2]; exact a6.2.2.2.2.2.2
  · exact T.k k (Hn (by rw [a6.2.2.2.2.1]; decide) (by rw [a6.2.2.2.2.1]; decide)) (Hn (by rw [a6.2.2.2.2.2.1]; decide) (by rw [a6.2.2.2.2.2.1]; decide)) (Hn (by rw [a6.2.2.2.2.2.2]; decide) (by rw [a6.2.2.2.2.2.2]; decide))
