/-! owners: a new line's addresses get theirs -/
noncomputable def oRow (as : List Nat) (z : Nat) : Option Nat := @dite _ (∃ i, ∃ h : i < as.length, as[i] = z) (Classical.propDecidable _) (fun h => some (Classical.choose h)) (fun _ => none)
theorem oRow_at {as : List Nat} (hn : as.Nodup) (i : Nat) (h : i < as.length) : oRow as as[i] = some i := by
  have hx : ∃ j, ∃ h' : j < as.length, as[j] = as[i] := ⟨i, h, rfl⟩
  unfold oRow
  rw [dif_pos hx]
  obtain ⟨h1, h2⟩ := Classical.choose_spec hx
  exact congrArg some (nd_inj hn h1 h h2)
theorem oRow_no {as : List Nat} {z : Nat} (hz : z ∉ as) : oRow as z = none := by
  unfold oRow
  exact dif_neg (fun ⟨i, h, e⟩ => hz (by rw [← e]; exact List.getElem_mem h))
noncomputable def oNew (own : Nat → Nat × Nat × Nat) (b : Nat) (das uas : List Nat) : Nat → Nat × Nat × Nat := fun z =>
  if z < b then own z else if z = b then (10, b, 0) else if z = b + 1 then (11, b, 0) else if z = b + 2 then (12, b, 0) else if z = b + 3 then (13, b, 0) else if z = b + 4 then (14, b, 0) else
    match oRow das z with
    | some i => (15, b, i)
    | none => match oRow uas z with
      | some i => (16, b, i)
      | none => (9, 0, 0)
theorem oNew_lt {own : Nat → Nat × Nat × Nat} {b : Nat} {das uas : List Nat} {z : Nat} (h : z < b) : oNew own b das uas z = own z := by unfold oNew; rw [if_pos h]
theorem oNew_ok (own : Nat → Nat × Nat × Nat) (b : Nat) (das uas : List Nat) (h1 : ∀ y ∈ das, b + 5 ≤ y) (h2 : ∀ y ∈ uas, b + 5 ≤ y) (n1 : das.Nodup) (n2 : uas.Nodup) (h3 : ∀ y ∈ das, y ∉ uas) : oOk (oNew own b das uas) (b, b + 1, b + 2, b + 3, b + 4, das, uas) := by
  refine ⟨⟨?_, ?_, ?_, ?_, ?_⟩, fun i hi => ?_, fun i hi => ?_⟩
  · show oNew own b das uas b = _
    unfold oNew
    rw [if_neg (by omega), if_pos rfl]
  · show oNew own b das uas (b + 1) = _
    unfold oNew
    rw [if_neg (by omega), if_neg (by omega), if_pos rfl]
  · show oNew own b das uas (b + 2) = _
    unfold oNew
    rw [if_neg (by omega), if_neg (by omega), if_neg (by omega), if_pos rfl]
  · show oNew own b das uas (b + 3) = _
    unfold oNew
    rw [if_neg (by omega), if_neg (by omega), if_neg (by omega), if_neg (by omega), if_pos rfl]
  · show oNew own b das uas (b + 4) = _
    unfold oNew
    rw [if_neg (by omega), if_neg (by omega), if_neg (by omega), if_neg (by omega), if_neg (by omega), if_pos rfl]
  · show oNew own b das uas das[i] = (15, b, i)
    have hi : i < das.length := hi
    have := h1 _ (List.getElem_mem hi)
    unfold oNew
    rw [if_neg (by omega), if_neg (by omega), if_neg (by omega), if_neg (by omega), if_neg (by omega), if_neg (by omega), oRow_at n1 i hi]
  · show oNew own b das uas uas[i] = (16, b, i)
    have hi : i < uas.length := hi
    have := h2 _ (List.getElem_mem hi)
    unfold oNew
    rw [if_neg (by omega), if_neg (by omega), if_neg (by omega), if_neg (by omega), if_neg (by omega), if_neg (by omega), oRow_no (fun q => h3 _ q (List.getElem_mem hi)), oRow_at n2 i hi]
/-- where all addresses of a line lie -/
theorem oOk.co {own own' : Nat → Nat × Nat × Nat} {ζ : pZ} {τ : pH} {h : Nat} {a : lA} {l : sLn} (H : zLine ζ τ h a l) (ho : oOk own a) (he : ∀ z, z < τ.1 → own' z = own z) : oOk own' a := by
  obtain ⟨hx, -⟩ := H
  obtain ⟨f, d1, d2, -⟩ := id hx.2.1.1
  obtain ⟨g, u1, u2, -⟩ := id hx.2.1.2.2.1
  refine ⟨⟨?_, ?_, ?_, ?_, ?_⟩, fun i hi => ?_, fun i hi => ?_⟩
  · rw [he _ hx.1.1.2]; exact ho.1.1
  · rw [he _ d1.1.2]; exact ho.1.2.1
  · rw [he _ d2.1.2]; exact ho.1.2.2.1
  · rw [he _ u1.1.2]; exact ho.1.2.2.2.1
  · rw [he _ u2.1.2]; exact ho.1.2.2.2.2
  · rw [he _ (hx.2.1.2.1.2 i hi (by rw [← hx.2.1.2.1.1]; exact hi)).1.2]; exact ho.2.1 i hi
  · rw [he _ (hx.2.1.2.2.2.2 i hi (by rw [← hx.2.1.2.2.2.1]; exact hi)).1.2]; exact ho.2.2 i hi
/-- the ledger with tape and tables -/
def zTb (ζ : pZ) (τ : pH) (ta ra da : Nat) (tp : Nat → Int32) : Prop := zin ζ τ ta (.inl (3, 400, .inl tp)) ∧ (∃ rf, zin ζ τ ra (.inl (1, 60, .inr (.inl rf)))) ∧ ∃ df, zin ζ τ da (.inl (0, 60, .inl df))
theorem zTb.k {ζ : pZ} {τ t : pH} {ta ra da c s : Nat} {tp : Nat → Int32} {S : Nat → Prop} (H : zTb ζ τ ta ra da tp) (k : zk S τ t c s) (h1 : ¬ S ta) (h2 : ¬ S ra) (h3 : ¬ S da) : zTb ζ t ta ra da tp := by
  obtain ⟨a, ⟨rf, b⟩, df, c⟩ := H
  exact ⟨k.in a h1, ⟨rf, k.in b h2⟩, df, k.in c h3⟩
theorem zLd.co {ζ : pZ} {τ : pH} {own own' : Nat → Nat × Nat × Nat} {h al ea af laid ta taped ra da : Nat} {mc : Int32} {N : Nat} {A : Nat → lA} {L : Nat → sLn} {tp : Nat → Int32} (H : zLd ζ τ own h al ea af laid ta taped ra da mc N A L) (T : zTb ζ τ ta ra da tp) (he : ∀ z, z < τ.1 → own' z = own z) : zLd ζ τ own' h al ea af laid ta taped ra da mc N A L := by
  obtain ⟨a1, a2, ⟨f, a3, a3'⟩, a4, a5, a6, a7⟩ := H
  obtain ⟨t1, ⟨rf, t2⟩, df, t3⟩ := T
  refine ⟨a1, a2, ⟨f, a3, a3'⟩, a4, fun k hk => ⟨(a5 k hk).1, oOk.co (a5 k hk).1 (a5 k hk).2 he⟩, ⟨?_, ?_, ?_, ?_, ?_, ?_, ?_⟩, a7⟩
  · rw [he _ a1.1.2]; exact a6.1
  · rw [he _ a2.1.1.2]; exact a6.2.1
  · rcases a6.2.2.1 with e | e
    · rcases a2.2 with q | ⟨cap, g, q, -⟩
      · exact Or.inr q.1
      · exact Or.inl (by rw [he _ q.1.2]; exact e)
    · exact Or.inr e
  · rw [he _ a3.1.2]; exact a6.2.2.2.1
  · rw [he _ t1.1.2]; exact a6.2.2.2.2.1
  · rw [he _ t2.1.2]; exact a6.2.2.2.2.2.1
  · rw [he _ t3.1.2]; exact a6.2.2.2.2.2.2
/-- the ledger stays what it is where no old cell has changed -/
theorem zLd.k0 {ζ : pZ} {τ t : pH} {own : Nat → Nat × Nat × Nat} {h al ea af laid ta taped ra da c s : Nat} {mc : Int32} {N : Nat} {A : Nat → lA} {L : Nat → sLn} (H : zLd ζ τ own h al ea af laid ta taped ra da mc N A L) (k : zk zno τ t c s) : zLd ζ t own h al ea af laid ta taped ra da mc N A L := by
  obtain ⟨a1, a2, ⟨f, a3, a3'⟩, a4, a5, a6, a7⟩ := H
  exact ⟨k.in a1 (fun q => q), a2.k k (fun q => q) (fun q => q), ⟨f, k.in a3 (fun q => q), a3'⟩, a4, zLd.lines a5 k (fun _ q => q.elim), a6, a7⟩
/-- faults are told by the lines up to there -/
theorem sFt_co {L L' : Nat → sLn} : ∀ m k, k < m → (∀ j, j ≤ k → L' j = L j) → sFt L' k = sFt L k := by
  intro m
  induction m with
  | zero => intro k h; exact absurd h (Nat.not_lt_zero _)
  | succ m ih =>
    intro k hk he
    rw [sFt_eq, sFt_eq L, he k (Nat.le_refl _)]
    refine sFault_ext (fun j hj => ?_) (fun j hj => ?_)
    · show (L' j).1 = (L j).1
      rw [he j (by omega)]
    · exact ih j (by omega) (fun i hi => he i (by omega))
