/-! a line that is found: all sorts in one -/
def sFnd (s n : Nat) : Option sLn × Nat := match s with
  | 0 => (some (n, 0, (0, 0), [], []), 1)
  | 1 => ((sBase n (rw0 (sfac (n - 1)))).1.map (fun a => (n, 1, (0, 0), (rw0 (sfac (n - 1))).map (wB a), [])), 3 + (sfac (n - 1)).length + (sBase n (rw0 (sfac (n - 1)))).2)
  | 2 => ((sBl n (sPr n)).1.map (fun l => (n, 2, (0, 0), l, [])), 3 + 3 * (sfac (n - 1)).length + (sBl n (sPr n)).2)
  | 3 => ((sPair n (rw0 (sfac (n + 1)))).1.map (fun r => (n, 3, r, [], rw0 (sfac (n + 1)))), 4 + (sfac (n + 1)).length + (sPair n (rw0 (sfac (n + 1)))).2)
  | _ => ((sQf n).1.map (fun l => (n, 4, l.2, l.1, sQu n)), sQc n + 1 + (sQf n).2)
def fOut (ζ : pZ) (x s n h : Nat) (τ0 : pH) (o : Option sLn) (v : Int32) (t : pH) : Prop := match o with
  | some l => v = 1 ∧ ∃ das uas, zLx ζ t (5 + s) x s n l.2.2.1.1 l.2.2.1.2 (x + 1) (x + 2) (x + 3) (x + 4) h das uas l.2.2.2.1 l.2.2.2.2 ∧ (l.1 = n ∧ l.2.1 = s) ∧ (∀ y ∈ das, τ0.1 ≤ y ∧ y < t.1) ∧ (∀ y ∈ uas, τ0.1 ≤ y ∧ y < t.1) ∧ das.Nodup ∧ uas.Nodup ∧ (∀ y ∈ das, y ∉ uas)
  | none => v = 0
theorem fOut_so {ζ : pZ} {x s n h : Nat} {τ0 : pH} {l : sLn} {v : Int32} {t : pH} (q : v = 1 ∧ ∃ das uas, zLx ζ t (5 + s) x s n l.2.2.1.1 l.2.2.1.2 (x + 1) (x + 2) (x + 3) (x + 4) h das uas l.2.2.2.1 l.2.2.2.2 ∧ (l.1 = n ∧ l.2.1 = s) ∧ (∀ y ∈ das, τ0.1 ≤ y ∧ y < t.1) ∧ (∀ y ∈ uas, τ0.1 ≤ y ∧ y < t.1) ∧ das.Nodup ∧ uas.Nodup ∧ (∀ y ∈ das, y ∉ uas)) : fOut ζ x s n h τ0 (some l) v t := q
theorem fOut_no {ζ : pZ} {x s n h : Nat} {τ0 : pH} {v : Int32} {t : pH} (q : v = 0) : fOut ζ x s n h τ0 none v t := q
theorem hf_isFound (K : Nat) (ζ : pZ) (τ : pH) (x s n h : Nat) (hζ : ζ.1 ≤ τ.1) (H : zLx ζ τ (5 + s) x s n 0 0 (x + 1) (x + 2) (x + 3) (x + 4) h [] [] [] []) (hs : s ≤ 4) (hn3 : s = 0 ∨ 3 ≤ n) (hK : 2 ^ 50 ≤ K) : zR τ (fnL_isFound K ζ x τ) (fun v t => fOut ζ x s n h τ (sFnd s n).1 v t ∧ zk (fun q => x ≤ q ∧ q ≤ x + 4) τ t (sFnd s n).2 (5 * (sFnd s n).2 + 300)) := by
  have nm : ∀ {P : Nat → Prop} (y : Nat), y ∈ ([] : List Nat) → P y := fun y hy => (List.not_mem_nil hy).elim
  unfold fnL_isFound
  refine zR_b (H.1.oL (by omega)) ?_
  have hc : s = 0 ∨ s = 1 ∨ s = 2 ∨ s = 3 ∨ s = 4 := by omega
  rcases hc with rfl | rfl | rfl | rfl | rfl
  · refine zR_t rfl (zR_imp (h5_isFound K ζ τ x n (x + 1) (x + 2) (x + 3) (x + 4) h hζ H (by omega)) (fun v t _ P => ⟨fOut_so ⟨P.1, [], [], P.2.1, ⟨rfl, rfl⟩, nm, nm, List.nodup_nil, List.nodup_nil, nm⟩, (P.2.2.wk (fun _ _ e => e.elim)).le ?_ ?_⟩))
    · show 1 ≤ 1; omega
    · show 2 ≤ 5 * 1 + 300; omega
  · have hn : 3 ≤ n := by omega
    refine zR_f (show ¬ 5 + 1 = 5 by decide) (zR_t rfl (zR_imp (hp_isFound K ζ τ x n (x + 1) (x + 2) (x + 3) (x + 4) h hζ H ⟨by omega, by omega, by omega, by omega, by omega, by omega⟩ hn hK) (fun v t _ P => ⟨?_, (P.2.wk (fun q _ e => ?_)).le ?_ ?_⟩)))
    · show fOut ζ x 1 n h τ ((sBase n (rw0 (sfac (n - 1)))).1.map (fun a => (n, 1, (0, 0), (rw0 (sfac (n - 1))).map (wB a), []))) v t
      have q := P.1
      cases ho : (sBase n (rw0 (sfac (n - 1)))).1 with
      | none => rw [ho] at q; exact fOut_no q
      | some a =>
        rw [ho] at q
        obtain ⟨q1, das, q2, q3, q4⟩ := q
        exact fOut_so ⟨q1, das, [], q2, ⟨rfl, rfl⟩, q3, nm, q4, List.nodup_nil, fun y _ hy => (List.not_mem_nil hy).elim⟩
    · have e : q = x + 1 ∨ q = x + 2 := e
      show x ≤ q ∧ q ≤ x + 4
      omega
    · show _ ≤ 3 + (sfac (n - 1)).length + (sBase n (rw0 (sfac (n - 1)))).2; omega
    · show _ ≤ 5 * (3 + (sfac (n - 1)).length + (sBase n (rw0 (sfac (n - 1)))).2) + 300; omega
  · have hn : 3 ≤ n := by omega
    refine zR_f (show ¬ 5 + 2 = 5 by decide) (zR_f (show ¬ 5 + 2 = 6 by decide) (zR_t rfl (zR_imp (hq_isFound K ζ τ x n (x + 1) (x + 2) (x + 3) (x + 4) h hζ H ⟨by omega, by omega, by omega, by omega, by omega, by omega⟩ hn hK) (fun v t _ P => ⟨?_, (P.2.wk (fun q _ e => ?_)).le ?_ ?_⟩))))
    · show fOut ζ x 2 n h τ ((sBl n (sPr n)).1.map (fun l => (n, 2, (0, 0), l, []))) v t
      have q := P.1
      cases ho : (sBl n (sPr n)).1 with
      | none => rw [ho] at q; exact fOut_no q
      | some a =>
        rw [ho] at q
        obtain ⟨q1, das, q2, q3, q4⟩ := q
        exact fOut_so ⟨q1, das, [], q2, ⟨rfl, rfl⟩, q3, nm, q4, List.nodup_nil, fun y _ hy => (List.not_mem_nil hy).elim⟩
    · have e : q = x + 1 ∨ q = x + 2 := e
      show x ≤ q ∧ q ≤ x + 4
      omega
    · show _ ≤ 3 + 3 * (sfac (n - 1)).length + (sBl n (sPr n)).2; omega
    · show _ ≤ 5 * (3 + 3 * (sfac (n - 1)).length + (sBl n (sPr n)).2) + 300; omega
  · have hn : 3 ≤ n := by omega
    refine zR_f (show ¬ 5 + 3 = 5 by decide) (zR_f (show ¬ 5 + 3 = 6 by decide) (zR_f (show ¬ 5 + 3 = 7 by decide) (zR_t rfl (zR_imp (hu_isFound K ζ τ x n (x + 1) (x + 2) (x + 3) (x + 4) h hζ H ⟨by omega, by omega, by omega, by omega⟩ ⟨by omega, by omega, by omega, by omega⟩ hn hK) (fun v t _ P => ⟨?_, (P.2.wk (fun q _ e => ?_)).le ?_ ?_⟩)))))
    · show fOut ζ x 3 n h τ ((sPair n (rw0 (sfac (n + 1)))).1.map (fun r => (n, 3, r, [], rw0 (sfac (n + 1))))) v t
      have q := P.1
      cases ho : (sPair n (rw0 (sfac (n + 1)))).1 with
      | none => rw [ho] at q; exact fOut_no q
      | some a =>
        rw [ho] at q
        obtain ⟨q1, uas, q2, q3, q4⟩ := q
        exact fOut_so ⟨q1, [], uas, q2, ⟨rfl, rfl⟩, nm, q3, List.nodup_nil, q4, nm⟩
    · have e : q = x ∨ q = x + 3 ∨ q = x + 4 := e
      show x ≤ q ∧ q ≤ x + 4
      omega
    · show _ ≤ 4 + (sfac (n + 1)).length + (sPair n (rw0 (sfac (n + 1)))).2; omega
    · show _ ≤ 5 * (4 + (sfac (n + 1)).length + (sPair n (rw0 (sfac (n + 1)))).2) + 300; omega
  · have hn : 3 ≤ n := by omega
    refine zR_f (show ¬ 5 + 4 = 5 by decide) (zR_f (show ¬ 5 + 4 = 6 by decide) (zR_f (show ¬ 5 + 4 = 7 by decide) (zR_f (show ¬ 5 + 4 = 8 by decide) (zR_t rfl (zR_imp (hw_isFound K ζ τ x n (x + 1) (x + 2) (x + 3) (x + 4) h hζ H ⟨by omega, by omega, by omega, by omega⟩ ⟨by omega, by omega, by omega, by omega⟩ hn hK) (fun v t _ P => ⟨?_, (P.2.wk (fun q _ e => ?_)).le ?_ ?_⟩))))))
    · show fOut ζ x 4 n h τ ((sQf n).1.map (fun l => (n, 4, l.2, l.1, sQu n))) v t
      have q := P.1
      cases ho : (sQf n).1 with
      | none => rw [ho] at q; exact fOut_no q
      | some a =>
        rw [ho] at q
        obtain ⟨q1, das, uas, q2, q3, q4, q5, q6, q7⟩ := q
        exact fOut_so ⟨q1, das, uas, q2, ⟨rfl, rfl⟩, q3, q4, q5, q6, q7⟩
    · have e : q = x ∨ (q = x + 1 ∨ q = x + 2) ∨ (q = x + 3 ∨ q = x + 4) := e
      show x ≤ q ∧ q ≤ x + 4
      omega
    · show _ ≤ sQc n + 1 + (sQf n).2; omega
    · show _ ≤ 5 * (sQc n + 1 + (sQf n).2) + 300; omega
/-- a line on the heap is a line of the ledger -/
theorem zLine_of {ζ : pZ} {t : pH} {x s n p q h : Nat} {das uas : List Nat} {dn up : List sR} (H : zLx ζ t (5 + s) x s n p q (x + 1) (x + 2) (x + 3) (x + 4) h das uas dn up) (hs : s ≤ 4) : zLine ζ t h (x, x + 1, x + 2, x + 3, x + 4, das, uas) (n, s, (p, q), dn, up) := by
  obtain ⟨f, -, -, l1, -⟩ := id H.2.1.1
  obtain ⟨g, -, -, l2, -⟩ := id H.2.1.2.2.1
  have e1 := H.2.1.2.1.1
  have e2 := H.2.1.2.2.2.1
  exact ⟨H, hs, H.2.2.2.2.1, H.2.2.2.2.2, ⟨by show dn.length ≤ 9; omega, by show up.length ≤ 9; omega⟩, H.2.2.1, H.2.2.2.1⟩
