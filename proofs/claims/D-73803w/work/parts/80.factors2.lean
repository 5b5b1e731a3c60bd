/-! the factors: the class's list -/
theorem nI_le0 {e : Nat} (h : e < 2 ^ 31) : nI e ≤ 0 ↔ e = 0 := by
  rw [show (0 : Int32) = nI 0 from rfl, nI_leI h (by omega)]; omega
theorem hx_facStrip (K : Nat) (ζ : pZ) (τ : pH) (hζ : ζ.1 ≤ τ.1) (q : Nat) (hq : 2 ≤ q) (hq2 : q ≤ 46341) (P : Nat → pH → Prop) : ∀ l, 0 < l → l < 2 ^ 31 → ∀ kk e s acc, e + l < 2 ^ 31 → FB ζ τ s acc → (acc ++ (if (fC q l l e).2 = 0 then [] else [(q, (fC q l l e).2)])).length ≤ 9 → l + 2 ≤ kk →
    (∀ k' s', kk ≤ k' + l + 1 → FB ζ τ s' (acc ++ (if (fC q l l e).2 = 0 then [] else [(q, (fC q l l e).2)])) → zge s s' → zR s' ((lfX0_factors K ζ k').2.2 τ.1 (lN (fC q l l e).1) (lN q) s') P) → zR s ((lfX0_factors K ζ kk).2.1 τ.1 (lN l) (lN q) (nI e) s) P := by
  intro l
  induction l using Nat.strongRecOn with
  | ind l ih =>
    intro h0 hl kk e s acc he hB hle hk cont
    obtain ⟨k, rfl⟩ : ∃ j, kk = j + 1 := ⟨kk - 1, by omega⟩
    have hz := pz_nz (m := q) (by omega) (by omega)
    rw [luX0_factors_2, if_pos hz, pk_lRem (by omega) (by omega) (by omega)]
    refine zR_l ?_
    obtain ⟨w, rfl⟩ : ∃ j, l = j + 1 := ⟨l - 1, by omega⟩
    have hm : (w + 1) % q < q := Nat.mod_lt _ (by omega)
    by_cases hd : (w + 1) % q = 0
    · refine zR_t ((lN0 (by omega)).mpr hd) (zR_l (zR_t hz (zR_l ?_)))
      have h1 := dl_lt h0 hq
      have h2 := dl_pos h0 hq hd
      have hf : fC q (w + 1) (w + 1) e = fC q ((w + 1) / q) ((w + 1) / q) (e + 1) := by
        rw [fC_s, if_pos hd]; exact fC_k q hq _ h2 _ _ _ (by omega) (by omega)
      rw [pk_lDiv (by omega) (by omega) (by omega), nI_1]
      rw [hf] at hle cont
      exact ih ((w + 1) / q) h1 h2 (by omega) k (e + 1) s acc (by omega) hB hle (by omega) (fun k' s' a b c => cont k' s' (by omega) b c)
    · refine zR_f (fun x => hd ((lN0 (by omega)).mp x)) ?_
      have hf : fC q (w + 1) (w + 1) e = (w + 1, e) := by rw [fC_s, if_neg hd]
      rw [hf] at hle cont
      by_cases h1 : e = 0
      · subst h1
        refine zR_t ((nI_le0 (by omega)).mpr rfl) ?_
        rw [if_pos rfl, List.append_nil] at cont
        exact cont k s (by omega) hB zge.rfl
      · refine zR_f (fun x => h1 ((nI_le0 (by omega)).mp x)) (zR_l (zR_l ?_))
        rw [if_neg h1] at hle cont
        refine FB_add K ζ τ s acc q e hζ hB (by rw [List.length_append] at hle; exact hle) (fun _ s8 => (lfX0_factors K ζ k).2.2 τ.1 (lN (w + 1)) (lN q) s8) P (fun s' b c => ?_)
        exact cont k s' (by omega) b c
theorem fu_l {k kk k' l : Nat} (hk : (k + 1) * 8589934592 + 10 ≤ kk + 1) (a : kk ≤ k' + 1 + l + 1) (hl : l < 2 ^ 31) : k * 8589934592 + 10 ≤ k' := by
  rw [Nat.add_mul, Nat.one_mul] at hk
  generalize k * 8589934592 = z at hk ⊢
  omega
theorem hx_facLoop (K : Nat) (ζ : pZ) (τ : pH) (hζ : ζ.1 ≤ τ.1) : ∀ k q l kk s acc, 2 ≤ q → 0 < l → l < 2 ^ 31 → 1 ≤ k → q + k = 46343 → FB ζ τ s acc → (acc ++ fL k q l).length ≤ 9 → k * 8589934592 + 10 ≤ kk →
    zR s ((lfX0_factors K ζ kk).1 τ.1 (lN l) (lN q) s) (fun a s' => a = τ.1 ∧ FB ζ τ s' (acc ++ fL k q l)) := by
  intro k
  induction k with
  | zero => intro q l kk s acc _ _ _ h1; exact absurd h1 (by omega)
  | succ k ih =>
    intro q l kk s acc h2 h0 hl _ hq hB hlen hk
    obtain ⟨kk, rfl⟩ : ∃ j, kk = j + 1 := ⟨kk - 1, by omega⟩
    have hqq : q * q < 2 ^ 63 := by
      have := Nat.mul_le_mul (show q ≤ 46343 by omega) (show q ≤ 46343 by omega); omega
    rw [luX0_factors_1, lN_mul]
    rw [fL_s] at hlen ⊢
    by_cases h : l < q * q
    · rw [if_pos h] at hlen ⊢
      refine zR_t ((pk_lLT (by omega) hqq).mpr h) ?_
      by_cases h1 : l ≤ 1
      · rw [if_pos h1] at hlen ⊢
        exact zR_t ((pk_lLE (b := 1) (by omega) (by omega)).mpr h1) (zR_r ⟨rfl, by rw [List.append_nil]; exact hB⟩)
      · rw [if_neg h1] at hlen ⊢
        refine zR_f (fun x => h1 ((pk_lLE (b := 1) (by omega) (by omega)).mp x)) (zR_l (zR_l ?_))
        exact FB_add K ζ τ s acc l 1 hζ hB (by rw [List.length_append] at hlen; exact hlen) (fun x s => some (x, s)) _ (fun s' b _ => zR_r ⟨rfl, b⟩)
    · rw [if_neg h] at hlen ⊢
      have hq4 := nq_sq (q := q) (n := l) (by omega) hl
      refine zR_f (fun x => h ((pk_lLT (by omega) hqq).mp x)) ?_
      obtain ⟨w1, w2, w3, w4, w5⟩ := fC_w q h2 l h0 l 0 (Nat.le_refl _)
      rw [← List.append_assoc] at hlen ⊢
      refine hx_facStrip K ζ τ hζ q h2 (by omega) _ l h0 hl kk 0 s acc (by omega) hB (by rw [List.length_append] at hlen; omega) (by omega) (fun k' s' a b c => ?_)
      obtain ⟨k', rfl⟩ : ∃ j, k' = j + 1 := ⟨k' - 1, by omega⟩
      rw [luX0_factors_3]
      refine zR_l ?_
      rw [lN_1]
      generalize (fC q l l 0).1 = l' at *
      generalize (fC q l l 0).2 = e' at *
      have hkk := fu_l hk a hl
      exact ih (q + 1) l' k' s' _ (by omega) w1 (by omega) (by omega) (by omega) b hlen hkk
theorem hx_factors (K : Nat) (ζ : pZ) (τ : pH) (n : Nat) (hζ : ζ.1 ≤ τ.1) (h0 : 0 < n) (hn : n < 2 ^ 31) (hl : (sfac n).length ≤ 9) (hK : 2 ^ 50 ≤ K) : zR τ (fnX0_factors K ζ (lN n) τ) (fun a s => a = τ.1 ∧ FB ζ τ s (sfac n)) := by
  unfold fnX0_factors
  have g0 : zge τ (znw τ 2 (.inr (10, [.null, .int 0]))) := ⟨Nat.le_succ _, Nat.le_add_right _ _⟩
  refine zR_l (zR_l (zR_ck' g0 ?_))
  have hi := zin_nw (ζ := ζ) (τ := τ) (n := 2) (e := .inr (10, [.null, .int 0])) hζ
  obtain ⟨e1, e2⟩ := hr_init K ζ (znw τ 2 (.inr (10, [.null, .int 0]))) τ.1 hi (Nat.le_succ_of_le hζ)
  refine zR_cl (Q := fun _ s => s = zst (znw (znw τ 2 (.inr (10, [.null, .int 0]))) 9 (raE (fun _ => none))) τ.1 (rsE (τ.1 + 1) 0)) (zR_eq e1 rfl ⟨Nat.le_succ _, Nat.le_add_right _ _⟩) ?_
  intro _ s4 _ e4
  have hB : FB ζ τ s4 [] := by
    refine ⟨[], ?_, ?_, zRw.nil, fun x hx => (List.not_mem_nil hx).elim, List.nodup_nil⟩
    · rw [e4]
      have k1 : zk zno τ (znw τ 2 (.inr (10, [.null, .int 0]))) 1 2 := zk_nw
      have k2 : zk zno (znw τ 2 (.inr (10, [.null, .int 0]))) (znw (znw τ 2 (.inr (10, [.null, .int 0]))) 9 (raE (fun _ => none))) 1 9 := zk_nw
      exact (k1.tr k2).new (zk_st (Or.inr (Nat.le_refl _)))
    · rw [e4]; exact e2
  exact hx_facLoop K ζ τ hζ 46341 2 n K s4 [] (by omega) h0 hn (by omega) (by omega) hB hl (by omega)
