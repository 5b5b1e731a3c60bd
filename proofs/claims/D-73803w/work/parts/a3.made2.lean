/-- made(n, sort): an empty line -/
theorem hm_made (K : Nat) (ζ : pZ) (τ : pH) (h n s : Nat) (hζ : ζ.1 ≤ τ.1) (hn : 2 ≤ n ∧ n ≤ 1000000000) (hs : s ≤ 4) : zR τ (fnX0_made K ζ h (lN n) (nI s) τ) (fun x t => x = τ.1 ∧ zLx ζ t (5 + s) τ.1 s n 0 0 (τ.1 + 1) (τ.1 + 2) (τ.1 + 3) (τ.1 + 4) h [] [] [] [] ∧ zk zno τ t 5 30) := by
  unfold fnX0_made
  have hc : s = 0 ∨ s = 1 ∨ s = 2 ∨ s = 3 ∨ s = 4 := by omega
  rcases hc with rfl | rfl | rfl | rfl | rfl
  · refine zR_t (show nI 0 = 0 from rfl) (zR_l (zR_l ?_))
    have k0 : zk zno τ (znw τ 8 (.inr (5, [.long 0, .int 0, .int 0, .int 0, .null, .null, .null, .null]))) 1 8 := zk_nw
    have hx := zin_nw (ζ := ζ) (τ := τ) (n := 8) (e := (.inr (5, [.long 0, .int 0, .int 0, .int 0, .null, .null, .null, .null]))) hζ
    have hi : zR (znw τ 8 (.inr (5, [.long 0, .int 0, .int 0, .int 0, .null, .null, .null, .null]))) (fnX7_init K ζ τ.1 h (lN n) (znw τ 8 (.inr (5, [.long 0, .int 0, .int 0, .int 0, .null, .null, .null, .null])))) (fun _ t => zin ζ t τ.1 (lnE 5 0 n 0 0 (τ.1 + 1) (τ.1 + 3) h) ∧ zRs ζ t (τ.1 + 1) (τ.1 + 2) [] ∧ zRs ζ t (τ.1 + 3) (τ.1 + 4) [] ∧ zk zno τ t (1 + 4) (8 + 22)) := by
      unfold fnX7_init
      refine zR_b (hx.wo (k := 7) (Nat.le_of_ble_eq_true rfl)) (zR_le (v' := znw τ 8 (.inr (5, [.long 0, .int 0, .int 0, .int 0, .null, .null, .null, .ref h]))) znw_st ?_)
      exact zR_cl (hm_init_5 K ζ τ (znw τ 8 (.inr (5, [.long 0, .int 0, .int 0, .int 0, .null, .null, .null, .ref h]))) τ.1 h n 0 (.ref h) (Nat.le_succ_of_le hζ) (Nat.le_refl _) (Nat.le_succ _) (zin_nw hζ)) (fun _ t _ P => zR_r ⟨P.1, P.2.1, P.2.2.1, zk_nw.new (P.2.2.2.wk (fun q _ e => (Or.inr (by rw [e]; exact Nat.le_refl _) : zno q ∨ τ.1 ≤ q)))⟩)
    refine zR_ck' k0.1 (zR_cl hi (fun _ t _ P => zR_r ⟨rfl, ⟨P.1, ⟨P.2.1, zRw.nil, P.2.2.1, zRw.nil⟩, fun r hr => (List.not_mem_nil hr).elim, fun r hr => (List.not_mem_nil hr).elim, hn, by omega, by omega⟩, ?_⟩))
    exact P.2.2.2
  · refine zR_f (show ¬ nI 1 = 0 by decide) (zR_t (show nI 1 = 1 from rfl) (zR_l (zR_l ?_)))
    have k0 : zk zno τ (znw τ 8 (.inr (6, [.long 0, .int 0, .int 0, .int 0, .null, .null, .null, .null]))) 1 8 := zk_nw
    have hx := zin_nw (ζ := ζ) (τ := τ) (n := 8) (e := (.inr (6, [.long 0, .int 0, .int 0, .int 0, .null, .null, .null, .null]))) hζ
    have hi : zR (znw τ 8 (.inr (6, [.long 0, .int 0, .int 0, .int 0, .null, .null, .null, .null]))) (fnX9_init K ζ τ.1 h (lN n) (znw τ 8 (.inr (6, [.long 0, .int 0, .int 0, .int 0, .null, .null, .null, .null])))) (fun _ t => zin ζ t τ.1 (lnE 6 1 n 0 0 (τ.1 + 1) (τ.1 + 3) h) ∧ zRs ζ t (τ.1 + 1) (τ.1 + 2) [] ∧ zRs ζ t (τ.1 + 3) (τ.1 + 4) [] ∧ zk zno τ t (1 + 4) (8 + 22)) := by
      unfold fnX9_init
      refine zR_b (hx.wo (k := 7) (Nat.le_of_ble_eq_true rfl)) (zR_le (v' := znw τ 8 (.inr (6, [.long 0, .int 0, .int 0, .int 0, .null, .null, .null, .ref h]))) znw_st ?_)
      exact zR_cl (hm_init_6 K ζ τ (znw τ 8 (.inr (6, [.long 0, .int 0, .int 0, .int 0, .null, .null, .null, .ref h]))) τ.1 h n 1 (.ref h) (Nat.le_succ_of_le hζ) (Nat.le_refl _) (Nat.le_succ _) (zin_nw hζ)) (fun _ t _ P => zR_r ⟨P.1, P.2.1, P.2.2.1, zk_nw.new (P.2.2.2.wk (fun q _ e => (Or.inr (by rw [e]; exact Nat.le_refl _) : zno q ∨ τ.1 ≤ q)))⟩)
    refine zR_ck' k0.1 (zR_cl hi (fun _ t _ P => zR_r ⟨rfl, ⟨P.1, ⟨P.2.1, zRw.nil, P.2.2.1, zRw.nil⟩, fun r hr => (List.not_mem_nil hr).elim, fun r hr => (List.not_mem_nil hr).elim, hn, by omega, by omega⟩, ?_⟩))
    exact P.2.2.2
  · refine zR_f (show ¬ nI 2 = 0 by decide) (zR_f (show ¬ nI 2 = 1 by decide) (zR_t (show nI 2 = 2 from rfl) (zR_l (zR_l ?_))))
    have k0 : zk zno τ (znw τ 8 (.inr (7, [.long 0, .int 0, .int 0, .int 0, .null, .null, .null, .null]))) 1 8 := zk_nw
    have hx := zin_nw (ζ := ζ) (τ := τ) (n := 8) (e := (.inr (7, [.long 0, .int 0, .int 0, .int 0, .null, .null, .null, .null]))) hζ
    have hi : zR (znw τ 8 (.inr (7, [.long 0, .int 0, .int 0, .int 0, .null, .null, .null, .null]))) (fnX10_init K ζ τ.1 h (lN n) (znw τ 8 (.inr (7, [.long 0, .int 0, .int 0, .int 0, .null, .null, .null, .null])))) (fun _ t => zin ζ t τ.1 (lnE 7 2 n 0 0 (τ.1 + 1) (τ.1 + 3) h) ∧ zRs ζ t (τ.1 + 1) (τ.1 + 2) [] ∧ zRs ζ t (τ.1 + 3) (τ.1 + 4) [] ∧ zk zno τ t (1 + 4) (8 + 22)) := by
      unfold fnX10_init
      refine zR_b (hx.wo (k := 7) (Nat.le_of_ble_eq_true rfl)) (zR_le (v' := znw τ 8 (.inr (7, [.long 0, .int 0, .int 0, .int 0, .null, .null, .null, .ref h]))) znw_st ?_)
      exact zR_cl (hm_init_7 K ζ τ (znw τ 8 (.inr (7, [.long 0, .int 0, .int 0, .int 0, .null, .null, .null, .ref h]))) τ.1 h n 2 (.ref h) (Nat.le_succ_of_le hζ) (Nat.le_refl _) (Nat.le_succ _) (zin_nw hζ)) (fun _ t _ P => zR_r ⟨P.1, P.2.1, P.2.2.1, zk_nw.new (P.2.2.2.wk (fun q _ e => (Or.inr (by rw [e]; exact Nat.le_refl _) : zno q ∨ τ.1 ≤ q)))⟩)
    refine zR_ck' k0.1 (zR_cl hi (fun _ t _ P => zR_r ⟨rfl, ⟨P.1, ⟨P.2.1, zRw.nil, P.2.2.1, zRw.nil⟩, fun r hr => (List.not_mem_nil hr).elim, fun r hr => (List.not_mem_nil hr).elim, hn, by omega, by omega⟩, ?_⟩))
    exact P.2.2.2
  · refine zR_f (show ¬ nI 3 = 0 by decide) (zR_f (show ¬ nI 3 = 1 by decide) (zR_f (show ¬ nI 3 = 2 by decide) (zR_t (show nI 3 = 3 from rfl) (zR_l (zR_l ?_)))))
    have k0 : zk zno τ (znw τ 8 (.inr (8, [.long 0, .int 0, .int 0, .int 0, .null, .null, .null, .null]))) 1 8 := zk_nw
    have hx := zin_nw (ζ := ζ) (τ := τ) (n := 8) (e := (.inr (8, [.long 0, .int 0, .int 0, .int 0, .null, .null, .null, .null]))) hζ
    have hi : zR (znw τ 8 (.inr (8, [.long 0, .int 0, .int 0, .int 0, .null, .null, .null, .null]))) (fnX11_init K ζ τ.1 h (lN n) (znw τ 8 (.inr (8, [.long 0, .int 0, .int 0, .int 0, .null, .null, .null, .null])))) (fun _ t => zin ζ t τ.1 (lnE 8 3 n 0 0 (τ.1 + 1) (τ.1 + 3) h) ∧ zRs ζ t (τ.1 + 1) (τ.1 + 2) [] ∧ zRs ζ t (τ.1 + 3) (τ.1 + 4) [] ∧ zk zno τ t (1 + 4) (8 + 22)) := by
      unfold fnX11_init
      refine zR_b (hx.wo (k := 7) (Nat.le_of_ble_eq_true rfl)) (zR_le (v' := znw τ 8 (.inr (8, [.long 0, .int 0, .int 0, .int 0, .null, .null, .null, .ref h]))) znw_st ?_)
      exact zR_cl (hm_init_8 K ζ τ (znw τ 8 (.inr (8, [.long 0, .int 0, .int 0, .int 0, .null, .null, .null, .ref h]))) τ.1 h n 3 (.ref h) (Nat.le_succ_of_le hζ) (Nat.le_refl _) (Nat.le_succ _) (zin_nw hζ)) (fun _ t _ P => zR_r ⟨P.1, P.2.1, P.2.2.1, zk_nw.new (P.2.2.2.wk (fun q _ e => (Or.inr (by rw [e]; exact Nat.le_refl _) : zno q ∨ τ.1 ≤ q)))⟩)
    refine zR_ck' k0.1 (zR_cl hi (fun _ t _ P => zR_r ⟨rfl, ⟨P.1, ⟨P.2.1, zRw.nil, P.2.2.1, zRw.nil⟩, fun r hr => (List.not_mem_nil hr).elim, fun r hr => (List.not_mem_nil hr).elim, hn, by omega, by omega⟩, ?_⟩))
    exact P.2.2.2
  · refine zR_f (show ¬ nI 4 = 0 by decide) (zR_f (show ¬ nI 4 = 1 by decide) (zR_f (show ¬ nI 4 = 2 by decide) (zR_f (show ¬ nI 4 = 3 by decide) (zR_l (zR_l ?_)))))
    have k0 : zk zno τ (znw τ 8 (.inr (9, [.long 0, .int 0, .int 0, .int 0, .null, .null, .null, .null]))) 1 8 := zk_nw
    have hx := zin_nw (ζ := ζ) (τ := τ) (n := 8) (e := (.inr (9, [.long 0, .int 0, .int 0, .int 0, .null, .null, .null, .null]))) hζ
    have hi : zR (znw τ 8 (.inr (9, [.long 0, .int 0, .int 0, .int 0, .null, .null, .null, .null]))) (fnX12_init K ζ τ.1 h (lN n) (znw τ 8 (.inr (9, [.long 0, .int 0, .int 0, .int 0, .null, .null, .null, .null])))) (fun _ t => zin ζ t τ.1 (lnE 9 4 n 0 0 (τ.1 + 1) (τ.1 + 3) h) ∧ zRs ζ t (τ.1 + 1) (τ.1 + 2) [] ∧ zRs ζ t (τ.1 + 3) (τ.1 + 4) [] ∧ zk zno τ t (1 + 4) (8 + 22)) := by
      unfold fnX12_init
      refine zR_b (hx.wo (k := 7) (Nat.le_of_ble_eq_true rfl)) (zR_le (v' := znw τ 8 (.inr (9, [.long 0, .int 0, .int 0, .int 0, .null, .null, .null, .ref h]))) znw_st ?_)
      exact zR_cl (hm_init_9 K ζ τ (znw τ 8 (.inr (9, [.long 0, .int 0, .int 0, .int 0, .null, .null, .null, .ref h]))) τ.1 h n 4 (.ref h) (Nat.le_succ_of_le hζ) (Nat.le_refl _) (Nat.le_succ _) (zin_nw hζ)) (fun _ t _ P => zR_r ⟨P.1, P.2.1, P.2.2.1, zk_nw.new (P.2.2.2.wk (fun q _ e => (Or.inr (by rw [e]; exact Nat.le_refl _) : zno q ∨ τ.1 ≤ q)))⟩)
    refine zR_ck' k0.1 (zR_cl hi (fun _ t _ P => zR_r ⟨rfl, ⟨P.1, ⟨P.2.1, zRw.nil, P.2.2.1, zRw.nil⟩, fun r hr => (List.not_mem_nil hr).elim, fun r hr => (List.not_mem_nil hr).elim, hn, by omega, by omega⟩, ?_⟩))
    exact P.2.2.2
