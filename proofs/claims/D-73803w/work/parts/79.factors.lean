/-! the primes of a number, rising, with how often they divide it: both classes try all divisors -/
def fC (q : Nat) : Nat → Nat → Nat → Nat × Nat := Nat.rec (motive := fun _ => Nat → Nat → Nat × Nat) (fun l e => (l, e)) (fun _ F l e => if l % q = 0 then F (l / q) (e + 1) else (l, e))
theorem fC_s (q k l e : Nat) : fC q (k + 1) l e = if l % q = 0 then fC q k (l / q) (e + 1) else (l, e) := rfl
def fL : Nat → Nat → Nat → List (Nat × Nat) := Nat.rec (motive := fun _ => Nat → Nat → List (Nat × Nat)) (fun _ _ => []) (fun _ F q l => if l < q * q then (if l ≤ 1 then [] else [(l, 1)]) else (if (fC q l l 0).2 = 0 then [] else [(q, (fC q l l 0).2)]) ++ F (q + 1) (fC q l l 0).1)
theorem fL_s (k q l : Nat) : fL (k + 1) q l = if l < q * q then (if l ≤ 1 then [] else [(l, 1)]) else (if (fC q l l 0).2 = 0 then [] else [(q, (fC q l l 0).2)]) ++ fL k (q + 1) (fC q l l 0).1 := rfl
def sfac (n : Nat) : List (Nat × Nat) := fL 46341 2 n
theorem dl_lt {l q : Nat} (h0 : 0 < l) (hq : 2 ≤ q) : l / q < l := Nat.div_lt_self h0 hq
theorem dl_pos {l q : Nat} (h0 : 0 < l) (hq : 2 ≤ q) (h : l % q = 0) : 0 < l / q := by
  rcases Nat.eq_zero_or_pos (l / q) with h1 | h1
  · have := Nat.div_add_mod l q
    rw [h1, h] at this
    omega
  · exact h1
theorem fC_k (q : Nat) (hq : 2 ≤ q) : ∀ l, 0 < l → ∀ k k' e, l ≤ k → l ≤ k' → fC q k l e = fC q k' l e := by
  intro l
  induction l using Nat.strongRecOn with
  | ind l ih =>
    intro h0 k k' e hk hk'
    obtain ⟨k, rfl⟩ : ∃ j, k = j + 1 := ⟨k - 1, by omega⟩
    obtain ⟨k', rfl⟩ : ∃ j, k' = j + 1 := ⟨k' - 1, by omega⟩
    rw [fC_s, fC_s]
    by_cases h : l % q = 0
    · have := dl_lt h0 hq
      rw [if_pos h, if_pos h, ih (l / q) this (dl_pos h0 hq h) k k' _ (by omega) (by omega)]
    · rw [if_neg h, if_neg h]
/-- what is left, and how often: a power of q is taken off -/
theorem fC_w (q : Nat) (hq : 2 ≤ q) : ∀ l, 0 < l → ∀ k e, l ≤ k → 0 < (fC q k l e).1 ∧ (fC q k l e).1 % q ≠ 0 ∧ e ≤ (fC q k l e).2 ∧ (fC q k l e).1 * q ^ ((fC q k l e).2 - e) = l ∧ (fC q k l e).2 + (fC q k l e).1 ≤ l + e := by
  intro l
  induction l using Nat.strongRecOn with
  | ind l ih =>
    intro h0 k e hk
    obtain ⟨k, rfl⟩ : ∃ j, k = j + 1 := ⟨k - 1, by omega⟩
    rw [fC_s]
    by_cases h : l % q = 0
    · have h1 := dl_lt h0 hq
      have h2 := dl_pos h0 hq h
      obtain ⟨a1, a2, a3, a4, a5⟩ := ih (l / q) h1 h2 k (e + 1) (by omega)
      rw [if_pos h]
      refine ⟨a1, a2, by omega, ?_, by omega⟩
      rw [show (fC q k (l / q) (e + 1)).2 - e = ((fC q k (l / q) (e + 1)).2 - (e + 1)) + 1 by omega, Nat.pow_succ, ← Nat.mul_assoc, a4]
      have := Nat.div_add_mod l q
      rw [h, Nat.mul_comm] at this
      exact this
    · rw [if_neg h]
      exact ⟨h0, h, Nat.le_refl _, by rw [Nat.sub_self, Nat.pow_zero, Nat.mul_one], by show e + l ≤ l + e; omega⟩
def FB (ζ : pZ) (τ s : pH) (acc : List (Nat × Nat)) : Prop := ∃ as, zk zno τ s (2 + acc.length) (11 + 3 * acc.length) ∧ zRs ζ s τ.1 (τ.1 + 1) as ∧ zRw ζ s as (acc.map (fun x => (x.1, x.2, 0))) ∧ (∀ x ∈ as, τ.1 + 2 ≤ x ∧ x < s.1) ∧ as.Nodup
theorem FB_add {α : Type} (K : Nat) (ζ : pZ) (τ s : pH) (acc : List (Nat × Nat)) (q e : Nat) (hζ : ζ.1 ≤ τ.1) (h : FB ζ τ s acc) (hl : acc.length < 9) (C : Nat → pH → Option (α × pH)) (P : α → pH → Prop) (k : ∀ s', FB ζ τ s' (acc ++ [(q, e)]) → zge s s' → zR s' (C τ.1 s') P) :
    zR s (zck (znw s 3 (.inr (11, [.long 0, .int 0, .int 0]))) (zcl (znw s 3 (.inr (11, [.long 0, .int 0, .int 0]))) (fnX13_init K ζ s.1 (lN q) (nI e) 0 (znw s 3 (.inr (11, [.long 0, .int 0, .int 0])))) fun _ s4 => dz_b (zob ζ s4 τ.1 10) fun _ => zcl s4 (fnX8_adds K ζ τ.1 s.1 s4) fun x5 s6 => C x5 s6)) P := by
  obtain ⟨as, h1, h2, h3, h4, h5⟩ := h
  have hlen : as.length = acc.length := by rw [h3.1, List.length_map]
  have hs : ζ.1 ≤ s.1 := Nat.le_trans hζ h1.1.1
  have g0 : ∀ n e, zge s (znw s n e) := fun n e => ⟨Nat.le_succ _, Nat.le_add_right _ _⟩
  refine zR_ck' (g0 _ _) (zR_cl (Q := fun _ s4 => s4 = znw s 3 (rwE q e 0)) ?_ ?_)
  · exact zR_eq (hr_row K ζ s q e 0 hs) rfl zge.rfl
  · intro _ s4 _ e4
    subst e4
    have k1 : zk zno s (znw s 3 (rwE q e 0)) 1 3 := zk_nw
    have r2 := h2.k k1 (fun q => q) (fun q => q)
    obtain ⟨f, ha, -, -, -, -⟩ := r2
    have r2 := h2.k k1 (fun q => q) (fun q => q)
    refine zR_b ha.ob ?_
    have hlt1 : τ.1 < s.1 := by
      obtain ⟨f, hb, -⟩ := h2
      exact hb.1.2
    have hlt2 : τ.1 + 1 < s.1 := by
      obtain ⟨f, -, hb, -⟩ := h2
      exact hb.1.2
    obtain ⟨s6, b1, b2, b3, b4⟩ := hr_adds K ζ (znw s 3 (rwE q e 0)) τ.1 (τ.1 + 1) s.1 as (q, e, 0) r2 (by omega) (zin_nw hs) (by omega) (by omega)
    refine zR_cl (Q := fun x s' => x = τ.1 ∧ s' = s6) (zR_eq b1 ⟨rfl, rfl⟩ b2.1) ?_
    intro x s' _ q'
    obtain ⟨rfl, rfl⟩ := q'
    refine k _ ⟨as ++ [s.1], ?_, b3, ?_, ?_, ?_⟩ ((g0 _ _).tr b2.1)
    · have := (h1.tr k1).new (b2.wk (fun a _ h => (Or.inr (by rcases h with rfl | rfl <;> omega) : zno a ∨ τ.1 ≤ a)))
      rw [List.length_append]
      exact this.le (by show _ ≤ 2 + (acc.length + 1); omega) (by show _ ≤ 11 + 3 * (acc.length + 1); omega)
    · rw [List.map_append]
      refine zRw.snoc (x := (q, e, 0)) ((h3.k k1 (fun x _ q => q)).k b2 (fun x hx q => ?_)) (b2.in (zin_nw hs) (fun q => ?_))
      · have := h4 x hx; omega
      · omega
    · intro x hx
      rw [b4]
      rcases List.mem_append.mp hx with hx | hx
      · have := h4 x hx
        exact ⟨this.1, by show x < s.1 + 1; omega⟩
      · rw [List.mem_singleton.mp hx]
        exact ⟨by omega, Nat.lt_succ_self _⟩
    · refine List.nodup_append.mpr ⟨h5, List.nodup_cons.mpr ⟨List.not_mem_nil, List.nodup_nil⟩, fun x hx y hy => ?_⟩
      rw [List.mem_singleton.mp hy]
      have := h4 x hx
      omega
