/-! the class's find -/
theorem sfac_low {n m : Nat} (h0 : 0 < m) (hm : m ≤ 1000000001) (he : m % 2 = 0) {x : Nat × Nat} (hx : x ∈ sfac m) : pn_prime x.1 ∧ x.1 < 2 ^ 29 := by
  obtain ⟨hp, hd⟩ := sfac_mem h0 (by omega) hx
  refine ⟨hp, ?_⟩
  rcases Nat.lt_or_ge 2 x.1 with g | g
  · have hodd := pn_odd hp g
    obtain ⟨c, hc⟩ := Nat.dvd_of_mod_eq_zero hd
    have hc2 : 2 ≤ c := by
      rcases Nat.lt_or_ge c 2 with g2 | g2
      · have : c = 0 ∨ c = 1 := by omega
        rcases this with rfl | rfl
        · omega
        · omega
      · exact g2
    have := Nat.mul_le_mul_left x.1 hc2
    omega
  · omega
theorem sBl_fst (n : Nat) : ∀ (ws l : List sR), (sBl n ws).1 = some l → ∀ r ∈ l, ∃ x ∈ ws, x.1 = r.1 := by
  intro ws
  induction ws with
  | nil =>
    intro l h r hr
    have h : (some [] : Option (List sR)) = some l := h
    have h := Option.some.inj h
    subst h
    exact absurd hr List.not_mem_nil
  | cons w ws ih =>
    intro l h r hr
    cases hb : (sB1 n w 998 2).1 with
    | none => rw [sBl_no hb] at h; cases h
    | some a =>
      rw [sBl_so hb] at h
      have h : (sBl n ws).1.map (fun l => wB a w :: l) = some l := h
      cases hc : (sBl n ws).1 with
      | none => rw [hc] at h; cases h
      | some l' =>
        rw [hc] at h
        have h := Option.some.inj h
        subst h
        rcases List.mem_cons.mp hr with rfl | hr
        · exact ⟨w, List.mem_cons_self, rfl⟩
        · obtain ⟨x, hx, e⟩ := ih l' hc r hr
          exact ⟨x, List.mem_cons_of_mem _ hx, e⟩
theorem sLow_top {s n : Nat} {l : sLn} (hp : pn_prime n) (hn : n ≤ 1000000000) (hn3 : s = 0 ∨ 3 ≤ n) (h : (sFnd s n).1 = some l) : sLow 29 l.2.2.2.1 ∧ sLow 29 l.2.2.2.2 := by
  have nil : sLow 29 [] := fun r hr => absurd hr List.not_mem_nil
  have h1 : 3 ≤ n → ∀ x ∈ sfac (n - 1), pn_prime x.1 ∧ x.1 < 2 ^ 29 := fun h3 x hx => sfac_low (n := n) (by omega) (by omega) (by have := pn_odd hp (by omega); omega) hx
  have h2 : 3 ≤ n → ∀ x ∈ sfac (n + 1), pn_prime x.1 ∧ x.1 < 2 ^ 29 := fun h3 x hx => sfac_low (n := n) (by omega) (by omega) (by have := pn_odd hp (by omega); omega) hx
  have r1 : 3 ≤ n → ∀ r ∈ rw0 (sfac (n - 1)), pn_prime r.1 ∧ r.1 < 2 ^ 29 := fun h3 r hr => by
    obtain ⟨x, hx, e⟩ := mem_rw0 hr
    rw [← e]; exact h1 h3 x hx
  have r2 : 3 ≤ n → ∀ r ∈ rw0 (sfac (n + 1)), pn_prime r.1 ∧ r.1 < 2 ^ 29 := fun h3 r hr => by
    obtain ⟨x, hx, e⟩ := mem_rw0 hr
    rw [← e]; exact h2 h3 x hx
  match s, hn3, h with
  | 0, _, h =>
    have h := Option.some.inj (show some ((n, 0, (0, 0), [], []) : sLn) = some l from h)
    subst h
    exact ⟨nil, nil⟩
  | 1, hn3, h =>
    have h3 : 3 ≤ n := by omega
    have h : (sBase n (rw0 (sfac (n - 1)))).1.map (fun a => ((n, 1, (0, 0), (rw0 (sfac (n - 1))).map (wB a), []) : sLn)) = some l := h
    cases ho : (sBase n (rw0 (sfac (n - 1)))).1 with
    | none => rw [ho] at h; cases h
    | some a =>
      rw [ho] at h
      have h := Option.some.inj h
      subst h
      refine ⟨fun r hr => ?_, nil⟩
      obtain ⟨x, hx, e⟩ := mem_wB hr
      rw [← e]; exact r1 h3 x hx
  | 2, hn3, h =>
    have h3 : 3 ≤ n := by omega
    have h : (sBl n (sPr n)).1.map (fun l => ((n, 2, (0, 0), l, []) : sLn)) = some l := h
    cases ho : (sBl n (sPr n)).1 with
    | none => rw [ho] at h; cases h
    | some a =>
      rw [ho] at h
      have h := Option.some.inj h
      subst h
      refine ⟨fun r hr => ?_, nil⟩
      obtain ⟨x, hx, e⟩ := sBl_fst n _ _ ho r hr
      rw [← e]
      exact r1 h3 x (List.mem_of_mem_drop (List.mem_reverse.mp hx))
  | 3, hn3, h =>
    have h3 : 3 ≤ n := by omega
    have h : (sPair n (rw0 (sfac (n + 1)))).1.map (fun r => ((n, 3, r, [], rw0 (sfac (n + 1))) : sLn)) = some l := h
    cases ho : (sPair n (rw0 (sfac (n + 1)))).1 with
    | none => rw [ho] at h; cases h
    | some a =>
      rw [ho] at h
      have h := Option.some.inj h
      subst h
      exact ⟨nil, r2 h3⟩
  | (s + 4), hn3, h =>
    have h3 : 3 ≤ n := by omega
    have h : (sQf n).1.map (fun l => ((n, 4, l.2, l.1, sQu n) : sLn)) = some l := h
    cases ho : (sQf n).1 with
    | none => rw [ho] at h; cases h
    | some a =>
      have ho2 := ho
      rw [ho] at h
      have h := Option.some.inj h
      subst h
      refine ⟨fun r hr => ?_, fun r hr => r2 h3 r (List.mem_of_mem_drop (List.mem_reverse.mp hr))⟩
      cases hb : (sBl n (sQd n)).1 with
      | none => rw [sQf_no hb] at ho2; cases ho2
      | some b =>
        rw [sQf_so hb] at ho2
        have ho2 : (sPair n (sQu n)).1.map (fun r => (b, r)) = some a := ho2
        cases hc : (sPair n (sQu n)).1 with
        | none => rw [hc] at ho2; cases ho2
        | some c =>
          rw [hc] at ho2
          have ho2 := Option.some.inj ho2
          subst ho2
          obtain ⟨x, hx, e⟩ := sBl_fst n _ _ hb r hr
          rw [← e]
          exact r1 h3 x (List.mem_of_mem_drop (List.mem_reverse.mp hx))
/-- lines only come -/
def sPre (e e' : sLe) : Prop := e.1 ≤ e'.1 ∧ ∀ k, k < e.1 → e'.2 k = e.2 k
theorem sPre.rf {e : sLe} : sPre e e := ⟨Nat.le_refl _, fun _ _ => rfl⟩
theorem sPre.tr {e e1 e2 : sLe} (h : sPre e e1) (h' : sPre e1 e2) : sPre e e2 := ⟨Nat.le_trans h.1 h'.1, fun k hk => (h'.2 k (Nat.lt_of_lt_of_le hk h.1)).trans (h.2 k hk)⟩
theorem sBks_pre : ∀ F l e, sPre e (sBks F l e).2.1 := by
  intro F
  induction F with
  | zero => intro l e; exact sPre.rf
  | succ F ih =>
    intro l e
    have hF : ∀ q e, sPre e (sBkF (sBks F) q e).2.1 := by
      intro q e
      cases hr : sRest (fun k => (e.2 k).1) (sFt e.2) q e.1 0 with
      | some k => rw [sBkF_y (by rw [hr]; rfl)]; exact sPre.rf
      | none =>
        cases ho : (sFnd (if q < 100 then 0 else 1) q).1 with
        | none => rw [sBkF_n rfl hr ho]; exact sPre.rf
        | some l => rw [sBkF_s rfl hr ho]; exact ih l e
    have hR : ∀ rs e, sPre e (sBkR (sBkF (sBks F)) rs e).2.1 := by
      intro rs
      induction rs with
      | nil => intro e; exact sPre.rf
      | cons r rs ih2 =>
        intro e
        cases hb : (sBkF (sBks F) r.1 e).1 with
        | false => rw [sBkR_f hb]; exact hF _ _
        | true => rw [sBkR_t hb]; exact (hF _ _).tr (ih2 _)
    have hE : ∀ y : sRz, sPre y.2.1 (sEnd l y).2.1 := by
      intro y
      unfold sEnd
      by_cases h1 : y.1 = true
      · rw [if_pos h1]
        by_cases h2 : y.2.1.1 = 60
        · rw [if_pos h2]; exact sPre.rf
        · rw [if_neg h2]; exact ⟨Nat.le_succ _, fun k hk => upA_ne (Nat.ne_of_lt hk)⟩
      · rw [if_neg h1]; exact sPre.rf
    rw [sBks_s]
    show sPre e (sMid (sBkF (sBks F)) l (sBkR (sBkF (sBks F)) l.2.2.2.1 e)).2.1
    unfold sMid
    by_cases h1 : (sBkR (sBkF (sBks F)) l.2.2.2.1 e).1 = true
    · rw [if_pos h1]; exact ((hR _ e).tr (hR _ _)).tr (hE _)
    · rw [if_neg h1]; exact hR _ e
theorem zLd.cL {ζ : pZ} {τ : pH} {own : Nat → Nat × Nat × Nat} {h al ea af laid ta taped ra da : Nat} {mc : Int32} {N : Nat} {A : Nat → lA} {L L' : Nat → sLn} (H : zLd ζ τ own h al ea af laid ta taped ra da mc N A L) (he : ∀ k, k < N → L' k = L k) : zLd ζ τ own h al ea af laid ta taped ra da mc N A L' := by
  obtain ⟨a1, a2, ⟨f, a3, a3'⟩, a4, a5, a6, a7⟩ := H
  refine ⟨a1, a2, ⟨f, a3, fun k hk => ?_⟩, a4, fun k hk => by rw [he k hk]; exact a5 k hk, a6, a7⟩
  rw [a3' k hk, sFt_co (L := L) (L' := L') (k + 1) k (by omega) (fun j hj => he j (by omega))]
/-- the whole of the class's object -/
def zU (ζ : pZ) (τ : pH) (h N : Nat) (L : Nat → sLn) (taped : Nat) (tp : Nat → Int32) : Prop := ∃ own al ea af laid ta ra da mc A, zLd ζ τ own h al ea af laid ta taped ra da mc N A L ∧ zTb ζ τ ta ra da tp ∧ zDj N A
/-- so much is new -/
def zN (τ t : pH) (c s : Nat) : Prop := t.1 ≤ τ.1 + c ∧ t.2.1 ≤ τ.2.1 + s
theorem zk.N {S : Nat → Prop} {τ t : pH} {c s c' s' : Nat} (k : zk S τ t c s) (hc : c ≤ c') (hs : s ≤ s') : zN τ t c' s' := ⟨Nat.le_trans k.2.2.1 (by omega), Nat.le_trans k.2.2.2 (by omega)⟩
noncomputable def sCan (n s : Nat) : Bool := prB n && (if s = 0 then decide (n < 100) else decide (2 < n))
theorem nx_canBe (K n s : Nat) (hK : 50000 ≤ K) (hn : n < 2 ^ 31) (hs : s ≤ 4) : fnX0_canBe K (lN n) (nI s) = some (nb (sCan n s)) := by
  obtain ⟨k, hk⟩ : ∃ j, K = j + 1 := ⟨K - 1, by omega⟩
  have e1 : lfX0_canBe K K = some 1 := by
    have : lfX0_canBe K K = lfX0_canBe K (k + 1) := by rw [← hk]
    rw [this]; rfl
  unfold fnX0_canBe
  rw [nx_isPrime K n hK hn, dzb, e1]
  unfold sCan
  cases hp : prB n with
  | false => rw [if_pos (show nb false = 0 from rfl)]; rfl
  | true =>
    rw [if_neg (show ¬ nb true = 0 by decide)]
    by_cases h0 : s = 0
    · subst h0
      rw [if_pos (show nI 0 = 0 from rfl), if_pos rfl]
      by_cases h1 : n < 100
      · rw [if_neg (fun e => by have := (pk_lLE (a := 100) (b := n) (by omega) (by omega)).mp e; omega), decide_eq_true h1]; rfl
      · rw [if_pos (show (100 : Int64) ≤ lN n from (pk_lLE (a := 100) (b := n) (by omega) (by omega)).mpr (by omega)), decide_eq_false h1]; rfl
    · rw [if_neg (nI_ne0 (by omega) (by omega)), if_neg h0]
      by_cases h1 : 2 < n
      · rw [if_neg (fun e => by have := (pk_lLE (a := n) (b := 2) (by omega) (by omega)).mp e; omega), decide_eq_true h1]; rfl
      · rw [if_pos (show lN n ≤ (2 : Int64) from (pk_lLE (a := n) (b := 2) (by omega) (by omega)).mpr (by omega)), decide_eq_false h1]; rfl
abbrev sFz : Type := Int32 × sLe × Nat × Nat
noncomputable def sFind (n s : Nat) (e : sLe) : sFz :=
  match sFr e.2 n s e.1 0 with
  | some k => (nI k, e, 0, 0)
  | none => if sCan n s then
      (match (sFnd s n).1 with
      | none => (-2, e, 5 + (sFnd s n).2, 330 + 5 * (sFnd s n).2)
      | some l => if (sBks 64 l e).1 then (nI ((sBks 64 l e).2.1.1 - 1), (sBks 64 l e).2.1, 5 + (sFnd s n).2 + (sBks 64 l e).2.2.1, 330 + 5 * (sFnd s n).2 + (sBks 64 l e).2.2.2) else (-3, e, 5 + (sFnd s n).2 + (sBks 64 l e).2.2.1, 330 + 5 * (sFnd s n).2 + (sBks 64 l e).2.2.2))
      else (-2, e, 5, 30)
