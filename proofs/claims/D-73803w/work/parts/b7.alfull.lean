/-! ArrayList: growth of a full array; add in every case -/
theorem hj_newLen2 (K : Nat) (ζ : pZ) (τ : pH) (cap : Nat) (h2 : cap < 64) : fnJ6_newLength K ζ (nI cap) (nI cap + 1 - nI cap) (nI cap >>> (1 &&& 31)) τ = some (nI (cap + max 1 (cap / 2)), τ) := by
  rcases Nat.lt_or_ge cap 4 with h | h
  · have e : ∀ c, c < 4 → (¬ (nI c + (1 : Int32) - nI c < nI c >>> ((1 : Int32) &&& 31))) ∧ nI c + (nI c + 1 - nI c) = nI (c + max 1 (c / 2)) ∧ (¬ nI (c + max 1 (c / 2)) ≤ (0 : Int32)) ∧ ¬ (2147483639 : Int32) < nI (c + max 1 (c / 2)) := by decide
    obtain ⟨e1, e2, e3, e4⟩ := e cap h
    unfold fnJ6_newLength fnJ5_max
    rw [if_neg e1]
    simp only [dzb, dzc, dzl, fl0, fl1, fl2, fl3, fl4, fl5, fl6, fl7, fi0, fi1, fi2, fi3, fi4, fi5, fi6, fi7, fr0, fr1, fr2, fr3, fr4, fr5, fr6, fr7, fs0, fs1, fs2, fs3, fs4, fs5, fs6, fs7]
    rw [e2, if_neg e3, if_neg e4]
  · have hh := nI_half cap h2
    unfold fnJ6_newLength fnJ5_max
    rw [if_pos (hh.1.mpr h)]
    simp only [dzb, dzc, dzl, fl0, fl1, fl2, fl3, fl4, fl5, fl6, fl7, fi0, fi1, fi2, fi3, fi4, fi5, fi6, fi7, fr0, fr1, fr2, fr3, fr4, fr5, fr6, fr7, fs0, fs1, fs2, fs3, fs4, fs5, fs6, fs7]
    rw [hh.2, show max 1 (cap / 2) = cap / 2 from Nat.max_eq_right (by omega), if_neg (show ¬ nI (cap + cap / 2) ≤ (0 : Int32) from (show ¬ nI (cap + cap / 2) ≤ nI 0 from nI_ge (by omega) (by omega))), if_neg (show ¬ (2147483639 : Int32) < nI (cap + cap / 2) from (show ¬ nI 2147483639 < nI (cap + cap / 2) from nI_nlt (by omega) (by omega)))]
theorem hj_growF (K : Nat) (ζ : pZ) (τ : pH) (al ea cap : Nat) (mc : Int32) (f : Nat → Option Nat) (hζ : ζ.1 ≤ τ.1) (ha : zin ζ τ al (alE mc ea cap)) (hb : zin ζ τ ea (aaE cap f)) (h2 : cap < 64) (h4 : ea ≠ ζ.2.2.2 0) (hl : ∀ i, i < cap → ∀ y, f i = some y → ∃ c fs, zin ζ τ y (.inr (c, fs)) ∧ 5 ≤ c ∧ c ≤ 9) (hK : 1 ≤ K) : fnJ2_grow K ζ al τ = some (τ.1, zst (znw τ (cap + max 1 (cap / 2)) (aaE (cap + max 1 (cap / 2)) (va_cpy f (fun _ => none) 0 0 cap))) al (alE mc τ.1 cap)) := by
  obtain ⟨k, hk⟩ : ∃ j, K = j + 1 := ⟨K - 1, by omega⟩
  have hm : max 1 (cap / 2) ≤ 32 := Nat.max_le.mpr ⟨by omega, by omega⟩
  have ha1 := ha.nw (n := cap + max 1 (cap / 2)) (e' := aaE (cap + max 1 (cap / 2)) (va_cpy f (fun _ => none) 0 0 cap))
  have E : (lfJ2_grow_2 K ζ K) al (nI cap + 1) (nI cap) τ = some (τ.1, zst (znw τ (cap + max 1 (cap / 2)) (aaE (cap + max 1 (cap / 2)) (va_cpy f (fun _ => none) 0 0 cap))) al (alE mc τ.1 cap)) := by
    have e : (lfJ2_grow_2 K ζ K) al (nI cap + 1) (nI cap) τ = (lfJ2_grow_2 K ζ (k + 1)) al (nI cap + 1) (nI cap) τ := by rw [← hk]
    rw [e, luJ2_grow_2_1]
    refine zcl_i (hj_newLen2 K ζ τ cap h2) ⟨Nat.le_refl _, Nat.le_refl _⟩ ⟨Nat.le_succ _, Nat.le_add_right _ _⟩ ?_
    simp only [ha.ob, dzb, dzc, dzl, fl0, fl1, fl2, fl3, fl4, fl5, fl6, fl7, fi0, fi1, fi2, fi3, fi4, fi5, fi6, fi7, fr0, fr1, fr2, fr3, fr4, fr5, fr6, fr7, fs0, fs1, fs2, fs3, fs4, fs5, fs6, fs7]
    refine zcl_i (hj_copyOf K ζ τ ea cap (cap + max 1 (cap / 2)) f hζ hb h4 (by omega) (by omega) hl) ⟨Nat.le_succ _, Nat.le_add_right _ _⟩ ⟨Nat.le_refl _, Nat.le_refl _⟩ ?_
    simp only [ha1.wo (k := 1) (Nat.le_of_ble_eq_true rfl), dzb, dzc, dzl, fl0, fl1, fl2, fl3, fl4, fl5, fl6, fl7, fi0, fi1, fi2, fi3, fi4, fi5, fi6, fi7, fr0, fr1, fr2, fr3, fr4, fr5, fr6, fr7, fs0, fs1, fs2, fs3, fs4, fs5, fs6, fs7]
  unfold fnJ2_grow
  simp only [ha.ob, dzb, dzc, dzl, fl0, fl1, fl2, fl3, fl4, fl5, fl6, fl7, fi0, fi1, fi2, fi3, fi4, fi5, fi6, fi7, fr0, fr1, fr2, fr3, fr4, fr5, fr6, fr7, fs0, fs1, fs2, fs3, fs4, fs5, fs6, fs7]
  refine zcl_i (x := τ.1) (τ1 := zst (znw τ (cap + max 1 (cap / 2)) (aaE (cap + max 1 (cap / 2)) (va_cpy f (fun _ => none) 0 0 cap))) al (alE mc τ.1 cap)) ?_ ⟨Nat.le_succ _, Nat.le_add_right _ _⟩ ⟨Nat.le_refl _, Nat.le_refl _⟩ rfl
  unfold fnJ2_grow_2
  have el : zlenq ζ τ ea = some cap := by unfold zlenq; rw [if_neg h4, hb.aq]
  simp only [ha.ob, el, dzb, dzc, dzl, fl0, fl1, fl2, fl3, fl4, fl5, fl6, fl7, fi0, fi1, fi2, fi3, fi4, fi5, fi6, fi7, fr0, fr1, fr2, fr3, fr4, fr5, fr6, fr7, fs0, fs1, fs2, fs3, fs4, fs5, fs6, fs7]
  by_cases h0 : (0 : Int32) < Int32.ofNat cap
  · rw [if_pos h0]; exact E
  · rw [if_neg h0, if_neg (show ¬ ((some ea : Option Nat) = some (ζ.2.2.2 0)) from fun q => h4 (Option.some.inj q))]; exact E
theorem hj_add2 (K : Nat) (ζ : pZ) (s : pH) (al ea cap : Nat) (mc : Int32) (f : Nat → Option Nat) (xs : List Nat) (ha : zin ζ s al (alE mc ea xs.length)) (hb : zin ζ s ea (aaE cap f)) (h1 : xs.length < cap) (h2 : cap ≤ 1000) (h3 : ea ≠ al) (h4 : ea ≠ ζ.2.2.2 0) (h5 : ∀ i (h : i < xs.length), f i = some xs[i]) (y c : Nat) (fs : List Value) (hy : zin ζ s y (.inr (c, fs))) (hc : 5 ≤ c ∧ c ≤ 9) (hK : 1 ≤ K) : ∃ t, (lfJ2_add_2 K ζ K) al y ea (nI xs.length) s = some ((), t) ∧ zge s t ∧ t.1 = s.1 ∧ zk (fun a => a = al ∨ a = ea) s t 0 0 ∧ zAL ζ t al ea mc (xs ++ [y]) := by
  obtain ⟨k, hk⟩ : ∃ j, K = j + 1 := ⟨K - 1, by omega⟩
  have ha2 : zin ζ (zst s ea (aaE cap (va_up f xs.length (some y)))) al (alE mc ea xs.length) := ha.st_ne (Ne.symm h3)
  have hb2 : zin ζ (zst s ea (aaE cap (va_up f xs.length (some y)))) ea (aaE cap (va_up f xs.length (some y))) := zin_st hb.1
  refine ⟨zst (zst s ea (aaE cap (va_up f xs.length (some y)))) al (alE mc ea (xs.length + 1)), ?_, zge.rfl, rfl, ?_, ?_, ?_⟩
  · have e : (lfJ2_add_2 K ζ K) al y ea (nI xs.length) s = (lfJ2_add_2 K ζ (k + 1)) al y ea (nI xs.length) s := by rw [← hk]
    rw [e, luJ2_add_2_1, if_pos hb.1]
    simp only [hb.aq, dzb, dzc, dzl, fl0, fl1, fl2, fl3, fl4, fl5, fl6, fl7, fi0, fi1, fi2, fi3, fi4, fi5, fi6, fi7, fr0, fr1, fr2, fr3, fr4, fr5, fr6, fr7, fs0, fs1, fs2, fs3, fs4, fs5, fs6, fs7]
    rw [if_pos (nI_in (by omega) (by omega)), if_pos hy.1]
    simp only [hy.oL hc, dzb, dzc, dzl, fl0, fl1, fl2, fl3, fl4, fl5, fl6, fl7, fi0, fi1, fi2, fi3, fi4, fi5, fi6, fi7, fr0, fr1, fr2, fr3, fr4, fr5, fr6, fr7, fs0, fs1, fs2, fs3, fs4, fs5, fs6, fs7, nI_1]
    rw [nI_clamp (by omega)]
    simp only [ha2.wo (k := 2) (Nat.le_of_ble_eq_true rfl), dzb, dzc, dzl, fl0, fl1, fl2, fl3, fl4, fl5, fl6, fl7, fi0, fi1, fi2, fi3, fi4, fi5, fi6, fi7, fr0, fr1, fr2, fr3, fr4, fr5, fr6, fr7, fs0, fs1, fs2, fs3, fs4, fs5, fs6, fs7]
  · have k1 : zk (fun a => a = al ∨ a = ea) s (zst s ea (aaE cap (va_up f xs.length (some y)))) 0 0 := zk_st (Or.inr rfl)
    exact k1.tr (zk_st (Or.inl rfl))
  · rw [List.length_append]; exact zin_st ha2.1
  · refine Or.inr ⟨cap, va_up f xs.length (some y), hb2.st_ne h3, by rw [List.length_append]; exact h1, h2, h3, h4, fun j hj => ?_⟩
    rw [List.length_append] at hj
    have hj : j < xs.length + 1 := hj
    unfold va_up
    by_cases e : j = xs.length
    · subst e
      rw [if_pos rfl, List.getElem_append_right (Nat.le_refl _)]
      simp only [Nat.sub_self, List.getElem_cons_zero]
    · rw [if_neg e, List.getElem_append_left (by omega)]
      exact h5 j (by omega)
theorem hj_add (K : Nat) (ζ : pZ) (τ : pH) (al ea : Nat) (mc : Int32) (xs : List Nat) (hζ : ζ.1 ≤ τ.1) (h : zAL ζ τ al ea mc xs) (hlen : xs.length < 60) (hx : ∀ y ∈ xs, ∃ c fs, zin ζ τ y (.inr (c, fs)) ∧ 5 ≤ c ∧ c ≤ 9) (y c : Nat) (fs : List Value) (hy : zin ζ τ y (.inr (c, fs))) (hc : 5 ≤ c ∧ c ≤ 9) (h0 : ζ.2.2.2 0 < ζ.1) (hK : 1 ≤ K) : ∃ t ea', fnJ2_add K ζ al y τ = some (1, t) ∧ zge τ t ∧ zk (fun a => a = al ∨ (a = ea ∧ ζ.1 ≤ a)) τ t 1 92 ∧ zAL ζ t al ea' (mc + 1) (xs ++ [y]) ∧ (ea' = ea ∨ (ea' = τ.1 ∧ ea' < t.1)) := by
  have nal : ∀ z c fs, zin ζ τ z (.inr (c, fs)) → 5 ≤ c ∧ c ≤ 9 → z ≠ al := by
    intro z c fs hz h5 e
    have q : (Sum.inr (c, fs) : pE) = alE mc ea xs.length := by rw [← hz.2, e]; exact h.1.2
    have q2 := congrArg Prod.fst (Sum.inr.inj q)
    have q3 : c = 14 := q2
    omega
  have hya := nal y c fs hy hc
  have ha1 : zin ζ (zst τ al (alE (mc + 1) ea xs.length)) al (alE (mc + 1) ea xs.length) := zin_st h.1.1
  have hy1 := hy.st_ne (e' := alE (mc + 1) ea xs.length) hya
  have k1 : zk (fun a => a = al ∨ (a = ea ∧ ζ.1 ≤ a)) τ (zst τ al (alE (mc + 1) ea xs.length)) 0 0 := zk_st (Or.inl rfl)
  have E : ∀ t, fnJ2_add_2 K ζ al y ea (nI xs.length) (zst τ al (alE (mc + 1) ea xs.length)) = some ((), t) → zge (zst τ al (alE (mc + 1) ea xs.length)) t → fnJ2_add K ζ al y τ = some (1, t) := by
    intro t e g
    unfold fnJ2_add
    simp only [h.1.ob, h.1.wo (k := 0) (Nat.le_of_ble_eq_true rfl), dzb, dzc, dzl, fl0, fl1, fl2, fl3, fl4, fl5, fl6, fl7, fi0, fi1, fi2, fi3, fi4, fi5, fi6, fi7, fr0, fr1, fr2, fr3, fr4, fr5, fr6, fr7, fs0, fs1, fs2, fs3, fs4, fs5, fs6, fs7, ha1.ob]
    exact zcl_i e g ⟨Nat.le_refl _, Nat.le_refl _⟩ rfl
  have hal : τ.1 ≠ al := Nat.ne_of_gt h.1.1.2
  have hz0 : τ.1 ≠ ζ.2.2.2 0 := by omega
  rcases id h.2 with ⟨he, hxs⟩ | ⟨cap, f, hb, hl1, hl2, h3, h4, h5⟩
  · subst hxs
    have ha0 : zin ζ (zst τ al (alE (mc + 1) ea 0)) al (alE (mc + 1) (ζ.2.2.2 0) 0) := by rw [← he]; exact ha1
    have G := hj_grow0 K ζ (zst τ al (alE (mc + 1) ea 0)) al (mc + 1) hζ ha0
    have ha6 : zin ζ (zst (znw (zst τ al (alE (mc + 1) ea 0)) 10 (aaE 10 (fun _ => none))) al (alE (mc + 1) τ.1 0)) al (alE (mc + 1) τ.1 0) := zin_st (ha1.nw (n := 10) (e' := aaE 10 (fun _ => none))).1
    have hb6 : zin ζ (zst (znw (zst τ al (alE (mc + 1) ea 0)) 10 (aaE 10 (fun _ => none))) al (alE (mc + 1) τ.1 0)) τ.1 (aaE 10 (fun _ => none)) := (zin_nw (ζ := ζ) (τ := zst τ al (alE (mc + 1) ea 0)) (n := 10) (e := aaE 10 (fun _ => none)) hζ).st_ne hal
    have hy6 := (hy1.nw (n := 10) (e' := aaE 10 (fun _ => none))).st_ne (e' := alE (mc + 1) τ.1 0) hya
    obtain ⟨t, e1, g, e2, k, z⟩ := hj_add2 K ζ _ al τ.1 10 (mc + 1) (fun _ => none) [] ha6 hb6 (by decide) (by decide) hal hz0 (fun i h => absurd h (Nat.not_lt_zero _)) y c fs hy6 hc hK
    have K0 : zk (fun a => a = al ∨ (a = ea ∧ ζ.1 ≤ a)) τ (zst (znw (zst τ al (alE (mc + 1) ea 0)) 10 (aaE 10 (fun _ => none))) al (alE (mc + 1) τ.1 0)) (0 + 1 + 0) (0 + 10 + 0) := (k1.tr zk_nw).tr (zk_st (Or.inl rfl))
    have K1 := K0.new (k.wk (fun a _ q => q.elim (fun e => (Or.inl (Or.inl e) : (a = al ∨ (a = ea ∧ ζ.1 ≤ a)) ∨ τ.1 ≤ a)) (fun e => Or.inr (by rw [e]; exact Nat.le_refl _))))
    refine ⟨t, τ.1, E t ?_ ?_, K1.1, K1.le (by omega) (by omega), z, Or.inr ⟨rfl, ?_⟩⟩
    · unfold fnJ2_add_2
      have el : zlenq ζ (zst τ al (alE (mc + 1) ea 0)) ea = some 0 := by unfold zlenq; rw [if_pos he]
      have hob : zob ζ (zst τ al (alE (mc + 1) ea 0)) al 14 = some [.int (mc + 1), .ref ea, .int (nI 0)] := ha1.ob
      show (dz_b (zlenq ζ (zst τ al (alE (mc + 1) ea 0)) ea) fun n1 => dz_l (Int32.ofNat n1) fun x2 => if nI 0 = x2 then (dz_b (zob ζ (zst τ al (alE (mc + 1) ea 0)) al 14) fun _ => zcl (zst τ al (alE (mc + 1) ea 0)) (fnJ2_grow K ζ al (zst τ al (alE (mc + 1) ea 0))) fun x3 s4 => (lfJ2_add_2 K ζ K) al y x3 (nI 0) s4) else ((lfJ2_add_2 K ζ K) al y ea (nI 0) (zst τ al (alE (mc + 1) ea 0)))) = some ((), t)
      rw [el, dzb, dzl, if_pos (show nI 0 = Int32.ofNat 0 from rfl), hob, dzb]
      exact zcl_i G ⟨Nat.le_succ _, Nat.le_add_right _ _⟩ g e1
    · exact ⟨Nat.le_trans (Nat.le_succ _) g.1, Nat.le_trans (Nat.le_add_right _ _) g.2⟩
    · exact Nat.lt_of_lt_of_le (Nat.lt_succ_self _) g.1
  · rcases Nat.lt_or_ge xs.length cap with hlt | hge
    · obtain ⟨t, e, g, e1, k, z⟩ := hj_add_room K ζ τ al ea cap mc f xs h.1 hb hlt hl2 h3 h4 h5 y c fs hy hc hya hK
      exact ⟨t, ea, e, g, (k.wk (fun a _ q => q.elim (fun e => (Or.inl e : a = al ∨ (a = ea ∧ ζ.1 ≤ a))) (fun e => Or.inr ⟨e, by rw [e]; exact hb.1.1⟩))).le (by omega) (by omega), z, Or.inl rfl⟩
    · obtain rfl : cap = xs.length := by omega
      have hm : max 1 (xs.length / 2) ≤ 32 := Nat.max_le.mpr ⟨by omega, by omega⟩
      have hm1 : 1 ≤ max 1 (xs.length / 2) := Nat.le_max_left _ _
      have hb1 := hb.st_ne (e' := alE (mc + 1) ea xs.length) h3
      have hl : ∀ i, i < xs.length → ∀ z, f i = some z → ∃ c fs, zin ζ (zst τ al (alE (mc + 1) ea xs.length)) z (.inr (c, fs)) ∧ 5 ≤ c ∧ c ≤ 9 := by
        intro i hi z hz
        have e := h5 i hi
        rw [hz] at e
        have e := Option.some.inj e
        obtain ⟨c', fs', q1, q2⟩ := hx z (by rw [e]; exact List.getElem_mem hi)
        exact ⟨c', fs', q1.st_ne (nal z c' fs' q1 q2), q2⟩
      have G := hj_growF K ζ (zst τ al (alE (mc + 1) ea xs.length)) al ea xs.length (mc + 1) f hζ ha1 hb1 (by omega) h4 hl hK
      generalize hc2 : xs.length + max 1 (xs.length / 2) = c2 at *
      generalize hg : va_cpy f (fun _ => none) 0 0 xs.length = g2 at *
      have ha6 : zin ζ (zst (znw (zst τ al (alE (mc + 1) ea xs.length)) c2 (aaE c2 g2)) al (alE (mc + 1) τ.1 xs.length)) al (alE (mc + 1) τ.1 xs.length) := zin_st (ha1.nw (n := c2) (e' := aaE c2 g2)).1
      have hb6 : zin ζ (zst (znw (zst τ al (alE (mc + 1) ea xs.length)) c2 (aaE c2 g2)) al (alE (mc + 1) τ.1 xs.length)) τ.1 (aaE c2 g2) := (zin_nw (ζ := ζ) (τ := zst τ al (alE (mc + 1) ea xs.length)) (n := c2) (e := aaE c2 g2) hζ).st_ne hal
      have hy6 := (hy1.nw (n := c2) (e' := aaE c2 g2)).st_ne (e' := alE (mc + 1) τ.1 xs.length) hya
      have h5' : ∀ i (h : i < xs.length), g2 i = some xs[i] := by
        intro i hi
        rw [← hg]
        unfold va_cpy
        rw [if_pos ⟨Nat.zero_le _, by omega⟩, Nat.zero_add, Nat.sub_zero]
        exact h5 i hi
      obtain ⟨t, e1, g, e2, k, z⟩ := hj_add2 K ζ _ al τ.1 c2 (mc + 1) g2 xs ha6 hb6 (by omega) (by omega) hal hz0 h5' y c fs hy6 hc hK
      have K0 : zk (fun a => a = al ∨ (a = ea ∧ ζ.1 ≤ a)) τ (zst (znw (zst τ al (alE (mc + 1) ea xs.length)) c2 (aaE c2 g2)) al (alE (mc + 1) τ.1 xs.length)) (0 + 1 + 0) (0 + c2 + 0) := (k1.tr zk_nw).tr (zk_st (Or.inl rfl))
      have K1 := K0.new (k.wk (fun a _ q => q.elim (fun e => (Or.inl (Or.inl e) : (a = al ∨ (a = ea ∧ ζ.1 ≤ a)) ∨ τ.1 ≤ a)) (fun e => Or.inr (by rw [e]; exact Nat.le_refl _))))
      refine ⟨t, τ.1, E t ?_ ?_, K1.1, K1.le (by omega) (by omega), z, Or.inr ⟨rfl, ?_⟩⟩
      · unfold fnJ2_add_2
        have el : zlenq ζ (zst τ al (alE (mc + 1) ea xs.length)) ea = some xs.length := by unfold zlenq; rw [if_neg h4, hb1.aq]
        rw [el, dzb, dzl, if_pos (show nI xs.length = Int32.ofNat xs.length from rfl), ha1.ob, dzb]
        exact zcl_i G ⟨Nat.le_succ _, Nat.le_add_right _ _⟩ g e1
      · exact ⟨Nat.le_trans (Nat.le_succ _) g.1, Nat.le_trans (Nat.le_add_right _ _) g.2⟩
      · exact Nat.lt_of_lt_of_le (Nat.lt_succ_self _) g.1
