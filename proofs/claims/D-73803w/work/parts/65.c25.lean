noncomputable def foX0_backsFor (B : Nat → pZ → Nat → Nat → pH → Option (Int32 × pH)) (K : Nat) (ζ : pZ) (h : Nat) (a0 : Int64) (τ : pH) : Option (Int32 × pH) := dz_b (zob ζ τ h 0) fun f1 => dz_b (zvr (f1[0]?)) fun x2 => dz_b (zob ζ τ x2 14) fun f5 => zcl τ (fnJ2_size K ζ x2 τ) fun x3 s4 => dz_b (zob ζ s4 h 0) fun f8 => zcl s4 (fnX0_restOn K ζ h a0 x3 s4) fun x6 s7 => if x6 < (0 : Int32) then (if (100 : Int64) ≤ a0 then (dz_b (zob ζ s7 h 0) fun f11 => zcl s7 (fnX0_made K ζ h a0 1 s7) fun x9 s10 => zcl s10 (fnL_isFound K ζ x9 s10) fun x12 s13 => if x12 = (0 : Int32) then (some (0, s13)) else (dz_b (zob ζ s13 h 0) fun f16 => zcl s13 (B K ζ h x9 s13) fun x14 s15 => if x14 = (0 : Int32) then (some (0, s15)) else (some (1, s15)))) else (dz_b (zob ζ s7 h 0) fun f19 => zcl s7 (fnX0_made K ζ h a0 0 s7) fun x17 s18 => zcl s18 (fnL_isFound K ζ x17 s18) fun x20 s21 => if x20 = (0 : Int32) then (some (0, s21)) else (dz_b (zob ζ s21 h 0) fun f24 => zcl s21 (B K ζ h x17 s21) fun x22 s23 => if x22 = (0 : Int32) then (some (0, s23)) else (some (1, s23))))) else (some (1, s7))
set_option maxHeartbeats 4000000 in
set_option maxRecDepth 100000 in
theorem moX0_backsFor (B : Nat → pZ → Nat → Nat → pH → Option (Int32 × pH)) (Fr Lo : Nat) (hB : ∀ (l : Launch) (D : va_G) (cA : Nat → ClassId) (ζ : pZ) (τ : pH) (h : Nat) (a0 : Nat) (K : Nat) (res : (Int32 × pH)), B K ζ h a0 τ = some res → ∀ (M S : Nat), τ.1 + M = res.2.1 → τ.2.1 + S = res.2.2.1 → Met l yX0_backs (ws_ yX0_backs cX0_backs 4 (some .boolean)) ({ frames := Fr, cells := M, slots := S, locals := Lo }) (zPc D cA ζ τ [.ref h, .ref a0]) (zQi D cA ζ res) M S (zA ζ)) (hFr : 105 ≤ Fr) (hLo : 2419 ≤ Lo) (l : Launch) (D : va_G) (cA : Nat → ClassId) (ζ : pZ) (τ : pH) (h : Nat) (a0 : Int64) (K : Nat) (res : (Int32 × pH)) (hf : foX0_backsFor B K ζ h a0 τ = some res) (M S : Nat) (hM : τ.1 + M = res.2.1) (hS0 : τ.2.1 + S = res.2.2.1) : Met l yX0_backsFor (ws_ yX0_backsFor cX0_backsFor 4 (some .boolean)) ({ frames := Fr + 1, cells := M, slots := S, locals := Lo + 40 }) (zPc D cA ζ τ [.ref h, .long a0]) (zQi D cA ζ res) M S (zA ζ) := by
  refine Met.ofW (cc := cX0_backsFor) (maxL := 4) (ret := some .boolean) (by decide +kernel) rfl ?_
  intro p e s m args below meth c s₁ Bo hml hv
  obtain ⟨rfl, hX, hH⟩ := hv
  have hx := Bo.exec
  have hb := Bo.bytes
  have hr := Bo.returns
  have hts := atoms_spec (ws := ws_ yX0_backsFor cX0_backsFor 4 (some .boolean)) Bo.pre
  have hts : ∀ w ∈ lw_all, w.before _ s = true := fun w h => hts w (List.mem_cons_of_mem _ h)
  have hown : s.vm.findClass RX0 = some m.cls := findClass_of_methodNamed Bo.named
  have hlocks := Bo.notSynchronized
  have hM : s.heap.size + M = res.2.1 := by rw [hH.1]; exact hM
  have hcs : s.heap.size + 0 = τ.1 := hH.1
  have hss : τ.2.1 + 0 = τ.2.1 := rfl
  generalize hsl0 : τ.2.1 = sl0 at hS0 hss
  have hss : sl0 + 0 = τ.2.1 := by rw [hsl0]; rfl
  have hS : va_S (zA ζ) s.heap s.heap [] := va_S.rf
  generalize hHe : s.heap = H at hH hS ⊢
  have hS : va_S (zA ζ) s.heap H [] := by rw [hHe]; exact hS
  generalize ([] : List Loc) = locs at hS ⊢
  have hl := lv_entry ([.ref h, .long a0]) (n := 4) (Nat.le_of_ble_eq_true rfl)
  rw [lg_entry_eq]
  generalize (lg_sl ([.ref h, .long a0]) ++ List.replicate (4 - (lg_sl ([.ref h, .long a0])).length) Slot.unset).toArray = ls at hl ⊢
  have hl : lv_has ls 4 [(0, .ref h), (1, .long a0)] := hl
  have hf : (dz_b (zob ζ τ h 0) fun f1 => dz_b (zvr (f1[0]?)) fun x2 => dz_b (zob ζ τ x2 14) fun f5 => zcl τ (fnJ2_size K ζ x2 τ) fun x3 s4 => dz_b (zob ζ s4 h 0) fun f8 => zcl s4 (fnX0_restOn K ζ h a0 x3 s4) fun x6 s7 => if x6 < (0 : Int32) then (if (100 : Int64) ≤ a0 then (dz_b (zob ζ s7 h 0) fun f11 => zcl s7 (fnX0_made K ζ h a0 1 s7) fun x9 s10 => zcl s10 (fnL_isFound K ζ x9 s10) fun x12 s13 => if x12 = (0 : Int32) then (some (0, s13)) else (dz_b (zob ζ s13 h 0) fun f16 => zcl s13 (B K ζ h x9 s13) fun x14 s15 => if x14 = (0 : Int32) then (some (0, s15)) else (some (1, s15)))) else (dz_b (zob ζ s7 h 0) fun f19 => zcl s7 (fnX0_made K ζ h a0 0 s7) fun x17 s18 => zcl s18 (fnL_isFound K ζ x17 s18) fun x20 s21 => if x20 = (0 : Int32) then (some (0, s21)) else (dz_b (zob ζ s21 h 0) fun f24 => zcl s21 (B K ζ h x17 s21) fun x22 s23 => if x22 = (0 : Int32) then (some (0, s23)) else (some (1, s23))))) else (some (1, s7)) : Option (Int32 × pH)) = some res := hf
  refine z_gen (fun cells slots hc0 hs0 => ?_)
  have hcs : s.heap.size + cells = τ.1 := by rw [hc0]; exact hcs
  have hss : sl0 + slots = τ.2.1 := by rw [hs0]; exact hss
  have hcM : cells ≤ M ∧ slots ≤ S := by rw [hc0, hs0]; exact ⟨Nat.zero_le _, Nat.zero_le _⟩
  clear hc0 hs0
  refine lv_aload_n hx hb dX0_backsFor_0 rfl (lv_at hl 0 rfl) ?_
  refine lv_lload_n hx hb dX0_backsFor_1 rfl (lv_at hl 1 rfl) ?_
  refine lv_aload_n hx hb dX0_backsFor_2 rfl (lv_at hl 0 rfl) ?_
  obtain ⟨f1, hf1, hf⟩ := dz_bo hf
  obtain ⟨x2, hx2, hf⟩ := dz_bo hf
  refine va_get (C := RX0) (T := TX0) (N := 7) hx hb hts in_X0 hown hX.K (zrd_P hX hS hH (zob_o hf1)) 0 rfl rfl 0 (by decide) (hts _ q156) (fun _ hq => hq) (zvr_o hx2) dX0_backsFor_3 ?_
  obtain ⟨f5, hf5, hf⟩ := dz_bo hf
  obtain ⟨x3, s4, hx3, hle, hck, hf⟩ := zcl_o hf
  have hc1 : cells + (s4.1 - τ.1) ≤ M := by omega
  have hs1 : slots + (s4.2.1 - τ.2.1) ≤ S := by omega
  refine va_calli (va_runV (As := []) (rest := [.long a0, .ref h]) ⟨hx, hb, hml, hown, hts⟩ (mtJ2_size l D cA ζ τ x2 K (x3, s4) hx3 (s4.1 - τ.1) (s4.2.1 - τ.2.1) (Nat.add_sub_cancel' hle.1) (Nat.add_sub_cancel' hle.2)) (cwV 0 hts (lw_V q200 q201 q202 q87 q203) rfl rfl rfl (by decide +kernel) ⟨Nat.add_le_add_right (Nat.le_trans (Nat.le_of_ble_eq_true rfl : 0 ≤ 105) hFr) 1, Nat.le_trans (Nat.le_of_ble_eq_true rfl : _ ≤ 2419) (Nat.le_trans hLo (Nat.le_add_right _ _))⟩) (z_preV hX hS hH (zob_o hf5) rfl) rfl rfl hl.1 rfl (lv_room (Nat.le_of_ble_eq_true rfl)) dX0_backsFor_6 ⟨hc1, hs1⟩) hS (fun q _ hq => hq) (fun q hq => hq) (fun r u t H1 locs ht hvm hw hB hz hk hS => ?_)
  obtain ⟨hw1, hw2⟩ := Prod.mk.inj hw.symm; subst hw1; subst hw2
  have hH : zH D cA ζ s4 H1 := z_at ht.symm hB
  have hcs : s.heap.size + (cells + (s4.1 - τ.1)) = s4.1 := by omega
  have hss : sl0 + (slots + (s4.2.1 - τ.2.1)) = s4.2.1 := by omega
  replace hcM := And.intro hc1 hs1
  generalize cells + (s4.1 - τ.1) = cells at hcs hcM ⊢; generalize slots + (s4.2.1 - τ.2.1) = slots at hss hcM ⊢
  clear hB hk hz hvm ht hle hck hc1 hs1; generalize H1 = H at hH hS ⊢
  obtain ⟨f8, hf8, hf⟩ := dz_bo hf
  obtain ⟨x6, s7, hx6, hle, hck, hf⟩ := zcl_o hf
  have hc1 : cells + (s7.1 - s4.1) ≤ M := by omega
  have hs1 : slots + (s7.2.1 - s4.2.1) ≤ S := by omega
  refine va_calli (va_runV (As := [.long a0, .int x3]) (rest := []) ⟨hx, hb, hml, hown, hts⟩ (mtX0_restOn l D cA ζ s4 h a0 x3 K (x6, s7) hx6 (s7.1 - s4.1) (s7.2.1 - s4.2.1) (Nat.add_sub_cancel' hle.1) (Nat.add_sub_cancel' hle.2)) (cwV 2 hts (lw_V q789 q303 qs2 q84 q304) rfl rfl rfl (by decide +kernel) ⟨Nat.add_le_add_right (Nat.le_trans (Nat.le_of_ble_eq_true rfl : 104 ≤ 105) hFr) 1, Nat.le_trans (Nat.le_of_ble_eq_true rfl : _ ≤ 2419) (Nat.le_trans hLo (Nat.le_add_right _ _))⟩) (z_preV hX hS hH (zob_o hf8) rfl) rfl rfl hl.1 rfl (lv_room (Nat.le_of_ble_eq_true rfl)) dX0_backsFor_9 ⟨hc1, hs1⟩) hS (fun q _ hq => hq) (fun q hq => hq) (fun r u t H1 locs ht hvm hw hB hz hk hS => ?_)
  obtain ⟨hw1, hw2⟩ := Prod.mk.inj hw.symm; subst hw1; subst hw2
  have hH : zH D cA ζ s7 H1 := z_at ht.symm hB
  have hcs : s.heap.size + (cells + (s7.1 - s4.1)) = s7.1 := by omega
  have hss : sl0 + (slots + (s7.2.1 - s4.2.1)) = s7.2.1 := by omega
  replace hcM := And.intro hc1 hs1
  generalize cells + (s7.1 - s4.1) = cells at hcs hcM ⊢; generalize slots + (s7.2.1 - s4.2.1) = slots at hss hcM ⊢
  clear hB hk hz hvm ht hle hck hc1 hs1; generalize H1 = H at hH hS ⊢
  refine lv_if_lt (tgt := 17) hx hb dX0_backsFor_12 (by decide) (fun c12 => ?_) (fun c12 => ?_)
  · have hf := dz_t c12 hf
    refine lv_aload_n hx hb dX0_backsFor_17 rfl (lv_at hl 0 rfl) ?_
    refine lv_lload_n hx hb dX0_backsFor_18 rfl (lv_at hl 1 rfl) ?_
    refine lv_lload_n hx hb dX0_backsFor_19 rfl (lv_at hl 1 rfl) ?_
    refine lv_ldc2 (v := 100) hx hb hown (hts _ q656) dX0_backsFor_20 ?_
    refine W.lcmp hx hb dX0_backsFor_23 ?_
    refine lv_if_ge (tgt := 31) hx hb dX0_backsFor_24 (by decide) (fun c24 => ?_) (fun c24 => ?_)
    · have c24 : (100 : Int64) ≤ a0 := (lg_cmp_ge _ _).mp c24
      have hf := dz_t c24 hf
      refine lv_iconst (v := 1) hx hb dX0_backsFor_31 (by decide) ?_
      obtain ⟨f11, hf11, hf⟩ := dz_bo hf
      obtain ⟨x9, s10, hx9, hle, hck, hf⟩ := zcl_o hf
      have hc1 : cells + (s10.1 - s7.1) ≤ M := by omega
      have hs1 : slots + (s10.2.1 - s7.2.1) ≤ S := by omega
      refine va_callr (va_runV (As := [.long a0, .int 1]) (rest := []) ⟨hx, hb, hml, hown, hts⟩ (mtX0_made l D cA ζ s7 h a0 1 K (x9, s10) hx9 (s10.1 - s7.1) (s10.2.1 - s7.2.1) (Nat.add_sub_cancel' hle.1) (Nat.add_sub_cancel' hle.2)) (cwV 2 hts (lw_V q495 q497 qs4 q84 q498) rfl rfl rfl (by decide +kernel) ⟨Nat.add_le_add_right (Nat.le_trans (Nat.le_of_ble_eq_true rfl : 4 ≤ 105) hFr) 1, Nat.le_trans (Nat.le_of_ble_eq_true rfl : _ ≤ 2419) (Nat.le_trans hLo (Nat.le_add_right _ _))⟩) (z_preV hX hS hH (zob_o hf11) rfl) rfl rfl hl.1 rfl (lv_room (Nat.le_of_ble_eq_true rfl)) dX0_backsFor_32 ⟨hc1, hs1⟩) hS (fun q _ hq => hq) (fun q hq => hq) (fun u r t H1 locs ht hvm hw hB hz hk hS => ?_)
      obtain ⟨hw, hB⟩ := hB
      obtain ⟨hw1, hw2⟩ := Prod.mk.inj hw.symm; subst hw1; subst hw2
      have hH : zH D cA ζ s10 H1 := z_at ht.symm hB
      have hcs : s.heap.size + (cells + (s10.1 - s7.1)) = s10.1 := by omega
      have hss : sl0 + (slots + (s10.2.1 - s7.2.1)) = s10.2.1 := by omega
      replace hcM := And.intro hc1 hs1
      generalize cells + (s10.1 - s7.1) = cells at hcs hcM ⊢; generalize slots + (s10.2.1 - s7.2.1) = slots at hss hcM ⊢
      clear hB hk hz hvm ht hle hck hc1 hs1; generalize H1 = H at hH hS ⊢
      refine lv_astore_n (lv' := [(3, .ref x9), (0, .ref h), (1, .long a0)]) hx hb dX0_backsFor_35 rfl hl (by decide) rfl (fun ls hl => ?_)
      refine lv_aload_n hx hb dX0_backsFor_36 rfl (lv_at hl 0 rfl) ?_
      obtain ⟨x12, s13, hx12, hle, hck, hf⟩ := zcl_o hf
      have hc1 : cells + (s13.1 - s10.1) ≤ M := by omega
      have hs1 : slots + (s13.2.1 - s10.2.1) ≤ S := by omega
      refine va_calli (post := fun (r : Int32) (u : pH) => (r, u) = (x12, s13)) (B := fun u t => zH D cA ζ u t.heap) (A1 := zA ζ) (a := (Value.ref x9 :: [] : List Value).toArray) (mc := s13.1 - s10.1) (ms := s13.2.1 - s10.2.1) (rest := []) (free := zA ζ) ?_ hS (fun q _ hq => hq) (fun q hq => hq) (fun r u t H1 locs ht hvm hw hB hz hk hS => ?_)
      · rcases L_isFound_o hx12 with ⟨fs_, hr_, hg_⟩ | ⟨fs_, hr_, hg_⟩ | ⟨fs_, hr_, hg_⟩ | ⟨fs_, hr_, hg_⟩ | ⟨fs_, hr_, hg_⟩
        · exact va_runU (x := ⟨"PrimeProofs$Line", "isFound", "()Z"⟩) (owner := "PrimeProofs$Line") (As := []) (rest := []) ⟨hx, hb, hml, hown, hts⟩ (mtX6_isFound_5 l D cA ζ s10 x9 K (x12, s13) hg_ (s13.1 - s10.1) (s13.2.1 - s10.2.1) (Nat.add_sub_cancel' hle.1) (Nat.add_sub_cancel' hle.2)) (va_cwU 0 hts (zU_in q657 q659 q664 q658 q96 q665) rfl rfl rfl rfl (by decide +kernel) ⟨Nat.add_le_add_right (Nat.le_trans (Nat.le_of_ble_eq_true rfl : 104 ≤ 105) hFr) 1, Nat.le_trans (Nat.le_of_ble_eq_true rfl : _ ≤ 2419) (Nat.le_trans hLo (Nat.le_add_right _ _))⟩) (z_preV hX hS hH hr_ rfl) rfl rfl hl.1 rfl (lv_room (Nat.le_of_ble_eq_true rfl)) dX0_backsFor_37 ⟨hc1, hs1⟩
        · exact va_runU (x := ⟨"PrimeProofs$Line", "isFound", "()Z"⟩) (owner := "PrimeProofs$Line") (As := []) (rest := []) ⟨hx, hb, hml, hown, hts⟩ (mtX6_isFound_6 l D cA ζ s10 x9 K (x12, s13) hg_ (s13.1 - s10.1) (s13.2.1 - s10.2.1) (Nat.add_sub_cancel' hle.1) (Nat.add_sub_cancel' hle.2)) (va_cwU 0 hts (zU_in q657 q659 q663 q658 q96 q665) rfl rfl rfl rfl (by decide +kernel) ⟨Nat.add_le_add_right (Nat.le_trans (Nat.le_of_ble_eq_true rfl : 103 ≤ 105) hFr) 1, Nat.le_trans (Nat.le_of_ble_eq_true rfl : _ ≤ 2419) (Nat.le_trans hLo (Nat.le_add_right _ _))⟩) (z_preV hX hS hH hr_ rfl) rfl rfl hl.1 rfl (lv_room (Nat.le_of_ble_eq_true rfl)) dX0_backsFor_37 ⟨hc1, hs1⟩
        · exact va_runU (x := ⟨"PrimeProofs$Line", "isFound", "()Z"⟩) (owner := "PrimeProofs$Line") (As := []) (rest := []) ⟨hx, hb, hml, hown, hts⟩ (mtX6_isFound_7 l D cA ζ s10 x9 K (x12, s13) hg_ (s13.1 - s10.1) (s13.2.1 - s10.2.1) (Nat.add_sub_cancel' hle.1) (Nat.add_sub_cancel' hle.2)) (va_cwU 0 hts (zU_in q657 q659 q662 q658 q96 q665) rfl rfl rfl rfl (by decide +kernel) ⟨Nat.add_le_add_right (Nat.le_trans (Nat.le_of_ble_eq_true rfl : 104 ≤ 105) hFr) 1, Nat.le_trans (Nat.le_of_ble_eq_true rfl : _ ≤ 2419) (Nat.le_trans hLo (Nat.le_add_right _ _))⟩) (z_preV hX hS hH hr_ rfl) rfl rfl hl.1 rfl (lv_room (Nat.le_of_ble_eq_true rfl)) dX0_backsFor_37 ⟨hc1, hs1⟩
        · exact va_runU (x := ⟨"PrimeProofs$Line", "isFound", "()Z"⟩) (owner := "PrimeProofs$Line") (As := []) (rest := []) ⟨hx, hb, hml, hown, hts⟩ (mtX6_isFound_8 l D cA ζ s10 x9 K (x12, s13) hg_ (s13.1 - s10.1) (s13.2.1 - s10.2.1) (Nat.add_sub_cancel' hle.1) (Nat.add_sub_cancel' hle.2)) (va_cwU 0 hts (zU_in q657 q659 q661 q658 q96 q665) rfl rfl rfl rfl (by decide +kernel) ⟨Nat.add_le_add_right (Nat.le_trans (Nat.le_of_ble_eq_true rfl : 104 ≤ 105) hFr) 1, Nat.le_trans (Nat.le_of_ble_eq_true rfl : _ ≤ 2419) (Nat.le_trans hLo (Nat.le_add_right _ _))⟩) (z_preV hX hS hH hr_ rfl) rfl rfl hl.1 rfl (lv_room (Nat.le_of_ble_eq_true rfl)) dX0_backsFor_37 ⟨hc1, hs1⟩
        · exact va_runU (x := ⟨"PrimeProofs$Line", "isFound", "()Z"⟩) (owner := "PrimeProofs$Line") (As := []) (rest := []) ⟨hx, hb, hml, hown, hts⟩ (mtX6_isFound_9 l D cA ζ s10 x9 K (x12, s13) hg_ (s13.1 - s10.1) (s13.2.1 - s10.2.1) (Nat.add_sub_cancel' hle.1) (Nat.add_sub_cancel' hle.2)) (va_cwU 0 hts (zU_in q657 q659 q660 q658 q96 q665) rfl rfl rfl rfl (by decide +kernel) ⟨Nat.add_le_add_right (Nat.le_trans (Nat.le_of_ble_eq_true rfl : 104 ≤ 105) hFr) 1, Nat.le_trans (Nat.le_of_ble_eq_true rfl : _ ≤ 2419) (Nat.le_trans hLo (Nat.le_add_right _ _))⟩) (z_preV hX hS hH hr_ rfl) rfl rfl hl.1 rfl (lv_room (Nat.le_of_ble_eq_true rfl)) dX0_backsFor_37 ⟨hc1, hs1⟩
      obtain ⟨hw1, hw2⟩ := Prod.mk.inj hw.symm; subst hw1; subst hw2
      have hH : zH D cA ζ s13 H1 := z_at ht.symm hB
      have hcs : s.heap.size + (cells + (s13.1 - s10.1)) = s13.1 := by omega
      have hss : sl0 + (slots + (s13.2.1 - s10.2.1)) = s13.2.1 := by omega
      replace hcM := And.intro hc1 hs1
      generalize cells + (s13.1 - s10.1) = cells at hcs hcM ⊢; generalize slots + (s13.2.1 - s10.2.1) = slots at hss hcM ⊢
      clear hB hk hz hvm ht hle hck hc1 hs1; generalize H1 = H at hH hS ⊢
      refine lv_if_eq (tgt := 55) hx hb dX0_backsFor_40 (by decide) (fun c40 => ?_) (fun c40 => ?_)
      · have hf := dz_t c40 hf
        refine lv_iconst (v := 0) hx hb dX0_backsFor_55 (by decide) ?_
        obtain ⟨hM1, hS1⟩ : cells = M ∧ slots = S := by have hq := congrArg Prod.snd (Option.some.inj hf); rw [← hq] at hM hS0; have hM : s.heap.size + M = s13.1 := hM; have hS0 : sl0 + S = s13.2.1 := hS0; omega
        refine W.widen (k := M) (n := S) (Nat.le_of_eq hM1) (Nat.le_of_eq hS1) ?_
        exact W.zret (v := 0) hx hb hr rfl (fun t ht hW => ⟨⟨0, s13, rfl, Option.some.inj hf, z_at ht hH⟩, hS.F ht⟩) hS.2.2 dX0_backsFor_56
      · have hf := dz_f c40 hf
        refine lv_aload_n hx hb dX0_backsFor_43 rfl (lv_at hl 1 rfl) ?_
        refine lv_aload_n hx hb dX0_backsFor_44 rfl (lv_at hl 0 rfl) ?_
        obtain ⟨f16, hf16, hf⟩ := dz_bo hf
        obtain ⟨x14, s15, hx14, hle, hck, hf⟩ := zcl_o hf
        have hc1 : cells + (s15.1 - s13.1) ≤ M := by omega
        have hs1 : slots + (s15.2.1 - s13.2.1) ≤ S := by omega
        refine va_calli (va_runV (As := [.ref x9]) (rest := []) ⟨hx, hb, hml, hown, hts⟩ (hB l D cA ζ s13 h x9 K (x14, s15) hx14 (s15.1 - s13.1) (s15.2.1 - s13.2.1) (Nat.add_sub_cancel' hle.1) (Nat.add_sub_cancel' hle.2)) (cwV 1 hts (lw_V q776 q778 qs5 q84 q779) rfl rfl rfl (by decide +kernel) ⟨Nat.le_refl _, (by show 8 + (4 + 11) + Lo ≤ Lo + 40; omega)⟩) (z_preV hX hS hH (zob_o hf16) rfl) rfl rfl hl.1 rfl (lv_room (Nat.le_of_ble_eq_true rfl)) dX0_backsFor_45 ⟨hc1, hs1⟩) hS (fun q _ hq => hq) (fun q hq => hq) (fun r u t H1 locs ht hvm hw hB hz hk hS => ?_)
        obtain ⟨hw1, hw2⟩ := Prod.mk.inj hw.symm; subst hw1; subst hw2
        have hH : zH D cA ζ s15 H1 := z_at ht.symm hB
        have hcs : s.heap.size + (cells + (s15.1 - s13.1)) = s15.1 := by omega
        have hss : sl0 + (slots + (s15.2.1 - s13.2.1)) = s15.2.1 := by omega
        replace hcM := And.intro hc1 hs1
        generalize cells + (s15.1 - s13.1) = cells at hcs hcM ⊢; generalize slots + (s15.2.1 - s13.2.1) = slots at hss hcM ⊢
        clear hB hk hz hvm ht hle hck hc1 hs1; generalize H1 = H at hH hS ⊢
        refine lv_if_eq (tgt := 55) hx hb dX0_backsFor_48 (by decide) (fun c48 => ?_) (fun c48 => ?_)
        · have hf := dz_t c48 hf
          refine lv_iconst (v := 0) hx hb dX0_backsFor_55 (by decide) ?_
          obtain ⟨hM1, hS1⟩ : cells = M ∧ slots = S := by have hq := congrArg Prod.snd (Option.some.inj hf); rw [← hq] at hM hS0; have hM : s.heap.size + M = s15.1 := hM; have hS0 : sl0 + S = s15.2.1 := hS0; omega
          refine W.widen (k := M) (n := S) (Nat.le_of_eq hM1) (Nat.le_of_eq hS1) ?_
          exact W.zret (v := 0) hx hb hr rfl (fun t ht hW => ⟨⟨0, s15, rfl, Option.some.inj hf, z_at ht hH⟩, hS.F ht⟩) hS.2.2 dX0_backsFor_56
        · have hf := dz_f c48 hf
          refine lv_iconst (v := 1) hx hb dX0_backsFor_51 (by decide) ?_
          refine lv_goto (tgt := 56) hx hb dX0_backsFor_52 (by decide) ?_
          obtain ⟨hM1, hS1⟩ : cells = M ∧ slots = S := by have hq := congrArg Prod.snd (Option.some.inj hf); rw [← hq] at hM hS0; have hM : s.heap.size + M = s15.1 := hM; have hS0 : sl0 + S = s15.2.1 := hS0; omega
          refine W.widen (k := M) (n := S) (Nat.le_of_eq hM1) (Nat.le_of_eq hS1) ?_
          exact W.zret (v := 1) hx hb hr rfl (fun t ht hW => ⟨⟨1, s15, rfl, Option.some.inj hf, z_at ht hH⟩, hS.F ht⟩) hS.2.2 dX0_backsFor_56
    · have c24 : ¬ (100 : Int64) ≤ a0 := fun hq => c24 ((lg_cmp_ge _ _).mpr hq)
      have hf := dz_f c24 hf
      refine lv_iconst (v := 0) hx hb dX0_backsFor_27 (by decide) ?_
      refine lv_goto (tgt := 32) hx hb dX0_backsFor_28 (by decide) ?_
      obtain ⟨f19, hf19, hf⟩ := dz_bo hf
      obtain ⟨x17, s18, hx17, hle, hck, hf⟩ := zcl_o hf
      have hc1 : cells + (s18.1 - s7.1) ≤ M := by omega
      have hs1 : slots + (s18.2.1 - s7.2.1) ≤ S := by omega
      refine va_callr (va_runV (As := [.long a0, .int 0]) (rest := []) ⟨hx, hb, hml, hown, hts⟩ (mtX0_made l D cA ζ s7 h a0 0 K (x17, s18) hx17 (s18.1 - s7.1) (s18.2.1 - s7.2.1) (Nat.add_sub_cancel' hle.1) (Nat.add_sub_cancel' hle.2)) (cwV 2 hts (lw_V q495 q497 qs4 q84 q498) rfl rfl rfl (by decide +kernel) ⟨Nat.add_le_add_right (Nat.le_trans (Nat.le_of_ble_eq_true rfl : 4 ≤ 105) hFr) 1, Nat.le_trans (Nat.le_of_ble_eq_true rfl : _ ≤ 2419) (Nat.le_trans hLo (Nat.le_add_right _ _))⟩) (z_preV hX hS hH (zob_o hf19) rfl) rfl rfl hl.1 rfl (lv_room (Nat.le_of_ble_eq_true rfl)) dX0_backsFor_32 ⟨hc1, hs1⟩) hS (fun q _ hq => hq) (fun q hq => hq) (fun u r t H1 locs ht hvm hw hB hz hk hS => ?_)
      obtain ⟨hw, hB⟩ := hB
      obtain ⟨hw1, hw2⟩ := Prod.mk.inj hw.symm; subst hw1; subst hw2
      have hH : zH D cA ζ s18 H1 := z_at ht.symm hB
      have hcs : s.heap.size + (cells + (s18.1 - s7.1)) = s18.1 := by omega
      have hss : sl0 + (slots + (s18.2.1 - s7.2.1)) = s18.2.1 := by omega
      replace hcM := And.intro hc1 hs1
      generalize cells + (s18.1 - s7.1) = cells at hcs hcM ⊢; generalize slots + (s18.2.1 - s7.2.1) = slots at hss hcM ⊢
      clear hB hk hz hvm ht hle hck hc1 hs1; generalize H1 = H at hH hS ⊢
      refine lv_astore_n (lv' := [(3, .ref x17), (0, .ref h), (1, .long a0)]) hx hb dX0_backsFor_35 rfl hl (by decide) rfl (fun ls hl => ?_)
      refine lv_aload_n hx hb dX0_backsFor_36 rfl (lv_at hl 0 rfl) ?_
      obtain ⟨x20, s21, hx20, hle, hck, hf⟩ := zcl_o hf
      have hc1 : cells + (s21.1 - s18.1) ≤ M := by omega
      have hs1 : slots + (s21.2.1 - s18.2.1) ≤ S := by omega
      refine va_calli (post := fun (r : Int32) (u : pH) => (r, u) = (x20, s21)) (B := fun u t => zH D cA ζ u t.heap) (A1 := zA ζ) (a := (Value.ref x17 :: [] : List Value).toArray) (mc := s21.1 - s18.1) (ms := s21.2.1 - s18.2.1) (rest := []) (free := zA ζ) ?_ hS (fun q _ hq => hq) (fun q hq => hq) (fun r u t H1 locs ht hvm hw hB hz hk hS => ?_)
      · rcases L_isFound_o hx20 with ⟨fs_, hr_, hg_⟩ | ⟨fs_, hr_, hg_⟩ | ⟨fs_, hr_, hg_⟩ | ⟨fs_, hr_, hg_⟩ | ⟨fs_, hr_, hg_⟩
        · exact va_runU (x := ⟨"PrimeProofs$Line", "isFound", "()Z"⟩) (owner := "PrimeProofs$Line") (As := []) (rest := []) ⟨hx, hb, hml, hown, hts⟩ (mtX6_isFound_5 l D cA ζ s18 x17 K (x20, s21) hg_ (s21.1 - s18.1) (s21.2.1 - s18.2.1) (Nat.add_sub_cancel' hle.1) (Nat.add_sub_cancel' hle.2)) (va_cwU 0 hts (zU_in q657 q659 q664 q658 q96 q665) rfl rfl rfl rfl (by decide +kernel) ⟨Nat.add_le_add_right (Nat.le_trans (Nat.le_of_ble_eq_true rfl : 104 ≤ 105) hFr) 1, Nat.le_trans (Nat.le_of_ble_eq_true rfl : _ ≤ 2419) (Nat.le_trans hLo (Nat.le_add_right _ _))⟩) (z_preV hX hS hH hr_ rfl) rfl rfl hl.1 rfl (lv_room (Nat.le_of_ble_eq_true rfl)) dX0_backsFor_37 ⟨hc1, hs1⟩
        · exact va_runU (x := ⟨"PrimeProofs$Line", "isFound", "()Z"⟩) (owner := "PrimeProofs$Line") (As := []) (rest := []) ⟨hx, hb, hml, hown, hts⟩ (mtX6_isFound_6 l D cA ζ s18 x17 K (x20, s21) hg_ (s21.1 - s18.1) (s21.2.1 - s18.2.1) (Nat.add_sub_cancel' hle.1) (Nat.add_sub_cancel' hle.2)) (va_cwU 0 hts (zU_in q657 q659 q663 q658 q96 q665) rfl rfl rfl rfl (by decide +kernel) ⟨Nat.add_le_add_right (Nat.le_trans (Nat.le_of_ble_eq_true rfl : 103 ≤ 105) hFr) 1, Nat.le_trans (Nat.le_of_ble_eq_true rfl : _ ≤ 2419) (Nat.le_trans hLo (Nat.le_add_right _ _))⟩) (z_preV hX hS hH hr_ rfl) rfl rfl hl.1 rfl (lv_room (Nat.le_of_ble_eq_true rfl)) dX0_backsFor_37 ⟨hc1, hs1⟩
        · exact va_runU (x := ⟨"PrimeProofs$Line", "isFound", "()Z"⟩) (owner := "PrimeProofs$Line") (As := []) (rest := []) ⟨hx, hb, hml, hown, hts⟩ (mtX6_isFound_7 l D cA ζ s18 x17 K (x20, s21) hg_ (s21.1 - s18.1) (s21.2.1 - s18.2.1) (Nat.add_sub_cancel' hle.1) (Nat.add_sub_cancel' hle.2)) (va_cwU 0 hts (zU_in q657 q659 q662 q658 q96 q665) rfl rfl rfl rfl (by decide +kernel) ⟨Nat.add_le_add_right (Nat.le_trans (Nat.le_of_ble_eq_true rfl : 104 ≤ 105) hFr) 1, Nat.le_trans (Nat.le_of_ble_eq_true rfl : _ ≤ 2419) (Nat.le_trans hLo (Nat.le_add_right _ _))⟩) (z_preV hX hS hH hr_ rfl) rfl rfl hl.1 rfl (lv_room (Nat.le_of_ble_eq_true rfl)) dX0_backsFor_37 ⟨hc1, hs1⟩
        · exact va_runU (x := ⟨"PrimeProofs$Line", "isFound", "()Z"⟩) (owner := "PrimeProofs$Line") (As := []) (rest := []) ⟨hx, hb, hml, hown, hts⟩ (mtX6_isFound_8 l D cA ζ s18 x17 K (x20, s21) hg_ (s21.1 - s18.1) (s21.2.1 - s18.2.1) (Nat.add_sub_cancel' hle.1) (Nat.add_sub_cancel' hle.2)) (va_cwU 0 hts (zU_in q657 q659 q661 q658 q96 q665) rfl rfl rfl rfl (by decide +kernel) ⟨Nat.add_le_add_right (Nat.le_trans (Nat.le_of_ble_eq_true rfl : 104 ≤ 105) hFr) 1, Nat.le_trans (Nat.le_of_ble_eq_true rfl : _ ≤ 2419) (Nat.le_trans hLo (Nat.le_add_right _ _))⟩) (z_preV hX hS hH hr_ rfl) rfl rfl hl.1 rfl (lv_room (Nat.le_of_ble_eq_true rfl)) dX0_backsFor_37 ⟨hc1, hs1⟩
        · exact va_runU (x := ⟨"PrimeProofs$Line", "isFound", "()Z"⟩) (owner := "PrimeProofs$Line") (As := []) (rest := []) ⟨hx, hb, hml, hown, hts⟩ (mtX6_isFound_9 l D cA ζ s18 x17 K (x20, s21) hg_ (s21.1 - s18.1) (s21.2.1 - s18.2.1) (Nat.add_sub_cancel' hle.1) (Nat.add_sub_cancel' hle.2)) (va_cwU 0 hts (zU_in q657 q659 q660 q658 q96 q665) rfl rfl rfl rfl (by decide +kernel) ⟨Nat.add_le_add_right (Nat.le_trans (Nat.le_of_ble_eq_true rfl : 104 ≤ 105) hFr) 1, Nat.le_trans (Nat.le_of_ble_eq_true rfl : _ ≤ 2419) (Nat.le_trans hLo (Nat.le_add_right _ _))⟩) (z_preV hX hS hH hr_ rfl) rfl rfl hl.1 rfl (lv_room (Nat.le_of_ble_eq_true rfl)) dX0_backsFor_37 ⟨hc1, hs1⟩
      obtain ⟨hw1, hw2⟩ := Prod.mk.inj hw.symm; subst hw1; subst hw2
      have hH : zH D cA ζ s21 H1 := z_at ht.symm hB
      have hcs : s.heap.size + (cells + (s21.1 - s18.1)) = s21.1 := by omega
      have hss : sl0 + (slots + (s21.2.1 - s18.2.1)) = s21.2.1 := by omega
      replace hcM := And.intro hc1 hs1
      generalize cells + (s21.1 - s18.1) = cells at hcs hcM ⊢; generalize slots + (s21.2.1 - s18.2.1) = slots at hss hcM ⊢
      clear hB hk hz hvm ht hle hck hc1 hs1; generalize H1 = H at hH hS ⊢
      refine lv_if_eq (tgt := 55) hx hb dX0_backsFor_40 (by decide) (fun c40 => ?_) (fun c40 => ?_)
      · have hf := dz_t c40 hf
        refine lv_iconst (v := 0) hx hb dX0_backsFor_55 (by decide) ?_
        obtain ⟨hM1, hS1⟩ : cells = M ∧ slots = S := by have hq := congrArg Prod.snd (Option.some.inj hf); rw [← hq] at hM hS0; have hM : s.heap.size + M = s21.1 := hM; have hS0 : sl0 + S = s21.2.1 := hS0; omega
        refine W.widen (k := M) (n := S) (Nat.le_of_eq hM1) (Nat.le_of_eq hS1) ?_
        exact W.zret (v := 0) hx hb hr rfl (fun t ht hW => ⟨⟨0, s21, rfl, Option.some.inj hf, z_at ht hH⟩, hS.F ht⟩) hS.2.2 dX0_backsFor_56
      · have hf := dz_f c40 hf
        refine lv_aload_n hx hb dX0_backsFor_43 rfl (lv_at hl 1 rfl) ?_
        refine lv_aload_n hx hb dX0_backsFor_44 rfl (lv_at hl 0 rfl) ?_
        obtain ⟨f24, hf24, hf⟩ := dz_bo hf
        obtain ⟨x22, s23, hx22, hle, hck, hf⟩ := zcl_o hf
        have hc1 : cells + (s23.1 - s21.1) ≤ M := by omega
        have hs1 : slots + (s23.2.1 - s21.2.1) ≤ S := by omega
        refine va_calli (va_runV (As := [.ref x17]) (rest := []) ⟨hx, hb, hml, hown, hts⟩ (hB l D cA ζ s21 h x17 K (x22, s23) hx22 (s23.1 - s21.1) (s23.2.1 - s21.2.1) (Nat.add_sub_cancel' hle.1) (Nat.add_sub_cancel' hle.2)) (cwV 1 hts (lw_V q776 q778 qs5 q84 q779) rfl rfl rfl (by decide +kernel) ⟨Nat.le_refl _, (by show 8 + (4 + 11) + Lo ≤ Lo + 40; omega)⟩) (z_preV hX hS hH (zob_o hf24) rfl) rfl rfl hl.1 rfl (lv_room (Nat.le_of_ble_eq_true rfl)) dX0_backsFor_45 ⟨hc1, hs1⟩) hS (fun q _ hq => hq) (fun q hq => hq) (fun r u t H1 locs ht hvm hw hB hz hk hS => ?_)
        obtain ⟨hw1, hw2⟩ := Prod.mk.inj hw.symm; subst hw1; subst hw2
        have hH : zH D cA ζ s23 H1 := z_at ht.symm hB
        have hcs : s.heap.size + (cells + (s23.1 - s21.1)) = s23.1 := by omega
        have hss : sl0 + (slots + (s23.2.1 - s21.2.1)) = s23.2.1 := by omega
        replace hcM := And.intro hc1 hs1
        generalize cells + (s23.1 - s21.1) = cells at hcs hcM ⊢; generalize slots + (s23.2.1 - s21.2.1) = slots at hss hcM ⊢
        clear hB hk hz hvm ht hle hck hc1 hs1; generalize H1 = H at hH hS ⊢
        refine lv_if_eq (tgt := 55) hx hb dX0_backsFor_48 (by decide) (fun c48 => ?_) (fun c48 => ?_)
        · have hf := dz_t c48 hf
          refine lv_iconst (v := 0) hx hb dX0_backsFor_55 (by decide) ?_
          obtain ⟨hM1, hS1⟩ : cells = M ∧ slots = S := by have hq := congrArg Prod.snd (Option.some.inj hf); rw [← hq] at hM hS0; have hM : s.heap.size + M = s23.1 := hM; have hS0 : sl0 + S = s23.2.1 := hS0; omega
          refine W.widen (k := M) (n := S) (Nat.le_of_eq hM1) (Nat.le_of_eq hS1) ?_
          exact W.zret (v := 0) hx hb hr rfl (fun t ht hW => ⟨⟨0, s23, rfl, Option.some.inj hf, z_at ht hH⟩, hS.F ht⟩) hS.2.2 dX0_backsFor_56
        · have hf := dz_f c48 hf
          refine lv_iconst (v := 1) hx hb dX0_backsFor_51 (by decide) ?_
          refine lv_goto (tgt := 56) hx hb dX0_backsFor_52 (by decide) ?_
          obtain ⟨hM1, hS1⟩ : cells = M ∧ slots = S := by have hq := congrArg Prod.snd (Option.some.inj hf); rw [← hq] at hM hS0; have hM : s.heap.size + M = s23.1 := hM; have hS0 : sl0 + S = s23.2.1 := hS0; omega
          refine W.widen (k := M) (n := S) (Nat.le_of_eq hM1) (Nat.le_of_eq hS1) ?_
          exact W.zret (v := 1) hx hb hr rfl (fun t ht hW => ⟨⟨1, s23, rfl, Option.some.inj hf, z_at ht hH⟩, hS.F ht⟩) hS.2.2 dX0_backsFor_56
  · have hf := dz_f c12 hf
    refine lv_iconst (v := 1) hx hb dX0_backsFor_15 (by decide) ?_
    obtain ⟨hM1, hS1⟩ : cells = M ∧ slots = S := by have hq := congrArg Prod.snd (Option.some.inj hf); rw [← hq] at hM hS0; have hM : s.heap.size + M = s7.1 := hM; have hS0 : sl0 + S = s7.2.1 := hS0; omega
    refine W.widen (k := M) (n := S) (Nat.le_of_eq hM1) (Nat.le_of_eq hS1) ?_
    exact W.zret (v := 1) hx hb hr rfl (fun t ht hW => ⟨⟨1, s7, rfl, Option.some.inj hf, z_at ht hH⟩, hS.F ht⟩) hS.2.2 dX0_backsFor_16

noncomputable def lfX0_backs (B : Nat → pZ → Nat → Int64 → pH → Option (Int32 × pH)) (K : Nat) (ζ : pZ) : Nat → (Nat → Nat → Nat → pH → Option (Int32 × pH)) × (Nat → Nat → Nat → pH → Option (Int32 × pH)) := Nat.rec (motive := fun _ => (Nat → Nat → Nat → pH → Option (Int32 × pH)) × (Nat → Nat → Nat → pH → Option (Int32 × pH))) ((fun _ _ _ _ => none), (fun _ _ _ _ => none)) (fun _ G => ((fun v0 v1 v2 τ => dz_b (zob ζ τ v2 2) fun f3 => zcl τ (fnX2_hasNext K ζ v2 τ) fun x1 s2 => if x1 = (0 : Int32) then (dz_c (zoL ζ s2 v1) fun cf4 f4 => dz_b (zvr (f4[5]?)) fun x5 => dz_b (zob ζ s2 x5 10) fun f8 => zcl s2 (fnX8_iterator K ζ x5 s2) fun x6 s7 => G.2 v0 v1 x6 s7) else (dz_b (zob ζ s2 v2 2) fun f11 => zcl s2 (fnX2_next K ζ v2 s2) fun x9 s10 => dz_b (zob ζ s10 x9 11) fun f12 => dz_b (zob ζ s10 x9 11) fun f13 => dz_b (zvl (f13[0]?)) fun x14 => dz_b (zob ζ s10 v0 0) fun f17 => zcl s10 (B K ζ v0 x14 s10) fun x15 s16 => if x15 = (0 : Int32) then (some (0, s16)) else (G.1 v0 v1 v2 s16))), (fun v0 v1 v2 τ => dz_b (zob ζ τ v2 2) fun f3 => zcl τ (fnX2_hasNext K ζ v2 τ) fun x1 s2 => if x1 = (0 : Int32) then (dz_b (zob ζ s2 v0 0) fun f4 => dz_b (zvr (f4[0]?)) fun x5 => dz_b (zob ζ s2 x5 14) fun f8 => zcl s2 (fnJ2_size K ζ x5 s2) fun x6 s7 => if x6 = (60 : Int32) then (some (0, s7)) else (dz_b (zob ζ s7 v0 0) fun f11 => zcl s7 (fnX0_comes K ζ v0 v1 s7) fun _ s10 => some (1, s10))) else (dz_b (zob ζ s2 v2 2) fun f14 => zcl s2 (fnX2_next K ζ v2 s2) fun x12 s13 => dz_b (zob ζ s13 x12 11) fun f15 => dz_b (zob ζ s13 x12 11) fun f16 => dz_b (zvl (f16[0]?)) fun x17 => dz_b (zob ζ s13 v0 0) fun f20 => zcl s13 (B K ζ v0 x17 s13) fun x18 s19 => if x18 = (0 : Int32) then (some (0, s19)) else (G.2 v0 v1 v2 s19)))))
noncomputable def foX0_backs (B : Nat → pZ → Nat → Int64 → pH → Option (Int32 × pH)) (K : Nat) (ζ : pZ) (h : Nat) (a0 : Nat) (τ : pH) : Option (Int32 × pH) := dz_c (zoL ζ τ a0) fun cf1 f1 => dz_b (zvr (f1[4]?)) fun x2 => dz_b (zob ζ τ x2 10) fun f5 => zcl τ (fnX8_iterator K ζ x2 τ) fun x3 s4 => (lfX0_backs B K ζ K).1 h a0 x3 s4
set_option maxHeartbeats 4000000 in
set_option maxRecDepth 100000 in
theorem wlX0_backs {p : Program} {l : Launch} {e : Env} {s : State} {m : MethodId} {below : List Frame} {meth : Method} {c : Code} {D : va_G} {cA : Nat → ClassId} {ζ : pZ} (B : Nat → pZ → Nat → Int64 → pH → Option (Int32 × pH)) (Fr Lo : Nat) (hB : ∀ (l : Launch) (D : va_G) (cA : Nat → ClassId) (ζ : pZ) (τ : pH) (h : Nat) (a0 : Int64) (K : Nat) (res : (Int32 × pH)), B K ζ h a0 τ = some res → ∀ (M S : Nat), τ.1 + M = res.2.1 → τ.2.1 + S = res.2.2.1 → Met l yX0_backsFor (ws_ yX0_backsFor cX0_backsFor 4 (some .boolean)) ({ frames := Fr, cells := M, slots := S, locals := Lo }) (zPc D cA ζ τ [.ref h, .long a0]) (zQi D cA ζ res) M S (zA ζ)) (hFr : 8 ≤ Fr) (hLo : 212 ≤ Lo) (hX : zX D cA ζ s) (K : Nat) (res : (Int32 × pH)) (M S sl0 : Nat) (hM : s.heap.size + M = res.2.1) (hS0 : sl0 + S = res.2.2.1) (h : Nat) (a0 : Nat) (hx : p.tables.exec = Jvm.exec) (hb : c.code = cX0_backs) (hr : meth.sig.returnType = some .boolean) (hlocks : meth.locks = false) (hml : c.maxLocals = 4) (hown : s.vm.findClass RX0 = some m.cls) (hts : ∀ w ∈ lw_all, w.before ([.ref h, .ref a0] : List Value).toArray s = true) : ∀ k : Nat, (∀ (v0 : Nat) (v1 : Nat) (v2 : Nat) (τ : pH) (H : Heap) (locs : List Loc) (cells slots : Nat), zH D cA ζ τ H → va_S (zA ζ) s.heap H locs → s.heap.size + cells = τ.1 → sl0 + slots = τ.2.1 → cells ≤ M ∧ slots ≤ S → ∀ (ls : Array Slot), lv_has ls 4 [(0, .ref v0), (1, .ref v1), (2, .ref v2)] → (lfX0_backs B K ζ k).1 v0 v1 v2 τ = some res → W p l e (headSpec (ws_ yX0_backs cX0_backs 4 (some .boolean)) ({ frames := Fr + 1, cells := M, slots := S, locals := Lo + 40 })).room s m ([.ref h, .ref a0] : List Value).toArray below meth c H locs cells slots (MQ below (zQi D cA ζ res) ([.ref h, .ref a0] : List Value).toArray s M S (zA ζ)) (F0 m 8 ls [])) ∧ (∀ (v0 : Nat) (v1 : Nat) (v2 : Nat) (τ : pH) (H : Heap) (locs : List Loc) (cells slots : Nat), zH D cA ζ τ H → va_S (zA ζ) s.heap H locs → s.heap.size + cells = τ.1 → sl0 + slots = τ.2.1 → cells ≤ M ∧ slots ≤ S → ∀ (ls : Array Slot), lv_has ls 4 [(0, .ref v0), (1, .ref v1), (2, .ref v2)] → (lfX0_backs B K ζ k).2 v0 v1 v2 τ = some res → W p l e (headSpec (ws_ yX0_backs cX0_backs 4 (some .boolean)) ({ frames := Fr + 1, cells := M, slots := S, locals := Lo + 40 })).room s m ([.ref h, .ref a0] : List Value).toArray below meth c H locs cells slots (MQ below (zQi D cA ζ res) ([.ref h, .ref a0] : List Value).toArray s M S (zA ζ)) (F0 m 51 ls [])) := by
  intro k
  induction k with
  | zero =>
    exact ⟨fun _ _ _ _ _ _ _ _ _ _ _ _ _ _ _ hf => (by cases hf), fun _ _ _ _ _ _ _ _ _ _ _ _ _ _ _ hf => (by cases hf)⟩
  | succ k ih =>
    refine ⟨?_, ?_⟩
    · intro v0 v1 v2 τ H locs cells slots hH hS hcs hss hcM ls hl hf
      have hf : (dz_b (zob ζ τ v2 2) fun f3 => zcl τ (fnX2_hasNext K ζ v2 τ) fun x1 s2 => if x1 = (0 : Int32) then (dz_c (zoL ζ s2 v1) fun cf4 f4 => dz_b (zvr (f4[5]?)) fun x5 => dz_b (zob ζ s2 x5 10) fun f8 => zcl s2 (fnX8_iterator K ζ x5 s2) fun x6 s7 => (lfX0_backs B K ζ k).2 v0 v1 x6 s7) else (dz_b (zob ζ s2 v2 2) fun f11 => zcl s2 (fnX2_next K ζ v2 s2) fun x9 s10 => dz_b (zob ζ s10 x9 11) fun f12 => dz_b (zob ζ s10 x9 11) fun f13 => dz_b (zvl (f13[0]?)) fun x14 => dz_b (zob ζ s10 v0 0) fun f17 => zcl s10 (B K ζ v0 x14 s10) fun x15 s16 => if x15 = (0 : Int32) then (some (0, s16)) else ((lfX0_backs B K ζ k).1 v0 v1 v2 s16)) : Option (Int32 × pH)) = some res := hf
      refine lv_aload_n hx hb dX0_backs_8 rfl (lv_at hl 2 rfl) ?_
      obtain ⟨f3, hf3, hf⟩ := dz_bo hf
      obtain ⟨x1, s2, hx1, hle, hck, hf⟩ := zcl_o hf
      have hc1 : cells + (s2.1 - τ.1) ≤ M := by omega
      have hs1 : slots + (s2.2.1 - τ.2.1) ≤ S := by omega
      refine va_callFi (va_runF (hX.K.1 2 _ rfl).2 (As := []) (rest := []) ⟨hx, hb, hml, hown, hts⟩ (mtX2_hasNext l D cA ζ τ v2 K (x1, s2) hx1 (s2.1 - τ.1) (s2.2.1 - τ.2.1) (Nat.add_sub_cancel' hle.1) (Nat.add_sub_cancel' hle.2)) (va_cwF 0 hts (zF_in q782 q267 q269 q91 q271) rfl rfl rfl (hX.F 0 rfl) (by decide +kernel) ⟨Nat.add_le_add_right (Nat.le_trans (Nat.le_of_ble_eq_true rfl : 0 ≤ 8) hFr) 1, Nat.le_trans (Nat.le_of_ble_eq_true rfl : _ ≤ 212) (Nat.le_trans hLo (Nat.le_add_right _ _))⟩) (z_preV hX hS hH (zob_o hf3) rfl) rfl rfl hl.1 rfl (lv_room (Nat.le_of_ble_eq_true rfl)) dX0_backs_9 ⟨hc1, hs1⟩) hS (fun q _ hq => hq) (fun q hq => hq) (fun r u t H1 locs ht hvm hw hB hz hk hS => ?_)
      obtain ⟨hw1, hw2⟩ := Prod.mk.inj hw.symm; subst hw1; subst hw2
      have hH : zH D cA ζ s2 H1 := z_at ht.symm hB
      have hcs : s.heap.size + (cells + (s2.1 - τ.1)) = s2.1 := by omega
      have hss : sl0 + (slots + (s2.2.1 - τ.2.1)) = s2.2.1 := by omega
      replace hcM := And.intro hc1 hs1
      generalize cells + (s2.1 - τ.1) = cells at hcs hcM ⊢; generalize slots + (s2.2.1 - τ.2.1) = slots at hss hcM ⊢
      clear hB hk hz hvm ht hle hck hc1 hs1; generalize H1 = H at hH hS ⊢
      refine lv_if_eq (tgt := 43) hx hb dX0_backs_14 (by decide) (fun c14 => ?_) (fun c14 => ?_)
      · have hf := dz_t c14 hf
        refine lv_aload_n hx hb dX0_backs_43 rfl (lv_at hl 1 rfl) ?_
        obtain ⟨cf4, f4, hcf4, hf⟩ := dz_co hf
        obtain ⟨x5, hx5, hf⟩ := dz_bo hf
        obtain ⟨hr_f4, hc_f4⟩ := zoL_o hcf4
        refine zL_get5 hx hb hts hown hX hS hH hr_f4 hc_f4 (hts _ q565) (zvr_o hx5) dX0_backs_44 ?_
        obtain ⟨f8, hf8, hf⟩ := dz_bo hf
        obtain ⟨x6, s7, hx6, hle, hck, hf⟩ := zcl_o hf
        have hc1 : cells + (s7.1 - s2.1) ≤ M := by omega
        have hs1 : slots + (s7.2.1 - s2.2.1) ≤ S := by omega
        refine va_callr (va_runV (As := []) (rest := []) ⟨hx, hb, hml, hown, hts⟩ (mtX8_iterator l D cA ζ s2 x5 K (x6, s7) hx6 (s7.1 - s2.1) (s7.2.1 - s2.2.1) (Nat.add_sub_cancel' hle.1) (Nat.add_sub_cancel' hle.2)) (cwV 0 hts (lw_V q780 q246 q247 q98 q248) rfl rfl rfl (by decide +kernel) ⟨Nat.add_le_add_right (Nat.le_trans (Nat.le_of_ble_eq_true rfl : 2 ≤ 8) hFr) 1, Nat.le_trans (Nat.le_of_ble_eq_true rfl : _ ≤ 212) (Nat.le_trans hLo (Nat.le_add_right _ _))⟩) (z_preV hX hS hH (zob_o hf8) rfl) rfl rfl hl.1 rfl (lv_room (Nat.le_of_ble_eq_true rfl)) dX0_backs_47 ⟨hc1, hs1⟩) hS (fun q _ hq => hq) (fun q hq => hq) (fun u r t H1 locs ht hvm hw hB hz hk hS => ?_)
        obtain ⟨hw, hB⟩ := hB
        obtain ⟨hw1, hw2⟩ := Prod.mk.inj hw.symm; subst hw1; subst hw2
        have hH : zH D cA ζ s7 H1 := z_at ht.symm hB
        have hcs : s.heap.size + (cells + (s7.1 - s2.1)) = s7.1 := by omega
        have hss : sl0 + (slots + (s7.2.1 - s2.2.1)) = s7.2.1 := by omega
        replace hcM := And.intro hc1 hs1
        generalize cells + (s7.1 - s2.1) = cells at hcs hcM ⊢; generalize slots + (s7.2.1 - s2.2.1) = slots at hss hcM ⊢
        clear hB hk hz hvm ht hle hck hc1 hs1; generalize H1 = H at hH hS ⊢
        refine lv_astore_n (lv' := [(2, .ref x6), (0, .ref v0), (1, .ref v1)]) hx hb dX0_backs_50 rfl hl (by decide) rfl (fun ls hl => ?_)
        exact ih.2 v0 v1 x6 s7 H locs cells slots hH hS hcs hss hcM ls (lv_sub hl [1, 2, 0] rfl) hf
      · have hf := dz_f c14 hf
        refine lv_aload_n hx hb dX0_backs_17 rfl (lv_at hl 2 rfl) ?_
        obtain ⟨f11, hf11, hf⟩ := dz_bo hf
        obtain ⟨x9, s10, hx9, hle, hck, hf⟩ := zcl_o hf
        have hc1 : cells + (s10.1 - s2.1) ≤ M := by omega
        have hs1 : slots + (s10.2.1 - s2.2.1) ≤ S := by omega
        refine va_callFr (va_runF (hX.K.1 2 _ rfl).2 (As := []) (rest := []) ⟨hx, hb, hml, hown, hts⟩ (mtX2_next l D cA ζ s2 v2 K (x9, s10) hx9 (s10.1 - s2.1) (s10.2.1 - s2.2.1) (Nat.add_sub_cancel' hle.1) (Nat.add_sub_cancel' hle.2)) (va_cwF 0 hts (zF_in q784 q282 q284 q91 q286) rfl rfl rfl (hX.F 1 rfl) (by decide +kernel) ⟨Nat.add_le_add_right (Nat.le_trans (Nat.le_of_ble_eq_true rfl : 1 ≤ 8) hFr) 1, Nat.le_trans (Nat.le_of_ble_eq_true rfl : _ ≤ 212) (Nat.le_trans hLo (Nat.le_add_right _ _))⟩) (z_preV hX hS hH (zob_o hf11) rfl) rfl rfl hl.1 rfl (lv_room (Nat.le_of_ble_eq_true rfl)) dX0_backs_18 ⟨hc1, hs1⟩) hS (fun q _ hq => hq) (fun q hq => hq) (fun u r t H1 locs ht hvm hw hB hz hk hS => ?_)
        obtain ⟨hw, hB⟩ := hB
        obtain ⟨hw1, hw2⟩ := Prod.mk.inj hw.symm; subst hw1; subst hw2
        have hH : zH D cA ζ s10 H1 := z_at ht.symm hB
        have hcs : s.heap.size + (cells + (s10.1 - s2.1)) = s10.1 := by omega
        have hss : sl0 + (slots + (s10.2.1 - s2.2.1)) = s10.2.1 := by omega
        replace hcM := And.intro hc1 hs1
        generalize cells + (s10.1 - s2.1) = cells at hcs hcM ⊢; generalize slots + (s10.2.1 - s2.2.1) = slots at hss hcM ⊢
        clear hB hk hz hvm ht hle hck hc1 hs1; generalize H1 = H at hH hS ⊢
        obtain ⟨f12, hf12, hf⟩ := dz_bo hf
        refine va_castS (nm := RX13) hx hb hown (hts _ q677) (hX.K.1 11 _ rfl).2 (va_recv hX.K (zrd_P hX hS hH (zob_o hf12)) (ci := 11) (q0 := 0) rfl rfl) dX0_backs_23 ?_
        refine lv_astore_n (lv' := [(3, .ref x9), (0, .ref v0), (1, .ref v1), (2, .ref v2)]) hx hb dX0_backs_26 rfl hl (by decide) rfl (fun ls hl => ?_)
        refine lv_aload_n hx hb dX0_backs_27 rfl (lv_at hl 1 rfl) ?_
        refine lv_aload_n hx hb dX0_backs_28 rfl (lv_at hl 0 rfl) ?_
        obtain ⟨f13, hf13, hf⟩ := dz_bo hf
        obtain ⟨x14, hx14, hf⟩ := dz_bo hf
        refine va_get (C := RX13) (T := TX13) (N := 3) hx hb hts in_X13 hown hX.K (zrd_P hX hS hH (zob_o hf13)) 0 rfl rfl 0 (by decide) (hts _ q686) (fun _ hq => hq) (zvl_o hx14) dX0_backs_29 ?_
        obtain ⟨f17, hf17, hf⟩ := dz_bo hf
        obtain ⟨x15, s16, hx15, hle, hck, hf⟩ := zcl_o hf
        have hc1 : cells + (s16.1 - s10.1) ≤ M := by omega
        have hs1 : slots + (s16.2.1 - s10.2.1) ≤ S := by omega
        refine va_calli (va_runV (As := [.long x14]) (rest := []) ⟨hx, hb, hml, hown, hts⟩ (hB l D cA ζ s10 v0 x14 K (x15, s16) hx15 (s16.1 - s10.1) (s16.2.1 - s10.2.1) (Nat.add_sub_cancel' hle.1) (Nat.add_sub_cancel' hle.2)) (cwV 1 hts (lw_V q785 q787 qs6 q84 q788) rfl rfl rfl (by decide +kernel) ⟨Nat.le_refl _, (by show 8 + (4 + 11) + Lo ≤ Lo + 40; omega)⟩) (z_preV hX hS hH (zob_o hf17) rfl) rfl rfl hl.1 rfl (lv_room (Nat.le_of_ble_eq_true rfl)) dX0_backs_32 ⟨hc1, hs1⟩) hS (fun q _ hq => hq) (fun q hq => hq) (fun r u t H1 locs ht hvm hw hB hz hk hS => ?_)
        obtain ⟨hw1, hw2⟩ := Prod.mk.inj hw.symm; subst hw1; subst hw2
        have hH : zH D cA ζ s16 H1 := z_at ht.symm hB
        have hcs : s.heap.size + (cells + (s16.1 - s10.1)) = s16.1 := by omega
        have hss : sl0 + (slots + (s16.2.1 - s10.2.1)) = s16.2.1 := by omega
        replace hcM := And.intro hc1 hs1
        generalize cells + (s16.1 - s10.1) = cells at hcs hcM ⊢; generalize slots + (s16.2.1 - s10.2.1) = slots at hss hcM ⊢
        clear hB hk hz hvm ht hle hck hc1 hs1; generalize H1 = H at hH hS ⊢
        refine lv_if_ne (tgt := 40) hx hb dX0_backs_35 (by decide) (fun c35 => ?_) (fun c35 => ?_)
        · have hf := dz_f c35 hf
          refine lv_goto (tgt := 8) hx hb dX0_backs_40 (by decide) ?_
          exact ih.1 v0 v1 v2 s16 H locs cells slots hH hS hcs hss hcM ls (lv_sub hl [1, 2, 3] rfl) hf
        · have hf := dz_t c35 hf
          refine lv_iconst (v := 0) hx hb dX0_backs_38 (by decide) ?_
          obtain ⟨hM1, hS1⟩ : cells = M ∧ slots = S := by have hq := congrArg Prod.snd (Option.some.inj hf); rw [← hq] at hM hS0; have hM : s.heap.size + M = s16.1 := hM; have hS0 : sl0 + S = s16.2.1 := hS0; omega
          refine W.widen (k := M) (n := S) (Nat.le_of_eq hM1) (Nat.le_of_eq hS1) ?_
          exact W.zret (v := 0) hx hb hr rfl (fun t ht hW => ⟨⟨0, s16, rfl, Option.some.inj hf, z_at ht hH⟩, hS.F ht⟩) hS.2.2 dX0_backs_39
    · intro v0 v1 v2 τ H locs cells slots hH hS hcs hss hcM ls hl hf
      have hf : (dz_b (zob ζ τ v2 2) fun f3 => zcl τ (fnX2_hasNext K ζ v2 τ) fun x1 s2 => if x1 = (0 : Int32) then (dz_b (zob ζ s2 v0 0) fun f4 => dz_b (zvr (f4[0]?)) fun x5 => dz_b (zob ζ s2 x5 14) fun f8 => zcl s2 (fnJ2_size K ζ x5 s2) fun x6 s7 => if x6 = (60 : Int32) then (some (0, s7)) else (dz_b (zob ζ s7 v0 0) fun f11 => zcl s7 (fnX0_comes K ζ v0 v1 s7) fun _ s10 => some (1, s10))) else (dz_b (zob ζ s2 v2 2) fun f14 => zcl s2 (fnX2_next K ζ v2 s2) fun x12 s13 => dz_b (zob ζ s13 x12 11) fun f15 => dz_b (zob ζ s13 x12 11) fun f16 => dz_b (zvl (f16[0]?)) fun x17 => dz_b (zob ζ s13 v0 0) fun f20 => zcl s13 (B K ζ v0 x17 s13) fun x18 s19 => if x18 = (0 : Int32) then (some (0, s19)) else ((lfX0_backs B K ζ k).2 v0 v1 v2 s19)) : Option (Int32 × pH)) = some res := hf
      refine lv_aload_n hx hb dX0_backs_51 rfl (lv_at hl 2 rfl) ?_
      obtain ⟨f3, hf3, hf⟩ := dz_bo hf
      obtain ⟨x1, s2, hx1, hle, hck, hf⟩ := zcl_o hf
      have hc1 : cells + (s2.1 - τ.1) ≤ M := by omega
      have hs1 : slots + (s2.2.1 - τ.2.1) ≤ S := by omega
      refine va_callFi (va_runF (hX.K.1 2 _ rfl).2 (As := []) (rest := []) ⟨hx, hb, hml, hown, hts⟩ (mtX2_hasNext l D cA ζ τ v2 K (x1, s2) hx1 (s2.1 - τ.1) (s2.2.1 - τ.2.1) (Nat.add_sub_cancel' hle.1) (Nat.add_sub_cancel' hle.2)) (va_cwF 0 hts (zF_in q782 q267 q269 q91 q271) rfl rfl rfl (hX.F 0 rfl) (by decide +kernel) ⟨Nat.add_le_add_right (Nat.le_trans (Nat.le_of_ble_eq_true rfl : 0 ≤ 8) hFr) 1, Nat.le_trans (Nat.le_of_ble_eq_true rfl : _ ≤ 212) (Nat.le_trans hLo (Nat.le_add_right _ _))⟩) (z_preV hX hS hH (zob_o hf3) rfl) rfl rfl hl.1 rfl (lv_room (Nat.le_of_ble_eq_true rfl)) dX0_backs_52 ⟨hc1, hs1⟩) hS (fun q _ hq => hq) (fun q hq => hq) (fun r u t H1 locs ht hvm hw hB hz hk hS => ?_)
      obtain ⟨hw1, hw2⟩ := Prod.mk.inj hw.symm; subst hw1; subst hw2
      have hH : zH D cA ζ s2 H1 := z_at ht.symm hB
      have hcs : s.heap.size + (cells + (s2.1 - τ.1)) = s2.1 := by omega
      have hss : sl0 + (slots + (s2.2.1 - τ.2.1)) = s2.2.1 := by omega
      replace hcM := And.intro hc1 hs1
      generalize cells + (s2.1 - τ.1) = cells at hcs hcM ⊢; generalize slots + (s2.2.1 - τ.2.1) = slots at hss hcM ⊢
      clear hB hk hz hvm ht hle hck hc1 hs1; generalize H1 = H at hH hS ⊢
      refine lv_if_eq (tgt := 86) hx hb dX0_backs_57 (by decide) (fun c57 => ?_) (fun c57 => ?_)
      · have hf := dz_t c57 hf
        refine lv_aload_n hx hb dX0_backs_86 rfl (lv_at hl 0 rfl) ?_
        obtain ⟨f4, hf4, hf⟩ := dz_bo hf
        obtain ⟨x5, hx5, hf⟩ := dz_bo hf
        refine va_get (C := RX0) (T := TX0) (N := 7) hx hb hts in_X0 hown hX.K (zrd_P hX hS hH (zob_o hf4)) 0 rfl rfl 0 (by decide) (hts _ q156) (fun _ hq => hq) (zvr_o hx5) dX0_backs_87 ?_
        obtain ⟨f8, hf8, hf⟩ := dz_bo hf
        obtain ⟨x6, s7, hx6, hle, hck, hf⟩ := zcl_o hf
        have hc1 : cells + (s7.1 - s2.1) ≤ M := by omega
        have hs1 : slots + (s7.2.1 - s2.2.1) ≤ S := by omega
        refine va_calli (va_runV (As := []) (rest := []) ⟨hx, hb, hml, hown, hts⟩ (mtJ2_size l D cA ζ s2 x5 K (x6, s7) hx6 (s7.1 - s2.1) (s7.2.1 - s2.2.1) (Nat.add_sub_cancel' hle.1) (Nat.add_sub_cancel' hle.2)) (cwV 0 hts (lw_V q200 q201 q202 q87 q203) rfl rfl rfl (by decide +kernel) ⟨Nat.add_le_add_right (Nat.le_trans (Nat.le_of_ble_eq_true rfl : 0 ≤ 8) hFr) 1, Nat.le_trans (Nat.le_of_ble_eq_true rfl : _ ≤ 212) (Nat.le_trans hLo (Nat.le_add_right _ _))⟩) (z_preV hX hS hH (zob_o hf8) rfl) rfl rfl hl.1 rfl (lv_room (Nat.le_of_ble_eq_true rfl)) dX0_backs_90 ⟨hc1, hs1⟩) hS (fun q _ hq => hq) (fun q hq => hq) (fun r u t H1 locs ht hvm hw hB hz hk hS => ?_)
        obtain ⟨hw1, hw2⟩ := Prod.mk.inj hw.symm; subst hw1; subst hw2
        have hH : zH D cA ζ s7 H1 := z_at ht.symm hB
        have hcs : s.heap.size + (cells + (s7.1 - s2.1)) = s7.1 := by omega
        have hss : sl0 + (slots + (s7.2.1 - s2.2.1)) = s7.2.1 := by omega
        replace hcM := And.intro hc1 hs1
        generalize cells + (s7.1 - s2.1) = cells at hcs hcM ⊢; generalize slots + (s7.2.1 - s2.2.1) = slots at hss hcM ⊢
        clear hB hk hz hvm ht hle hck hc1 hs1; generalize H1 = H at hH hS ⊢
        refine lv_bipush (v := 60) hx hb dX0_backs_93 (by decide) ?_
        refine lv_icmp_ne (tgt := 100) hx hb dX0_backs_95 (by decide) (fun c95 => ?_) (fun c95 => ?_)
        · have hf := dz_f c95 hf
          refine lv_aload_n hx hb dX0_backs_100 rfl (lv_at hl 0 rfl) ?_
          refine lv_aload_n hx hb dX0_backs_101 rfl (lv_at hl 1 rfl) ?_
          obtain ⟨f11, hf11, hf⟩ := dz_bo hf
          obtain ⟨x9, s10, hx9, hle, hck, hf⟩ := zcl_o hf
          have hc1 : cells + (s10.1 - s7.1) ≤ M := by omega
          have hs1 : slots + (s10.2.1 - s7.2.1) ≤ S := by omega
          refine va_callv (va_runV (As := [.ref v1]) (rest := []) ⟨hx, hb, hml, hown, hts⟩ (mtX0_comes l D cA ζ s7 v0 v1 K (x9, s10) hx9 (s10.1 - s7.1) (s10.2.1 - s7.2.1) (Nat.add_sub_cancel' hle.1) (Nat.add_sub_cancel' hle.2)) (cwV 1 hts (lw_V q790 q792 qs7 q84 q793) rfl rfl rfl (by decide +kernel) ⟨Nat.add_le_add_right (Nat.le_trans (Nat.le_of_ble_eq_true rfl : 7 ≤ 8) hFr) 1, Nat.le_trans (Nat.le_of_ble_eq_true rfl : _ ≤ 212) (Nat.le_trans hLo (Nat.le_add_right _ _))⟩) (z_preV hX hS hH (zob_o hf11) rfl) rfl rfl hl.1 rfl (lv_room (Nat.le_of_ble_eq_true rfl)) dX0_backs_102 ⟨hc1, hs1⟩) hS (fun q _ hq => hq) (fun q hq => hq) (fun u t H1 locs ht hvm hw hB hz hk hS => ?_)
          obtain ⟨-, hw2⟩ := Prod.mk.inj hw.symm; subst hw2
          have hH : zH D cA ζ s10 H1 := z_at ht.symm hB
          have hcs : s.heap.size + (cells + (s10.1 - s7.1)) = s10.1 := by omega
          have hss : sl0 + (slots + (s10.2.1 - s7.2.1)) = s10.2.1 := by omega
          replace hcM := And.intro hc1 hs1
          generalize cells + (s10.1 - s7.1) = cells at hcs hcM ⊢; generalize slots + (s10.2.1 - s7.2.1) = slots at hss hcM ⊢
          clear hB hk hz hvm ht hle hck hc1 hs1; generalize H1 = H at hH hS ⊢
          refine lv_iconst (v := 1) hx hb dX0_backs_105 (by decide) ?_
          obtain ⟨hM1, hS1⟩ : cells = M ∧ slots = S := by have hq := congrArg Prod.snd (Option.some.inj hf); rw [← hq] at hM hS0; have hM : s.heap.size + M = s10.1 := hM; have hS0 : sl0 + S = s10.2.1 := hS0; omega
          refine W.widen (k := M) (n := S) (Nat.le_of_eq hM1) (Nat.le_of_eq hS1) ?_
          exact W.zret (v := 1) hx hb hr rfl (fun t ht hW => ⟨⟨1, s10, rfl, Option.some.inj hf, z_at ht hH⟩, hS.F ht⟩) hS.2.2 dX0_backs_106
        · have hf := dz_t c95 hf
          refine lv_iconst (v := 0) hx hb dX0_backs_98 (by decide) ?_
          obtain ⟨hM1, hS1⟩ : cells = M ∧ slots = S := by have hq := congrArg Prod.snd (Option.some.inj hf); rw [← hq] at hM hS0; have hM : s.heap.size + M = s7.1 := hM; have hS0 : sl0 + S = s7.2.1 := hS0; omega
          refine W.widen (k := M) (n := S) (Nat.le_of_eq hM1) (Nat.le_of_eq hS1) ?_
          exact W.zret (v := 0) hx hb hr rfl (fun t ht hW => ⟨⟨0, s7, rfl, Option.some.inj hf, z_at ht hH⟩, hS.F ht⟩) hS.2.2 dX0_backs_99
      · have hf := dz_f c57 hf
        refine lv_aload_n hx hb dX0_backs_60 rfl (lv_at hl 2 rfl) ?_
        obtain ⟨f14, hf14, hf⟩ := dz_bo hf
        obtain ⟨x12, s13, hx12, hle, hck, hf⟩ := zcl_o hf
        have hc1 : cells + (s13.1 - s2.1) ≤ M := by omega
        have hs1 : slots + (s13.2.1 - s2.2.1) ≤ S := by omega
        refine va_callFr (va_runF (hX.K.1 2 _ rfl).2 (As := []) (rest := []) ⟨hx, hb, hml, hown, hts⟩ (mtX2_next l D cA ζ s2 v2 K (x12, s13) hx12 (s13.1 - s2.1) (s13.2.1 - s2.2.1) (Nat.add_sub_cancel' hle.1) (Nat.add_sub_cancel' hle.2)) (va_cwF 0 hts (zF_in q784 q282 q284 q91 q286) rfl rfl rfl (hX.F 1 rfl) (by decide +kernel) ⟨Nat.add_le_add_right (Nat.le_trans (Nat.le_of_ble_eq_true rfl : 1 ≤ 8) hFr) 1, Nat.le_trans (Nat.le_of_ble_eq_true rfl : _ ≤ 212) (Nat.le_trans hLo (Nat.le_add_right _ _))⟩) (z_preV hX hS hH (zob_o hf14) rfl) rfl rfl hl.1 rfl (lv_room (Nat.le_of_ble_eq_true rfl)) dX0_backs_61 ⟨hc1, hs1⟩) hS (fun q _ hq => hq) (fun q hq => hq) (fun u r t H1 locs ht hvm hw hB hz hk hS => ?_)
        obtain ⟨hw, hB⟩ := hB
        obtain ⟨hw1, hw2⟩ := Prod.mk.inj hw.symm; subst hw1; subst hw2
        have hH : zH D cA ζ s13 H1 := z_at ht.symm hB
        have hcs : s.heap.size + (cells + (s13.1 - s2.1)) = s13.1 := by omega
        have hss : sl0 + (slots + (s13.2.1 - s2.2.1)) = s13.2.1 := by omega
        replace hcM := And.intro hc1 hs1
        generalize cells + (s13.1 - s2.1) = cells at hcs hcM ⊢; generalize slots + (s13.2.1 - s2.2.1) = slots at hss hcM ⊢
        clear hB hk hz hvm ht hle hck hc1 hs1; generalize H1 = H at hH hS ⊢
        obtain ⟨f15, hf15, hf⟩ := dz_bo hf
        refine va_castS (nm := RX13) hx hb hown (hts _ q677) (hX.K.1 11 _ rfl).2 (va_recv hX.K (zrd_P hX hS hH (zob_o hf15)) (ci := 11) (q0 := 0) rfl rfl) dX0_backs_66 ?_
        refine lv_astore_n (lv' := [(3, .ref x12), (0, .ref v0), (1, .ref v1), (2, .ref v2)]) hx hb dX0_backs_69 rfl hl (by decide) rfl (fun ls hl => ?_)
        refine lv_aload_n hx hb dX0_backs_70 rfl (lv_at hl 1 rfl) ?_
        refine lv_aload_n hx hb dX0_backs_71 rfl (lv_at hl 0 rfl) ?_
        obtain ⟨f16, hf16, hf⟩ := dz_bo hf
        obtain ⟨x17, hx17, hf⟩ := dz_bo hf
        refine va_get (C := RX13) (T := TX13) (N := 3) hx hb hts in_X13 hown hX.K (zrd_P hX hS hH (zob_o hf16)) 0 rfl rfl 0 (by decide) (hts _ q686) (fun _ hq => hq) (zvl_o hx17) dX0_backs_72 ?_
        obtain ⟨f20, hf20, hf⟩ := dz_bo hf
        obtain ⟨x18, s19, hx18, hle, hck, hf⟩ := zcl_o hf
        have hc1 : cells + (s19.1 - s13.1) ≤ M := by omega
        have hs1 : slots + (s19.2.1 - s13.2.1) ≤ S := by omega
        refine va_calli (va_runV (As := [.long x17]) (rest := []) ⟨hx, hb, hml, hown, hts⟩ (hB l D cA ζ s13 v0 x17 K (x18, s19) hx18 (s19.1 - s13.1) (s19.2.1 - s13.2.1) (Nat.add_sub_cancel' hle.1) (Nat.add_sub_cancel' hle.2)) (cwV 1 hts (lw_V q785 q787 qs6 q84 q788) rfl rfl rfl (by decide +kernel) ⟨Nat.le_refl _, (by show 8 + (4 + 11) + Lo ≤ Lo + 40; omega)⟩) (z_preV hX hS hH (zob_o hf20) rfl) rfl rfl hl.1 rfl (lv_room (Nat.le_of_ble_eq_true rfl)) dX0_backs_75 ⟨hc1, hs1⟩) hS (fun q _ hq => hq) (fun q hq => hq) (fun r u t H1 locs ht hvm hw hB hz hk hS => ?_)
        obtain ⟨hw1, hw2⟩ := Prod.mk.inj hw.symm; subst hw1; subst hw2
        have hH : zH D cA ζ s19 H1 := z_at ht.symm hB
        have hcs : s.heap.size + (cells + (s19.1 - s13.1)) = s19.1 := by omega
        have hss : sl0 + (slots + (s19.2.1 - s13.2.1)) = s19.2.1 := by omega
        replace hcM := And.intro hc1 hs1
        generalize cells + (s19.1 - s13.1) = cells at hcs hcM ⊢; generalize slots + (s19.2.1 - s13.2.1) = slots at hss hcM ⊢
        clear hB hk hz hvm ht hle hck hc1 hs1; generalize H1 = H at hH hS ⊢
        refine lv_if_ne (tgt := 83) hx hb dX0_backs_78 (by decide) (fun c78 => ?_) (fun c78 => ?_)
        · have hf := dz_f c78 hf
          refine lv_goto (tgt := 51) hx hb dX0_backs_83 (by decide) ?_
          exact ih.2 v0 v1 v2 s19 H locs cells slots hH hS hcs hss hcM ls (lv_sub hl [1, 2, 3] rfl) hf
        · have hf := dz_t c78 hf
          refine lv_iconst (v := 0) hx hb dX0_backs_81 (by decide) ?_
          obtain ⟨hM1, hS1⟩ : cells = M ∧ slots = S := by have hq := congrArg Prod.snd (Option.some.inj hf); rw [← hq] at hM hS0; have hM : s.heap.size + M = s19.1 := hM; have hS0 : sl0 + S = s19.2.1 := hS0; omega
          refine W.widen (k := M) (n := S) (Nat.le_of_eq hM1) (Nat.le_of_eq hS1) ?_
          exact W.zret (v := 0) hx hb hr rfl (fun t ht hW => ⟨⟨0, s19, rfl, Option.some.inj hf, z_at ht hH⟩, hS.F ht⟩) hS.2.2 dX0_backs_82
set_option maxHeartbeats 4000000 in
set_option maxRecDepth 100000 in
theorem moX0_backs (B : Nat → pZ → Nat → Int64 → pH → Option (Int32 × pH)) (Fr Lo : Nat) (hB : ∀ (l : Launch) (D : va_G) (cA : Nat → ClassId) (ζ : pZ) (τ : pH) (h : Nat) (a0 : Int64) (K : Nat) (res : (Int32 × pH)), B K ζ h a0 τ = some res → ∀ (M S : Nat), τ.1 + M = res.2.1 → τ.2.1 + S = res.2.2.1 → Met l yX0_backsFor (ws_ yX0_backsFor cX0_backsFor 4 (some .boolean)) ({ frames := Fr, cells := M, slots := S, locals := Lo }) (zPc D cA ζ τ [.ref h, .long a0]) (zQi D cA ζ res) M S (zA ζ)) (hFr : 8 ≤ Fr) (hLo : 212 ≤ Lo) (l : Launch) (D : va_G) (cA : Nat → ClassId) (ζ : pZ) (τ : pH) (h : Nat) (a0 : Nat) (K : Nat) (res : (Int32 × pH)) (hf : foX0_backs B K ζ h a0 τ = some res) (M S : Nat) (hM : τ.1 + M = res.2.1) (hS0 : τ.2.1 + S = res.2.2.1) : Met l yX0_backs (ws_ yX0_backs cX0_backs 4 (some .boolean)) ({ frames := Fr + 1, cells := M, slots := S, locals := Lo + 40 }) (zPc D cA ζ τ [.ref h, .ref a0]) (zQi D cA ζ res) M S (zA ζ) := by
  refine Met.ofW (cc := cX0_backs) (maxL := 4) (ret := some .boolean) (by decide +kernel) rfl ?_
  intro p e s m args below meth c s₁ Bo hml hv
  obtain ⟨rfl, hX, hH⟩ := hv
  have hx := Bo.exec
  have hb := Bo.bytes
  have hr := Bo.returns
  have hts := atoms_spec (ws := ws_ yX0_backs cX0_backs 4 (some .boolean)) Bo.pre
  have hts : ∀ w ∈ lw_all, w.before _ s = true := fun w h => hts w (List.mem_cons_of_mem _ h)
  have hown : s.vm.findClass RX0 = some m.cls := findClass_of_methodNamed Bo.named
  have hlocks := Bo.notSynchronized
  have hM : s.heap.size + M = res.2.1 := by rw [hH.1]; exact hM
  have hcs : s.heap.size + 0 = τ.1 := hH.1
  have hss : τ.2.1 + 0 = τ.2.1 := rfl
  generalize hsl0 : τ.2.1 = sl0 at hS0 hss
  have hss : sl0 + 0 = τ.2.1 := by rw [hsl0]; rfl
  have hS : va_S (zA ζ) s.heap s.heap [] := va_S.rf
  generalize hHe : s.heap = H at hH hS ⊢
  have hS : va_S (zA ζ) s.heap H [] := by rw [hHe]; exact hS
  generalize ([] : List Loc) = locs at hS ⊢
  have hl := lv_entry ([.ref h, .ref a0]) (n := 4) (Nat.le_of_ble_eq_true rfl)
  rw [lg_entry_eq]
  generalize (lg_sl ([.ref h, .ref a0]) ++ List.replicate (4 - (lg_sl ([.ref h, .ref a0])).length) Slot.unset).toArray = ls at hl ⊢
  have hl : lv_has ls 4 [(0, .ref h), (1, .ref a0)] := hl
  have hf : (dz_c (zoL ζ τ a0) fun cf1 f1 => dz_b (zvr (f1[4]?)) fun x2 => dz_b (zob ζ τ x2 10) fun f5 => zcl τ (fnX8_iterator K ζ x2 τ) fun x3 s4 => (lfX0_backs B K ζ K).1 h a0 x3 s4 : Option (Int32 × pH)) = some res := hf
  refine z_gen (fun cells slots hc0 hs0 => ?_)
  have hcs : s.heap.size + cells = τ.1 := by rw [hc0]; exact hcs
  have hss : sl0 + slots = τ.2.1 := by rw [hs0]; exact hss
  have hcM : cells ≤ M ∧ slots ≤ S := by rw [hc0, hs0]; exact ⟨Nat.zero_le _, Nat.zero_le _⟩
  clear hc0 hs0
  have ih := wlX0_backs (l := l) (e := e) (below := below) (D := D) (cA := cA) B Fr Lo hB hFr hLo hX K res M S sl0 hM hS0 h a0 hx hb hr hlocks hml hown hts K
  refine lv_aload_n hx hb dX0_backs_0 rfl (lv_at hl 1 rfl) ?_
  obtain ⟨cf1, f1, hcf1, hf⟩ := dz_co hf
  obtain ⟨x2, hx2, hf⟩ := dz_bo hf
  obtain ⟨hr_f1, hc_f1⟩ := zoL_o hcf1
  refine zL_get4 hx hb hts hown hX hS hH hr_f1 hc_f1 (hts _ q558) (zvr_o hx2) dX0_backs_1 ?_
  obtain ⟨f5, hf5, hf⟩ := dz_bo hf
  obtain ⟨x3, s4, hx3, hle, hck, hf⟩ := zcl_o hf
  have hc1 : cells + (s4.1 - τ.1) ≤ M := by omega
  have hs1 : slots + (s4.2.1 - τ.2.1) ≤ S := by omega
  refine va_callr (va_runV (As := []) (rest := []) ⟨hx, hb, hml, hown, hts⟩ (mtX8_iterator l D cA ζ τ x2 K (x3, s4) hx3 (s4.1 - τ.1) (s4.2.1 - τ.2.1) (Nat.add_sub_cancel' hle.1) (Nat.add_sub_cancel' hle.2)) (cwV 0 hts (lw_V q780 q246 q247 q98 q248) rfl rfl rfl (by decide +kernel) ⟨Nat.add_le_add_right (Nat.le_trans (Nat.le_of_ble_eq_true rfl : 2 ≤ 8) hFr) 1, Nat.le_trans (Nat.le_of_ble_eq_true rfl : _ ≤ 212) (Nat.le_trans hLo (Nat.le_add_right _ _))⟩) (z_preV hX hS hH (zob_o hf5) rfl) rfl rfl hl.1 rfl (lv_room (Nat.le_of_ble_eq_true rfl)) dX0_backs_4 ⟨hc1, hs1⟩) hS (fun q _ hq => hq) (fun q hq => hq) (fun u r t H1 locs ht hvm hw hB hz hk hS => ?_)
  obtain ⟨hw, hB⟩ := hB
  obtain ⟨hw1, hw2⟩ := Prod.mk.inj hw.symm; subst hw1; subst hw2
  have hH : zH D cA ζ s4 H1 := z_at ht.symm hB
  have hcs : s.heap.size + (cells + (s4.1 - τ.1)) = s4.1 := by omega
  have hss : sl0 + (slots + (s4.2.1 - τ.2.1)) = s4.2.1 := by omega
  replace hcM := And.intro hc1 hs1
  generalize cells + (s4.1 - τ.1) = cells at hcs hcM ⊢; generalize slots + (s4.2.1 - τ.2.1) = slots at hss hcM ⊢
  clear hB hk hz hvm ht hle hck hc1 hs1; generalize H1 = H at hH hS ⊢
  refine lv_astore_n (lv' := [(2, .ref x3), (0, .ref h), (1, .ref a0)]) hx hb dX0_backs_7 rfl hl (by decide) rfl (fun ls hl => ?_)
  exact ih.1 h a0 x3 s4 H locs cells slots hH hS hcs hss hcM ls (lv_sub hl [1, 2, 0] rfl) hf

noncomputable def fdX0_backs : Nat → Nat → pZ → Nat → Nat → pH → Option (Int32 × pH) := Nat.rec (motive := fun _ => Nat → pZ → Nat → Nat → pH → Option (Int32 × pH)) (fun _ _ _ _ _ => none) (fun _ B => foX0_backs (foX0_backsFor B))
theorem mdX0_backs (d : Nat) : ∀ (l : Launch) (D : va_G) (cA : Nat → ClassId) (ζ : pZ) (τ : pH) (h : Nat) (a0 : Nat) (K : Nat) (res : (Int32 × pH)), fdX0_backs d K ζ h a0 τ = some res → ∀ (M S : Nat), τ.1 + M = res.2.1 → τ.2.1 + S = res.2.2.1 → Met l yX0_backs (ws_ yX0_backs cX0_backs 4 (some .boolean)) ({ frames := 105 + 2 * d, cells := M, slots := S, locals := 2419 + 80 * d }) (zPc D cA ζ τ [.ref h, .ref a0]) (zQi D cA ζ res) M S (zA ζ) := by
  induction d with
  | zero => intro l D cA ζ τ h a0 K res hf; cases hf
  | succ d ih =>
    intro l D cA ζ τ h a0 K res hf M S hM hS
    exact moX0_backs (foX0_backsFor (fdX0_backs d)) (105 + 2 * d + 1) (2419 + 80 * d + 40) (moX0_backsFor (fdX0_backs d) (105 + 2 * d) (2419 + 80 * d) ih (by omega) (by omega)) (by omega) (by omega) l D cA ζ τ h a0 K res hf M S hM hS
noncomputable def fnX0_backs (K : Nat) (ζ : pZ) (h : Nat) (a0 : Nat) (τ : pH) : Option (Int32 × pH) := fdX0_backs 64 K ζ h a0 τ
theorem mtX0_backs (l : Launch) (D : va_G) (cA : Nat → ClassId) (ζ : pZ) (τ : pH) (h : Nat) (a0 : Nat) (K : Nat) (res : (Int32 × pH)) (hf : fnX0_backs K ζ h a0 τ = some res) (M S : Nat) (hM : τ.1 + M = res.2.1) (hS0 : τ.2.1 + S = res.2.2.1) : Met l yX0_backs (ws_ yX0_backs cX0_backs 4 (some .boolean)) ({ frames := 233, cells := M, slots := S, locals := 7539 }) (zPc D cA ζ τ [.ref h, .ref a0]) (zQi D cA ζ res) M S (zA ζ) := mdX0_backs 64 l D cA ζ τ h a0 K res hf M S hM hS0

noncomputable def fnX0_find (K : Nat) (ζ : pZ) (h : Nat) (a0 : Int32) (a1 : Int32) (τ : pH) : Option (Int32 × pH) := dz_b (fnX0_isIn K (Int32.toInt64 a1) 0 4) fun x1 => if x1 = (0 : Int32) then (some ((-1), τ)) else (dz_b (fnX0_isNumber K (Int32.toInt64 a0)) fun x2 => if x2 = (0 : Int32) then (some ((-1), τ)) else (dz_b (zob ζ τ h 0) fun f5 => zcl τ (fnX0_findRight K ζ h (Int32.toInt64 a0) a1 τ) fun x3 s4 => if x3 < (0 : Int32) then (dz_b (zob ζ s4 h 0) fun f8 => zcl s4 (fnX0_made K ζ h (Int32.toInt64 a0) a1 s4) fun x6 s7 => dz_b (fnX0_canBe K (Int32.toInt64 a0) a1) fun x9 => if x9 = (0 : Int32) then (some ((-2), s7)) else (zcl s7 (fnL_isFound K ζ x6 s7) fun x10 s11 => if x10 = (0 : Int32) then (some ((-2), s11)) else (dz_b (zob ζ s11 h 0) fun f12 => dz_b (zvr (f12[0]?)) fun x13 => dz_b (zob ζ s11 x13 14) fun f16 => zcl s11 (fnJ2_size K ζ x13 s11) fun x14 s15 => dz_b (zob ζ s15 h 0) fun f19 => zcl s15 (fnX0_backs K ζ h x6 s15) fun x17 s18 => if x17 = (0 : Int32) then (dz_b (zob ζ s18 h 0) fun f22 => zcl s18 (fnX0_goesBack K ζ h x14 s18) fun _ s21 => some ((-3), s21)) else (dz_b (zob ζ s18 h 0) fun f23 => dz_b (zvr (f23[0]?)) fun x24 => dz_b (zob ζ s18 x24 14) fun f27 => zcl s18 (fnJ2_size K ζ x24 s18) fun x25 s26 => dz_l (x25 - 1) fun x28 => some (x28, s26))))) else (some (x3, s4))))
set_option maxHeartbeats 4000000 in
set_option maxRecDepth 100000 in
theorem mtX0_find (l : Launch) (D : va_G) (cA : Nat → ClassId) (ζ : pZ) (τ : pH) (h : Nat) (a0 : Int32) (a1 : Int32) (K : Nat) (res : (Int32 × pH)) (hf : fnX0_find K ζ h a0 a1 τ = some res) (M S : Nat) (hM : τ.1 + M = res.2.1) (hS0 : τ.2.1 + S = res.2.2.1) : Met l yX0_find (ws_ yX0_find cX0_find 6 (some .int)) ({ frames := 234, cells := M, slots := S, locals := 7562 }) (zPc D cA ζ τ [.ref h, .int a0, .int a1]) (zQi D cA ζ res) M S (zA ζ) := by
  refine Met.ofW (cc := cX0_find) (maxL := 6) (ret := some .int) (by decide +kernel) rfl ?_
  intro p e s m args below meth c s₁ B hml hv
  obtain ⟨rfl, hX, hH⟩ := hv
  have hx := B.exec
  have hb := B.bytes
  have hr := B.returns
  have hts := atoms_spec (ws := ws_ yX0_find cX0_find 6 (some .int)) B.pre
  have hts : ∀ w ∈ lw_all, w.before _ s = true := fun w h => hts w (List.mem_cons_of_mem _ h)
  have hown : s.vm.findClass RX0 = some m.cls := findClass_of_methodNamed B.named
  have hlocks := B.notSynchronized
  have hM : s.heap.size + M = res.2.1 := by rw [hH.1]; exact hM
  have hcs : s.heap.size + 0 = τ.1 := hH.1
  have hss : τ.2.1 + 0 = τ.2.1 := rfl
  generalize hsl0 : τ.2.1 = sl0 at hS0 hss
  have hss : sl0 + 0 = τ.2.1 := by rw [hsl0]; rfl
  have hS : va_S (zA ζ) s.heap s.heap [] := va_S.rf
  generalize hHe : s.heap = H at hH hS ⊢
  have hS : va_S (zA ζ) s.heap H [] := by rw [hHe]; exact hS
  generalize ([] : List Loc) = locs at hS ⊢
  have hl := lv_entry ([.ref h, .int a0, .int a1]) (n := 6) (Nat.le_of_ble_eq_true rfl)
  rw [lg_entry_eq]
  generalize (lg_sl ([.ref h, .int a0, .int a1]) ++ List.replicate (6 - (lg_sl ([.ref h, .int a0, .int a1])).length) Slot.unset).toArray = ls at hl ⊢
  have hl : lv_has ls 6 [(0, .ref h), (1, .int a0), (2, .int a1)] := hl
  have hf : (dz_b (fnX0_isIn K (Int32.toInt64 a1) 0 4) fun x1 => if x1 = (0 : Int32) then (some ((-1), τ)) else (dz_b (fnX0_isNumber K (Int32.toInt64 a0)) fun x2 => if x2 = (0 : Int32) then (some ((-1), τ)) else (dz_b (zob ζ τ h 0) fun f5 => zcl τ (fnX0_findRight K ζ h (Int32.toInt64 a0) a1 τ) fun x3 s4 => if x3 < (0 : Int32) then (dz_b (zob ζ s4 h 0) fun f8 => zcl s4 (fnX0_made K ζ h (Int32.toInt64 a0) a1 s4) fun x6 s7 => dz_b (fnX0_canBe K (Int32.toInt64 a0) a1) fun x9 => if x9 = (0 : Int32) then (some ((-2), s7)) else (zcl s7 (fnL_isFound K ζ x6 s7) fun x10 s11 => if x10 = (0 : Int32) then (some ((-2), s11)) else (dz_b (zob ζ s11 h 0) fun f12 => dz_b (zvr (f12[0]?)) fun x13 => dz_b (zob ζ s11 x13 14) fun f16 => zcl s11 (fnJ2_size K ζ x13 s11) fun x14 s15 => dz_b (zob ζ s15 h 0) fun f19 => zcl s15 (fnX0_backs K ζ h x6 s15) fun x17 s18 => if x17 = (0 : Int32) then (dz_b (zob ζ s18 h 0) fun f22 => zcl s18 (fnX0_goesBack K ζ h x14 s18) fun _ s21 => some ((-3), s21)) else (dz_b (zob ζ s18 h 0) fun f23 => dz_b (zvr (f23[0]?)) fun x24 => dz_b (zob ζ s18 x24 14) fun f27 => zcl s18 (fnJ2_size K ζ x24 s18) fun x25 s26 => dz_l (x25 - 1) fun x28 => some (x28, s26))))) else (some (x3, s4)))) : Option (Int32 × pH)) = some res := hf
  refine z_gen (fun cells slots hc0 hs0 => ?_)
  have hcs : s.heap.size + cells = τ.1 := by rw [hc0]; exact hcs
  have hss : sl0 + slots = τ.2.1 := by rw [hs0]; exact hss
  have hcM : cells ≤ M ∧ slots ≤ S := by rw [hc0, hs0]; exact ⟨Nat.zero_le _, Nat.zero_le _⟩
  clear hc0 hs0
  refine lv_iload_n hx hb dX0_find_0 rfl (lv_at hl 2 rfl) ?_
  refine lv_i2l hx hb dX0_find_1 (rfl : _ = Int32.toInt64 a1) ?_
  refine lv_lconst (v := 0) hx hb dX0_find_2 rfl ?_
  refine lv_ldc2 (v := 4) hx hb hown (hts _ q187) dX0_find_3 ?_
  obtain ⟨x1, hx1, hf⟩ := dz_bo hf
  refine va_calli (va_runS (As := [.long (Int32.toInt64 a1), .long 0, .long 4]) (rest := []) ⟨hx, hb, hml, hown, hts⟩ (mtX0_isIn l (Int32.toInt64 a1) 0 4 K x1 hx1) (va_cwS 3 hts (lw_S q188 q189 q84 q190) rfl rfl rfl (by decide +kernel) ⟨Nat.le_of_ble_eq_true rfl, Nat.le_of_ble_eq_true rfl⟩) ⟨fun a U g mk q => q, fun U hU hW => ⟨rfl, trivial⟩⟩ rfl rfl hl.1 rfl (lv_room (Nat.le_of_ble_eq_true rfl)) dX0_find_6 ⟨hcM.1, hcM.2⟩) hS (fun q _ hq => hq.elim) (fun q hq => hq.elim) (fun r u t H1 locs ht hvm hw hB hz hk hS => dz_size (fun hz9 => ?_))
  replace hw := hw.symm; subst hw
  replace hH := zH_keep hH hcs hz hk hz9
  clear hB hk hz hvm ht hz9; generalize H1 = H at hH hS ⊢
  refine W.widen (k := cells) (n := slots) (Nat.le_refl _) (Nat.le_refl _) ?_
  refine lv_if_eq (tgt := 20) hx hb dX0_find_9 (by decide) (fun c9 => ?_) (fun c9 => ?_)
  · have hf := dz_t c9 hf
    refine lv_iconst (v := (-1)) hx hb dX0_find_20 (by decide) ?_
    obtain ⟨hM1, hS1⟩ : cells = M ∧ slots = S := by have hq := congrArg Prod.snd (Option.some.inj hf); rw [← hq] at hM hS0; have hM : s.heap.size + M = τ.1 := hM; have hS0 : sl0 + S = τ.2.1 := hS0; omega
    refine W.widen (k := M) (n := S) (Nat.le_of_eq hM1) (Nat.le_of_eq hS1) ?_
    exact W.iret (v := (-1)) hx hb hr (fun t ht hW => ⟨⟨(-1), τ, rfl, Option.some.inj hf, z_at ht hH⟩, hS.F ht⟩) hS.2.2 dX0_find_21
  · have hf := dz_f c9 hf
    refine lv_iload_n hx hb dX0_find_12 rfl (lv_at hl 1 rfl) ?_
    refine lv_i2l hx hb dX0_find_13 (rfl : _ = Int32.toInt64 a0) ?_
    obtain ⟨x2, hx2, hf⟩ := dz_bo hf
    refine va_calli (va_runS (As := [.long (Int32.toInt64 a0)]) (rest := []) ⟨hx, hb, hml, hown, hts⟩ (mtX0_isNumber l (Int32.toInt64 a0) K x2 hx2) (va_cwS 1 hts (lw_S q191 q192 q84 q193) rfl rfl rfl (by decide +kernel) ⟨Nat.le_of_ble_eq_true rfl, Nat.le_of_ble_eq_true rfl⟩) ⟨fun a U g mk q => q, fun U hU hW => ⟨rfl, trivial⟩⟩ rfl rfl hl.1 rfl (lv_room (Nat.le_of_ble_eq_true rfl)) dX0_find_14 ⟨hcM.1, hcM.2⟩) hS (fun q _ hq => hq.elim) (fun q hq => hq.elim) (fun r u t H1 locs ht hvm hw hB hz hk hS => dz_size (fun hz9 => ?_))
    replace hw := hw.symm; subst hw
    replace hH := zH_keep hH hcs hz hk hz9
    clear hB hk hz hvm ht hz9; generalize H1 = H at hH hS ⊢
    refine W.widen (k := cells) (n := slots) (Nat.le_refl _) (Nat.le_refl _) ?_
    refine lv_if_ne (tgt := 22) hx hb dX0_find_17 (by decide) (fun c17 => ?_) (fun c17 => ?_)
    · have hf := dz_f c17 hf
      refine lv_aload_n hx hb dX0_find_22 rfl (lv_at hl 0 rfl) ?_
      refine lv_iload_n hx hb dX0_find_23 rfl (lv_at hl 1 rfl) ?_
      refine lv_i2l hx hb dX0_find_24 (rfl : _ = Int32.toInt64 a0) ?_
      refine lv_iload_n hx hb dX0_find_25 rfl (lv_at hl 2 rfl) ?_
      obtain ⟨f5, hf5, hf⟩ := dz_bo hf
      obtain ⟨x3, s4, hx3, hle, hck, hf⟩ := zcl_o hf
      have hc1 : cells + (s4.1 - τ.1) ≤ M := by omega
      have hs1 : slots + (s4.2.1 - τ.2.1) ≤ S := by omega
      refine va_calli (va_runV (As := [.long (Int32.toInt64 a0), .int a1]) (rest := []) ⟨hx, hb, hml, hown, hts⟩ (mtX0_findRight l D cA ζ τ h (Int32.toInt64 a0) a1 K (x3, s4) hx3 (s4.1 - τ.1) (s4.2.1 - τ.2.1) (Nat.add_sub_cancel' hle.1) (Nat.add_sub_cancel' hle.2)) (cwV 2 hts (lw_V q196 q198 qs0 q84 q199) rfl rfl rfl (by decide +kernel) ⟨Nat.le_of_ble_eq_true rfl, Nat.le_of_ble_eq_true rfl⟩) (z_preV hX hS hH (zob_o hf5) rfl) rfl rfl hl.1 rfl (lv_room (Nat.le_of_ble_eq_true rfl)) dX0_find_26 ⟨hc1, hs1⟩) hS (fun q _ hq => hq) (fun q hq => hq) (fun r u t H1 locs ht hvm hw hB hz hk hS => ?_)
      obtain ⟨hw1, hw2⟩ := Prod.mk.inj hw.symm; subst hw1; subst hw2
      have hH : zH D cA ζ s4 H1 := z_at ht.symm hB
      have hcs : s.heap.size + (cells + (s4.1 - τ.1)) = s4.1 := by omega
      have hss : sl0 + (slots + (s4.2.1 - τ.2.1)) = s4.2.1 := by omega
      replace hcM := And.intro hc1 hs1
      generalize cells + (s4.1 - τ.1) = cells at hcs hcM ⊢; generalize slots + (s4.2.1 - τ.2.1) = slots at hss hcM ⊢
      clear hB hk hz hvm ht hle hck hc1 hs1; generalize H1 = H at hH hS ⊢
      refine lv_istore_n (lv' := [(3, .int x3), (0, .ref h), (1, .int a0), (2, .int a1)]) hx hb dX0_find_29 rfl hl (by decide) rfl (fun ls hl => ?_)
      refine lv_iload_n hx hb dX0_find_30 rfl (lv_at hl 0 rfl) ?_
      refine lv_if_lt (tgt := 36) hx hb dX0_find_31 (by decide) (fun c31 => ?_) (fun c31 => ?_)
      · have hf := dz_t c31 hf
        refine lv_aload_n hx hb dX0_find_36 rfl (lv_at hl 1 rfl) ?_
        refine lv_iload_n hx hb dX0_find_37 rfl (lv_at hl 2 rfl) ?_
        refine lv_i2l hx hb dX0_find_38 (rfl : _ = Int32.toInt64 a0) ?_
        refine lv_iload_n hx hb dX0_find_39 rfl (lv_at hl 3 rfl) ?_
        obtain ⟨f8, hf8, hf⟩ := dz_bo hf
        obtain ⟨x6, s7, hx6, hle, hck, hf⟩ := zcl_o hf
        have hc1 : cells + (s7.1 - s4.1) ≤ M := by omega
        have hs1 : slots + (s7.2.1 - s4.2.1) ≤ S := by omega
        refine va_callr (va_runV (As := [.long (Int32.toInt64 a0), .int a1]) (rest := []) ⟨hx, hb, hml, hown, hts⟩ (mtX0_made l D cA ζ s4 h (Int32.toInt64 a0) a1 K (x6, s7) hx6 (s7.1 - s4.1) (s7.2.1 - s4.2.1) (Nat.add_sub_cancel' hle.1) (Nat.add_sub_cancel' hle.2)) (cwV 2 hts (lw_V q495 q497 qs4 q84 q498) rfl rfl rfl (by decide +kernel) ⟨Nat.le_of_ble_eq_true rfl, Nat.le_of_ble_eq_true rfl⟩) (z_preV hX hS hH (zob_o hf8) rfl) rfl rfl hl.1 rfl (lv_room (Nat.le_of_ble_eq_true rfl)) dX0_find_40 ⟨hc1, hs1⟩) hS (fun q _ hq => hq) (fun q hq => hq) (fun u r t H1 locs ht hvm hw hB hz hk hS => ?_)
        obtain ⟨hw, hB⟩ := hB
        obtain ⟨hw1, hw2⟩ := Prod.mk.inj hw.symm; subst hw1; subst hw2
        have hH : zH D cA ζ s7 H1 := z_at ht.symm hB
        have hcs : s.heap.size + (cells + (s7.1 - s4.1)) = s7.1 := by omega
        have hss : sl0 + (slots + (s7.2.1 - s4.2.1)) = s7.2.1 := by omega
        replace hcM := And.intro hc1 hs1
        generalize cells + (s7.1 - s4.1) = cells at hcs hcM ⊢; generalize slots + (s7.2.1 - s4.2.1) = slots at hss hcM ⊢
        clear hB hk hz hvm ht hle hck hc1 hs1; generalize H1 = H at hH hS ⊢
        refine lv_astore (lv' := [(4, .ref x6), (3, .int x3), (0, .ref h), (1, .int a0), (2, .int a1)]) hx hb dX0_find_43 hl (by decide) rfl (fun ls hl => ?_)
        refine lv_iload_n hx hb dX0_find_45 rfl (lv_at hl 3 rfl) ?_
        refine lv_i2l hx hb dX0_find_46 (rfl : _ = Int32.toInt64 a0) ?_
        refine lv_iload_n hx hb dX0_find_47 rfl (lv_at hl 4 rfl) ?_
        obtain ⟨x9, hx9, hf⟩ := dz_bo hf
        refine va_calli (va_runS (As := [.long (Int32.toInt64 a0), .int a1]) (rest := []) ⟨hx, hb, hml, hown, hts⟩ (mtX0_canBe l (Int32.toInt64 a0) a1 K x9 hx9) (va_cwS 2 hts (lw_S q652 q653 q84 q654) rfl rfl rfl (by decide +kernel) ⟨Nat.le_of_ble_eq_true rfl, Nat.le_of_ble_eq_true rfl⟩) ⟨fun a U g mk q => q, fun U hU hW => ⟨rfl, trivial⟩⟩ rfl rfl hl.1 rfl (lv_room (Nat.le_of_ble_eq_true rfl)) dX0_find_48 ⟨hcM.1, hcM.2⟩) hS (fun q _ hq => hq.elim) (fun q hq => hq.elim) (fun r u t H1 locs ht hvm hw hB hz hk hS => dz_size (fun hz9 => ?_))
        replace hw := hw.symm; subst hw
        replace hH := zH_keep hH hcs hz hk hz9
        clear hB hk hz hvm ht hz9; generalize H1 = H at hH hS ⊢
        refine W.widen (k := cells) (n := slots) (Nat.le_refl _) (Nat.le_refl _) ?_
        refine lv_if_eq (tgt := 62) hx hb dX0_find_51 (by decide) (fun c51 => ?_) (fun c51 => ?_)
        · have hf := dz_t c51 hf
          refine lv_bipush (v := (-2)) hx hb dX0_find_62 (by decide) ?_
          obtain ⟨hM1, hS1⟩ : cells = M ∧ slots = S := by have hq := congrArg Prod.snd (Option.some.inj hf); rw [← hq] at hM hS0; have hM : s.heap.size + M = s7.1 := hM; have hS0 : sl0 + S = s7.2.1 := hS0; omega
          refine W.widen (k := M) (n := S) (Nat.le_of_eq hM1) (Nat.le_of_eq hS1) ?_
          exact W.iret (v := (-2)) hx hb hr (fun t ht hW => ⟨⟨(-2), s7, rfl, Option.some.inj hf, z_at ht hH⟩, hS.F ht⟩) hS.2.2 dX0_find_64
        · have hf := dz_f c51 hf
          refine lv_aload hx hb dX0_find_54 (lv_at hl 0 rfl) ?_
          obtain ⟨x10, s11, hx10, hle, hck, hf⟩ := zcl_o hf
          have hc1 : cells + (s11.1 - s7.1) ≤ M := by omega
          have hs1 : slots + (s11.2.1 - s7.2.1) ≤ S := by omega
          refine va_calli (post := fun (r : Int32) (u : pH) => (r, u) = (x10, s11)) (B := fun u t => zH D cA ζ u t.heap) (A1 := zA ζ) (a := (Value.ref x6 :: [] : List Value).toArray) (mc := s11.1 - s7.1) (ms := s11.2.1 - s7.2.1) (rest := []) (free := zA ζ) ?_ hS (fun q _ hq => hq) (fun q hq => hq) (fun r u t H1 locs ht hvm hw hB hz hk hS => ?_)
          · rcases L_isFound_o hx10 with ⟨fs_, hr_, hg_⟩ | ⟨fs_, hr_, hg_⟩ | ⟨fs_, hr_, hg_⟩ | ⟨fs_, hr_, hg_⟩ | ⟨fs_, hr_, hg_⟩
            · exact va_runU (x := ⟨"PrimeProofs$Line", "isFound", "()Z"⟩) (owner := "PrimeProofs$Line") (As := []) (rest := []) ⟨hx, hb, hml, hown, hts⟩ (mtX6_isFound_5 l D cA ζ s7 x6 K (x10, s11) hg_ (s11.1 - s7.1) (s11.2.1 - s7.2.1) (Nat.add_sub_cancel' hle.1) (Nat.add_sub_cancel' hle.2)) (va_cwU 0 hts (zU_in q657 q659 q664 q658 q96 q665) rfl rfl rfl rfl (by decide +kernel) ⟨Nat.le_of_ble_eq_true rfl, Nat.le_of_ble_eq_true rfl⟩) (z_preV hX hS hH hr_ rfl) rfl rfl hl.1 rfl (lv_room (Nat.le_of_ble_eq_true rfl)) dX0_find_56 ⟨hc1, hs1⟩
            · exact va_runU (x := ⟨"PrimeProofs$Line", "isFound", "()Z"⟩) (owner := "PrimeProofs$Line") (As := []) (rest := []) ⟨hx, hb, hml, hown, hts⟩ (mtX6_isFound_6 l D cA ζ s7 x6 K (x10, s11) hg_ (s11.1 - s7.1) (s11.2.1 - s7.2.1) (Nat.add_sub_cancel' hle.1) (Nat.add_sub_cancel' hle.2)) (va_cwU 0 hts (zU_in q657 q659 q663 q658 q96 q665) rfl rfl rfl rfl (by decide +kernel) ⟨Nat.le_of_ble_eq_true rfl, Nat.le_of_ble_eq_true rfl⟩) (z_preV hX hS hH hr_ rfl) rfl rfl hl.1 rfl (lv_room (Nat.le_of_ble_eq_true rfl)) dX0_find_56 ⟨hc1, hs1⟩
            · exact va_runU (x := ⟨"PrimeProofs$Line", "isFound", "()Z"⟩) (owner := "PrimeProofs$Line") (As := []) (rest := []) ⟨hx, hb, hml, hown, hts⟩ (mtX6_isFound_7 l D cA ζ s7 x6 K (x10, s11) hg_ (s11.1 - s7.1) (s11.2.1 - s7.2.1) (Nat.add_sub_cancel' hle.1) (Nat.add_sub_cancel' hle.2)) (va_cwU 0 hts (zU_in q657 q659 q662 q658 q96 q665) rfl rfl rfl rfl (by decide +kernel) ⟨Nat.le_of_ble_eq_true rfl, Nat.le_of_ble_eq_true rfl⟩) (z_preV hX hS hH hr_ rfl) rfl rfl hl.1 rfl (lv_room (Nat.le_of_ble_eq_true rfl)) dX0_find_56 ⟨hc1, hs1⟩
            · exact va_runU (x := ⟨"PrimeProofs$Line", "isFound", "()Z"⟩) (owner := "PrimeProofs$Line") (As := []) (rest := []) ⟨hx, hb, hml, hown, hts⟩ (mtX6_isFound_8 l D cA ζ s7 x6 K (x10, s11) hg_ (s11.1 - s7.1) (s11.2.1 - s7.2.1) (Nat.add_sub_cancel' hle.1) (Nat.add_sub_cancel' hle.2)) (va_cwU 0 hts (zU_in q657 q659 q661 q658 q96 q665) rfl rfl rfl rfl (by decide +kernel) ⟨Nat.le_of_ble_eq_true rfl, Nat.le_of_ble_eq_true rfl⟩) (z_preV hX hS hH hr_ rfl) rfl rfl hl.1 rfl (lv_room (Nat.le_of_ble_eq_true rfl)) dX0_find_56 ⟨hc1, hs1⟩
            · exact va_runU (x := ⟨"PrimeProofs$Line", "isFound", "()Z"⟩) (owner := "PrimeProofs$Line") (As := []) (rest := []) ⟨hx, hb, hml, hown, hts⟩ (mtX6_isFound_9 l D cA ζ s7 x6 K (x10, s11) hg_ (s11.1 - s7.1) (s11.2.1 - s7.2.1) (Nat.add_sub_cancel' hle.1) (Nat.add_sub_cancel' hle.2)) (va_cwU 0 hts (zU_in q657 q659 q660 q658 q96 q665) rfl rfl rfl rfl (by decide +kernel) ⟨Nat.le_of_ble_eq_true rfl, Nat.le_of_ble_eq_true rfl⟩) (z_preV hX hS hH hr_ rfl) rfl rfl hl.1 rfl (lv_room (Nat.le_of_ble_eq_true rfl)) dX0_find_56 ⟨hc1, hs1⟩
          obtain ⟨hw1, hw2⟩ := Prod.mk.inj hw.symm; subst hw1; subst hw2
          have hH : zH D cA ζ s11 H1 := z_at ht.symm hB
          have hcs : s.heap.size + (cells + (s11.1 - s7.1)) = s11.1 := by omega
          have hss : sl0 + (slots + (s11.2.1 - s7.2.1)) = s11.2.1 := by omega
          replace hcM := And.intro hc1 hs1
          generalize cells + (s11.1 - s7.1) = cells at hcs hcM ⊢; generalize slots + (s11.2.1 - s7.2.1) = slots at hss hcM ⊢
          clear hB hk hz hvm ht hle hck hc1 hs1; generalize H1 = H at hH hS ⊢
          refine lv_if_ne (tgt := 65) hx hb dX0_find_59 (by decide) (fun c59 => ?_) (fun c59 => ?_)
          · have hf := dz_f c59 hf
            refine lv_aload_n hx hb dX0_find_65 rfl (lv_at hl 2 rfl) ?_
            obtain ⟨f12, hf12, hf⟩ := dz_bo hf
            obtain ⟨x13, hx13, hf⟩ := dz_bo hf
            refine va_get (C := RX0) (T := TX0) (N := 7) hx hb hts in_X0 hown hX.K (zrd_P hX hS hH (zob_o hf12)) 0 rfl rfl 0 (by decide) (hts _ q156) (fun _ hq => hq) (zvr_o hx13) dX0_find_66 ?_
            obtain ⟨f16, hf16, hf⟩ := dz_bo hf
            obtain ⟨x14, s15, hx14, hle, hck, hf⟩ := zcl_o hf
            have hc1 : cells + (s15.1 - s11.1) ≤ M := by omega
            have hs1 : slots + (s15.2.1 - s11.2.1) ≤ S := by omega
            refine va_calli (va_runV (As := []) (rest := []) ⟨hx, hb, hml, hown, hts⟩ (mtJ2_size l D cA ζ s11 x13 K (x14, s15) hx14 (s15.1 - s11.1) (s15.2.1 - s11.2.1) (Nat.add_sub_cancel' hle.1) (Nat.add_sub_cancel' hle.2)) (cwV 0 hts (lw_V q200 q201 q202 q87 q203) rfl rfl rfl (by decide +kernel) ⟨Nat.le_of_ble_eq_true rfl, Nat.le_of_ble_eq_true rfl⟩) (z_preV hX hS hH (zob_o hf16) rfl) rfl rfl hl.1 rfl (lv_room (Nat.le_of_ble_eq_true rfl)) dX0_find_69 ⟨hc1, hs1⟩) hS (fun q _ hq => hq) (fun q hq => hq) (fun r u t H1 locs ht hvm hw hB hz hk hS => ?_)
            obtain ⟨hw1, hw2⟩ := Prod.mk.inj hw.symm; subst hw1; subst hw2
            have hH : zH D cA ζ s15 H1 := z_at ht.symm hB
            have hcs : s.heap.size + (cells + (s15.1 - s11.1)) = s15.1 := by omega
            have hss : sl0 + (slots + (s15.2.1 - s11.2.1)) = s15.2.1 := by omega
            replace hcM := And.intro hc1 hs1
            generalize cells + (s15.1 - s11.1) = cells at hcs hcM ⊢; generalize slots + (s15.2.1 - s11.2.1) = slots at hss hcM ⊢
            clear hB hk hz hvm ht hle hck hc1 hs1; generalize H1 = H at hH hS ⊢
            refine lv_istore (lv' := [(5, .int x14), (4, .ref x6), (3, .int x3), (0, .ref h), (1, .int a0), (2, .int a1)]) hx hb dX0_find_72 hl (by decide) rfl (fun ls hl => ?_)
            refine lv_aload_n hx hb dX0_find_74 rfl (lv_at hl 3 rfl) ?_
            refine lv_aload hx hb dX0_find_75 (lv_at hl 1 rfl) ?_
            obtain ⟨f19, hf19, hf⟩ := dz_bo hf
            obtain ⟨x17, s18, hx17, hle, hck, hf⟩ := zcl_o hf
            have hc1 : cells + (s18.1 - s15.1) ≤ M := by omega
            have hs1 : slots + (s18.2.1 - s15.2.1) ≤ S := by omega
            refine va_calli (va_runV (As := [.ref x6]) (rest := []) ⟨hx, hb, hml, hown, hts⟩ (mtX0_backs l D cA ζ s15 h x6 K (x17, s18) hx17 (s18.1 - s15.1) (s18.2.1 - s15.2.1) (Nat.add_sub_cancel' hle.1) (Nat.add_sub_cancel' hle.2)) (cwV 1 hts (lw_V q776 q778 qs5 q84 q779) rfl rfl rfl (by decide +kernel) ⟨Nat.le_of_ble_eq_true rfl, Nat.le_of_ble_eq_true rfl⟩) (z_preV hX hS hH (zob_o hf19) rfl) rfl rfl hl.1 rfl (lv_room (Nat.le_of_ble_eq_true rfl)) dX0_find_77 ⟨hc1, hs1⟩) hS (fun q _ hq => hq) (fun q hq => hq) (fun r u t H1 locs ht hvm hw hB hz hk hS => ?_)
            obtain ⟨hw1, hw2⟩ := Prod.mk.inj hw.symm; subst hw1; subst hw2
            have hH : zH D cA ζ s18 H1 := z_at ht.symm hB
            have hcs : s.heap.size + (cells + (s18.1 - s15.1)) = s18.1 := by omega
            have hss : sl0 + (slots + (s18.2.1 - s15.2.1)) = s18.2.1 := by omega
            replace hcM := And.intro hc1 hs1
            generalize cells + (s18.1 - s15.1) = cells at hcs hcM ⊢; generalize slots + (s18.2.1 - s15.2.1) = slots at hss hcM ⊢
            clear hB hk hz hvm ht hle hck hc1 hs1; generalize H1 = H at hH hS ⊢
            refine lv_if_eq (tgt := 93) hx hb dX0_find_80 (by decide) (fun c80 => ?_) (fun c80 => ?_)
            · have hf := dz_t c80 hf
              refine lv_aload_n hx hb dX0_find_93 rfl (lv_at hl 3 rfl) ?_
              refine lv_iload hx hb dX0_find_94 (lv_at hl 0 rfl) ?_
              obtain ⟨f22, hf22, hf⟩ := dz_bo hf
              obtain ⟨x20, s21, hx20, hle, hck, hf⟩ := zcl_o hf
              have hc1 : cells + (s21.1 - s18.1) ≤ M := by omega
              have hs1 : slots + (s21.2.1 - s18.2.1) ≤ S := by omega
              refine va_callv (va_runV (As := [.int x14]) (rest := []) ⟨hx, hb, hml, hown, hts⟩ (mtX0_goesBack l D cA ζ s18 h x14 K (x20, s21) hx20 (s21.1 - s18.1) (s21.2.1 - s18.2.1) (Nat.add_sub_cancel' hle.1) (Nat.add_sub_cancel' hle.2)) (cwV 1 hts (lw_V q859 q861 qs11 q84 q862) rfl rfl rfl (by decide +kernel) ⟨Nat.le_of_ble_eq_true rfl, Nat.le_of_ble_eq_true rfl⟩) (z_preV hX hS hH (zob_o hf22) rfl) rfl rfl hl.1 rfl (lv_room (Nat.le_of_ble_eq_true rfl)) dX0_find_96 ⟨hc1, hs1⟩) hS (fun q _ hq => hq) (fun q hq => hq) (fun u t H1 locs ht hvm hw hB hz hk hS => ?_)
              obtain ⟨-, hw2⟩ := Prod.mk.inj hw.symm; subst hw2
              have hH : zH D cA ζ s21 H1 := z_at ht.symm hB
              have hcs : s.heap.size + (cells + (s21.1 - s18.1)) = s21.1 := by omega
              have hss : sl0 + (slots + (s21.2.1 - s18.2.1)) = s21.2.1 := by omega
              replace hcM := And.intro hc1 hs1
              generalize cells + (s21.1 - s18.1) = cells at hcs hcM ⊢; generalize slots + (s21.2.1 - s18.2.1) = slots at hss hcM ⊢
              clear hB hk hz hvm ht hle hck hc1 hs1; generalize H1 = H at hH hS ⊢
              refine lv_bipush (v := (-3)) hx hb dX0_find_99 (by decide) ?_
              obtain ⟨hM1, hS1⟩ : cells = M ∧ slots = S := by have hq := congrArg Prod.snd (Option.some.inj hf); rw [← hq] at hM hS0; have hM : s.heap.size + M = s21.1 := hM; have hS0 : sl0 + S = s21.2.1 := hS0; omega
              refine W.widen (k := M) (n := S) (Nat.le_of_eq hM1) (Nat.le_of_eq hS1) ?_
              exact W.iret (v := (-3)) hx hb hr (fun t ht hW => ⟨⟨(-3), s21, rfl, Option.some.inj hf, z_at ht hH⟩, hS.F ht⟩) hS.2.2 dX0_find_101
            · have hf := dz_f c80 hf
              refine lv_aload_n hx hb dX0_find_83 rfl (lv_at hl 3 rfl) ?_
              obtain ⟨f23, hf23, hf⟩ := dz_bo hf
              obtain ⟨x24, hx24, hf⟩ := dz_bo hf
              refine va_get (C := RX0) (T := TX0) (N := 7) hx hb hts in_X0 hown hX.K (zrd_P hX hS hH (zob_o hf23)) 0 rfl rfl 0 (by decide) (hts _ q156) (fun _ hq => hq) (zvr_o hx24) dX0_find_84 ?_
              obtain ⟨f27, hf27, hf⟩ := dz_bo hf
              obtain ⟨x25, s26, hx25, hle, hck, hf⟩ := zcl_o hf
              have hc1 : cells + (s26.1 - s18.1) ≤ M := by omega
              have hs1 : slots + (s26.2.1 - s18.2.1) ≤ S := by omega
              refine va_calli (va_runV (As := []) (rest := []) ⟨hx, hb, hml, hown, hts⟩ (mtJ2_size l D cA ζ s18 x24 K (x25, s26) hx25 (s26.1 - s18.1) (s26.2.1 - s18.2.1) (Nat.add_sub_cancel' hle.1) (Nat.add_sub_cancel' hle.2)) (cwV 0 hts (lw_V q200 q201 q202 q87 q203) rfl rfl rfl (by decide +kernel) ⟨Nat.le_of_ble_eq_true rfl, Nat.le_of_ble_eq_true rfl⟩) (z_preV hX hS hH (zob_o hf27) rfl) rfl rfl hl.1 rfl (lv_room (Nat.le_of_ble_eq_true rfl)) dX0_find_87 ⟨hc1, hs1⟩) hS (fun q _ hq => hq) (fun q hq => hq) (fun r u t H1 locs ht hvm hw hB hz hk hS => ?_)
              obtain ⟨hw1, hw2⟩ := Prod.mk.inj hw.symm; subst hw1; subst hw2
              have hH : zH D cA ζ s26 H1 := z_at ht.symm hB
              have hcs : s.heap.size + (cells + (s26.1 - s18.1)) = s26.1 := by omega
              have hss : sl0 + (slots + (s26.2.1 - s18.2.1)) = s26.2.1 := by omega
              replace hcM := And.intro hc1 hs1
              generalize cells + (s26.1 - s18.1) = cells at hcs hcM ⊢; generalize slots + (s26.2.1 - s18.2.1) = slots at hss hcM ⊢
              clear hB hk hz hvm ht hle hck hc1 hs1; generalize H1 = H at hH hS ⊢
              refine lv_iconst (v := 1) hx hb dX0_find_90 (by decide) ?_
              refine lv_isub hx hb dX0_find_91 ?_
              refine lv_topi (fun x28 e_x28 => ?_)
              have hf := dz_ls e_x28 hf
              obtain ⟨hM1, hS1⟩ : cells = M ∧ slots = S := by have hq := congrArg Prod.snd (Option.some.inj hf); rw [← hq] at hM hS0; have hM : s.heap.size + M = s26.1 := hM; have hS0 : sl0 + S = s26.2.1 := hS0; omega
              refine W.widen (k := M) (n := S) (Nat.le_of_eq hM1) (Nat.le_of_eq hS1) ?_
              exact W.iret (v := x28) hx hb hr (fun t ht hW => ⟨⟨x28, s26, rfl, Option.some.inj hf, z_at ht hH⟩, hS.F ht⟩) hS.2.2 dX0_find_92
          · have hf := dz_t c59 hf
            refine lv_bipush (v := (-2)) hx hb dX0_find_62 (by decide) ?_
            obtain ⟨hM1, hS1⟩ : cells = M ∧ slots = S := by have hq := congrArg Prod.snd (Option.some.inj hf); rw [← hq] at hM hS0; have hM : s.heap.size + M = s11.1 := hM; have hS0 : sl0 + S = s11.2.1 := hS0; omega
            refine W.widen (k := M) (n := S) (Nat.le_of_eq hM1) (Nat.le_of_eq hS1) ?_
            exact W.iret (v := (-2)) hx hb hr (fun t ht hW => ⟨⟨(-2), s11, rfl, Option.some.inj hf, z_at ht hH⟩, hS.F ht⟩) hS.2.2 dX0_find_64
      · have hf := dz_f c31 hf
        refine lv_iload_n hx hb dX0_find_34 rfl (lv_at hl 0 rfl) ?_
        obtain ⟨hM1, hS1⟩ : cells = M ∧ slots = S := by have hq := congrArg Prod.snd (Option.some.inj hf); rw [← hq] at hM hS0; have hM : s.heap.size + M = s4.1 := hM; have hS0 : sl0 + S = s4.2.1 := hS0; omega
        refine W.widen (k := M) (n := S) (Nat.le_of_eq hM1) (Nat.le_of_eq hS1) ?_
        exact W.iret (v := x3) hx hb hr (fun t ht hW => ⟨⟨x3, s4, rfl, Option.some.inj hf, z_at ht hH⟩, hS.F ht⟩) hS.2.2 dX0_find_35
    · have hf := dz_t c17 hf
      refine lv_iconst (v := (-1)) hx hb dX0_find_20 (by decide) ?_
      obtain ⟨hM1, hS1⟩ : cells = M ∧ slots = S := by have hq := congrArg Prod.snd (Option.some.inj hf); rw [← hq] at hM hS0; have hM : s.heap.size + M = τ.1 := hM; have hS0 : sl0 + S = τ.2.1 := hS0; omega
      refine W.widen (k := M) (n := S) (Nat.le_of_eq hM1) (Nat.le_of_eq hS1) ?_
      exact W.iret (v := (-1)) hx hb hr (fun t ht hW => ⟨⟨(-1), τ, rfl, Option.some.inj hf, z_at ht hH⟩, hS.F ht⟩) hS.2.2 dX0_find_21

