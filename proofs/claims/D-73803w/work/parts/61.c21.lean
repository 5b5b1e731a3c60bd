noncomputable def fnJ16_numberOfLeadingZeros (K : Nat) (a0 : Int64) : Option Int32 := dz_l (UInt64.toInt64 (Int64.toUInt64 a0 >>> (Int64.toUInt64 (Int32.toInt64 32) &&& Int64.toUInt64 63))) fun x1 => dz_l (Int64.toInt32 x1) fun x2 => if x2 = (0 : Int32) then (dz_b (fnJ17_numberOfLeadingZeros K (Int64.toInt32 a0)) fun x4 => some (32 + x4)) else (dz_b (fnJ17_numberOfLeadingZeros K x2) fun x3 => some x3)
set_option maxHeartbeats 4000000 in
set_option maxRecDepth 100000 in
theorem mtJ16_numberOfLeadingZeros (l : Launch) (a0 : Int64) (K : Nat) (res : Int32) (hf : fnJ16_numberOfLeadingZeros K a0 = some res) : Met l yJ16_numberOfLeadingZeros (ws_ yJ16_numberOfLeadingZeros cJ16_numberOfLeadingZeros 3 (some .int)) ({ frames := 1, cells := 0, slots := 0, locals := 21 }) (dz_P [.long a0]) (dz_Qi res) 0 0 (fun _ => False) := by
  refine Met.ofW (cc := cJ16_numberOfLeadingZeros) (maxL := 3) (ret := some .int) (by decide +kernel) rfl ?_
  intro p e s m args below meth c s₁ B hml hv
  obtain ⟨rfl, -⟩ := hv
  have hx := B.exec
  have hb := B.bytes
  have hr := B.returns
  have hts := atoms_spec (ws := ws_ yJ16_numberOfLeadingZeros cJ16_numberOfLeadingZeros 3 (some .int)) B.pre
  have hts : ∀ w ∈ lw_all, w.before _ s = true := fun w h => hts w (List.mem_cons_of_mem _ h)
  have hown : s.vm.findClass RJ16 = some m.cls := findClass_of_methodNamed B.named
  have hlocks := B.notSynchronized
  have hS : va_S (fun _ => False) s.heap s.heap [] := va_S.rf
  generalize hHe : s.heap = H at hS ⊢
  have hS : va_S (fun _ => False) s.heap H [] := by rw [hHe]; exact hS
  generalize ([] : List Loc) = locs at hS ⊢
  have hl := lv_entry ([.long a0]) (n := 3) (Nat.le_of_ble_eq_true rfl)
  rw [lg_entry_eq]
  generalize (lg_sl ([.long a0]) ++ List.replicate (3 - (lg_sl ([.long a0])).length) Slot.unset).toArray = ls at hl ⊢
  have hl : lv_has ls 3 [(0, .long a0)] := hl
  have hf : (dz_l (UInt64.toInt64 (Int64.toUInt64 a0 >>> (Int64.toUInt64 (Int32.toInt64 32) &&& Int64.toUInt64 63))) fun x1 => dz_l (Int64.toInt32 x1) fun x2 => if x2 = (0 : Int32) then (dz_b (fnJ17_numberOfLeadingZeros K (Int64.toInt32 a0)) fun x4 => some (32 + x4)) else (dz_b (fnJ17_numberOfLeadingZeros K x2) fun x3 => some x3) : Option Int32) = some res := hf
  refine lv_lload_n hx hb dJ16_numberOfLeadingZeros_0 rfl (lv_at hl 0 rfl) ?_
  refine lv_bipush (v := 32) hx hb dJ16_numberOfLeadingZeros_1 (by decide) ?_
  refine lv_lushr hx hb dJ16_numberOfLeadingZeros_3 (rfl : _ = UInt64.toInt64 (Int64.toUInt64 a0 >>> (Int64.toUInt64 (Int32.toInt64 32) &&& Int64.toUInt64 63))) ?_
  refine lv_topl (fun x1 e_x1 => ?_)
  have hf := dz_ls e_x1 hf
  refine lv_l2i hx hb dJ16_numberOfLeadingZeros_4 (rfl : _ = Int64.toInt32 x1) ?_
  refine lv_topi (fun x2 e_x2 => ?_)
  have hf := dz_ls e_x2 hf
  refine lv_istore_n (lv' := [(2, .int x2), (0, .long a0)]) hx hb dJ16_numberOfLeadingZeros_5 rfl hl (by decide) rfl (fun ls hl => ?_)
  refine lv_iload_n hx hb dJ16_numberOfLeadingZeros_6 rfl (lv_at hl 0 rfl) ?_
  refine lv_if_ne (tgt := 21) hx hb dJ16_numberOfLeadingZeros_7 (by decide) (fun c7 => ?_) (fun c7 => ?_)
  · have hf := dz_f c7 hf
    refine lv_iload_n hx hb dJ16_numberOfLeadingZeros_21 rfl (lv_at hl 0 rfl) ?_
    obtain ⟨x3, hx3, hf⟩ := dz_bo hf
    refine va_calli (va_runS (As := [.int x2]) (rest := []) ⟨hx, hb, hml, hown, hts⟩ (mtJ17_numberOfLeadingZeros l x2 K x3 hx3) (va_cwS 1 hts (lw_S q1463 q1464 q118 q1465) rfl rfl rfl (by decide +kernel) ⟨Nat.le_of_ble_eq_true rfl, Nat.le_of_ble_eq_true rfl⟩) ⟨fun a U g mk q => q, fun U hU hW => ⟨rfl, trivial⟩⟩ rfl rfl hl.1 rfl (lv_room (Nat.le_of_ble_eq_true rfl)) dJ16_numberOfLeadingZeros_22 ⟨Nat.le_refl _, Nat.le_refl _⟩) hS (fun q _ hq => hq.elim) (fun q hq => hq.elim) (fun r u t H1 locs ht hvm hw hB hz hk hS => ?_)
    replace hw := hw.symm; subst hw
    clear hB hk hz hvm ht; generalize H1 = H at hS ⊢
    exact W.iret (v := x3) hx hb hr (fun t ht hW => ⟨⟨x3, (), rfl, Option.some.inj hf, trivial⟩, hS.F ht⟩) hS.2.2 dJ16_numberOfLeadingZeros_25
  · have hf := dz_t c7 hf
    refine lv_bipush (v := 32) hx hb dJ16_numberOfLeadingZeros_10 (by decide) ?_
    refine lv_lload_n hx hb dJ16_numberOfLeadingZeros_12 rfl (lv_at hl 1 rfl) ?_
    refine lv_l2i hx hb dJ16_numberOfLeadingZeros_13 (rfl : _ = Int64.toInt32 a0) ?_
    obtain ⟨x4, hx4, hf⟩ := dz_bo hf
    refine va_calli (va_runS (As := [.int (Int64.toInt32 a0)]) (rest := [.int 32]) ⟨hx, hb, hml, hown, hts⟩ (mtJ17_numberOfLeadingZeros l (Int64.toInt32 a0) K x4 hx4) (va_cwS 1 hts (lw_S q1463 q1464 q118 q1465) rfl rfl rfl (by decide +kernel) ⟨Nat.le_of_ble_eq_true rfl, Nat.le_of_ble_eq_true rfl⟩) ⟨fun a U g mk q => q, fun U hU hW => ⟨rfl, trivial⟩⟩ rfl rfl hl.1 rfl (lv_room (Nat.le_of_ble_eq_true rfl)) dJ16_numberOfLeadingZeros_14 ⟨Nat.le_refl _, Nat.le_refl _⟩) hS (fun q _ hq => hq.elim) (fun q hq => hq.elim) (fun r u t H1 locs ht hvm hw hB hz hk hS => ?_)
    replace hw := hw.symm; subst hw
    clear hB hk hz hvm ht; generalize H1 = H at hS ⊢
    refine lv_iadd hx hb dJ16_numberOfLeadingZeros_17 ?_
    refine lv_goto (tgt := 25) hx hb dJ16_numberOfLeadingZeros_18 (by decide) ?_
    exact W.iret (v := 32 + x4) hx hb hr (fun t ht hW => ⟨⟨32 + x4, (), rfl, Option.some.inj hf, trivial⟩, hS.F ht⟩) hS.2.2 dJ16_numberOfLeadingZeros_25

noncomputable def fnJ16_bitCount (K : Nat) (a0 : Int64) : Option Int32 := dz_l (UInt64.toInt64 (Int64.toUInt64 a0 >>> (Int64.toUInt64 (Int32.toInt64 1) &&& Int64.toUInt64 63))) fun x1 => dz_l (a0 - (x1 &&& 6148914691236517205)) fun x2 => dz_l (UInt64.toInt64 (Int64.toUInt64 x2 >>> (Int64.toUInt64 (Int32.toInt64 2) &&& Int64.toUInt64 63))) fun x3 => dz_l ((x2 &&& 3689348814741910323) + (x3 &&& 3689348814741910323)) fun x4 => dz_l (UInt64.toInt64 (Int64.toUInt64 x4 >>> (Int64.toUInt64 (Int32.toInt64 4) &&& Int64.toUInt64 63))) fun x5 => dz_l ((x4 + x5) &&& 1085102592571150095) fun x6 => dz_l (UInt64.toInt64 (Int64.toUInt64 x6 >>> (Int64.toUInt64 (Int32.toInt64 8) &&& Int64.toUInt64 63))) fun x7 => dz_l (x6 + x7) fun x8 => dz_l (UInt64.toInt64 (Int64.toUInt64 x8 >>> (Int64.toUInt64 (Int32.toInt64 16) &&& Int64.toUInt64 63))) fun x9 => dz_l (x8 + x9) fun x10 => dz_l (UInt64.toInt64 (Int64.toUInt64 x10 >>> (Int64.toUInt64 (Int32.toInt64 32) &&& Int64.toUInt64 63))) fun x11 => dz_l (x10 + x11) fun x12 => some ((Int64.toInt32 x12) &&& 127)
set_option maxHeartbeats 4000000 in
set_option maxRecDepth 100000 in
theorem mtJ16_bitCount (l : Launch) (a0 : Int64) (K : Nat) (res : Int32) (hf : fnJ16_bitCount K a0 = some res) : Met l yJ16_bitCount (ws_ yJ16_bitCount cJ16_bitCount 2 (some .int)) ({ frames := 0, cells := 0, slots := 0, locals := 0 }) (dz_P [.long a0]) (dz_Qi res) 0 0 (fun _ => False) := by
  refine Met.ofW (cc := cJ16_bitCount) (maxL := 2) (ret := some .int) (by decide +kernel) rfl ?_
  intro p e s m args below meth c s₁ B hml hv
  obtain ⟨rfl, -⟩ := hv
  have hx := B.exec
  have hb := B.bytes
  have hr := B.returns
  have hts := atoms_spec (ws := ws_ yJ16_bitCount cJ16_bitCount 2 (some .int)) B.pre
  have hts : ∀ w ∈ lw_all, w.before _ s = true := fun w h => hts w (List.mem_cons_of_mem _ h)
  have hown : s.vm.findClass RJ16 = some m.cls := findClass_of_methodNamed B.named
  have hlocks := B.notSynchronized
  have hS : va_S (fun _ => False) s.heap s.heap [] := va_S.rf
  generalize hHe : s.heap = H at hS ⊢
  have hS : va_S (fun _ => False) s.heap H [] := by rw [hHe]; exact hS
  generalize ([] : List Loc) = locs at hS ⊢
  have hl := lv_entry ([.long a0]) (n := 2) (Nat.le_of_ble_eq_true rfl)
  rw [lg_entry_eq]
  generalize (lg_sl ([.long a0]) ++ List.replicate (2 - (lg_sl ([.long a0])).length) Slot.unset).toArray = ls at hl ⊢
  have hl : lv_has ls 2 [(0, .long a0)] := hl
  have hf : (dz_l (UInt64.toInt64 (Int64.toUInt64 a0 >>> (Int64.toUInt64 (Int32.toInt64 1) &&& Int64.toUInt64 63))) fun x1 => dz_l (a0 - (x1 &&& 6148914691236517205)) fun x2 => dz_l (UInt64.toInt64 (Int64.toUInt64 x2 >>> (Int64.toUInt64 (Int32.toInt64 2) &&& Int64.toUInt64 63))) fun x3 => dz_l ((x2 &&& 3689348814741910323) + (x3 &&& 3689348814741910323)) fun x4 => dz_l (UInt64.toInt64 (Int64.toUInt64 x4 >>> (Int64.toUInt64 (Int32.toInt64 4) &&& Int64.toUInt64 63))) fun x5 => dz_l ((x4 + x5) &&& 1085102592571150095) fun x6 => dz_l (UInt64.toInt64 (Int64.toUInt64 x6 >>> (Int64.toUInt64 (Int32.toInt64 8) &&& Int64.toUInt64 63))) fun x7 => dz_l (x6 + x7) fun x8 => dz_l (UInt64.toInt64 (Int64.toUInt64 x8 >>> (Int64.toUInt64 (Int32.toInt64 16) &&& Int64.toUInt64 63))) fun x9 => dz_l (x8 + x9) fun x10 => dz_l (UInt64.toInt64 (Int64.toUInt64 x10 >>> (Int64.toUInt64 (Int32.toInt64 32) &&& Int64.toUInt64 63))) fun x11 => dz_l (x10 + x11) fun x12 => some ((Int64.toInt32 x12) &&& 127) : Option Int32) = some res := hf
  refine lv_lload_n hx hb dJ16_bitCount_0 rfl (lv_at hl 0 rfl) ?_
  refine lv_lload_n hx hb dJ16_bitCount_1 rfl (lv_at hl 0 rfl) ?_
  refine lv_iconst (v := 1) hx hb dJ16_bitCount_2 (by decide) ?_
  refine lv_lushr hx hb dJ16_bitCount_3 (rfl : _ = UInt64.toInt64 (Int64.toUInt64 a0 >>> (Int64.toUInt64 (Int32.toInt64 1) &&& Int64.toUInt64 63))) ?_
  refine lv_topl (fun x1 e_x1 => ?_)
  have hf := dz_ls e_x1 hf
  refine lv_ldc2 (v := 6148914691236517205) hx hb hown (hts _ q1470) dJ16_bitCount_4 ?_
  refine lv_land hx hb dJ16_bitCount_7 ?_
  refine lv_lsub hx hb dJ16_bitCount_8 ?_
  refine lv_topl (fun x2 e_x2 => ?_)
  have hf := dz_ls e_x2 hf
  refine lv_lstore_n (lv' := [(0, .long x2)]) hx hb dJ16_bitCount_9 rfl hl (by decide) rfl (fun ls hl => ?_)
  refine lv_lload_n hx hb dJ16_bitCount_10 rfl (lv_at hl 0 rfl) ?_
  refine lv_ldc2 (v := 3689348814741910323) hx hb hown (hts _ q1471) dJ16_bitCount_11 ?_
  refine lv_land hx hb dJ16_bitCount_14 ?_
  refine lv_lload_n hx hb dJ16_bitCount_15 rfl (lv_at hl 0 rfl) ?_
  refine lv_iconst (v := 2) hx hb dJ16_bitCount_16 (by decide) ?_
  refine lv_lushr hx hb dJ16_bitCount_17 (rfl : _ = UInt64.toInt64 (Int64.toUInt64 x2 >>> (Int64.toUInt64 (Int32.toInt64 2) &&& Int64.toUInt64 63))) ?_
  refine lv_topl (fun x3 e_x3 => ?_)
  have hf := dz_ls e_x3 hf
  refine lv_ldc2 (v := 3689348814741910323) hx hb hown (hts _ q1471) dJ16_bitCount_18 ?_
  refine lv_land hx hb dJ16_bitCount_21 ?_
  refine lv_ladd hx hb dJ16_bitCount_22 ?_
  refine lv_topl (fun x4 e_x4 => ?_)
  have hf := dz_ls e_x4 hf
  refine lv_lstore_n (lv' := [(0, .long x4)]) hx hb dJ16_bitCount_23 rfl hl (by decide) rfl (fun ls hl => ?_)
  refine lv_lload_n hx hb dJ16_bitCount_24 rfl (lv_at hl 0 rfl) ?_
  refine lv_lload_n hx hb dJ16_bitCount_25 rfl (lv_at hl 0 rfl) ?_
  refine lv_iconst (v := 4) hx hb dJ16_bitCount_26 (by decide) ?_
  refine lv_lushr hx hb dJ16_bitCount_27 (rfl : _ = UInt64.toInt64 (Int64.toUInt64 x4 >>> (Int64.toUInt64 (Int32.toInt64 4) &&& Int64.toUInt64 63))) ?_
  refine lv_topl (fun x5 e_x5 => ?_)
  have hf := dz_ls e_x5 hf
  refine lv_ladd hx hb dJ16_bitCount_28 ?_
  refine lv_ldc2 (v := 1085102592571150095) hx hb hown (hts _ q1472) dJ16_bitCount_29 ?_
  refine lv_land hx hb dJ16_bitCount_32 ?_
  refine lv_topl (fun x6 e_x6 => ?_)
  have hf := dz_ls e_x6 hf
  refine lv_lstore_n (lv' := [(0, .long x6)]) hx hb dJ16_bitCount_33 rfl hl (by decide) rfl (fun ls hl => ?_)
  refine lv_lload_n hx hb dJ16_bitCount_34 rfl (lv_at hl 0 rfl) ?_
  refine lv_lload_n hx hb dJ16_bitCount_35 rfl (lv_at hl 0 rfl) ?_
  refine lv_bipush (v := 8) hx hb dJ16_bitCount_36 (by decide) ?_
  refine lv_lushr hx hb dJ16_bitCount_38 (rfl : _ = UInt64.toInt64 (Int64.toUInt64 x6 >>> (Int64.toUInt64 (Int32.toInt64 8) &&& Int64.toUInt64 63))) ?_
  refine lv_topl (fun x7 e_x7 => ?_)
  have hf := dz_ls e_x7 hf
  refine lv_ladd hx hb dJ16_bitCount_39 ?_
  refine lv_topl (fun x8 e_x8 => ?_)
  have hf := dz_ls e_x8 hf
  refine lv_lstore_n (lv' := [(0, .long x8)]) hx hb dJ16_bitCount_40 rfl hl (by decide) rfl (fun ls hl => ?_)
  refine lv_lload_n hx hb dJ16_bitCount_41 rfl (lv_at hl 0 rfl) ?_
  refine lv_lload_n hx hb dJ16_bitCount_42 rfl (lv_at hl 0 rfl) ?_
  refine lv_bipush (v := 16) hx hb dJ16_bitCount_43 (by decide) ?_
  refine lv_lushr hx hb dJ16_bitCount_45 (rfl : _ = UInt64.toInt64 (Int64.toUInt64 x8 >>> (Int64.toUInt64 (Int32.toInt64 16) &&& Int64.toUInt64 63))) ?_
  refine lv_topl (fun x9 e_x9 => ?_)
  have hf := dz_ls e_x9 hf
  refine lv_ladd hx hb dJ16_bitCount_46 ?_
  refine lv_topl (fun x10 e_x10 => ?_)
  have hf := dz_ls e_x10 hf
  refine lv_lstore_n (lv' := [(0, .long x10)]) hx hb dJ16_bitCount_47 rfl hl (by decide) rfl (fun ls hl => ?_)
  refine lv_lload_n hx hb dJ16_bitCount_48 rfl (lv_at hl 0 rfl) ?_
  refine lv_lload_n hx hb dJ16_bitCount_49 rfl (lv_at hl 0 rfl) ?_
  refine lv_bipush (v := 32) hx hb dJ16_bitCount_50 (by decide) ?_
  refine lv_lushr hx hb dJ16_bitCount_52 (rfl : _ = UInt64.toInt64 (Int64.toUInt64 x10 >>> (Int64.toUInt64 (Int32.toInt64 32) &&& Int64.toUInt64 63))) ?_
  refine lv_topl (fun x11 e_x11 => ?_)
  have hf := dz_ls e_x11 hf
  refine lv_ladd hx hb dJ16_bitCount_53 ?_
  refine lv_topl (fun x12 e_x12 => ?_)
  have hf := dz_ls e_x12 hf
  refine lv_lstore_n (lv' := [(0, .long x12)]) hx hb dJ16_bitCount_54 rfl hl (by decide) rfl (fun ls hl => ?_)
  refine lv_lload_n hx hb dJ16_bitCount_55 rfl (lv_at hl 0 rfl) ?_
  refine lv_l2i hx hb dJ16_bitCount_56 (rfl : _ = Int64.toInt32 x12) ?_
  refine lv_bipush (v := 127) hx hb dJ16_bitCount_57 (by decide) ?_
  refine lv_iand hx hb dJ16_bitCount_59 ?_
  exact W.iret (v := (Int64.toInt32 x12) &&& 127) hx hb hr (fun t ht hW => ⟨⟨(Int64.toInt32 x12) &&& 127, (), rfl, Option.some.inj hf, trivial⟩, hS.F ht⟩) hS.2.2 dJ16_bitCount_60

noncomputable def fnX0_climb (K : Nat) (a0 : Int64) : Option Int32 := dz_b (fnJ16_numberOfLeadingZeros K a0) fun x1 => dz_b (fnJ16_bitCount K a0) fun x2 => some (((64 - x1) + x2) - 2)
set_option maxHeartbeats 4000000 in
set_option maxRecDepth 100000 in
theorem mtX0_climb (l : Launch) (a0 : Int64) (K : Nat) (res : Int32) (hf : fnX0_climb K a0 = some res) : Met l yX0_climb (ws_ yX0_climb cX0_climb 2 (some .int)) ({ frames := 2, cells := 0, slots := 0, locals := 43 }) (dz_P [.long a0]) (dz_Qi res) 0 0 (fun _ => False) := by
  refine Met.ofW (cc := cX0_climb) (maxL := 2) (ret := some .int) (by decide +kernel) rfl ?_
  intro p e s m args below meth c s₁ B hml hv
  obtain ⟨rfl, -⟩ := hv
  have hx := B.exec
  have hb := B.bytes
  have hr := B.returns
  have hts := atoms_spec (ws := ws_ yX0_climb cX0_climb 2 (some .int)) B.pre
  have hts : ∀ w ∈ lw_all, w.before _ s = true := fun w h => hts w (List.mem_cons_of_mem _ h)
  have hown : s.vm.findClass RX0 = some m.cls := findClass_of_methodNamed B.named
  have hlocks := B.notSynchronized
  have hS : va_S (fun _ => False) s.heap s.heap [] := va_S.rf
  generalize hHe : s.heap = H at hS ⊢
  have hS : va_S (fun _ => False) s.heap H [] := by rw [hHe]; exact hS
  generalize ([] : List Loc) = locs at hS ⊢
  have hl := lv_entry ([.long a0]) (n := 2) (Nat.le_of_ble_eq_true rfl)
  rw [lg_entry_eq]
  generalize (lg_sl ([.long a0]) ++ List.replicate (2 - (lg_sl ([.long a0])).length) Slot.unset).toArray = ls at hl ⊢
  have hl : lv_has ls 2 [(0, .long a0)] := hl
  have hf : (dz_b (fnJ16_numberOfLeadingZeros K a0) fun x1 => dz_b (fnJ16_bitCount K a0) fun x2 => some (((64 - x1) + x2) - 2) : Option Int32) = some res := hf
  refine lv_bipush (v := 64) hx hb dX0_climb_0 (by decide) ?_
  refine lv_lload_n hx hb dX0_climb_2 rfl (lv_at hl 0 rfl) ?_
  obtain ⟨x1, hx1, hf⟩ := dz_bo hf
  refine va_calli (va_runS (As := [.long a0]) (rest := [.int 64]) ⟨hx, hb, hml, hown, hts⟩ (mtJ16_numberOfLeadingZeros l a0 K x1 hx1) (va_cwS 1 hts (lw_S q1460 q1461 q117 q1462) rfl rfl rfl (by decide +kernel) ⟨Nat.le_of_ble_eq_true rfl, Nat.le_of_ble_eq_true rfl⟩) ⟨fun a U g mk q => q, fun U hU hW => ⟨rfl, trivial⟩⟩ rfl rfl hl.1 rfl (lv_room (Nat.le_of_ble_eq_true rfl)) dX0_climb_3 ⟨Nat.le_refl _, Nat.le_refl _⟩) hS (fun q _ hq => hq.elim) (fun q hq => hq.elim) (fun r u t H1 locs ht hvm hw hB hz hk hS => ?_)
  replace hw := hw.symm; subst hw
  clear hB hk hz hvm ht; generalize H1 = H at hS ⊢
  refine lv_isub hx hb dX0_climb_6 ?_
  refine lv_lload_n hx hb dX0_climb_7 rfl (lv_at hl 0 rfl) ?_
  obtain ⟨x2, hx2, hf⟩ := dz_bo hf
  refine va_calli (va_runS (As := [.long a0]) (rest := [.int (64 - x1)]) ⟨hx, hb, hml, hown, hts⟩ (mtJ16_bitCount l a0 K x2 hx2) (va_cwS 1 hts (lw_S q1467 q1468 q117 q1469) rfl rfl rfl (by decide +kernel) ⟨Nat.le_of_ble_eq_true rfl, Nat.le_of_ble_eq_true rfl⟩) ⟨fun a U g mk q => q, fun U hU hW => ⟨rfl, trivial⟩⟩ rfl rfl hl.1 rfl (lv_room (Nat.le_of_ble_eq_true rfl)) dX0_climb_8 ⟨Nat.le_refl _, Nat.le_refl _⟩) hS (fun q _ hq => hq.elim) (fun q hq => hq.elim) (fun r u t H1 locs ht hvm hw hB hz hk hS => ?_)
  replace hw := hw.symm; subst hw
  clear hB hk hz hvm ht; generalize H1 = H at hS ⊢
  refine lv_iadd hx hb dX0_climb_11 ?_
  refine lv_iconst (v := 2) hx hb dX0_climb_12 (by decide) ?_
  refine lv_isub hx hb dX0_climb_13 ?_
  exact W.iret (v := ((64 - x1) + x2) - 2) hx hb hr (fun t ht hW => ⟨⟨((64 - x1) + x2) - 2, (), rfl, Option.some.inj hf, trivial⟩, hS.F ht⟩) hS.2.2 dX0_climb_14

noncomputable def lfX0_cost (K : Nat) (ζ : pZ) : Nat → (Nat → Int32 → Nat → pH → Option (Int32 × pH)) := Nat.rec (motive := fun _ => (Nat → Int32 → Nat → pH → Option (Int32 × pH))) (fun _ _ _ _ => none) (fun _ G => (fun v2 v3 v4 τ => dz_b (zob ζ τ v4 2) fun f3 => zcl τ (fnX2_hasNext K ζ v4 τ) fun x1 s2 => if x1 = (0 : Int32) then (some (v3, s2)) else (dz_b (zob ζ s2 v4 2) fun f6 => zcl s2 (fnX2_next K ζ v4 s2) fun x4 s5 => dz_b (zob ζ s5 x4 11) fun f7 => dz_c (zoL ζ s5 v2) fun cf8 f8 => dz_b (zvl (f8[0]?)) fun x9 => dz_b (fnX0_climb K (x9 - 1)) fun x10 => dz_c (zoL ζ s5 v2) fun cf11 f11 => dz_b (zvl (f11[0]?)) fun x12 => dz_b (zob ζ s5 x4 11) fun f13 => dz_b (zvl (f13[0]?)) fun x14 => if ¬ x14 = 0 then (dz_l ((x12 - 1) / x14) fun x16 => dz_b (fnX0_climb K x16) fun x17 => dz_l (v3 + (x10 + x17)) fun x18 => G v2 x18 v4 s5) else none)))
noncomputable def fnX0_cost (K : Nat) (ζ : pZ) (h : Nat) (a0 : Int32) (τ : pH) : Option (Int32 × pH) := dz_b (zob ζ τ h 0) fun f3 => zcl τ (fnX0_isLine K ζ h a0 τ) fun x1 s2 => if x1 = (0 : Int32) then (some ((-1), s2)) else (dz_b (zob ζ s2 h 0) fun f6 => zcl s2 (fnX0_isRight K ζ h a0 s2) fun x4 s5 => if x4 = (0 : Int32) then (some ((-2), s5)) else (dz_b (zob ζ s5 h 0) fun f7 => dz_b (zvr (f7[0]?)) fun x8 => dz_b (zob ζ s5 x8 14) fun f11 => zcl s5 (fnJ2_get K ζ x8 a0 s5) fun x9 s10 => dz_c (zoL ζ s10 x9) fun cf12 f12 => dz_c (zoL ζ s10 x9) fun cf13 f13 => dz_b (zvr (f13[4]?)) fun x14 => dz_b (zob ζ s10 x14 10) fun f17 => zcl s10 (fnX8_iterator K ζ x14 s10) fun x15 s16 => (lfX0_cost K ζ K) x9 0 x15 s16))
set_option maxHeartbeats 4000000 in
set_option maxRecDepth 100000 in
theorem wlX0_cost {p : Program} {l : Launch} {e : Env} {s : State} {m : MethodId} {below : List Frame} {meth : Method} {c : Code} {D : va_G} {cA : Nat → ClassId} {ζ : pZ} (hX : zX D cA ζ s) (K : Nat) (res : (Int32 × pH)) (M S sl0 : Nat) (hM : s.heap.size + M = res.2.1) (hS0 : sl0 + S = res.2.2.1) (h : Nat) (a0 : Int32) (hx : p.tables.exec = Jvm.exec) (hb : c.code = cX0_cost) (hr : meth.sig.returnType = some .int) (hlocks : meth.locks = false) (hml : c.maxLocals = 6) (hown : s.vm.findClass RX0 = some m.cls) (hts : ∀ w ∈ lw_all, w.before ([.ref h, .int a0] : List Value).toArray s = true) : ∀ k : Nat, (∀ (v2 : Nat) (v3 : Int32) (v4 : Nat) (τ : pH) (H : Heap) (locs : List Loc) (cells slots : Nat), zH D cA ζ τ H → va_S (zA ζ) s.heap H locs → s.heap.size + cells = τ.1 → sl0 + slots = τ.2.1 → cells ≤ M ∧ slots ≤ S → ∀ (ls : Array Slot), lv_has ls 6 [(2, .ref v2), (3, .int v3), (4, .ref v4)] → (lfX0_cost K ζ k) v2 v3 v4 τ = some res → W p l e (headSpec (ws_ yX0_cost cX0_cost 6 (some .int)) ({ frames := 104, cells := M, slots := S, locals := 2395 })).room s m ([.ref h, .int a0] : List Value).toArray below meth c H locs cells slots (MQ below (zQi D cA ζ res) ([.ref h, .int a0] : List Value).toArray s M S (zA ζ)) (F0 m 44 ls [])) := by
  intro k
  induction k with
  | zero =>
    exact fun _ _ _ _ _ _ _ _ _ _ _ _ _ _ _ hf => (by cases hf)
  | succ k ih =>
    · intro v2 v3 v4 τ H locs cells slots hH hS hcs hss hcM ls hl hf
      have hf : (dz_b (zob ζ τ v4 2) fun f3 => zcl τ (fnX2_hasNext K ζ v4 τ) fun x1 s2 => if x1 = (0 : Int32) then (some (v3, s2)) else (dz_b (zob ζ s2 v4 2) fun f6 => zcl s2 (fnX2_next K ζ v4 s2) fun x4 s5 => dz_b (zob ζ s5 x4 11) fun f7 => dz_c (zoL ζ s5 v2) fun cf8 f8 => dz_b (zvl (f8[0]?)) fun x9 => dz_b (fnX0_climb K (x9 - 1)) fun x10 => dz_c (zoL ζ s5 v2) fun cf11 f11 => dz_b (zvl (f11[0]?)) fun x12 => dz_b (zob ζ s5 x4 11) fun f13 => dz_b (zvl (f13[0]?)) fun x14 => if ¬ x14 = 0 then (dz_l ((x12 - 1) / x14) fun x16 => dz_b (fnX0_climb K x16) fun x17 => dz_l (v3 + (x10 + x17)) fun x18 => (lfX0_cost K ζ k) v2 x18 v4 s5) else none) : Option (Int32 × pH)) = some res := hf
      refine lv_aload hx hb dX0_cost_44 (lv_at hl 2 rfl) ?_
      obtain ⟨f3, hf3, hf⟩ := dz_bo hf
      obtain ⟨x1, s2, hx1, hle, hck, hf⟩ := zcl_o hf
      have hc1 : cells + (s2.1 - τ.1) ≤ M := by omega
      have hs1 : slots + (s2.2.1 - τ.2.1) ≤ S := by omega
      refine va_callFi (va_runF (hX.K.1 2 _ rfl).2 (As := []) (rest := []) ⟨hx, hb, hml, hown, hts⟩ (mtX2_hasNext l D cA ζ τ v4 K (x1, s2) hx1 (s2.1 - τ.1) (s2.2.1 - τ.2.1) (Nat.add_sub_cancel' hle.1) (Nat.add_sub_cancel' hle.2)) (va_cwF 0 hts (zF_in q782 q267 q269 q91 q271) rfl rfl rfl (hX.F 0 rfl) (by decide +kernel) ⟨Nat.le_of_ble_eq_true rfl, Nat.le_of_ble_eq_true rfl⟩) (z_preV hX hS hH (zob_o hf3) rfl) rfl rfl hl.1 rfl (lv_room (Nat.le_of_ble_eq_true rfl)) dX0_cost_46 ⟨hc1, hs1⟩) hS (fun q _ hq => hq) (fun q hq => hq) (fun r u t H1 locs ht hvm hw hB hz hk hS => ?_)
      obtain ⟨hw1, hw2⟩ := Prod.mk.inj hw.symm; subst hw1; subst hw2
      have hH : zH D cA ζ s2 H1 := z_at ht.symm hB
      have hcs : s.heap.size + (cells + (s2.1 - τ.1)) = s2.1 := by omega
      have hss : sl0 + (slots + (s2.2.1 - τ.2.1)) = s2.2.1 := by omega
      replace hcM := And.intro hc1 hs1
      generalize cells + (s2.1 - τ.1) = cells at hcs hcM ⊢; generalize slots + (s2.2.1 - τ.2.1) = slots at hss hcM ⊢
      clear hB hk hz hvm ht hle hck hc1 hs1; generalize H1 = H at hH hS ⊢
      refine lv_if_eq (tgt := 97) hx hb dX0_cost_51 (by decide) (fun c51 => ?_) (fun c51 => ?_)
      · have hf := dz_t c51 hf
        refine lv_iload_n hx hb dX0_cost_97 rfl (lv_at hl 1 rfl) ?_
        obtain ⟨hM1, hS1⟩ : cells = M ∧ slots = S := by have hq := congrArg Prod.snd (Option.some.inj hf); rw [← hq] at hM hS0; have hM : s.heap.size + M = s2.1 := hM; have hS0 : sl0 + S = s2.2.1 := hS0; omega
        refine W.widen (k := M) (n := S) (Nat.le_of_eq hM1) (Nat.le_of_eq hS1) ?_
        exact W.iret (v := v3) hx hb hr (fun t ht hW => ⟨⟨v3, s2, rfl, Option.some.inj hf, z_at ht hH⟩, hS.F ht⟩) hS.2.2 dX0_cost_98
      · have hf := dz_f c51 hf
        refine lv_aload hx hb dX0_cost_54 (lv_at hl 2 rfl) ?_
        obtain ⟨f6, hf6, hf⟩ := dz_bo hf
        obtain ⟨x4, s5, hx4, hle, hck, hf⟩ := zcl_o hf
        have hc1 : cells + (s5.1 - s2.1) ≤ M := by omega
        have hs1 : slots + (s5.2.1 - s2.2.1) ≤ S := by omega
        refine va_callFr (va_runF (hX.K.1 2 _ rfl).2 (As := []) (rest := []) ⟨hx, hb, hml, hown, hts⟩ (mtX2_next l D cA ζ s2 v4 K (x4, s5) hx4 (s5.1 - s2.1) (s5.2.1 - s2.2.1) (Nat.add_sub_cancel' hle.1) (Nat.add_sub_cancel' hle.2)) (va_cwF 0 hts (zF_in q784 q282 q284 q91 q286) rfl rfl rfl (hX.F 1 rfl) (by decide +kernel) ⟨Nat.le_of_ble_eq_true rfl, Nat.le_of_ble_eq_true rfl⟩) (z_preV hX hS hH (zob_o hf6) rfl) rfl rfl hl.1 rfl (lv_room (Nat.le_of_ble_eq_true rfl)) dX0_cost_56 ⟨hc1, hs1⟩) hS (fun q _ hq => hq) (fun q hq => hq) (fun u r t H1 locs ht hvm hw hB hz hk hS => ?_)
        obtain ⟨hw, hB⟩ := hB
        obtain ⟨hw1, hw2⟩ := Prod.mk.inj hw.symm; subst hw1; subst hw2
        have hH : zH D cA ζ s5 H1 := z_at ht.symm hB
        have hcs : s.heap.size + (cells + (s5.1 - s2.1)) = s5.1 := by omega
        have hss : sl0 + (slots + (s5.2.1 - s2.2.1)) = s5.2.1 := by omega
        replace hcM := And.intro hc1 hs1
        generalize cells + (s5.1 - s2.1) = cells at hcs hcM ⊢; generalize slots + (s5.2.1 - s2.2.1) = slots at hss hcM ⊢
        clear hB hk hz hvm ht hle hck hc1 hs1; generalize H1 = H at hH hS ⊢
        obtain ⟨f7, hf7, hf⟩ := dz_bo hf
        refine va_castS (nm := RX13) hx hb hown (hts _ q677) (hX.K.1 11 _ rfl).2 (va_recv hX.K (zrd_P hX hS hH (zob_o hf7)) (ci := 11) (q0 := 0) rfl rfl) dX0_cost_61 ?_
        refine lv_astore (lv' := [(5, .ref x4), (2, .ref v2), (3, .int v3), (4, .ref v4)]) hx hb dX0_cost_64 hl (by decide) rfl (fun ls hl => ?_)
        refine lv_iload_n hx hb dX0_cost_66 rfl (lv_at hl 2 rfl) ?_
        refine lv_aload_n hx hb dX0_cost_67 rfl (lv_at hl 1 rfl) ?_
        obtain ⟨cf8, f8, hcf8, hf⟩ := dz_co hf
        obtain ⟨x9, hx9, hf⟩ := dz_bo hf
        obtain ⟨hr_f8, hc_f8⟩ := zoL_o hcf8
        refine zL_get0 hx hb hts hown hX hS hH hr_f8 hc_f8 (hts _ q541) (zvl_o hx9) dX0_cost_68 ?_
        refine lv_lconst (v := 1) hx hb dX0_cost_71 rfl ?_
        refine lv_lsub hx hb dX0_cost_72 ?_
        obtain ⟨x10, hx10, hf⟩ := dz_bo hf
        refine va_calli (va_runS (As := [.long (x9 - 1)]) (rest := [.int v3]) ⟨hx, hb, hml, hown, hts⟩ (mtX0_climb l (x9 - 1) K x10 hx10) (va_cwS 1 hts (lw_S q1457 q1458 q84 q1459) rfl rfl rfl (by decide +kernel) ⟨Nat.le_of_ble_eq_true rfl, Nat.le_of_ble_eq_true rfl⟩) ⟨fun a U g mk q => q, fun U hU hW => ⟨rfl, trivial⟩⟩ rfl rfl hl.1 rfl (lv_room (Nat.le_of_ble_eq_true rfl)) dX0_cost_73 ⟨hcM.1, hcM.2⟩) hS (fun q _ hq => hq.elim) (fun q hq => hq.elim) (fun r u t H1 locs ht hvm hw hB hz hk hS => dz_size (fun hz9 => ?_))
        replace hw := hw.symm; subst hw
        replace hH := zH_keep hH hcs hz hk hz9
        clear hB hk hz hvm ht hz9; generalize H1 = H at hH hS ⊢
        refine W.widen (k := cells) (n := slots) (Nat.le_refl _) (Nat.le_refl _) ?_
        refine lv_aload_n hx hb dX0_cost_76 rfl (lv_at hl 1 rfl) ?_
        obtain ⟨cf11, f11, hcf11, hf⟩ := dz_co hf
        obtain ⟨x12, hx12, hf⟩ := dz_bo hf
        obtain ⟨hr_f11, hc_f11⟩ := zoL_o hcf11
        refine zL_get0 hx hb hts hown hX hS hH hr_f11 hc_f11 (hts _ q541) (zvl_o hx12) dX0_cost_77 ?_
        refine lv_lconst (v := 1) hx hb dX0_cost_80 rfl ?_
        refine lv_lsub hx hb dX0_cost_81 ?_
        refine lv_aload hx hb dX0_cost_82 (lv_at hl 0 rfl) ?_
        obtain ⟨f13, hf13, hf⟩ := dz_bo hf
        obtain ⟨x14, hx14, hf⟩ := dz_bo hf
        refine va_get (C := RX13) (T := TX13) (N := 3) hx hb hts in_X13 hown hX.K (zrd_P hX hS hH (zob_o hf13)) 0 rfl rfl 0 (by decide) (hts _ q686) (fun _ hq => hq) (zvl_o hx14) dX0_cost_84 ?_
        obtain ⟨g15, hf⟩ := dz_go hf
        refine lv_ldiv hx hb dX0_cost_87 g15 ?_
        refine lv_topl (fun x16 e_x16 => ?_)
        have hf := dz_ls e_x16 hf
        obtain ⟨x17, hx17, hf⟩ := dz_bo hf
        refine va_calli (va_runS (As := [.long x16]) (rest := [.int x10, .int v3]) ⟨hx, hb, hml, hown, hts⟩ (mtX0_climb l x16 K x17 hx17) (va_cwS 1 hts (lw_S q1457 q1458 q84 q1459) rfl rfl rfl (by decide +kernel) ⟨Nat.le_of_ble_eq_true rfl, Nat.le_of_ble_eq_true rfl⟩) ⟨fun a U g mk q => q, fun U hU hW => ⟨rfl, trivial⟩⟩ rfl rfl hl.1 rfl (lv_room (Nat.le_of_ble_eq_true rfl)) dX0_cost_88 ⟨hcM.1, hcM.2⟩) hS (fun q _ hq => hq.elim) (fun q hq => hq.elim) (fun r u t H1 locs ht hvm hw hB hz hk hS => dz_size (fun hz9 => ?_))
        replace hw := hw.symm; subst hw
        replace hH := zH_keep hH hcs hz hk hz9
        clear hB hk hz hvm ht hz9; generalize H1 = H at hH hS ⊢
        refine W.widen (k := cells) (n := slots) (Nat.le_refl _) (Nat.le_refl _) ?_
        refine lv_iadd hx hb dX0_cost_91 ?_
        refine lv_iadd hx hb dX0_cost_92 ?_
        refine lv_topi (fun x18 e_x18 => ?_)
        have hf := dz_ls e_x18 hf
        refine lv_istore_n (lv' := [(3, .int x18), (5, .ref x4), (2, .ref v2), (4, .ref v4)]) hx hb dX0_cost_93 rfl hl (by decide) rfl (fun ls hl => ?_)
        refine lv_goto (tgt := 44) hx hb dX0_cost_94 (by decide) ?_
        exact ih v2 x18 v4 s5 H locs cells slots hH hS hcs hss hcM ls (lv_sub hl [2, 0, 3] rfl) hf
set_option maxHeartbeats 4000000 in
set_option maxRecDepth 100000 in
theorem mtX0_cost (l : Launch) (D : va_G) (cA : Nat → ClassId) (ζ : pZ) (τ : pH) (h : Nat) (a0 : Int32) (K : Nat) (res : (Int32 × pH)) (hf : fnX0_cost K ζ h a0 τ = some res) (M S : Nat) (hM : τ.1 + M = res.2.1) (hS0 : τ.2.1 + S = res.2.2.1) : Met l yX0_cost (ws_ yX0_cost cX0_cost 6 (some .int)) ({ frames := 104, cells := M, slots := S, locals := 2395 }) (zPc D cA ζ τ [.ref h, .int a0]) (zQi D cA ζ res) M S (zA ζ) := by
  refine Met.ofW (cc := cX0_cost) (maxL := 6) (ret := some .int) (by decide +kernel) rfl ?_
  intro p e s m args below meth c s₁ B hml hv
  obtain ⟨rfl, hX, hH⟩ := hv
  have hx := B.exec
  have hb := B.bytes
  have hr := B.returns
  have hts := atoms_spec (ws := ws_ yX0_cost cX0_cost 6 (some .int)) B.pre
  have hts : ∀ w ∈ lw_all, w.before _ s = true := fun w h => hts w (List.mem_cons_of_mem _ h)
  have hown : s.vm.findClass RX0 = some m.cls := findClass_of_methodNamed B.named
  have hlocks := B.notSynchronized
  have hM : s.heap.size + M = res.2.1 := by rw [hH.1]; exact hM
  have hcs : s.heap.size + 0 = τ.1 := hH.1
  have hss : τ.2.1 + 0 = τ.2.1 := rfl
  generalize hsl0 : τ.2.1 = sl0 at hS0 hss
  have hss : sl0 + 0 = τ.2.1 := by rw [hsl0]; rfl
  have hS : va_S (zA ζ) s.heap s.heap [] := va_S.rf
  generalize hHe : s.heap = H at hH hS ⊢
  have hS : va_S (zA ζ) s.heap H [] := by rw [hHe]; exact hS
  generalize ([] : List Loc) = locs at hS ⊢
  have hl := lv_entry ([.ref h, .int a0]) (n := 6) (Nat.le_of_ble_eq_true rfl)
  rw [lg_entry_eq]
  generalize (lg_sl ([.ref h, .int a0]) ++ List.replicate (6 - (lg_sl ([.ref h, .int a0])).length) Slot.unset).toArray = ls at hl ⊢
  have hl : lv_has ls 6 [(0, .ref h), (1, .int a0)] := hl
  have hf : (dz_b (zob ζ τ h 0) fun f3 => zcl τ (fnX0_isLine K ζ h a0 τ) fun x1 s2 => if x1 = (0 : Int32) then (some ((-1), s2)) else (dz_b (zob ζ s2 h 0) fun f6 => zcl s2 (fnX0_isRight K ζ h a0 s2) fun x4 s5 => if x4 = (0 : Int32) then (some ((-2), s5)) else (dz_b (zob ζ s5 h 0) fun f7 => dz_b (zvr (f7[0]?)) fun x8 => dz_b (zob ζ s5 x8 14) fun f11 => zcl s5 (fnJ2_get K ζ x8 a0 s5) fun x9 s10 => dz_c (zoL ζ s10 x9) fun cf12 f12 => dz_c (zoL ζ s10 x9) fun cf13 f13 => dz_b (zvr (f13[4]?)) fun x14 => dz_b (zob ζ s10 x14 10) fun f17 => zcl s10 (fnX8_iterator K ζ x14 s10) fun x15 s16 => (lfX0_cost K ζ K) x9 0 x15 s16)) : Option (Int32 × pH)) = some res := hf
  refine z_gen (fun cells slots hc0 hs0 => ?_)
  have hcs : s.heap.size + cells = τ.1 := by rw [hc0]; exact hcs
  have hss : sl0 + slots = τ.2.1 := by rw [hs0]; exact hss
  have hcM : cells ≤ M ∧ slots ≤ S := by rw [hc0, hs0]; exact ⟨Nat.zero_le _, Nat.zero_le _⟩
  clear hc0 hs0
  have ih := wlX0_cost (l := l) (e := e) (below := below) (D := D) (cA := cA) hX K res M S sl0 hM hS0 h a0 hx hb hr hlocks hml hown hts K
  refine lv_aload_n hx hb dX0_cost_0 rfl (lv_at hl 0 rfl) ?_
  refine lv_iload_n hx hb dX0_cost_1 rfl (lv_at hl 1 rfl) ?_
  obtain ⟨f3, hf3, hf⟩ := dz_bo hf
  obtain ⟨x1, s2, hx1, hle, hck, hf⟩ := zcl_o hf
  have hc1 : cells + (s2.1 - τ.1) ≤ M := by omega
  have hs1 : slots + (s2.2.1 - τ.2.1) ≤ S := by omega
  refine va_calli (va_runV (As := [.int a0]) (rest := []) ⟨hx, hb, hml, hown, hts⟩ (mtX0_isLine l D cA ζ τ h a0 K (x1, s2) hx1 (s2.1 - τ.1) (s2.2.1 - τ.2.1) (Nat.add_sub_cancel' hle.1) (Nat.add_sub_cancel' hle.2)) (cwV 1 hts (lw_V q1349 q1351 qs28 q84 q1352) rfl rfl rfl (by decide +kernel) ⟨Nat.le_of_ble_eq_true rfl, Nat.le_of_ble_eq_true rfl⟩) (z_preV hX hS hH (zob_o hf3) rfl) rfl rfl hl.1 rfl (lv_room (Nat.le_of_ble_eq_true rfl)) dX0_cost_2 ⟨hc1, hs1⟩) hS (fun q _ hq => hq) (fun q hq => hq) (fun r u t H1 locs ht hvm hw hB hz hk hS => ?_)
  obtain ⟨hw1, hw2⟩ := Prod.mk.inj hw.symm; subst hw1; subst hw2
  have hH : zH D cA ζ s2 H1 := z_at ht.symm hB
  have hcs : s.heap.size + (cells + (s2.1 - τ.1)) = s2.1 := by omega
  have hss : sl0 + (slots + (s2.2.1 - τ.2.1)) = s2.2.1 := by omega
  replace hcM := And.intro hc1 hs1
  generalize cells + (s2.1 - τ.1) = cells at hcs hcM ⊢; generalize slots + (s2.2.1 - τ.2.1) = slots at hss hcM ⊢
  clear hB hk hz hvm ht hle hck hc1 hs1; generalize H1 = H at hH hS ⊢
  refine lv_if_ne (tgt := 10) hx hb dX0_cost_5 (by decide) (fun c5 => ?_) (fun c5 => ?_)
  · have hf := dz_f c5 hf
    refine lv_aload_n hx hb dX0_cost_10 rfl (lv_at hl 0 rfl) ?_
    refine lv_iload_n hx hb dX0_cost_11 rfl (lv_at hl 1 rfl) ?_
    obtain ⟨f6, hf6, hf⟩ := dz_bo hf
    obtain ⟨x4, s5, hx4, hle, hck, hf⟩ := zcl_o hf
    have hc1 : cells + (s5.1 - s2.1) ≤ M := by omega
    have hs1 : slots + (s5.2.1 - s2.2.1) ≤ S := by omega
    refine va_calli (va_runV (As := [.int a0]) (rest := []) ⟨hx, hb, hml, hown, hts⟩ (mtX0_isRight l D cA ζ s2 h a0 K (x4, s5) hx4 (s5.1 - s2.1) (s5.2.1 - s2.2.1) (Nat.add_sub_cancel' hle.1) (Nat.add_sub_cancel' hle.2)) (cwV 1 hts (lw_V q219 q221 qs1 q84 q222) rfl rfl rfl (by decide +kernel) ⟨Nat.le_of_ble_eq_true rfl, Nat.le_of_ble_eq_true rfl⟩) (z_preV hX hS hH (zob_o hf6) rfl) rfl rfl hl.1 rfl (lv_room (Nat.le_of_ble_eq_true rfl)) dX0_cost_12 ⟨hc1, hs1⟩) hS (fun q _ hq => hq) (fun q hq => hq) (fun r u t H1 locs ht hvm hw hB hz hk hS => ?_)
    obtain ⟨hw1, hw2⟩ := Prod.mk.inj hw.symm; subst hw1; subst hw2
    have hH : zH D cA ζ s5 H1 := z_at ht.symm hB
    have hcs : s.heap.size + (cells + (s5.1 - s2.1)) = s5.1 := by omega
    have hss : sl0 + (slots + (s5.2.1 - s2.2.1)) = s5.2.1 := by omega
    replace hcM := And.intro hc1 hs1
    generalize cells + (s5.1 - s2.1) = cells at hcs hcM ⊢; generalize slots + (s5.2.1 - s2.2.1) = slots at hss hcM ⊢
    clear hB hk hz hvm ht hle hck hc1 hs1; generalize H1 = H at hH hS ⊢
    refine lv_if_ne (tgt := 21) hx hb dX0_cost_15 (by decide) (fun c15 => ?_) (fun c15 => ?_)
    · have hf := dz_f c15 hf
      refine lv_aload_n hx hb dX0_cost_21 rfl (lv_at hl 0 rfl) ?_
      obtain ⟨f7, hf7, hf⟩ := dz_bo hf
      obtain ⟨x8, hx8, hf⟩ := dz_bo hf
      refine va_get (C := RX0) (T := TX0) (N := 7) hx hb hts in_X0 hown hX.K (zrd_P hX hS hH (zob_o hf7)) 0 rfl rfl 0 (by decide) (hts _ q156) (fun _ hq => hq) (zvr_o hx8) dX0_cost_22 ?_
      refine lv_iload_n hx hb dX0_cost_25 rfl (lv_at hl 1 rfl) ?_
      obtain ⟨f11, hf11, hf⟩ := dz_bo hf
      obtain ⟨x9, s10, hx9, hle, hck, hf⟩ := zcl_o hf
      have hc1 : cells + (s10.1 - s5.1) ≤ M := by omega
      have hs1 : slots + (s10.2.1 - s5.2.1) ≤ S := by omega
      refine va_callr (va_runV (As := [.int a0]) (rest := []) ⟨hx, hb, hml, hown, hts⟩ (mtJ2_get l D cA ζ s5 x8 a0 K (x9, s10) hx9 (s10.1 - s5.1) (s10.2.1 - s5.2.1) (Nat.add_sub_cancel' hle.1) (Nat.add_sub_cancel' hle.2)) (cwV 1 hts (lw_V q204 q205 q206 q87 q207) rfl rfl rfl (by decide +kernel) ⟨Nat.le_of_ble_eq_true rfl, Nat.le_of_ble_eq_true rfl⟩) (z_preV hX hS hH (zob_o hf11) rfl) rfl rfl hl.1 rfl (lv_room (Nat.le_of_ble_eq_true rfl)) dX0_cost_26 ⟨hc1, hs1⟩) hS (fun q _ hq => hq) (fun q hq => hq) (fun u r t H1 locs ht hvm hw hB hz hk hS => ?_)
      obtain ⟨hw, hB⟩ := hB
      obtain ⟨hw1, hw2⟩ := Prod.mk.inj hw.symm; subst hw1; subst hw2
      have hH : zH D cA ζ s10 H1 := z_at ht.symm hB
      have hcs : s.heap.size + (cells + (s10.1 - s5.1)) = s10.1 := by omega
      have hss : sl0 + (slots + (s10.2.1 - s5.2.1)) = s10.2.1 := by omega
      replace hcM := And.intro hc1 hs1
      generalize cells + (s10.1 - s5.1) = cells at hcs hcM ⊢; generalize slots + (s10.2.1 - s5.2.1) = slots at hss hcM ⊢
      clear hB hk hz hvm ht hle hck hc1 hs1; generalize H1 = H at hH hS ⊢
      obtain ⟨cf12, f12, hcf12, hf⟩ := dz_co hf
      obtain ⟨hr_f12, hc_f12⟩ := zoL_o hcf12
      refine zL_cast hx hb hown (hts _ q218) hX hS hH hr_f12 hc_f12 dX0_cost_29 ?_
      refine lv_astore_n (lv' := [(2, .ref x9), (0, .ref h), (1, .int a0)]) hx hb dX0_cost_32 rfl hl (by decide) rfl (fun ls hl => ?_)
      refine lv_iconst (v := 0) hx hb dX0_cost_33 (by decide) ?_
      refine lv_istore_n (lv' := [(3, .int 0), (2, .ref x9), (0, .ref h), (1, .int a0)]) hx hb dX0_cost_34 rfl hl (by decide) rfl (fun ls hl => ?_)
      refine lv_aload_n hx hb dX0_cost_35 rfl (lv_at hl 1 rfl) ?_
      obtain ⟨cf13, f13, hcf13, hf⟩ := dz_co hf
      obtain ⟨x14, hx14, hf⟩ := dz_bo hf
      obtain ⟨hr_f13, hc_f13⟩ := zoL_o hcf13
      refine zL_get4 hx hb hts hown hX hS hH hr_f13 hc_f13 (hts _ q558) (zvr_o hx14) dX0_cost_36 ?_
      obtain ⟨f17, hf17, hf⟩ := dz_bo hf
      obtain ⟨x15, s16, hx15, hle, hck, hf⟩ := zcl_o hf
      have hc1 : cells + (s16.1 - s10.1) ≤ M := by omega
      have hs1 : slots + (s16.2.1 - s10.2.1) ≤ S := by omega
      refine va_callr (va_runV (As := []) (rest := []) ⟨hx, hb, hml, hown, hts⟩ (mtX8_iterator l D cA ζ s10 x14 K (x15, s16) hx15 (s16.1 - s10.1) (s16.2.1 - s10.2.1) (Nat.add_sub_cancel' hle.1) (Nat.add_sub_cancel' hle.2)) (cwV 0 hts (lw_V q780 q246 q247 q98 q248) rfl rfl rfl (by decide +kernel) ⟨Nat.le_of_ble_eq_true rfl, Nat.le_of_ble_eq_true rfl⟩) (z_preV hX hS hH (zob_o hf17) rfl) rfl rfl hl.1 rfl (lv_room (Nat.le_of_ble_eq_true rfl)) dX0_cost_39 ⟨hc1, hs1⟩) hS (fun q _ hq => hq) (fun q hq => hq) (fun u r t H1 locs ht hvm hw hB hz hk hS => ?_)
      obtain ⟨hw, hB⟩ := hB
      obtain ⟨hw1, hw2⟩ := Prod.mk.inj hw.symm; subst hw1; subst hw2
      have hH : zH D cA ζ s16 H1 := z_at ht.symm hB
      have hcs : s.heap.size + (cells + (s16.1 - s10.1)) = s16.1 := by omega
      have hss : sl0 + (slots + (s16.2.1 - s10.2.1)) = s16.2.1 := by omega
      replace hcM := And.intro hc1 hs1
      generalize cells + (s16.1 - s10.1) = cells at hcs hcM ⊢; generalize slots + (s16.2.1 - s10.2.1) = slots at hss hcM ⊢
      clear hB hk hz hvm ht hle hck hc1 hs1; generalize H1 = H at hH hS ⊢
      refine lv_astore (lv' := [(4, .ref x15), (3, .int 0), (2, .ref x9), (0, .ref h), (1, .int a0)]) hx hb dX0_cost_42 hl (by decide) rfl (fun ls hl => ?_)
      exact ih x9 0 x15 s16 H locs cells slots hH hS hcs hss hcM ls (lv_sub hl [2, 1, 0] rfl) hf
    · have hf := dz_t c15 hf
      refine lv_bipush (v := (-2)) hx hb dX0_cost_18 (by decide) ?_
      obtain ⟨hM1, hS1⟩ : cells = M ∧ slots = S := by have hq := congrArg Prod.snd (Option.some.inj hf); rw [← hq] at hM hS0; have hM : s.heap.size + M = s5.1 := hM; have hS0 : sl0 + S = s5.2.1 := hS0; omega
      refine W.widen (k := M) (n := S) (Nat.le_of_eq hM1) (Nat.le_of_eq hS1) ?_
      exact W.iret (v := (-2)) hx hb hr (fun t ht hW => ⟨⟨(-2), s5, rfl, Option.some.inj hf, z_at ht hH⟩, hS.F ht⟩) hS.2.2 dX0_cost_20
  · have hf := dz_t c5 hf
    refine lv_iconst (v := (-1)) hx hb dX0_cost_8 (by decide) ?_
    obtain ⟨hM1, hS1⟩ : cells = M ∧ slots = S := by have hq := congrArg Prod.snd (Option.some.inj hf); rw [← hq] at hM hS0; have hM : s.heap.size + M = s2.1 := hM; have hS0 : sl0 + S = s2.2.1 := hS0; omega
    refine W.widen (k := M) (n := S) (Nat.le_of_eq hM1) (Nat.le_of_eq hS1) ?_
    exact W.iret (v := (-1)) hx hb hr (fun t ht hW => ⟨⟨(-1), s2, rfl, Option.some.inj hf, z_at ht hH⟩, hS.F ht⟩) hS.2.2 dX0_cost_9

noncomputable def fnL_isOne (K : Nat) (ζ : pZ) (h : Nat) (a0 : Nat) (τ : pH) : Option (Int32 × pH) := dz_b (zoL ζ τ h) fun q => if q.1 = 5 then fnX6_isOne_5 K ζ h a0 τ else (if q.1 = 6 then fnX6_isOne_6 K ζ h a0 τ else (if q.1 = 7 then fnX6_isOne_7 K ζ h a0 τ else (if q.1 = 8 then fnX6_isOne_8 K ζ h a0 τ else (if q.1 = 9 then fnX6_isOne_9 K ζ h a0 τ else (none)))))
theorem L_isOne_o {K : Nat} {ζ : pZ} {h : Nat} {a0 : Nat} {τ : pH} {r : (Int32 × pH)} (hf : fnL_isOne K ζ h a0 τ = some r) : (∃ fs, zrd ζ τ h = some (.inr (5, fs)) ∧ fnX6_isOne_5 K ζ h a0 τ = some r) ∨ (∃ fs, zrd ζ τ h = some (.inr (6, fs)) ∧ fnX6_isOne_6 K ζ h a0 τ = some r) ∨ (∃ fs, zrd ζ τ h = some (.inr (7, fs)) ∧ fnX6_isOne_7 K ζ h a0 τ = some r) ∨ (∃ fs, zrd ζ τ h = some (.inr (8, fs)) ∧ fnX6_isOne_8 K ζ h a0 τ = some r) ∨ (∃ fs, zrd ζ τ h = some (.inr (9, fs)) ∧ fnX6_isOne_9 K ζ h a0 τ = some r) := by
  obtain ⟨⟨ci, fs⟩, hq, hf⟩ := dz_bo hf
  obtain ⟨hr, hc⟩ := zoL_o hq
  rcases z5 hc with rfl | rfl | rfl | rfl | rfl
  · exact Or.inl ⟨fs, hr, hf⟩
  · exact Or.inr (Or.inl ⟨fs, hr, hf⟩)
  · exact Or.inr (Or.inr (Or.inl ⟨fs, hr, hf⟩))
  · exact Or.inr (Or.inr (Or.inr (Or.inl ⟨fs, hr, hf⟩)))
  · exact Or.inr (Or.inr (Or.inr (Or.inr ⟨fs, hr, hf⟩)))

noncomputable def fnL_isFar (K : Nat) (ζ : pZ) (h : Nat) (a0 : Nat) (τ : pH) : Option (Int32 × pH) := dz_b (zoL ζ τ h) fun q => if q.1 = 5 then fnX6_isFar_5 K ζ h a0 τ else (if q.1 = 6 then fnX6_isFar_6 K ζ h a0 τ else (if q.1 = 7 then fnX6_isFar_7 K ζ h a0 τ else (if q.1 = 8 then fnX6_isFar_8 K ζ h a0 τ else (if q.1 = 9 then fnX6_isFar_9 K ζ h a0 τ else (none)))))
theorem L_isFar_o {K : Nat} {ζ : pZ} {h : Nat} {a0 : Nat} {τ : pH} {r : (Int32 × pH)} (hf : fnL_isFar K ζ h a0 τ = some r) : (∃ fs, zrd ζ τ h = some (.inr (5, fs)) ∧ fnX6_isFar_5 K ζ h a0 τ = some r) ∨ (∃ fs, zrd ζ τ h = some (.inr (6, fs)) ∧ fnX6_isFar_6 K ζ h a0 τ = some r) ∨ (∃ fs, zrd ζ τ h = some (.inr (7, fs)) ∧ fnX6_isFar_7 K ζ h a0 τ = some r) ∨ (∃ fs, zrd ζ τ h = some (.inr (8, fs)) ∧ fnX6_isFar_8 K ζ h a0 τ = some r) ∨ (∃ fs, zrd ζ τ h = some (.inr (9, fs)) ∧ fnX6_isFar_9 K ζ h a0 τ = some r) := by
  obtain ⟨⟨ci, fs⟩, hq, hf⟩ := dz_bo hf
  obtain ⟨hr, hc⟩ := zoL_o hq
  rcases z5 hc with rfl | rfl | rfl | rfl | rfl
  · exact Or.inl ⟨fs, hr, hf⟩
  · exact Or.inr (Or.inl ⟨fs, hr, hf⟩)
  · exact Or.inr (Or.inr (Or.inl ⟨fs, hr, hf⟩))
  · exact Or.inr (Or.inr (Or.inr (Or.inl ⟨fs, hr, hf⟩)))
  · exact Or.inr (Or.inr (Or.inr (Or.inr ⟨fs, hr, hf⟩)))

noncomputable def lfX0_loose (K : Nat) (ζ : pZ) : Nat → (Nat → Int32 → Nat → Int32 → Int32 → pH → Option (Int32 × pH)) := Nat.rec (motive := fun _ => (Nat → Int32 → Nat → Int32 → Int32 → pH → Option (Int32 × pH))) (fun _ _ _ _ _ _ => none) (fun _ G => (fun v0 v1 v3 v4 v5 τ => dz_b (zob ζ τ v3 11) fun f1 => dz_b (zvi (f1[2]?)) fun x2 => if (999 : Int32) < x2 then (dz_b (zwo ζ τ v3 11 2) fun f3 => dz_l (zst τ v3 (.inr (11, f3.set 2 (.int v4)))) fun s4 => some (v5, s4)) else (dz_b (zob ζ τ v0 0) fun f5 => dz_b (zvr (f5[0]?)) fun x6 => dz_b (zob ζ τ x6 14) fun f9 => zcl τ (fnJ2_get K ζ x6 v1 τ) fun x7 s8 => dz_c (zoL ζ s8 x7) fun cf10 f10 => zcl s8 (fnL_isOne K ζ x7 v3 s8) fun x11 s12 => if x11 = (0 : Int32) then (dz_l (v5 + 0) fun x13 => dz_b (zob ζ s12 v3 11) fun f14 => dz_b (zvi (f14[2]?)) fun x15 => dz_l (x15 + 1) fun x16 => dz_b (zwo ζ s12 v3 11 2) fun f17 => dz_l (zst s12 v3 (.inr (11, f17.set 2 (.int x16)))) fun s18 => G v0 v1 v3 v4 x13 s18) else (dz_b (zob ζ s12 v0 0) fun f19 => dz_b (zvr (f19[0]?)) fun x20 => dz_b (zob ζ s12 x20 14) fun f23 => zcl s12 (fnJ2_get K ζ x20 v1 s12) fun x21 s22 => dz_c (zoL ζ s22 x21) fun cf24 f24 => zcl s22 (fnL_isFar K ζ x21 v3 s22) fun x25 s26 => if x25 = (0 : Int32) then (dz_l (v5 + 0) fun x27 => dz_b (zob ζ s26 v3 11) fun f28 => dz_b (zvi (f28[2]?)) fun x29 => dz_l (x29 + 1) fun x30 => dz_b (zwo ζ s26 v3 11 2) fun f31 => dz_l (zst s26 v3 (.inr (11, f31.set 2 (.int x30)))) fun s32 => G v0 v1 v3 v4 x27 s32) else (dz_l (v5 + 1) fun x33 => dz_b (zob ζ s26 v3 11) fun f34 => dz_b (zvi (f34[2]?)) fun x35 => dz_l (x35 + 1) fun x36 => dz_b (zwo ζ s26 v3 11 2) fun f37 => dz_l (zst s26 v3 (.inr (11, f37.set 2 (.int x36)))) fun s38 => G v0 v1 v3 v4 x33 s38)))))
noncomputable def fnX0_loose (K : Nat) (ζ : pZ) (h : Nat) (a0 : Int32) (a1 : Int32) (τ : pH) : Option (Int32 × pH) := dz_b (zob ζ τ h 0) fun f3 => zcl τ (fnX0_rowOf K ζ h a0 0 a1 τ) fun x1 s2 => dz_o x1 (fun y4 => dz_b (zob ζ s2 h 0) fun f7 => zcl s2 (fnX0_isRight K ζ h a0 s2) fun x5 s6 => if x5 = (0 : Int32) then (some ((-2), s6)) else (dz_b (zob ζ s6 y4 11) fun f8 => dz_b (zvi (f8[2]?)) fun x9 => dz_b (zwo ζ s6 y4 11 2) fun f10 => dz_l (zst s6 y4 (.inr (11, f10.set 2 (.int 2)))) fun s11 => (lfX0_loose K ζ K) h a0 y4 x9 0 s11)) (some ((-1), s2))
set_option maxHeartbeats 4000000 in
set_option maxRecDepth 100000 in
theorem wlX0_loose {p : Program} {l : Launch} {e : Env} {s : State} {m : MethodId} {below : List Frame} {meth : Method} {c : Code} {D : va_G} {cA : Nat → ClassId} {ζ : pZ} (hX : zX D cA ζ s) (K : Nat) (res : (Int32 × pH)) (M S sl0 : Nat) (hM : s.heap.size + M = res.2.1) (hS0 : sl0 + S = res.2.2.1) (h : Nat) (a0 : Int32) (a1 : Int32) (hx : p.tables.exec = Jvm.exec) (hb : c.code = cX0_loose) (hr : meth.sig.returnType = some .int) (hlocks : meth.locks = false) (hml : c.maxLocals = 6) (hown : s.vm.findClass RX0 = some m.cls) (hts : ∀ w ∈ lw_all, w.before ([.ref h, .int a0, .int a1] : List Value).toArray s = true) : ∀ k : Nat, (∀ (v0 : Nat) (v1 : Int32) (v3 : Nat) (v4 : Int32) (v5 : Int32) (τ : pH) (H : Heap) (locs : List Loc) (cells slots : Nat), zH D cA ζ τ H → va_S (zA ζ) s.heap H locs → s.heap.size + cells = τ.1 → sl0 + slots = τ.2.1 → cells ≤ M ∧ slots ≤ S → ∀ (ls : Array Slot), lv_has ls 6 [(0, .ref v0), (1, .int v1), (3, .ref v3), (4, .int v4), (5, .int v5)] → (lfX0_loose K ζ k) v0 v1 v3 v4 v5 τ = some res → W p l e (headSpec (ws_ yX0_loose cX0_loose 6 (some .int)) ({ frames := 104, cells := M, slots := S, locals := 2395 })).room s m ([.ref h, .int a0, .int a1] : List Value).toArray below meth c H locs cells slots (MQ below (zQi D cA ζ res) ([.ref h, .int a0, .int a1] : List Value).toArray s M S (zA ζ)) (F0 m 39 ls [])) := by
  intro k
  induction k with
  | zero =>
    exact fun _ _ _ _ _ _ _ _ _ _ _ _ _ _ _ _ _ hf => (by cases hf)
  | succ k ih =>
    · intro v0 v1 v3 v4 v5 τ H locs cells slots hH hS hcs hss hcM ls hl hf
      have hf : (dz_b (zob ζ τ v3 11) fun f1 => dz_b (zvi (f1[2]?)) fun x2 => if (999 : Int32) < x2 then (dz_b (zwo ζ τ v3 11 2) fun f3 => dz_l (zst τ v3 (.inr (11, f3.set 2 (.int v4)))) fun s4 => some (v5, s4)) else (dz_b (zob ζ τ v0 0) fun f5 => dz_b (zvr (f5[0]?)) fun x6 => dz_b (zob ζ τ x6 14) fun f9 => zcl τ (fnJ2_get K ζ x6 v1 τ) fun x7 s8 => dz_c (zoL ζ s8 x7) fun cf10 f10 => zcl s8 (fnL_isOne K ζ x7 v3 s8) fun x11 s12 => if x11 = (0 : Int32) then (dz_l (v5 + 0) fun x13 => dz_b (zob ζ s12 v3 11) fun f14 => dz_b (zvi (f14[2]?)) fun x15 => dz_l (x15 + 1) fun x16 => dz_b (zwo ζ s12 v3 11 2) fun f17 => dz_l (zst s12 v3 (.inr (11, f17.set 2 (.int x16)))) fun s18 => (lfX0_loose K ζ k) v0 v1 v3 v4 x13 s18) else (dz_b (zob ζ s12 v0 0) fun f19 => dz_b (zvr (f19[0]?)) fun x20 => dz_b (zob ζ s12 x20 14) fun f23 => zcl s12 (fnJ2_get K ζ x20 v1 s12) fun x21 s22 => dz_c (zoL ζ s22 x21) fun cf24 f24 => zcl s22 (fnL_isFar K ζ x21 v3 s22) fun x25 s26 => if x25 = (0 : Int32) then (dz_l (v5 + 0) fun x27 => dz_b (zob ζ s26 v3 11) fun f28 => dz_b (zvi (f28[2]?)) fun x29 => dz_l (x29 + 1) fun x30 => dz_b (zwo ζ s26 v3 11 2) fun f31 => dz_l (zst s26 v3 (.inr (11, f31.set 2 (.int x30)))) fun s32 => (lfX0_loose K ζ k) v0 v1 v3 v4 x27 s32) else (dz_l (v5 + 1) fun x33 => dz_b (zob ζ s26 v3 11) fun f34 => dz_b (zvi (f34[2]?)) fun x35 => dz_l (x35 + 1) fun x36 => dz_b (zwo ζ s26 v3 11 2) fun f37 => dz_l (zst s26 v3 (.inr (11, f37.set 2 (.int x36)))) fun s38 => (lfX0_loose K ζ k) v0 v1 v3 v4 x33 s38))) : Option (Int32 × pH)) = some res := hf
      refine lv_aload_n hx hb dX0_loose_39 rfl (lv_at hl 2 rfl) ?_
      obtain ⟨f1, hf1, hf⟩ := dz_bo hf
      obtain ⟨x2, hx2, hf⟩ := dz_bo hf
      refine va_get (C := RX13) (T := TX13) (N := 3) hx hb hts in_X13 hown hX.K (zrd_P hX hS hH (zob_o hf1)) 0 rfl rfl 2 (by decide) (hts _ q693) (fun _ hq => hq) (zvi_o hx2) dX0_loose_40 ?_
      refine lv_sipush (v := 999) hx hb dX0_loose_43 (by decide) ?_
      refine lv_icmp_gt (tgt := 108) hx hb dX0_loose_46 (by decide) (fun c46 => ?_) (fun c46 => ?_)
      · have hf := dz_t c46 hf
        refine lv_aload_n hx hb dX0_loose_108 rfl (lv_at hl 2 rfl) ?_
        refine lv_iload hx hb dX0_loose_109 (lv_at hl 3 rfl) ?_
        obtain ⟨f3, hf3, hf⟩ := dz_bo hf
        obtain ⟨ha_f3, he_f3, hk_f3⟩ := zwo_o hf3
        refine va_put (C := RX13) (T := TX13) (N := 3) hx hb hts in_X13 tyX13 tyX13_ok nmX13 hown hX.K hH.2.2 zw_D hS _ (zw_o ha_f3 he_f3) rfl 2 (by decide) (hts _ q693) (fun _ hq => hq) rfl rfl rfl rfl hk_f3 dX0_loose_111 (fun H1 locs hP1 _ hS => dz_size (fun hz => ?_))
        obtain ⟨s4, e_s4, hf⟩ := dz_lo hf
        have hH := zH_put (x := .inr (11, f3.set 2 (.int v4))) hH hcs ha_f3 hP1 hz
        rw [← e_s4] at hH
        have hcs : s.heap.size + cells = s4.1 := by rw [e_s4]; exact hcs
        have hss : sl0 + slots = s4.2.1 := by rw [e_s4]; exact hss
        clear hP1 hz; generalize H1 = H at hH hS ⊢
        refine lv_iload hx hb dX0_loose_114 (lv_at hl 4 rfl) ?_
        obtain ⟨hM1, hS1⟩ : cells = M ∧ slots = S := by have hq := congrArg Prod.snd (Option.some.inj hf); rw [← hq] at hM hS0; have hM : s.heap.size + M = s4.1 := hM; have hS0 : sl0 + S = s4.2.1 := hS0; omega
        refine W.widen (k := M) (n := S) (Nat.le_of_eq hM1) (Nat.le_of_eq hS1) ?_
        exact W.iret (v := v5) hx hb hr (fun t ht hW => ⟨⟨v5, s4, rfl, Option.some.inj hf, z_at ht hH⟩, hS.F ht⟩) hS.2.2 dX0_loose_116
      · have hf := dz_f c46 hf
        refine lv_iload hx hb dX0_loose_49 (lv_at hl 4 rfl) ?_
        refine lv_aload_n hx hb dX0_loose_51 rfl (lv_at hl 0 rfl) ?_
        obtain ⟨f5, hf5, hf⟩ := dz_bo hf
        obtain ⟨x6, hx6, hf⟩ := dz_bo hf
        refine va_get (C := RX0) (T := TX0) (N := 7) hx hb hts in_X0 hown hX.K (zrd_P hX hS hH (zob_o hf5)) 0 rfl rfl 0 (by decide) (hts _ q156) (fun _ hq => hq) (zvr_o hx6) dX0_loose_52 ?_
        refine lv_iload_n hx hb dX0_loose_55 rfl (lv_at hl 1 rfl) ?_
        obtain ⟨f9, hf9, hf⟩ := dz_bo hf
        obtain ⟨x7, s8, hx7, hle, hck, hf⟩ := zcl_o hf
        have hc1 : cells + (s8.1 - τ.1) ≤ M := by omega
        have hs1 : slots + (s8.2.1 - τ.2.1) ≤ S := by omega
        refine va_callr (va_runV (As := [.int v1]) (rest := [.int v5]) ⟨hx, hb, hml, hown, hts⟩ (mtJ2_get l D cA ζ τ x6 v1 K (x7, s8) hx7 (s8.1 - τ.1) (s8.2.1 - τ.2.1) (Nat.add_sub_cancel' hle.1) (Nat.add_sub_cancel' hle.2)) (cwV 1 hts (lw_V q204 q205 q206 q87 q207) rfl rfl rfl (by decide +kernel) ⟨Nat.le_of_ble_eq_true rfl, Nat.le_of_ble_eq_true rfl⟩) (z_preV hX hS hH (zob_o hf9) rfl) rfl rfl hl.1 rfl (lv_room (Nat.le_of_ble_eq_true rfl)) dX0_loose_56 ⟨hc1, hs1⟩) hS (fun q _ hq => hq) (fun q hq => hq) (fun u r t H1 locs ht hvm hw hB hz hk hS => ?_)
        obtain ⟨hw, hB⟩ := hB
        obtain ⟨hw1, hw2⟩ := Prod.mk.inj hw.symm; subst hw1; subst hw2
        have hH : zH D cA ζ s8 H1 := z_at ht.symm hB
        have hcs : s.heap.size + (cells + (s8.1 - τ.1)) = s8.1 := by omega
        have hss : sl0 + (slots + (s8.2.1 - τ.2.1)) = s8.2.1 := by omega
        replace hcM := And.intro hc1 hs1
        generalize cells + (s8.1 - τ.1) = cells at hcs hcM ⊢; generalize slots + (s8.2.1 - τ.2.1) = slots at hss hcM ⊢
        clear hB hk hz hvm ht hle hck hc1 hs1; generalize H1 = H at hH hS ⊢
        obtain ⟨cf10, f10, hcf10, hf⟩ := dz_co hf
        obtain ⟨hr_f10, hc_f10⟩ := zoL_o hcf10
        refine zL_cast hx hb hown (hts _ q218) hX hS hH hr_f10 hc_f10 dX0_loose_59 ?_
        refine lv_aload_n hx hb dX0_loose_62 rfl (lv_at hl 2 rfl) ?_
        obtain ⟨x11, s12, hx11, hle, hck, hf⟩ := zcl_o hf
        have hc1 : cells + (s12.1 - s8.1) ≤ M := by omega
        have hs1 : slots + (s12.2.1 - s8.2.1) ≤ S := by omega
        refine va_calli (post := fun (r : Int32) (u : pH) => (r, u) = (x11, s12)) (B := fun u t => zH D cA ζ u t.heap) (A1 := zA ζ) (a := (Value.ref x7 :: [.ref v3] : List Value).toArray) (mc := s12.1 - s8.1) (ms := s12.2.1 - s8.2.1) (rest := [.int v5]) (free := zA ζ) ?_ hS (fun q _ hq => hq) (fun q hq => hq) (fun r u t H1 locs ht hvm hw hB hz hk hS => ?_)
        · rcases L_isOne_o hx11 with ⟨fs_, hr_, hg_⟩ | ⟨fs_, hr_, hg_⟩ | ⟨fs_, hr_, hg_⟩ | ⟨fs_, hr_, hg_⟩ | ⟨fs_, hr_, hg_⟩
          · exact va_runU (x := ⟨"PrimeProofs$Line", "isOne", "(LPrimeProofs$Row;)Z"⟩) (owner := "PrimeProofs$Line") (As := [.ref v3]) (rest := [.int v5]) ⟨hx, hb, hml, hown, hts⟩ (mtX6_isOne_5 l D cA ζ s8 x7 v3 K (x11, s12) hg_ (s12.1 - s8.1) (s12.2.1 - s8.2.1) (Nat.add_sub_cancel' hle.1) (Nat.add_sub_cancel' hle.2)) (va_cwA 1 hts (zU_in q1477 q360 q365 q359 q96 q366) rfl rfl rfl (hX.N q750 rfl) (by decide +kernel) ⟨Nat.le_of_ble_eq_true rfl, Nat.le_of_ble_eq_true rfl⟩) (z_preV hX hS hH hr_ rfl) rfl rfl hl.1 rfl (lv_room (Nat.le_of_ble_eq_true rfl)) dX0_loose_63 ⟨hc1, hs1⟩
          · exact va_runU (x := ⟨"PrimeProofs$Line", "isOne", "(LPrimeProofs$Row;)Z"⟩) (owner := "PrimeProofs$Line") (As := [.ref v3]) (rest := [.int v5]) ⟨hx, hb, hml, hown, hts⟩ (mtX6_isOne_6 l D cA ζ s8 x7 v3 K (x11, s12) hg_ (s12.1 - s8.1) (s12.2.1 - s8.2.1) (Nat.add_sub_cancel' hle.1) (Nat.add_sub_cancel' hle.2)) (va_cwA 1 hts (zU_in q1477 q360 q364 q359 q96 q366) rfl rfl rfl (hX.N q750 rfl) (by decide +kernel) ⟨Nat.le_of_ble_eq_true rfl, Nat.le_of_ble_eq_true rfl⟩) (z_preV hX hS hH hr_ rfl) rfl rfl hl.1 rfl (lv_room (Nat.le_of_ble_eq_true rfl)) dX0_loose_63 ⟨hc1, hs1⟩
          · exact va_runU (x := ⟨"PrimeProofs$Line", "isOne", "(LPrimeProofs$Row;)Z"⟩) (owner := "PrimeProofs$Line") (As := [.ref v3]) (rest := [.int v5]) ⟨hx, hb, hml, hown, hts⟩ (mtX6_isOne_7 l D cA ζ s8 x7 v3 K (x11, s12) hg_ (s12.1 - s8.1) (s12.2.1 - s8.2.1) (Nat.add_sub_cancel' hle.1) (Nat.add_sub_cancel' hle.2)) (va_cwA 1 hts (zU_in q1477 q360 q363 q359 q96 q366) rfl rfl rfl (hX.N q750 rfl) (by decide +kernel) ⟨Nat.le_of_ble_eq_true rfl, Nat.le_of_ble_eq_true rfl⟩) (z_preV hX hS hH hr_ rfl) rfl rfl hl.1 rfl (lv_room (Nat.le_of_ble_eq_true rfl)) dX0_loose_63 ⟨hc1, hs1⟩
          · exact va_runU (x := ⟨"PrimeProofs$Line", "isOne", "(LPrimeProofs$Row;)Z"⟩) (owner := "PrimeProofs$Line") (As := [.ref v3]) (rest := [.int v5]) ⟨hx, hb, hml, hown, hts⟩ (mtX6_isOne_8 l D cA ζ s8 x7 v3 K (x11, s12) hg_ (s12.1 - s8.1) (s12.2.1 - s8.2.1) (Nat.add_sub_cancel' hle.1) (Nat.add_sub_cancel' hle.2)) (va_cwA 1 hts (zU_in q1477 q360 q362 q359 q96 q366) rfl rfl rfl (hX.N q750 rfl) (by decide +kernel) ⟨Nat.le_of_ble_eq_true rfl, Nat.le_of_ble_eq_true rfl⟩) (z_preV hX hS hH hr_ rfl) rfl rfl hl.1 rfl (lv_room (Nat.le_of_ble_eq_true rfl)) dX0_loose_63 ⟨hc1, hs1⟩
          · exact va_runU (x := ⟨"PrimeProofs$Line", "isOne", "(LPrimeProofs$Row;)Z"⟩) (owner := "PrimeProofs$Line") (As := [.ref v3]) (rest := [.int v5]) ⟨hx, hb, hml, hown, hts⟩ (mtX6_isOne_9 l D cA ζ s8 x7 v3 K (x11, s12) hg_ (s12.1 - s8.1) (s12.2.1 - s8.2.1) (Nat.add_sub_cancel' hle.1) (Nat.add_sub_cancel' hle.2)) (va_cwA 1 hts (zU_in q1477 q360 q361 q359 q96 q366) rfl rfl rfl (hX.N q750 rfl) (by decide +kernel) ⟨Nat.le_of_ble_eq_true rfl, Nat.le_of_ble_eq_true rfl⟩) (z_preV hX hS hH hr_ rfl) rfl rfl hl.1 rfl (lv_room (Nat.le_of_ble_eq_true rfl)) dX0_loose_63 ⟨hc1, hs1⟩
        obtain ⟨hw1, hw2⟩ := Prod.mk.inj hw.symm; subst hw1; subst hw2
        have hH : zH D cA ζ s12 H1 := z_at ht.symm hB
        have hcs : s.heap.size + (cells + (s12.1 - s8.1)) = s12.1 := by omega
        have hss : sl0 + (slots + (s12.2.1 - s8.2.1)) = s12.2.1 := by omega
        replace hcM := And.intro hc1 hs1
        generalize cells + (s12.1 - s8.1) = cells at hcs hcM ⊢; generalize slots + (s12.2.1 - s8.2.1) = slots at hss hcM ⊢
        clear hB hk hz hvm ht hle hck hc1 hs1; generalize H1 = H at hH hS ⊢
        refine lv_if_eq (tgt := 91) hx hb dX0_loose_66 (by decide) (fun c66 => ?_) (fun c66 => ?_)
        · have hf := dz_t c66 hf
          refine lv_iconst (v := 0) hx hb dX0_loose_91 (by decide) ?_
          refine lv_iadd hx hb dX0_loose_92 ?_
          refine lv_topi (fun x13 e_x13 => ?_)
          have hf := dz_ls e_x13 hf
          refine lv_istore (lv' := [(5, .int x13), (0, .ref v0), (1, .int v1), (3, .ref v3), (4, .int v4)]) hx hb dX0_loose_93 hl (by decide) rfl (fun ls hl => ?_)
          refine lv_aload_n hx hb dX0_loose_95 rfl (lv_at hl 3 rfl) ?_
          refine lv_dup hx hb dX0_loose_96 rfl ?_
          obtain ⟨f14, hf14, hf⟩ := dz_bo hf
          obtain ⟨x15, hx15, hf⟩ := dz_bo hf
          refine va_get (C := RX13) (T := TX13) (N := 3) hx hb hts in_X13 hown hX.K (zrd_P hX hS hH (zob_o hf14)) 0 rfl rfl 2 (by decide) (hts _ q693) (fun _ hq => hq) (zvi_o hx15) dX0_loose_97 ?_
          refine lv_iconst (v := 1) hx hb dX0_loose_100 (by decide) ?_
          refine lv_iadd hx hb dX0_loose_101 ?_
          refine lv_topi (fun x16 e_x16 => ?_)
          have hf := dz_ls e_x16 hf
          obtain ⟨f17, hf17, hf⟩ := dz_bo hf
          obtain ⟨ha_f17, he_f17, hk_f17⟩ := zwo_o hf17
          refine va_put (C := RX13) (T := TX13) (N := 3) hx hb hts in_X13 tyX13 tyX13_ok nmX13 hown hX.K hH.2.2 zw_D hS _ (zw_o ha_f17 he_f17) rfl 2 (by decide) (hts _ q693) (fun _ hq => hq) rfl rfl rfl rfl hk_f17 dX0_loose_102 (fun H1 locs hP1 _ hS => dz_size (fun hz => ?_))
          obtain ⟨s18, e_s18, hf⟩ := dz_lo hf
          have hH := zH_put (x := .inr (11, f17.set 2 (.int x16))) hH hcs ha_f17 hP1 hz
          rw [← e_s18] at hH
          have hcs : s.heap.size + cells = s18.1 := by rw [e_s18]; exact hcs
          have hss : sl0 + slots = s18.2.1 := by rw [e_s18]; exact hss
          clear hP1 hz; generalize H1 = H at hH hS ⊢
          refine lv_goto (tgt := 39) hx hb dX0_loose_105 (by decide) ?_
          exact ih v0 v1 v3 v4 x13 s18 H locs cells slots hH hS hcs hss hcM ls (lv_sub hl [1, 2, 3, 4, 0] rfl) hf
        · have hf := dz_f c66 hf
          refine lv_aload_n hx hb dX0_loose_69 rfl (lv_at hl 0 rfl) ?_
          obtain ⟨f19, hf19, hf⟩ := dz_bo hf
          obtain ⟨x20, hx20, hf⟩ := dz_bo hf
          refine va_get (C := RX0) (T := TX0) (N := 7) hx hb hts in_X0 hown hX.K (zrd_P hX hS hH (zob_o hf19)) 0 rfl rfl 0 (by decide) (hts _ q156) (fun _ hq => hq) (zvr_o hx20) dX0_loose_70 ?_
          refine lv_iload_n hx hb dX0_loose_73 rfl (lv_at hl 1 rfl) ?_
          obtain ⟨f23, hf23, hf⟩ := dz_bo hf
          obtain ⟨x21, s22, hx21, hle, hck, hf⟩ := zcl_o hf
          have hc1 : cells + (s22.1 - s12.1) ≤ M := by omega
          have hs1 : slots + (s22.2.1 - s12.2.1) ≤ S := by omega
          refine va_callr (va_runV (As := [.int v1]) (rest := [.int v5]) ⟨hx, hb, hml, hown, hts⟩ (mtJ2_get l D cA ζ s12 x20 v1 K (x21, s22) hx21 (s22.1 - s12.1) (s22.2.1 - s12.2.1) (Nat.add_sub_cancel' hle.1) (Nat.add_sub_cancel' hle.2)) (cwV 1 hts (lw_V q204 q205 q206 q87 q207) rfl rfl rfl (by decide +kernel) ⟨Nat.le_of_ble_eq_true rfl, Nat.le_of_ble_eq_true rfl⟩) (z_preV hX hS hH (zob_o hf23) rfl) rfl rfl hl.1 rfl (lv_room (Nat.le_of_ble_eq_true rfl)) dX0_loose_74 ⟨hc1, hs1⟩) hS (fun q _ hq => hq) (fun q hq => hq) (fun u r t H1 locs ht hvm hw hB hz hk hS => ?_)
          obtain ⟨hw, hB⟩ := hB
          obtain ⟨hw1, hw2⟩ := Prod.mk.inj hw.symm; subst hw1; subst hw2
          have hH : zH D cA ζ s22 H1 := z_at ht.symm hB
          have hcs : s.heap.size + (cells + (s22.1 - s12.1)) = s22.1 := by omega
          have hss : sl0 + (slots + (s22.2.1 - s12.2.1)) = s22.2.1 := by omega
          replace hcM := And.intro hc1 hs1
          generalize cells + (s22.1 - s12.1) = cells at hcs hcM ⊢; generalize slots + (s22.2.1 - s12.2.1) = slots at hss hcM ⊢
          clear hB hk hz hvm ht hle hck hc1 hs1; generalize H1 = H at hH hS ⊢
          obtain ⟨cf24, f24, hcf24, hf⟩ := dz_co hf
          obtain ⟨hr_f24, hc_f24⟩ := zoL_o hcf24
          refine zL_cast hx hb hown (hts _ q218) hX hS hH hr_f24 hc_f24 dX0_loose_77 ?_
          refine lv_aload_n hx hb dX0_loose_80 rfl (lv_at hl 2 rfl) ?_
          obtain ⟨x25, s26, hx25, hle, hck, hf⟩ := zcl_o hf
          have hc1 : cells + (s26.1 - s22.1) ≤ M := by omega
          have hs1 : slots + (s26.2.1 - s22.2.1) ≤ S := by omega
          refine va_calli (post := fun (r : Int32) (u : pH) => (r, u) = (x25, s26)) (B := fun u t => zH D cA ζ u t.heap) (A1 := zA ζ) (a := (Value.ref x21 :: [.ref v3] : List Value).toArray) (mc := s26.1 - s22.1) (ms := s26.2.1 - s22.2.1) (rest := [.int v5]) (free := zA ζ) ?_ hS (fun q _ hq => hq) (fun q hq => hq) (fun r u t H1 locs ht hvm hw hB hz hk hS => ?_)
          · rcases L_isFar_o hx25 with ⟨fs_, hr_, hg_⟩ | ⟨fs_, hr_, hg_⟩ | ⟨fs_, hr_, hg_⟩ | ⟨fs_, hr_, hg_⟩ | ⟨fs_, hr_, hg_⟩
            · exact va_runU (x := ⟨"PrimeProofs$Line", "isFar", "(LPrimeProofs$Row;)Z"⟩) (owner := "PrimeProofs$Line") (As := [.ref v3]) (rest := [.int v5]) ⟨hx, hb, hml, hown, hts⟩ (mtX6_isFar_5 l D cA ζ s22 x21 v3 K (x25, s26) hg_ (s26.1 - s22.1) (s26.2.1 - s22.2.1) (Nat.add_sub_cancel' hle.1) (Nat.add_sub_cancel' hle.2)) (va_cwA 1 hts (zU_in q1478 q433 q438 q432 q96 q439) rfl rfl rfl (hX.N q754 rfl) (by decide +kernel) ⟨Nat.le_of_ble_eq_true rfl, Nat.le_of_ble_eq_true rfl⟩) (z_preV hX hS hH hr_ rfl) rfl rfl hl.1 rfl (lv_room (Nat.le_of_ble_eq_true rfl)) dX0_loose_81 ⟨hc1, hs1⟩
            · exact va_runU (x := ⟨"PrimeProofs$Line", "isFar", "(LPrimeProofs$Row;)Z"⟩) (owner := "PrimeProofs$Line") (As := [.ref v3]) (rest := [.int v5]) ⟨hx, hb, hml, hown, hts⟩ (mtX6_isFar_6 l D cA ζ s22 x21 v3 K (x25, s26) hg_ (s26.1 - s22.1) (s26.2.1 - s22.2.1) (Nat.add_sub_cancel' hle.1) (Nat.add_sub_cancel' hle.2)) (va_cwA 1 hts (zU_in q1478 q433 q437 q432 q96 q439) rfl rfl rfl (hX.N q754 rfl) (by decide +kernel) ⟨Nat.le_of_ble_eq_true rfl, Nat.le_of_ble_eq_true rfl⟩) (z_preV hX hS hH hr_ rfl) rfl rfl hl.1 rfl (lv_room (Nat.le_of_ble_eq_true rfl)) dX0_loose_81 ⟨hc1, hs1⟩
            · exact va_runU (x := ⟨"PrimeProofs$Line", "isFar", "(LPrimeProofs$Row;)Z"⟩) (owner := "PrimeProofs$Line") (As := [.ref v3]) (rest := [.int v5]) ⟨hx, hb, hml, hown, hts⟩ (mtX6_isFar_7 l D cA ζ s22 x21 v3 K (x25, s26) hg_ (s26.1 - s22.1) (s26.2.1 - s22.2.1) (Nat.add_sub_cancel' hle.1) (Nat.add_sub_cancel' hle.2)) (va_cwA 1 hts (zU_in q1478 q433 q436 q432 q96 q439) rfl rfl rfl (hX.N q754 rfl) (by decide +kernel) ⟨Nat.le_of_ble_eq_true rfl, Nat.le_of_ble_eq_true rfl⟩) (z_preV hX hS hH hr_ rfl) rfl rfl hl.1 rfl (lv_room (Nat.le_of_ble_eq_true rfl)) dX0_loose_81 ⟨hc1, hs1⟩
            · exact va_runU (x := ⟨"PrimeProofs$Line", "isFar", "(LPrimeProofs$Row;)Z"⟩) (owner := "PrimeProofs$Line") (As := [.ref v3]) (rest := [.int v5]) ⟨hx, hb, hml, hown, hts⟩ (mtX6_isFar_8 l D cA ζ s22 x21 v3 K (x25, s26) hg_ (s26.1 - s22.1) (s26.2.1 - s22.2.1) (Nat.add_sub_cancel' hle.1) (Nat.add_sub_cancel' hle.2)) (va_cwA 1 hts (zU_in q1478 q433 q435 q432 q96 q439) rfl rfl rfl (hX.N q754 rfl) (by decide +kernel) ⟨Nat.le_of_ble_eq_true rfl, Nat.le_of_ble_eq_true rfl⟩) (z_preV hX hS hH hr_ rfl) rfl rfl hl.1 rfl (lv_room (Nat.le_of_ble_eq_true rfl)) dX0_loose_81 ⟨hc1, hs1⟩
            · exact va_runU (x := ⟨"PrimeProofs$Line", "isFar", "(LPrimeProofs$Row;)Z"⟩) (owner := "PrimeProofs$Line") (As := [.ref v3]) (rest := [.int v5]) ⟨hx, hb, hml, hown, hts⟩ (mtX6_isFar_9 l D cA ζ s22 x21 v3 K (x25, s26) hg_ (s26.1 - s22.1) (s26.2.1 - s22.2.1) (Nat.add_sub_cancel' hle.1) (Nat.add_sub_cancel' hle.2)) (va_cwA 1 hts (zU_in q1478 q433 q434 q432 q96 q439) rfl rfl rfl (hX.N q754 rfl) (by decide +kernel) ⟨Nat.le_of_ble_eq_true rfl, Nat.le_of_ble_eq_true rfl⟩) (z_preV hX hS hH hr_ rfl) rfl rfl hl.1 rfl (lv_room (Nat.le_of_ble_eq_true rfl)) dX0_loose_81 ⟨hc1, hs1⟩
          obtain ⟨hw1, hw2⟩ := Prod.mk.inj hw.symm; subst hw1; subst hw2
          have hH : zH D cA ζ s26 H1 := z_at ht.symm hB
          have hcs : s.heap.size + (cells + (s26.1 - s22.1)) = s26.1 := by omega
          have hss : sl0 + (slots + (s26.2.1 - s22.2.1)) = s26.2.1 := by omega
          replace hcM := And.intro hc1 hs1
          generalize cells + (s26.1 - s22.1) = cells at hcs hcM ⊢; generalize slots + (s26.2.1 - s22.2.1) = slots at hss hcM ⊢
          clear hB hk hz hvm ht hle hck hc1 hs1; generalize H1 = H at hH hS ⊢
          refine lv_if_eq (tgt := 91) hx hb dX0_loose_84 (by decide) (fun c84 => ?_) (fun c84 => ?_)
          · have hf := dz_t c84 hf
            refine lv_iconst (v := 0) hx hb dX0_loose_91 (by decide) ?_
            refine lv_iadd hx hb dX0_loose_92 ?_
            refine lv_topi (fun x27 e_x27 => ?_)
            have hf := dz_ls e_x27 hf
            refine lv_istore (lv' := [(5, .int x27), (0, .ref v0), (1, .int v1), (3, .ref v3), (4, .int v4)]) hx hb dX0_loose_93 hl (by decide) rfl (fun ls hl => ?_)
            refine lv_aload_n hx hb dX0_loose_95 rfl (lv_at hl 3 rfl) ?_
            refine lv_dup hx hb dX0_loose_96 rfl ?_
            obtain ⟨f28, hf28, hf⟩ := dz_bo hf
            obtain ⟨x29, hx29, hf⟩ := dz_bo hf
            refine va_get (C := RX13) (T := TX13) (N := 3) hx hb hts in_X13 hown hX.K (zrd_P hX hS hH (zob_o hf28)) 0 rfl rfl 2 (by decide) (hts _ q693) (fun _ hq => hq) (zvi_o hx29) dX0_loose_97 ?_
            refine lv_iconst (v := 1) hx hb dX0_loose_100 (by decide) ?_
            refine lv_iadd hx hb dX0_loose_101 ?_
            refine lv_topi (fun x30 e_x30 => ?_)
            have hf := dz_ls e_x30 hf
            obtain ⟨f31, hf31, hf⟩ := dz_bo hf
            obtain ⟨ha_f31, he_f31, hk_f31⟩ := zwo_o hf31
            refine va_put (C := RX13) (T := TX13) (N := 3) hx hb hts in_X13 tyX13 tyX13_ok nmX13 hown hX.K hH.2.2 zw_D hS _ (zw_o ha_f31 he_f31) rfl 2 (by decide) (hts _ q693) (fun _ hq => hq) rfl rfl rfl rfl hk_f31 dX0_loose_102 (fun H1 locs hP1 _ hS => dz_size (fun hz => ?_))
            obtain ⟨s32, e_s32, hf⟩ := dz_lo hf
            have hH := zH_put (x := .inr (11, f31.set 2 (.int x30))) hH hcs ha_f31 hP1 hz
            rw [← e_s32] at hH
            have hcs : s.heap.size + cells = s32.1 := by rw [e_s32]; exact hcs
            have hss : sl0 + slots = s32.2.1 := by rw [e_s32]; exact hss
            clear hP1 hz; generalize H1 = H at hH hS ⊢
            refine lv_goto (tgt := 39) hx hb dX0_loose_105 (by decide) ?_
            exact ih v0 v1 v3 v4 x27 s32 H locs cells slots hH hS hcs hss hcM ls (lv_sub hl [1, 2, 3, 4, 0] rfl) hf
          · have hf := dz_f c84 hf
            refine lv_iconst (v := 1) hx hb dX0_loose_87 (by decide) ?_
            refine lv_goto (tgt := 92) hx hb dX0_loose_88 (by decide) ?_
            refine lv_iadd hx hb dX0_loose_92 ?_
            refine lv_topi (fun x33 e_x33 => ?_)
            have hf := dz_ls e_x33 hf
            refine lv_istore (lv' := [(5, .int x33), (0, .ref v0), (1, .int v1), (3, .ref v3), (4, .int v4)]) hx hb dX0_loose_93 hl (by decide) rfl (fun ls hl => ?_)
            refine lv_aload_n hx hb dX0_loose_95 rfl (lv_at hl 3 rfl) ?_
            refine lv_dup hx hb dX0_loose_96 rfl ?_
            obtain ⟨f34, hf34, hf⟩ := dz_bo hf
            obtain ⟨x35, hx35, hf⟩ := dz_bo hf
            refine va_get (C := RX13) (T := TX13) (N := 3) hx hb hts in_X13 hown hX.K (zrd_P hX hS hH (zob_o hf34)) 0 rfl rfl 2 (by decide) (hts _ q693) (fun _ hq => hq) (zvi_o hx35) dX0_loose_97 ?_
            refine lv_iconst (v := 1) hx hb dX0_loose_100 (by decide) ?_
            refine lv_iadd hx hb dX0_loose_101 ?_
            refine lv_topi (fun x36 e_x36 => ?_)
            have hf := dz_ls e_x36 hf
            obtain ⟨f37, hf37, hf⟩ := dz_bo hf
            obtain ⟨ha_f37, he_f37, hk_f37⟩ := zwo_o hf37
            refine va_put (C := RX13) (T := TX13) (N := 3) hx hb hts in_X13 tyX13 tyX13_ok nmX13 hown hX.K hH.2.2 zw_D hS _ (zw_o ha_f37 he_f37) rfl 2 (by decide) (hts _ q693) (fun _ hq => hq) rfl rfl rfl rfl hk_f37 dX0_loose_102 (fun H1 locs hP1 _ hS => dz_size (fun hz => ?_))
            obtain ⟨s38, e_s38, hf⟩ := dz_lo hf
            have hH := zH_put (x := .inr (11, f37.set 2 (.int x36))) hH hcs ha_f37 hP1 hz
            rw [← e_s38] at hH
            have hcs : s.heap.size + cells = s38.1 := by rw [e_s38]; exact hcs
            have hss : sl0 + slots = s38.2.1 := by rw [e_s38]; exact hss
            clear hP1 hz; generalize H1 = H at hH hS ⊢
            refine lv_goto (tgt := 39) hx hb dX0_loose_105 (by decide) ?_
            exact ih v0 v1 v3 v4 x33 s38 H locs cells slots hH hS hcs hss hcM ls (lv_sub hl [1, 2, 3, 4, 0] rfl) hf
set_option maxHeartbeats 4000000 in
set_option maxRecDepth 100000 in
theorem mtX0_loose (l : Launch) (D : va_G) (cA : Nat → ClassId) (ζ : pZ) (τ : pH) (h : Nat) (a0 : Int32) (a1 : Int32) (K : Nat) (res : (Int32 × pH)) (hf : fnX0_loose K ζ h a0 a1 τ = some res) (M S : Nat) (hM : τ.1 + M = res.2.1) (hS0 : τ.2.1 + S = res.2.2.1) : Met l yX0_loose (ws_ yX0_loose cX0_loose 6 (some .int)) ({ frames := 104, cells := M, slots := S, locals := 2395 }) (zPc D cA ζ τ [.ref h, .int a0, .int a1]) (zQi D cA ζ res) M S (zA ζ) := by
  refine Met.ofW (cc := cX0_loose) (maxL := 6) (ret := some .int) (by decide +kernel) rfl ?_
  intro p e s m args below meth c s₁ B hml hv
  obtain ⟨rfl, hX, hH⟩ := hv
  have hx := B.exec
  have hb := B.bytes
  have hr := B.returns
  have hts := atoms_spec (ws := ws_ yX0_loose cX0_loose 6 (some .int)) B.pre
  have hts : ∀ w ∈ lw_all, w.before _ s = true := fun w h => hts w (List.mem_cons_of_mem _ h)
  have hown : s.vm.findClass RX0 = some m.cls := findClass_of_methodNamed B.named
  have hlocks := B.notSynchronized
  have hM : s.heap.size + M = res.2.1 := by rw [hH.1]; exact hM
  have hcs : s.heap.size + 0 = τ.1 := hH.1
  have hss : τ.2.1 + 0 = τ.2.1 := rfl
  generalize hsl0 : τ.2.1 = sl0 at hS0 hss
  have hss : sl0 + 0 = τ.2.1 := by rw [hsl0]; rfl
  have hS : va_S (zA ζ) s.heap s.heap [] := va_S.rf
  generalize hHe : s.heap = H at hH hS ⊢
  have hS : va_S (zA ζ) s.heap H [] := by rw [hHe]; exact hS
  generalize ([] : List Loc) = locs at hS ⊢
  have hl := lv_entry ([.ref h, .int a0, .int a1]) (n := 6) (Nat.le_of_ble_eq_true rfl)
  rw [lg_entry_eq]
  generalize (lg_sl ([.ref h, .int a0, .int a1]) ++ List.replicate (6 - (lg_sl ([.ref h, .int a0, .int a1])).length) Slot.unset).toArray = ls at hl ⊢
  have hl : lv_has ls 6 [(0, .ref h), (1, .int a0), (2, .int a1)] := hl
  have hf : (dz_b (zob ζ τ h 0) fun f3 => zcl τ (fnX0_rowOf K ζ h a0 0 a1 τ) fun x1 s2 => dz_o x1 (fun y4 => dz_b (zob ζ s2 h 0) fun f7 => zcl s2 (fnX0_isRight K ζ h a0 s2) fun x5 s6 => if x5 = (0 : Int32) then (some ((-2), s6)) else (dz_b (zob ζ s6 y4 11) fun f8 => dz_b (zvi (f8[2]?)) fun x9 => dz_b (zwo ζ s6 y4 11 2) fun f10 => dz_l (zst s6 y4 (.inr (11, f10.set 2 (.int 2)))) fun s11 => (lfX0_loose K ζ K) h a0 y4 x9 0 s11)) (some ((-1), s2)) : Option (Int32 × pH)) = some res := hf
  refine z_gen (fun cells slots hc0 hs0 => ?_)
  have hcs : s.heap.size + cells = τ.1 := by rw [hc0]; exact hcs
  have hss : sl0 + slots = τ.2.1 := by rw [hs0]; exact hss
  have hcM : cells ≤ M ∧ slots ≤ S := by rw [hc0, hs0]; exact ⟨Nat.zero_le _, Nat.zero_le _⟩
  clear hc0 hs0
  have ih := wlX0_loose (l := l) (e := e) (below := below) (D := D) (cA := cA) hX K res M S sl0 hM hS0 h a0 a1 hx hb hr hlocks hml hown hts K
  refine lv_aload_n hx hb dX0_loose_0 rfl (lv_at hl 0 rfl) ?_
  refine lv_iload_n hx hb dX0_loose_1 rfl (lv_at hl 1 rfl) ?_
  refine lv_iconst (v := 0) hx hb dX0_loose_2 (by decide) ?_
  refine lv_iload_n hx hb dX0_loose_3 rfl (lv_at hl 2 rfl) ?_
  obtain ⟨f3, hf3, hf⟩ := dz_bo hf
  obtain ⟨x1, s2, hx1, hle, hck, hf⟩ := zcl_o hf
  have hc1 : cells + (s2.1 - τ.1) ≤ M := by omega
  have hs1 : slots + (s2.2.1 - τ.2.1) ≤ S := by omega
  refine va_callq (va_runV (As := [.int a0, .int 0, .int a1]) (rest := []) ⟨hx, hb, hml, hown, hts⟩ (mtX0_rowOf l D cA ζ τ h a0 0 a1 K (x1, s2) hx1 (s2.1 - τ.1) (s2.2.1 - τ.2.1) (Nat.add_sub_cancel' hle.1) (Nat.add_sub_cancel' hle.2)) (cwV 3 hts (lw_V q1359 q1361 qs29 q84 q1362) rfl rfl rfl (by decide +kernel) ⟨Nat.le_of_ble_eq_true rfl, Nat.le_of_ble_eq_true rfl⟩) (z_preV hX hS hH (zob_o hf3) rfl) rfl rfl hl.1 rfl (lv_room (Nat.le_of_ble_eq_true rfl)) dX0_loose_4 ⟨hc1, hs1⟩) hS (fun q _ hq => hq) (fun q hq => hq) (fun r u t H1 locs ht hvm hw hB hz hk hS => ?_)
  obtain ⟨hw1, hw2⟩ := Prod.mk.inj hw.symm; subst hw1; subst hw2
  have hH : zH D cA ζ s2 H1 := z_at ht.symm hB
  have hcs : s.heap.size + (cells + (s2.1 - τ.1)) = s2.1 := by omega
  have hss : sl0 + (slots + (s2.2.1 - τ.2.1)) = s2.2.1 := by omega
  replace hcM := And.intro hc1 hs1
  generalize cells + (s2.1 - τ.1) = cells at hcs hcM ⊢; generalize slots + (s2.2.1 - τ.2.1) = slots at hss hcM ⊢
  clear hB hk hz hvm ht hle hck hc1 hs1; generalize H1 = H at hH hS ⊢
  refine dz_oc hf (fun y4 hq hf => ?_) (fun hq hf => ?_)
  · subst hq
    refine W.eq (g2 := F0 m 7 ls [.ref y4]) rfl ?_
    refine lv_astore_n (lv' := [(3, .ref y4), (0, .ref h), (1, .int a0), (2, .int a1)]) hx hb dX0_loose_7 rfl hl (by decide) rfl (fun ls hl => ?_)
    refine lv_aload_n hx hb dX0_loose_8 rfl (lv_at hl 0 rfl) ?_
    refine lv_ifnonnull (tgt := 14) hx hb dX0_loose_9 (by decide) ?_
    refine lv_aload_n hx hb dX0_loose_14 rfl (lv_at hl 1 rfl) ?_
    refine lv_iload_n hx hb dX0_loose_15 rfl (lv_at hl 2 rfl) ?_
    obtain ⟨f7, hf7, hf⟩ := dz_bo hf
    obtain ⟨x5, s6, hx5, hle, hck, hf⟩ := zcl_o hf
    have hc1 : cells + (s6.1 - s2.1) ≤ M := by omega
    have hs1 : slots + (s6.2.1 - s2.2.1) ≤ S := by omega
    refine va_calli (va_runV (As := [.int a0]) (rest := []) ⟨hx, hb, hml, hown, hts⟩ (mtX0_isRight l D cA ζ s2 h a0 K (x5, s6) hx5 (s6.1 - s2.1) (s6.2.1 - s2.2.1) (Nat.add_sub_cancel' hle.1) (Nat.add_sub_cancel' hle.2)) (cwV 1 hts (lw_V q219 q221 qs1 q84 q222) rfl rfl rfl (by decide +kernel) ⟨Nat.le_of_ble_eq_true rfl, Nat.le_of_ble_eq_true rfl⟩) (z_preV hX hS hH (zob_o hf7) rfl) rfl rfl hl.1 rfl (lv_room (Nat.le_of_ble_eq_true rfl)) dX0_loose_16 ⟨hc1, hs1⟩) hS (fun q _ hq => hq) (fun q hq => hq) (fun r u t H1 locs ht hvm hw hB hz hk hS => ?_)
    obtain ⟨hw1, hw2⟩ := Prod.mk.inj hw.symm; subst hw1; subst hw2
    have hH : zH D cA ζ s6 H1 := z_at ht.symm hB
    have hcs : s.heap.size + (cells + (s6.1 - s2.1)) = s6.1 := by omega
    have hss : sl0 + (slots + (s6.2.1 - s2.2.1)) = s6.2.1 := by omega
    replace hcM := And.intro hc1 hs1
    generalize cells + (s6.1 - s2.1) = cells at hcs hcM ⊢; generalize slots + (s6.2.1 - s2.2.1) = slots at hss hcM ⊢
    clear hB hk hz hvm ht hle hck hc1 hs1; generalize H1 = H at hH hS ⊢
    refine lv_if_ne (tgt := 25) hx hb dX0_loose_19 (by decide) (fun c19 => ?_) (fun c19 => ?_)
    · have hf := dz_f c19 hf
      refine lv_aload_n hx hb dX0_loose_25 rfl (lv_at hl 0 rfl) ?_
      obtain ⟨f8, hf8, hf⟩ := dz_bo hf
      obtain ⟨x9, hx9, hf⟩ := dz_bo hf
      refine va_get (C := RX13) (T := TX13) (N := 3) hx hb hts in_X13 hown hX.K (zrd_P hX hS hH (zob_o hf8)) 0 rfl rfl 2 (by decide) (hts _ q693) (fun _ hq => hq) (zvi_o hx9) dX0_loose_26 ?_
      refine lv_istore (lv' := [(4, .int x9), (3, .ref y4), (0, .ref h), (1, .int a0), (2, .int a1)]) hx hb dX0_loose_29 hl (by decide) rfl (fun ls hl => ?_)
      refine lv_iconst (v := 0) hx hb dX0_loose_31 (by decide) ?_
      refine lv_istore (lv' := [(5, .int 0), (4, .int x9), (3, .ref y4), (0, .ref h), (1, .int a0), (2, .int a1)]) hx hb dX0_loose_32 hl (by decide) rfl (fun ls hl => ?_)
      refine lv_aload_n hx hb dX0_loose_34 rfl (lv_at hl 2 rfl) ?_
      refine lv_iconst (v := 2) hx hb dX0_loose_35 (by decide) ?_
      obtain ⟨f10, hf10, hf⟩ := dz_bo hf
      obtain ⟨ha_f10, he_f10, hk_f10⟩ := zwo_o hf10
      refine va_put (C := RX13) (T := TX13) (N := 3) hx hb hts in_X13 tyX13 tyX13_ok nmX13 hown hX.K hH.2.2 zw_D hS _ (zw_o ha_f10 he_f10) rfl 2 (by decide) (hts _ q693) (fun _ hq => hq) rfl rfl rfl rfl hk_f10 dX0_loose_36 (fun H1 locs hP1 _ hS => dz_size (fun hz => ?_))
      obtain ⟨s11, e_s11, hf⟩ := dz_lo hf
      have hH := zH_put (x := .inr (11, f10.set 2 (.int 2))) hH hcs ha_f10 hP1 hz
      rw [← e_s11] at hH
      have hcs : s.heap.size + cells = s11.1 := by rw [e_s11]; exact hcs
      have hss : sl0 + slots = s11.2.1 := by rw [e_s11]; exact hss
      clear hP1 hz; generalize H1 = H at hH hS ⊢
      exact ih h a0 y4 x9 0 s11 H locs cells slots hH hS hcs hss hcM ls (lv_sub hl [3, 4, 2, 1, 0] rfl) hf
    · have hf := dz_t c19 hf
      refine lv_bipush (v := (-2)) hx hb dX0_loose_22 (by decide) ?_
      obtain ⟨hM1, hS1⟩ : cells = M ∧ slots = S := by have hq := congrArg Prod.snd (Option.some.inj hf); rw [← hq] at hM hS0; have hM : s.heap.size + M = s6.1 := hM; have hS0 : sl0 + S = s6.2.1 := hS0; omega
      refine W.widen (k := M) (n := S) (Nat.le_of_eq hM1) (Nat.le_of_eq hS1) ?_
      exact W.iret (v := (-2)) hx hb hr (fun t ht hW => ⟨⟨(-2), s6, rfl, Option.some.inj hf, z_at ht hH⟩, hS.F ht⟩) hS.2.2 dX0_loose_24
  · subst hq
    refine W.eq (g2 := F0 m 7 ls [.null]) rfl ?_
    refine lv_astore_nN (lv' := [(3, .null), (0, .ref h), (1, .int a0), (2, .int a1)]) hx hb dX0_loose_7 rfl hl (by decide) rfl (fun ls hl => ?_)
    refine lv_aload_nN hx hb dX0_loose_8 rfl (lv_at hl 0 rfl) ?_
    refine lv_ifnonnullN hx hb dX0_loose_9 ?_
    refine lv_iconst (v := (-1)) hx hb dX0_loose_12 (by decide) ?_
    obtain ⟨hM1, hS1⟩ : cells = M ∧ slots = S := by have hq := congrArg Prod.snd (Option.some.inj hf); rw [← hq] at hM hS0; have hM : s.heap.size + M = s2.1 := hM; have hS0 : sl0 + S = s2.2.1 := hS0; omega
    refine W.widen (k := M) (n := S) (Nat.le_of_eq hM1) (Nat.le_of_eq hS1) ?_
    exact W.iret (v := (-1)) hx hb hr (fun t ht hW => ⟨⟨(-1), s2, rfl, Option.some.inj hf, z_at ht hH⟩, hS.F ht⟩) hS.2.2 dX0_loose_13

noncomputable def fnX0_shared (K : Nat) (ζ : pZ) (h : Nat) (a0 : Int32) (a1 : Int32) (τ : pH) : Option (Int64 × pH) := dz_b (zob ζ τ h 0) fun f3 => zcl τ (fnX0_isLine K ζ h a0 τ) fun x1 s2 => if x1 = (0 : Int32) then (some ((-1), s2)) else (dz_b (zob ζ s2 h 0) fun f6 => zcl s2 (fnX0_isLine K ζ h a1 s2) fun x4 s5 => if x4 = (0 : Int32) then (some ((-1), s5)) else (dz_b (zob ζ s5 h 0) fun f9 => zcl s5 (fnX0_isRight K ζ h a0 s5) fun x7 s8 => if x7 = (0 : Int32) then (some ((-2), s8)) else (dz_b (zob ζ s8 h 0) fun f12 => zcl s8 (fnX0_isRight K ζ h a1 s8) fun x10 s11 => if x10 = (0 : Int32) then (some ((-2), s11)) else (dz_b (zob ζ s11 h 0) fun f15 => zcl s11 (fnX0_restsOf K ζ h a0 s11) fun x13 s14 => dz_b (zob ζ s14 h 0) fun f18 => zcl s14 (fnX0_restsOf K ζ h a1 s14) fun x16 s17 => dz_l (x13 &&& x16) fun x19 => some (x19, s17)))))
set_option maxHeartbeats 4000000 in
set_option maxRecDepth 100000 in
theorem mtX0_shared (l : Launch) (D : va_G) (cA : Nat → ClassId) (ζ : pZ) (τ : pH) (h : Nat) (a0 : Int32) (a1 : Int32) (K : Nat) (res : (Int64 × pH)) (hf : fnX0_shared K ζ h a0 a1 τ = some res) (M S : Nat) (hM : τ.1 + M = res.2.1) (hS0 : τ.2.1 + S = res.2.2.1) : Met l yX0_shared (ws_ yX0_shared cX0_shared 3 (some .long)) ({ frames := 108, cells := M, slots := S, locals := 2487 }) (zPc D cA ζ τ [.ref h, .int a0, .int a1]) (zQl D cA ζ res) M S (zA ζ) := by
  refine Met.ofW (cc := cX0_shared) (maxL := 3) (ret := some .long) (by decide +kernel) rfl ?_
  intro p e s m args below meth c s₁ B hml hv
  obtain ⟨rfl, hX, hH⟩ := hv
  have hx := B.exec
  have hb := B.bytes
  have hr := B.returns
  have hts := atoms_spec (ws := ws_ yX0_shared cX0_shared 3 (some .long)) B.pre
  have hts : ∀ w ∈ lw_all, w.before _ s = true := fun w h => hts w (List.mem_cons_of_mem _ h)
  have hown : s.vm.findClass RX0 = some m.cls := findClass_of_methodNamed B.named
  have hlocks := B.notSynchronized
  have hM : s.heap.size + M = res.2.1 := by rw [hH.1]; exact hM
  have hcs : s.heap.size + 0 = τ.1 := hH.1
  have hss : τ.2.1 + 0 = τ.2.1 := rfl
  generalize hsl0 : τ.2.1 = sl0 at hS0 hss
  have hss : sl0 + 0 = τ.2.1 := by rw [hsl0]; rfl
  have hS : va_S (zA ζ) s.heap s.heap [] := va_S.rf
  generalize hHe : s.heap = H at hH hS ⊢
  have hS : va_S (zA ζ) s.heap H [] := by rw [hHe]; exact hS
  generalize ([] : List Loc) = locs at hS ⊢
  have hl := lv_entry ([.ref h, .int a0, .int a1]) (n := 3) (Nat.le_of_ble_eq_true rfl)
  rw [lg_entry_eq]
  generalize (lg_sl ([.ref h, .int a0, .int a1]) ++ List.replicate (3 - (lg_sl ([.ref h, .int a0, .int a1])).length) Slot.unset).toArray = ls at hl ⊢
  have hl : lv_has ls 3 [(0, .ref h), (1, .int a0), (2, .int a1)] := hl
  have hf : (dz_b (zob ζ τ h 0) fun f3 => zcl τ (fnX0_isLine K ζ h a0 τ) fun x1 s2 => if x1 = (0 : Int32) then (some ((-1), s2)) else (dz_b (zob ζ s2 h 0) fun f6 => zcl s2 (fnX0_isLine K ζ h a1 s2) fun x4 s5 => if x4 = (0 : Int32) then (some ((-1), s5)) else (dz_b (zob ζ s5 h 0) fun f9 => zcl s5 (fnX0_isRight K ζ h a0 s5) fun x7 s8 => if x7 = (0 : Int32) then (some ((-2), s8)) else (dz_b (zob ζ s8 h 0) fun f12 => zcl s8 (fnX0_isRight K ζ h a1 s8) fun x10 s11 => if x10 = (0 : Int32) then (some ((-2), s11)) else (dz_b (zob ζ s11 h 0) fun f15 => zcl s11 (fnX0_restsOf K ζ h a0 s11) fun x13 s14 => dz_b (zob ζ s14 h 0) fun f18 => zcl s14 (fnX0_restsOf K ζ h a1 s14) fun x16 s17 => dz_l (x13 &&& x16) fun x19 => some (x19, s17))))) : Option (Int64 × pH)) = some res := hf
  refine z_gen (fun cells slots hc0 hs0 => ?_)
  have hcs : s.heap.size + cells = τ.1 := by rw [hc0]; exact hcs
  have hss : sl0 + slots = τ.2.1 := by rw [hs0]; exact hss
  have hcM : cells ≤ M ∧ slots ≤ S := by rw [hc0, hs0]; exact ⟨Nat.zero_le _, Nat.zero_le _⟩
  clear hc0 hs0
  refine lv_aload_n hx hb dX0_shared_0 rfl (lv_at hl 0 rfl) ?_
  refine lv_iload_n hx hb dX0_shared_1 rfl (lv_at hl 1 rfl) ?_
  obtain ⟨f3, hf3, hf⟩ := dz_bo hf
  obtain ⟨x1, s2, hx1, hle, hck, hf⟩ := zcl_o hf
  have hc1 : cells + (s2.1 - τ.1) ≤ M := by omega
  have hs1 : slots + (s2.2.1 - τ.2.1) ≤ S := by omega
  refine va_calli (va_runV (As := [.int a0]) (rest := []) ⟨hx, hb, hml, hown, hts⟩ (mtX0_isLine l D cA ζ τ h a0 K (x1, s2) hx1 (s2.1 - τ.1) (s2.2.1 - τ.2.1) (Nat.add_sub_cancel' hle.1) (Nat.add_sub_cancel' hle.2)) (cwV 1 hts (lw_V q1349 q1351 qs28 q84 q1352) rfl rfl rfl (by decide +kernel) ⟨Nat.le_of_ble_eq_true rfl, Nat.le_of_ble_eq_true rfl⟩) (z_preV hX hS hH (zob_o hf3) rfl) rfl rfl hl.1 rfl (lv_room (Nat.le_of_ble_eq_true rfl)) dX0_shared_2 ⟨hc1, hs1⟩) hS (fun q _ hq => hq) (fun q hq => hq) (fun r u t H1 locs ht hvm hw hB hz hk hS => ?_)
  obtain ⟨hw1, hw2⟩ := Prod.mk.inj hw.symm; subst hw1; subst hw2
  have hH : zH D cA ζ s2 H1 := z_at ht.symm hB
  have hcs : s.heap.size + (cells + (s2.1 - τ.1)) = s2.1 := by omega
  have hss : sl0 + (slots + (s2.2.1 - τ.2.1)) = s2.2.1 := by omega
  replace hcM := And.intro hc1 hs1
  generalize cells + (s2.1 - τ.1) = cells at hcs hcM ⊢; generalize slots + (s2.2.1 - τ.2.1) = slots at hss hcM ⊢
  clear hB hk hz hvm ht hle hck hc1 hs1; generalize H1 = H at hH hS ⊢
  refine lv_if_eq (tgt := 16) hx hb dX0_shared_5 (by decide) (fun c5 => ?_) (fun c5 => ?_)
  · have hf := dz_t c5 hf
    refine lv_ldc2 (v := (-1)) hx hb hown (hts _ q1438) dX0_shared_16 ?_
    obtain ⟨hM1, hS1⟩ : cells = M ∧ slots = S := by have hq := congrArg Prod.snd (Option.some.inj hf); rw [← hq] at hM hS0; have hM : s.heap.size + M = s2.1 := hM; have hS0 : sl0 + S = s2.2.1 := hS0; omega
    refine W.widen (k := M) (n := S) (Nat.le_of_eq hM1) (Nat.le_of_eq hS1) ?_
    exact W.lret (v := (-1)) hx hb hr (fun t ht hW => ⟨⟨(-1), s2, rfl, Option.some.inj hf, z_at ht hH⟩, hS.F ht⟩) hS.2.2 dX0_shared_19
  · have hf := dz_f c5 hf
    refine lv_aload_n hx hb dX0_shared_8 rfl (lv_at hl 0 rfl) ?_
    refine lv_iload_n hx hb dX0_shared_9 rfl (lv_at hl 2 rfl) ?_
    obtain ⟨f6, hf6, hf⟩ := dz_bo hf
    obtain ⟨x4, s5, hx4, hle, hck, hf⟩ := zcl_o hf
    have hc1 : cells + (s5.1 - s2.1) ≤ M := by omega
    have hs1 : slots + (s5.2.1 - s2.2.1) ≤ S := by omega
    refine va_calli (va_runV (As := [.int a1]) (rest := []) ⟨hx, hb, hml, hown, hts⟩ (mtX0_isLine l D cA ζ s2 h a1 K (x4, s5) hx4 (s5.1 - s2.1) (s5.2.1 - s2.2.1) (Nat.add_sub_cancel' hle.1) (Nat.add_sub_cancel' hle.2)) (cwV 1 hts (lw_V q1349 q1351 qs28 q84 q1352) rfl rfl rfl (by decide +kernel) ⟨Nat.le_of_ble_eq_true rfl, Nat.le_of_ble_eq_true rfl⟩) (z_preV hX hS hH (zob_o hf6) rfl) rfl rfl hl.1 rfl (lv_room (Nat.le_of_ble_eq_true rfl)) dX0_shared_10 ⟨hc1, hs1⟩) hS (fun q _ hq => hq) (fun q hq => hq) (fun r u t H1 locs ht hvm hw hB hz hk hS => ?_)
    obtain ⟨hw1, hw2⟩ := Prod.mk.inj hw.symm; subst hw1; subst hw2
    have hH : zH D cA ζ s5 H1 := z_at ht.symm hB
    have hcs : s.heap.size + (cells + (s5.1 - s2.1)) = s5.1 := by omega
    have hss : sl0 + (slots + (s5.2.1 - s2.2.1)) = s5.2.1 := by omega
    replace hcM := And.intro hc1 hs1
    generalize cells + (s5.1 - s2.1) = cells at hcs hcM ⊢; generalize slots + (s5.2.1 - s2.2.1) = slots at hss hcM ⊢
    clear hB hk hz hvm ht hle hck hc1 hs1; generalize H1 = H at hH hS ⊢
    refine lv_if_ne (tgt := 20) hx hb dX0_shared_13 (by decide) (fun c13 => ?_) (fun c13 => ?_)
    · have hf := dz_f c13 hf
      refine lv_aload_n hx hb dX0_shared_20 rfl (lv_at hl 0 rfl) ?_
      refine lv_iload_n hx hb dX0_shared_21 rfl (lv_at hl 1 rfl) ?_
      obtain ⟨f9, hf9, hf⟩ := dz_bo hf
      obtain ⟨x7, s8, hx7, hle, hck, hf⟩ := zcl_o hf
      have hc1 : cells + (s8.1 - s5.1) ≤ M := by omega
      have hs1 : slots + (s8.2.1 - s5.2.1) ≤ S := by omega
      refine va_calli (va_runV (As := [.int a0]) (rest := []) ⟨hx, hb, hml, hown, hts⟩ (mtX0_isRight l D cA ζ s5 h a0 K (x7, s8) hx7 (s8.1 - s5.1) (s8.2.1 - s5.2.1) (Nat.add_sub_cancel' hle.1) (Nat.add_sub_cancel' hle.2)) (cwV 1 hts (lw_V q219 q221 qs1 q84 q222) rfl rfl rfl (by decide +kernel) ⟨Nat.le_of_ble_eq_true rfl, Nat.le_of_ble_eq_true rfl⟩) (z_preV hX hS hH (zob_o hf9) rfl) rfl rfl hl.1 rfl (lv_room (Nat.le_of_ble_eq_true rfl)) dX0_shared_22 ⟨hc1, hs1⟩) hS (fun q _ hq => hq) (fun q hq => hq) (fun r u t H1 locs ht hvm hw hB hz hk hS => ?_)
      obtain ⟨hw1, hw2⟩ := Prod.mk.inj hw.symm; subst hw1; subst hw2
      have hH : zH D cA ζ s8 H1 := z_at ht.symm hB
      have hcs : s.heap.size + (cells + (s8.1 - s5.1)) = s8.1 := by omega
      have hss : sl0 + (slots + (s8.2.1 - s5.2.1)) = s8.2.1 := by omega
      replace hcM := And.intro hc1 hs1
      generalize cells + (s8.1 - s5.1) = cells at hcs hcM ⊢; generalize slots + (s8.2.1 - s5.2.1) = slots at hss hcM ⊢
      clear hB hk hz hvm ht hle hck hc1 hs1; generalize H1 = H at hH hS ⊢
      refine lv_if_eq (tgt := 50) hx hb dX0_shared_25 (by decide) (fun c25 => ?_) (fun c25 => ?_)
      · have hf := dz_t c25 hf
        refine lv_ldc2 (v := (-2)) hx hb hown (hts _ q1439) dX0_shared_50 ?_
        obtain ⟨hM1, hS1⟩ : cells = M ∧ slots = S := by have hq := congrArg Prod.snd (Option.some.inj hf); rw [← hq] at hM hS0; have hM : s.heap.size + M = s8.1 := hM; have hS0 : sl0 + S = s8.2.1 := hS0; omega
        refine W.widen (k := M) (n := S) (Nat.le_of_eq hM1) (Nat.le_of_eq hS1) ?_
        exact W.lret (v := (-2)) hx hb hr (fun t ht hW => ⟨⟨(-2), s8, rfl, Option.some.inj hf, z_at ht hH⟩, hS.F ht⟩) hS.2.2 dX0_shared_53
      · have hf := dz_f c25 hf
        refine lv_aload_n hx hb dX0_shared_28 rfl (lv_at hl 0 rfl) ?_
        refine lv_iload_n hx hb dX0_shared_29 rfl (lv_at hl 2 rfl) ?_
        obtain ⟨f12, hf12, hf⟩ := dz_bo hf
        obtain ⟨x10, s11, hx10, hle, hck, hf⟩ := zcl_o hf
        have hc1 : cells + (s11.1 - s8.1) ≤ M := by omega
        have hs1 : slots + (s11.2.1 - s8.2.1) ≤ S := by omega
        refine va_calli (va_runV (As := [.int a1]) (rest := []) ⟨hx, hb, hml, hown, hts⟩ (mtX0_isRight l D cA ζ s8 h a1 K (x10, s11) hx10 (s11.1 - s8.1) (s11.2.1 - s8.2.1) (Nat.add_sub_cancel' hle.1) (Nat.add_sub_cancel' hle.2)) (cwV 1 hts (lw_V q219 q221 qs1 q84 q222) rfl rfl rfl (by decide +kernel) ⟨Nat.le_of_ble_eq_true rfl, Nat.le_of_ble_eq_true rfl⟩) (z_preV hX hS hH (zob_o hf12) rfl) rfl rfl hl.1 rfl (lv_room (Nat.le_of_ble_eq_true rfl)) dX0_shared_30 ⟨hc1, hs1⟩) hS (fun q _ hq => hq) (fun q hq => hq) (fun r u t H1 locs ht hvm hw hB hz hk hS => ?_)
        obtain ⟨hw1, hw2⟩ := Prod.mk.inj hw.symm; subst hw1; subst hw2
        have hH : zH D cA ζ s11 H1 := z_at ht.symm hB
        have hcs : s.heap.size + (cells + (s11.1 - s8.1)) = s11.1 := by omega
        have hss : sl0 + (slots + (s11.2.1 - s8.2.1)) = s11.2.1 := by omega
        replace hcM := And.intro hc1 hs1
        generalize cells + (s11.1 - s8.1) = cells at hcs hcM ⊢; generalize slots + (s11.2.1 - s8.2.1) = slots at hss hcM ⊢
        clear hB hk hz hvm ht hle hck hc1 hs1; generalize H1 = H at hH hS ⊢
        refine lv_if_eq (tgt := 50) hx hb dX0_shared_33 (by decide) (fun c33 => ?_) (fun c33 => ?_)
        · have hf := dz_t c33 hf
          refine lv_ldc2 (v := (-2)) hx hb hown (hts _ q1439) dX0_shared_50 ?_
          obtain ⟨hM1, hS1⟩ : cells = M ∧ slots = S := by have hq := congrArg Prod.snd (Option.some.inj hf); rw [← hq] at hM hS0; have hM : s.heap.size + M = s11.1 := hM; have hS0 : sl0 + S = s11.2.1 := hS0; omega
          refine W.widen (k := M) (n := S) (Nat.le_of_eq hM1) (Nat.le_of_eq hS1) ?_
          exact W.lret (v := (-2)) hx hb hr (fun t ht hW => ⟨⟨(-2), s11, rfl, Option.some.inj hf, z_at ht hH⟩, hS.F ht⟩) hS.2.2 dX0_shared_53
        · have hf := dz_f c33 hf
          refine lv_aload_n hx hb dX0_shared_36 rfl (lv_at hl 0 rfl) ?_
          refine lv_iload_n hx hb dX0_shared_37 rfl (lv_at hl 1 rfl) ?_
          obtain ⟨f15, hf15, hf⟩ := dz_bo hf
          obtain ⟨x13, s14, hx13, hle, hck, hf⟩ := zcl_o hf
          have hc1 : cells + (s14.1 - s11.1) ≤ M := by omega
          have hs1 : slots + (s14.2.1 - s11.2.1) ≤ S := by omega
          refine va_calll (va_runV (As := [.int a0]) (rest := []) ⟨hx, hb, hml, hown, hts⟩ (mtX0_restsOf l D cA ζ s11 h a0 K (x13, s14) hx13 (s14.1 - s11.1) (s14.2.1 - s11.2.1) (Nat.add_sub_cancel' hle.1) (Nat.add_sub_cancel' hle.2)) (cwV 1 hts (lw_V q1397 q1399 qs31 q84 q1400) rfl rfl rfl (by decide +kernel) ⟨Nat.le_of_ble_eq_true rfl, Nat.le_of_ble_eq_true rfl⟩) (z_preV hX hS hH (zob_o hf15) rfl) rfl rfl hl.1 rfl (lv_room (Nat.le_of_ble_eq_true rfl)) dX0_shared_38 ⟨hc1, hs1⟩) hS (fun q _ hq => hq) (fun q hq => hq) (fun r u t H1 locs ht hvm hw hB hz hk hS => ?_)
          obtain ⟨hw1, hw2⟩ := Prod.mk.inj hw.symm; subst hw1; subst hw2
          have hH : zH D cA ζ s14 H1 := z_at ht.symm hB
          have hcs : s.heap.size + (cells + (s14.1 - s11.1)) = s14.1 := by omega
          have hss : sl0 + (slots + (s14.2.1 - s11.2.1)) = s14.2.1 := by omega
          replace hcM := And.intro hc1 hs1
          generalize cells + (s14.1 - s11.1) = cells at hcs hcM ⊢; generalize slots + (s14.2.1 - s11.2.1) = slots at hss hcM ⊢
          clear hB hk hz hvm ht hle hck hc1 hs1; generalize H1 = H at hH hS ⊢
          refine lv_aload_n hx hb dX0_shared_41 rfl (lv_at hl 0 rfl) ?_
          refine lv_iload_n hx hb dX0_shared_42 rfl (lv_at hl 2 rfl) ?_
          obtain ⟨f18, hf18, hf⟩ := dz_bo hf
          obtain ⟨x16, s17, hx16, hle, hck, hf⟩ := zcl_o hf
          have hc1 : cells + (s17.1 - s14.1) ≤ M := by omega
          have hs1 : slots + (s17.2.1 - s14.2.1) ≤ S := by omega
          refine va_calll (va_runV (As := [.int a1]) (rest := [.long x13]) ⟨hx, hb, hml, hown, hts⟩ (mtX0_restsOf l D cA ζ s14 h a1 K (x16, s17) hx16 (s17.1 - s14.1) (s17.2.1 - s14.2.1) (Nat.add_sub_cancel' hle.1) (Nat.add_sub_cancel' hle.2)) (cwV 1 hts (lw_V q1397 q1399 qs31 q84 q1400) rfl rfl rfl (by decide +kernel) ⟨Nat.le_of_ble_eq_true rfl, Nat.le_of_ble_eq_true rfl⟩) (z_preV hX hS hH (zob_o hf18) rfl) rfl rfl hl.1 rfl (lv_room (Nat.le_of_ble_eq_true rfl)) dX0_shared_43 ⟨hc1, hs1⟩) hS (fun q _ hq => hq) (fun q hq => hq) (fun r u t H1 locs ht hvm hw hB hz hk hS => ?_)
          obtain ⟨hw1, hw2⟩ := Prod.mk.inj hw.symm; subst hw1; subst hw2
          have hH : zH D cA ζ s17 H1 := z_at ht.symm hB
          have hcs : s.heap.size + (cells + (s17.1 - s14.1)) = s17.1 := by omega
          have hss : sl0 + (slots + (s17.2.1 - s14.2.1)) = s17.2.1 := by omega
          replace hcM := And.intro hc1 hs1
          generalize cells + (s17.1 - s14.1) = cells at hcs hcM ⊢; generalize slots + (s17.2.1 - s14.2.1) = slots at hss hcM ⊢
          clear hB hk hz hvm ht hle hck hc1 hs1; generalize H1 = H at hH hS ⊢
          refine lv_land hx hb dX0_shared_46 ?_
          refine lv_goto (tgt := 53) hx hb dX0_shared_47 (by decide) ?_
          refine lv_topl (fun x19 e_x19 => ?_)
          have hf := dz_ls e_x19 hf
          obtain ⟨hM1, hS1⟩ : cells = M ∧ slots = S := by have hq := congrArg Prod.snd (Option.some.inj hf); rw [← hq] at hM hS0; have hM : s.heap.size + M = s17.1 := hM; have hS0 : sl0 + S = s17.2.1 := hS0; omega
          refine W.widen (k := M) (n := S) (Nat.le_of_eq hM1) (Nat.le_of_eq hS1) ?_
          exact W.lret (v := x19) hx hb hr (fun t ht hW => ⟨⟨x19, s17, rfl, Option.some.inj hf, z_at ht hH⟩, hS.F ht⟩) hS.2.2 dX0_shared_53
    · have hf := dz_t c13 hf
      refine lv_ldc2 (v := (-1)) hx hb hown (hts _ q1438) dX0_shared_16 ?_
      obtain ⟨hM1, hS1⟩ : cells = M ∧ slots = S := by have hq := congrArg Prod.snd (Option.some.inj hf); rw [← hq] at hM hS0; have hM : s.heap.size + M = s5.1 := hM; have hS0 : sl0 + S = s5.2.1 := hS0; omega
      refine W.widen (k := M) (n := S) (Nat.le_of_eq hM1) (Nat.le_of_eq hS1) ?_
      exact W.lret (v := (-1)) hx hb hr (fun t ht hW => ⟨⟨(-1), s5, rfl, Option.some.inj hf, z_at ht hH⟩, hS.F ht⟩) hS.2.2 dX0_shared_19

noncomputable def fnX0_proof (K : Nat) (ζ : pZ) (h : Nat) (a0 : Int32) (τ : pH) : Option (Int32 × pH) := dz_b (fnX0_isNumber K (Int32.toInt64 a0)) fun x1 => if x1 = (0 : Int32) then (some ((-1), τ)) else (dz_b (zob ζ τ h 0) fun f2 => dz_b (zvr (f2[0]?)) fun x3 => dz_b (zob ζ τ x3 14) fun f6 => zcl τ (fnJ2_size K ζ x3 τ) fun x4 s5 => dz_b (zob ζ s5 h 0) fun f9 => zcl s5 (fnX0_restOn K ζ h (Int32.toInt64 a0) x4 s5) fun x7 s8 => some (x7, s8))
set_option maxHeartbeats 4000000 in
set_option maxRecDepth 100000 in
theorem mtX0_proof (l : Launch) (D : va_G) (cA : Nat → ClassId) (ζ : pZ) (τ : pH) (h : Nat) (a0 : Int32) (K : Nat) (res : (Int32 × pH)) (hf : fnX0_proof K ζ h a0 τ = some res) (M S : Nat) (hM : τ.1 + M = res.2.1) (hS0 : τ.2.1 + S = res.2.2.1) : Met l yX0_proof (ws_ yX0_proof cX0_proof 2 (some .int)) ({ frames := 105, cells := M, slots := S, locals := 2419 }) (zPc D cA ζ τ [.ref h, .int a0]) (zQi D cA ζ res) M S (zA ζ) := by
  refine Met.ofW (cc := cX0_proof) (maxL := 2) (ret := some .int) (by decide +kernel) rfl ?_
  intro p e s m args below meth c s₁ B hml hv
  obtain ⟨rfl, hX, hH⟩ := hv
  have hx := B.exec
  have hb := B.bytes
  have hr := B.returns
  have hts := atoms_spec (ws := ws_ yX0_proof cX0_proof 2 (some .int)) B.pre
  have hts : ∀ w ∈ lw_all, w.before _ s = true := fun w h => hts w (List.mem_cons_of_mem _ h)
  have hown : s.vm.findClass RX0 = some m.cls := findClass_of_methodNamed B.named
  have hlocks := B.notSynchronized
  have hM : s.heap.size + M = res.2.1 := by rw [hH.1]; exact hM
  have hcs : s.heap.size + 0 = τ.1 := hH.1
  have hss : τ.2.1 + 0 = τ.2.1 := rfl
  generalize hsl0 : τ.2.1 = sl0 at hS0 hss
  have hss : sl0 + 0 = τ.2.1 := by rw [hsl0]; rfl
  have hS : va_S (zA ζ) s.heap s.heap [] := va_S.rf
  generalize hHe : s.heap = H at hH hS ⊢
  have hS : va_S (zA ζ) s.heap H [] := by rw [hHe]; exact hS
  generalize ([] : List Loc) = locs at hS ⊢
  have hl := lv_entry ([.ref h, .int a0]) (n := 2) (Nat.le_of_ble_eq_true rfl)
  rw [lg_entry_eq]
  generalize (lg_sl ([.ref h, .int a0]) ++ List.replicate (2 - (lg_sl ([.ref h, .int a0])).length) Slot.unset).toArray = ls at hl ⊢
  have hl : lv_has ls 2 [(0, .ref h), (1, .int a0)] := hl
  have hf : (dz_b (fnX0_isNumber K (Int32.toInt64 a0)) fun x1 => if x1 = (0 : Int32) then (some ((-1), τ)) else (dz_b (zob ζ τ h 0) fun f2 => dz_b (zvr (f2[0]?)) fun x3 => dz_b (zob ζ τ x3 14) fun f6 => zcl τ (fnJ2_size K ζ x3 τ) fun x4 s5 => dz_b (zob ζ s5 h 0) fun f9 => zcl s5 (fnX0_restOn K ζ h (Int32.toInt64 a0) x4 s5) fun x7 s8 => some (x7, s8)) : Option (Int32 × pH)) = some res := hf
  refine z_gen (fun cells slots hc0 hs0 => ?_)
  have hcs : s.heap.size + cells = τ.1 := by rw [hc0]; exact hcs
  have hss : sl0 + slots = τ.2.1 := by rw [hs0]; exact hss
  have hcM : cells ≤ M ∧ slots ≤ S := by rw [hc0, hs0]; exact ⟨Nat.zero_le _, Nat.zero_le _⟩
  clear hc0 hs0
  refine lv_iload_n hx hb dX0_proof_0 rfl (lv_at hl 1 rfl) ?_
  refine lv_i2l hx hb dX0_proof_1 (rfl : _ = Int32.toInt64 a0) ?_
  obtain ⟨x1, hx1, hf⟩ := dz_bo hf
  refine va_calli (va_runS (As := [.long (Int32.toInt64 a0)]) (rest := []) ⟨hx, hb, hml, hown, hts⟩ (mtX0_isNumber l (Int32.toInt64 a0) K x1 hx1) (va_cwS 1 hts (lw_S q191 q192 q84 q193) rfl rfl rfl (by decide +kernel) ⟨Nat.le_of_ble_eq_true rfl, Nat.le_of_ble_eq_true rfl⟩) ⟨fun a U g mk q => q, fun U hU hW => ⟨rfl, trivial⟩⟩ rfl rfl hl.1 rfl (lv_room (Nat.le_of_ble_eq_true rfl)) dX0_proof_2 ⟨hcM.1, hcM.2⟩) hS (fun q _ hq => hq.elim) (fun q hq => hq.elim) (fun r u t H1 locs ht hvm hw hB hz hk hS => dz_size (fun hz9 => ?_))
  replace hw := hw.symm; subst hw
  replace hH := zH_keep hH hcs hz hk hz9
  clear hB hk hz hvm ht hz9; generalize H1 = H at hH hS ⊢
  refine W.widen (k := cells) (n := slots) (Nat.le_refl _) (Nat.le_refl _) ?_
  refine lv_if_eq (tgt := 24) hx hb dX0_proof_5 (by decide) (fun c5 => ?_) (fun c5 => ?_)
  · have hf := dz_t c5 hf
    refine lv_iconst (v := (-1)) hx hb dX0_proof_24 (by decide) ?_
    obtain ⟨hM1, hS1⟩ : cells = M ∧ slots = S := by have hq := congrArg Prod.snd (Option.some.inj hf); rw [← hq] at hM hS0; have hM : s.heap.size + M = τ.1 := hM; have hS0 : sl0 + S = τ.2.1 := hS0; omega
    refine W.widen (k := M) (n := S) (Nat.le_of_eq hM1) (Nat.le_of_eq hS1) ?_
    exact W.iret (v := (-1)) hx hb hr (fun t ht hW => ⟨⟨(-1), τ, rfl, Option.some.inj hf, z_at ht hH⟩, hS.F ht⟩) hS.2.2 dX0_proof_25
  · have hf := dz_f c5 hf
    refine lv_aload_n hx hb dX0_proof_8 rfl (lv_at hl 0 rfl) ?_
    refine lv_iload_n hx hb dX0_proof_9 rfl (lv_at hl 1 rfl) ?_
    refine lv_i2l hx hb dX0_proof_10 (rfl : _ = Int32.toInt64 a0) ?_
    refine lv_aload_n hx hb dX0_proof_11 rfl (lv_at hl 0 rfl) ?_
    obtain ⟨f2, hf2, hf⟩ := dz_bo hf
    obtain ⟨x3, hx3, hf⟩ := dz_bo hf
    refine va_get (C := RX0) (T := TX0) (N := 7) hx hb hts in_X0 hown hX.K (zrd_P hX hS hH (zob_o hf2)) 0 rfl rfl 0 (by decide) (hts _ q156) (fun _ hq => hq) (zvr_o hx3) dX0_proof_12 ?_
    obtain ⟨f6, hf6, hf⟩ := dz_bo hf
    obtain ⟨x4, s5, hx4, hle, hck, hf⟩ := zcl_o hf
    have hc1 : cells + (s5.1 - τ.1) ≤ M := by omega
    have hs1 : slots + (s5.2.1 - τ.2.1) ≤ S := by omega
    refine va_calli (va_runV (As := []) (rest := [.long (Int32.toInt64 a0), .ref h]) ⟨hx, hb, hml, hown, hts⟩ (mtJ2_size l D cA ζ τ x3 K (x4, s5) hx4 (s5.1 - τ.1) (s5.2.1 - τ.2.1) (Nat.add_sub_cancel' hle.1) (Nat.add_sub_cancel' hle.2)) (cwV 0 hts (lw_V q200 q201 q202 q87 q203) rfl rfl rfl (by decide +kernel) ⟨Nat.le_of_ble_eq_true rfl, Nat.le_of_ble_eq_true rfl⟩) (z_preV hX hS hH (zob_o hf6) rfl) rfl rfl hl.1 rfl (lv_room (Nat.le_of_ble_eq_true rfl)) dX0_proof_15 ⟨hc1, hs1⟩) hS (fun q _ hq => hq) (fun q hq => hq) (fun r u t H1 locs ht hvm hw hB hz hk hS => ?_)
    obtain ⟨hw1, hw2⟩ := Prod.mk.inj hw.symm; subst hw1; subst hw2
    have hH : zH D cA ζ s5 H1 := z_at ht.symm hB
    have hcs : s.heap.size + (cells + (s5.1 - τ.1)) = s5.1 := by omega
    have hss : sl0 + (slots + (s5.2.1 - τ.2.1)) = s5.2.1 := by omega
    replace hcM := And.intro hc1 hs1
    generalize cells + (s5.1 - τ.1) = cells at hcs hcM ⊢; generalize slots + (s5.2.1 - τ.2.1) = slots at hss hcM ⊢
    clear hB hk hz hvm ht hle hck hc1 hs1; generalize H1 = H at hH hS ⊢
    obtain ⟨f9, hf9, hf⟩ := dz_bo hf
    obtain ⟨x7, s8, hx7, hle, hck, hf⟩ := zcl_o hf
    have hc1 : cells + (s8.1 - s5.1) ≤ M := by omega
    have hs1 : slots + (s8.2.1 - s5.2.1) ≤ S := by omega
    refine va_calli (va_runV (As := [.long (Int32.toInt64 a0), .int x4]) (rest := []) ⟨hx, hb, hml, hown, hts⟩ (mtX0_restOn l D cA ζ s5 h (Int32.toInt64 a0) x4 K (x7, s8) hx7 (s8.1 - s5.1) (s8.2.1 - s5.2.1) (Nat.add_sub_cancel' hle.1) (Nat.add_sub_cancel' hle.2)) (cwV 2 hts (lw_V q789 q303 qs2 q84 q304) rfl rfl rfl (by decide +kernel) ⟨Nat.le_of_ble_eq_true rfl, Nat.le_of_ble_eq_true rfl⟩) (z_preV hX hS hH (zob_o hf9) rfl) rfl rfl hl.1 rfl (lv_room (Nat.le_of_ble_eq_true rfl)) dX0_proof_18 ⟨hc1, hs1⟩) hS (fun q _ hq => hq) (fun q hq => hq) (fun r u t H1 locs ht hvm hw hB hz hk hS => ?_)
    obtain ⟨hw1, hw2⟩ := Prod.mk.inj hw.symm; subst hw1; subst hw2
    have hH : zH D cA ζ s8 H1 := z_at ht.symm hB
    have hcs : s.heap.size + (cells + (s8.1 - s5.1)) = s8.1 := by omega
    have hss : sl0 + (slots + (s8.2.1 - s5.2.1)) = s8.2.1 := by omega
    replace hcM := And.intro hc1 hs1
    generalize cells + (s8.1 - s5.1) = cells at hcs hcM ⊢; generalize slots + (s8.2.1 - s5.2.1) = slots at hss hcM ⊢
    clear hB hk hz hvm ht hle hck hc1 hs1; generalize H1 = H at hH hS ⊢
    refine lv_goto (tgt := 25) hx hb dX0_proof_21 (by decide) ?_
    obtain ⟨hM1, hS1⟩ : cells = M ∧ slots = S := by have hq := congrArg Prod.snd (Option.some.inj hf); rw [← hq] at hM hS0; have hM : s.heap.size + M = s8.1 := hM; have hS0 : sl0 + S = s8.2.1 := hS0; omega
    refine W.widen (k := M) (n := S) (Nat.le_of_eq hM1) (Nat.le_of_eq hS1) ?_
    exact W.iret (v := x7) hx hb hr (fun t ht hW => ⟨⟨x7, s8, rfl, Option.some.inj hf, z_at ht hH⟩, hS.F ht⟩) hS.2.2 dX0_proof_25

noncomputable def fnX0_prime (K : Nat) (ζ : pZ) (h : Nat) (a0 : Int32) (a1 : Int32) (τ : pH) : Option (Int32 × pH) := dz_b (fnX0_isNumber K (Int32.toInt64 a0)) fun x1 => if x1 = (0 : Int32) then (some ((-1), τ)) else (if (-1 : Int32) ≤ a1 then (zcl τ (fnX0_factors K ζ (Int32.toInt64 a0) τ) fun x2 s3 => if a1 = (-1 : Int32) then (dz_b (zob ζ s3 x2 10) fun f15 => dz_b (zvi (f15[1]?)) fun x16 => some (x16, s3)) else (dz_b (zob ζ s3 x2 10) fun f4 => dz_b (zvi (f4[1]?)) fun x5 => if x5 ≤ a1 then (some ((-1), s3)) else (dz_b (zob ζ s3 x2 10) fun f6 => dz_b (zvr (f6[0]?)) fun x7 => dz_c (zaq ζ s3 x7 5) fun n8 f9 => if ¬ (a1 < 0 ∨ n8 ≤ Int32.toNatClampNeg a1) then (dz_b (f9 (Int32.toNatClampNeg a1)) fun x11 => dz_b (zob ζ s3 x11 11) fun f12 => dz_b (zvl (f12[0]?)) fun x13 => dz_l (Int64.toInt32 x13) fun x14 => some (x14, s3)) else none))) else (some ((-1), τ)))
set_option maxHeartbeats 4000000 in
set_option maxRecDepth 100000 in
theorem mtX0_prime (l : Launch) (D : va_G) (cA : Nat → ClassId) (ζ : pZ) (τ : pH) (h : Nat) (a0 : Int32) (a1 : Int32) (K : Nat) (res : (Int32 × pH)) (hf : fnX0_prime K ζ h a0 a1 τ = some res) (M S : Nat) (hM : τ.1 + M = res.2.1) (hS0 : τ.2.1 + S = res.2.2.1) : Met l yX0_prime (ws_ yX0_prime cX0_prime 4 (some .int)) ({ frames := 3, cells := M, slots := S, locals := 71 }) (zPc D cA ζ τ [.ref h, .int a0, .int a1]) (zQi D cA ζ res) M S (zA ζ) := by
  refine Met.ofW (cc := cX0_prime) (maxL := 4) (ret := some .int) (by decide +kernel) rfl ?_
  intro p e s m args below meth c s₁ B hml hv
  obtain ⟨rfl, hX, hH⟩ := hv
  have hx := B.exec
  have hb := B.bytes
  have hr := B.returns
  have hts := atoms_spec (ws := ws_ yX0_prime cX0_prime 4 (some .int)) B.pre
  have hts : ∀ w ∈ lw_all, w.before _ s = true := fun w h => hts w (List.mem_cons_of_mem _ h)
  have hown : s.vm.findClass RX0 = some m.cls := findClass_of_methodNamed B.named
  have hlocks := B.notSynchronized
  have hM : s.heap.size + M = res.2.1 := by rw [hH.1]; exact hM
  have hcs : s.heap.size + 0 = τ.1 := hH.1
  have hss : τ.2.1 + 0 = τ.2.1 := rfl
  generalize hsl0 : τ.2.1 = sl0 at hS0 hss
  have hss : sl0 + 0 = τ.2.1 := by rw [hsl0]; rfl
  have hS : va_S (zA ζ) s.heap s.heap [] := va_S.rf
  generalize hHe : s.heap = H at hH hS ⊢
  have hS : va_S (zA ζ) s.heap H [] := by rw [hHe]; exact hS
  generalize ([] : List Loc) = locs at hS ⊢
  have hl := lv_entry ([.ref h, .int a0, .int a1]) (n := 4) (Nat.le_of_ble_eq_true rfl)
  rw [lg_entry_eq]
  generalize (lg_sl ([.ref h, .int a0, .int a1]) ++ List.replicate (4 - (lg_sl ([.ref h, .int a0, .int a1])).length) Slot.unset).toArray = ls at hl ⊢
  have hl : lv_has ls 4 [(0, .ref h), (1, .int a0), (2, .int a1)] := hl
  have hf : (dz_b (fnX0_isNumber K (Int32.toInt64 a0)) fun x1 => if x1 = (0 : Int32) then (some ((-1), τ)) else (if (-1 : Int32) ≤ a1 then (zcl τ (fnX0_factors K ζ (Int32.toInt64 a0) τ) fun x2 s3 => if a1 = (-1 : Int32) then (dz_b (zob ζ s3 x2 10) fun f15 => dz_b (zvi (f15[1]?)) fun x16 => some (x16, s3)) else (dz_b (zob ζ s3 x2 10) fun f4 => dz_b (zvi (f4[1]?)) fun x5 => if x5 ≤ a1 then (some ((-1), s3)) else (dz_b (zob ζ s3 x2 10) fun f6 => dz_b (zvr (f6[0]?)) fun x7 => dz_c (zaq ζ s3 x7 5) fun n8 f9 => if ¬ (a1 < 0 ∨ n8 ≤ Int32.toNatClampNeg a1) then (dz_b (f9 (Int32.toNatClampNeg a1)) fun x11 => dz_b (zob ζ s3 x11 11) fun f12 => dz_b (zvl (f12[0]?)) fun x13 => dz_l (Int64.toInt32 x13) fun x14 => some (x14, s3)) else none))) else (some ((-1), τ))) : Option (Int32 × pH)) = some res := hf
  refine z_gen (fun cells slots hc0 hs0 => ?_)
  have hcs : s.heap.size + cells = τ.1 := by rw [hc0]; exact hcs
  have hss : sl0 + slots = τ.2.1 := by rw [hs0]; exact hss
  have hcM : cells ≤ M ∧ slots ≤ S := by rw [hc0, hs0]; exact ⟨Nat.zero_le _, Nat.zero_le _⟩
  clear hc0 hs0
  refine lv_iload_n hx hb dX0_prime_0 rfl (lv_at hl 1 rfl) ?_
  refine lv_i2l hx hb dX0_prime_1 (rfl : _ = Int32.toInt64 a0) ?_
  obtain ⟨x1, hx1, hf⟩ := dz_bo hf
  refine va_calli (va_runS (As := [.long (Int32.toInt64 a0)]) (rest := []) ⟨hx, hb, hml, hown, hts⟩ (mtX0_isNumber l (Int32.toInt64 a0) K x1 hx1) (va_cwS 1 hts (lw_S q191 q192 q84 q193) rfl rfl rfl (by decide +kernel) ⟨Nat.le_of_ble_eq_true rfl, Nat.le_of_ble_eq_true rfl⟩) ⟨fun a U g mk q => q, fun U hU hW => ⟨rfl, trivial⟩⟩ rfl rfl hl.1 rfl (lv_room (Nat.le_of_ble_eq_true rfl)) dX0_prime_2 ⟨hcM.1, hcM.2⟩) hS (fun q _ hq => hq.elim) (fun q hq => hq.elim) (fun r u t H1 locs ht hvm hw hB hz hk hS => dz_size (fun hz9 => ?_))
  replace hw := hw.symm; subst hw
  replace hH := zH_keep hH hcs hz hk hz9
  clear hB hk hz hvm ht hz9; generalize H1 = H at hH hS ⊢
  refine W.widen (k := cells) (n := slots) (Nat.le_refl _) (Nat.le_refl _) ?_
  refine lv_if_eq (tgt := 13) hx hb dX0_prime_5 (by decide) (fun c5 => ?_) (fun c5 => ?_)
  · have hf := dz_t c5 hf
    refine lv_iconst (v := (-1)) hx hb dX0_prime_13 (by decide) ?_
    obtain ⟨hM1, hS1⟩ : cells = M ∧ slots = S := by have hq := congrArg Prod.snd (Option.some.inj hf); rw [← hq] at hM hS0; have hM : s.heap.size + M = τ.1 := hM; have hS0 : sl0 + S = τ.2.1 := hS0; omega
    refine W.widen (k := M) (n := S) (Nat.le_of_eq hM1) (Nat.le_of_eq hS1) ?_
    exact W.iret (v := (-1)) hx hb hr (fun t ht hW => ⟨⟨(-1), τ, rfl, Option.some.inj hf, z_at ht hH⟩, hS.F ht⟩) hS.2.2 dX0_prime_14
  · have hf := dz_f c5 hf
    refine lv_iload_n hx hb dX0_prime_8 rfl (lv_at hl 2 rfl) ?_
    refine lv_iconst (v := (-1)) hx hb dX0_prime_9 (by decide) ?_
    refine lv_icmp_ge (tgt := 15) hx hb dX0_prime_10 (by decide) (fun c10 => ?_) (fun c10 => ?_)
    · have hf := dz_t c10 hf
      refine lv_iload_n hx hb dX0_prime_15 rfl (lv_at hl 1 rfl) ?_
      refine lv_i2l hx hb dX0_prime_16 (rfl : _ = Int32.toInt64 a0) ?_
      obtain ⟨x2, s3, hx2, hle, hck, hf⟩ := zcl_o hf
      have hc1 : cells + (s3.1 - τ.1) ≤ M := by omega
      have hs1 : slots + (s3.2.1 - τ.2.1) ≤ S := by omega
      refine va_callr (va_runS (As := [.long (Int32.toInt64 a0)]) (rest := []) ⟨hx, hb, hml, hown, hts⟩ (mtX0_factors l D cA ζ τ (Int32.toInt64 a0) K (x2, s3) hx2 (s3.1 - τ.1) (s3.2.1 - τ.2.1) (Nat.add_sub_cancel' hle.1) (Nat.add_sub_cancel' hle.2)) (va_cwS 1 hts (lw_S q1576 q673 q84 q674) rfl rfl rfl (by decide +kernel) ⟨Nat.le_of_ble_eq_true rfl, Nat.le_of_ble_eq_true rfl⟩) (z_preS hX hS hH) rfl rfl hl.1 rfl (lv_room (Nat.le_of_ble_eq_true rfl)) dX0_prime_17 ⟨hc1, hs1⟩) hS (fun q _ hq => hq) (fun q hq => hq) (fun u r t H1 locs ht hvm hw hB hz hk hS => ?_)
      obtain ⟨hw, hB⟩ := hB
      obtain ⟨hw1, hw2⟩ := Prod.mk.inj hw.symm; subst hw1; subst hw2
      have hH : zH D cA ζ s3 H1 := z_at ht.symm hB
      have hcs : s.heap.size + (cells + (s3.1 - τ.1)) = s3.1 := by omega
      have hss : sl0 + (slots + (s3.2.1 - τ.2.1)) = s3.2.1 := by omega
      replace hcM := And.intro hc1 hs1
      generalize cells + (s3.1 - τ.1) = cells at hcs hcM ⊢; generalize slots + (s3.2.1 - τ.2.1) = slots at hss hcM ⊢
      clear hB hk hz hvm ht hle hck hc1 hs1; generalize H1 = H at hH hS ⊢
      refine lv_astore_n (lv' := [(3, .ref x2), (0, .ref h), (1, .int a0), (2, .int a1)]) hx hb dX0_prime_20 rfl hl (by decide) rfl (fun ls hl => ?_)
      refine lv_iload_n hx hb dX0_prime_21 rfl (lv_at hl 3 rfl) ?_
      refine lv_iconst (v := (-1)) hx hb dX0_prime_22 (by decide) ?_
      refine lv_icmp_ne (tgt := 33) hx hb dX0_prime_23 (by decide) (fun c23 => ?_) (fun c23 => ?_)
      · have hf := dz_f c23 hf
        refine lv_iload_n hx hb dX0_prime_33 rfl (lv_at hl 3 rfl) ?_
        refine lv_aload_n hx hb dX0_prime_34 rfl (lv_at hl 0 rfl) ?_
        obtain ⟨f4, hf4, hf⟩ := dz_bo hf
        obtain ⟨x5, hx5, hf⟩ := dz_bo hf
        refine va_getN (C := RX8) (T := TX8) (N := 2) hx hb hts in_X8 hown hX.K (zrd_P hX hS hH (zob_o hf4)) 0 rfl rfl 1 (by decide) ((hX.N q525 rfl).use rfl) (fun _ hq => hq) (zvi_o hx5) dX0_prime_35 ?_
        refine lv_icmp_ge (tgt := 54) hx hb dX0_prime_38 (by decide) (fun c38 => ?_) (fun c38 => ?_)
        · have hf := dz_t c38 hf
          refine lv_iconst (v := (-1)) hx hb dX0_prime_54 (by decide) ?_
          obtain ⟨hM1, hS1⟩ : cells = M ∧ slots = S := by have hq := congrArg Prod.snd (Option.some.inj hf); rw [← hq] at hM hS0; have hM : s.heap.size + M = s3.1 := hM; have hS0 : sl0 + S = s3.2.1 := hS0; omega
          refine W.widen (k := M) (n := S) (Nat.le_of_eq hM1) (Nat.le_of_eq hS1) ?_
          exact W.iret (v := (-1)) hx hb hr (fun t ht hW => ⟨⟨(-1), s3, rfl, Option.some.inj hf, z_at ht hH⟩, hS.F ht⟩) hS.2.2 dX0_prime_55
        · have hf := dz_f c38 hf
          refine lv_aload_n hx hb dX0_prime_41 rfl (lv_at hl 0 rfl) ?_
          obtain ⟨f6, hf6, hf⟩ := dz_bo hf
          obtain ⟨x7, hx7, hf⟩ := dz_bo hf
          refine va_getN (C := RX8) (T := TX8) (N := 2) hx hb hts in_X8 hown hX.K (zrd_P hX hS hH (zob_o hf6)) 0 rfl rfl 0 (by decide) ((hX.N q519 rfl).use rfl) (fun _ hq => hq) (zvr_o hx7) dX0_prime_42 ?_
          refine lv_iload_n hx hb dX0_prime_45 rfl (lv_at hl 3 rfl) ?_
          obtain ⟨n8, f9, hn8, hf⟩ := dz_co hf
          obtain ⟨g10, hf⟩ := dz_go hf
          obtain ⟨x11, hx11, hf⟩ := dz_bo hf
          refine va_aldq hx hb hX.K (zrd_P hX hS hH (zaq_o hn8)) 0 5 rfl rfl g10 dX0_prime_46 ?_
          rw [hx11]
          refine W.eq (g2 := F0 m 47 ls (.ref x11 :: [])) rfl ?_
          obtain ⟨f12, hf12, hf⟩ := dz_bo hf
          obtain ⟨x13, hx13, hf⟩ := dz_bo hf
          refine va_get (C := RX13) (T := TX13) (N := 3) hx hb hts in_X13 hown hX.K (zrd_P hX hS hH (zob_o hf12)) 0 rfl rfl 0 (by decide) (hts _ q686) (fun _ hq => hq) (zvl_o hx13) dX0_prime_47 ?_
          refine lv_l2i hx hb dX0_prime_50 (rfl : _ = Int64.toInt32 x13) ?_
          refine lv_goto (tgt := 55) hx hb dX0_prime_51 (by decide) ?_
          refine lv_topi (fun x14 e_x14 => ?_)
          have hf := dz_ls e_x14 hf
          obtain ⟨hM1, hS1⟩ : cells = M ∧ slots = S := by have hq := congrArg Prod.snd (Option.some.inj hf); rw [← hq] at hM hS0; have hM : s.heap.size + M = s3.1 := hM; have hS0 : sl0 + S = s3.2.1 := hS0; omega
          refine W.widen (k := M) (n := S) (Nat.le_of_eq hM1) (Nat.le_of_eq hS1) ?_
          exact W.iret (v := x14) hx hb hr (fun t ht hW => ⟨⟨x14, s3, rfl, Option.some.inj hf, z_at ht hH⟩, hS.F ht⟩) hS.2.2 dX0_prime_55
      · have hf := dz_t c23 hf
        refine lv_aload_n hx hb dX0_prime_26 rfl (lv_at hl 0 rfl) ?_
        obtain ⟨f15, hf15, hf⟩ := dz_bo hf
        obtain ⟨x16, hx16, hf⟩ := dz_bo hf
        refine va_getN (C := RX8) (T := TX8) (N := 2) hx hb hts in_X8 hown hX.K (zrd_P hX hS hH (zob_o hf15)) 0 rfl rfl 1 (by decide) ((hX.N q525 rfl).use rfl) (fun _ hq => hq) (zvi_o hx16) dX0_prime_27 ?_
        refine lv_goto (tgt := 55) hx hb dX0_prime_30 (by decide) ?_
        obtain ⟨hM1, hS1⟩ : cells = M ∧ slots = S := by have hq := congrArg Prod.snd (Option.some.inj hf); rw [← hq] at hM hS0; have hM : s.heap.size + M = s3.1 := hM; have hS0 : sl0 + S = s3.2.1 := hS0; omega
        refine W.widen (k := M) (n := S) (Nat.le_of_eq hM1) (Nat.le_of_eq hS1) ?_
        exact W.iret (v := x16) hx hb hr (fun t ht hW => ⟨⟨x16, s3, rfl, Option.some.inj hf, z_at ht hH⟩, hS.F ht⟩) hS.2.2 dX0_prime_55
    · have hf := dz_f c10 hf
      refine lv_iconst (v := (-1)) hx hb dX0_prime_13 (by decide) ?_
      obtain ⟨hM1, hS1⟩ : cells = M ∧ slots = S := by have hq := congrArg Prod.snd (Option.some.inj hf); rw [← hq] at hM hS0; have hM : s.heap.size + M = τ.1 := hM; have hS0 : sl0 + S = τ.2.1 := hS0; omega
      refine W.widen (k := M) (n := S) (Nat.le_of_eq hM1) (Nat.le_of_eq hS1) ?_
      exact W.iret (v := (-1)) hx hb hr (fun t ht hW => ⟨⟨(-1), τ, rfl, Option.some.inj hf, z_at ht hH⟩, hS.F ht⟩) hS.2.2 dX0_prime_14

