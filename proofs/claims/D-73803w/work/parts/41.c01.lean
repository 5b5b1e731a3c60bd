noncomputable def fnX4_init (K : Nat) (ζ : pZ) (h : Nat) (a0 : Int64) (a1 : Int64) (τ : pH) : Option (Unit × pH) := dz_b (zwo ζ τ h 3 1) fun f1 => dz_l (zst τ h (.inr (3, f1.set 1 (.long a0)))) fun s2 => dz_b (zwo ζ s2 h 3 2) fun f3 => dz_l (zst s2 h (.inr (3, f3.set 2 (.long a1)))) fun s4 => zcl s4 (fnX3_init_3 K ζ h s4) fun _ s6 => dz_b (zob ζ s6 h 3) fun f7 => dz_b (zvl (f7[1]?)) fun x8 => if ¬ x8 = 0 then (dz_l ((1 : Int64) - 1 / x8 * x8) fun x10 => dz_b (zwo ζ s6 h 3 0) fun f11 => dz_l (zst s6 h (.inr (3, f11.set 0 (.long x10)))) fun s12 => some ((), s12)) else none
set_option maxHeartbeats 4000000 in
set_option maxRecDepth 100000 in
theorem mtX4_init (l : Launch) (D : va_G) (cA : Nat → ClassId) (ζ : pZ) (τ : pH) (h : Nat) (a0 : Int64) (a1 : Int64) (K : Nat) (res : (Unit × pH)) (hf : fnX4_init K ζ h a0 a1 τ = some res) (M S : Nat) (hM : τ.1 + M = res.2.1) (hS0 : τ.2.1 + S = res.2.2.1) : Met l yX4_init (ws_ yX4_init cX4_init 5 (none)) ({ frames := 2, cells := M, slots := S, locals := 40 }) (zPc D cA ζ τ [.ref h, .long a0, .long a1]) (zQv D cA ζ res) M S (zA ζ) := by
  refine Met.ofW (cc := cX4_init) (maxL := 5) (ret := none) (by decide +kernel) rfl ?_
  intro p e s m args below meth c s₁ B hml hv
  obtain ⟨rfl, hX, hH⟩ := hv
  have hx := B.exec
  have hb := B.bytes
  have hr := B.returns
  have hts := atoms_spec (ws := ws_ yX4_init cX4_init 5 (none)) B.pre
  have hts : ∀ w ∈ lw_all, w.before _ s = true := fun w h => hts w (List.mem_cons_of_mem _ h)
  have hown : s.vm.findClass RX4 = some m.cls := findClass_of_methodNamed B.named
  have hlocks := B.notSynchronized
  have hin : meth.name = "<init>" := (name_of_methodNamed B.named B.method).1
  have hM : s.heap.size + M = res.2.1 := by rw [hH.1]; exact hM
  have hcs : s.heap.size + 0 = τ.1 := hH.1
  have hss : τ.2.1 + 0 = τ.2.1 := rfl
  generalize hsl0 : τ.2.1 = sl0 at hS0 hss
  have hss : sl0 + 0 = τ.2.1 := by rw [hsl0]; rfl
  have hS : va_S (zA ζ) s.heap s.heap [] := va_S.rf
  generalize hHe : s.heap = H at hH hS ⊢
  have hS : va_S (zA ζ) s.heap H [] := by rw [hHe]; exact hS
  generalize ([] : List Loc) = locs at hS ⊢
  have hl := lv_entry ([.ref h, .long a0, .long a1]) (n := 5) (Nat.le_of_ble_eq_true rfl)
  rw [lg_entry_eq]
  generalize (lg_sl ([.ref h, .long a0, .long a1]) ++ List.replicate (5 - (lg_sl ([.ref h, .long a0, .long a1])).length) Slot.unset).toArray = ls at hl ⊢
  have hl : lv_has ls 5 [(0, .ref h), (1, .long a0), (3, .long a1)] := hl
  have hf : (dz_b (zwo ζ τ h 3 1) fun f1 => dz_l (zst τ h (.inr (3, f1.set 1 (.long a0)))) fun s2 => dz_b (zwo ζ s2 h 3 2) fun f3 => dz_l (zst s2 h (.inr (3, f3.set 2 (.long a1)))) fun s4 => zcl s4 (fnX3_init_3 K ζ h s4) fun _ s6 => dz_b (zob ζ s6 h 3) fun f7 => dz_b (zvl (f7[1]?)) fun x8 => if ¬ x8 = 0 then (dz_l ((1 : Int64) - 1 / x8 * x8) fun x10 => dz_b (zwo ζ s6 h 3 0) fun f11 => dz_l (zst s6 h (.inr (3, f11.set 0 (.long x10)))) fun s12 => some ((), s12)) else none : Option (Unit × pH)) = some res := hf
  refine z_gen (fun cells slots hc0 hs0 => ?_)
  have hcs : s.heap.size + cells = τ.1 := by rw [hc0]; exact hcs
  have hss : sl0 + slots = τ.2.1 := by rw [hs0]; exact hss
  have hcM : cells ≤ M ∧ slots ≤ S := by rw [hc0, hs0]; exact ⟨Nat.zero_le _, Nat.zero_le _⟩
  clear hc0 hs0
  refine lv_aload_n hx hb dX4_init_0 rfl (lv_at hl 0 rfl) ?_
  refine lv_lload_n hx hb dX4_init_1 rfl (lv_at hl 1 rfl) ?_
  obtain ⟨f1, hf1, hf⟩ := dz_bo hf
  obtain ⟨ha_f1, he_f1, hk_f1⟩ := zwo_o hf1
  refine va_putF (C := RX4) (T := TX4) (N := 3) hx hb hts in_X4 tyX4 tyX4_ok nmX4 hown hX.K hH.2.2 zw_D hS _ (zw_o ha_f1 he_f1) rfl 1 (by decide) (hts _ q380) (fun _ hq => hq) rfl hin rfl rfl rfl rfl hk_f1 dX4_init_2 (fun H1 locs hP1 _ hS => dz_size (fun hz => ?_))
  obtain ⟨s2, e_s2, hf⟩ := dz_lo hf
  have hH := zH_put (x := .inr (3, f1.set 1 (.long a0))) hH hcs ha_f1 hP1 hz
  rw [← e_s2] at hH
  have hcs : s.heap.size + cells = s2.1 := by rw [e_s2]; exact hcs
  have hss : sl0 + slots = s2.2.1 := by rw [e_s2]; exact hss
  clear hP1 hz; generalize H1 = H at hH hS ⊢
  refine lv_aload_n hx hb dX4_init_5 rfl (lv_at hl 0 rfl) ?_
  refine lv_lload_n hx hb dX4_init_6 rfl (lv_at hl 2 rfl) ?_
  obtain ⟨f3, hf3, hf⟩ := dz_bo hf
  obtain ⟨ha_f3, he_f3, hk_f3⟩ := zwo_o hf3
  refine va_putF (C := RX4) (T := TX4) (N := 3) hx hb hts in_X4 tyX4 tyX4_ok nmX4 hown hX.K hH.2.2 zw_D hS _ (zw_o ha_f3 he_f3) rfl 2 (by decide) (hts _ q381) (fun _ hq => hq) rfl hin rfl rfl rfl rfl hk_f3 dX4_init_7 (fun H1 locs hP1 _ hS => dz_size (fun hz => ?_))
  obtain ⟨s4, e_s4, hf⟩ := dz_lo hf
  have hH := zH_put (x := .inr (3, f3.set 2 (.long a1))) hH hcs ha_f3 hP1 hz
  rw [← e_s4] at hH
  have hcs : s.heap.size + cells = s4.1 := by rw [e_s4]; exact hcs
  have hss : sl0 + slots = s4.2.1 := by rw [e_s4]; exact hss
  clear hP1 hz; generalize H1 = H at hH hS ⊢
  refine lv_aload_n hx hb dX4_init_10 rfl (lv_at hl 0 rfl) ?_
  obtain ⟨x5, s6, hx5, hle, hck, hf⟩ := zcl_o hf
  have hc1 : cells + (s6.1 - s4.1) ≤ M := by omega
  have hs1 : slots + (s6.2.1 - s4.2.1) ≤ S := by omega
  refine va_callv (va_runIN (As := []) (rest := []) ⟨hx, hb, hml, hown, hts⟩ (mtX3_init_3 l D cA ζ s4 h K (x5, s6) hx5 (s6.1 - s4.1) (s6.2.1 - s4.2.1) (Nat.add_sub_cancel' hle.1) (Nat.add_sub_cancel' hle.2)) ⟨va_cnB 0 hts (lw_meth q377) rfl rfl rfl (hX.N q375 rfl) (hts _ q93) (by decide +kernel) ⟨Nat.le_of_ble_eq_true rfl, Nat.le_of_ble_eq_true rfl⟩, rfl, hts _ q376⟩ (z_preS hX hS hH) rfl rfl hl.1 rfl (lv_room (Nat.le_of_ble_eq_true rfl)) dX4_init_11 ⟨hc1, hs1⟩) hS (fun q _ hq => hq) (fun q hq => hq) (fun u t H1 locs ht hvm hw hB hz hk hS => ?_)
  obtain ⟨-, hw2⟩ := Prod.mk.inj hw.symm; subst hw2
  have hH : zH D cA ζ s6 H1 := z_at ht.symm hB
  have hcs : s.heap.size + (cells + (s6.1 - s4.1)) = s6.1 := by omega
  have hss : sl0 + (slots + (s6.2.1 - s4.2.1)) = s6.2.1 := by omega
  replace hcM := And.intro hc1 hs1
  generalize cells + (s6.1 - s4.1) = cells at hcs hcM ⊢; generalize slots + (s6.2.1 - s4.2.1) = slots at hss hcM ⊢
  clear hB hk hz hvm ht hle hck hc1 hs1; generalize H1 = H at hH hS ⊢
  refine lv_aload_n hx hb dX4_init_14 rfl (lv_at hl 0 rfl) ?_
  refine lv_lconst (v := 1) hx hb dX4_init_15 rfl ?_
  refine lv_aload_n hx hb dX4_init_16 rfl (lv_at hl 0 rfl) ?_
  obtain ⟨f7, hf7, hf⟩ := dz_bo hf
  obtain ⟨x8, hx8, hf⟩ := dz_bo hf
  refine va_get (C := RX4) (T := TX4) (N := 3) hx hb hts in_X4 hown hX.K (zrd_P hX hS hH (zob_o hf7)) 0 rfl rfl 1 (by decide) (hts _ q380) (fun _ hq => hq) (zvl_o hx8) dX4_init_17 ?_
  obtain ⟨g9, hf⟩ := dz_go hf
  refine lv_lrem hx hb dX4_init_20 g9 ?_
  refine lv_topl (fun x10 e_x10 => ?_)
  have hf := dz_ls e_x10 hf
  obtain ⟨f11, hf11, hf⟩ := dz_bo hf
  obtain ⟨ha_f11, he_f11, hk_f11⟩ := zwo_o hf11
  refine va_put (C := RX4) (T := TX4) (N := 3) hx hb hts in_X4 tyX4 tyX4_ok nmX4 hown hX.K hH.2.2 zw_D hS _ (zw_o ha_f11 he_f11) rfl 0 (by decide) (hts _ q379) (fun _ hq => hq) rfl rfl rfl rfl hk_f11 dX4_init_21 (fun H1 locs hP1 _ hS => dz_size (fun hz => ?_))
  obtain ⟨s12, e_s12, hf⟩ := dz_lo hf
  have hH := zH_put (x := .inr (3, f11.set 0 (.long x10))) hH hcs ha_f11 hP1 hz
  rw [← e_s12] at hH
  have hcs : s.heap.size + cells = s12.1 := by rw [e_s12]; exact hcs
  have hss : sl0 + slots = s12.2.1 := by rw [e_s12]; exact hss
  clear hP1 hz; generalize H1 = H at hH hS ⊢
  obtain ⟨hM1, hS1⟩ : cells = M ∧ slots = S := by have hq := congrArg Prod.snd (Option.some.inj hf); rw [← hq] at hM hS0; have hM : s.heap.size + M = s12.1 := hM; have hS0 : sl0 + S = s12.2.1 := hS0; omega
  refine W.widen (k := M) (n := S) (Nat.le_of_eq hM1) (Nat.le_of_eq hS1) ?_
  exact W.vret hx hb hr (fun t ht hW => ⟨⟨s12, rfl, Option.some.inj hf, z_at ht hH⟩, hS.F ht⟩) hS.2.2 dX4_init_24

noncomputable def fnX4_told (K : Nat) (ζ : pZ) (h : Nat) (τ : pH) : Option (Int64 × pH) := dz_b (zob ζ τ h 3) fun f1 => dz_b (zvl (f1[0]?)) fun x2 => some (x2, τ)
set_option maxHeartbeats 4000000 in
set_option maxRecDepth 100000 in
theorem mtX4_told (l : Launch) (D : va_G) (cA : Nat → ClassId) (ζ : pZ) (τ : pH) (h : Nat) (K : Nat) (res : (Int64 × pH)) (hf : fnX4_told K ζ h τ = some res) (M S : Nat) (hM : τ.1 + M = res.2.1) (hS0 : τ.2.1 + S = res.2.2.1) : Met l yX4_told (ws_ yX4_told cX4_told 1 (some .long)) ({ frames := 0, cells := M, slots := S, locals := 0 }) (zPc D cA ζ τ [.ref h]) (zQl D cA ζ res) M S (zA ζ) := by
  refine Met.ofW (cc := cX4_told) (maxL := 1) (ret := some .long) (by decide +kernel) rfl ?_
  intro p e s m args below meth c s₁ B hml hv
  obtain ⟨rfl, hX, hH⟩ := hv
  have hx := B.exec
  have hb := B.bytes
  have hr := B.returns
  have hts := atoms_spec (ws := ws_ yX4_told cX4_told 1 (some .long)) B.pre
  have hts : ∀ w ∈ lw_all, w.before _ s = true := fun w h => hts w (List.mem_cons_of_mem _ h)
  have hown : s.vm.findClass RX4 = some m.cls := findClass_of_methodNamed B.named
  have hlocks := B.notSynchronized
  have hM : s.heap.size + M = res.2.1 := by rw [hH.1]; exact hM
  have hcs : s.heap.size + 0 = τ.1 := hH.1
  have hss : τ.2.1 + 0 = τ.2.1 := rfl
  generalize hsl0 : τ.2.1 = sl0 at hS0 hss
  have hss : sl0 + 0 = τ.2.1 := by rw [hsl0]; rfl
  have hS : va_S (zA ζ) s.heap s.heap [] := va_S.rf
  generalize hHe : s.heap = H at hH hS ⊢
  have hS : va_S (zA ζ) s.heap H [] := by rw [hHe]; exact hS
  generalize ([] : List Loc) = locs at hS ⊢
  have hl := lv_entry ([.ref h]) (n := 1) (Nat.le_of_ble_eq_true rfl)
  rw [lg_entry_eq]
  generalize (lg_sl ([.ref h]) ++ List.replicate (1 - (lg_sl ([.ref h])).length) Slot.unset).toArray = ls at hl ⊢
  have hl : lv_has ls 1 [(0, .ref h)] := hl
  have hf : (dz_b (zob ζ τ h 3) fun f1 => dz_b (zvl (f1[0]?)) fun x2 => some (x2, τ) : Option (Int64 × pH)) = some res := hf
  refine z_gen (fun cells slots hc0 hs0 => ?_)
  have hcs : s.heap.size + cells = τ.1 := by rw [hc0]; exact hcs
  have hss : sl0 + slots = τ.2.1 := by rw [hs0]; exact hss
  have hcM : cells ≤ M ∧ slots ≤ S := by rw [hc0, hs0]; exact ⟨Nat.zero_le _, Nat.zero_le _⟩
  clear hc0 hs0
  refine lv_aload_n hx hb dX4_told_0 rfl (lv_at hl 0 rfl) ?_
  obtain ⟨f1, hf1, hf⟩ := dz_bo hf
  obtain ⟨x2, hx2, hf⟩ := dz_bo hf
  refine va_get (C := RX4) (T := TX4) (N := 3) hx hb hts in_X4 hown hX.K (zrd_P hX hS hH (zob_o hf1)) 0 rfl rfl 0 (by decide) (hts _ q379) (fun _ hq => hq) (zvl_o hx2) dX4_told_1 ?_
  obtain ⟨hM1, hS1⟩ : cells = M ∧ slots = S := by have hq := congrArg Prod.snd (Option.some.inj hf); rw [← hq] at hM hS0; have hM : s.heap.size + M = τ.1 := hM; have hS0 : sl0 + S = τ.2.1 := hS0; omega
  refine W.widen (k := M) (n := S) (Nat.le_of_eq hM1) (Nat.le_of_eq hS1) ?_
  exact W.lret (v := x2) hx hb hr (fun t ht hW => ⟨⟨x2, τ, rfl, Option.some.inj hf, z_at ht hH⟩, hS.F ht⟩) hS.2.2 dX4_told_4

noncomputable def fnX4_doubles (K : Nat) (ζ : pZ) (h : Nat) (τ : pH) : Option (Unit × pH) := dz_b (zob ζ τ h 3) fun f1 => dz_b (zvl (f1[0]?)) fun x2 => dz_b (zob ζ τ h 3) fun f3 => dz_b (zvl (f3[0]?)) fun x4 => dz_b (zob ζ τ h 3) fun f5 => dz_b (zvl (f5[1]?)) fun x6 => if ¬ x6 = 0 then (dz_l ((x2 * x4) - (x2 * x4) / x6 * x6) fun x8 => dz_b (zwo ζ τ h 3 0) fun f9 => dz_l (zst τ h (.inr (3, f9.set 0 (.long x8)))) fun s10 => some ((), s10)) else none
set_option maxHeartbeats 4000000 in
set_option maxRecDepth 100000 in
theorem mtX4_doubles (l : Launch) (D : va_G) (cA : Nat → ClassId) (ζ : pZ) (τ : pH) (h : Nat) (K : Nat) (res : (Unit × pH)) (hf : fnX4_doubles K ζ h τ = some res) (M S : Nat) (hM : τ.1 + M = res.2.1) (hS0 : τ.2.1 + S = res.2.2.1) : Met l yX4_doubles (ws_ yX4_doubles cX4_doubles 1 (none)) ({ frames := 0, cells := M, slots := S, locals := 0 }) (zPc D cA ζ τ [.ref h]) (zQv D cA ζ res) M S (zA ζ) := by
  refine Met.ofW (cc := cX4_doubles) (maxL := 1) (ret := none) (by decide +kernel) rfl ?_
  intro p e s m args below meth c s₁ B hml hv
  obtain ⟨rfl, hX, hH⟩ := hv
  have hx := B.exec
  have hb := B.bytes
  have hr := B.returns
  have hts := atoms_spec (ws := ws_ yX4_doubles cX4_doubles 1 (none)) B.pre
  have hts : ∀ w ∈ lw_all, w.before _ s = true := fun w h => hts w (List.mem_cons_of_mem _ h)
  have hown : s.vm.findClass RX4 = some m.cls := findClass_of_methodNamed B.named
  have hlocks := B.notSynchronized
  have hM : s.heap.size + M = res.2.1 := by rw [hH.1]; exact hM
  have hcs : s.heap.size + 0 = τ.1 := hH.1
  have hss : τ.2.1 + 0 = τ.2.1 := rfl
  generalize hsl0 : τ.2.1 = sl0 at hS0 hss
  have hss : sl0 + 0 = τ.2.1 := by rw [hsl0]; rfl
  have hS : va_S (zA ζ) s.heap s.heap [] := va_S.rf
  generalize hHe : s.heap = H at hH hS ⊢
  have hS : va_S (zA ζ) s.heap H [] := by rw [hHe]; exact hS
  generalize ([] : List Loc) = locs at hS ⊢
  have hl := lv_entry ([.ref h]) (n := 1) (Nat.le_of_ble_eq_true rfl)
  rw [lg_entry_eq]
  generalize (lg_sl ([.ref h]) ++ List.replicate (1 - (lg_sl ([.ref h])).length) Slot.unset).toArray = ls at hl ⊢
  have hl : lv_has ls 1 [(0, .ref h)] := hl
  have hf : (dz_b (zob ζ τ h 3) fun f1 => dz_b (zvl (f1[0]?)) fun x2 => dz_b (zob ζ τ h 3) fun f3 => dz_b (zvl (f3[0]?)) fun x4 => dz_b (zob ζ τ h 3) fun f5 => dz_b (zvl (f5[1]?)) fun x6 => if ¬ x6 = 0 then (dz_l ((x2 * x4) - (x2 * x4) / x6 * x6) fun x8 => dz_b (zwo ζ τ h 3 0) fun f9 => dz_l (zst τ h (.inr (3, f9.set 0 (.long x8)))) fun s10 => some ((), s10)) else none : Option (Unit × pH)) = some res := hf
  refine z_gen (fun cells slots hc0 hs0 => ?_)
  have hcs : s.heap.size + cells = τ.1 := by rw [hc0]; exact hcs
  have hss : sl0 + slots = τ.2.1 := by rw [hs0]; exact hss
  have hcM : cells ≤ M ∧ slots ≤ S := by rw [hc0, hs0]; exact ⟨Nat.zero_le _, Nat.zero_le _⟩
  clear hc0 hs0
  refine lv_aload_n hx hb dX4_doubles_0 rfl (lv_at hl 0 rfl) ?_
  refine lv_aload_n hx hb dX4_doubles_1 rfl (lv_at hl 0 rfl) ?_
  obtain ⟨f1, hf1, hf⟩ := dz_bo hf
  obtain ⟨x2, hx2, hf⟩ := dz_bo hf
  refine va_get (C := RX4) (T := TX4) (N := 3) hx hb hts in_X4 hown hX.K (zrd_P hX hS hH (zob_o hf1)) 0 rfl rfl 0 (by decide) (hts _ q379) (fun _ hq => hq) (zvl_o hx2) dX4_doubles_2 ?_
  refine lv_aload_n hx hb dX4_doubles_5 rfl (lv_at hl 0 rfl) ?_
  obtain ⟨f3, hf3, hf⟩ := dz_bo hf
  obtain ⟨x4, hx4, hf⟩ := dz_bo hf
  refine va_get (C := RX4) (T := TX4) (N := 3) hx hb hts in_X4 hown hX.K (zrd_P hX hS hH (zob_o hf3)) 0 rfl rfl 0 (by decide) (hts _ q379) (fun _ hq => hq) (zvl_o hx4) dX4_doubles_6 ?_
  refine lv_lmul hx hb dX4_doubles_9 ?_
  refine lv_aload_n hx hb dX4_doubles_10 rfl (lv_at hl 0 rfl) ?_
  obtain ⟨f5, hf5, hf⟩ := dz_bo hf
  obtain ⟨x6, hx6, hf⟩ := dz_bo hf
  refine va_get (C := RX4) (T := TX4) (N := 3) hx hb hts in_X4 hown hX.K (zrd_P hX hS hH (zob_o hf5)) 0 rfl rfl 1 (by decide) (hts _ q380) (fun _ hq => hq) (zvl_o hx6) dX4_doubles_11 ?_
  obtain ⟨g7, hf⟩ := dz_go hf
  refine lv_lrem hx hb dX4_doubles_14 g7 ?_
  refine lv_topl (fun x8 e_x8 => ?_)
  have hf := dz_ls e_x8 hf
  obtain ⟨f9, hf9, hf⟩ := dz_bo hf
  obtain ⟨ha_f9, he_f9, hk_f9⟩ := zwo_o hf9
  refine va_put (C := RX4) (T := TX4) (N := 3) hx hb hts in_X4 tyX4 tyX4_ok nmX4 hown hX.K hH.2.2 zw_D hS _ (zw_o ha_f9 he_f9) rfl 0 (by decide) (hts _ q379) (fun _ hq => hq) rfl rfl rfl rfl hk_f9 dX4_doubles_15 (fun H1 locs hP1 _ hS => dz_size (fun hz => ?_))
  obtain ⟨s10, e_s10, hf⟩ := dz_lo hf
  have hH := zH_put (x := .inr (3, f9.set 0 (.long x8))) hH hcs ha_f9 hP1 hz
  rw [← e_s10] at hH
  have hcs : s.heap.size + cells = s10.1 := by rw [e_s10]; exact hcs
  have hss : sl0 + slots = s10.2.1 := by rw [e_s10]; exact hss
  clear hP1 hz; generalize H1 = H at hH hS ⊢
  obtain ⟨hM1, hS1⟩ : cells = M ∧ slots = S := by have hq := congrArg Prod.snd (Option.some.inj hf); rw [← hq] at hM hS0; have hM : s.heap.size + M = s10.1 := hM; have hS0 : sl0 + S = s10.2.1 := hS0; omega
  refine W.widen (k := M) (n := S) (Nat.le_of_eq hM1) (Nat.le_of_eq hS1) ?_
  exact W.vret hx hb hr (fun t ht hW => ⟨⟨s10, rfl, Option.some.inj hf, z_at ht hH⟩, hS.F ht⟩) hS.2.2 dX4_doubles_18

noncomputable def fnX4_goesOn (K : Nat) (ζ : pZ) (h : Nat) (τ : pH) : Option (Unit × pH) := dz_b (zob ζ τ h 3) fun f1 => dz_b (zvl (f1[0]?)) fun x2 => dz_b (zob ζ τ h 3) fun f3 => dz_b (zvl (f3[2]?)) fun x4 => dz_b (zob ζ τ h 3) fun f5 => dz_b (zvl (f5[1]?)) fun x6 => if ¬ x6 = 0 then (dz_l (x4 - x4 / x6 * x6) fun x8 => dz_b (zob ζ τ h 3) fun f9 => dz_b (zvl (f9[1]?)) fun x10 => if ¬ x10 = 0 then (dz_l ((x2 * x8) - (x2 * x8) / x10 * x10) fun x12 => dz_b (zwo ζ τ h 3 0) fun f13 => dz_l (zst τ h (.inr (3, f13.set 0 (.long x12)))) fun s14 => some ((), s14)) else none) else none
set_option maxHeartbeats 4000000 in
set_option maxRecDepth 100000 in
theorem mtX4_goesOn (l : Launch) (D : va_G) (cA : Nat → ClassId) (ζ : pZ) (τ : pH) (h : Nat) (K : Nat) (res : (Unit × pH)) (hf : fnX4_goesOn K ζ h τ = some res) (M S : Nat) (hM : τ.1 + M = res.2.1) (hS0 : τ.2.1 + S = res.2.2.1) : Met l yX4_goesOn (ws_ yX4_goesOn cX4_goesOn 1 (none)) ({ frames := 0, cells := M, slots := S, locals := 0 }) (zPc D cA ζ τ [.ref h]) (zQv D cA ζ res) M S (zA ζ) := by
  refine Met.ofW (cc := cX4_goesOn) (maxL := 1) (ret := none) (by decide +kernel) rfl ?_
  intro p e s m args below meth c s₁ B hml hv
  obtain ⟨rfl, hX, hH⟩ := hv
  have hx := B.exec
  have hb := B.bytes
  have hr := B.returns
  have hts := atoms_spec (ws := ws_ yX4_goesOn cX4_goesOn 1 (none)) B.pre
  have hts : ∀ w ∈ lw_all, w.before _ s = true := fun w h => hts w (List.mem_cons_of_mem _ h)
  have hown : s.vm.findClass RX4 = some m.cls := findClass_of_methodNamed B.named
  have hlocks := B.notSynchronized
  have hM : s.heap.size + M = res.2.1 := by rw [hH.1]; exact hM
  have hcs : s.heap.size + 0 = τ.1 := hH.1
  have hss : τ.2.1 + 0 = τ.2.1 := rfl
  generalize hsl0 : τ.2.1 = sl0 at hS0 hss
  have hss : sl0 + 0 = τ.2.1 := by rw [hsl0]; rfl
  have hS : va_S (zA ζ) s.heap s.heap [] := va_S.rf
  generalize hHe : s.heap = H at hH hS ⊢
  have hS : va_S (zA ζ) s.heap H [] := by rw [hHe]; exact hS
  generalize ([] : List Loc) = locs at hS ⊢
  have hl := lv_entry ([.ref h]) (n := 1) (Nat.le_of_ble_eq_true rfl)
  rw [lg_entry_eq]
  generalize (lg_sl ([.ref h]) ++ List.replicate (1 - (lg_sl ([.ref h])).length) Slot.unset).toArray = ls at hl ⊢
  have hl : lv_has ls 1 [(0, .ref h)] := hl
  have hf : (dz_b (zob ζ τ h 3) fun f1 => dz_b (zvl (f1[0]?)) fun x2 => dz_b (zob ζ τ h 3) fun f3 => dz_b (zvl (f3[2]?)) fun x4 => dz_b (zob ζ τ h 3) fun f5 => dz_b (zvl (f5[1]?)) fun x6 => if ¬ x6 = 0 then (dz_l (x4 - x4 / x6 * x6) fun x8 => dz_b (zob ζ τ h 3) fun f9 => dz_b (zvl (f9[1]?)) fun x10 => if ¬ x10 = 0 then (dz_l ((x2 * x8) - (x2 * x8) / x10 * x10) fun x12 => dz_b (zwo ζ τ h 3 0) fun f13 => dz_l (zst τ h (.inr (3, f13.set 0 (.long x12)))) fun s14 => some ((), s14)) else none) else none : Option (Unit × pH)) = some res := hf
  refine z_gen (fun cells slots hc0 hs0 => ?_)
  have hcs : s.heap.size + cells = τ.1 := by rw [hc0]; exact hcs
  have hss : sl0 + slots = τ.2.1 := by rw [hs0]; exact hss
  have hcM : cells ≤ M ∧ slots ≤ S := by rw [hc0, hs0]; exact ⟨Nat.zero_le _, Nat.zero_le _⟩
  clear hc0 hs0
  refine lv_aload_n hx hb dX4_goesOn_0 rfl (lv_at hl 0 rfl) ?_
  refine lv_aload_n hx hb dX4_goesOn_1 rfl (lv_at hl 0 rfl) ?_
  obtain ⟨f1, hf1, hf⟩ := dz_bo hf
  obtain ⟨x2, hx2, hf⟩ := dz_bo hf
  refine va_get (C := RX4) (T := TX4) (N := 3) hx hb hts in_X4 hown hX.K (zrd_P hX hS hH (zob_o hf1)) 0 rfl rfl 0 (by decide) (hts _ q379) (fun _ hq => hq) (zvl_o hx2) dX4_goesOn_2 ?_
  refine lv_aload_n hx hb dX4_goesOn_5 rfl (lv_at hl 0 rfl) ?_
  obtain ⟨f3, hf3, hf⟩ := dz_bo hf
  obtain ⟨x4, hx4, hf⟩ := dz_bo hf
  refine va_get (C := RX4) (T := TX4) (N := 3) hx hb hts in_X4 hown hX.K (zrd_P hX hS hH (zob_o hf3)) 0 rfl rfl 2 (by decide) (hts _ q381) (fun _ hq => hq) (zvl_o hx4) dX4_goesOn_6 ?_
  refine lv_aload_n hx hb dX4_goesOn_9 rfl (lv_at hl 0 rfl) ?_
  obtain ⟨f5, hf5, hf⟩ := dz_bo hf
  obtain ⟨x6, hx6, hf⟩ := dz_bo hf
  refine va_get (C := RX4) (T := TX4) (N := 3) hx hb hts in_X4 hown hX.K (zrd_P hX hS hH (zob_o hf5)) 0 rfl rfl 1 (by decide) (hts _ q380) (fun _ hq => hq) (zvl_o hx6) dX4_goesOn_10 ?_
  obtain ⟨g7, hf⟩ := dz_go hf
  refine lv_lrem hx hb dX4_goesOn_13 g7 ?_
  refine lv_topl (fun x8 e_x8 => ?_)
  have hf := dz_ls e_x8 hf
  refine lv_lmul hx hb dX4_goesOn_14 ?_
  refine lv_aload_n hx hb dX4_goesOn_15 rfl (lv_at hl 0 rfl) ?_
  obtain ⟨f9, hf9, hf⟩ := dz_bo hf
  obtain ⟨x10, hx10, hf⟩ := dz_bo hf
  refine va_get (C := RX4) (T := TX4) (N := 3) hx hb hts in_X4 hown hX.K (zrd_P hX hS hH (zob_o hf9)) 0 rfl rfl 1 (by decide) (hts _ q380) (fun _ hq => hq) (zvl_o hx10) dX4_goesOn_16 ?_
  obtain ⟨g11, hf⟩ := dz_go hf
  refine lv_lrem hx hb dX4_goesOn_19 g11 ?_
  refine lv_topl (fun x12 e_x12 => ?_)
  have hf := dz_ls e_x12 hf
  obtain ⟨f13, hf13, hf⟩ := dz_bo hf
  obtain ⟨ha_f13, he_f13, hk_f13⟩ := zwo_o hf13
  refine va_put (C := RX4) (T := TX4) (N := 3) hx hb hts in_X4 tyX4 tyX4_ok nmX4 hown hX.K hH.2.2 zw_D hS _ (zw_o ha_f13 he_f13) rfl 0 (by decide) (hts _ q379) (fun _ hq => hq) rfl rfl rfl rfl hk_f13 dX4_goesOn_20 (fun H1 locs hP1 _ hS => dz_size (fun hz => ?_))
  obtain ⟨s14, e_s14, hf⟩ := dz_lo hf
  have hH := zH_put (x := .inr (3, f13.set 0 (.long x12))) hH hcs ha_f13 hP1 hz
  rw [← e_s14] at hH
  have hcs : s.heap.size + cells = s14.1 := by rw [e_s14]; exact hcs
  have hss : sl0 + slots = s14.2.1 := by rw [e_s14]; exact hss
  clear hP1 hz; generalize H1 = H at hH hS ⊢
  obtain ⟨hM1, hS1⟩ : cells = M ∧ slots = S := by have hq := congrArg Prod.snd (Option.some.inj hf); rw [← hq] at hM hS0; have hM : s.heap.size + M = s14.1 := hM; have hS0 : sl0 + S = s14.2.1 := hS0; omega
  refine W.widen (k := M) (n := S) (Nat.le_of_eq hM1) (Nat.le_of_eq hS1) ?_
  exact W.vret hx hb hr (fun t ht hW => ⟨⟨s14, rfl, Option.some.inj hf, z_at ht hH⟩, hS.F ht⟩) hS.2.2 dX4_goesOn_23

noncomputable def lfX3_climbs_3 (K : Nat) (ζ : pZ) : Nat → (Nat → Int64 → Int32 → pH → Option (Int64 × pH)) × (Nat → Int64 → Int32 → pH → Option (Int64 × pH)) := Nat.rec (motive := fun _ => (Nat → Int64 → Int32 → pH → Option (Int64 × pH)) × (Nat → Int64 → Int32 → pH → Option (Int64 × pH))) ((fun _ _ _ _ => none), (fun _ _ _ _ => none)) (fun _ G => ((fun v0 v1 v3 τ => if v3 < (0 : Int32) then (dz_b (zob ζ τ v0 3) fun f3 => zcl τ (fnX4_told K ζ v0 τ) fun x1 s2 => some (x1, s2)) else (if (v1 >>> (Int32.toInt64 v3 &&& 63)) = (0 : Int64) then (G.2 v0 v1 v3 τ) else (dz_b (zob ζ τ v0 3) fun f6 => zcl τ (fnX4_doubles K ζ v0 τ) fun _ s5 => if ((v1 >>> (Int32.toInt64 v3 &&& 63)) &&& 1) = (1 : Int64) then (dz_b (zob ζ s5 v0 3) fun f9 => zcl s5 (fnX4_goesOn K ζ v0 s5) fun _ s8 => G.2 v0 v1 v3 s8) else (G.2 v0 v1 v3 s5)))), (fun v0 v1 v3 τ => dz_l (v3 + (-1)) fun x1 => G.1 v0 v1 x1 τ)))
noncomputable def fnX3_climbs_3 (K : Nat) (ζ : pZ) (h : Nat) (a0 : Int64) (τ : pH) : Option (Int64 × pH) := (lfX3_climbs_3 K ζ K).1 h a0 62 τ
set_option maxHeartbeats 4000000 in
set_option maxRecDepth 100000 in
theorem wlX3_climbs_3 {p : Program} {l : Launch} {e : Env} {s : State} {m : MethodId} {below : List Frame} {meth : Method} {c : Code} {D : va_G} {cA : Nat → ClassId} {ζ : pZ} (hX : zX D cA ζ s) (K : Nat) (res : (Int64 × pH)) (M S sl0 : Nat) (hM : s.heap.size + M = res.2.1) (hS0 : sl0 + S = res.2.2.1) (h : Nat) (a0 : Int64) (hx : p.tables.exec = Jvm.exec) (hb : c.code = cX3_climbs) (hr : meth.sig.returnType = some .long) (hlocks : meth.locks = false) (hml : c.maxLocals = 4) (hown : s.vm.findClass RX3 = some m.cls) (hts : ∀ w ∈ lw_all, w.before ([.ref h, .long a0] : List Value).toArray s = true) : ∀ k : Nat, (∀ (v0 : Nat) (v1 : Int64) (v3 : Int32) (τ : pH) (H : Heap) (locs : List Loc) (cells slots : Nat), zH D cA ζ τ H → va_S (zA ζ) s.heap H locs → s.heap.size + cells = τ.1 → sl0 + slots = τ.2.1 → cells ≤ M ∧ slots ≤ S → ∀ (ls : Array Slot), lv_has ls 4 [(0, .ref v0), (1, .long v1), (3, .int v3)] → (lfX3_climbs_3 K ζ k).1 v0 v1 v3 τ = some res → W p l e (headSpec (ws_ yX3_climbs cX3_climbs 4 (some .long)) ({ frames := 1, cells := M, slots := S, locals := 20 })).room s m ([.ref h, .long a0] : List Value).toArray below meth c H locs cells slots (MQ below (zQl D cA ζ res) ([.ref h, .long a0] : List Value).toArray s M S (zA ζ)) (F0 m 3 ls [])) ∧ (∀ (v0 : Nat) (v1 : Int64) (v3 : Int32) (τ : pH) (H : Heap) (locs : List Loc) (cells slots : Nat), zH D cA ζ τ H → va_S (zA ζ) s.heap H locs → s.heap.size + cells = τ.1 → sl0 + slots = τ.2.1 → cells ≤ M ∧ slots ≤ S → ∀ (ls : Array Slot), lv_has ls 4 [(0, .ref v0), (1, .long v1), (3, .int v3)] → (lfX3_climbs_3 K ζ k).2 v0 v1 v3 τ = some res → W p l e (headSpec (ws_ yX3_climbs cX3_climbs 4 (some .long)) ({ frames := 1, cells := M, slots := S, locals := 20 })).room s m ([.ref h, .long a0] : List Value).toArray below meth c H locs cells slots (MQ below (zQl D cA ζ res) ([.ref h, .long a0] : List Value).toArray s M S (zA ζ)) (F0 m 36 ls [])) := by
  intro k
  induction k with
  | zero =>
    exact ⟨fun _ _ _ _ _ _ _ _ _ _ _ _ _ _ _ hf => (by cases hf), fun _ _ _ _ _ _ _ _ _ _ _ _ _ _ _ hf => (by cases hf)⟩
  | succ k ih =>
    refine ⟨?_, ?_⟩
    · intro v0 v1 v3 τ H locs cells slots hH hS hcs hss hcM ls hl hf
      have hf : (if v3 < (0 : Int32) then (dz_b (zob ζ τ v0 3) fun f3 => zcl τ (fnX4_told K ζ v0 τ) fun x1 s2 => some (x1, s2)) else (if (v1 >>> (Int32.toInt64 v3 &&& 63)) = (0 : Int64) then ((lfX3_climbs_3 K ζ k).2 v0 v1 v3 τ) else (dz_b (zob ζ τ v0 3) fun f6 => zcl τ (fnX4_doubles K ζ v0 τ) fun _ s5 => if ((v1 >>> (Int32.toInt64 v3 &&& 63)) &&& 1) = (1 : Int64) then (dz_b (zob ζ s5 v0 3) fun f9 => zcl s5 (fnX4_goesOn K ζ v0 s5) fun _ s8 => (lfX3_climbs_3 K ζ k).2 v0 v1 v3 s8) else ((lfX3_climbs_3 K ζ k).2 v0 v1 v3 s5))) : Option (Int64 × pH)) = some res := hf
      refine lv_iload_n hx hb dX3_climbs_3 rfl (lv_at hl 2 rfl) ?_
      refine lv_if_lt (tgt := 42) hx hb dX3_climbs_4 (by decide) (fun c4 => ?_) (fun c4 => ?_)
      · have hf := dz_t c4 hf
        refine lv_aload_n hx hb dX3_climbs_42 rfl (lv_at hl 0 rfl) ?_
        obtain ⟨f3, hf3, hf⟩ := dz_bo hf
        obtain ⟨x1, s2, hx1, hle, hck, hf⟩ := zcl_o hf
        have hc1 : cells + (s2.1 - τ.1) ≤ M := by omega
        have hs1 : slots + (s2.2.1 - τ.2.1) ≤ S := by omega
        refine va_calll (va_runU (x := ⟨"PrimeProofs$Climber", "told", "()J"⟩) (owner := "PrimeProofs$Climber") (As := []) (rest := []) ⟨hx, hb, hml, hown, hts⟩ (mtX4_told l D cA ζ τ v0 K (x1, s2) hx1 (s2.1 - τ.1) (s2.2.1 - τ.2.1) (Nat.add_sub_cancel' hle.1) (Nat.add_sub_cancel' hle.2)) (va_cwA 0 hts (zU_in q422 q424 q425 q426 q94 q427) rfl rfl rfl (hX.N q423 rfl) (by decide +kernel) ⟨Nat.le_of_ble_eq_true rfl, Nat.le_of_ble_eq_true rfl⟩) (z_preV hX hS hH (zob_o hf3) rfl) rfl rfl hl.1 rfl (lv_room (Nat.le_of_ble_eq_true rfl)) dX3_climbs_43 ⟨hc1, hs1⟩) hS (fun q _ hq => hq) (fun q hq => hq) (fun r u t H1 locs ht hvm hw hB hz hk hS => ?_)
        obtain ⟨hw1, hw2⟩ := Prod.mk.inj hw.symm; subst hw1; subst hw2
        have hH : zH D cA ζ s2 H1 := z_at ht.symm hB
        have hcs : s.heap.size + (cells + (s2.1 - τ.1)) = s2.1 := by omega
        have hss : sl0 + (slots + (s2.2.1 - τ.2.1)) = s2.2.1 := by omega
        replace hcM := And.intro hc1 hs1
        generalize cells + (s2.1 - τ.1) = cells at hcs hcM ⊢; generalize slots + (s2.2.1 - τ.2.1) = slots at hss hcM ⊢
        clear hB hk hz hvm ht hle hck hc1 hs1; generalize H1 = H at hH hS ⊢
        obtain ⟨hM1, hS1⟩ : cells = M ∧ slots = S := by have hq := congrArg Prod.snd (Option.some.inj hf); rw [← hq] at hM hS0; have hM : s.heap.size + M = s2.1 := hM; have hS0 : sl0 + S = s2.2.1 := hS0; omega
        refine W.widen (k := M) (n := S) (Nat.le_of_eq hM1) (Nat.le_of_eq hS1) ?_
        exact W.lret (v := x1) hx hb hr (fun t ht hW => ⟨⟨x1, s2, rfl, Option.some.inj hf, z_at ht hH⟩, hS.F ht⟩) hS.2.2 dX3_climbs_46
      · have hf := dz_f c4 hf
        refine lv_lload_n hx hb dX3_climbs_7 rfl (lv_at hl 1 rfl) ?_
        refine lv_iload_n hx hb dX3_climbs_8 rfl (lv_at hl 2 rfl) ?_
        refine lv_lshr hx hb dX3_climbs_9 (rfl : _ = v1 >>> (Int32.toInt64 v3 &&& 63)) ?_
        refine lv_lconst (v := 0) hx hb dX3_climbs_10 rfl ?_
        refine W.lcmp hx hb dX3_climbs_11 ?_
        refine lv_if_ne (tgt := 18) hx hb dX3_climbs_12 (by decide) (fun c12 => ?_) (fun c12 => ?_)
        · have c12 : ¬ (v1 >>> (Int32.toInt64 v3 &&& 63)) = (0 : Int64) := fun hq => c12 ((lg_cmp_eq _ _).mpr hq)
          have hf := dz_f c12 hf
          refine lv_aload_n hx hb dX3_climbs_18 rfl (lv_at hl 0 rfl) ?_
          obtain ⟨f6, hf6, hf⟩ := dz_bo hf
          obtain ⟨x4, s5, hx4, hle, hck, hf⟩ := zcl_o hf
          have hc1 : cells + (s5.1 - τ.1) ≤ M := by omega
          have hs1 : slots + (s5.2.1 - τ.2.1) ≤ S := by omega
          refine va_callv (va_runU (x := ⟨"PrimeProofs$Climber", "doubles", "()V"⟩) (owner := "PrimeProofs$Climber") (As := []) (rest := []) ⟨hx, hb, hml, hown, hts⟩ (mtX4_doubles l D cA ζ τ v0 K (x4, s5) hx4 (s5.1 - τ.1) (s5.2.1 - τ.2.1) (Nat.add_sub_cancel' hle.1) (Nat.add_sub_cancel' hle.2)) (va_cwA 0 hts (zU_in q395 q397 q398 q399 q94 q400) rfl rfl rfl (hX.N q396 rfl) (by decide +kernel) ⟨Nat.le_of_ble_eq_true rfl, Nat.le_of_ble_eq_true rfl⟩) (z_preV hX hS hH (zob_o hf6) rfl) rfl rfl hl.1 rfl (lv_room (Nat.le_of_ble_eq_true rfl)) dX3_climbs_19 ⟨hc1, hs1⟩) hS (fun q _ hq => hq) (fun q hq => hq) (fun u t H1 locs ht hvm hw hB hz hk hS => ?_)
          obtain ⟨-, hw2⟩ := Prod.mk.inj hw.symm; subst hw2
          have hH : zH D cA ζ s5 H1 := z_at ht.symm hB
          have hcs : s.heap.size + (cells + (s5.1 - τ.1)) = s5.1 := by omega
          have hss : sl0 + (slots + (s5.2.1 - τ.2.1)) = s5.2.1 := by omega
          replace hcM := And.intro hc1 hs1
          generalize cells + (s5.1 - τ.1) = cells at hcs hcM ⊢; generalize slots + (s5.2.1 - τ.2.1) = slots at hss hcM ⊢
          clear hB hk hz hvm ht hle hck hc1 hs1; generalize H1 = H at hH hS ⊢
          refine lv_lload_n hx hb dX3_climbs_22 rfl (lv_at hl 1 rfl) ?_
          refine lv_iload_n hx hb dX3_climbs_23 rfl (lv_at hl 2 rfl) ?_
          refine lv_lshr hx hb dX3_climbs_24 (rfl : _ = v1 >>> (Int32.toInt64 v3 &&& 63)) ?_
          refine lv_lconst (v := 1) hx hb dX3_climbs_25 rfl ?_
          refine lv_land hx hb dX3_climbs_26 ?_
          refine lv_lconst (v := 1) hx hb dX3_climbs_27 rfl ?_
          refine W.lcmp hx hb dX3_climbs_28 ?_
          refine lv_if_ne (tgt := 36) hx hb dX3_climbs_29 (by decide) (fun c29 => ?_) (fun c29 => ?_)
          · have c29 : ¬ ((v1 >>> (Int32.toInt64 v3 &&& 63)) &&& 1) = (1 : Int64) := fun hq => c29 ((lg_cmp_eq _ _).mpr hq)
            have hf := dz_f c29 hf
            exact ih.2 v0 v1 v3 s5 H locs cells slots hH hS hcs hss hcM ls (lv_sub hl [0, 1, 2] rfl) hf
          · have c29 : ((v1 >>> (Int32.toInt64 v3 &&& 63)) &&& 1) = (1 : Int64) := (lg_cmp_eq _ _).mp c29
            have hf := dz_t c29 hf
            refine lv_aload_n hx hb dX3_climbs_32 rfl (lv_at hl 0 rfl) ?_
            obtain ⟨f9, hf9, hf⟩ := dz_bo hf
            obtain ⟨x7, s8, hx7, hle, hck, hf⟩ := zcl_o hf
            have hc1 : cells + (s8.1 - s5.1) ≤ M := by omega
            have hs1 : slots + (s8.2.1 - s5.2.1) ≤ S := by omega
            refine va_callv (va_runU (x := ⟨"PrimeProofs$Climber", "goesOn", "()V"⟩) (owner := "PrimeProofs$Climber") (As := []) (rest := []) ⟨hx, hb, hml, hown, hts⟩ (mtX4_goesOn l D cA ζ s5 v0 K (x7, s8) hx7 (s8.1 - s5.1) (s8.2.1 - s5.2.1) (Nat.add_sub_cancel' hle.1) (Nat.add_sub_cancel' hle.2)) (va_cwA 0 hts (zU_in q413 q415 q416 q417 q94 q418) rfl rfl rfl (hX.N q414 rfl) (by decide +kernel) ⟨Nat.le_of_ble_eq_true rfl, Nat.le_of_ble_eq_true rfl⟩) (z_preV hX hS hH (zob_o hf9) rfl) rfl rfl hl.1 rfl (lv_room (Nat.le_of_ble_eq_true rfl)) dX3_climbs_33 ⟨hc1, hs1⟩) hS (fun q _ hq => hq) (fun q hq => hq) (fun u t H1 locs ht hvm hw hB hz hk hS => ?_)
            obtain ⟨-, hw2⟩ := Prod.mk.inj hw.symm; subst hw2
            have hH : zH D cA ζ s8 H1 := z_at ht.symm hB
            have hcs : s.heap.size + (cells + (s8.1 - s5.1)) = s8.1 := by omega
            have hss : sl0 + (slots + (s8.2.1 - s5.2.1)) = s8.2.1 := by omega
            replace hcM := And.intro hc1 hs1
            generalize cells + (s8.1 - s5.1) = cells at hcs hcM ⊢; generalize slots + (s8.2.1 - s5.2.1) = slots at hss hcM ⊢
            clear hB hk hz hvm ht hle hck hc1 hs1; generalize H1 = H at hH hS ⊢
            exact ih.2 v0 v1 v3 s8 H locs cells slots hH hS hcs hss hcM ls (lv_sub hl [0, 1, 2] rfl) hf
        · have c12 : (v1 >>> (Int32.toInt64 v3 &&& 63)) = (0 : Int64) := (lg_cmp_eq _ _).mp c12
          have hf := dz_t c12 hf
          refine lv_goto (tgt := 36) hx hb dX3_climbs_15 (by decide) ?_
          exact ih.2 v0 v1 v3 τ H locs cells slots hH hS hcs hss hcM ls (lv_sub hl [0, 1, 2] rfl) hf
    · intro v0 v1 v3 τ H locs cells slots hH hS hcs hss hcM ls hl hf
      have hf : (dz_l (v3 + (-1)) fun x1 => (lfX3_climbs_3 K ζ k).1 v0 v1 x1 τ : Option (Int64 × pH)) = some res := hf
      obtain ⟨x1, e_x1, hf⟩ := dz_lo hf
      refine lv_iinc (v := x1) (lv' := [(3, .int x1), (0, .ref v0), (1, .long v1)]) hx hb dX3_climbs_36 hl (k := 2) rfl (by rw [e_x1]; rfl) (by decide) rfl (fun ls hl => ?_)
      refine lv_goto (tgt := 3) hx hb dX3_climbs_39 (by decide) ?_
      exact ih.1 v0 v1 x1 τ H locs cells slots hH hS hcs hss hcM ls (lv_sub hl [1, 2, 0] rfl) hf
set_option maxHeartbeats 4000000 in
set_option maxRecDepth 100000 in
theorem mtX3_climbs_3 (l : Launch) (D : va_G) (cA : Nat → ClassId) (ζ : pZ) (τ : pH) (h : Nat) (a0 : Int64) (K : Nat) (res : (Int64 × pH)) (hf : fnX3_climbs_3 K ζ h a0 τ = some res) (M S : Nat) (hM : τ.1 + M = res.2.1) (hS0 : τ.2.1 + S = res.2.2.1) : Met l yX3_climbs (ws_ yX3_climbs cX3_climbs 4 (some .long)) ({ frames := 1, cells := M, slots := S, locals := 20 }) (zPc D cA ζ τ [.ref h, .long a0]) (zQl D cA ζ res) M S (zA ζ) := by
  refine Met.ofW (cc := cX3_climbs) (maxL := 4) (ret := some .long) (by decide +kernel) rfl ?_
  intro p e s m args below meth c s₁ B hml hv
  obtain ⟨rfl, hX, hH⟩ := hv
  have hx := B.exec
  have hb := B.bytes
  have hr := B.returns
  have hts := atoms_spec (ws := ws_ yX3_climbs cX3_climbs 4 (some .long)) B.pre
  have hts : ∀ w ∈ lw_all, w.before _ s = true := fun w h => hts w (List.mem_cons_of_mem _ h)
  have hown : s.vm.findClass RX3 = some m.cls := findClass_of_methodNamed B.named
  have hlocks := B.notSynchronized
  have hM : s.heap.size + M = res.2.1 := by rw [hH.1]; exact hM
  have hcs : s.heap.size + 0 = τ.1 := hH.1
  have hss : τ.2.1 + 0 = τ.2.1 := rfl
  generalize hsl0 : τ.2.1 = sl0 at hS0 hss
  have hss : sl0 + 0 = τ.2.1 := by rw [hsl0]; rfl
  have hS : va_S (zA ζ) s.heap s.heap [] := va_S.rf
  generalize hHe : s.heap = H at hH hS ⊢
  have hS : va_S (zA ζ) s.heap H [] := by rw [hHe]; exact hS
  generalize ([] : List Loc) = locs at hS ⊢
  have hl := lv_entry ([.ref h, .long a0]) (n := 4) (Nat.le_of_ble_eq_true rfl)
  rw [lg_entry_eq]
  generalize (lg_sl ([.ref h, .long a0]) ++ List.replicate (4 - (lg_sl ([.ref h, .long a0])).length) Slot.unset).toArray = ls at hl ⊢
  have hl : lv_has ls 4 [(0, .ref h), (1, .long a0)] := hl
  have hf : ((lfX3_climbs_3 K ζ K).1 h a0 62 τ : Option (Int64 × pH)) = some res := hf
  refine z_gen (fun cells slots hc0 hs0 => ?_)
  have hcs : s.heap.size + cells = τ.1 := by rw [hc0]; exact hcs
  have hss : sl0 + slots = τ.2.1 := by rw [hs0]; exact hss
  have hcM : cells ≤ M ∧ slots ≤ S := by rw [hc0, hs0]; exact ⟨Nat.zero_le _, Nat.zero_le _⟩
  clear hc0 hs0
  have ih := wlX3_climbs_3 (l := l) (e := e) (below := below) (D := D) (cA := cA) hX K res M S sl0 hM hS0 h a0 hx hb hr hlocks hml hown hts K
  refine lv_bipush (v := 62) hx hb dX3_climbs_0 (by decide) ?_
  refine lv_istore_n (lv' := [(3, .int 62), (0, .ref h), (1, .long a0)]) hx hb dX3_climbs_2 rfl hl (by decide) rfl (fun ls hl => ?_)
  exact ih.1 h a0 62 τ H locs cells slots hH hS hcs hss hcM ls (lv_sub hl [1, 2, 0] rfl) hf

noncomputable def fnX0_powerOf (K : Nat) (ζ : pZ) (a0 : Int64) (a1 : Int64) (a2 : Int64) (τ : pH) : Option (Int64 × pH) := dz_l τ.1 fun r1 => dz_l (znw τ 3 (.inr (3, [.long 0, .long 0, .long 0]))) fun s2 => zck s2 (zcl s2 (fnX4_init K ζ r1 a2 a0 s2) fun _ s4 => dz_b (zob ζ s4 r1 3) fun f7 => zcl s4 (fnX3_climbs_3 K ζ r1 a1 s4) fun x5 s6 => some (x5, s6))
set_option maxHeartbeats 4000000 in
set_option maxRecDepth 100000 in
theorem mtX0_powerOf (l : Launch) (D : va_G) (cA : Nat → ClassId) (ζ : pZ) (τ : pH) (a0 : Int64) (a1 : Int64) (a2 : Int64) (K : Nat) (res : (Int64 × pH)) (hf : fnX0_powerOf K ζ a0 a1 a2 τ = some res) (M S : Nat) (hM : τ.1 + M = res.2.1) (hS0 : τ.2.1 + S = res.2.2.1) : Met l yX0_powerOf (ws_ yX0_powerOf cX0_powerOf 6 (some .long)) ({ frames := 3, cells := M, slots := S, locals := 64 }) (zPc D cA ζ τ [.long a0, .long a1, .long a2]) (zQl D cA ζ res) M S (zA ζ) := by
  refine Met.ofW (cc := cX0_powerOf) (maxL := 6) (ret := some .long) (by decide +kernel) rfl ?_
  intro p e s m args below meth c s₁ B hml hv
  obtain ⟨rfl, hX, hH⟩ := hv
  have hx := B.exec
  have hb := B.bytes
  have hr := B.returns
  have hts := atoms_spec (ws := ws_ yX0_powerOf cX0_powerOf 6 (some .long)) B.pre
  have hts : ∀ w ∈ lw_all, w.before _ s = true := fun w h => hts w (List.mem_cons_of_mem _ h)
  have hown : s.vm.findClass RX0 = some m.cls := findClass_of_methodNamed B.named
  have hlocks := B.notSynchronized
  have hM : s.heap.size + M = res.2.1 := by rw [hH.1]; exact hM
  have hcs : s.heap.size + 0 = τ.1 := hH.1
  have hss : τ.2.1 + 0 = τ.2.1 := rfl
  generalize hsl0 : τ.2.1 = sl0 at hS0 hss
  have hss : sl0 + 0 = τ.2.1 := by rw [hsl0]; rfl
  have hS : va_S (zA ζ) s.heap s.heap [] := va_S.rf
  generalize hHe : s.heap = H at hH hS ⊢
  have hS : va_S (zA ζ) s.heap H [] := by rw [hHe]; exact hS
  generalize ([] : List Loc) = locs at hS ⊢
  have hl := lv_entry ([.long a0, .long a1, .long a2]) (n := 6) (Nat.le_of_ble_eq_true rfl)
  rw [lg_entry_eq]
  generalize (lg_sl ([.long a0, .long a1, .long a2]) ++ List.replicate (6 - (lg_sl ([.long a0, .long a1, .long a2])).length) Slot.unset).toArray = ls at hl ⊢
  have hl : lv_has ls 6 [(0, .long a0), (2, .long a1), (4, .long a2)] := hl
  have hf : (dz_l τ.1 fun r1 => dz_l (znw τ 3 (.inr (3, [.long 0, .long 0, .long 0]))) fun s2 => zck s2 (zcl s2 (fnX4_init K ζ r1 a2 a0 s2) fun _ s4 => dz_b (zob ζ s4 r1 3) fun f7 => zcl s4 (fnX3_climbs_3 K ζ r1 a1 s4) fun x5 s6 => some (x5, s6)) : Option (Int64 × pH)) = some res := hf
  refine z_gen (fun cells slots hc0 hs0 => ?_)
  have hcs : s.heap.size + cells = τ.1 := by rw [hc0]; exact hcs
  have hss : sl0 + slots = τ.2.1 := by rw [hs0]; exact hss
  have hcM : cells ≤ M ∧ slots ≤ S := by rw [hc0, hs0]; exact ⟨Nat.zero_le _, Nat.zero_le _⟩
  clear hc0 hs0
  obtain ⟨r1, e_r1, hf⟩ := dz_lo hf
  obtain ⟨s2, e_s2, hf⟩ := dz_lo hf
  obtain ⟨hck, hf⟩ := zck_o hf
  have hc1 : cells + 1 ≤ M := by have hq := hck.1; rw [e_s2] at hq; have hq : τ.1 + 1 ≤ res.2.1 := hq; omega
  have hs1 : slots + 3 ≤ S := by have hq := hck.2; rw [e_s2] at hq; have hq : τ.2.1 + 3 ≤ res.2.2.1 := hq; omega
  refine va_new (ci := 3) (fs := [.long 0, .long 0, .long 0]) (C := RX4) (T := TX4) (N := 3) hx hb hts in_X4 tyX4 tyX4_ok hown (hts _ q370) (hts _ q371) (hts _ q94) hX.K hH.2.2 zw_D hS hX.hA rfl zdf_X4 hc1 hs1 dX0_powerOf_0 (fun q H1 hP1 hD1 hS => dz_size (fun hz => ?_))
  obtain ⟨hq, hH⟩ := zH_new (n := 3) (x := (.inr (3, [.long 0, .long 0, .long 0]))) hH hcs hP1 hD1 hz
  rw [← e_s2] at hH; obtain rfl : r1 = q := e_r1.trans hq.symm
  have hcs : s.heap.size + (cells + 1) = s2.1 := by rw [e_s2]; show _ = τ.1 + 1; omega
  have hss : sl0 + (slots + 3) = s2.2.1 := by rw [e_s2]; show _ = τ.2.1 + 3; omega
  replace hcM := And.intro hc1 hs1
  generalize cells + 1 = cells at hcs hcM ⊢; generalize slots + 3 = slots at hss hcM ⊢
  clear hP1 hD1 hz hq hck hc1 hs1; generalize H1 = H at hH hS ⊢
  refine lv_dup hx hb dX0_powerOf_3 rfl ?_
  refine lv_lload hx hb dX0_powerOf_4 (lv_at hl 2 rfl) ?_
  refine lv_lload_n hx hb dX0_powerOf_6 rfl (lv_at hl 0 rfl) ?_
  obtain ⟨x3, s4, hx3, hle, hck, hf⟩ := zcl_o hf
  have hc1 : cells + (s4.1 - s2.1) ≤ M := by omega
  have hs1 : slots + (s4.2.1 - s2.2.1) ≤ S := by omega
  refine va_callv (va_runI (As := [.long a2, .long a0]) (rest := [.ref r1]) ⟨hx, hb, hml, hown, hts⟩ (mtX4_init l D cA ζ s2 r1 a2 a0 K (x3, s4) hx3 (s4.1 - s2.1) (s4.2.1 - s2.2.1) (Nat.add_sub_cancel' hle.1) (Nat.add_sub_cancel' hle.2)) (cwI 2 hts (lw_meth q374) rfl rfl rfl (hts _ q94) (hts _ q372) (hts _ q373) rfl (by decide +kernel) ⟨Nat.le_of_ble_eq_true rfl, Nat.le_of_ble_eq_true rfl⟩) (z_preS hX hS hH) rfl rfl hl.1 rfl (lv_room (Nat.le_of_ble_eq_true rfl)) dX0_powerOf_7 ⟨hc1, hs1⟩) hS (fun q _ hq => hq) (fun q hq => hq) (fun u t H1 locs ht hvm hw hB hz hk hS => ?_)
  obtain ⟨-, hw2⟩ := Prod.mk.inj hw.symm; subst hw2
  have hH : zH D cA ζ s4 H1 := z_at ht.symm hB
  have hcs : s.heap.size + (cells + (s4.1 - s2.1)) = s4.1 := by omega
  have hss : sl0 + (slots + (s4.2.1 - s2.2.1)) = s4.2.1 := by omega
  replace hcM := And.intro hc1 hs1
  generalize cells + (s4.1 - s2.1) = cells at hcs hcM ⊢; generalize slots + (s4.2.1 - s2.2.1) = slots at hss hcM ⊢
  clear hB hk hz hvm ht hle hck hc1 hs1; generalize H1 = H at hH hS ⊢
  refine lv_lload_n hx hb dX0_powerOf_10 rfl (lv_at hl 1 rfl) ?_
  obtain ⟨f7, hf7, hf⟩ := dz_bo hf
  obtain ⟨x5, s6, hx5, hle, hck, hf⟩ := zcl_o hf
  have hc1 : cells + (s6.1 - s4.1) ≤ M := by omega
  have hs1 : slots + (s6.2.1 - s4.2.1) ≤ S := by omega
  refine va_calll (va_runU (x := ⟨"PrimeProofs$1", "climbs", "(J)J"⟩) (owner := "PrimeProofs$Climber") (As := [.long a1]) (rest := []) ⟨hx, hb, hml, hown, hts⟩ (mtX3_climbs_3 l D cA ζ s4 r1 a1 K (x5, s6) hx5 (s6.1 - s4.1) (s6.2.1 - s4.2.1) (Nat.add_sub_cancel' hle.1) (Nat.add_sub_cancel' hle.2)) (va_cwA 1 hts (zU_in q389 q390 q392 q393 q93 q394) rfl rfl rfl (hX.N q391 rfl) (by decide +kernel) ⟨Nat.le_of_ble_eq_true rfl, Nat.le_of_ble_eq_true rfl⟩) (z_preV hX hS hH (zob_o hf7) rfl) rfl rfl hl.1 rfl (lv_room (Nat.le_of_ble_eq_true rfl)) dX0_powerOf_11 ⟨hc1, hs1⟩) hS (fun q _ hq => hq) (fun q hq => hq) (fun r u t H1 locs ht hvm hw hB hz hk hS => ?_)
  obtain ⟨hw1, hw2⟩ := Prod.mk.inj hw.symm; subst hw1; subst hw2
  have hH : zH D cA ζ s6 H1 := z_at ht.symm hB
  have hcs : s.heap.size + (cells + (s6.1 - s4.1)) = s6.1 := by omega
  have hss : sl0 + (slots + (s6.2.1 - s4.2.1)) = s6.2.1 := by omega
  replace hcM := And.intro hc1 hs1
  generalize cells + (s6.1 - s4.1) = cells at hcs hcM ⊢; generalize slots + (s6.2.1 - s4.2.1) = slots at hss hcM ⊢
  clear hB hk hz hvm ht hle hck hc1 hs1; generalize H1 = H at hH hS ⊢
  obtain ⟨hM1, hS1⟩ : cells = M ∧ slots = S := by have hq := congrArg Prod.snd (Option.some.inj hf); rw [← hq] at hM hS0; have hM : s.heap.size + M = s6.1 := hM; have hS0 : sl0 + S = s6.2.1 := hS0; omega
  refine W.widen (k := M) (n := S) (Nat.le_of_eq hM1) (Nat.le_of_eq hS1) ?_
  exact W.lret (v := x5) hx hb hr (fun t ht hW => ⟨⟨x5, s6, rfl, Option.some.inj hf, z_at ht hH⟩, hS.F ht⟩) hS.2.2 dX0_powerOf_14

noncomputable def fnX6_isOne_5 (K : Nat) (ζ : pZ) (h : Nat) (a0 : Nat) (τ : pH) : Option (Int32 × pH) := dz_b (zob ζ τ a0 11) fun f1 => dz_b (zvi (f1[2]?)) fun x2 => dz_b (zob ζ τ h 5) fun f3 => dz_b (zvl (f3[0]?)) fun x4 => dz_b (zob ζ τ h 5) fun f5 => dz_b (zvl (f5[0]?)) fun x6 => zcl τ (fnX0_powerOf K ζ (Int32.toInt64 x2) (x4 - 1) x6 τ) fun x7 s8 => if x7 = (1 : Int64) then (some (1, s8)) else (some (0, s8))
set_option maxHeartbeats 4000000 in
set_option maxRecDepth 100000 in
theorem mtX6_isOne_5 (l : Launch) (D : va_G) (cA : Nat → ClassId) (ζ : pZ) (τ : pH) (h : Nat) (a0 : Nat) (K : Nat) (res : (Int32 × pH)) (hf : fnX6_isOne_5 K ζ h a0 τ = some res) (M S : Nat) (hM : τ.1 + M = res.2.1) (hS0 : τ.2.1 + S = res.2.2.1) : Met l yX6_isOne (ws_ yX6_isOne cX6_isOne 2 (some .boolean)) ({ frames := 4, cells := M, slots := S, locals := 89 }) (zPc D cA ζ τ [.ref h, .ref a0]) (zQi D cA ζ res) M S (zA ζ) := by
  refine Met.ofW (cc := cX6_isOne) (maxL := 2) (ret := some .boolean) (by decide +kernel) rfl ?_
  intro p e s m args below meth c s₁ B hml hv
  obtain ⟨rfl, hX, hH⟩ := hv
  have hx := B.exec
  have hb := B.bytes
  have hr := B.returns
  have hts := atoms_spec (ws := ws_ yX6_isOne cX6_isOne 2 (some .boolean)) B.pre
  have hts : ∀ w ∈ lw_all, w.before _ s = true := fun w h => hts w (List.mem_cons_of_mem _ h)
  have hown : s.vm.findClass RX6 = some m.cls := findClass_of_methodNamed B.named
  have hlocks := B.notSynchronized
  have hM : s.heap.size + M = res.2.1 := by rw [hH.1]; exact hM
  have hcs : s.heap.size + 0 = τ.1 := hH.1
  have hss : τ.2.1 + 0 = τ.2.1 := rfl
  generalize hsl0 : τ.2.1 = sl0 at hS0 hss
  have hss : sl0 + 0 = τ.2.1 := by rw [hsl0]; rfl
  have hS : va_S (zA ζ) s.heap s.heap [] := va_S.rf
  generalize hHe : s.heap = H at hH hS ⊢
  have hS : va_S (zA ζ) s.heap H [] := by rw [hHe]; exact hS
  generalize ([] : List Loc) = locs at hS ⊢
  have hl := lv_entry ([.ref h, .ref a0]) (n := 2) (Nat.le_of_ble_eq_true rfl)
  rw [lg_entry_eq]
  generalize (lg_sl ([.ref h, .ref a0]) ++ List.replicate (2 - (lg_sl ([.ref h, .ref a0])).length) Slot.unset).toArray = ls at hl ⊢
  have hl : lv_has ls 2 [(0, .ref h), (1, .ref a0)] := hl
  have hf : (dz_b (zob ζ τ a0 11) fun f1 => dz_b (zvi (f1[2]?)) fun x2 => dz_b (zob ζ τ h 5) fun f3 => dz_b (zvl (f3[0]?)) fun x4 => dz_b (zob ζ τ h 5) fun f5 => dz_b (zvl (f5[0]?)) fun x6 => zcl τ (fnX0_powerOf K ζ (Int32.toInt64 x2) (x4 - 1) x6 τ) fun x7 s8 => if x7 = (1 : Int64) then (some (1, s8)) else (some (0, s8)) : Option (Int32 × pH)) = some res := hf
  refine z_gen (fun cells slots hc0 hs0 => ?_)
  have hcs : s.heap.size + cells = τ.1 := by rw [hc0]; exact hcs
  have hss : sl0 + slots = τ.2.1 := by rw [hs0]; exact hss
  have hcM : cells ≤ M ∧ slots ≤ S := by rw [hc0, hs0]; exact ⟨Nat.zero_le _, Nat.zero_le _⟩
  clear hc0 hs0
  refine lv_aload_n hx hb dX6_isOne_0 rfl (lv_at hl 1 rfl) ?_
  obtain ⟨f1, hf1, hf⟩ := dz_bo hf
  obtain ⟨x2, hx2, hf⟩ := dz_bo hf
  refine va_get (C := RX13) (T := TX13) (N := 3) hx hb hts in_X13 hown hX.K (zrd_P hX hS hH (zob_o hf1)) 0 rfl rfl 2 (by decide) (hts _ q692) (fun _ hq => hq) (zvi_o hx2) dX6_isOne_1 ?_
  refine lv_i2l hx hb dX6_isOne_4 (rfl : _ = Int32.toInt64 x2) ?_
  refine lv_aload_n hx hb dX6_isOne_5 rfl (lv_at hl 0 rfl) ?_
  obtain ⟨f3, hf3, hf⟩ := dz_bo hf
  obtain ⟨x4, hx4, hf⟩ := dz_bo hf
  refine va_get (C := RX7) (T := TX7) (N := 8) hx hb hts in_X7 hown hX.K (zrd_P hX hS hH (zob_o hf3)) 0 rfl rfl 0 (by decide) (hts _ q532) (fun _ hq => hq) (zvl_o hx4) dX6_isOne_6 ?_
  refine lv_lconst (v := 1) hx hb dX6_isOne_9 rfl ?_
  refine lv_lsub hx hb dX6_isOne_10 ?_
  refine lv_aload_n hx hb dX6_isOne_11 rfl (lv_at hl 0 rfl) ?_
  obtain ⟨f5, hf5, hf⟩ := dz_bo hf
  obtain ⟨x6, hx6, hf⟩ := dz_bo hf
  refine va_get (C := RX7) (T := TX7) (N := 8) hx hb hts in_X7 hown hX.K (zrd_P hX hS hH (zob_o hf5)) 0 rfl rfl 0 (by decide) (hts _ q532) (fun _ hq => hq) (zvl_o hx6) dX6_isOne_12 ?_
  obtain ⟨x7, s8, hx7, hle, hck, hf⟩ := zcl_o hf
  have hc1 : cells + (s8.1 - τ.1) ≤ M := by omega
  have hs1 : slots + (s8.2.1 - τ.2.1) ≤ S := by omega
  refine va_calll (va_runSN (As := [.long (Int32.toInt64 x2), .long (x4 - 1), .long x6]) (rest := []) ⟨hx, hb, hml, hown, hts⟩ (mtX0_powerOf l D cA ζ τ (Int32.toInt64 x2) (x4 - 1) x6 K (x7, s8) hx7 (s8.1 - τ.1) (s8.2.1 - τ.2.1) (Nat.add_sub_cancel' hle.1) (Nat.add_sub_cancel' hle.2)) ⟨va_cnB 3 hts (lw_meth q369) rfl rfl rfl (hX.N q367 rfl) (hts _ q84) (by decide +kernel) ⟨Nat.le_of_ble_eq_true rfl, Nat.le_of_ble_eq_true rfl⟩, hts _ q368, trivial⟩ (z_preS hX hS hH) rfl rfl hl.1 rfl (lv_room (Nat.le_of_ble_eq_true rfl)) dX6_isOne_15 ⟨hc1, hs1⟩) hS (fun q _ hq => hq) (fun q hq => hq) (fun r u t H1 locs ht hvm hw hB hz hk hS => ?_)
  obtain ⟨hw1, hw2⟩ := Prod.mk.inj hw.symm; subst hw1; subst hw2
  have hH : zH D cA ζ s8 H1 := z_at ht.symm hB
  have hcs : s.heap.size + (cells + (s8.1 - τ.1)) = s8.1 := by omega
  have hss : sl0 + (slots + (s8.2.1 - τ.2.1)) = s8.2.1 := by omega
  replace hcM := And.intro hc1 hs1
  generalize cells + (s8.1 - τ.1) = cells at hcs hcM ⊢; generalize slots + (s8.2.1 - τ.2.1) = slots at hss hcM ⊢
  clear hB hk hz hvm ht hle hck hc1 hs1; generalize H1 = H at hH hS ⊢
  refine lv_lconst (v := 1) hx hb dX6_isOne_18 rfl ?_
  refine W.lcmp hx hb dX6_isOne_19 ?_
  refine lv_if_ne (tgt := 27) hx hb dX6_isOne_20 (by decide) (fun c20 => ?_) (fun c20 => ?_)
  · have c20 : ¬ x7 = (1 : Int64) := fun hq => c20 ((lg_cmp_eq _ _).mpr hq)
    have hf := dz_f c20 hf
    refine lv_iconst (v := 0) hx hb dX6_isOne_27 (by decide) ?_
    obtain ⟨hM1, hS1⟩ : cells = M ∧ slots = S := by have hq := congrArg Prod.snd (Option.some.inj hf); rw [← hq] at hM hS0; have hM : s.heap.size + M = s8.1 := hM; have hS0 : sl0 + S = s8.2.1 := hS0; omega
    refine W.widen (k := M) (n := S) (Nat.le_of_eq hM1) (Nat.le_of_eq hS1) ?_
    exact W.zret (v := 0) hx hb hr rfl (fun t ht hW => ⟨⟨0, s8, rfl, Option.some.inj hf, z_at ht hH⟩, hS.F ht⟩) hS.2.2 dX6_isOne_28
  · have c20 : x7 = (1 : Int64) := (lg_cmp_eq _ _).mp c20
    have hf := dz_t c20 hf
    refine lv_iconst (v := 1) hx hb dX6_isOne_23 (by decide) ?_
    refine lv_goto (tgt := 28) hx hb dX6_isOne_24 (by decide) ?_
    obtain ⟨hM1, hS1⟩ : cells = M ∧ slots = S := by have hq := congrArg Prod.snd (Option.some.inj hf); rw [← hq] at hM hS0; have hM : s.heap.size + M = s8.1 := hM; have hS0 : sl0 + S = s8.2.1 := hS0; omega
    refine W.widen (k := M) (n := S) (Nat.le_of_eq hM1) (Nat.le_of_eq hS1) ?_
    exact W.zret (v := 1) hx hb hr rfl (fun t ht hW => ⟨⟨1, s8, rfl, Option.some.inj hf, z_at ht hH⟩, hS.F ht⟩) hS.2.2 dX6_isOne_28

noncomputable def lfX6_hasPair_5 (K : Nat) (ζ : pZ) : Nat → (pH → Option (Int32 × pH)) := Nat.rec (motive := fun _ => (pH → Option (Int32 × pH))) (fun _ => none) (fun _ G => (fun τ => some (1, τ)))
noncomputable def fnX6_hasPair_5 (K : Nat) (ζ : pZ) (h : Nat) (τ : pH) : Option (Int32 × pH) := dz_b (zob ζ τ h 5) fun f1 => dz_b (zvi (f1[1]?)) fun x2 => if x2 = (3 : Int32) then ((lfX6_hasPair_5 K ζ K) τ) else (dz_b (zob ζ τ h 5) fun f3 => dz_b (zvi (f3[1]?)) fun x4 => if x4 = (4 : Int32) then ((lfX6_hasPair_5 K ζ K) τ) else (some (0, τ)))
set_option maxHeartbeats 4000000 in
set_option maxRecDepth 100000 in
theorem wlX6_hasPair_5 {p : Program} {l : Launch} {e : Env} {s : State} {m : MethodId} {below : List Frame} {meth : Method} {c : Code} {D : va_G} {cA : Nat → ClassId} {ζ : pZ} (hX : zX D cA ζ s) (K : Nat) (res : (Int32 × pH)) (M S sl0 : Nat) (hM : s.heap.size + M = res.2.1) (hS0 : sl0 + S = res.2.2.1) (h : Nat) (hx : p.tables.exec = Jvm.exec) (hb : c.code = cX6_hasPair) (hr : meth.sig.returnType = some .boolean) (hlocks : meth.locks = false) (hml : c.maxLocals = 1) (hown : s.vm.findClass RX6 = some m.cls) (hts : ∀ w ∈ lw_all, w.before ([.ref h] : List Value).toArray s = true) : ∀ k : Nat, (∀  (τ : pH) (H : Heap) (locs : List Loc) (cells slots : Nat), zH D cA ζ τ H → va_S (zA ζ) s.heap H locs → s.heap.size + cells = τ.1 → sl0 + slots = τ.2.1 → cells ≤ M ∧ slots ≤ S → ∀ (ls : Array Slot), lv_has ls 1 [] → (lfX6_hasPair_5 K ζ k) τ = some res → W p l e (headSpec (ws_ yX6_hasPair cX6_hasPair 1 (some .boolean)) ({ frames := 0, cells := M, slots := S, locals := 0 })).room s m ([.ref h] : List Value).toArray below meth c H locs cells slots (MQ below (zQi D cA ζ res) ([.ref h] : List Value).toArray s M S (zA ζ)) (F0 m 16 ls [])) := by
  intro k
  induction k with
  | zero =>
    exact fun _ _ _ _ _ _ _ _ _ _ _ _ hf => (by cases hf)
  | succ k ih =>
    · intro τ H locs cells slots hH hS hcs hss hcM ls hl hf
      have hf : (some (1, τ) : Option (Int32 × pH)) = some res := hf
      refine lv_iconst (v := 1) hx hb dX6_hasPair_16 (by decide) ?_
      refine lv_goto (tgt := 21) hx hb dX6_hasPair_17 (by decide) ?_
      obtain ⟨hM1, hS1⟩ : cells = M ∧ slots = S := by have hq := congrArg Prod.snd (Option.some.inj hf); rw [← hq] at hM hS0; have hM : s.heap.size + M = τ.1 := hM; have hS0 : sl0 + S = τ.2.1 := hS0; omega
      refine W.widen (k := M) (n := S) (Nat.le_of_eq hM1) (Nat.le_of_eq hS1) ?_
      exact W.zret (v := 1) hx hb hr rfl (fun t ht hW => ⟨⟨1, τ, rfl, Option.some.inj hf, z_at ht hH⟩, hS.F ht⟩) hS.2.2 dX6_hasPair_21
set_option maxHeartbeats 4000000 in
set_option maxRecDepth 100000 in
theorem mtX6_hasPair_5 (l : Launch) (D : va_G) (cA : Nat → ClassId) (ζ : pZ) (τ : pH) (h : Nat) (K : Nat) (res : (Int32 × pH)) (hf : fnX6_hasPair_5 K ζ h τ = some res) (M S : Nat) (hM : τ.1 + M = res.2.1) (hS0 : τ.2.1 + S = res.2.2.1) : Met l yX6_hasPair (ws_ yX6_hasPair cX6_hasPair 1 (some .boolean)) ({ frames := 0, cells := M, slots := S, locals := 0 }) (zPc D cA ζ τ [.ref h]) (zQi D cA ζ res) M S (zA ζ) := by
  refine Met.ofW (cc := cX6_hasPair) (maxL := 1) (ret := some .boolean) (by decide +kernel) rfl ?_
  intro p e s m args below meth c s₁ B hml hv
  obtain ⟨rfl, hX, hH⟩ := hv
  have hx := B.exec
  have hb := B.bytes
  have hr := B.returns
  have hts := atoms_spec (ws := ws_ yX6_hasPair cX6_hasPair 1 (some .boolean)) B.pre
  have hts : ∀ w ∈ lw_all, w.before _ s = true := fun w h => hts w (List.mem_cons_of_mem _ h)
  have hown : s.vm.findClass RX6 = some m.cls := findClass_of_methodNamed B.named
  have hlocks := B.notSynchronized
  have hM : s.heap.size + M = res.2.1 := by rw [hH.1]; exact hM
  have hcs : s.heap.size + 0 = τ.1 := hH.1
  have hss : τ.2.1 + 0 = τ.2.1 := rfl
  generalize hsl0 : τ.2.1 = sl0 at hS0 hss
  have hss : sl0 + 0 = τ.2.1 := by rw [hsl0]; rfl
  have hS : va_S (zA ζ) s.heap s.heap [] := va_S.rf
  generalize hHe : s.heap = H at hH hS ⊢
  have hS : va_S (zA ζ) s.heap H [] := by rw [hHe]; exact hS
  generalize ([] : List Loc) = locs at hS ⊢
  have hl := lv_entry ([.ref h]) (n := 1) (Nat.le_of_ble_eq_true rfl)
  rw [lg_entry_eq]
  generalize (lg_sl ([.ref h]) ++ List.replicate (1 - (lg_sl ([.ref h])).length) Slot.unset).toArray = ls at hl ⊢
  have hl : lv_has ls 1 [(0, .ref h)] := hl
  have hf : (dz_b (zob ζ τ h 5) fun f1 => dz_b (zvi (f1[1]?)) fun x2 => if x2 = (3 : Int32) then ((lfX6_hasPair_5 K ζ K) τ) else (dz_b (zob ζ τ h 5) fun f3 => dz_b (zvi (f3[1]?)) fun x4 => if x4 = (4 : Int32) then ((lfX6_hasPair_5 K ζ K) τ) else (some (0, τ))) : Option (Int32 × pH)) = some res := hf
  refine z_gen (fun cells slots hc0 hs0 => ?_)
  have hcs : s.heap.size + cells = τ.1 := by rw [hc0]; exact hcs
  have hss : sl0 + slots = τ.2.1 := by rw [hs0]; exact hss
  have hcM : cells ≤ M ∧ slots ≤ S := by rw [hc0, hs0]; exact ⟨Nat.zero_le _, Nat.zero_le _⟩
  clear hc0 hs0
  have ih := wlX6_hasPair_5 (l := l) (e := e) (below := below) (D := D) (cA := cA) hX K res M S sl0 hM hS0 h hx hb hr hlocks hml hown hts K
  refine lv_aload_n hx hb dX6_hasPair_0 rfl (lv_at hl 0 rfl) ?_
  obtain ⟨f1, hf1, hf⟩ := dz_bo hf
  obtain ⟨x2, hx2, hf⟩ := dz_bo hf
  refine va_get (C := RX7) (T := TX7) (N := 8) hx hb hts in_X7 hown hX.K (zrd_P hX hS hH (zob_o hf1)) 0 rfl rfl 1 (by decide) (hts _ q542) (fun _ hq => hq) (zvi_o hx2) dX6_hasPair_1 ?_
  refine lv_iconst (v := 3) hx hb dX6_hasPair_4 (by decide) ?_
  refine lv_icmp_eq (tgt := 16) hx hb dX6_hasPair_5 (by decide) (fun c5 => ?_) (fun c5 => ?_)
  · have hf := dz_t c5 hf
    exact ih τ H locs cells slots hH hS hcs hss hcM ls (lv_sub hl [] rfl) hf
  · have hf := dz_f c5 hf
    refine lv_aload_n hx hb dX6_hasPair_8 rfl (lv_at hl 0 rfl) ?_
    obtain ⟨f3, hf3, hf⟩ := dz_bo hf
    obtain ⟨x4, hx4, hf⟩ := dz_bo hf
    refine va_get (C := RX7) (T := TX7) (N := 8) hx hb hts in_X7 hown hX.K (zrd_P hX hS hH (zob_o hf3)) 0 rfl rfl 1 (by decide) (hts _ q542) (fun _ hq => hq) (zvi_o hx4) dX6_hasPair_9 ?_
    refine lv_iconst (v := 4) hx hb dX6_hasPair_12 (by decide) ?_
    refine lv_icmp_ne (tgt := 20) hx hb dX6_hasPair_13 (by decide) (fun c13 => ?_) (fun c13 => ?_)
    · have hf := dz_f c13 hf
      refine lv_iconst (v := 0) hx hb dX6_hasPair_20 (by decide) ?_
      obtain ⟨hM1, hS1⟩ : cells = M ∧ slots = S := by have hq := congrArg Prod.snd (Option.some.inj hf); rw [← hq] at hM hS0; have hM : s.heap.size + M = τ.1 := hM; have hS0 : sl0 + S = τ.2.1 := hS0; omega
      refine W.widen (k := M) (n := S) (Nat.le_of_eq hM1) (Nat.le_of_eq hS1) ?_
      exact W.zret (v := 0) hx hb hr rfl (fun t ht hW => ⟨⟨0, τ, rfl, Option.some.inj hf, z_at ht hH⟩, hS.F ht⟩) hS.2.2 dX6_hasPair_21
    · have hf := dz_t c13 hf
      exact ih τ H locs cells slots hH hS hcs hss hcM ls (lv_sub hl [] rfl) hf

noncomputable def fnX3_init_4 (K : Nat) (ζ : pZ) (h : Nat) (τ : pH) : Option (Unit × pH) := some ((), τ)
set_option maxHeartbeats 4000000 in
set_option maxRecDepth 100000 in
theorem mtX3_init_4 (l : Launch) (D : va_G) (cA : Nat → ClassId) (ζ : pZ) (τ : pH) (h : Nat) (K : Nat) (res : (Unit × pH)) (hf : fnX3_init_4 K ζ h τ = some res) (M S : Nat) (hM : τ.1 + M = res.2.1) (hS0 : τ.2.1 + S = res.2.2.1) : Met l yX3_init (ws_ yX3_init cX3_init 1 (none)) ({ frames := 1, cells := M, slots := S, locals := 20 }) (zPc D cA ζ τ [.ref h]) (zQv D cA ζ res) M S (zA ζ) := by
  refine Met.ofW (cc := cX3_init) (maxL := 1) (ret := none) (by decide +kernel) rfl ?_
  intro p e s m args below meth c s₁ B hml hv
  obtain ⟨rfl, hX, hH⟩ := hv
  have hx := B.exec
  have hb := B.bytes
  have hr := B.returns
  have hts := atoms_spec (ws := ws_ yX3_init cX3_init 1 (none)) B.pre
  have hts : ∀ w ∈ lw_all, w.before _ s = true := fun w h => hts w (List.mem_cons_of_mem _ h)
  have hown : s.vm.findClass RX3 = some m.cls := findClass_of_methodNamed B.named
  have hlocks := B.notSynchronized
  have hin : meth.name = "<init>" := (name_of_methodNamed B.named B.method).1
  have hM : s.heap.size + M = res.2.1 := by rw [hH.1]; exact hM
  have hcs : s.heap.size + 0 = τ.1 := hH.1
  have hss : τ.2.1 + 0 = τ.2.1 := rfl
  generalize hsl0 : τ.2.1 = sl0 at hS0 hss
  have hss : sl0 + 0 = τ.2.1 := by rw [hsl0]; rfl
  have hS : va_S (zA ζ) s.heap s.heap [] := va_S.rf
  generalize hHe : s.heap = H at hH hS ⊢
  have hS : va_S (zA ζ) s.heap H [] := by rw [hHe]; exact hS
  generalize ([] : List Loc) = locs at hS ⊢
  have hl := lv_entry ([.ref h]) (n := 1) (Nat.le_of_ble_eq_true rfl)
  rw [lg_entry_eq]
  generalize (lg_sl ([.ref h]) ++ List.replicate (1 - (lg_sl ([.ref h])).length) Slot.unset).toArray = ls at hl ⊢
  have hl : lv_has ls 1 [(0, .ref h)] := hl
  have hf : (some ((), τ) : Option (Unit × pH)) = some res := hf
  refine z_gen (fun cells slots hc0 hs0 => ?_)
  have hcs : s.heap.size + cells = τ.1 := by rw [hc0]; exact hcs
  have hss : sl0 + slots = τ.2.1 := by rw [hs0]; exact hss
  have hcM : cells ≤ M ∧ slots ≤ S := by rw [hc0, hs0]; exact ⟨Nat.zero_le _, Nat.zero_le _⟩
  clear hc0 hs0
  refine lv_aload_n hx hb dX3_init_0 rfl (lv_at hl 0 rfl) ?_
  refine W.objInit hx hb hown (hts _ q378) (hts _ q125) (hts _ q126) rfl (by rw [hml]; exact hl.1) rfl dX3_init_1 (Nat.le_of_ble_eq_true rfl) (Nat.le_of_ble_eq_true rfl) ?_
  refine W.eq (g2 := F0 m 4 ls []) rfl ?_
  obtain ⟨hM1, hS1⟩ : cells = M ∧ slots = S := by have hq := congrArg Prod.snd (Option.some.inj hf); rw [← hq] at hM hS0; have hM : s.heap.size + M = τ.1 := hM; have hS0 : sl0 + S = τ.2.1 := hS0; omega
  refine W.widen (k := M) (n := S) (Nat.le_of_eq hM1) (Nat.le_of_eq hS1) ?_
  exact W.vret hx hb hr (fun t ht hW => ⟨⟨τ, rfl, Option.some.inj hf, z_at ht hH⟩, hS.F ht⟩) hS.2.2 dX3_init_4

noncomputable def fnX5_init (K : Nat) (ζ : pZ) (h : Nat) (a0 : Int64) (a1 : Int64) (a2 : Int64) (τ : pH) : Option (Unit × pH) := dz_b (zwo ζ τ h 4 2) fun f1 => dz_l (zst τ h (.inr (4, f1.set 2 (.long a0)))) fun s2 => dz_b (zwo ζ s2 h 4 3) fun f3 => dz_l (zst s2 h (.inr (4, f3.set 3 (.long a1)))) fun s4 => dz_b (zwo ζ s4 h 4 4) fun f5 => dz_l (zst s4 h (.inr (4, f5.set 4 (.long a2)))) fun s6 => zcl s6 (fnX3_init_4 K ζ h s6) fun _ s8 => dz_b (zob ζ s8 h 4) fun f9 => dz_b (zvl (f9[2]?)) fun x10 => if ¬ x10 = 0 then (dz_l ((1 : Int64) - 1 / x10 * x10) fun x12 => dz_b (zwo ζ s8 h 4 1) fun f13 => dz_l (zst s8 h (.inr (4, f13.set 1 (.long x12)))) fun s14 => some ((), s14)) else none
set_option maxHeartbeats 4000000 in
set_option maxRecDepth 100000 in
theorem mtX5_init (l : Launch) (D : va_G) (cA : Nat → ClassId) (ζ : pZ) (τ : pH) (h : Nat) (a0 : Int64) (a1 : Int64) (a2 : Int64) (K : Nat) (res : (Unit × pH)) (hf : fnX5_init K ζ h a0 a1 a2 τ = some res) (M S : Nat) (hM : τ.1 + M = res.2.1) (hS0 : τ.2.1 + S = res.2.2.1) : Met l yX5_init (ws_ yX5_init cX5_init 7 (none)) ({ frames := 2, cells := M, slots := S, locals := 40 }) (zPc D cA ζ τ [.ref h, .long a0, .long a1, .long a2]) (zQv D cA ζ res) M S (zA ζ) := by
  refine Met.ofW (cc := cX5_init) (maxL := 7) (ret := none) (by decide +kernel) rfl ?_
  intro p e s m args below meth c s₁ B hml hv
  obtain ⟨rfl, hX, hH⟩ := hv
  have hx := B.exec
  have hb := B.bytes
  have hr := B.returns
  have hts := atoms_spec (ws := ws_ yX5_init cX5_init 7 (none)) B.pre
  have hts : ∀ w ∈ lw_all, w.before _ s = true := fun w h => hts w (List.mem_cons_of_mem _ h)
  have hown : s.vm.findClass RX5 = some m.cls := findClass_of_methodNamed B.named
  have hlocks := B.notSynchronized
  have hin : meth.name = "<init>" := (name_of_methodNamed B.named B.method).1
  have hM : s.heap.size + M = res.2.1 := by rw [hH.1]; exact hM
  have hcs : s.heap.size + 0 = τ.1 := hH.1
  have hss : τ.2.1 + 0 = τ.2.1 := rfl
  generalize hsl0 : τ.2.1 = sl0 at hS0 hss
  have hss : sl0 + 0 = τ.2.1 := by rw [hsl0]; rfl
  have hS : va_S (zA ζ) s.heap s.heap [] := va_S.rf
  generalize hHe : s.heap = H at hH hS ⊢
  have hS : va_S (zA ζ) s.heap H [] := by rw [hHe]; exact hS
  generalize ([] : List Loc) = locs at hS ⊢
  have hl := lv_entry ([.ref h, .long a0, .long a1, .long a2]) (n := 7) (Nat.le_of_ble_eq_true rfl)
  rw [lg_entry_eq]
  generalize (lg_sl ([.ref h, .long a0, .long a1, .long a2]) ++ List.replicate (7 - (lg_sl ([.ref h, .long a0, .long a1, .long a2])).length) Slot.unset).toArray = ls at hl ⊢
  have hl : lv_has ls 7 [(0, .ref h), (1, .long a0), (3, .long a1), (5, .long a2)] := hl
  have hf : (dz_b (zwo ζ τ h 4 2) fun f1 => dz_l (zst τ h (.inr (4, f1.set 2 (.long a0)))) fun s2 => dz_b (zwo ζ s2 h 4 3) fun f3 => dz_l (zst s2 h (.inr (4, f3.set 3 (.long a1)))) fun s4 => dz_b (zwo ζ s4 h 4 4) fun f5 => dz_l (zst s4 h (.inr (4, f5.set 4 (.long a2)))) fun s6 => zcl s6 (fnX3_init_4 K ζ h s6) fun _ s8 => dz_b (zob ζ s8 h 4) fun f9 => dz_b (zvl (f9[2]?)) fun x10 => if ¬ x10 = 0 then (dz_l ((1 : Int64) - 1 / x10 * x10) fun x12 => dz_b (zwo ζ s8 h 4 1) fun f13 => dz_l (zst s8 h (.inr (4, f13.set 1 (.long x12)))) fun s14 => some ((), s14)) else none : Option (Unit × pH)) = some res := hf
  refine z_gen (fun cells slots hc0 hs0 => ?_)
  have hcs : s.heap.size + cells = τ.1 := by rw [hc0]; exact hcs
  have hss : sl0 + slots = τ.2.1 := by rw [hs0]; exact hss
  have hcM : cells ≤ M ∧ slots ≤ S := by rw [hc0, hs0]; exact ⟨Nat.zero_le _, Nat.zero_le _⟩
  clear hc0 hs0
  refine lv_aload_n hx hb dX5_init_0 rfl (lv_at hl 0 rfl) ?_
  refine lv_lload_n hx hb dX5_init_1 rfl (lv_at hl 1 rfl) ?_
  obtain ⟨f1, hf1, hf⟩ := dz_bo hf
  obtain ⟨ha_f1, he_f1, hk_f1⟩ := zwo_o hf1
  refine va_putF (C := RX5) (T := TX5) (N := 5) hx hb hts in_X5 tyX5 tyX5_ok nmX5 hown hX.K hH.2.2 zw_D hS _ (zw_o ha_f1 he_f1) rfl 2 (by decide) (hts _ q478) (fun _ hq => hq) rfl hin rfl rfl rfl rfl hk_f1 dX5_init_2 (fun H1 locs hP1 _ hS => dz_size (fun hz => ?_))
  obtain ⟨s2, e_s2, hf⟩ := dz_lo hf
  have hH := zH_put (x := .inr (4, f1.set 2 (.long a0))) hH hcs ha_f1 hP1 hz
  rw [← e_s2] at hH
  have hcs : s.heap.size + cells = s2.1 := by rw [e_s2]; exact hcs
  have hss : sl0 + slots = s2.2.1 := by rw [e_s2]; exact hss
  clear hP1 hz; generalize H1 = H at hH hS ⊢
  refine lv_aload_n hx hb dX5_init_5 rfl (lv_at hl 0 rfl) ?_
  refine lv_lload_n hx hb dX5_init_6 rfl (lv_at hl 2 rfl) ?_
  obtain ⟨f3, hf3, hf⟩ := dz_bo hf
  obtain ⟨ha_f3, he_f3, hk_f3⟩ := zwo_o hf3
  refine va_putF (C := RX5) (T := TX5) (N := 5) hx hb hts in_X5 tyX5 tyX5_ok nmX5 hown hX.K hH.2.2 zw_D hS _ (zw_o ha_f3 he_f3) rfl 3 (by decide) (hts _ q479) (fun _ hq => hq) rfl hin rfl rfl rfl rfl hk_f3 dX5_init_7 (fun H1 locs hP1 _ hS => dz_size (fun hz => ?_))
  obtain ⟨s4, e_s4, hf⟩ := dz_lo hf
  have hH := zH_put (x := .inr (4, f3.set 3 (.long a1))) hH hcs ha_f3 hP1 hz
  rw [← e_s4] at hH
  have hcs : s.heap.size + cells = s4.1 := by rw [e_s4]; exact hcs
  have hss : sl0 + slots = s4.2.1 := by rw [e_s4]; exact hss
  clear hP1 hz; generalize H1 = H at hH hS ⊢
  refine lv_aload_n hx hb dX5_init_10 rfl (lv_at hl 0 rfl) ?_
  refine lv_lload hx hb dX5_init_11 (lv_at hl 3 rfl) ?_
  obtain ⟨f5, hf5, hf⟩ := dz_bo hf
  obtain ⟨ha_f5, he_f5, hk_f5⟩ := zwo_o hf5
  refine va_putF (C := RX5) (T := TX5) (N := 5) hx hb hts in_X5 tyX5 tyX5_ok nmX5 hown hX.K hH.2.2 zw_D hS _ (zw_o ha_f5 he_f5) rfl 4 (by decide) (hts _ q480) (fun _ hq => hq) rfl hin rfl rfl rfl rfl hk_f5 dX5_init_13 (fun H1 locs hP1 _ hS => dz_size (fun hz => ?_))
  obtain ⟨s6, e_s6, hf⟩ := dz_lo hf
  have hH := zH_put (x := .inr (4, f5.set 4 (.long a2))) hH hcs ha_f5 hP1 hz
  rw [← e_s6] at hH
  have hcs : s.heap.size + cells = s6.1 := by rw [e_s6]; exact hcs
  have hss : sl0 + slots = s6.2.1 := by rw [e_s6]; exact hss
  clear hP1 hz; generalize H1 = H at hH hS ⊢
  refine lv_aload_n hx hb dX5_init_16 rfl (lv_at hl 0 rfl) ?_
  obtain ⟨x7, s8, hx7, hle, hck, hf⟩ := zcl_o hf
  have hc1 : cells + (s8.1 - s6.1) ≤ M := by omega
  have hs1 : slots + (s8.2.1 - s6.2.1) ≤ S := by omega
  refine va_callv (va_runIN (As := []) (rest := []) ⟨hx, hb, hml, hown, hts⟩ (mtX3_init_4 l D cA ζ s6 h K (x7, s8) hx7 (s8.1 - s6.1) (s8.2.1 - s6.2.1) (Nat.add_sub_cancel' hle.1) (Nat.add_sub_cancel' hle.2)) ⟨va_cnB 0 hts (lw_meth q377) rfl rfl rfl (hX.N q475 rfl) (hts _ q93) (by decide +kernel) ⟨Nat.le_of_ble_eq_true rfl, Nat.le_of_ble_eq_true rfl⟩, rfl, hts _ q376⟩ (z_preS hX hS hH) rfl rfl hl.1 rfl (lv_room (Nat.le_of_ble_eq_true rfl)) dX5_init_17 ⟨hc1, hs1⟩) hS (fun q _ hq => hq) (fun q hq => hq) (fun u t H1 locs ht hvm hw hB hz hk hS => ?_)
  obtain ⟨-, hw2⟩ := Prod.mk.inj hw.symm; subst hw2
  have hH : zH D cA ζ s8 H1 := z_at ht.symm hB
  have hcs : s.heap.size + (cells + (s8.1 - s6.1)) = s8.1 := by omega
  have hss : sl0 + (slots + (s8.2.1 - s6.2.1)) = s8.2.1 := by omega
  replace hcM := And.intro hc1 hs1
  generalize cells + (s8.1 - s6.1) = cells at hcs hcM ⊢; generalize slots + (s8.2.1 - s6.2.1) = slots at hss hcM ⊢
  clear hB hk hz hvm ht hle hck hc1 hs1; generalize H1 = H at hH hS ⊢
  refine lv_aload_n hx hb dX5_init_20 rfl (lv_at hl 0 rfl) ?_
  refine lv_lconst (v := 1) hx hb dX5_init_21 rfl ?_
  refine lv_aload_n hx hb dX5_init_22 rfl (lv_at hl 0 rfl) ?_
  obtain ⟨f9, hf9, hf⟩ := dz_bo hf
  obtain ⟨x10, hx10, hf⟩ := dz_bo hf
  refine va_get (C := RX5) (T := TX5) (N := 5) hx hb hts in_X5 hown hX.K (zrd_P hX hS hH (zob_o hf9)) 0 rfl rfl 2 (by decide) (hts _ q478) (fun _ hq => hq) (zvl_o hx10) dX5_init_23 ?_
  obtain ⟨g11, hf⟩ := dz_go hf
  refine lv_lrem hx hb dX5_init_26 g11 ?_
  refine lv_topl (fun x12 e_x12 => ?_)
  have hf := dz_ls e_x12 hf
  obtain ⟨f13, hf13, hf⟩ := dz_bo hf
  obtain ⟨ha_f13, he_f13, hk_f13⟩ := zwo_o hf13
  refine va_put (C := RX5) (T := TX5) (N := 5) hx hb hts in_X5 tyX5 tyX5_ok nmX5 hown hX.K hH.2.2 zw_D hS _ (zw_o ha_f13 he_f13) rfl 1 (by decide) (hts _ q477) (fun _ hq => hq) rfl rfl rfl rfl hk_f13 dX5_init_27 (fun H1 locs hP1 _ hS => dz_size (fun hz => ?_))
  obtain ⟨s14, e_s14, hf⟩ := dz_lo hf
  have hH := zH_put (x := .inr (4, f13.set 1 (.long x12))) hH hcs ha_f13 hP1 hz
  rw [← e_s14] at hH
  have hcs : s.heap.size + cells = s14.1 := by rw [e_s14]; exact hcs
  have hss : sl0 + slots = s14.2.1 := by rw [e_s14]; exact hss
  clear hP1 hz; generalize H1 = H at hH hS ⊢
  obtain ⟨hM1, hS1⟩ : cells = M ∧ slots = S := by have hq := congrArg Prod.snd (Option.some.inj hf); rw [← hq] at hM hS0; have hM : s.heap.size + M = s14.1 := hM; have hS0 : sl0 + S = s14.2.1 := hS0; omega
  refine W.widen (k := M) (n := S) (Nat.le_of_eq hM1) (Nat.le_of_eq hS1) ?_
  exact W.vret hx hb hr (fun t ht hW => ⟨⟨s14, rfl, Option.some.inj hf, z_at ht hH⟩, hS.F ht⟩) hS.2.2 dX5_init_30

noncomputable def fnX5_told (K : Nat) (ζ : pZ) (h : Nat) (τ : pH) : Option (Int64 × pH) := dz_b (zob ζ τ h 4) fun f1 => dz_b (zvl (f1[0]?)) fun x2 => some (x2, τ)
set_option maxHeartbeats 4000000 in
set_option maxRecDepth 100000 in
theorem mtX5_told (l : Launch) (D : va_G) (cA : Nat → ClassId) (ζ : pZ) (τ : pH) (h : Nat) (K : Nat) (res : (Int64 × pH)) (hf : fnX5_told K ζ h τ = some res) (M S : Nat) (hM : τ.1 + M = res.2.1) (hS0 : τ.2.1 + S = res.2.2.1) : Met l yX5_told (ws_ yX5_told cX5_told 1 (some .long)) ({ frames := 0, cells := M, slots := S, locals := 0 }) (zPc D cA ζ τ [.ref h]) (zQl D cA ζ res) M S (zA ζ) := by
  refine Met.ofW (cc := cX5_told) (maxL := 1) (ret := some .long) (by decide +kernel) rfl ?_
  intro p e s m args below meth c s₁ B hml hv
  obtain ⟨rfl, hX, hH⟩ := hv
  have hx := B.exec
  have hb := B.bytes
  have hr := B.returns
  have hts := atoms_spec (ws := ws_ yX5_told cX5_told 1 (some .long)) B.pre
  have hts : ∀ w ∈ lw_all, w.before _ s = true := fun w h => hts w (List.mem_cons_of_mem _ h)
  have hown : s.vm.findClass RX5 = some m.cls := findClass_of_methodNamed B.named
  have hlocks := B.notSynchronized
  have hM : s.heap.size + M = res.2.1 := by rw [hH.1]; exact hM
  have hcs : s.heap.size + 0 = τ.1 := hH.1
  have hss : τ.2.1 + 0 = τ.2.1 := rfl
  generalize hsl0 : τ.2.1 = sl0 at hS0 hss
  have hss : sl0 + 0 = τ.2.1 := by rw [hsl0]; rfl
  have hS : va_S (zA ζ) s.heap s.heap [] := va_S.rf
  generalize hHe : s.heap = H at hH hS ⊢
  have hS : va_S (zA ζ) s.heap H [] := by rw [hHe]; exact hS
  generalize ([] : List Loc) = locs at hS ⊢
  have hl := lv_entry ([.ref h]) (n := 1) (Nat.le_of_ble_eq_true rfl)
  rw [lg_entry_eq]
  generalize (lg_sl ([.ref h]) ++ List.replicate (1 - (lg_sl ([.ref h])).length) Slot.unset).toArray = ls at hl ⊢
  have hl : lv_has ls 1 [(0, .ref h)] := hl
  have hf : (dz_b (zob ζ τ h 4) fun f1 => dz_b (zvl (f1[0]?)) fun x2 => some (x2, τ) : Option (Int64 × pH)) = some res := hf
  refine z_gen (fun cells slots hc0 hs0 => ?_)
  have hcs : s.heap.size + cells = τ.1 := by rw [hc0]; exact hcs
  have hss : sl0 + slots = τ.2.1 := by rw [hs0]; exact hss
  have hcM : cells ≤ M ∧ slots ≤ S := by rw [hc0, hs0]; exact ⟨Nat.zero_le _, Nat.zero_le _⟩
  clear hc0 hs0
  refine lv_aload_n hx hb dX5_told_0 rfl (lv_at hl 0 rfl) ?_
  obtain ⟨f1, hf1, hf⟩ := dz_bo hf
  obtain ⟨x2, hx2, hf⟩ := dz_bo hf
  refine va_get (C := RX5) (T := TX5) (N := 5) hx hb hts in_X5 hown hX.K (zrd_P hX hS hH (zob_o hf1)) 0 rfl rfl 0 (by decide) (hts _ q476) (fun _ hq => hq) (zvl_o hx2) dX5_told_1 ?_
  obtain ⟨hM1, hS1⟩ : cells = M ∧ slots = S := by have hq := congrArg Prod.snd (Option.some.inj hf); rw [← hq] at hM hS0; have hM : s.heap.size + M = τ.1 := hM; have hS0 : sl0 + S = τ.2.1 := hS0; omega
  refine W.widen (k := M) (n := S) (Nat.le_of_eq hM1) (Nat.le_of_eq hS1) ?_
  exact W.lret (v := x2) hx hb hr (fun t ht hW => ⟨⟨x2, τ, rfl, Option.some.inj hf, z_at ht hH⟩, hS.F ht⟩) hS.2.2 dX5_told_4

noncomputable def fnJ5_floorMod (K : Nat) (a0 : Int64) (a1 : Int64) : Option Int64 := if ¬ a1 = 0 then (dz_l (a0 - a0 / a1 * a1) fun x2 => if (0 : Int64) ≤ (a0 ^^^ a1) then (some x2) else (if x2 = (0 : Int64) then (some x2) else (some (x2 + a1)))) else none
set_option maxHeartbeats 4000000 in
set_option maxRecDepth 100000 in
theorem mtJ5_floorMod (l : Launch) (a0 : Int64) (a1 : Int64) (K : Nat) (res : Int64) (hf : fnJ5_floorMod K a0 a1 = some res) : Met l yJ5_floorMod (ws_ yJ5_floorMod cJ5_floorMod 6 (some .long)) ({ frames := 0, cells := 0, slots := 0, locals := 0 }) (dz_P [.long a0, .long a1]) (dz_Ql res) 0 0 (fun _ => False) := by
  refine dz_ofW (cc := cJ5_floorMod) (maxL := 6) (ret := some .long) (by decide +kernel) rfl ?_
  intro p e s m args below meth c s₁ B hml hv
  obtain ⟨rfl, -⟩ := hv
  have hx := B.exec
  have hb := B.bytes
  have hr := B.returns
  have hts := atoms_spec (ws := ws_ yJ5_floorMod cJ5_floorMod 6 (some .long)) B.pre
  have hts : ∀ w ∈ lw_all, w.before _ s = true := fun w h => hts w (List.mem_cons_of_mem _ h)
  have hown : s.vm.findClass RJ5 = some m.cls := findClass_of_methodNamed B.named
  have hlocks := B.notSynchronized
  have hS : va_S (fun _ => False) s.heap s.heap [] := va_S.rf
  generalize hHe : s.heap = H at hS ⊢
  have hS : va_S (fun _ => False) s.heap H [] := by rw [hHe]; exact hS
  generalize ([] : List Loc) = locs at hS ⊢
  have hl := lv_entry ([.long a0, .long a1]) (n := 6) (Nat.le_of_ble_eq_true rfl)
  rw [lg_entry_eq]
  generalize (lg_sl ([.long a0, .long a1]) ++ List.replicate (6 - (lg_sl ([.long a0, .long a1])).length) Slot.unset).toArray = ls at hl ⊢
  have hl : lv_has ls 6 [(0, .long a0), (2, .long a1)] := hl
  have hf : (if ¬ a1 = 0 then (dz_l (a0 - a0 / a1 * a1) fun x2 => if (0 : Int64) ≤ (a0 ^^^ a1) then (some x2) else (if x2 = (0 : Int64) then (some x2) else (some (x2 + a1)))) else none : Option Int64) = some res := hf
  refine lv_lload_n hx hb dJ5_floorMod_0 rfl (lv_at hl 0 rfl) ?_
  refine lv_lload_n hx hb dJ5_floorMod_1 rfl (lv_at hl 1 rfl) ?_
  obtain ⟨g1, hf⟩ := dz_go hf
  refine lv_lrem hx hb dJ5_floorMod_2 g1 ?_
  refine lv_topl (fun x2 e_x2 => ?_)
  have hf := dz_ls e_x2 hf
  refine lv_lstore (lv' := [(4, .long x2), (0, .long a0), (2, .long a1)]) hx hb dJ5_floorMod_3 hl (by decide) rfl (fun ls hl => ?_)
  refine lv_lload_n hx hb dJ5_floorMod_5 rfl (lv_at hl 1 rfl) ?_
  refine lv_lload_n hx hb dJ5_floorMod_6 rfl (lv_at hl 2 rfl) ?_
  refine lv_lxor hx hb dJ5_floorMod_7 ?_
  refine lv_lconst (v := 0) hx hb dJ5_floorMod_8 rfl ?_
  refine W.lcmp hx hb dJ5_floorMod_9 ?_
  refine lv_if_ge (tgt := 25) hx hb dJ5_floorMod_10 (by decide) (fun c10 => ?_) (fun c10 => ?_)
  · have c10 : (0 : Int64) ≤ (a0 ^^^ a1) := (lg_cmp_ge _ _).mp c10
    have hf := dz_t c10 hf
    refine lv_lload hx hb dJ5_floorMod_25 (lv_at hl 0 rfl) ?_
    exact W.lret (v := x2) hx hb hr (fun t ht hW => ⟨⟨x2, (), rfl, Option.some.inj hf, trivial⟩, hS.F ht⟩) hS.2.2 dJ5_floorMod_27
  · have c10 : ¬ (0 : Int64) ≤ (a0 ^^^ a1) := fun hq => c10 ((lg_cmp_ge _ _).mpr hq)
    have hf := dz_f c10 hf
    refine lv_lload hx hb dJ5_floorMod_13 (lv_at hl 0 rfl) ?_
    refine lv_lconst (v := 0) hx hb dJ5_floorMod_15 rfl ?_
    refine W.lcmp hx hb dJ5_floorMod_16 ?_
    refine lv_if_eq (tgt := 25) hx hb dJ5_floorMod_17 (by decide) (fun c17 => ?_) (fun c17 => ?_)
    · have c17 : x2 = (0 : Int64) := (lg_cmp_eq _ _).mp c17
      have hf := dz_t c17 hf
      refine lv_lload hx hb dJ5_floorMod_25 (lv_at hl 0 rfl) ?_
      exact W.lret (v := x2) hx hb hr (fun t ht hW => ⟨⟨x2, (), rfl, Option.some.inj hf, trivial⟩, hS.F ht⟩) hS.2.2 dJ5_floorMod_27
    · have c17 : ¬ x2 = (0 : Int64) := fun hq => c17 ((lg_cmp_eq _ _).mpr hq)
      have hf := dz_f c17 hf
      refine lv_lload hx hb dJ5_floorMod_20 (lv_at hl 0 rfl) ?_
      refine lv_lload_n hx hb dJ5_floorMod_22 rfl (lv_at hl 2 rfl) ?_
      refine lv_ladd hx hb dJ5_floorMod_23 ?_
      exact W.lret (v := x2 + a1) hx hb hr (fun t ht hW => ⟨⟨x2 + a1, (), rfl, Option.some.inj hf, trivial⟩, hS.F ht⟩) hS.2.2 dJ5_floorMod_24

noncomputable def fnX5_rest (K : Nat) (ζ : pZ) (h : Nat) (a0 : Int64) (τ : pH) : Option (Int64 × pH) := dz_b (zob ζ τ h 4) fun f1 => dz_b (zvl (f1[2]?)) fun x2 => dz_b (fnJ5_floorMod K a0 x2) fun x3 => some (x3, τ)
set_option maxHeartbeats 4000000 in
set_option maxRecDepth 100000 in
theorem mtX5_rest (l : Launch) (D : va_G) (cA : Nat → ClassId) (ζ : pZ) (τ : pH) (h : Nat) (a0 : Int64) (K : Nat) (res : (Int64 × pH)) (hf : fnX5_rest K ζ h a0 τ = some res) (M S : Nat) (hM : τ.1 + M = res.2.1) (hS0 : τ.2.1 + S = res.2.2.1) : Met l yX5_rest (ws_ yX5_rest cX5_rest 3 (some .long)) ({ frames := 1, cells := M, slots := S, locals := 25 }) (zPc D cA ζ τ [.ref h, .long a0]) (zQl D cA ζ res) M S (zA ζ) := by
  refine Met.ofW (cc := cX5_rest) (maxL := 3) (ret := some .long) (by decide +kernel) rfl ?_
  intro p e s m args below meth c s₁ B hml hv
  obtain ⟨rfl, hX, hH⟩ := hv
  have hx := B.exec
  have hb := B.bytes
  have hr := B.returns
  have hts := atoms_spec (ws := ws_ yX5_rest cX5_rest 3 (some .long)) B.pre
  have hts : ∀ w ∈ lw_all, w.before _ s = true := fun w h => hts w (List.mem_cons_of_mem _ h)
  have hown : s.vm.findClass RX5 = some m.cls := findClass_of_methodNamed B.named
  have hlocks := B.notSynchronized
  have hM : s.heap.size + M = res.2.1 := by rw [hH.1]; exact hM
  have hcs : s.heap.size + 0 = τ.1 := hH.1
  have hss : τ.2.1 + 0 = τ.2.1 := rfl
  generalize hsl0 : τ.2.1 = sl0 at hS0 hss
  have hss : sl0 + 0 = τ.2.1 := by rw [hsl0]; rfl
  have hS : va_S (zA ζ) s.heap s.heap [] := va_S.rf
  generalize hHe : s.heap = H at hH hS ⊢
  have hS : va_S (zA ζ) s.heap H [] := by rw [hHe]; exact hS
  generalize ([] : List Loc) = locs at hS ⊢
  have hl := lv_entry ([.ref h, .long a0]) (n := 3) (Nat.le_of_ble_eq_true rfl)
  rw [lg_entry_eq]
  generalize (lg_sl ([.ref h, .long a0]) ++ List.replicate (3 - (lg_sl ([.ref h, .long a0])).length) Slot.unset).toArray = ls at hl ⊢
  have hl : lv_has ls 3 [(0, .ref h), (1, .long a0)] := hl
  have hf : (dz_b (zob ζ τ h 4) fun f1 => dz_b (zvl (f1[2]?)) fun x2 => dz_b (fnJ5_floorMod K a0 x2) fun x3 => some (x3, τ) : Option (Int64 × pH)) = some res := hf
  refine z_gen (fun cells slots hc0 hs0 => ?_)
  have hcs : s.heap.size + cells = τ.1 := by rw [hc0]; exact hcs
  have hss : sl0 + slots = τ.2.1 := by rw [hs0]; exact hss
  have hcM : cells ≤ M ∧ slots ≤ S := by rw [hc0, hs0]; exact ⟨Nat.zero_le _, Nat.zero_le _⟩
  clear hc0 hs0
  refine lv_lload_n hx hb dX5_rest_0 rfl (lv_at hl 1 rfl) ?_
  refine lv_aload_n hx hb dX5_rest_1 rfl (lv_at hl 0 rfl) ?_
  obtain ⟨f1, hf1, hf⟩ := dz_bo hf
  obtain ⟨x2, hx2, hf⟩ := dz_bo hf
  refine va_get (C := RX5) (T := TX5) (N := 5) hx hb hts in_X5 hown hX.K (zrd_P hX hS hH (zob_o hf1)) 0 rfl rfl 2 (by decide) (hts _ q478) (fun _ hq => hq) (zvl_o hx2) dX5_rest_2 ?_
  obtain ⟨x3, hx3, hf⟩ := dz_bo hf
  refine va_calll (va_runS (As := [.long a0, .long x2]) (rest := []) ⟨hx, hb, hml, hown, hts⟩ (mtJ5_floorMod l a0 x2 K x3 hx3) (va_cwS 2 hts (lw_S q410 q411 q92 q412) rfl rfl rfl (by decide +kernel) ⟨Nat.le_of_ble_eq_true rfl, Nat.le_of_ble_eq_true rfl⟩) ⟨fun a U g mk q => q, fun U hU hW => ⟨rfl, trivial⟩⟩ rfl rfl hl.1 rfl (lv_room (Nat.le_of_ble_eq_true rfl)) dX5_rest_5 ⟨hcM.1, hcM.2⟩) hS (fun q _ hq => hq.elim) (fun q hq => hq.elim) (fun r u t H1 locs ht hvm hw hB hz hk hS => dz_size (fun hz9 => ?_))
  replace hw := hw.symm; subst hw
  replace hH := zH_keep hH hcs hz hk hz9
  clear hB hk hz hvm ht hz9; generalize H1 = H at hH hS ⊢
  refine W.widen (k := cells) (n := slots) (Nat.le_refl _) (Nat.le_refl _) ?_
  obtain ⟨hM1, hS1⟩ : cells = M ∧ slots = S := by have hq := congrArg Prod.snd (Option.some.inj hf); rw [← hq] at hM hS0; have hM : s.heap.size + M = τ.1 := hM; have hS0 : sl0 + S = τ.2.1 := hS0; omega
  refine W.widen (k := M) (n := S) (Nat.le_of_eq hM1) (Nat.le_of_eq hS1) ?_
  exact W.lret (v := x3) hx hb hr (fun t ht hW => ⟨⟨x3, τ, rfl, Option.some.inj hf, z_at ht hH⟩, hS.F ht⟩) hS.2.2 dX5_rest_8

noncomputable def fnX5_doubles (K : Nat) (ζ : pZ) (h : Nat) (τ : pH) : Option (Unit × pH) := dz_b (zob ζ τ h 4) fun f1 => dz_b (zvl (f1[0]?)) fun x2 => dz_b (zob ζ τ h 4) fun f3 => dz_b (zvl (f3[1]?)) fun x4 => dz_b (zob ζ τ h 4) fun f5 => dz_b (zvl (f5[3]?)) fun x6 => dz_b (zob ζ τ h 4) fun f9 => zcl τ (fnX5_rest K ζ h ((2 * x4) - (x6 * x2)) τ) fun x7 s8 => dz_b (zob ζ s8 h 4) fun f10 => dz_b (zvl (f10[2]?)) fun x11 => if ¬ x11 = 0 then (dz_l ((x2 * x7) - (x2 * x7) / x11 * x11) fun x13 => dz_b (zwo ζ s8 h 4 0) fun f14 => dz_l (zst s8 h (.inr (4, f14.set 0 (.long x13)))) fun s15 => dz_b (zob ζ s15 h 4) fun f16 => dz_b (zvl (f16[1]?)) fun x17 => dz_b (zob ζ s15 h 4) fun f18 => dz_b (zvl (f18[1]?)) fun x19 => dz_b (zob ζ s15 h 4) fun f20 => dz_b (zvl (f20[2]?)) fun x21 => if ¬ x21 = 0 then (dz_l ((x17 * x19) - (x17 * x19) / x21 * x21) fun x23 => dz_b (zob ζ s15 h 4) fun f24 => dz_b (zvl (f24[4]?)) fun x25 => dz_b (zob ζ s15 h 4) fun f28 => zcl s15 (fnX5_rest K ζ h x25 s15) fun x26 s27 => dz_b (zob ζ s27 h 4) fun f29 => dz_b (zvl (f29[2]?)) fun x30 => if ¬ x30 = 0 then (dz_l ((x2 * x2) - (x2 * x2) / x30 * x30) fun x32 => dz_b (zob ζ s27 h 4) fun f33 => dz_b (zvl (f33[2]?)) fun x34 => if ¬ x34 = 0 then (dz_l ((x26 * x32) - (x26 * x32) / x34 * x34) fun x36 => dz_b (zob ζ s27 h 4) fun f39 => zcl s27 (fnX5_rest K ζ h (x23 - x36) s27) fun x37 s38 => dz_b (zwo ζ s38 h 4 1) fun f40 => dz_l (zst s38 h (.inr (4, f40.set 1 (.long x37)))) fun s41 => some ((), s41)) else none) else none) else none) else none
set_option maxHeartbeats 4000000 in
set_option maxRecDepth 100000 in
theorem mtX5_doubles (l : Launch) (D : va_G) (cA : Nat → ClassId) (ζ : pZ) (τ : pH) (h : Nat) (K : Nat) (res : (Unit × pH)) (hf : fnX5_doubles K ζ h τ = some res) (M S : Nat) (hM : τ.1 + M = res.2.1) (hS0 : τ.2.1 + S = res.2.2.1) : Met l yX5_doubles (ws_ yX5_doubles cX5_doubles 3 (none)) ({ frames := 2, cells := M, slots := S, locals := 47 }) (zPc D cA ζ τ [.ref h]) (zQv D cA ζ res) M S (zA ζ) := by
  refine Met.ofW (cc := cX5_doubles) (maxL := 3) (ret := none) (by decide +kernel) rfl ?_
  intro p e s m args below meth c s₁ B hml hv
  obtain ⟨rfl, hX, hH⟩ := hv
  have hx := B.exec
  have hb := B.bytes
  have hr := B.returns
  have hts := atoms_spec (ws := ws_ yX5_doubles cX5_doubles 3 (none)) B.pre
  have hts : ∀ w ∈ lw_all, w.before _ s = true := fun w h => hts w (List.mem_cons_of_mem _ h)
  have hown : s.vm.findClass RX5 = some m.cls := findClass_of_methodNamed B.named
  have hlocks := B.notSynchronized
  have hM : s.heap.size + M = res.2.1 := by rw [hH.1]; exact hM
  have hcs : s.heap.size + 0 = τ.1 := hH.1
  have hss : τ.2.1 + 0 = τ.2.1 := rfl
  generalize hsl0 : τ.2.1 = sl0 at hS0 hss
  have hss : sl0 + 0 = τ.2.1 := by rw [hsl0]; rfl
  have hS : va_S (zA ζ) s.heap s.heap [] := va_S.rf
  generalize hHe : s.heap = H at hH hS ⊢
  have hS : va_S (zA ζ) s.heap H [] := by rw [hHe]; exact hS
  generalize ([] : List Loc) = locs at hS ⊢
  have hl := lv_entry ([.ref h]) (n := 3) (Nat.le_of_ble_eq_true rfl)
  rw [lg_entry_eq]
  generalize (lg_sl ([.ref h]) ++ List.replicate (3 - (lg_sl ([.ref h])).length) Slot.unset).toArray = ls at hl ⊢
  have hl : lv_has ls 3 [(0, .ref h)] := hl
  have hf : (dz_b (zob ζ τ h 4) fun f1 => dz_b (zvl (f1[0]?)) fun x2 => dz_b (zob ζ τ h 4) fun f3 => dz_b (zvl (f3[1]?)) fun x4 => dz_b (zob ζ τ h 4) fun f5 => dz_b (zvl (f5[3]?)) fun x6 => dz_b (zob ζ τ h 4) fun f9 => zcl τ (fnX5_rest K ζ h ((2 * x4) - (x6 * x2)) τ) fun x7 s8 => dz_b (zob ζ s8 h 4) fun f10 => dz_b (zvl (f10[2]?)) fun x11 => if ¬ x11 = 0 then (dz_l ((x2 * x7) - (x2 * x7) / x11 * x11) fun x13 => dz_b (zwo ζ s8 h 4 0) fun f14 => dz_l (zst s8 h (.inr (4, f14.set 0 (.long x13)))) fun s15 => dz_b (zob ζ s15 h 4) fun f16 => dz_b (zvl (f16[1]?)) fun x17 => dz_b (zob ζ s15 h 4) fun f18 => dz_b (zvl (f18[1]?)) fun x19 => dz_b (zob ζ s15 h 4) fun f20 => dz_b (zvl (f20[2]?)) fun x21 => if ¬ x21 = 0 then (dz_l ((x17 * x19) - (x17 * x19) / x21 * x21) fun x23 => dz_b (zob ζ s15 h 4) fun f24 => dz_b (zvl (f24[4]?)) fun x25 => dz_b (zob ζ s15 h 4) fun f28 => zcl s15 (fnX5_rest K ζ h x25 s15) fun x26 s27 => dz_b (zob ζ s27 h 4) fun f29 => dz_b (zvl (f29[2]?)) fun x30 => if ¬ x30 = 0 then (dz_l ((x2 * x2) - (x2 * x2) / x30 * x30) fun x32 => dz_b (zob ζ s27 h 4) fun f33 => dz_b (zvl (f33[2]?)) fun x34 => if ¬ x34 = 0 then (dz_l ((x26 * x32) - (x26 * x32) / x34 * x34) fun x36 => dz_b (zob ζ s27 h 4) fun f39 => zcl s27 (fnX5_rest K ζ h (x23 - x36) s27) fun x37 s38 => dz_b (zwo ζ s38 h 4 1) fun f40 => dz_l (zst s38 h (.inr (4, f40.set 1 (.long x37)))) fun s41 => some ((), s41)) else none) else none) else none) else none : Option (Unit × pH)) = some res := hf
  refine z_gen (fun cells slots hc0 hs0 => ?_)
  have hcs : s.heap.size + cells = τ.1 := by rw [hc0]; exact hcs
  have hss : sl0 + slots = τ.2.1 := by rw [hs0]; exact hss
  have hcM : cells ≤ M ∧ slots ≤ S := by rw [hc0, hs0]; exact ⟨Nat.zero_le _, Nat.zero_le _⟩
  clear hc0 hs0
  refine lv_aload_n hx hb dX5_doubles_0 rfl (lv_at hl 0 rfl) ?_
  obtain ⟨f1, hf1, hf⟩ := dz_bo hf
  obtain ⟨x2, hx2, hf⟩ := dz_bo hf
  refine va_get (C := RX5) (T := TX5) (N := 5) hx hb hts in_X5 hown hX.K (zrd_P hX hS hH (zob_o hf1)) 0 rfl rfl 0 (by decide) (hts _ q476) (fun _ hq => hq) (zvl_o hx2) dX5_doubles_1 ?_
  refine lv_lstore_n (lv' := [(1, .long x2), (0, .ref h)]) hx hb dX5_doubles_4 rfl hl (by decide) rfl (fun ls hl => ?_)
  refine lv_aload_n hx hb dX5_doubles_5 rfl (lv_at hl 1 rfl) ?_
  refine lv_lload_n hx hb dX5_doubles_6 rfl (lv_at hl 0 rfl) ?_
  refine lv_aload_n hx hb dX5_doubles_7 rfl (lv_at hl 1 rfl) ?_
  refine lv_ldc2 (v := 2) hx hb hown (hts _ q404) dX5_doubles_8 ?_
  refine lv_aload_n hx hb dX5_doubles_11 rfl (lv_at hl 1 rfl) ?_
  obtain ⟨f3, hf3, hf⟩ := dz_bo hf
  obtain ⟨x4, hx4, hf⟩ := dz_bo hf
  refine va_get (C := RX5) (T := TX5) (N := 5) hx hb hts in_X5 hown hX.K (zrd_P hX hS hH (zob_o hf3)) 0 rfl rfl 1 (by decide) (hts _ q477) (fun _ hq => hq) (zvl_o hx4) dX5_doubles_12 ?_
  refine lv_lmul hx hb dX5_doubles_15 ?_
  refine lv_aload_n hx hb dX5_doubles_16 rfl (lv_at hl 1 rfl) ?_
  obtain ⟨f5, hf5, hf⟩ := dz_bo hf
  obtain ⟨x6, hx6, hf⟩ := dz_bo hf
  refine va_get (C := RX5) (T := TX5) (N := 5) hx hb hts in_X5 hown hX.K (zrd_P hX hS hH (zob_o hf5)) 0 rfl rfl 3 (by decide) (hts _ q479) (fun _ hq => hq) (zvl_o hx6) dX5_doubles_17 ?_
  refine lv_lload_n hx hb dX5_doubles_20 rfl (lv_at hl 0 rfl) ?_
  refine lv_lmul hx hb dX5_doubles_21 ?_
  refine lv_lsub hx hb dX5_doubles_22 ?_
  obtain ⟨f9, hf9, hf⟩ := dz_bo hf
  obtain ⟨x7, s8, hx7, hle, hck, hf⟩ := zcl_o hf
  have hc1 : cells + (s8.1 - τ.1) ≤ M := by omega
  have hs1 : slots + (s8.2.1 - τ.2.1) ≤ S := by omega
  refine va_calll (va_runV (As := [.long ((2 * x4) - (x6 * x2))]) (rest := [.long x2, .ref h]) ⟨hx, hb, hml, hown, hts⟩ (mtX5_rest l D cA ζ τ h ((2 * x4) - (x6 * x2)) K (x7, s8) hx7 (s8.1 - τ.1) (s8.2.1 - τ.2.1) (Nat.add_sub_cancel' hle.1) (Nat.add_sub_cancel' hle.2)) (cwV 1 hts (lw_V q405 q407 qs3 q95 q409) rfl rfl rfl (by decide +kernel) ⟨Nat.le_of_ble_eq_true rfl, Nat.le_of_ble_eq_true rfl⟩) (z_preV hX hS hH (zob_o hf9) rfl) rfl rfl hl.1 rfl (lv_room (Nat.le_of_ble_eq_true rfl)) dX5_doubles_23 ⟨hc1, hs1⟩) hS (fun q _ hq => hq) (fun q hq => hq) (fun r u t H1 locs ht hvm hw hB hz hk hS => ?_)
  obtain ⟨hw1, hw2⟩ := Prod.mk.inj hw.symm; subst hw1; subst hw2
  have hH : zH D cA ζ s8 H1 := z_at ht.symm hB
  have hcs : s.heap.size + (cells + (s8.1 - τ.1)) = s8.1 := by omega
  have hss : sl0 + (slots + (s8.2.1 - τ.2.1)) = s8.2.1 := by omega
  replace hcM := And.intro hc1 hs1
  generalize cells + (s8.1 - τ.1) = cells at hcs hcM ⊢; generalize slots + (s8.2.1 - τ.2.1) = slots at hss hcM ⊢
  clear hB hk hz hvm ht hle hck hc1 hs1; generalize H1 = H at hH hS ⊢
  refine lv_lmul hx hb dX5_doubles_26 ?_
  refine lv_aload_n hx hb dX5_doubles_27 rfl (lv_at hl 1 rfl) ?_
  obtain ⟨f10, hf10, hf⟩ := dz_bo hf
  obtain ⟨x11, hx11, hf⟩ := dz_bo hf
  refine va_get (C := RX5) (T := TX5) (N := 5) hx hb hts in_X5 hown hX.K (zrd_P hX hS hH (zob_o hf10)) 0 rfl rfl 2 (by decide) (hts _ q478) (fun _ hq => hq) (zvl_o hx11) dX5_doubles_28 ?_
  obtain ⟨g12, hf⟩ := dz_go hf
  refine lv_lrem hx hb dX5_doubles_31 g12 ?_
  refine lv_topl (fun x13 e_x13 => ?_)
  have hf := dz_ls e_x13 hf
  obtain ⟨f14, hf14, hf⟩ := dz_bo hf
  obtain ⟨ha_f14, he_f14, hk_f14⟩ := zwo_o hf14
  refine va_put (C := RX5) (T := TX5) (N := 5) hx hb hts in_X5 tyX5 tyX5_ok nmX5 hown hX.K hH.2.2 zw_D hS _ (zw_o ha_f14 he_f14) rfl 0 (by decide) (hts _ q476) (fun _ hq => hq) rfl rfl rfl rfl hk_f14 dX5_doubles_32 (fun H1 locs hP1 _ hS => dz_size (fun hz => ?_))
  obtain ⟨s15, e_s15, hf⟩ := dz_lo hf
  have hH := zH_put (x := .inr (4, f14.set 0 (.long x13))) hH hcs ha_f14 hP1 hz
  rw [← e_s15] at hH
  have hcs : s.heap.size + cells = s15.1 := by rw [e_s15]; exact hcs
  have hss : sl0 + slots = s15.2.1 := by rw [e_s15]; exact hss
  clear hP1 hz; generalize H1 = H at hH hS ⊢
  refine lv_aload_n hx hb dX5_doubles_35 rfl (lv_at hl 1 rfl) ?_
  refine lv_aload_n hx hb dX5_doubles_36 rfl (lv_at hl 1 rfl) ?_
  refine lv_aload_n hx hb dX5_doubles_37 rfl (lv_at hl 1 rfl) ?_
  obtain ⟨f16, hf16, hf⟩ := dz_bo hf
  obtain ⟨x17, hx17, hf⟩ := dz_bo hf
  refine va_get (C := RX5) (T := TX5) (N := 5) hx hb hts in_X5 hown hX.K (zrd_P hX hS hH (zob_o hf16)) 0 rfl rfl 1 (by decide) (hts _ q477) (fun _ hq => hq) (zvl_o hx17) dX5_doubles_38 ?_
  refine lv_aload_n hx hb dX5_doubles_41 rfl (lv_at hl 1 rfl) ?_
  obtain ⟨f18, hf18, hf⟩ := dz_bo hf
  obtain ⟨x19, hx19, hf⟩ := dz_bo hf
  refine va_get (C := RX5) (T := TX5) (N := 5) hx hb hts in_X5 hown hX.K (zrd_P hX hS hH (zob_o hf18)) 0 rfl rfl 1 (by decide) (hts _ q477) (fun _ hq => hq) (zvl_o hx19) dX5_doubles_42 ?_
  refine lv_lmul hx hb dX5_doubles_45 ?_
  refine lv_aload_n hx hb dX5_doubles_46 rfl (lv_at hl 1 rfl) ?_
  obtain ⟨f20, hf20, hf⟩ := dz_bo hf
  obtain ⟨x21, hx21, hf⟩ := dz_bo hf
  refine va_get (C := RX5) (T := TX5) (N := 5) hx hb hts in_X5 hown hX.K (zrd_P hX hS hH (zob_o hf20)) 0 rfl rfl 2 (by decide) (hts _ q478) (fun _ hq => hq) (zvl_o hx21) dX5_doubles_47 ?_
  obtain ⟨g22, hf⟩ := dz_go hf
  refine lv_lrem hx hb dX5_doubles_50 g22 ?_
  refine lv_topl (fun x23 e_x23 => ?_)
  have hf := dz_ls e_x23 hf
  refine lv_aload_n hx hb dX5_doubles_51 rfl (lv_at hl 1 rfl) ?_
  refine lv_aload_n hx hb dX5_doubles_52 rfl (lv_at hl 1 rfl) ?_
  obtain ⟨f24, hf24, hf⟩ := dz_bo hf
  obtain ⟨x25, hx25, hf⟩ := dz_bo hf
  refine va_get (C := RX5) (T := TX5) (N := 5) hx hb hts in_X5 hown hX.K (zrd_P hX hS hH (zob_o hf24)) 0 rfl rfl 4 (by decide) (hts _ q480) (fun _ hq => hq) (zvl_o hx25) dX5_doubles_53 ?_
  obtain ⟨f28, hf28, hf⟩ := dz_bo hf
  obtain ⟨x26, s27, hx26, hle, hck, hf⟩ := zcl_o hf
  have hc1 : cells + (s27.1 - s15.1) ≤ M := by omega
  have hs1 : slots + (s27.2.1 - s15.2.1) ≤ S := by omega
  refine va_calll (va_runV (As := [.long x25]) (rest := [.long x23, .ref h, .ref h]) ⟨hx, hb, hml, hown, hts⟩ (mtX5_rest l D cA ζ s15 h x25 K (x26, s27) hx26 (s27.1 - s15.1) (s27.2.1 - s15.2.1) (Nat.add_sub_cancel' hle.1) (Nat.add_sub_cancel' hle.2)) (cwV 1 hts (lw_V q405 q407 qs3 q95 q409) rfl rfl rfl (by decide +kernel) ⟨Nat.le_of_ble_eq_true rfl, Nat.le_of_ble_eq_true rfl⟩) (z_preV hX hS hH (zob_o hf28) rfl) rfl rfl hl.1 rfl (lv_room (Nat.le_of_ble_eq_true rfl)) dX5_doubles_56 ⟨hc1, hs1⟩) hS (fun q _ hq => hq) (fun q hq => hq) (fun r u t H1 locs ht hvm hw hB hz hk hS => ?_)
  obtain ⟨hw1, hw2⟩ := Prod.mk.inj hw.symm; subst hw1; subst hw2
  have hH : zH D cA ζ s27 H1 := z_at ht.symm hB
  have hcs : s.heap.size + (cells + (s27.1 - s15.1)) = s27.1 := by omega
  have hss : sl0 + (slots + (s27.2.1 - s15.2.1)) = s27.2.1 := by omega
  replace hcM := And.intro hc1 hs1
  generalize cells + (s27.1 - s15.1) = cells at hcs hcM ⊢; generalize slots + (s27.2.1 - s15.2.1) = slots at hss hcM ⊢
  clear hB hk hz hvm ht hle hck hc1 hs1; generalize H1 = H at hH hS ⊢
  refine lv_lload_n hx hb dX5_doubles_59 rfl (lv_at hl 0 rfl) ?_
  refine lv_lload_n hx hb dX5_doubles_60 rfl (lv_at hl 0 rfl) ?_
  refine lv_lmul hx hb dX5_doubles_61 ?_
  refine lv_aload_n hx hb dX5_doubles_62 rfl (lv_at hl 1 rfl) ?_
  obtain ⟨f29, hf29, hf⟩ := dz_bo hf
  obtain ⟨x30, hx30, hf⟩ := dz_bo hf
  refine va_get (C := RX5) (T := TX5) (N := 5) hx hb hts in_X5 hown hX.K (zrd_P hX hS hH (zob_o hf29)) 0 rfl rfl 2 (by decide) (hts _ q478) (fun _ hq => hq) (zvl_o hx30) dX5_doubles_63 ?_
  obtain ⟨g31, hf⟩ := dz_go hf
  refine lv_lrem hx hb dX5_doubles_66 g31 ?_
  refine lv_topl (fun x32 e_x32 => ?_)
  have hf := dz_ls e_x32 hf
  refine lv_lmul hx hb dX5_doubles_67 ?_
  refine lv_aload_n hx hb dX5_doubles_68 rfl (lv_at hl 1 rfl) ?_
  obtain ⟨f33, hf33, hf⟩ := dz_bo hf
  obtain ⟨x34, hx34, hf⟩ := dz_bo hf
  refine va_get (C := RX5) (T := TX5) (N := 5) hx hb hts in_X5 hown hX.K (zrd_P hX hS hH (zob_o hf33)) 0 rfl rfl 2 (by decide) (hts _ q478) (fun _ hq => hq) (zvl_o hx34) dX5_doubles_69 ?_
  obtain ⟨g35, hf⟩ := dz_go hf
  refine lv_lrem hx hb dX5_doubles_72 g35 ?_
  refine lv_topl (fun x36 e_x36 => ?_)
  have hf := dz_ls e_x36 hf
  refine lv_lsub hx hb dX5_doubles_73 ?_
  obtain ⟨f39, hf39, hf⟩ := dz_bo hf
  obtain ⟨x37, s38, hx37, hle, hck, hf⟩ := zcl_o hf
  have hc1 : cells + (s38.1 - s27.1) ≤ M := by omega
  have hs1 : slots + (s38.2.1 - s27.2.1) ≤ S := by omega
  refine va_calll (va_runV (As := [.long (x23 - x36)]) (rest := [.ref h]) ⟨hx, hb, hml, hown, hts⟩ (mtX5_rest l D cA ζ s27 h (x23 - x36) K (x37, s38) hx37 (s38.1 - s27.1) (s38.2.1 - s27.2.1) (Nat.add_sub_cancel' hle.1) (Nat.add_sub_cancel' hle.2)) (cwV 1 hts (lw_V q405 q407 qs3 q95 q409) rfl rfl rfl (by decide +kernel) ⟨Nat.le_of_ble_eq_true rfl, Nat.le_of_ble_eq_true rfl⟩) (z_preV hX hS hH (zob_o hf39) rfl) rfl rfl hl.1 rfl (lv_room (Nat.le_of_ble_eq_true rfl)) dX5_doubles_74 ⟨hc1, hs1⟩) hS (fun q _ hq => hq) (fun q hq => hq) (fun r u t H1 locs ht hvm hw hB hz hk hS => ?_)
  obtain ⟨hw1, hw2⟩ := Prod.mk.inj hw.symm; subst hw1; subst hw2
  have hH : zH D cA ζ s38 H1 := z_at ht.symm hB
  have hcs : s.heap.size + (cells + (s38.1 - s27.1)) = s38.1 := by omega
  have hss : sl0 + (slots + (s38.2.1 - s27.2.1)) = s38.2.1 := by omega
  replace hcM := And.intro hc1 hs1
  generalize cells + (s38.1 - s27.1) = cells at hcs hcM ⊢; generalize slots + (s38.2.1 - s27.2.1) = slots at hss hcM ⊢
  clear hB hk hz hvm ht hle hck hc1 hs1; generalize H1 = H at hH hS ⊢
  obtain ⟨f40, hf40, hf⟩ := dz_bo hf
  obtain ⟨ha_f40, he_f40, hk_f40⟩ := zwo_o hf40
  refine va_put (C := RX5) (T := TX5) (N := 5) hx hb hts in_X5 tyX5 tyX5_ok nmX5 hown hX.K hH.2.2 zw_D hS _ (zw_o ha_f40 he_f40) rfl 1 (by decide) (hts _ q477) (fun _ hq => hq) rfl rfl rfl rfl hk_f40 dX5_doubles_77 (fun H1 locs hP1 _ hS => dz_size (fun hz => ?_))
  obtain ⟨s41, e_s41, hf⟩ := dz_lo hf
  have hH := zH_put (x := .inr (4, f40.set 1 (.long x37))) hH hcs ha_f40 hP1 hz
  rw [← e_s41] at hH
  have hcs : s.heap.size + cells = s41.1 := by rw [e_s41]; exact hcs
  have hss : sl0 + slots = s41.2.1 := by rw [e_s41]; exact hss
  clear hP1 hz; generalize H1 = H at hH hS ⊢
  obtain ⟨hM1, hS1⟩ : cells = M ∧ slots = S := by have hq := congrArg Prod.snd (Option.some.inj hf); rw [← hq] at hM hS0; have hM : s.heap.size + M = s41.1 := hM; have hS0 : sl0 + S = s41.2.1 := hS0; omega
  refine W.widen (k := M) (n := S) (Nat.le_of_eq hM1) (Nat.le_of_eq hS1) ?_
  exact W.vret hx hb hr (fun t ht hW => ⟨⟨s41, rfl, Option.some.inj hf, z_at ht hH⟩, hS.F ht⟩) hS.2.2 dX5_doubles_80

