noncomputable def fnX10_init (K : Nat) (ζ : pZ) (h : Nat) (a0 : Nat) (a1 : Int64) (τ : pH) : Option (Unit × pH) := dz_b (zwo ζ τ h 7 7) fun f1 => dz_l (zst τ h (.inr (7, f1.set 7 (.ref a0)))) fun s2 => zcl s2 (fnX6_init_7 K ζ h a0 a1 2 s2) fun _ s4 => some ((), s4)
set_option maxHeartbeats 4000000 in
set_option maxRecDepth 100000 in
theorem mtX10_init (l : Launch) (D : va_G) (cA : Nat → ClassId) (ζ : pZ) (τ : pH) (h : Nat) (a0 : Nat) (a1 : Int64) (K : Nat) (res : (Unit × pH)) (hf : fnX10_init K ζ h a0 a1 τ = some res) (M S : Nat) (hM : τ.1 + M = res.2.1) (hS0 : τ.2.1 + S = res.2.2.1) : Met l yX10_init (ws_ yX10_init cX10_init 4 (none)) ({ frames := 3, cells := M, slots := S, locals := 64 }) (zPc D cA ζ τ [.ref h, .ref a0, .long a1]) (zQv D cA ζ res) M S (zA ζ) := by
  refine Met.ofW (cc := cX10_init) (maxL := 4) (ret := none) (by decide +kernel) rfl ?_
  intro p e s m args below meth c s₁ B hml hv
  obtain ⟨rfl, hX, hH⟩ := hv
  have hx := B.exec
  have hb := B.bytes
  have hr := B.returns
  have hts := atoms_spec (ws := ws_ yX10_init cX10_init 4 (none)) B.pre
  have hts : ∀ w ∈ lw_all, w.before _ s = true := fun w h => hts w (List.mem_cons_of_mem _ h)
  have hown : s.vm.findClass RX10 = some m.cls := findClass_of_methodNamed B.named
  have hlocks := B.notSynchronized
  have hin : meth.name = "<init>" := (name_of_methodNamed B.named B.method).1
  have hM : s.heap.size + M = res.2.1 := by rw [hH.1]; exact hM
  have hcs : s.heap.size + 0 = τ.1 := hH.1
  have hss : τ.2.1 + 0 = τ.2.1 := rfl
  generalize hsl0 : τ.2.1 = sl0 at hS0 hss
  have hss : sl0 + 0 = τ.2.1 := by rw [hsl0]; rfl
  have hS : va_S (zA ζ) s.heap s.heap [] := va_S.rf
  generalize hHe : s.heap = H at hH hS ⊢
  have hS : va_S (zA ζ) s.heap H [] := by rw [hHe]; exact hS
  generalize ([] : List Loc) = locs at hS ⊢
  have hl := lv_entry ([.ref h, .ref a0, .long a1]) (n := 4) (Nat.le_of_ble_eq_true rfl)
  rw [lg_entry_eq]
  generalize (lg_sl ([.ref h, .ref a0, .long a1]) ++ List.replicate (4 - (lg_sl ([.ref h, .ref a0, .long a1])).length) Slot.unset).toArray = ls at hl ⊢
  have hl : lv_has ls 4 [(0, .ref h), (1, .ref a0), (2, .long a1)] := hl
  have hf : (dz_b (zwo ζ τ h 7 7) fun f1 => dz_l (zst τ h (.inr (7, f1.set 7 (.ref a0)))) fun s2 => zcl s2 (fnX6_init_7 K ζ h a0 a1 2 s2) fun _ s4 => some ((), s4) : Option (Unit × pH)) = some res := hf
  refine z_gen (fun cells slots hc0 hs0 => ?_)
  have hcs : s.heap.size + cells = τ.1 := by rw [hc0]; exact hcs
  have hss : sl0 + slots = τ.2.1 := by rw [hs0]; exact hss
  have hcM : cells ≤ M ∧ slots ≤ S := by rw [hc0, hs0]; exact ⟨Nat.zero_le _, Nat.zero_le _⟩
  clear hc0 hs0
  refine lv_aload_n hx hb dX10_init_0 rfl (lv_at hl 0 rfl) ?_
  refine lv_aload_n hx hb dX10_init_1 rfl (lv_at hl 1 rfl) ?_
  obtain ⟨f1, hf1, hf⟩ := dz_bo hf
  obtain ⟨ha_f1, he_f1, hk_f1⟩ := zwo_o hf1
  refine zq_putF (C := RX10) (T := TX10) (N := 8) hx hb hts in_X10 tyX10 tyX10_ok nmX10 hown hX.K hH.2.2 zw_D hS _ (zw_o ha_f1 he_f1) rfl 7 (by decide) (hts _ q607) (fun _ hq => hq) rfl hin rfl rfl rfl rfl hk_f1 dX10_init_2 (fun H1 locs hP1 _ hS => dz_size (fun hz => ?_))
  obtain ⟨s2, e_s2, hf⟩ := dz_lo hf
  have hH := zH_put (x := .inr (7, f1.set 7 (.ref a0))) hH hcs ha_f1 hP1 hz
  rw [← e_s2] at hH
  have hcs : s.heap.size + cells = s2.1 := by rw [e_s2]; exact hcs
  have hss : sl0 + slots = s2.2.1 := by rw [e_s2]; exact hss
  clear hP1 hz; generalize H1 = H at hH hS ⊢
  refine lv_aload_n hx hb dX10_init_5 rfl (lv_at hl 0 rfl) ?_
  refine lv_aload_n hx hb dX10_init_6 rfl (lv_at hl 1 rfl) ?_
  refine lv_lload_n hx hb dX10_init_7 rfl (lv_at hl 2 rfl) ?_
  refine lv_iconst (v := 2) hx hb dX10_init_8 (by decide) ?_
  obtain ⟨x3, s4, hx3, hle, hck, hf⟩ := zcl_o hf
  have hc1 : cells + (s4.1 - s2.1) ≤ M := by omega
  have hs1 : slots + (s4.2.1 - s2.2.1) ≤ S := by omega
  refine va_callv (va_runI (As := [.ref a0, .long a1, .int 2]) (rest := []) ⟨hx, hb, hml, hown, hts⟩ (mtX6_init_7 l D cA ζ s2 h a0 a1 2 K (x3, s4) hx3 (s4.1 - s2.1) (s4.2.1 - s2.2.1) (Nat.add_sub_cancel' hle.1) (Nat.add_sub_cancel' hle.2)) (cwI 3 hts (lw_meth q506) rfl rfl rfl (hts _ q96) (hts _ q606) (hts _ q505) rfl (by decide +kernel) ⟨Nat.le_of_ble_eq_true rfl, Nat.le_of_ble_eq_true rfl⟩) (z_preS hX hS hH) rfl rfl hl.1 rfl (lv_room (Nat.le_of_ble_eq_true rfl)) dX10_init_9 ⟨hc1, hs1⟩) hS (fun q _ hq => hq) (fun q hq => hq) (fun u t H1 locs ht hvm hw hB hz hk hS => ?_)
  obtain ⟨-, hw2⟩ := Prod.mk.inj hw.symm; subst hw2
  have hH : zH D cA ζ s4 H1 := z_at ht.symm hB
  have hcs : s.heap.size + (cells + (s4.1 - s2.1)) = s4.1 := by omega
  have hss : sl0 + (slots + (s4.2.1 - s2.2.1)) = s4.2.1 := by omega
  replace hcM := And.intro hc1 hs1
  generalize cells + (s4.1 - s2.1) = cells at hcs hcM ⊢; generalize slots + (s4.2.1 - s2.2.1) = slots at hss hcM ⊢
  clear hB hk hz hvm ht hle hck hc1 hs1; generalize H1 = H at hH hS ⊢
  obtain ⟨hM1, hS1⟩ : cells = M ∧ slots = S := by have hq := congrArg Prod.snd (Option.some.inj hf); rw [← hq] at hM hS0; have hM : s.heap.size + M = s4.1 := hM; have hS0 : sl0 + S = s4.2.1 := hS0; omega
  refine W.widen (k := M) (n := S) (Nat.le_of_eq hM1) (Nat.le_of_eq hS1) ?_
  exact W.vret hx hb hr (fun t ht hW => ⟨⟨s4, rfl, Option.some.inj hf, z_at ht hH⟩, hS.F ht⟩) hS.2.2 dX10_init_12

noncomputable def fnX6_init_8 (K : Nat) (ζ : pZ) (h : Nat) (a0 : Nat) (a1 : Int64) (a2 : Int32) (τ : pH) : Option (Unit × pH) := dz_b (zwo ζ τ h 8 6) fun f1 => dz_l (zst τ h (.inr (8, f1.set 6 (.ref a0)))) fun s2 => dz_l s2.1 fun r3 => dz_l (znw s2 2 (.inr (10, [.null, .int 0]))) fun s4 => zck s4 (zcl s4 (fnX8_init K ζ r3 s4) fun _ s6 => dz_b (zwo ζ s6 h 8 4) fun f7 => dz_l (zst s6 h (.inr (8, f7.set 4 (.ref r3)))) fun s8 => dz_l s8.1 fun r9 => dz_l (znw s8 2 (.inr (10, [.null, .int 0]))) fun s10 => zck s10 (zcl s10 (fnX8_init K ζ r9 s10) fun _ s12 => dz_b (zwo ζ s12 h 8 5) fun f13 => dz_l (zst s12 h (.inr (8, f13.set 5 (.ref r9)))) fun s14 => dz_b (zwo ζ s14 h 8 0) fun f15 => dz_l (zst s14 h (.inr (8, f15.set 0 (.long a1)))) fun s16 => dz_b (zwo ζ s16 h 8 1) fun f17 => dz_l (zst s16 h (.inr (8, f17.set 1 (.int a2)))) fun s18 => some ((), s18)))
set_option maxHeartbeats 4000000 in
set_option maxRecDepth 100000 in
theorem mtX6_init_8 (l : Launch) (D : va_G) (cA : Nat → ClassId) (ζ : pZ) (τ : pH) (h : Nat) (a0 : Nat) (a1 : Int64) (a2 : Int32) (K : Nat) (res : (Unit × pH)) (hf : fnX6_init_8 K ζ h a0 a1 a2 τ = some res) (M S : Nat) (hM : τ.1 + M = res.2.1) (hS0 : τ.2.1 + S = res.2.2.1) : Met l yX6_init (ws_ yX6_init cX6_init 5 (none)) ({ frames := 2, cells := M, slots := S, locals := 40 }) (zPc D cA ζ τ [.ref h, .ref a0, .long a1, .int a2]) (zQv D cA ζ res) M S (zA ζ) := by
  refine Met.ofW (cc := cX6_init) (maxL := 5) (ret := none) (by decide +kernel) rfl ?_
  intro p e s m args below meth c s₁ B hml hv
  obtain ⟨rfl, hX, hH⟩ := hv
  have hx := B.exec
  have hb := B.bytes
  have hr := B.returns
  have hts := atoms_spec (ws := ws_ yX6_init cX6_init 5 (none)) B.pre
  have hts : ∀ w ∈ lw_all, w.before _ s = true := fun w h => hts w (List.mem_cons_of_mem _ h)
  have hown : s.vm.findClass RX6 = some m.cls := findClass_of_methodNamed B.named
  have hlocks := B.notSynchronized
  have hin : meth.name = "<init>" := (name_of_methodNamed B.named B.method).1
  have hM : s.heap.size + M = res.2.1 := by rw [hH.1]; exact hM
  have hcs : s.heap.size + 0 = τ.1 := hH.1
  have hss : τ.2.1 + 0 = τ.2.1 := rfl
  generalize hsl0 : τ.2.1 = sl0 at hS0 hss
  have hss : sl0 + 0 = τ.2.1 := by rw [hsl0]; rfl
  have hS : va_S (zA ζ) s.heap s.heap [] := va_S.rf
  generalize hHe : s.heap = H at hH hS ⊢
  have hS : va_S (zA ζ) s.heap H [] := by rw [hHe]; exact hS
  generalize ([] : List Loc) = locs at hS ⊢
  have hl := lv_entry ([.ref h, .ref a0, .long a1, .int a2]) (n := 5) (Nat.le_of_ble_eq_true rfl)
  rw [lg_entry_eq]
  generalize (lg_sl ([.ref h, .ref a0, .long a1, .int a2]) ++ List.replicate (5 - (lg_sl ([.ref h, .ref a0, .long a1, .int a2])).length) Slot.unset).toArray = ls at hl ⊢
  have hl : lv_has ls 5 [(0, .ref h), (1, .ref a0), (2, .long a1), (4, .int a2)] := hl
  have hf : (dz_b (zwo ζ τ h 8 6) fun f1 => dz_l (zst τ h (.inr (8, f1.set 6 (.ref a0)))) fun s2 => dz_l s2.1 fun r3 => dz_l (znw s2 2 (.inr (10, [.null, .int 0]))) fun s4 => zck s4 (zcl s4 (fnX8_init K ζ r3 s4) fun _ s6 => dz_b (zwo ζ s6 h 8 4) fun f7 => dz_l (zst s6 h (.inr (8, f7.set 4 (.ref r3)))) fun s8 => dz_l s8.1 fun r9 => dz_l (znw s8 2 (.inr (10, [.null, .int 0]))) fun s10 => zck s10 (zcl s10 (fnX8_init K ζ r9 s10) fun _ s12 => dz_b (zwo ζ s12 h 8 5) fun f13 => dz_l (zst s12 h (.inr (8, f13.set 5 (.ref r9)))) fun s14 => dz_b (zwo ζ s14 h 8 0) fun f15 => dz_l (zst s14 h (.inr (8, f15.set 0 (.long a1)))) fun s16 => dz_b (zwo ζ s16 h 8 1) fun f17 => dz_l (zst s16 h (.inr (8, f17.set 1 (.int a2)))) fun s18 => some ((), s18))) : Option (Unit × pH)) = some res := hf
  refine z_gen (fun cells slots hc0 hs0 => ?_)
  have hcs : s.heap.size + cells = τ.1 := by rw [hc0]; exact hcs
  have hss : sl0 + slots = τ.2.1 := by rw [hs0]; exact hss
  have hcM : cells ≤ M ∧ slots ≤ S := by rw [hc0, hs0]; exact ⟨Nat.zero_le _, Nat.zero_le _⟩
  clear hc0 hs0
  refine lv_aload_n hx hb dX6_init_0 rfl (lv_at hl 0 rfl) ?_
  refine lv_aload_n hx hb dX6_init_1 rfl (lv_at hl 1 rfl) ?_
  obtain ⟨f1, hf1, hf⟩ := dz_bo hf
  obtain ⟨ha_f1, he_f1, hk_f1⟩ := zwo_o hf1
  refine zq_putF (C := RX11) (T := TX11) (N := 8) hx hb hts in_X11 tyX11 tyX11_ok nmX11 hown hX.K hH.2.2 zw_D hS _ (zw_o ha_f1 he_f1) rfl 6 (by decide) (hts _ q566) (fun _ hq => hq) rfl hin rfl rfl rfl rfl hk_f1 dX6_init_2 (fun H1 locs hP1 _ hS => dz_size (fun hz => ?_))
  obtain ⟨s2, e_s2, hf⟩ := dz_lo hf
  have hH := zH_put (x := .inr (8, f1.set 6 (.ref a0))) hH hcs ha_f1 hP1 hz
  rw [← e_s2] at hH
  have hcs : s.heap.size + cells = s2.1 := by rw [e_s2]; exact hcs
  have hss : sl0 + slots = s2.2.1 := by rw [e_s2]; exact hss
  clear hP1 hz; generalize H1 = H at hH hS ⊢
  refine lv_aload_n hx hb dX6_init_5 rfl (lv_at hl 0 rfl) ?_
  refine W.objInit hx hb hown (hts _ q507) (hts _ q125) (hts _ q126) rfl (by rw [hml]; exact hl.1) rfl dX6_init_6 (Nat.le_of_ble_eq_true rfl) (Nat.le_of_ble_eq_true rfl) ?_
  refine W.eq (g2 := F0 m 9 ls []) rfl ?_
  refine lv_aload_n hx hb dX6_init_9 rfl (lv_at hl 0 rfl) ?_
  obtain ⟨r3, e_r3, hf⟩ := dz_lo hf
  obtain ⟨s4, e_s4, hf⟩ := dz_lo hf
  obtain ⟨hck, hf⟩ := zck_o hf
  have hc1 : cells + 1 ≤ M := by have hq := hck.1; rw [e_s4] at hq; have hq : s2.1 + 1 ≤ res.2.1 := hq; omega
  have hs1 : slots + 2 ≤ S := by have hq := hck.2; rw [e_s4] at hq; have hq : s2.2.1 + 2 ≤ res.2.2.1 := hq; omega
  refine va_new (ci := 10) (fs := [.null, .int 0]) (C := RX8) (T := TX8) (N := 2) hx hb hts in_X8 tyX8 tyX8_ok hown (hts _ q508) (hts _ q509) (hts _ q98) hX.K hH.2.2 zw_D hS hX.hA rfl zdf_X8 hc1 hs1 dX6_init_10 (fun q H1 hP1 hD1 hS => dz_size (fun hz => ?_))
  obtain ⟨hq, hH⟩ := zH_new (n := 2) (x := (.inr (10, [.null, .int 0]))) hH hcs hP1 hD1 hz
  rw [← e_s4] at hH; obtain rfl : r3 = q := e_r3.trans hq.symm
  have hcs : s.heap.size + (cells + 1) = s4.1 := by rw [e_s4]; show _ = s2.1 + 1; omega
  have hss : sl0 + (slots + 2) = s4.2.1 := by rw [e_s4]; show _ = s2.2.1 + 2; omega
  replace hcM := And.intro hc1 hs1
  generalize cells + 1 = cells at hcs hcM ⊢; generalize slots + 2 = slots at hss hcM ⊢
  clear hP1 hD1 hz hq hck hc1 hs1; generalize H1 = H at hH hS ⊢
  refine lv_dup hx hb dX6_init_13 rfl ?_
  obtain ⟨x5, s6, hx5, hle, hck, hf⟩ := zcl_o hf
  have hc1 : cells + (s6.1 - s4.1) ≤ M := by omega
  have hs1 : slots + (s6.2.1 - s4.2.1) ≤ S := by omega
  refine va_callv (va_runIN (As := []) (rest := [.ref r3, .ref h]) ⟨hx, hb, hml, hown, hts⟩ (mtX8_init l D cA ζ s4 r3 K (x5, s6) hx5 (s6.1 - s4.1) (s6.2.1 - s4.2.1) (Nat.add_sub_cancel' hle.1) (Nat.add_sub_cancel' hle.2)) ⟨va_cnB 0 hts (lw_meth q512) rfl rfl rfl (hX.N q510 rfl) (hts _ q98) (by decide +kernel) ⟨Nat.le_of_ble_eq_true rfl, Nat.le_of_ble_eq_true rfl⟩, rfl, hts _ q511⟩ (z_preS hX hS hH) rfl rfl hl.1 rfl (lv_room (Nat.le_of_ble_eq_true rfl)) dX6_init_14 ⟨hc1, hs1⟩) hS (fun q _ hq => hq) (fun q hq => hq) (fun u t H1 locs ht hvm hw hB hz hk hS => ?_)
  obtain ⟨-, hw2⟩ := Prod.mk.inj hw.symm; subst hw2
  have hH : zH D cA ζ s6 H1 := z_at ht.symm hB
  have hcs : s.heap.size + (cells + (s6.1 - s4.1)) = s6.1 := by omega
  have hss : sl0 + (slots + (s6.2.1 - s4.2.1)) = s6.2.1 := by omega
  replace hcM := And.intro hc1 hs1
  generalize cells + (s6.1 - s4.1) = cells at hcs hcM ⊢; generalize slots + (s6.2.1 - s4.2.1) = slots at hss hcM ⊢
  clear hB hk hz hvm ht hle hck hc1 hs1; generalize H1 = H at hH hS ⊢
  obtain ⟨f7, hf7, hf⟩ := dz_bo hf
  obtain ⟨ha_f7, he_f7, hk_f7⟩ := zwo_o hf7
  refine zq_putF (C := RX11) (T := TX11) (N := 8) hx hb hts in_X11 tyX11 tyX11_ok nmX11 hown hX.K hH.2.2 zw_D hS _ (zw_o ha_f7 he_f7) rfl 4 (by decide) (hts _ q550) (fun _ hq => hq) rfl hin rfl rfl rfl rfl hk_f7 dX6_init_17 (fun H1 locs hP1 _ hS => dz_size (fun hz => ?_))
  obtain ⟨s8, e_s8, hf⟩ := dz_lo hf
  have hH := zH_put (x := .inr (8, f7.set 4 (.ref r3))) hH hcs ha_f7 hP1 hz
  rw [← e_s8] at hH
  have hcs : s.heap.size + cells = s8.1 := by rw [e_s8]; exact hcs
  have hss : sl0 + slots = s8.2.1 := by rw [e_s8]; exact hss
  clear hP1 hz; generalize H1 = H at hH hS ⊢
  refine lv_aload_n hx hb dX6_init_20 rfl (lv_at hl 0 rfl) ?_
  obtain ⟨r9, e_r9, hf⟩ := dz_lo hf
  obtain ⟨s10, e_s10, hf⟩ := dz_lo hf
  obtain ⟨hck, hf⟩ := zck_o hf
  have hc1 : cells + 1 ≤ M := by have hq := hck.1; rw [e_s10] at hq; have hq : s8.1 + 1 ≤ res.2.1 := hq; omega
  have hs1 : slots + 2 ≤ S := by have hq := hck.2; rw [e_s10] at hq; have hq : s8.2.1 + 2 ≤ res.2.2.1 := hq; omega
  refine va_new (ci := 10) (fs := [.null, .int 0]) (C := RX8) (T := TX8) (N := 2) hx hb hts in_X8 tyX8 tyX8_ok hown (hts _ q508) (hts _ q509) (hts _ q98) hX.K hH.2.2 zw_D hS hX.hA rfl zdf_X8 hc1 hs1 dX6_init_21 (fun q H1 hP1 hD1 hS => dz_size (fun hz => ?_))
  obtain ⟨hq, hH⟩ := zH_new (n := 2) (x := (.inr (10, [.null, .int 0]))) hH hcs hP1 hD1 hz
  rw [← e_s10] at hH; obtain rfl : r9 = q := e_r9.trans hq.symm
  have hcs : s.heap.size + (cells + 1) = s10.1 := by rw [e_s10]; show _ = s8.1 + 1; omega
  have hss : sl0 + (slots + 2) = s10.2.1 := by rw [e_s10]; show _ = s8.2.1 + 2; omega
  replace hcM := And.intro hc1 hs1
  generalize cells + 1 = cells at hcs hcM ⊢; generalize slots + 2 = slots at hss hcM ⊢
  clear hP1 hD1 hz hq hck hc1 hs1; generalize H1 = H at hH hS ⊢
  refine lv_dup hx hb dX6_init_24 rfl ?_
  obtain ⟨x11, s12, hx11, hle, hck, hf⟩ := zcl_o hf
  have hc1 : cells + (s12.1 - s10.1) ≤ M := by omega
  have hs1 : slots + (s12.2.1 - s10.2.1) ≤ S := by omega
  refine va_callv (va_runIN (As := []) (rest := [.ref r9, .ref h]) ⟨hx, hb, hml, hown, hts⟩ (mtX8_init l D cA ζ s10 r9 K (x11, s12) hx11 (s12.1 - s10.1) (s12.2.1 - s10.2.1) (Nat.add_sub_cancel' hle.1) (Nat.add_sub_cancel' hle.2)) ⟨va_cnB 0 hts (lw_meth q512) rfl rfl rfl (hX.N q510 rfl) (hts _ q98) (by decide +kernel) ⟨Nat.le_of_ble_eq_true rfl, Nat.le_of_ble_eq_true rfl⟩, rfl, hts _ q511⟩ (z_preS hX hS hH) rfl rfl hl.1 rfl (lv_room (Nat.le_of_ble_eq_true rfl)) dX6_init_25 ⟨hc1, hs1⟩) hS (fun q _ hq => hq) (fun q hq => hq) (fun u t H1 locs ht hvm hw hB hz hk hS => ?_)
  obtain ⟨-, hw2⟩ := Prod.mk.inj hw.symm; subst hw2
  have hH : zH D cA ζ s12 H1 := z_at ht.symm hB
  have hcs : s.heap.size + (cells + (s12.1 - s10.1)) = s12.1 := by omega
  have hss : sl0 + (slots + (s12.2.1 - s10.2.1)) = s12.2.1 := by omega
  replace hcM := And.intro hc1 hs1
  generalize cells + (s12.1 - s10.1) = cells at hcs hcM ⊢; generalize slots + (s12.2.1 - s10.2.1) = slots at hss hcM ⊢
  clear hB hk hz hvm ht hle hck hc1 hs1; generalize H1 = H at hH hS ⊢
  obtain ⟨f13, hf13, hf⟩ := dz_bo hf
  obtain ⟨ha_f13, he_f13, hk_f13⟩ := zwo_o hf13
  refine zq_putF (C := RX11) (T := TX11) (N := 8) hx hb hts in_X11 tyX11 tyX11_ok nmX11 hown hX.K hH.2.2 zw_D hS _ (zw_o ha_f13 he_f13) rfl 5 (by decide) (hts _ q559) (fun _ hq => hq) rfl hin rfl rfl rfl rfl hk_f13 dX6_init_28 (fun H1 locs hP1 _ hS => dz_size (fun hz => ?_))
  obtain ⟨s14, e_s14, hf⟩ := dz_lo hf
  have hH := zH_put (x := .inr (8, f13.set 5 (.ref r9))) hH hcs ha_f13 hP1 hz
  rw [← e_s14] at hH
  have hcs : s.heap.size + cells = s14.1 := by rw [e_s14]; exact hcs
  have hss : sl0 + slots = s14.2.1 := by rw [e_s14]; exact hss
  clear hP1 hz; generalize H1 = H at hH hS ⊢
  refine lv_aload_n hx hb dX6_init_31 rfl (lv_at hl 0 rfl) ?_
  refine lv_lload_n hx hb dX6_init_32 rfl (lv_at hl 2 rfl) ?_
  obtain ⟨f15, hf15, hf⟩ := dz_bo hf
  obtain ⟨ha_f15, he_f15, hk_f15⟩ := zwo_o hf15
  refine zq_put (C := RX11) (T := TX11) (N := 8) hx hb hts in_X11 tyX11 tyX11_ok nmX11 hown hX.K hH.2.2 zw_D hS _ (zw_o ha_f15 he_f15) rfl 0 (by decide) (hts _ q532) (fun _ hq => hq) rfl rfl rfl rfl hk_f15 dX6_init_33 (fun H1 locs hP1 _ hS => dz_size (fun hz => ?_))
  obtain ⟨s16, e_s16, hf⟩ := dz_lo hf
  have hH := zH_put (x := .inr (8, f15.set 0 (.long a1))) hH hcs ha_f15 hP1 hz
  rw [← e_s16] at hH
  have hcs : s.heap.size + cells = s16.1 := by rw [e_s16]; exact hcs
  have hss : sl0 + slots = s16.2.1 := by rw [e_s16]; exact hss
  clear hP1 hz; generalize H1 = H at hH hS ⊢
  refine lv_aload_n hx hb dX6_init_36 rfl (lv_at hl 0 rfl) ?_
  refine lv_iload hx hb dX6_init_37 (lv_at hl 3 rfl) ?_
  obtain ⟨f17, hf17, hf⟩ := dz_bo hf
  obtain ⟨ha_f17, he_f17, hk_f17⟩ := zwo_o hf17
  refine zq_putF (C := RX11) (T := TX11) (N := 8) hx hb hts in_X11 tyX11 tyX11_ok nmX11 hown hX.K hH.2.2 zw_D hS _ (zw_o ha_f17 he_f17) rfl 1 (by decide) (hts _ q542) (fun _ hq => hq) rfl hin rfl rfl rfl rfl hk_f17 dX6_init_39 (fun H1 locs hP1 _ hS => dz_size (fun hz => ?_))
  obtain ⟨s18, e_s18, hf⟩ := dz_lo hf
  have hH := zH_put (x := .inr (8, f17.set 1 (.int a2))) hH hcs ha_f17 hP1 hz
  rw [← e_s18] at hH
  have hcs : s.heap.size + cells = s18.1 := by rw [e_s18]; exact hcs
  have hss : sl0 + slots = s18.2.1 := by rw [e_s18]; exact hss
  clear hP1 hz; generalize H1 = H at hH hS ⊢
  obtain ⟨hM1, hS1⟩ : cells = M ∧ slots = S := by have hq := congrArg Prod.snd (Option.some.inj hf); rw [← hq] at hM hS0; have hM : s.heap.size + M = s18.1 := hM; have hS0 : sl0 + S = s18.2.1 := hS0; omega
  refine W.widen (k := M) (n := S) (Nat.le_of_eq hM1) (Nat.le_of_eq hS1) ?_
  exact W.vret hx hb hr (fun t ht hW => ⟨⟨s18, rfl, Option.some.inj hf, z_at ht hH⟩, hS.F ht⟩) hS.2.2 dX6_init_42

noncomputable def fnX11_init (K : Nat) (ζ : pZ) (h : Nat) (a0 : Nat) (a1 : Int64) (τ : pH) : Option (Unit × pH) := dz_b (zwo ζ τ h 8 7) fun f1 => dz_l (zst τ h (.inr (8, f1.set 7 (.ref a0)))) fun s2 => zcl s2 (fnX6_init_8 K ζ h a0 a1 3 s2) fun _ s4 => some ((), s4)
set_option maxHeartbeats 4000000 in
set_option maxRecDepth 100000 in
theorem mtX11_init (l : Launch) (D : va_G) (cA : Nat → ClassId) (ζ : pZ) (τ : pH) (h : Nat) (a0 : Nat) (a1 : Int64) (K : Nat) (res : (Unit × pH)) (hf : fnX11_init K ζ h a0 a1 τ = some res) (M S : Nat) (hM : τ.1 + M = res.2.1) (hS0 : τ.2.1 + S = res.2.2.1) : Met l yX11_init (ws_ yX11_init cX11_init 4 (none)) ({ frames := 3, cells := M, slots := S, locals := 64 }) (zPc D cA ζ τ [.ref h, .ref a0, .long a1]) (zQv D cA ζ res) M S (zA ζ) := by
  refine Met.ofW (cc := cX11_init) (maxL := 4) (ret := none) (by decide +kernel) rfl ?_
  intro p e s m args below meth c s₁ B hml hv
  obtain ⟨rfl, hX, hH⟩ := hv
  have hx := B.exec
  have hb := B.bytes
  have hr := B.returns
  have hts := atoms_spec (ws := ws_ yX11_init cX11_init 4 (none)) B.pre
  have hts : ∀ w ∈ lw_all, w.before _ s = true := fun w h => hts w (List.mem_cons_of_mem _ h)
  have hown : s.vm.findClass RX11 = some m.cls := findClass_of_methodNamed B.named
  have hlocks := B.notSynchronized
  have hin : meth.name = "<init>" := (name_of_methodNamed B.named B.method).1
  have hM : s.heap.size + M = res.2.1 := by rw [hH.1]; exact hM
  have hcs : s.heap.size + 0 = τ.1 := hH.1
  have hss : τ.2.1 + 0 = τ.2.1 := rfl
  generalize hsl0 : τ.2.1 = sl0 at hS0 hss
  have hss : sl0 + 0 = τ.2.1 := by rw [hsl0]; rfl
  have hS : va_S (zA ζ) s.heap s.heap [] := va_S.rf
  generalize hHe : s.heap = H at hH hS ⊢
  have hS : va_S (zA ζ) s.heap H [] := by rw [hHe]; exact hS
  generalize ([] : List Loc) = locs at hS ⊢
  have hl := lv_entry ([.ref h, .ref a0, .long a1]) (n := 4) (Nat.le_of_ble_eq_true rfl)
  rw [lg_entry_eq]
  generalize (lg_sl ([.ref h, .ref a0, .long a1]) ++ List.replicate (4 - (lg_sl ([.ref h, .ref a0, .long a1])).length) Slot.unset).toArray = ls at hl ⊢
  have hl : lv_has ls 4 [(0, .ref h), (1, .ref a0), (2, .long a1)] := hl
  have hf : (dz_b (zwo ζ τ h 8 7) fun f1 => dz_l (zst τ h (.inr (8, f1.set 7 (.ref a0)))) fun s2 => zcl s2 (fnX6_init_8 K ζ h a0 a1 3 s2) fun _ s4 => some ((), s4) : Option (Unit × pH)) = some res := hf
  refine z_gen (fun cells slots hc0 hs0 => ?_)
  have hcs : s.heap.size + cells = τ.1 := by rw [hc0]; exact hcs
  have hss : sl0 + slots = τ.2.1 := by rw [hs0]; exact hss
  have hcM : cells ≤ M ∧ slots ≤ S := by rw [hc0, hs0]; exact ⟨Nat.zero_le _, Nat.zero_le _⟩
  clear hc0 hs0
  refine lv_aload_n hx hb dX11_init_0 rfl (lv_at hl 0 rfl) ?_
  refine lv_aload_n hx hb dX11_init_1 rfl (lv_at hl 1 rfl) ?_
  obtain ⟨f1, hf1, hf⟩ := dz_bo hf
  obtain ⟨ha_f1, he_f1, hk_f1⟩ := zwo_o hf1
  refine zq_putF (C := RX11) (T := TX11) (N := 8) hx hb hts in_X11 tyX11 tyX11_ok nmX11 hown hX.K hH.2.2 zw_D hS _ (zw_o ha_f1 he_f1) rfl 7 (by decide) (hts _ q624) (fun _ hq => hq) rfl hin rfl rfl rfl rfl hk_f1 dX11_init_2 (fun H1 locs hP1 _ hS => dz_size (fun hz => ?_))
  obtain ⟨s2, e_s2, hf⟩ := dz_lo hf
  have hH := zH_put (x := .inr (8, f1.set 7 (.ref a0))) hH hcs ha_f1 hP1 hz
  rw [← e_s2] at hH
  have hcs : s.heap.size + cells = s2.1 := by rw [e_s2]; exact hcs
  have hss : sl0 + slots = s2.2.1 := by rw [e_s2]; exact hss
  clear hP1 hz; generalize H1 = H at hH hS ⊢
  refine lv_aload_n hx hb dX11_init_5 rfl (lv_at hl 0 rfl) ?_
  refine lv_aload_n hx hb dX11_init_6 rfl (lv_at hl 1 rfl) ?_
  refine lv_lload_n hx hb dX11_init_7 rfl (lv_at hl 2 rfl) ?_
  refine lv_iconst (v := 3) hx hb dX11_init_8 (by decide) ?_
  obtain ⟨x3, s4, hx3, hle, hck, hf⟩ := zcl_o hf
  have hc1 : cells + (s4.1 - s2.1) ≤ M := by omega
  have hs1 : slots + (s4.2.1 - s2.2.1) ≤ S := by omega
  refine va_callv (va_runI (As := [.ref a0, .long a1, .int 3]) (rest := []) ⟨hx, hb, hml, hown, hts⟩ (mtX6_init_8 l D cA ζ s2 h a0 a1 3 K (x3, s4) hx3 (s4.1 - s2.1) (s4.2.1 - s2.2.1) (Nat.add_sub_cancel' hle.1) (Nat.add_sub_cancel' hle.2)) (cwI 3 hts (lw_meth q506) rfl rfl rfl (hts _ q96) (hts _ q623) (hts _ q505) rfl (by decide +kernel) ⟨Nat.le_of_ble_eq_true rfl, Nat.le_of_ble_eq_true rfl⟩) (z_preS hX hS hH) rfl rfl hl.1 rfl (lv_room (Nat.le_of_ble_eq_true rfl)) dX11_init_9 ⟨hc1, hs1⟩) hS (fun q _ hq => hq) (fun q hq => hq) (fun u t H1 locs ht hvm hw hB hz hk hS => ?_)
  obtain ⟨-, hw2⟩ := Prod.mk.inj hw.symm; subst hw2
  have hH : zH D cA ζ s4 H1 := z_at ht.symm hB
  have hcs : s.heap.size + (cells + (s4.1 - s2.1)) = s4.1 := by omega
  have hss : sl0 + (slots + (s4.2.1 - s2.2.1)) = s4.2.1 := by omega
  replace hcM := And.intro hc1 hs1
  generalize cells + (s4.1 - s2.1) = cells at hcs hcM ⊢; generalize slots + (s4.2.1 - s2.2.1) = slots at hss hcM ⊢
  clear hB hk hz hvm ht hle hck hc1 hs1; generalize H1 = H at hH hS ⊢
  obtain ⟨hM1, hS1⟩ : cells = M ∧ slots = S := by have hq := congrArg Prod.snd (Option.some.inj hf); rw [← hq] at hM hS0; have hM : s.heap.size + M = s4.1 := hM; have hS0 : sl0 + S = s4.2.1 := hS0; omega
  refine W.widen (k := M) (n := S) (Nat.le_of_eq hM1) (Nat.le_of_eq hS1) ?_
  exact W.vret hx hb hr (fun t ht hW => ⟨⟨s4, rfl, Option.some.inj hf, z_at ht hH⟩, hS.F ht⟩) hS.2.2 dX11_init_12

noncomputable def fnX6_init_9 (K : Nat) (ζ : pZ) (h : Nat) (a0 : Nat) (a1 : Int64) (a2 : Int32) (τ : pH) : Option (Unit × pH) := dz_b (zwo ζ τ h 9 6) fun f1 => dz_l (zst τ h (.inr (9, f1.set 6 (.ref a0)))) fun s2 => dz_l s2.1 fun r3 => dz_l (znw s2 2 (.inr (10, [.null, .int 0]))) fun s4 => zck s4 (zcl s4 (fnX8_init K ζ r3 s4) fun _ s6 => dz_b (zwo ζ s6 h 9 4) fun f7 => dz_l (zst s6 h (.inr (9, f7.set 4 (.ref r3)))) fun s8 => dz_l s8.1 fun r9 => dz_l (znw s8 2 (.inr (10, [.null, .int 0]))) fun s10 => zck s10 (zcl s10 (fnX8_init K ζ r9 s10) fun _ s12 => dz_b (zwo ζ s12 h 9 5) fun f13 => dz_l (zst s12 h (.inr (9, f13.set 5 (.ref r9)))) fun s14 => dz_b (zwo ζ s14 h 9 0) fun f15 => dz_l (zst s14 h (.inr (9, f15.set 0 (.long a1)))) fun s16 => dz_b (zwo ζ s16 h 9 1) fun f17 => dz_l (zst s16 h (.inr (9, f17.set 1 (.int a2)))) fun s18 => some ((), s18)))
set_option maxHeartbeats 4000000 in
set_option maxRecDepth 100000 in
theorem mtX6_init_9 (l : Launch) (D : va_G) (cA : Nat → ClassId) (ζ : pZ) (τ : pH) (h : Nat) (a0 : Nat) (a1 : Int64) (a2 : Int32) (K : Nat) (res : (Unit × pH)) (hf : fnX6_init_9 K ζ h a0 a1 a2 τ = some res) (M S : Nat) (hM : τ.1 + M = res.2.1) (hS0 : τ.2.1 + S = res.2.2.1) : Met l yX6_init (ws_ yX6_init cX6_init 5 (none)) ({ frames := 2, cells := M, slots := S, locals := 40 }) (zPc D cA ζ τ [.ref h, .ref a0, .long a1, .int a2]) (zQv D cA ζ res) M S (zA ζ) := by
  refine Met.ofW (cc := cX6_init) (maxL := 5) (ret := none) (by decide +kernel) rfl ?_
  intro p e s m args below meth c s₁ B hml hv
  obtain ⟨rfl, hX, hH⟩ := hv
  have hx := B.exec
  have hb := B.bytes
  have hr := B.returns
  have hts := atoms_spec (ws := ws_ yX6_init cX6_init 5 (none)) B.pre
  have hts : ∀ w ∈ lw_all, w.before _ s = true := fun w h => hts w (List.mem_cons_of_mem _ h)
  have hown : s.vm.findClass RX6 = some m.cls := findClass_of_methodNamed B.named
  have hlocks := B.notSynchronized
  have hin : meth.name = "<init>" := (name_of_methodNamed B.named B.method).1
  have hM : s.heap.size + M = res.2.1 := by rw [hH.1]; exact hM
  have hcs : s.heap.size + 0 = τ.1 := hH.1
  have hss : τ.2.1 + 0 = τ.2.1 := rfl
  generalize hsl0 : τ.2.1 = sl0 at hS0 hss
  have hss : sl0 + 0 = τ.2.1 := by rw [hsl0]; rfl
  have hS : va_S (zA ζ) s.heap s.heap [] := va_S.rf
  generalize hHe : s.heap = H at hH hS ⊢
  have hS : va_S (zA ζ) s.heap H [] := by rw [hHe]; exact hS
  generalize ([] : List Loc) = locs at hS ⊢
  have hl := lv_entry ([.ref h, .ref a0, .long a1, .int a2]) (n := 5) (Nat.le_of_ble_eq_true rfl)
  rw [lg_entry_eq]
  generalize (lg_sl ([.ref h, .ref a0, .long a1, .int a2]) ++ List.replicate (5 - (lg_sl ([.ref h, .ref a0, .long a1, .int a2])).length) Slot.unset).toArray = ls at hl ⊢
  have hl : lv_has ls 5 [(0, .ref h), (1, .ref a0), (2, .long a1), (4, .int a2)] := hl
  have hf : (dz_b (zwo ζ τ h 9 6) fun f1 => dz_l (zst τ h (.inr (9, f1.set 6 (.ref a0)))) fun s2 => dz_l s2.1 fun r3 => dz_l (znw s2 2 (.inr (10, [.null, .int 0]))) fun s4 => zck s4 (zcl s4 (fnX8_init K ζ r3 s4) fun _ s6 => dz_b (zwo ζ s6 h 9 4) fun f7 => dz_l (zst s6 h (.inr (9, f7.set 4 (.ref r3)))) fun s8 => dz_l s8.1 fun r9 => dz_l (znw s8 2 (.inr (10, [.null, .int 0]))) fun s10 => zck s10 (zcl s10 (fnX8_init K ζ r9 s10) fun _ s12 => dz_b (zwo ζ s12 h 9 5) fun f13 => dz_l (zst s12 h (.inr (9, f13.set 5 (.ref r9)))) fun s14 => dz_b (zwo ζ s14 h 9 0) fun f15 => dz_l (zst s14 h (.inr (9, f15.set 0 (.long a1)))) fun s16 => dz_b (zwo ζ s16 h 9 1) fun f17 => dz_l (zst s16 h (.inr (9, f17.set 1 (.int a2)))) fun s18 => some ((), s18))) : Option (Unit × pH)) = some res := hf
  refine z_gen (fun cells slots hc0 hs0 => ?_)
  have hcs : s.heap.size + cells = τ.1 := by rw [hc0]; exact hcs
  have hss : sl0 + slots = τ.2.1 := by rw [hs0]; exact hss
  have hcM : cells ≤ M ∧ slots ≤ S := by rw [hc0, hs0]; exact ⟨Nat.zero_le _, Nat.zero_le _⟩
  clear hc0 hs0
  refine lv_aload_n hx hb dX6_init_0 rfl (lv_at hl 0 rfl) ?_
  refine lv_aload_n hx hb dX6_init_1 rfl (lv_at hl 1 rfl) ?_
  obtain ⟨f1, hf1, hf⟩ := dz_bo hf
  obtain ⟨ha_f1, he_f1, hk_f1⟩ := zwo_o hf1
  refine zq_putF (C := RX12) (T := TX12) (N := 8) hx hb hts in_X12 tyX12 tyX12_ok nmX12 hown hX.K hH.2.2 zw_D hS _ (zw_o ha_f1 he_f1) rfl 6 (by decide) (hts _ q566) (fun _ hq => hq) rfl hin rfl rfl rfl rfl hk_f1 dX6_init_2 (fun H1 locs hP1 _ hS => dz_size (fun hz => ?_))
  obtain ⟨s2, e_s2, hf⟩ := dz_lo hf
  have hH := zH_put (x := .inr (9, f1.set 6 (.ref a0))) hH hcs ha_f1 hP1 hz
  rw [← e_s2] at hH
  have hcs : s.heap.size + cells = s2.1 := by rw [e_s2]; exact hcs
  have hss : sl0 + slots = s2.2.1 := by rw [e_s2]; exact hss
  clear hP1 hz; generalize H1 = H at hH hS ⊢
  refine lv_aload_n hx hb dX6_init_5 rfl (lv_at hl 0 rfl) ?_
  refine W.objInit hx hb hown (hts _ q507) (hts _ q125) (hts _ q126) rfl (by rw [hml]; exact hl.1) rfl dX6_init_6 (Nat.le_of_ble_eq_true rfl) (Nat.le_of_ble_eq_true rfl) ?_
  refine W.eq (g2 := F0 m 9 ls []) rfl ?_
  refine lv_aload_n hx hb dX6_init_9 rfl (lv_at hl 0 rfl) ?_
  obtain ⟨r3, e_r3, hf⟩ := dz_lo hf
  obtain ⟨s4, e_s4, hf⟩ := dz_lo hf
  obtain ⟨hck, hf⟩ := zck_o hf
  have hc1 : cells + 1 ≤ M := by have hq := hck.1; rw [e_s4] at hq; have hq : s2.1 + 1 ≤ res.2.1 := hq; omega
  have hs1 : slots + 2 ≤ S := by have hq := hck.2; rw [e_s4] at hq; have hq : s2.2.1 + 2 ≤ res.2.2.1 := hq; omega
  refine va_new (ci := 10) (fs := [.null, .int 0]) (C := RX8) (T := TX8) (N := 2) hx hb hts in_X8 tyX8 tyX8_ok hown (hts _ q508) (hts _ q509) (hts _ q98) hX.K hH.2.2 zw_D hS hX.hA rfl zdf_X8 hc1 hs1 dX6_init_10 (fun q H1 hP1 hD1 hS => dz_size (fun hz => ?_))
  obtain ⟨hq, hH⟩ := zH_new (n := 2) (x := (.inr (10, [.null, .int 0]))) hH hcs hP1 hD1 hz
  rw [← e_s4] at hH; obtain rfl : r3 = q := e_r3.trans hq.symm
  have hcs : s.heap.size + (cells + 1) = s4.1 := by rw [e_s4]; show _ = s2.1 + 1; omega
  have hss : sl0 + (slots + 2) = s4.2.1 := by rw [e_s4]; show _ = s2.2.1 + 2; omega
  replace hcM := And.intro hc1 hs1
  generalize cells + 1 = cells at hcs hcM ⊢; generalize slots + 2 = slots at hss hcM ⊢
  clear hP1 hD1 hz hq hck hc1 hs1; generalize H1 = H at hH hS ⊢
  refine lv_dup hx hb dX6_init_13 rfl ?_
  obtain ⟨x5, s6, hx5, hle, hck, hf⟩ := zcl_o hf
  have hc1 : cells + (s6.1 - s4.1) ≤ M := by omega
  have hs1 : slots + (s6.2.1 - s4.2.1) ≤ S := by omega
  refine va_callv (va_runIN (As := []) (rest := [.ref r3, .ref h]) ⟨hx, hb, hml, hown, hts⟩ (mtX8_init l D cA ζ s4 r3 K (x5, s6) hx5 (s6.1 - s4.1) (s6.2.1 - s4.2.1) (Nat.add_sub_cancel' hle.1) (Nat.add_sub_cancel' hle.2)) ⟨va_cnB 0 hts (lw_meth q512) rfl rfl rfl (hX.N q510 rfl) (hts _ q98) (by decide +kernel) ⟨Nat.le_of_ble_eq_true rfl, Nat.le_of_ble_eq_true rfl⟩, rfl, hts _ q511⟩ (z_preS hX hS hH) rfl rfl hl.1 rfl (lv_room (Nat.le_of_ble_eq_true rfl)) dX6_init_14 ⟨hc1, hs1⟩) hS (fun q _ hq => hq) (fun q hq => hq) (fun u t H1 locs ht hvm hw hB hz hk hS => ?_)
  obtain ⟨-, hw2⟩ := Prod.mk.inj hw.symm; subst hw2
  have hH : zH D cA ζ s6 H1 := z_at ht.symm hB
  have hcs : s.heap.size + (cells + (s6.1 - s4.1)) = s6.1 := by omega
  have hss : sl0 + (slots + (s6.2.1 - s4.2.1)) = s6.2.1 := by omega
  replace hcM := And.intro hc1 hs1
  generalize cells + (s6.1 - s4.1) = cells at hcs hcM ⊢; generalize slots + (s6.2.1 - s4.2.1) = slots at hss hcM ⊢
  clear hB hk hz hvm ht hle hck hc1 hs1; generalize H1 = H at hH hS ⊢
  obtain ⟨f7, hf7, hf⟩ := dz_bo hf
  obtain ⟨ha_f7, he_f7, hk_f7⟩ := zwo_o hf7
  refine zq_putF (C := RX12) (T := TX12) (N := 8) hx hb hts in_X12 tyX12 tyX12_ok nmX12 hown hX.K hH.2.2 zw_D hS _ (zw_o ha_f7 he_f7) rfl 4 (by decide) (hts _ q550) (fun _ hq => hq) rfl hin rfl rfl rfl rfl hk_f7 dX6_init_17 (fun H1 locs hP1 _ hS => dz_size (fun hz => ?_))
  obtain ⟨s8, e_s8, hf⟩ := dz_lo hf
  have hH := zH_put (x := .inr (9, f7.set 4 (.ref r3))) hH hcs ha_f7 hP1 hz
  rw [← e_s8] at hH
  have hcs : s.heap.size + cells = s8.1 := by rw [e_s8]; exact hcs
  have hss : sl0 + slots = s8.2.1 := by rw [e_s8]; exact hss
  clear hP1 hz; generalize H1 = H at hH hS ⊢
  refine lv_aload_n hx hb dX6_init_20 rfl (lv_at hl 0 rfl) ?_
  obtain ⟨r9, e_r9, hf⟩ := dz_lo hf
  obtain ⟨s10, e_s10, hf⟩ := dz_lo hf
  obtain ⟨hck, hf⟩ := zck_o hf
  have hc1 : cells + 1 ≤ M := by have hq := hck.1; rw [e_s10] at hq; have hq : s8.1 + 1 ≤ res.2.1 := hq; omega
  have hs1 : slots + 2 ≤ S := by have hq := hck.2; rw [e_s10] at hq; have hq : s8.2.1 + 2 ≤ res.2.2.1 := hq; omega
  refine va_new (ci := 10) (fs := [.null, .int 0]) (C := RX8) (T := TX8) (N := 2) hx hb hts in_X8 tyX8 tyX8_ok hown (hts _ q508) (hts _ q509) (hts _ q98) hX.K hH.2.2 zw_D hS hX.hA rfl zdf_X8 hc1 hs1 dX6_init_21 (fun q H1 hP1 hD1 hS => dz_size (fun hz => ?_))
  obtain ⟨hq, hH⟩ := zH_new (n := 2) (x := (.inr (10, [.null, .int 0]))) hH hcs hP1 hD1 hz
  rw [← e_s10] at hH; obtain rfl : r9 = q := e_r9.trans hq.symm
  have hcs : s.heap.size + (cells + 1) = s10.1 := by rw [e_s10]; show _ = s8.1 + 1; omega
  have hss : sl0 + (slots + 2) = s10.2.1 := by rw [e_s10]; show _ = s8.2.1 + 2; omega
  replace hcM := And.intro hc1 hs1
  generalize cells + 1 = cells at hcs hcM ⊢; generalize slots + 2 = slots at hss hcM ⊢
  clear hP1 hD1 hz hq hck hc1 hs1; generalize H1 = H at hH hS ⊢
  refine lv_dup hx hb dX6_init_24 rfl ?_
  obtain ⟨x11, s12, hx11, hle, hck, hf⟩ := zcl_o hf
  have hc1 : cells + (s12.1 - s10.1) ≤ M := by omega
  have hs1 : slots + (s12.2.1 - s10.2.1) ≤ S := by omega
  refine va_callv (va_runIN (As := []) (rest := [.ref r9, .ref h]) ⟨hx, hb, hml, hown, hts⟩ (mtX8_init l D cA ζ s10 r9 K (x11, s12) hx11 (s12.1 - s10.1) (s12.2.1 - s10.2.1) (Nat.add_sub_cancel' hle.1) (Nat.add_sub_cancel' hle.2)) ⟨va_cnB 0 hts (lw_meth q512) rfl rfl rfl (hX.N q510 rfl) (hts _ q98) (by decide +kernel) ⟨Nat.le_of_ble_eq_true rfl, Nat.le_of_ble_eq_true rfl⟩, rfl, hts _ q511⟩ (z_preS hX hS hH) rfl rfl hl.1 rfl (lv_room (Nat.le_of_ble_eq_true rfl)) dX6_init_25 ⟨hc1, hs1⟩) hS (fun q _ hq => hq) (fun q hq => hq) (fun u t H1 locs ht hvm hw hB hz hk hS => ?_)
  obtain ⟨-, hw2⟩ := Prod.mk.inj hw.symm; subst hw2
  have hH : zH D cA ζ s12 H1 := z_at ht.symm hB
  have hcs : s.heap.size + (cells + (s12.1 - s10.1)) = s12.1 := by omega
  have hss : sl0 + (slots + (s12.2.1 - s10.2.1)) = s12.2.1 := by omega
  replace hcM := And.intro hc1 hs1
  generalize cells + (s12.1 - s10.1) = cells at hcs hcM ⊢; generalize slots + (s12.2.1 - s10.2.1) = slots at hss hcM ⊢
  clear hB hk hz hvm ht hle hck hc1 hs1; generalize H1 = H at hH hS ⊢
  obtain ⟨f13, hf13, hf⟩ := dz_bo hf
  obtain ⟨ha_f13, he_f13, hk_f13⟩ := zwo_o hf13
  refine zq_putF (C := RX12) (T := TX12) (N := 8) hx hb hts in_X12 tyX12 tyX12_ok nmX12 hown hX.K hH.2.2 zw_D hS _ (zw_o ha_f13 he_f13) rfl 5 (by decide) (hts _ q559) (fun _ hq => hq) rfl hin rfl rfl rfl rfl hk_f13 dX6_init_28 (fun H1 locs hP1 _ hS => dz_size (fun hz => ?_))
  obtain ⟨s14, e_s14, hf⟩ := dz_lo hf
  have hH := zH_put (x := .inr (9, f13.set 5 (.ref r9))) hH hcs ha_f13 hP1 hz
  rw [← e_s14] at hH
  have hcs : s.heap.size + cells = s14.1 := by rw [e_s14]; exact hcs
  have hss : sl0 + slots = s14.2.1 := by rw [e_s14]; exact hss
  clear hP1 hz; generalize H1 = H at hH hS ⊢
  refine lv_aload_n hx hb dX6_init_31 rfl (lv_at hl 0 rfl) ?_
  refine lv_lload_n hx hb dX6_init_32 rfl (lv_at hl 2 rfl) ?_
  obtain ⟨f15, hf15, hf⟩ := dz_bo hf
  obtain ⟨ha_f15, he_f15, hk_f15⟩ := zwo_o hf15
  refine zq_put (C := RX12) (T := TX12) (N := 8) hx hb hts in_X12 tyX12 tyX12_ok nmX12 hown hX.K hH.2.2 zw_D hS _ (zw_o ha_f15 he_f15) rfl 0 (by decide) (hts _ q532) (fun _ hq => hq) rfl rfl rfl rfl hk_f15 dX6_init_33 (fun H1 locs hP1 _ hS => dz_size (fun hz => ?_))
  obtain ⟨s16, e_s16, hf⟩ := dz_lo hf
  have hH := zH_put (x := .inr (9, f15.set 0 (.long a1))) hH hcs ha_f15 hP1 hz
  rw [← e_s16] at hH
  have hcs : s.heap.size + cells = s16.1 := by rw [e_s16]; exact hcs
  have hss : sl0 + slots = s16.2.1 := by rw [e_s16]; exact hss
  clear hP1 hz; generalize H1 = H at hH hS ⊢
  refine lv_aload_n hx hb dX6_init_36 rfl (lv_at hl 0 rfl) ?_
  refine lv_iload hx hb dX6_init_37 (lv_at hl 3 rfl) ?_
  obtain ⟨f17, hf17, hf⟩ := dz_bo hf
  obtain ⟨ha_f17, he_f17, hk_f17⟩ := zwo_o hf17
  refine zq_putF (C := RX12) (T := TX12) (N := 8) hx hb hts in_X12 tyX12 tyX12_ok nmX12 hown hX.K hH.2.2 zw_D hS _ (zw_o ha_f17 he_f17) rfl 1 (by decide) (hts _ q542) (fun _ hq => hq) rfl hin rfl rfl rfl rfl hk_f17 dX6_init_39 (fun H1 locs hP1 _ hS => dz_size (fun hz => ?_))
  obtain ⟨s18, e_s18, hf⟩ := dz_lo hf
  have hH := zH_put (x := .inr (9, f17.set 1 (.int a2))) hH hcs ha_f17 hP1 hz
  rw [← e_s18] at hH
  have hcs : s.heap.size + cells = s18.1 := by rw [e_s18]; exact hcs
  have hss : sl0 + slots = s18.2.1 := by rw [e_s18]; exact hss
  clear hP1 hz; generalize H1 = H at hH hS ⊢
  obtain ⟨hM1, hS1⟩ : cells = M ∧ slots = S := by have hq := congrArg Prod.snd (Option.some.inj hf); rw [← hq] at hM hS0; have hM : s.heap.size + M = s18.1 := hM; have hS0 : sl0 + S = s18.2.1 := hS0; omega
  refine W.widen (k := M) (n := S) (Nat.le_of_eq hM1) (Nat.le_of_eq hS1) ?_
  exact W.vret hx hb hr (fun t ht hW => ⟨⟨s18, rfl, Option.some.inj hf, z_at ht hH⟩, hS.F ht⟩) hS.2.2 dX6_init_42

noncomputable def fnX12_init (K : Nat) (ζ : pZ) (h : Nat) (a0 : Nat) (a1 : Int64) (τ : pH) : Option (Unit × pH) := dz_b (zwo ζ τ h 9 7) fun f1 => dz_l (zst τ h (.inr (9, f1.set 7 (.ref a0)))) fun s2 => zcl s2 (fnX6_init_9 K ζ h a0 a1 4 s2) fun _ s4 => some ((), s4)
set_option maxHeartbeats 4000000 in
set_option maxRecDepth 100000 in
theorem mtX12_init (l : Launch) (D : va_G) (cA : Nat → ClassId) (ζ : pZ) (τ : pH) (h : Nat) (a0 : Nat) (a1 : Int64) (K : Nat) (res : (Unit × pH)) (hf : fnX12_init K ζ h a0 a1 τ = some res) (M S : Nat) (hM : τ.1 + M = res.2.1) (hS0 : τ.2.1 + S = res.2.2.1) : Met l yX12_init (ws_ yX12_init cX12_init 4 (none)) ({ frames := 3, cells := M, slots := S, locals := 64 }) (zPc D cA ζ τ [.ref h, .ref a0, .long a1]) (zQv D cA ζ res) M S (zA ζ) := by
  refine Met.ofW (cc := cX12_init) (maxL := 4) (ret := none) (by decide +kernel) rfl ?_
  intro p e s m args below meth c s₁ B hml hv
  obtain ⟨rfl, hX, hH⟩ := hv
  have hx := B.exec
  have hb := B.bytes
  have hr := B.returns
  have hts := atoms_spec (ws := ws_ yX12_init cX12_init 4 (none)) B.pre
  have hts : ∀ w ∈ lw_all, w.before _ s = true := fun w h => hts w (List.mem_cons_of_mem _ h)
  have hown : s.vm.findClass RX12 = some m.cls := findClass_of_methodNamed B.named
  have hlocks := B.notSynchronized
  have hin : meth.name = "<init>" := (name_of_methodNamed B.named B.method).1
  have hM : s.heap.size + M = res.2.1 := by rw [hH.1]; exact hM
  have hcs : s.heap.size + 0 = τ.1 := hH.1
  have hss : τ.2.1 + 0 = τ.2.1 := rfl
  generalize hsl0 : τ.2.1 = sl0 at hS0 hss
  have hss : sl0 + 0 = τ.2.1 := by rw [hsl0]; rfl
  have hS : va_S (zA ζ) s.heap s.heap [] := va_S.rf
  generalize hHe : s.heap = H at hH hS ⊢
  have hS : va_S (zA ζ) s.heap H [] := by rw [hHe]; exact hS
  generalize ([] : List Loc) = locs at hS ⊢
  have hl := lv_entry ([.ref h, .ref a0, .long a1]) (n := 4) (Nat.le_of_ble_eq_true rfl)
  rw [lg_entry_eq]
  generalize (lg_sl ([.ref h, .ref a0, .long a1]) ++ List.replicate (4 - (lg_sl ([.ref h, .ref a0, .long a1])).length) Slot.unset).toArray = ls at hl ⊢
  have hl : lv_has ls 4 [(0, .ref h), (1, .ref a0), (2, .long a1)] := hl
  have hf : (dz_b (zwo ζ τ h 9 7) fun f1 => dz_l (zst τ h (.inr (9, f1.set 7 (.ref a0)))) fun s2 => zcl s2 (fnX6_init_9 K ζ h a0 a1 4 s2) fun _ s4 => some ((), s4) : Option (Unit × pH)) = some res := hf
  refine z_gen (fun cells slots hc0 hs0 => ?_)
  have hcs : s.heap.size + cells = τ.1 := by rw [hc0]; exact hcs
  have hss : sl0 + slots = τ.2.1 := by rw [hs0]; exact hss
  have hcM : cells ≤ M ∧ slots ≤ S := by rw [hc0, hs0]; exact ⟨Nat.zero_le _, Nat.zero_le _⟩
  clear hc0 hs0
  refine lv_aload_n hx hb dX12_init_0 rfl (lv_at hl 0 rfl) ?_
  refine lv_aload_n hx hb dX12_init_1 rfl (lv_at hl 1 rfl) ?_
  obtain ⟨f1, hf1, hf⟩ := dz_bo hf
  obtain ⟨ha_f1, he_f1, hk_f1⟩ := zwo_o hf1
  refine zq_putF (C := RX12) (T := TX12) (N := 8) hx hb hts in_X12 tyX12 tyX12_ok nmX12 hown hX.K hH.2.2 zw_D hS _ (zw_o ha_f1 he_f1) rfl 7 (by decide) (hts _ q641) (fun _ hq => hq) rfl hin rfl rfl rfl rfl hk_f1 dX12_init_2 (fun H1 locs hP1 _ hS => dz_size (fun hz => ?_))
  obtain ⟨s2, e_s2, hf⟩ := dz_lo hf
  have hH := zH_put (x := .inr (9, f1.set 7 (.ref a0))) hH hcs ha_f1 hP1 hz
  rw [← e_s2] at hH
  have hcs : s.heap.size + cells = s2.1 := by rw [e_s2]; exact hcs
  have hss : sl0 + slots = s2.2.1 := by rw [e_s2]; exact hss
  clear hP1 hz; generalize H1 = H at hH hS ⊢
  refine lv_aload_n hx hb dX12_init_5 rfl (lv_at hl 0 rfl) ?_
  refine lv_aload_n hx hb dX12_init_6 rfl (lv_at hl 1 rfl) ?_
  refine lv_lload_n hx hb dX12_init_7 rfl (lv_at hl 2 rfl) ?_
  refine lv_iconst (v := 4) hx hb dX12_init_8 (by decide) ?_
  obtain ⟨x3, s4, hx3, hle, hck, hf⟩ := zcl_o hf
  have hc1 : cells + (s4.1 - s2.1) ≤ M := by omega
  have hs1 : slots + (s4.2.1 - s2.2.1) ≤ S := by omega
  refine va_callv (va_runI (As := [.ref a0, .long a1, .int 4]) (rest := []) ⟨hx, hb, hml, hown, hts⟩ (mtX6_init_9 l D cA ζ s2 h a0 a1 4 K (x3, s4) hx3 (s4.1 - s2.1) (s4.2.1 - s2.2.1) (Nat.add_sub_cancel' hle.1) (Nat.add_sub_cancel' hle.2)) (cwI 3 hts (lw_meth q506) rfl rfl rfl (hts _ q96) (hts _ q640) (hts _ q505) rfl (by decide +kernel) ⟨Nat.le_of_ble_eq_true rfl, Nat.le_of_ble_eq_true rfl⟩) (z_preS hX hS hH) rfl rfl hl.1 rfl (lv_room (Nat.le_of_ble_eq_true rfl)) dX12_init_9 ⟨hc1, hs1⟩) hS (fun q _ hq => hq) (fun q hq => hq) (fun u t H1 locs ht hvm hw hB hz hk hS => ?_)
  obtain ⟨-, hw2⟩ := Prod.mk.inj hw.symm; subst hw2
  have hH : zH D cA ζ s4 H1 := z_at ht.symm hB
  have hcs : s.heap.size + (cells + (s4.1 - s2.1)) = s4.1 := by omega
  have hss : sl0 + (slots + (s4.2.1 - s2.2.1)) = s4.2.1 := by omega
  replace hcM := And.intro hc1 hs1
  generalize cells + (s4.1 - s2.1) = cells at hcs hcM ⊢; generalize slots + (s4.2.1 - s2.2.1) = slots at hss hcM ⊢
  clear hB hk hz hvm ht hle hck hc1 hs1; generalize H1 = H at hH hS ⊢
  obtain ⟨hM1, hS1⟩ : cells = M ∧ slots = S := by have hq := congrArg Prod.snd (Option.some.inj hf); rw [← hq] at hM hS0; have hM : s.heap.size + M = s4.1 := hM; have hS0 : sl0 + S = s4.2.1 := hS0; omega
  refine W.widen (k := M) (n := S) (Nat.le_of_eq hM1) (Nat.le_of_eq hS1) ?_
  exact W.vret hx hb hr (fun t ht hW => ⟨⟨s4, rfl, Option.some.inj hf, z_at ht hH⟩, hS.F ht⟩) hS.2.2 dX12_init_12

noncomputable def fnX0_made (K : Nat) (ζ : pZ) (h : Nat) (a0 : Int64) (a1 : Int32) (τ : pH) : Option (Nat × pH) := if a1 = (0 : Int32) then (dz_l τ.1 fun r1 => dz_l (znw τ 8 (.inr (5, [.long 0, .int 0, .int 0, .int 0, .null, .null, .null, .null]))) fun s2 => zck s2 (zcl s2 (fnX7_init K ζ r1 h a0 s2) fun _ s4 => some (r1, s4))) else (if a1 = (1 : Int32) then (dz_l τ.1 fun r5 => dz_l (znw τ 8 (.inr (6, [.long 0, .int 0, .int 0, .int 0, .null, .null, .null, .null]))) fun s6 => zck s6 (zcl s6 (fnX9_init K ζ r5 h a0 s6) fun _ s8 => some (r5, s8))) else (if a1 = (2 : Int32) then (dz_l τ.1 fun r9 => dz_l (znw τ 8 (.inr (7, [.long 0, .int 0, .int 0, .int 0, .null, .null, .null, .null]))) fun s10 => zck s10 (zcl s10 (fnX10_init K ζ r9 h a0 s10) fun _ s12 => some (r9, s12))) else (if a1 = (3 : Int32) then (dz_l τ.1 fun r13 => dz_l (znw τ 8 (.inr (8, [.long 0, .int 0, .int 0, .int 0, .null, .null, .null, .null]))) fun s14 => zck s14 (zcl s14 (fnX11_init K ζ r13 h a0 s14) fun _ s16 => some (r13, s16))) else (dz_l τ.1 fun r17 => dz_l (znw τ 8 (.inr (9, [.long 0, .int 0, .int 0, .int 0, .null, .null, .null, .null]))) fun s18 => zck s18 (zcl s18 (fnX12_init K ζ r17 h a0 s18) fun _ s20 => some (r17, s20))))))
set_option maxHeartbeats 4000000 in
set_option maxRecDepth 100000 in
theorem mtX0_made (l : Launch) (D : va_G) (cA : Nat → ClassId) (ζ : pZ) (τ : pH) (h : Nat) (a0 : Int64) (a1 : Int32) (K : Nat) (res : (Nat × pH)) (hf : fnX0_made K ζ h a0 a1 τ = some res) (M S : Nat) (hM : τ.1 + M = res.2.1) (hS0 : τ.2.1 + S = res.2.2.1) : Met l yX0_made (ws_ yX0_made cX0_made 4 (some (.object "PrimeProofs$Line"))) ({ frames := 4, cells := M, slots := S, locals := 87 }) (zPc D cA ζ τ [.ref h, .long a0, .int a1]) (zQr D cA ζ res) M S (zA ζ) := by
  refine Met.ofW (cc := cX0_made) (maxL := 4) (ret := some (.object "PrimeProofs$Line")) (by decide +kernel) rfl ?_
  intro p e s m args below meth c s₁ B hml hv
  obtain ⟨rfl, hX, hH⟩ := hv
  have hx := B.exec
  have hb := B.bytes
  have hr := B.returns
  have hts := atoms_spec (ws := ws_ yX0_made cX0_made 4 (some (.object "PrimeProofs$Line"))) B.pre
  have hts : ∀ w ∈ lw_all, w.before _ s = true := fun w h => hts w (List.mem_cons_of_mem _ h)
  have hown : s.vm.findClass RX0 = some m.cls := findClass_of_methodNamed B.named
  have hlocks := B.notSynchronized
  have hM : s.heap.size + M = res.2.1 := by rw [hH.1]; exact hM
  have hcs : s.heap.size + 0 = τ.1 := hH.1
  have hss : τ.2.1 + 0 = τ.2.1 := rfl
  generalize hsl0 : τ.2.1 = sl0 at hS0 hss
  have hss : sl0 + 0 = τ.2.1 := by rw [hsl0]; rfl
  have hS : va_S (zA ζ) s.heap s.heap [] := va_S.rf
  generalize hHe : s.heap = H at hH hS ⊢
  have hS : va_S (zA ζ) s.heap H [] := by rw [hHe]; exact hS
  generalize ([] : List Loc) = locs at hS ⊢
  have hl := lv_entry ([.ref h, .long a0, .int a1]) (n := 4) (Nat.le_of_ble_eq_true rfl)
  rw [lg_entry_eq]
  generalize (lg_sl ([.ref h, .long a0, .int a1]) ++ List.replicate (4 - (lg_sl ([.ref h, .long a0, .int a1])).length) Slot.unset).toArray = ls at hl ⊢
  have hl : lv_has ls 4 [(0, .ref h), (1, .long a0), (3, .int a1)] := hl
  have hf : (if a1 = (0 : Int32) then (dz_l τ.1 fun r1 => dz_l (znw τ 8 (.inr (5, [.long 0, .int 0, .int 0, .int 0, .null, .null, .null, .null]))) fun s2 => zck s2 (zcl s2 (fnX7_init K ζ r1 h a0 s2) fun _ s4 => some (r1, s4))) else (if a1 = (1 : Int32) then (dz_l τ.1 fun r5 => dz_l (znw τ 8 (.inr (6, [.long 0, .int 0, .int 0, .int 0, .null, .null, .null, .null]))) fun s6 => zck s6 (zcl s6 (fnX9_init K ζ r5 h a0 s6) fun _ s8 => some (r5, s8))) else (if a1 = (2 : Int32) then (dz_l τ.1 fun r9 => dz_l (znw τ 8 (.inr (7, [.long 0, .int 0, .int 0, .int 0, .null, .null, .null, .null]))) fun s10 => zck s10 (zcl s10 (fnX10_init K ζ r9 h a0 s10) fun _ s12 => some (r9, s12))) else (if a1 = (3 : Int32) then (dz_l τ.1 fun r13 => dz_l (znw τ 8 (.inr (8, [.long 0, .int 0, .int 0, .int 0, .null, .null, .null, .null]))) fun s14 => zck s14 (zcl s14 (fnX11_init K ζ r13 h a0 s14) fun _ s16 => some (r13, s16))) else (dz_l τ.1 fun r17 => dz_l (znw τ 8 (.inr (9, [.long 0, .int 0, .int 0, .int 0, .null, .null, .null, .null]))) fun s18 => zck s18 (zcl s18 (fnX12_init K ζ r17 h a0 s18) fun _ s20 => some (r17, s20)))))) : Option (Nat × pH)) = some res := hf
  refine z_gen (fun cells slots hc0 hs0 => ?_)
  have hcs : s.heap.size + cells = τ.1 := by rw [hc0]; exact hcs
  have hss : sl0 + slots = τ.2.1 := by rw [hs0]; exact hss
  have hcM : cells ≤ M ∧ slots ≤ S := by rw [hc0, hs0]; exact ⟨Nat.zero_le _, Nat.zero_le _⟩
  clear hc0 hs0
  refine lv_iload_n hx hb dX0_made_0 rfl (lv_at hl 2 rfl) ?_
  refine dz_case hf (fun t1_0 hf => ?_) (fun t1_0 hf => ?_)
  · refine lv_tableIn (off := 31) (tgt := 32) hx hb dX0_made_1 (by rw [t1_0]; decide) (by rw [t1_0]; decide) (by rw [t1_0]; rfl) (by decide) ?_
    obtain ⟨r1, e_r1, hf⟩ := dz_lo hf
    obtain ⟨s2, e_s2, hf⟩ := dz_lo hf
    obtain ⟨hck, hf⟩ := zck_o hf
    have hc1 : cells + 1 ≤ M := by have hq := hck.1; rw [e_s2] at hq; have hq : τ.1 + 1 ≤ res.2.1 := hq; omega
    have hs1 : slots + 8 ≤ S := by have hq := hck.2; rw [e_s2] at hq; have hq : τ.2.1 + 8 ≤ res.2.2.1 := hq; omega
    refine va_new (ci := 5) (fs := [.long 0, .int 0, .int 0, .int 0, .null, .null, .null, .null]) (C := RX7) (T := TX7) (N := 8) hx hb hts in_X7 tyX7 tyX7_ok hown (hts _ q499) (hts _ q500) (hts _ q97) hX.K hH.2.2 zw_D hS hX.hA rfl zdf_X7 hc1 hs1 dX0_made_32 (fun q H1 hP1 hD1 hS => dz_size (fun hz => ?_))
    obtain ⟨hq, hH⟩ := zH_new (n := 8) (x := (.inr (5, [.long 0, .int 0, .int 0, .int 0, .null, .null, .null, .null]))) hH hcs hP1 hD1 hz
    rw [← e_s2] at hH; obtain rfl : r1 = q := e_r1.trans hq.symm
    have hcs : s.heap.size + (cells + 1) = s2.1 := by rw [e_s2]; show _ = τ.1 + 1; omega
    have hss : sl0 + (slots + 8) = s2.2.1 := by rw [e_s2]; show _ = τ.2.1 + 8; omega
    replace hcM := And.intro hc1 hs1
    generalize cells + 1 = cells at hcs hcM ⊢; generalize slots + 8 = slots at hss hcM ⊢
    clear hP1 hD1 hz hq hck hc1 hs1; generalize H1 = H at hH hS ⊢
    refine lv_dup hx hb dX0_made_35 rfl ?_
    refine lv_aload_n hx hb dX0_made_36 rfl (lv_at hl 0 rfl) ?_
    refine lv_lload_n hx hb dX0_made_37 rfl (lv_at hl 1 rfl) ?_
    obtain ⟨x3, s4, hx3, hle, hck, hf⟩ := zcl_o hf
    have hc1 : cells + (s4.1 - s2.1) ≤ M := by omega
    have hs1 : slots + (s4.2.1 - s2.2.1) ≤ S := by omega
    refine va_callv (va_runI (As := [.ref h, .long a0]) (rest := [.ref r1]) ⟨hx, hb, hml, hown, hts⟩ (mtX7_init l D cA ζ s2 r1 h a0 K (x3, s4) hx3 (s4.1 - s2.1) (s4.2.1 - s2.2.1) (Nat.add_sub_cancel' hle.1) (Nat.add_sub_cancel' hle.2)) (cwI 2 hts (lw_meth q503) rfl rfl rfl (hts _ q97) (hts _ q501) (hts _ q502) rfl (by decide +kernel) ⟨Nat.le_of_ble_eq_true rfl, Nat.le_of_ble_eq_true rfl⟩) (z_preS hX hS hH) rfl rfl hl.1 rfl (lv_room (Nat.le_of_ble_eq_true rfl)) dX0_made_38 ⟨hc1, hs1⟩) hS (fun q _ hq => hq) (fun q hq => hq) (fun u t H1 locs ht hvm hw hB hz hk hS => ?_)
    obtain ⟨-, hw2⟩ := Prod.mk.inj hw.symm; subst hw2
    have hH : zH D cA ζ s4 H1 := z_at ht.symm hB
    have hcs : s.heap.size + (cells + (s4.1 - s2.1)) = s4.1 := by omega
    have hss : sl0 + (slots + (s4.2.1 - s2.2.1)) = s4.2.1 := by omega
    replace hcM := And.intro hc1 hs1
    generalize cells + (s4.1 - s2.1) = cells at hcs hcM ⊢; generalize slots + (s4.2.1 - s2.2.1) = slots at hss hcM ⊢
    clear hB hk hz hvm ht hle hck hc1 hs1; generalize H1 = H at hH hS ⊢
    obtain ⟨hM1, hS1⟩ : cells = M ∧ slots = S := by have hq := congrArg Prod.snd (Option.some.inj hf); rw [← hq] at hM hS0; have hM : s.heap.size + M = s4.1 := hM; have hS0 : sl0 + S = s4.2.1 := hS0; omega
    refine W.widen (k := M) (n := S) (Nat.le_of_eq hM1) (Nat.le_of_eq hS1) ?_
    exact W.aret (v := .ref r1) hx hb hr (Or.inl ⟨_, rfl⟩) (Or.inr ⟨_, rfl⟩) (fun t ht hW => ⟨⟨s4, r1, rfl, trivial, Option.some.inj hf, z_at ht hH⟩, hS.F ht⟩) hS.2.2 dX0_made_41
  · skip
    refine dz_case hf (fun t1_1 hf => ?_) (fun t1_1 hf => ?_)
    · refine lv_tableIn (off := 41) (tgt := 42) hx hb dX0_made_1 (by rw [t1_1]; decide) (by rw [t1_1]; decide) (by rw [t1_1]; rfl) (by decide) ?_
      obtain ⟨r5, e_r5, hf⟩ := dz_lo hf
      obtain ⟨s6, e_s6, hf⟩ := dz_lo hf
      obtain ⟨hck, hf⟩ := zck_o hf
      have hc1 : cells + 1 ≤ M := by have hq := hck.1; rw [e_s6] at hq; have hq : τ.1 + 1 ≤ res.2.1 := hq; omega
      have hs1 : slots + 8 ≤ S := by have hq := hck.2; rw [e_s6] at hq; have hq : τ.2.1 + 8 ≤ res.2.2.1 := hq; omega
      refine va_new (ci := 6) (fs := [.long 0, .int 0, .int 0, .int 0, .null, .null, .null, .null]) (C := RX9) (T := TX9) (N := 8) hx hb hts in_X9 tyX9 tyX9_ok hown (hts _ q584) (hts _ q585) (hts _ q99) hX.K hH.2.2 zw_D hS hX.hA rfl zdf_X9 hc1 hs1 dX0_made_42 (fun q H1 hP1 hD1 hS => dz_size (fun hz => ?_))
      obtain ⟨hq, hH⟩ := zH_new (n := 8) (x := (.inr (6, [.long 0, .int 0, .int 0, .int 0, .null, .null, .null, .null]))) hH hcs hP1 hD1 hz
      rw [← e_s6] at hH; obtain rfl : r5 = q := e_r5.trans hq.symm
      have hcs : s.heap.size + (cells + 1) = s6.1 := by rw [e_s6]; show _ = τ.1 + 1; omega
      have hss : sl0 + (slots + 8) = s6.2.1 := by rw [e_s6]; show _ = τ.2.1 + 8; omega
      replace hcM := And.intro hc1 hs1
      generalize cells + 1 = cells at hcs hcM ⊢; generalize slots + 8 = slots at hss hcM ⊢
      clear hP1 hD1 hz hq hck hc1 hs1; generalize H1 = H at hH hS ⊢
      refine lv_dup hx hb dX0_made_45 rfl ?_
      refine lv_aload_n hx hb dX0_made_46 rfl (lv_at hl 0 rfl) ?_
      refine lv_lload_n hx hb dX0_made_47 rfl (lv_at hl 1 rfl) ?_
      obtain ⟨x7, s8, hx7, hle, hck, hf⟩ := zcl_o hf
      have hc1 : cells + (s8.1 - s6.1) ≤ M := by omega
      have hs1 : slots + (s8.2.1 - s6.2.1) ≤ S := by omega
      refine va_callv (va_runI (As := [.ref h, .long a0]) (rest := [.ref r5]) ⟨hx, hb, hml, hown, hts⟩ (mtX9_init l D cA ζ s6 r5 h a0 K (x7, s8) hx7 (s8.1 - s6.1) (s8.2.1 - s6.2.1) (Nat.add_sub_cancel' hle.1) (Nat.add_sub_cancel' hle.2)) (cwI 2 hts (lw_meth q588) rfl rfl rfl (hts _ q99) (hts _ q586) (hts _ q587) rfl (by decide +kernel) ⟨Nat.le_of_ble_eq_true rfl, Nat.le_of_ble_eq_true rfl⟩) (z_preS hX hS hH) rfl rfl hl.1 rfl (lv_room (Nat.le_of_ble_eq_true rfl)) dX0_made_48 ⟨hc1, hs1⟩) hS (fun q _ hq => hq) (fun q hq => hq) (fun u t H1 locs ht hvm hw hB hz hk hS => ?_)
      obtain ⟨-, hw2⟩ := Prod.mk.inj hw.symm; subst hw2
      have hH : zH D cA ζ s8 H1 := z_at ht.symm hB
      have hcs : s.heap.size + (cells + (s8.1 - s6.1)) = s8.1 := by omega
      have hss : sl0 + (slots + (s8.2.1 - s6.2.1)) = s8.2.1 := by omega
      replace hcM := And.intro hc1 hs1
      generalize cells + (s8.1 - s6.1) = cells at hcs hcM ⊢; generalize slots + (s8.2.1 - s6.2.1) = slots at hss hcM ⊢
      clear hB hk hz hvm ht hle hck hc1 hs1; generalize H1 = H at hH hS ⊢
      obtain ⟨hM1, hS1⟩ : cells = M ∧ slots = S := by have hq := congrArg Prod.snd (Option.some.inj hf); rw [← hq] at hM hS0; have hM : s.heap.size + M = s8.1 := hM; have hS0 : sl0 + S = s8.2.1 := hS0; omega
      refine W.widen (k := M) (n := S) (Nat.le_of_eq hM1) (Nat.le_of_eq hS1) ?_
      exact W.aret (v := .ref r5) hx hb hr (Or.inl ⟨_, rfl⟩) (Or.inr ⟨_, rfl⟩) (fun t ht hW => ⟨⟨s8, r5, rfl, trivial, Option.some.inj hf, z_at ht hH⟩, hS.F ht⟩) hS.2.2 dX0_made_51
    · skip
      refine dz_case hf (fun t1_2 hf => ?_) (fun t1_2 hf => ?_)
      · refine lv_tableIn (off := 51) (tgt := 52) hx hb dX0_made_1 (by rw [t1_2]; decide) (by rw [t1_2]; decide) (by rw [t1_2]; rfl) (by decide) ?_
        obtain ⟨r9, e_r9, hf⟩ := dz_lo hf
        obtain ⟨s10, e_s10, hf⟩ := dz_lo hf
        obtain ⟨hck, hf⟩ := zck_o hf
        have hc1 : cells + 1 ≤ M := by have hq := hck.1; rw [e_s10] at hq; have hq : τ.1 + 1 ≤ res.2.1 := hq; omega
        have hs1 : slots + 8 ≤ S := by have hq := hck.2; rw [e_s10] at hq; have hq : τ.2.1 + 8 ≤ res.2.2.1 := hq; omega
        refine va_new (ci := 7) (fs := [.long 0, .int 0, .int 0, .int 0, .null, .null, .null, .null]) (C := RX10) (T := TX10) (N := 8) hx hb hts in_X10 tyX10 tyX10_ok hown (hts _ q601) (hts _ q602) (hts _ q100) hX.K hH.2.2 zw_D hS hX.hA rfl zdf_X10 hc1 hs1 dX0_made_52 (fun q H1 hP1 hD1 hS => dz_size (fun hz => ?_))
        obtain ⟨hq, hH⟩ := zH_new (n := 8) (x := (.inr (7, [.long 0, .int 0, .int 0, .int 0, .null, .null, .null, .null]))) hH hcs hP1 hD1 hz
        rw [← e_s10] at hH; obtain rfl : r9 = q := e_r9.trans hq.symm
        have hcs : s.heap.size + (cells + 1) = s10.1 := by rw [e_s10]; show _ = τ.1 + 1; omega
        have hss : sl0 + (slots + 8) = s10.2.1 := by rw [e_s10]; show _ = τ.2.1 + 8; omega
        replace hcM := And.intro hc1 hs1
        generalize cells + 1 = cells at hcs hcM ⊢; generalize slots + 8 = slots at hss hcM ⊢
        clear hP1 hD1 hz hq hck hc1 hs1; generalize H1 = H at hH hS ⊢
        refine lv_dup hx hb dX0_made_55 rfl ?_
        refine lv_aload_n hx hb dX0_made_56 rfl (lv_at hl 0 rfl) ?_
        refine lv_lload_n hx hb dX0_made_57 rfl (lv_at hl 1 rfl) ?_
        obtain ⟨x11, s12, hx11, hle, hck, hf⟩ := zcl_o hf
        have hc1 : cells + (s12.1 - s10.1) ≤ M := by omega
        have hs1 : slots + (s12.2.1 - s10.2.1) ≤ S := by omega
        refine va_callv (va_runI (As := [.ref h, .long a0]) (rest := [.ref r9]) ⟨hx, hb, hml, hown, hts⟩ (mtX10_init l D cA ζ s10 r9 h a0 K (x11, s12) hx11 (s12.1 - s10.1) (s12.2.1 - s10.2.1) (Nat.add_sub_cancel' hle.1) (Nat.add_sub_cancel' hle.2)) (cwI 2 hts (lw_meth q605) rfl rfl rfl (hts _ q100) (hts _ q603) (hts _ q604) rfl (by decide +kernel) ⟨Nat.le_of_ble_eq_true rfl, Nat.le_of_ble_eq_true rfl⟩) (z_preS hX hS hH) rfl rfl hl.1 rfl (lv_room (Nat.le_of_ble_eq_true rfl)) dX0_made_58 ⟨hc1, hs1⟩) hS (fun q _ hq => hq) (fun q hq => hq) (fun u t H1 locs ht hvm hw hB hz hk hS => ?_)
        obtain ⟨-, hw2⟩ := Prod.mk.inj hw.symm; subst hw2
        have hH : zH D cA ζ s12 H1 := z_at ht.symm hB
        have hcs : s.heap.size + (cells + (s12.1 - s10.1)) = s12.1 := by omega
        have hss : sl0 + (slots + (s12.2.1 - s10.2.1)) = s12.2.1 := by omega
        replace hcM := And.intro hc1 hs1
        generalize cells + (s12.1 - s10.1) = cells at hcs hcM ⊢; generalize slots + (s12.2.1 - s10.2.1) = slots at hss hcM ⊢
        clear hB hk hz hvm ht hle hck hc1 hs1; generalize H1 = H at hH hS ⊢
        obtain ⟨hM1, hS1⟩ : cells = M ∧ slots = S := by have hq := congrArg Prod.snd (Option.some.inj hf); rw [← hq] at hM hS0; have hM : s.heap.size + M = s12.1 := hM; have hS0 : sl0 + S = s12.2.1 := hS0; omega
        refine W.widen (k := M) (n := S) (Nat.le_of_eq hM1) (Nat.le_of_eq hS1) ?_
        exact W.aret (v := .ref r9) hx hb hr (Or.inl ⟨_, rfl⟩) (Or.inr ⟨_, rfl⟩) (fun t ht hW => ⟨⟨s12, r9, rfl, trivial, Option.some.inj hf, z_at ht hH⟩, hS.F ht⟩) hS.2.2 dX0_made_61
      · skip
        refine dz_case hf (fun t1_3 hf => ?_) (fun t1_3 hf => ?_)
        · refine lv_tableIn (off := 61) (tgt := 62) hx hb dX0_made_1 (by rw [t1_3]; decide) (by rw [t1_3]; decide) (by rw [t1_3]; rfl) (by decide) ?_
          obtain ⟨r13, e_r13, hf⟩ := dz_lo hf
          obtain ⟨s14, e_s14, hf⟩ := dz_lo hf
          obtain ⟨hck, hf⟩ := zck_o hf
          have hc1 : cells + 1 ≤ M := by have hq := hck.1; rw [e_s14] at hq; have hq : τ.1 + 1 ≤ res.2.1 := hq; omega
          have hs1 : slots + 8 ≤ S := by have hq := hck.2; rw [e_s14] at hq; have hq : τ.2.1 + 8 ≤ res.2.2.1 := hq; omega
          refine va_new (ci := 8) (fs := [.long 0, .int 0, .int 0, .int 0, .null, .null, .null, .null]) (C := RX11) (T := TX11) (N := 8) hx hb hts in_X11 tyX11 tyX11_ok hown (hts _ q618) (hts _ q619) (hts _ q101) hX.K hH.2.2 zw_D hS hX.hA rfl zdf_X11 hc1 hs1 dX0_made_62 (fun q H1 hP1 hD1 hS => dz_size (fun hz => ?_))
          obtain ⟨hq, hH⟩ := zH_new (n := 8) (x := (.inr (8, [.long 0, .int 0, .int 0, .int 0, .null, .null, .null, .null]))) hH hcs hP1 hD1 hz
          rw [← e_s14] at hH; obtain rfl : r13 = q := e_r13.trans hq.symm
          have hcs : s.heap.size + (cells + 1) = s14.1 := by rw [e_s14]; show _ = τ.1 + 1; omega
          have hss : sl0 + (slots + 8) = s14.2.1 := by rw [e_s14]; show _ = τ.2.1 + 8; omega
          replace hcM := And.intro hc1 hs1
          generalize cells + 1 = cells at hcs hcM ⊢; generalize slots + 8 = slots at hss hcM ⊢
          clear hP1 hD1 hz hq hck hc1 hs1; generalize H1 = H at hH hS ⊢
          refine lv_dup hx hb dX0_made_65 rfl ?_
          refine lv_aload_n hx hb dX0_made_66 rfl (lv_at hl 0 rfl) ?_
          refine lv_lload_n hx hb dX0_made_67 rfl (lv_at hl 1 rfl) ?_
          obtain ⟨x15, s16, hx15, hle, hck, hf⟩ := zcl_o hf
          have hc1 : cells + (s16.1 - s14.1) ≤ M := by omega
          have hs1 : slots + (s16.2.1 - s14.2.1) ≤ S := by omega
          refine va_callv (va_runI (As := [.ref h, .long a0]) (rest := [.ref r13]) ⟨hx, hb, hml, hown, hts⟩ (mtX11_init l D cA ζ s14 r13 h a0 K (x15, s16) hx15 (s16.1 - s14.1) (s16.2.1 - s14.2.1) (Nat.add_sub_cancel' hle.1) (Nat.add_sub_cancel' hle.2)) (cwI 2 hts (lw_meth q622) rfl rfl rfl (hts _ q101) (hts _ q620) (hts _ q621) rfl (by decide +kernel) ⟨Nat.le_of_ble_eq_true rfl, Nat.le_of_ble_eq_true rfl⟩) (z_preS hX hS hH) rfl rfl hl.1 rfl (lv_room (Nat.le_of_ble_eq_true rfl)) dX0_made_68 ⟨hc1, hs1⟩) hS (fun q _ hq => hq) (fun q hq => hq) (fun u t H1 locs ht hvm hw hB hz hk hS => ?_)
          obtain ⟨-, hw2⟩ := Prod.mk.inj hw.symm; subst hw2
          have hH : zH D cA ζ s16 H1 := z_at ht.symm hB
          have hcs : s.heap.size + (cells + (s16.1 - s14.1)) = s16.1 := by omega
          have hss : sl0 + (slots + (s16.2.1 - s14.2.1)) = s16.2.1 := by omega
          replace hcM := And.intro hc1 hs1
          generalize cells + (s16.1 - s14.1) = cells at hcs hcM ⊢; generalize slots + (s16.2.1 - s14.2.1) = slots at hss hcM ⊢
          clear hB hk hz hvm ht hle hck hc1 hs1; generalize H1 = H at hH hS ⊢
          obtain ⟨hM1, hS1⟩ : cells = M ∧ slots = S := by have hq := congrArg Prod.snd (Option.some.inj hf); rw [← hq] at hM hS0; have hM : s.heap.size + M = s16.1 := hM; have hS0 : sl0 + S = s16.2.1 := hS0; omega
          refine W.widen (k := M) (n := S) (Nat.le_of_eq hM1) (Nat.le_of_eq hS1) ?_
          exact W.aret (v := .ref r13) hx hb hr (Or.inl ⟨_, rfl⟩) (Or.inr ⟨_, rfl⟩) (fun t ht hW => ⟨⟨s16, r13, rfl, trivial, Option.some.inj hf, z_at ht hH⟩, hS.F ht⟩) hS.2.2 dX0_made_71
        · skip
          have u1_0 := dz_ne (z := 0) t1_0 (by decide)
          have u1_1 := dz_ne (z := 1) t1_1 (by decide)
          have u1_2 := dz_ne (z := 2) t1_2 (by decide)
          have u1_3 := dz_ne (z := 3) t1_3 (by decide)
          refine lv_tableOut (tgt := 72) hx hb dX0_made_1 (by omega) (by decide) ?_
          obtain ⟨r17, e_r17, hf⟩ := dz_lo hf
          obtain ⟨s18, e_s18, hf⟩ := dz_lo hf
          obtain ⟨hck, hf⟩ := zck_o hf
          have hc1 : cells + 1 ≤ M := by have hq := hck.1; rw [e_s18] at hq; have hq : τ.1 + 1 ≤ res.2.1 := hq; omega
          have hs1 : slots + 8 ≤ S := by have hq := hck.2; rw [e_s18] at hq; have hq : τ.2.1 + 8 ≤ res.2.2.1 := hq; omega
          refine va_new (ci := 9) (fs := [.long 0, .int 0, .int 0, .int 0, .null, .null, .null, .null]) (C := RX12) (T := TX12) (N := 8) hx hb hts in_X12 tyX12 tyX12_ok hown (hts _ q635) (hts _ q636) (hts _ q102) hX.K hH.2.2 zw_D hS hX.hA rfl zdf_X12 hc1 hs1 dX0_made_72 (fun q H1 hP1 hD1 hS => dz_size (fun hz => ?_))
          obtain ⟨hq, hH⟩ := zH_new (n := 8) (x := (.inr (9, [.long 0, .int 0, .int 0, .int 0, .null, .null, .null, .null]))) hH hcs hP1 hD1 hz
          rw [← e_s18] at hH; obtain rfl : r17 = q := e_r17.trans hq.symm
          have hcs : s.heap.size + (cells + 1) = s18.1 := by rw [e_s18]; show _ = τ.1 + 1; omega
          have hss : sl0 + (slots + 8) = s18.2.1 := by rw [e_s18]; show _ = τ.2.1 + 8; omega
          replace hcM := And.intro hc1 hs1
          generalize cells + 1 = cells at hcs hcM ⊢; generalize slots + 8 = slots at hss hcM ⊢
          clear hP1 hD1 hz hq hck hc1 hs1; generalize H1 = H at hH hS ⊢
          refine lv_dup hx hb dX0_made_75 rfl ?_
          refine lv_aload_n hx hb dX0_made_76 rfl (lv_at hl 0 rfl) ?_
          refine lv_lload_n hx hb dX0_made_77 rfl (lv_at hl 1 rfl) ?_
          obtain ⟨x19, s20, hx19, hle, hck, hf⟩ := zcl_o hf
          have hc1 : cells + (s20.1 - s18.1) ≤ M := by omega
          have hs1 : slots + (s20.2.1 - s18.2.1) ≤ S := by omega
          refine va_callv (va_runI (As := [.ref h, .long a0]) (rest := [.ref r17]) ⟨hx, hb, hml, hown, hts⟩ (mtX12_init l D cA ζ s18 r17 h a0 K (x19, s20) hx19 (s20.1 - s18.1) (s20.2.1 - s18.2.1) (Nat.add_sub_cancel' hle.1) (Nat.add_sub_cancel' hle.2)) (cwI 2 hts (lw_meth q639) rfl rfl rfl (hts _ q102) (hts _ q637) (hts _ q638) rfl (by decide +kernel) ⟨Nat.le_of_ble_eq_true rfl, Nat.le_of_ble_eq_true rfl⟩) (z_preS hX hS hH) rfl rfl hl.1 rfl (lv_room (Nat.le_of_ble_eq_true rfl)) dX0_made_78 ⟨hc1, hs1⟩) hS (fun q _ hq => hq) (fun q hq => hq) (fun u t H1 locs ht hvm hw hB hz hk hS => ?_)
          obtain ⟨-, hw2⟩ := Prod.mk.inj hw.symm; subst hw2
          have hH : zH D cA ζ s20 H1 := z_at ht.symm hB
          have hcs : s.heap.size + (cells + (s20.1 - s18.1)) = s20.1 := by omega
          have hss : sl0 + (slots + (s20.2.1 - s18.2.1)) = s20.2.1 := by omega
          replace hcM := And.intro hc1 hs1
          generalize cells + (s20.1 - s18.1) = cells at hcs hcM ⊢; generalize slots + (s20.2.1 - s18.2.1) = slots at hss hcM ⊢
          clear hB hk hz hvm ht hle hck hc1 hs1; generalize H1 = H at hH hS ⊢
          obtain ⟨hM1, hS1⟩ : cells = M ∧ slots = S := by have hq := congrArg Prod.snd (Option.some.inj hf); rw [← hq] at hM hS0; have hM : s.heap.size + M = s20.1 := hM; have hS0 : sl0 + S = s20.2.1 := hS0; omega
          refine W.widen (k := M) (n := S) (Nat.le_of_eq hM1) (Nat.le_of_eq hS1) ?_
          exact W.aret (v := .ref r17) hx hb hr (Or.inl ⟨_, rfl⟩) (Or.inr ⟨_, rfl⟩) (fun t ht hW => ⟨⟨s20, r17, rfl, trivial, Option.some.inj hf, z_at ht hH⟩, hS.F ht⟩) hS.2.2 dX0_made_81

noncomputable def lfX0_canBe (K : Nat) : Nat → (Option Int32) := Nat.rec (motive := fun _ => (Option Int32)) (none) (fun _ G => (some 1))
noncomputable def fnX0_canBe (K : Nat) (a0 : Int64) (a1 : Int32) : Option Int32 := dz_b (fnX0_isPrime K a0) fun x1 => if x1 = (0 : Int32) then (some 0) else (if a1 = (0 : Int32) then (if (100 : Int64) ≤ a0 then (some 0) else ((lfX0_canBe K K) )) else (if a0 ≤ (2 : Int64) then (some 0) else ((lfX0_canBe K K) )))
set_option maxHeartbeats 4000000 in
set_option maxRecDepth 100000 in
theorem wlX0_canBe {p : Program} {l : Launch} {e : Env} {s : State} {m : MethodId} {below : List Frame} {meth : Method} {c : Code}  (K : Nat) (res : Int32) (a0 : Int64) (a1 : Int32) (hx : p.tables.exec = Jvm.exec) (hb : c.code = cX0_canBe) (hr : meth.sig.returnType = some .boolean) (hlocks : meth.locks = false) (hml : c.maxLocals = 3) (hown : s.vm.findClass RX0 = some m.cls) (hts : ∀ w ∈ lw_all, w.before ([.long a0, .int a1] : List Value).toArray s = true) : ∀ k : Nat, (∀  (H : Heap) (locs : List Loc), va_S (fun _ => False) s.heap H locs → ∀ (ls : Array Slot), lv_has ls 3 [] → (lfX0_canBe K k)  = some res → W p l e (headSpec (ws_ yX0_canBe cX0_canBe 3 (some .boolean)) ({ frames := 1, cells := 0, slots := 0, locals := 23 })).room s m ([.long a0, .int a1] : List Value).toArray below meth c H locs 0 0 (MQ below (dz_Qi res) ([.long a0, .int a1] : List Value).toArray s 0 0 (fun _ => False)) (F0 m 30 ls [])) := by
  intro k
  induction k with
  | zero =>
    exact fun _ _ _ _ _ hf => (by cases hf)
  | succ k ih =>
    · intro  H locs hS ls hl hf
      have hf : (some 1 : Option Int32) = some res := hf
      refine lv_iconst (v := 1) hx hb dX0_canBe_30 (by decide) ?_
      refine lv_goto (tgt := 35) hx hb dX0_canBe_31 (by decide) ?_
      exact W.zret (v := 1) hx hb hr rfl (fun t ht hW => ⟨⟨1, (), rfl, Option.some.inj hf, trivial⟩, hS.F ht⟩) hS.2.2 dX0_canBe_35
set_option maxHeartbeats 4000000 in
set_option maxRecDepth 100000 in
theorem mtX0_canBe (l : Launch) (a0 : Int64) (a1 : Int32) (K : Nat) (res : Int32) (hf : fnX0_canBe K a0 a1 = some res) : Met l yX0_canBe (ws_ yX0_canBe cX0_canBe 3 (some .boolean)) ({ frames := 1, cells := 0, slots := 0, locals := 23 }) (dz_P [.long a0, .int a1]) (dz_Qi res) 0 0 (fun _ => False) := by
  refine Met.ofW (cc := cX0_canBe) (maxL := 3) (ret := some .boolean) (by decide +kernel) rfl ?_
  intro p e s m args below meth c s₁ B hml hv
  obtain ⟨rfl, -⟩ := hv
  have hx := B.exec
  have hb := B.bytes
  have hr := B.returns
  have hts := atoms_spec (ws := ws_ yX0_canBe cX0_canBe 3 (some .boolean)) B.pre
  have hts : ∀ w ∈ lw_all, w.before _ s = true := fun w h => hts w (List.mem_cons_of_mem _ h)
  have hown : s.vm.findClass RX0 = some m.cls := findClass_of_methodNamed B.named
  have hlocks := B.notSynchronized
  have hS : va_S (fun _ => False) s.heap s.heap [] := va_S.rf
  generalize hHe : s.heap = H at hS ⊢
  have hS : va_S (fun _ => False) s.heap H [] := by rw [hHe]; exact hS
  generalize ([] : List Loc) = locs at hS ⊢
  have hl := lv_entry ([.long a0, .int a1]) (n := 3) (Nat.le_of_ble_eq_true rfl)
  rw [lg_entry_eq]
  generalize (lg_sl ([.long a0, .int a1]) ++ List.replicate (3 - (lg_sl ([.long a0, .int a1])).length) Slot.unset).toArray = ls at hl ⊢
  have hl : lv_has ls 3 [(0, .long a0), (2, .int a1)] := hl
  have hf : (dz_b (fnX0_isPrime K a0) fun x1 => if x1 = (0 : Int32) then (some 0) else (if a1 = (0 : Int32) then (if (100 : Int64) ≤ a0 then (some 0) else ((lfX0_canBe K K) )) else (if a0 ≤ (2 : Int64) then (some 0) else ((lfX0_canBe K K) ))) : Option Int32) = some res := hf
  have ih := wlX0_canBe (l := l) (e := e) (below := below) K res a0 a1 hx hb hr hlocks hml hown hts K
  refine lv_lload_n hx hb dX0_canBe_0 rfl (lv_at hl 0 rfl) ?_
  obtain ⟨x1, hx1, hf⟩ := dz_bo hf
  refine va_calli (va_runS (As := [.long a0]) (rest := []) ⟨hx, hb, hml, hown, hts⟩ (mtX0_isPrime l a0 K x1 hx1) (va_cwS 1 hts (lw_S q655 q234 q84 q235) rfl rfl rfl (by decide +kernel) ⟨Nat.le_of_ble_eq_true rfl, Nat.le_of_ble_eq_true rfl⟩) ⟨fun a U g mk q => q, fun U hU hW => ⟨rfl, trivial⟩⟩ rfl rfl hl.1 rfl (lv_room (Nat.le_of_ble_eq_true rfl)) dX0_canBe_1 ⟨Nat.le_refl _, Nat.le_refl _⟩) hS (fun q _ hq => hq.elim) (fun q hq => hq.elim) (fun r u t H1 locs ht hvm hw hB hz hk hS => ?_)
  replace hw := hw.symm; subst hw
  clear hB hk hz hvm ht; generalize H1 = H at hS ⊢
  refine lv_if_eq (tgt := 34) hx hb dX0_canBe_4 (by decide) (fun c4 => ?_) (fun c4 => ?_)
  · have hf := dz_t c4 hf
    refine lv_iconst (v := 0) hx hb dX0_canBe_34 (by decide) ?_
    exact W.zret (v := 0) hx hb hr rfl (fun t ht hW => ⟨⟨0, (), rfl, Option.some.inj hf, trivial⟩, hS.F ht⟩) hS.2.2 dX0_canBe_35
  · have hf := dz_f c4 hf
    refine lv_iload_n hx hb dX0_canBe_7 rfl (lv_at hl 1 rfl) ?_
    refine lv_if_ne (tgt := 22) hx hb dX0_canBe_8 (by decide) (fun c8 => ?_) (fun c8 => ?_)
    · have hf := dz_f c8 hf
      refine lv_lload_n hx hb dX0_canBe_22 rfl (lv_at hl 0 rfl) ?_
      refine lv_ldc2 (v := 2) hx hb hown (hts _ q194) dX0_canBe_23 ?_
      refine W.lcmp hx hb dX0_canBe_26 ?_
      refine lv_if_le (tgt := 34) hx hb dX0_canBe_27 (by decide) (fun c27 => ?_) (fun c27 => ?_)
      · have c27 : a0 ≤ (2 : Int64) := (lg_cmp_le _ _).mp c27
        have hf := dz_t c27 hf
        refine lv_iconst (v := 0) hx hb dX0_canBe_34 (by decide) ?_
        exact W.zret (v := 0) hx hb hr rfl (fun t ht hW => ⟨⟨0, (), rfl, Option.some.inj hf, trivial⟩, hS.F ht⟩) hS.2.2 dX0_canBe_35
      · have c27 : ¬ a0 ≤ (2 : Int64) := fun hq => c27 ((lg_cmp_le _ _).mpr hq)
        have hf := dz_f c27 hf
        exact ih  H locs hS ls (lv_sub hl [] rfl) hf
    · have hf := dz_t c8 hf
      refine lv_lload_n hx hb dX0_canBe_11 rfl (lv_at hl 0 rfl) ?_
      refine lv_ldc2 (v := 100) hx hb hown (hts _ q656) dX0_canBe_12 ?_
      refine W.lcmp hx hb dX0_canBe_15 ?_
      refine lv_if_ge (tgt := 34) hx hb dX0_canBe_16 (by decide) (fun c16 => ?_) (fun c16 => ?_)
      · have c16 : (100 : Int64) ≤ a0 := (lg_cmp_ge _ _).mp c16
        have hf := dz_t c16 hf
        refine lv_iconst (v := 0) hx hb dX0_canBe_34 (by decide) ?_
        exact W.zret (v := 0) hx hb hr rfl (fun t ht hW => ⟨⟨0, (), rfl, Option.some.inj hf, trivial⟩, hS.F ht⟩) hS.2.2 dX0_canBe_35
      · have c16 : ¬ (100 : Int64) ≤ a0 := fun hq => c16 ((lg_cmp_ge _ _).mpr hq)
        have hf := dz_f c16 hf
        refine lv_goto (tgt := 30) hx hb dX0_canBe_19 (by decide) ?_
        exact ih  H locs hS ls (lv_sub hl [] rfl) hf

noncomputable def fnX13_init (K : Nat) (ζ : pZ) (h : Nat) (a0 : Int64) (a1 : Int32) (a2 : Int32) (τ : pH) : Option (Unit × pH) := dz_b (zwo ζ τ h 11 0) fun f1 => dz_l (zst τ h (.inr (11, f1.set 0 (.long a0)))) fun s2 => dz_b (zwo ζ s2 h 11 1) fun f3 => dz_l (zst s2 h (.inr (11, f3.set 1 (.int a1)))) fun s4 => dz_b (zwo ζ s4 h 11 2) fun f5 => dz_l (zst s4 h (.inr (11, f5.set 2 (.int a2)))) fun s6 => some ((), s6)
set_option maxHeartbeats 4000000 in
set_option maxRecDepth 100000 in
theorem mtX13_init (l : Launch) (D : va_G) (cA : Nat → ClassId) (ζ : pZ) (τ : pH) (h : Nat) (a0 : Int64) (a1 : Int32) (a2 : Int32) (K : Nat) (res : (Unit × pH)) (hf : fnX13_init K ζ h a0 a1 a2 τ = some res) (M S : Nat) (hM : τ.1 + M = res.2.1) (hS0 : τ.2.1 + S = res.2.2.1) : Met l yX13_init (ws_ yX13_init cX13_init 5 (none)) ({ frames := 1, cells := M, slots := S, locals := 20 }) (zPc D cA ζ τ [.ref h, .long a0, .int a1, .int a2]) (zQv D cA ζ res) M S (zA ζ) := by
  refine Met.ofW (cc := cX13_init) (maxL := 5) (ret := none) (by decide +kernel) rfl ?_
  intro p e s m args below meth c s₁ B hml hv
  obtain ⟨rfl, hX, hH⟩ := hv
  have hx := B.exec
  have hb := B.bytes
  have hr := B.returns
  have hts := atoms_spec (ws := ws_ yX13_init cX13_init 5 (none)) B.pre
  have hts : ∀ w ∈ lw_all, w.before _ s = true := fun w h => hts w (List.mem_cons_of_mem _ h)
  have hown : s.vm.findClass RX13 = some m.cls := findClass_of_methodNamed B.named
  have hlocks := B.notSynchronized
  have hin : meth.name = "<init>" := (name_of_methodNamed B.named B.method).1
  have hM : s.heap.size + M = res.2.1 := by rw [hH.1]; exact hM
  have hcs : s.heap.size + 0 = τ.1 := hH.1
  have hss : τ.2.1 + 0 = τ.2.1 := rfl
  generalize hsl0 : τ.2.1 = sl0 at hS0 hss
  have hss : sl0 + 0 = τ.2.1 := by rw [hsl0]; rfl
  have hS : va_S (zA ζ) s.heap s.heap [] := va_S.rf
  generalize hHe : s.heap = H at hH hS ⊢
  have hS : va_S (zA ζ) s.heap H [] := by rw [hHe]; exact hS
  generalize ([] : List Loc) = locs at hS ⊢
  have hl := lv_entry ([.ref h, .long a0, .int a1, .int a2]) (n := 5) (Nat.le_of_ble_eq_true rfl)
  rw [lg_entry_eq]
  generalize (lg_sl ([.ref h, .long a0, .int a1, .int a2]) ++ List.replicate (5 - (lg_sl ([.ref h, .long a0, .int a1, .int a2])).length) Slot.unset).toArray = ls at hl ⊢
  have hl : lv_has ls 5 [(0, .ref h), (1, .long a0), (3, .int a1), (4, .int a2)] := hl
  have hf : (dz_b (zwo ζ τ h 11 0) fun f1 => dz_l (zst τ h (.inr (11, f1.set 0 (.long a0)))) fun s2 => dz_b (zwo ζ s2 h 11 1) fun f3 => dz_l (zst s2 h (.inr (11, f3.set 1 (.int a1)))) fun s4 => dz_b (zwo ζ s4 h 11 2) fun f5 => dz_l (zst s4 h (.inr (11, f5.set 2 (.int a2)))) fun s6 => some ((), s6) : Option (Unit × pH)) = some res := hf
  refine z_gen (fun cells slots hc0 hs0 => ?_)
  have hcs : s.heap.size + cells = τ.1 := by rw [hc0]; exact hcs
  have hss : sl0 + slots = τ.2.1 := by rw [hs0]; exact hss
  have hcM : cells ≤ M ∧ slots ≤ S := by rw [hc0, hs0]; exact ⟨Nat.zero_le _, Nat.zero_le _⟩
  clear hc0 hs0
  refine lv_aload_n hx hb dX13_init_0 rfl (lv_at hl 0 rfl) ?_
  refine W.objInit hx hb hown (hts _ q682) (hts _ q125) (hts _ q126) rfl (by rw [hml]; exact hl.1) rfl dX13_init_1 (Nat.le_of_ble_eq_true rfl) (Nat.le_of_ble_eq_true rfl) ?_
  refine W.eq (g2 := F0 m 4 ls []) rfl ?_
  refine lv_aload_n hx hb dX13_init_4 rfl (lv_at hl 0 rfl) ?_
  refine lv_lload_n hx hb dX13_init_5 rfl (lv_at hl 1 rfl) ?_
  obtain ⟨f1, hf1, hf⟩ := dz_bo hf
  obtain ⟨ha_f1, he_f1, hk_f1⟩ := zwo_o hf1
  refine va_put (C := RX13) (T := TX13) (N := 3) hx hb hts in_X13 tyX13 tyX13_ok nmX13 hown hX.K hH.2.2 zw_D hS _ (zw_o ha_f1 he_f1) rfl 0 (by decide) (hts _ q683) (fun _ hq => hq) rfl rfl rfl rfl hk_f1 dX13_init_6 (fun H1 locs hP1 _ hS => dz_size (fun hz => ?_))
  obtain ⟨s2, e_s2, hf⟩ := dz_lo hf
  have hH := zH_put (x := .inr (11, f1.set 0 (.long a0))) hH hcs ha_f1 hP1 hz
  rw [← e_s2] at hH
  have hcs : s.heap.size + cells = s2.1 := by rw [e_s2]; exact hcs
  have hss : sl0 + slots = s2.2.1 := by rw [e_s2]; exact hss
  clear hP1 hz; generalize H1 = H at hH hS ⊢
  refine lv_aload_n hx hb dX13_init_9 rfl (lv_at hl 0 rfl) ?_
  refine lv_iload_n hx hb dX13_init_10 rfl (lv_at hl 2 rfl) ?_
  obtain ⟨f3, hf3, hf⟩ := dz_bo hf
  obtain ⟨ha_f3, he_f3, hk_f3⟩ := zwo_o hf3
  refine va_put (C := RX13) (T := TX13) (N := 3) hx hb hts in_X13 tyX13 tyX13_ok nmX13 hown hX.K hH.2.2 zw_D hS _ (zw_o ha_f3 he_f3) rfl 1 (by decide) (hts _ q687) (fun _ hq => hq) rfl rfl rfl rfl hk_f3 dX13_init_11 (fun H1 locs hP1 _ hS => dz_size (fun hz => ?_))
  obtain ⟨s4, e_s4, hf⟩ := dz_lo hf
  have hH := zH_put (x := .inr (11, f3.set 1 (.int a1))) hH hcs ha_f3 hP1 hz
  rw [← e_s4] at hH
  have hcs : s.heap.size + cells = s4.1 := by rw [e_s4]; exact hcs
  have hss : sl0 + slots = s4.2.1 := by rw [e_s4]; exact hss
  clear hP1 hz; generalize H1 = H at hH hS ⊢
  refine lv_aload_n hx hb dX13_init_14 rfl (lv_at hl 0 rfl) ?_
  refine lv_iload hx hb dX13_init_15 (lv_at hl 3 rfl) ?_
  obtain ⟨f5, hf5, hf⟩ := dz_bo hf
  obtain ⟨ha_f5, he_f5, hk_f5⟩ := zwo_o hf5
  refine va_put (C := RX13) (T := TX13) (N := 3) hx hb hts in_X13 tyX13 tyX13_ok nmX13 hown hX.K hH.2.2 zw_D hS _ (zw_o ha_f5 he_f5) rfl 2 (by decide) (hts _ q690) (fun _ hq => hq) rfl rfl rfl rfl hk_f5 dX13_init_17 (fun H1 locs hP1 _ hS => dz_size (fun hz => ?_))
  obtain ⟨s6, e_s6, hf⟩ := dz_lo hf
  have hH := zH_put (x := .inr (11, f5.set 2 (.int a2))) hH hcs ha_f5 hP1 hz
  rw [← e_s6] at hH
  have hcs : s.heap.size + cells = s6.1 := by rw [e_s6]; exact hcs
  have hss : sl0 + slots = s6.2.1 := by rw [e_s6]; exact hss
  clear hP1 hz; generalize H1 = H at hH hS ⊢
  obtain ⟨hM1, hS1⟩ : cells = M ∧ slots = S := by have hq := congrArg Prod.snd (Option.some.inj hf); rw [← hq] at hM hS0; have hM : s.heap.size + M = s6.1 := hM; have hS0 : sl0 + S = s6.2.1 := hS0; omega
  refine W.widen (k := M) (n := S) (Nat.le_of_eq hM1) (Nat.le_of_eq hS1) ?_
  exact W.vret hx hb hr (fun t ht hW => ⟨⟨s6, rfl, Option.some.inj hf, z_at ht hH⟩, hS.F ht⟩) hS.2.2 dX13_init_20

noncomputable def fnX8_adds (K : Nat) (ζ : pZ) (h : Nat) (a0 : Nat) (τ : pH) : Option (Nat × pH) := dz_b (zob ζ τ h 10) fun f1 => dz_b (zvr (f1[0]?)) fun x2 => dz_b (zob ζ τ h 10) fun f3 => dz_b (zvi (f3[1]?)) fun x4 => if ζ.1 ≤ x2 ∧ x2 < τ.1 then (dz_c (zaq ζ τ x2 5) fun n5 f6 => if ¬ (x4 < 0 ∨ n5 ≤ Int32.toNatClampNeg x4) then (if ζ.1 ≤ a0 ∧ a0 < τ.1 then (dz_b (zob ζ τ a0 11) fun f11 => dz_l (zst τ x2 (.inl (5, n5, .inr (.inr (.inr (.inr (va_up f6 (Int32.toNatClampNeg x4) (some a0)))))))) fun s7 => dz_b (zob ζ s7 h 10) fun f12 => dz_b (zvi (f12[1]?)) fun x13 => dz_l (x13 + 1) fun x14 => dz_b (zwo ζ s7 h 10 1) fun f15 => dz_l (zst s7 h (.inr (10, f15.set 1 (.int x14)))) fun s16 => some (h, s16)) else none) else none) else none
set_option maxHeartbeats 4000000 in
set_option maxRecDepth 100000 in
theorem mtX8_adds (l : Launch) (D : va_G) (cA : Nat → ClassId) (ζ : pZ) (τ : pH) (h : Nat) (a0 : Nat) (K : Nat) (res : (Nat × pH)) (hf : fnX8_adds K ζ h a0 τ = some res) (M S : Nat) (hM : τ.1 + M = res.2.1) (hS0 : τ.2.1 + S = res.2.2.1) : Met l yX8_adds (ws_ yX8_adds cX8_adds 2 (some (.object "PrimeProofs$Rows"))) ({ frames := 0, cells := M, slots := S, locals := 0 }) (zPc D cA ζ τ [.ref h, .ref a0]) (zQr D cA ζ res) M S (zA ζ) := by
  refine Met.ofW (cc := cX8_adds) (maxL := 2) (ret := some (.object "PrimeProofs$Rows")) (by decide +kernel) rfl ?_
  intro p e s m args below meth c s₁ B hml hv
  obtain ⟨rfl, hX, hH⟩ := hv
  have hx := B.exec
  have hb := B.bytes
  have hr := B.returns
  have hts := atoms_spec (ws := ws_ yX8_adds cX8_adds 2 (some (.object "PrimeProofs$Rows"))) B.pre
  have hts : ∀ w ∈ lw_all, w.before _ s = true := fun w h => hts w (List.mem_cons_of_mem _ h)
  have hown : s.vm.findClass RX8 = some m.cls := findClass_of_methodNamed B.named
  have hlocks := B.notSynchronized
  have hM : s.heap.size + M = res.2.1 := by rw [hH.1]; exact hM
  have hcs : s.heap.size + 0 = τ.1 := hH.1
  have hss : τ.2.1 + 0 = τ.2.1 := rfl
  generalize hsl0 : τ.2.1 = sl0 at hS0 hss
  have hss : sl0 + 0 = τ.2.1 := by rw [hsl0]; rfl
  have hS : va_S (zA ζ) s.heap s.heap [] := va_S.rf
  generalize hHe : s.heap = H at hH hS ⊢
  have hS : va_S (zA ζ) s.heap H [] := by rw [hHe]; exact hS
  generalize ([] : List Loc) = locs at hS ⊢
  have hl := lv_entry ([.ref h, .ref a0]) (n := 2) (Nat.le_of_ble_eq_true rfl)
  rw [lg_entry_eq]
  generalize (lg_sl ([.ref h, .ref a0]) ++ List.replicate (2 - (lg_sl ([.ref h, .ref a0])).length) Slot.unset).toArray = ls at hl ⊢
  have hl : lv_has ls 2 [(0, .ref h), (1, .ref a0)] := hl
  have hf : (dz_b (zob ζ τ h 10) fun f1 => dz_b (zvr (f1[0]?)) fun x2 => dz_b (zob ζ τ h 10) fun f3 => dz_b (zvi (f3[1]?)) fun x4 => if ζ.1 ≤ x2 ∧ x2 < τ.1 then (dz_c (zaq ζ τ x2 5) fun n5 f6 => if ¬ (x4 < 0 ∨ n5 ≤ Int32.toNatClampNeg x4) then (if ζ.1 ≤ a0 ∧ a0 < τ.1 then (dz_b (zob ζ τ a0 11) fun f11 => dz_l (zst τ x2 (.inl (5, n5, .inr (.inr (.inr (.inr (va_up f6 (Int32.toNatClampNeg x4) (some a0)))))))) fun s7 => dz_b (zob ζ s7 h 10) fun f12 => dz_b (zvi (f12[1]?)) fun x13 => dz_l (x13 + 1) fun x14 => dz_b (zwo ζ s7 h 10 1) fun f15 => dz_l (zst s7 h (.inr (10, f15.set 1 (.int x14)))) fun s16 => some (h, s16)) else none) else none) else none : Option (Nat × pH)) = some res := hf
  refine z_gen (fun cells slots hc0 hs0 => ?_)
  have hcs : s.heap.size + cells = τ.1 := by rw [hc0]; exact hcs
  have hss : sl0 + slots = τ.2.1 := by rw [hs0]; exact hss
  have hcM : cells ≤ M ∧ slots ≤ S := by rw [hc0, hs0]; exact ⟨Nat.zero_le _, Nat.zero_le _⟩
  clear hc0 hs0
  refine lv_aload_n hx hb dX8_adds_0 rfl (lv_at hl 0 rfl) ?_
  obtain ⟨f1, hf1, hf⟩ := dz_bo hf
  obtain ⟨x2, hx2, hf⟩ := dz_bo hf
  refine va_get (C := RX8) (T := TX8) (N := 2) hx hb hts in_X8 hown hX.K (zrd_P hX hS hH (zob_o hf1)) 0 rfl rfl 0 (by decide) (hts _ q515) (fun _ hq => hq) (zvr_o hx2) dX8_adds_1 ?_
  refine lv_aload_n hx hb dX8_adds_4 rfl (lv_at hl 0 rfl) ?_
  obtain ⟨f3, hf3, hf⟩ := dz_bo hf
  obtain ⟨x4, hx4, hf⟩ := dz_bo hf
  refine va_get (C := RX8) (T := TX8) (N := 2) hx hb hts in_X8 hown hX.K (zrd_P hX hS hH (zob_o hf3)) 0 rfl rfl 1 (by decide) (hts _ q521) (fun _ hq => hq) (zvi_o hx4) dX8_adds_5 ?_
  refine lv_aload_n hx hb dX8_adds_8 rfl (lv_at hl 1 rfl) ?_
  obtain ⟨g8, hf⟩ := dz_go hf
  obtain ⟨n5, f6, hn5, hf⟩ := dz_co hf
  obtain ⟨g9, hf⟩ := dz_go hf
  obtain ⟨g10, hf⟩ := dz_go hf
  obtain ⟨f11, hf11, hf⟩ := dz_bo hf
  refine va_astq hx hb hX.K hH.2.2 zw_D hS _ 5 _ 11 (r := (RX13, TX13, 3)) (zw_a g8 (zrd_w (zaq_o hn5) g8)) rfl (zw_o g10 (zrd_w (zob_o hf11) g10)) rfl g9 dX8_adds_9 (fun H1 locs hP1 _ hS => dz_size (fun hz => ?_))
  obtain ⟨s7, e_s7, hf⟩ := dz_lo hf
  have hH := zH_put (x := (.inl (5, n5, .inr (.inr (.inr (.inr (va_up f6 (Int32.toNatClampNeg x4) (some a0)))))))) hH hcs g8 hP1 hz
  rw [← e_s7] at hH
  have hcs : s.heap.size + cells = s7.1 := by rw [e_s7]; exact hcs
  have hss : sl0 + slots = s7.2.1 := by rw [e_s7]; exact hss
  clear hP1 hz; generalize H1 = H at hH hS ⊢
  refine lv_aload_n hx hb dX8_adds_10 rfl (lv_at hl 0 rfl) ?_
  refine lv_dup hx hb dX8_adds_11 rfl ?_
  obtain ⟨f12, hf12, hf⟩ := dz_bo hf
  obtain ⟨x13, hx13, hf⟩ := dz_bo hf
  refine va_get (C := RX8) (T := TX8) (N := 2) hx hb hts in_X8 hown hX.K (zrd_P hX hS hH (zob_o hf12)) 0 rfl rfl 1 (by decide) (hts _ q521) (fun _ hq => hq) (zvi_o hx13) dX8_adds_12 ?_
  refine lv_iconst (v := 1) hx hb dX8_adds_15 (by decide) ?_
  refine lv_iadd hx hb dX8_adds_16 ?_
  refine lv_topi (fun x14 e_x14 => ?_)
  have hf := dz_ls e_x14 hf
  obtain ⟨f15, hf15, hf⟩ := dz_bo hf
  obtain ⟨ha_f15, he_f15, hk_f15⟩ := zwo_o hf15
  refine va_put (C := RX8) (T := TX8) (N := 2) hx hb hts in_X8 tyX8 tyX8_ok nmX8 hown hX.K hH.2.2 zw_D hS _ (zw_o ha_f15 he_f15) rfl 1 (by decide) (hts _ q521) (fun _ hq => hq) rfl rfl rfl rfl hk_f15 dX8_adds_17 (fun H1 locs hP1 _ hS => dz_size (fun hz => ?_))
  obtain ⟨s16, e_s16, hf⟩ := dz_lo hf
  have hH := zH_put (x := .inr (10, f15.set 1 (.int x14))) hH hcs ha_f15 hP1 hz
  rw [← e_s16] at hH
  have hcs : s.heap.size + cells = s16.1 := by rw [e_s16]; exact hcs
  have hss : sl0 + slots = s16.2.1 := by rw [e_s16]; exact hss
  clear hP1 hz; generalize H1 = H at hH hS ⊢
  refine lv_aload_n hx hb dX8_adds_20 rfl (lv_at hl 0 rfl) ?_
  obtain ⟨hM1, hS1⟩ : cells = M ∧ slots = S := by have hq := congrArg Prod.snd (Option.some.inj hf); rw [← hq] at hM hS0; have hM : s.heap.size + M = s16.1 := hM; have hS0 : sl0 + S = s16.2.1 := hS0; omega
  refine W.widen (k := M) (n := S) (Nat.le_of_eq hM1) (Nat.le_of_eq hS1) ?_
  exact W.aret (v := .ref h) hx hb hr (Or.inl ⟨_, rfl⟩) (Or.inr ⟨_, rfl⟩) (fun t ht hW => ⟨⟨s16, h, rfl, trivial, Option.some.inj hf, z_at ht hH⟩, hS.F ht⟩) hS.2.2 dX8_adds_21

