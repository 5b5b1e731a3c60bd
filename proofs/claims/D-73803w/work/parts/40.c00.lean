noncomputable def fnJ0_init_14 (K : Nat) (ζ : pZ) (h : Nat) (τ : pH) : Option (Unit × pH) := some ((), τ)
set_option maxHeartbeats 4000000 in
set_option maxRecDepth 100000 in
theorem mtJ0_init_14 (l : Launch) (D : va_G) (cA : Nat → ClassId) (ζ : pZ) (τ : pH) (h : Nat) (K : Nat) (res : (Unit × pH)) (hf : fnJ0_init_14 K ζ h τ = some res) (M S : Nat) (hM : τ.1 + M = res.2.1) (hS0 : τ.2.1 + S = res.2.2.1) : Met l yJ0_init (ws_ yJ0_init cJ0_init 1 (none)) ({ frames := 1, cells := M, slots := S, locals := 20 }) (zPc D cA ζ τ [.ref h]) (zQv D cA ζ res) M S (zA ζ) := by
  refine Met.ofW (cc := cJ0_init) (maxL := 1) (ret := none) (by decide +kernel) rfl ?_
  intro p e s m args below meth c s₁ B hml hv
  obtain ⟨rfl, hX, hH⟩ := hv
  have hx := B.exec
  have hb := B.bytes
  have hr := B.returns
  have hts := atoms_spec (ws := ws_ yJ0_init cJ0_init 1 (none)) B.pre
  have hts : ∀ w ∈ lw_all, w.before _ s = true := fun w h => hts w (List.mem_cons_of_mem _ h)
  have hown : s.vm.findClass RJ0 = some m.cls := findClass_of_methodNamed B.named
  have hlocks := B.notSynchronized
  have hin : meth.name = "<init>" := (name_of_methodNamed B.named B.method).1
  have hM : s.heap.size + M = res.2.1 := by rw [hH.1]; exact hM
  have hcs : s.heap.size + 0 = τ.1 := hH.1
  have hss : τ.2.1 + 0 = τ.2.1 := rfl
  generalize hsl0 : τ.2.1 = sl0 at hS0 hss
  have hss : sl0 + 0 = τ.2.1 := by rw [hsl0]; rfl
  have hS : va_S (zA ζ) s.heap s.heap [] := va_S.rf
  generalize hHe : s.heap = H at hH hS ⊢
  have hS : va_S (zA ζ) s.heap H [] := by rw [hHe]; exact hS
  generalize ([] : List Loc) = locs at hS ⊢
  have hl := lv_entry ([.ref h]) (n := 1) (Nat.le_of_ble_eq_true rfl)
  rw [lg_entry_eq]
  generalize (lg_sl ([.ref h]) ++ List.replicate (1 - (lg_sl ([.ref h])).length) Slot.unset).toArray = ls at hl ⊢
  have hl : lv_has ls 1 [(0, .ref h)] := hl
  have hf : (some ((), τ) : Option (Unit × pH)) = some res := hf
  refine z_gen (fun cells slots hc0 hs0 => ?_)
  have hcs : s.heap.size + cells = τ.1 := by rw [hc0]; exact hcs
  have hss : sl0 + slots = τ.2.1 := by rw [hs0]; exact hss
  have hcM : cells ≤ M ∧ slots ≤ S := by rw [hc0, hs0]; exact ⟨Nat.zero_le _, Nat.zero_le _⟩
  clear hc0 hs0
  refine lv_aload_n hx hb dJ0_init_0 rfl (lv_at hl 0 rfl) ?_
  refine W.objInit hx hb hown (hts _ q138) (hts _ q125) (hts _ q126) rfl (by rw [hml]; exact hl.1) rfl dJ0_init_1 (Nat.le_of_ble_eq_true rfl) (Nat.le_of_ble_eq_true rfl) ?_
  refine W.eq (g2 := F0 m 4 ls []) rfl ?_
  obtain ⟨hM1, hS1⟩ : cells = M ∧ slots = S := by have hq := congrArg Prod.snd (Option.some.inj hf); rw [← hq] at hM hS0; have hM : s.heap.size + M = τ.1 := hM; have hS0 : sl0 + S = τ.2.1 := hS0; omega
  refine W.widen (k := M) (n := S) (Nat.le_of_eq hM1) (Nat.le_of_eq hS1) ?_
  exact W.vret hx hb hr (fun t ht hW => ⟨⟨τ, rfl, Option.some.inj hf, z_at ht hH⟩, hS.F ht⟩) hS.2.2 dJ0_init_4

noncomputable def fnJ1_init_14 (K : Nat) (ζ : pZ) (h : Nat) (τ : pH) : Option (Unit × pH) := zcl τ (fnJ0_init_14 K ζ h τ) fun _ s2 => dz_b (zwo ζ s2 h 14 0) fun f3 => dz_l (zst s2 h (.inr (14, f3.set 0 (.int 0)))) fun s4 => some ((), s4)
set_option maxHeartbeats 4000000 in
set_option maxRecDepth 100000 in
theorem mtJ1_init_14 (l : Launch) (D : va_G) (cA : Nat → ClassId) (ζ : pZ) (τ : pH) (h : Nat) (K : Nat) (res : (Unit × pH)) (hf : fnJ1_init_14 K ζ h τ = some res) (M S : Nat) (hM : τ.1 + M = res.2.1) (hS0 : τ.2.1 + S = res.2.2.1) : Met l yJ1_init (ws_ yJ1_init cJ1_init 1 (none)) ({ frames := 2, cells := M, slots := S, locals := 40 }) (zPc D cA ζ τ [.ref h]) (zQv D cA ζ res) M S (zA ζ) := by
  refine Met.ofW (cc := cJ1_init) (maxL := 1) (ret := none) (by decide +kernel) rfl ?_
  intro p e s m args below meth c s₁ B hml hv
  obtain ⟨rfl, hX, hH⟩ := hv
  have hx := B.exec
  have hb := B.bytes
  have hr := B.returns
  have hts := atoms_spec (ws := ws_ yJ1_init cJ1_init 1 (none)) B.pre
  have hts : ∀ w ∈ lw_all, w.before _ s = true := fun w h => hts w (List.mem_cons_of_mem _ h)
  have hown : s.vm.findClass RJ1 = some m.cls := findClass_of_methodNamed B.named
  have hlocks := B.notSynchronized
  have hin : meth.name = "<init>" := (name_of_methodNamed B.named B.method).1
  have hM : s.heap.size + M = res.2.1 := by rw [hH.1]; exact hM
  have hcs : s.heap.size + 0 = τ.1 := hH.1
  have hss : τ.2.1 + 0 = τ.2.1 := rfl
  generalize hsl0 : τ.2.1 = sl0 at hS0 hss
  have hss : sl0 + 0 = τ.2.1 := by rw [hsl0]; rfl
  have hS : va_S (zA ζ) s.heap s.heap [] := va_S.rf
  generalize hHe : s.heap = H at hH hS ⊢
  have hS : va_S (zA ζ) s.heap H [] := by rw [hHe]; exact hS
  generalize ([] : List Loc) = locs at hS ⊢
  have hl := lv_entry ([.ref h]) (n := 1) (Nat.le_of_ble_eq_true rfl)
  rw [lg_entry_eq]
  generalize (lg_sl ([.ref h]) ++ List.replicate (1 - (lg_sl ([.ref h])).length) Slot.unset).toArray = ls at hl ⊢
  have hl : lv_has ls 1 [(0, .ref h)] := hl
  have hf : (zcl τ (fnJ0_init_14 K ζ h τ) fun _ s2 => dz_b (zwo ζ s2 h 14 0) fun f3 => dz_l (zst s2 h (.inr (14, f3.set 0 (.int 0)))) fun s4 => some ((), s4) : Option (Unit × pH)) = some res := hf
  refine z_gen (fun cells slots hc0 hs0 => ?_)
  have hcs : s.heap.size + cells = τ.1 := by rw [hc0]; exact hcs
  have hss : sl0 + slots = τ.2.1 := by rw [hs0]; exact hss
  have hcM : cells ≤ M ∧ slots ≤ S := by rw [hc0, hs0]; exact ⟨Nat.zero_le _, Nat.zero_le _⟩
  clear hc0 hs0
  refine lv_aload_n hx hb dJ1_init_0 rfl (lv_at hl 0 rfl) ?_
  obtain ⟨x1, s2, hx1, hle, hck, hf⟩ := zcl_o hf
  have hc1 : cells + (s2.1 - τ.1) ≤ M := by omega
  have hs1 : slots + (s2.2.1 - τ.2.1) ≤ S := by omega
  refine va_callv (va_runI (As := []) (rest := []) ⟨hx, hb, hml, hown, hts⟩ (mtJ0_init_14 l D cA ζ τ h K (x1, s2) hx1 (s2.1 - τ.1) (s2.2.1 - τ.2.1) (Nat.add_sub_cancel' hle.1) (Nat.add_sub_cancel' hle.2)) (cwI 0 hts (lw_meth q137) rfl rfl rfl (hts _ q85) (hts _ q135) (hts _ q136) rfl (by decide +kernel) ⟨Nat.le_of_ble_eq_true rfl, Nat.le_of_ble_eq_true rfl⟩) (z_preS hX hS hH) rfl rfl hl.1 rfl (lv_room (Nat.le_of_ble_eq_true rfl)) dJ1_init_1 ⟨hc1, hs1⟩) hS (fun q _ hq => hq) (fun q hq => hq) (fun u t H1 locs ht hvm hw hB hz hk hS => ?_)
  obtain ⟨-, hw2⟩ := Prod.mk.inj hw.symm; subst hw2
  have hH : zH D cA ζ s2 H1 := z_at ht.symm hB
  have hcs : s.heap.size + (cells + (s2.1 - τ.1)) = s2.1 := by omega
  have hss : sl0 + (slots + (s2.2.1 - τ.2.1)) = s2.2.1 := by omega
  replace hcM := And.intro hc1 hs1
  generalize cells + (s2.1 - τ.1) = cells at hcs hcM ⊢; generalize slots + (s2.2.1 - τ.2.1) = slots at hss hcM ⊢
  clear hB hk hz hvm ht hle hck hc1 hs1; generalize H1 = H at hH hS ⊢
  refine lv_aload_n hx hb dJ1_init_4 rfl (lv_at hl 0 rfl) ?_
  refine lv_iconst (v := 0) hx hb dJ1_init_5 (by decide) ?_
  obtain ⟨f3, hf3, hf⟩ := dz_bo hf
  obtain ⟨ha_f3, he_f3, hk_f3⟩ := zwo_o hf3
  refine va_put (C := RJ2) (T := TJ2) (N := 3) hx hb hts in_J2 tyJ2 tyJ2_ok nmJ2 hown hX.K hH.2.2 zw_D hS _ (zw_o ha_f3 he_f3) rfl 0 (by decide) (hts _ q145) (fun _ hq => hq) rfl rfl rfl rfl hk_f3 dJ1_init_6 (fun H1 locs hP1 _ hS => dz_size (fun hz => ?_))
  obtain ⟨s4, e_s4, hf⟩ := dz_lo hf
  have hH := zH_put (x := .inr (14, f3.set 0 (.int 0))) hH hcs ha_f3 hP1 hz
  rw [← e_s4] at hH
  have hcs : s.heap.size + cells = s4.1 := by rw [e_s4]; exact hcs
  have hss : sl0 + slots = s4.2.1 := by rw [e_s4]; exact hss
  clear hP1 hz; generalize H1 = H at hH hS ⊢
  obtain ⟨hM1, hS1⟩ : cells = M ∧ slots = S := by have hq := congrArg Prod.snd (Option.some.inj hf); rw [← hq] at hM hS0; have hM : s.heap.size + M = s4.1 := hM; have hS0 : sl0 + S = s4.2.1 := hS0; omega
  refine W.widen (k := M) (n := S) (Nat.le_of_eq hM1) (Nat.le_of_eq hS1) ?_
  exact W.vret hx hb hr (fun t ht hW => ⟨⟨s4, rfl, Option.some.inj hf, z_at ht hH⟩, hS.F ht⟩) hS.2.2 dJ1_init_9

noncomputable def fnJ2_init (K : Nat) (ζ : pZ) (h : Nat) (τ : pH) : Option (Unit × pH) := zcl τ (fnJ1_init_14 K ζ h τ) fun _ s2 => dz_b (zwo ζ s2 h 14 1) fun f3 => dz_l (zst s2 h (.inr (14, f3.set 1 (.ref (ζ.2.2.2 0))))) fun s4 => some ((), s4)
set_option maxHeartbeats 4000000 in
set_option maxRecDepth 100000 in
theorem mtJ2_init (l : Launch) (D : va_G) (cA : Nat → ClassId) (ζ : pZ) (τ : pH) (h : Nat) (K : Nat) (res : (Unit × pH)) (hf : fnJ2_init K ζ h τ = some res) (M S : Nat) (hM : τ.1 + M = res.2.1) (hS0 : τ.2.1 + S = res.2.2.1) : Met l yJ2_init (ws_ yJ2_init cJ2_init 1 (none)) ({ frames := 3, cells := M, slots := S, locals := 60 }) (zPc D cA ζ τ [.ref h]) (zQv D cA ζ res) M S (zA ζ) := by
  refine Met.ofW (cc := cJ2_init) (maxL := 1) (ret := none) (by decide +kernel) rfl ?_
  intro p e s m args below meth c s₁ B hml hv
  obtain ⟨rfl, hX, hH⟩ := hv
  have hx := B.exec
  have hb := B.bytes
  have hr := B.returns
  have hts := atoms_spec (ws := ws_ yJ2_init cJ2_init 1 (none)) B.pre
  have hts : ∀ w ∈ lw_all, w.before _ s = true := fun w h => hts w (List.mem_cons_of_mem _ h)
  have hown : s.vm.findClass RJ2 = some m.cls := findClass_of_methodNamed B.named
  have hlocks := B.notSynchronized
  have hin : meth.name = "<init>" := (name_of_methodNamed B.named B.method).1
  have hM : s.heap.size + M = res.2.1 := by rw [hH.1]; exact hM
  have hcs : s.heap.size + 0 = τ.1 := hH.1
  have hss : τ.2.1 + 0 = τ.2.1 := rfl
  generalize hsl0 : τ.2.1 = sl0 at hS0 hss
  have hss : sl0 + 0 = τ.2.1 := by rw [hsl0]; rfl
  have hS : va_S (zA ζ) s.heap s.heap [] := va_S.rf
  generalize hHe : s.heap = H at hH hS ⊢
  have hS : va_S (zA ζ) s.heap H [] := by rw [hHe]; exact hS
  generalize ([] : List Loc) = locs at hS ⊢
  have hl := lv_entry ([.ref h]) (n := 1) (Nat.le_of_ble_eq_true rfl)
  rw [lg_entry_eq]
  generalize (lg_sl ([.ref h]) ++ List.replicate (1 - (lg_sl ([.ref h])).length) Slot.unset).toArray = ls at hl ⊢
  have hl : lv_has ls 1 [(0, .ref h)] := hl
  have hf : (zcl τ (fnJ1_init_14 K ζ h τ) fun _ s2 => dz_b (zwo ζ s2 h 14 1) fun f3 => dz_l (zst s2 h (.inr (14, f3.set 1 (.ref (ζ.2.2.2 0))))) fun s4 => some ((), s4) : Option (Unit × pH)) = some res := hf
  refine z_gen (fun cells slots hc0 hs0 => ?_)
  have hcs : s.heap.size + cells = τ.1 := by rw [hc0]; exact hcs
  have hss : sl0 + slots = τ.2.1 := by rw [hs0]; exact hss
  have hcM : cells ≤ M ∧ slots ≤ S := by rw [hc0, hs0]; exact ⟨Nat.zero_le _, Nat.zero_le _⟩
  clear hc0 hs0
  refine lv_aload_n hx hb dJ2_init_0 rfl (lv_at hl 0 rfl) ?_
  obtain ⟨x1, s2, hx1, hle, hck, hf⟩ := zcl_o hf
  have hc1 : cells + (s2.1 - τ.1) ≤ M := by omega
  have hs1 : slots + (s2.2.1 - τ.2.1) ≤ S := by omega
  refine va_callv (va_runI (As := []) (rest := []) ⟨hx, hb, hml, hown, hts⟩ (mtJ1_init_14 l D cA ζ τ h K (x1, s2) hx1 (s2.1 - τ.1) (s2.2.1 - τ.2.1) (Nat.add_sub_cancel' hle.1) (Nat.add_sub_cancel' hle.2)) (cwI 0 hts (lw_meth q134) rfl rfl rfl (hts _ q86) (hts _ q132) (hts _ q133) rfl (by decide +kernel) ⟨Nat.le_of_ble_eq_true rfl, Nat.le_of_ble_eq_true rfl⟩) (z_preS hX hS hH) rfl rfl hl.1 rfl (lv_room (Nat.le_of_ble_eq_true rfl)) dJ2_init_1 ⟨hc1, hs1⟩) hS (fun q _ hq => hq) (fun q hq => hq) (fun u t H1 locs ht hvm hw hB hz hk hS => ?_)
  obtain ⟨-, hw2⟩ := Prod.mk.inj hw.symm; subst hw2
  have hH : zH D cA ζ s2 H1 := z_at ht.symm hB
  have hcs : s.heap.size + (cells + (s2.1 - τ.1)) = s2.1 := by omega
  have hss : sl0 + (slots + (s2.2.1 - τ.2.1)) = s2.2.1 := by omega
  replace hcM := And.intro hc1 hs1
  generalize cells + (s2.1 - τ.1) = cells at hcs hcM ⊢; generalize slots + (s2.2.1 - τ.2.1) = slots at hss hcM ⊢
  clear hB hk hz hvm ht hle hck hc1 hs1; generalize H1 = H at hH hS ⊢
  refine lv_aload_n hx hb dJ2_init_4 rfl (lv_at hl 0 rfl) ?_
  refine va_gets (v := .ref (ζ.2.2.2 0)) hx hb hX.st.1.1 hS hown (hts _ q139) (fun _ hq => hq) dJ2_init_5 ?_
  obtain ⟨f3, hf3, hf⟩ := dz_bo hf
  obtain ⟨ha_f3, he_f3, hk_f3⟩ := zwo_o hf3
  refine va_put (C := RJ2) (T := TJ2) (N := 3) hx hb hts in_J2 tyJ2 tyJ2_ok nmJ2 hown hX.K hH.2.2 zw_D hS _ (zw_o ha_f3 he_f3) rfl 1 (by decide) (hts _ q141) (fun _ hq => hq) rfl rfl rfl rfl hk_f3 dJ2_init_8 (fun H1 locs hP1 _ hS => dz_size (fun hz => ?_))
  obtain ⟨s4, e_s4, hf⟩ := dz_lo hf
  have hH := zH_put (x := .inr (14, f3.set 1 (.ref (ζ.2.2.2 0)))) hH hcs ha_f3 hP1 hz
  rw [← e_s4] at hH
  have hcs : s.heap.size + cells = s4.1 := by rw [e_s4]; exact hcs
  have hss : sl0 + slots = s4.2.1 := by rw [e_s4]; exact hss
  clear hP1 hz; generalize H1 = H at hH hS ⊢
  obtain ⟨hM1, hS1⟩ : cells = M ∧ slots = S := by have hq := congrArg Prod.snd (Option.some.inj hf); rw [← hq] at hM hS0; have hM : s.heap.size + M = s4.1 := hM; have hS0 : sl0 + S = s4.2.1 := hS0; omega
  refine W.widen (k := M) (n := S) (Nat.le_of_eq hM1) (Nat.le_of_eq hS1) ?_
  exact W.vret hx hb hr (fun t ht hW => ⟨⟨s4, rfl, Option.some.inj hf, z_at ht hH⟩, hS.F ht⟩) hS.2.2 dJ2_init_11

noncomputable def fnX0_init (K : Nat) (ζ : pZ) (h : Nat) (τ : pH) : Option (Unit × pH) := dz_l τ.1 fun r1 => dz_l (znw τ 3 (.inr (14, [.int 0, .null, .int 0]))) fun s2 => zck s2 (zcl s2 (fnJ2_init K ζ r1 s2) fun _ s4 => dz_b (zwo ζ s4 h 0 0) fun f5 => dz_l (zst s4 h (.inr (0, f5.set 0 (.ref r1)))) fun s6 => dz_l s6.1 fun r7 => dz_l (znw s6 60 (.inl (3, (60, .inl (fun _ => 0))))) fun s8 => zck s8 (dz_b (zwo ζ s8 h 0 1) fun f9 => dz_l (zst s8 h (.inr (0, f9.set 1 (.ref r7)))) fun s10 => dz_l s10.1 fun r11 => dz_l (znw s10 400 (.inl (3, (400, .inl (fun _ => 0))))) fun s12 => zck s12 (dz_b (zwo ζ s12 h 0 3) fun f13 => dz_l (zst s12 h (.inr (0, f13.set 3 (.ref r11)))) fun s14 => dz_l s14.1 fun r15 => dz_l (znw s14 60 (.inl (1, (60, .inr (.inl (fun _ => 0)))))) fun s16 => zck s16 (dz_b (zwo ζ s16 h 0 5) fun f17 => dz_l (zst s16 h (.inr (0, f17.set 5 (.ref r15)))) fun s18 => dz_l s18.1 fun r19 => dz_l (znw s18 60 (.inl (0, (60, .inl (fun _ => 0))))) fun s20 => zck s20 (dz_b (zwo ζ s20 h 0 6) fun f21 => dz_l (zst s20 h (.inr (0, f21.set 6 (.ref r19)))) fun s22 => some ((), s22))))))
set_option maxHeartbeats 4000000 in
set_option maxRecDepth 100000 in
theorem mtX0_init (l : Launch) (D : va_G) (cA : Nat → ClassId) (ζ : pZ) (τ : pH) (h : Nat) (K : Nat) (res : (Unit × pH)) (hf : fnX0_init K ζ h τ = some res) (M S : Nat) (hM : τ.1 + M = res.2.1) (hS0 : τ.2.1 + S = res.2.2.1) : Met l yX0_init (ws_ yX0_init cX0_init 1 (none)) ({ frames := 4, cells := M, slots := S, locals := 80 }) (zPc D cA ζ τ [.ref h]) (zQv D cA ζ res) M S (zA ζ) := by
  refine Met.ofW (cc := cX0_init) (maxL := 1) (ret := none) (by decide +kernel) rfl ?_
  intro p e s m args below meth c s₁ B hml hv
  obtain ⟨rfl, hX, hH⟩ := hv
  have hx := B.exec
  have hb := B.bytes
  have hr := B.returns
  have hts := atoms_spec (ws := ws_ yX0_init cX0_init 1 (none)) B.pre
  have hts : ∀ w ∈ lw_all, w.before _ s = true := fun w h => hts w (List.mem_cons_of_mem _ h)
  have hown : s.vm.findClass RX0 = some m.cls := findClass_of_methodNamed B.named
  have hlocks := B.notSynchronized
  have hin : meth.name = "<init>" := (name_of_methodNamed B.named B.method).1
  have hM : s.heap.size + M = res.2.1 := by rw [hH.1]; exact hM
  have hcs : s.heap.size + 0 = τ.1 := hH.1
  have hss : τ.2.1 + 0 = τ.2.1 := rfl
  generalize hsl0 : τ.2.1 = sl0 at hS0 hss
  have hss : sl0 + 0 = τ.2.1 := by rw [hsl0]; rfl
  have hS : va_S (zA ζ) s.heap s.heap [] := va_S.rf
  generalize hHe : s.heap = H at hH hS ⊢
  have hS : va_S (zA ζ) s.heap H [] := by rw [hHe]; exact hS
  generalize ([] : List Loc) = locs at hS ⊢
  have hl := lv_entry ([.ref h]) (n := 1) (Nat.le_of_ble_eq_true rfl)
  rw [lg_entry_eq]
  generalize (lg_sl ([.ref h]) ++ List.replicate (1 - (lg_sl ([.ref h])).length) Slot.unset).toArray = ls at hl ⊢
  have hl : lv_has ls 1 [(0, .ref h)] := hl
  have hf : (dz_l τ.1 fun r1 => dz_l (znw τ 3 (.inr (14, [.int 0, .null, .int 0]))) fun s2 => zck s2 (zcl s2 (fnJ2_init K ζ r1 s2) fun _ s4 => dz_b (zwo ζ s4 h 0 0) fun f5 => dz_l (zst s4 h (.inr (0, f5.set 0 (.ref r1)))) fun s6 => dz_l s6.1 fun r7 => dz_l (znw s6 60 (.inl (3, (60, .inl (fun _ => 0))))) fun s8 => zck s8 (dz_b (zwo ζ s8 h 0 1) fun f9 => dz_l (zst s8 h (.inr (0, f9.set 1 (.ref r7)))) fun s10 => dz_l s10.1 fun r11 => dz_l (znw s10 400 (.inl (3, (400, .inl (fun _ => 0))))) fun s12 => zck s12 (dz_b (zwo ζ s12 h 0 3) fun f13 => dz_l (zst s12 h (.inr (0, f13.set 3 (.ref r11)))) fun s14 => dz_l s14.1 fun r15 => dz_l (znw s14 60 (.inl (1, (60, .inr (.inl (fun _ => 0)))))) fun s16 => zck s16 (dz_b (zwo ζ s16 h 0 5) fun f17 => dz_l (zst s16 h (.inr (0, f17.set 5 (.ref r15)))) fun s18 => dz_l s18.1 fun r19 => dz_l (znw s18 60 (.inl (0, (60, .inl (fun _ => 0))))) fun s20 => zck s20 (dz_b (zwo ζ s20 h 0 6) fun f21 => dz_l (zst s20 h (.inr (0, f21.set 6 (.ref r19)))) fun s22 => some ((), s22)))))) : Option (Unit × pH)) = some res := hf
  refine z_gen (fun cells slots hc0 hs0 => ?_)
  have hcs : s.heap.size + cells = τ.1 := by rw [hc0]; exact hcs
  have hss : sl0 + slots = τ.2.1 := by rw [hs0]; exact hss
  have hcM : cells ≤ M ∧ slots ≤ S := by rw [hc0, hs0]; exact ⟨Nat.zero_le _, Nat.zero_le _⟩
  clear hc0 hs0
  refine lv_aload_n hx hb dX0_init_0 rfl (lv_at hl 0 rfl) ?_
  refine W.objInit hx hb hown (hts _ q124) (hts _ q125) (hts _ q126) rfl (by rw [hml]; exact hl.1) rfl dX0_init_1 (Nat.le_of_ble_eq_true rfl) (Nat.le_of_ble_eq_true rfl) ?_
  refine W.eq (g2 := F0 m 4 ls []) rfl ?_
  refine lv_aload_n hx hb dX0_init_4 rfl (lv_at hl 0 rfl) ?_
  obtain ⟨r1, e_r1, hf⟩ := dz_lo hf
  obtain ⟨s2, e_s2, hf⟩ := dz_lo hf
  obtain ⟨hck, hf⟩ := zck_o hf
  have hc1 : cells + 1 ≤ M := by have hq := hck.1; rw [e_s2] at hq; have hq : τ.1 + 1 ≤ res.2.1 := hq; omega
  have hs1 : slots + 3 ≤ S := by have hq := hck.2; rw [e_s2] at hq; have hq : τ.2.1 + 3 ≤ res.2.2.1 := hq; omega
  refine va_new (ci := 14) (fs := [.int 0, .null, .int 0]) (C := RJ2) (T := TJ2) (N := 3) hx hb hts in_J2 tyJ2 tyJ2_ok hown (hts _ q127) (hts _ q128) (hts _ q87) hX.K hH.2.2 zw_D hS hX.hA rfl zdf_J2 hc1 hs1 dX0_init_5 (fun q H1 hP1 hD1 hS => dz_size (fun hz => ?_))
  obtain ⟨hq, hH⟩ := zH_new (n := 3) (x := (.inr (14, [.int 0, .null, .int 0]))) hH hcs hP1 hD1 hz
  rw [← e_s2] at hH; obtain rfl : r1 = q := e_r1.trans hq.symm
  have hcs : s.heap.size + (cells + 1) = s2.1 := by rw [e_s2]; show _ = τ.1 + 1; omega
  have hss : sl0 + (slots + 3) = s2.2.1 := by rw [e_s2]; show _ = τ.2.1 + 3; omega
  replace hcM := And.intro hc1 hs1
  generalize cells + 1 = cells at hcs hcM ⊢; generalize slots + 3 = slots at hss hcM ⊢
  clear hP1 hD1 hz hq hck hc1 hs1; generalize H1 = H at hH hS ⊢
  refine lv_dup hx hb dX0_init_8 rfl ?_
  obtain ⟨x3, s4, hx3, hle, hck, hf⟩ := zcl_o hf
  have hc1 : cells + (s4.1 - s2.1) ≤ M := by omega
  have hs1 : slots + (s4.2.1 - s2.2.1) ≤ S := by omega
  refine va_callv (va_runI (As := []) (rest := [.ref r1, .ref h]) ⟨hx, hb, hml, hown, hts⟩ (mtJ2_init l D cA ζ s2 r1 K (x3, s4) hx3 (s4.1 - s2.1) (s4.2.1 - s2.2.1) (Nat.add_sub_cancel' hle.1) (Nat.add_sub_cancel' hle.2)) (cwI 0 hts (lw_meth q131) rfl rfl rfl (hts _ q87) (hts _ q129) (hts _ q130) rfl (by decide +kernel) ⟨Nat.le_of_ble_eq_true rfl, Nat.le_of_ble_eq_true rfl⟩) (z_preS hX hS hH) rfl rfl hl.1 rfl (lv_room (Nat.le_of_ble_eq_true rfl)) dX0_init_9 ⟨hc1, hs1⟩) hS (fun q _ hq => hq) (fun q hq => hq) (fun u t H1 locs ht hvm hw hB hz hk hS => ?_)
  obtain ⟨-, hw2⟩ := Prod.mk.inj hw.symm; subst hw2
  have hH : zH D cA ζ s4 H1 := z_at ht.symm hB
  have hcs : s.heap.size + (cells + (s4.1 - s2.1)) = s4.1 := by omega
  have hss : sl0 + (slots + (s4.2.1 - s2.2.1)) = s4.2.1 := by omega
  replace hcM := And.intro hc1 hs1
  generalize cells + (s4.1 - s2.1) = cells at hcs hcM ⊢; generalize slots + (s4.2.1 - s2.2.1) = slots at hss hcM ⊢
  clear hB hk hz hvm ht hle hck hc1 hs1; generalize H1 = H at hH hS ⊢
  obtain ⟨f5, hf5, hf⟩ := dz_bo hf
  obtain ⟨ha_f5, he_f5, hk_f5⟩ := zwo_o hf5
  refine va_putF (C := RX0) (T := TX0) (N := 7) hx hb hts in_X0 tyX0 tyX0_ok nmX0 hown hX.K hH.2.2 zw_D hS _ (zw_o ha_f5 he_f5) rfl 0 (by decide) (hts _ q156) (fun _ hq => hq) rfl hin rfl rfl rfl rfl hk_f5 dX0_init_12 (fun H1 locs hP1 _ hS => dz_size (fun hz => ?_))
  obtain ⟨s6, e_s6, hf⟩ := dz_lo hf
  have hH := zH_put (x := .inr (0, f5.set 0 (.ref r1))) hH hcs ha_f5 hP1 hz
  rw [← e_s6] at hH
  have hcs : s.heap.size + cells = s6.1 := by rw [e_s6]; exact hcs
  have hss : sl0 + slots = s6.2.1 := by rw [e_s6]; exact hss
  clear hP1 hz; generalize H1 = H at hH hS ⊢
  refine lv_aload_n hx hb dX0_init_15 rfl (lv_at hl 0 rfl) ?_
  refine lv_bipush (v := 60) hx hb dX0_init_16 (by decide) ?_
  obtain ⟨r7, e_r7, hf⟩ := dz_lo hf
  obtain ⟨s8, e_s8, hf⟩ := dz_lo hf
  obtain ⟨hck, hf⟩ := zck_o hf
  have hc1 : cells + 1 ≤ M := by have hq := hck.1; rw [e_s8] at hq; have hq : s6.1 + 1 ≤ res.2.1 := hq; omega
  have hs1 : slots + 60 ≤ S := by have hq := hck.2; rw [e_s8] at hq; have hq : s6.2.1 + 60 ≤ res.2.2.1 := hq; omega
  refine va_newa (atype := .byte) (N' := 60) (a0 := (60, .inl (fun _ => 0))) hx hb (hts _ q180) rfl hX.K hH.2.2 zw_D hS hX.hA (fun _ => rfl) (by decide) rfl (by decide) hc1 hs1 dX0_init_18 (fun q cQ H1 hK1 hP1 hD1 hS => dz_size (fun hz => ?_))
  obtain rfl : cQ = cA 3 := zK_arr hX.K hK1 3 rfl
  obtain ⟨hq, hH⟩ := zH_new (n := 60) (x := (.inl (3, (60, .inl (fun _ => 0))))) hH hcs hP1 hD1 hz
  rw [← e_s8] at hH; obtain rfl : r7 = q := e_r7.trans hq.symm
  have hcs : s.heap.size + (cells + 1) = s8.1 := by rw [e_s8]; show _ = s6.1 + 1; omega
  have hss : sl0 + (slots + 60) = s8.2.1 := by rw [e_s8]; show _ = s6.2.1 + 60; omega
  replace hcM := And.intro hc1 hs1
  generalize cells + 1 = cells at hcs hcM ⊢; generalize slots + 60 = slots at hss hcM ⊢
  clear hP1 hD1 hz hq hck hc1 hs1; generalize H1 = H at hH hS ⊢
  obtain ⟨f9, hf9, hf⟩ := dz_bo hf
  obtain ⟨ha_f9, he_f9, hk_f9⟩ := zwo_o hf9
  refine va_putF (C := RX0) (T := TX0) (N := 7) hx hb hts in_X0 tyX0 tyX0_ok nmX0 hown hX.K hH.2.2 zw_D hS _ (zw_o ha_f9 he_f9) rfl 1 (by decide) (hts _ q157) (fun _ hq => hq) rfl hin rfl rfl rfl rfl hk_f9 dX0_init_20 (fun H1 locs hP1 _ hS => dz_size (fun hz => ?_))
  obtain ⟨s10, e_s10, hf⟩ := dz_lo hf
  have hH := zH_put (x := .inr (0, f9.set 1 (.ref r7))) hH hcs ha_f9 hP1 hz
  rw [← e_s10] at hH
  have hcs : s.heap.size + cells = s10.1 := by rw [e_s10]; exact hcs
  have hss : sl0 + slots = s10.2.1 := by rw [e_s10]; exact hss
  clear hP1 hz; generalize H1 = H at hH hS ⊢
  refine lv_aload_n hx hb dX0_init_23 rfl (lv_at hl 0 rfl) ?_
  refine lv_sipush (v := 400) hx hb dX0_init_24 (by decide) ?_
  obtain ⟨r11, e_r11, hf⟩ := dz_lo hf
  obtain ⟨s12, e_s12, hf⟩ := dz_lo hf
  obtain ⟨hck, hf⟩ := zck_o hf
  have hc1 : cells + 1 ≤ M := by have hq := hck.1; rw [e_s12] at hq; have hq : s10.1 + 1 ≤ res.2.1 := hq; omega
  have hs1 : slots + 400 ≤ S := by have hq := hck.2; rw [e_s12] at hq; have hq : s10.2.1 + 400 ≤ res.2.2.1 := hq; omega
  refine va_newa (atype := .byte) (N' := 400) (a0 := (400, .inl (fun _ => 0))) hx hb (hts _ q180) rfl hX.K hH.2.2 zw_D hS hX.hA (fun _ => rfl) (by decide) rfl (by decide) hc1 hs1 dX0_init_27 (fun q cQ H1 hK1 hP1 hD1 hS => dz_size (fun hz => ?_))
  obtain rfl : cQ = cA 3 := zK_arr hX.K hK1 3 rfl
  obtain ⟨hq, hH⟩ := zH_new (n := 400) (x := (.inl (3, (400, .inl (fun _ => 0))))) hH hcs hP1 hD1 hz
  rw [← e_s12] at hH; obtain rfl : r11 = q := e_r11.trans hq.symm
  have hcs : s.heap.size + (cells + 1) = s12.1 := by rw [e_s12]; show _ = s10.1 + 1; omega
  have hss : sl0 + (slots + 400) = s12.2.1 := by rw [e_s12]; show _ = s10.2.1 + 400; omega
  replace hcM := And.intro hc1 hs1
  generalize cells + 1 = cells at hcs hcM ⊢; generalize slots + 400 = slots at hss hcM ⊢
  clear hP1 hD1 hz hq hck hc1 hs1; generalize H1 = H at hH hS ⊢
  obtain ⟨f13, hf13, hf⟩ := dz_bo hf
  obtain ⟨ha_f13, he_f13, hk_f13⟩ := zwo_o hf13
  refine va_putF (C := RX0) (T := TX0) (N := 7) hx hb hts in_X0 tyX0 tyX0_ok nmX0 hown hX.K hH.2.2 zw_D hS _ (zw_o ha_f13 he_f13) rfl 3 (by decide) (hts _ q160) (fun _ hq => hq) rfl hin rfl rfl rfl rfl hk_f13 dX0_init_29 (fun H1 locs hP1 _ hS => dz_size (fun hz => ?_))
  obtain ⟨s14, e_s14, hf⟩ := dz_lo hf
  have hH := zH_put (x := .inr (0, f13.set 3 (.ref r11))) hH hcs ha_f13 hP1 hz
  rw [← e_s14] at hH
  have hcs : s.heap.size + cells = s14.1 := by rw [e_s14]; exact hcs
  have hss : sl0 + slots = s14.2.1 := by rw [e_s14]; exact hss
  clear hP1 hz; generalize H1 = H at hH hS ⊢
  refine lv_aload_n hx hb dX0_init_32 rfl (lv_at hl 0 rfl) ?_
  refine lv_bipush (v := 60) hx hb dX0_init_33 (by decide) ?_
  obtain ⟨r15, e_r15, hf⟩ := dz_lo hf
  obtain ⟨s16, e_s16, hf⟩ := dz_lo hf
  obtain ⟨hck, hf⟩ := zck_o hf
  have hc1 : cells + 1 ≤ M := by have hq := hck.1; rw [e_s16] at hq; have hq : s14.1 + 1 ≤ res.2.1 := hq; omega
  have hs1 : slots + 60 ≤ S := by have hq := hck.2; rw [e_s16] at hq; have hq : s14.2.1 + 60 ≤ res.2.2.1 := hq; omega
  refine va_newa (atype := .long) (N' := 60) (a0 := (60, .inr (.inl (fun _ => 0)))) hx hb (hts _ q181) rfl hX.K hH.2.2 zw_D hS hX.hA (fun _ => rfl) (by decide) rfl (by decide) hc1 hs1 dX0_init_35 (fun q cQ H1 hK1 hP1 hD1 hS => dz_size (fun hz => ?_))
  obtain rfl : cQ = cA 1 := zK_arr hX.K hK1 1 rfl
  obtain ⟨hq, hH⟩ := zH_new (n := 60) (x := (.inl (1, (60, .inr (.inl (fun _ => 0)))))) hH hcs hP1 hD1 hz
  rw [← e_s16] at hH; obtain rfl : r15 = q := e_r15.trans hq.symm
  have hcs : s.heap.size + (cells + 1) = s16.1 := by rw [e_s16]; show _ = s14.1 + 1; omega
  have hss : sl0 + (slots + 60) = s16.2.1 := by rw [e_s16]; show _ = s14.2.1 + 60; omega
  replace hcM := And.intro hc1 hs1
  generalize cells + 1 = cells at hcs hcM ⊢; generalize slots + 60 = slots at hss hcM ⊢
  clear hP1 hD1 hz hq hck hc1 hs1; generalize H1 = H at hH hS ⊢
  obtain ⟨f17, hf17, hf⟩ := dz_bo hf
  obtain ⟨ha_f17, he_f17, hk_f17⟩ := zwo_o hf17
  refine va_putF (C := RX0) (T := TX0) (N := 7) hx hb hts in_X0 tyX0 tyX0_ok nmX0 hown hX.K hH.2.2 zw_D hS _ (zw_o ha_f17 he_f17) rfl 5 (by decide) (hts _ q163) (fun _ hq => hq) rfl hin rfl rfl rfl rfl hk_f17 dX0_init_37 (fun H1 locs hP1 _ hS => dz_size (fun hz => ?_))
  obtain ⟨s18, e_s18, hf⟩ := dz_lo hf
  have hH := zH_put (x := .inr (0, f17.set 5 (.ref r15))) hH hcs ha_f17 hP1 hz
  rw [← e_s18] at hH
  have hcs : s.heap.size + cells = s18.1 := by rw [e_s18]; exact hcs
  have hss : sl0 + slots = s18.2.1 := by rw [e_s18]; exact hss
  clear hP1 hz; generalize H1 = H at hH hS ⊢
  refine lv_aload_n hx hb dX0_init_40 rfl (lv_at hl 0 rfl) ?_
  refine lv_bipush (v := 60) hx hb dX0_init_41 (by decide) ?_
  obtain ⟨r19, e_r19, hf⟩ := dz_lo hf
  obtain ⟨s20, e_s20, hf⟩ := dz_lo hf
  obtain ⟨hck, hf⟩ := zck_o hf
  have hc1 : cells + 1 ≤ M := by have hq := hck.1; rw [e_s20] at hq; have hq : s18.1 + 1 ≤ res.2.1 := hq; omega
  have hs1 : slots + 60 ≤ S := by have hq := hck.2; rw [e_s20] at hq; have hq : s18.2.1 + 60 ≤ res.2.2.1 := hq; omega
  refine va_newa (atype := .int) (N' := 60) (a0 := (60, .inl (fun _ => 0))) hx hb (hts _ q182) rfl hX.K hH.2.2 zw_D hS hX.hA (fun _ => rfl) (by decide) rfl (by decide) hc1 hs1 dX0_init_43 (fun q cQ H1 hK1 hP1 hD1 hS => dz_size (fun hz => ?_))
  obtain rfl : cQ = cA 0 := zK_arr hX.K hK1 0 rfl
  obtain ⟨hq, hH⟩ := zH_new (n := 60) (x := (.inl (0, (60, .inl (fun _ => 0))))) hH hcs hP1 hD1 hz
  rw [← e_s20] at hH; obtain rfl : r19 = q := e_r19.trans hq.symm
  have hcs : s.heap.size + (cells + 1) = s20.1 := by rw [e_s20]; show _ = s18.1 + 1; omega
  have hss : sl0 + (slots + 60) = s20.2.1 := by rw [e_s20]; show _ = s18.2.1 + 60; omega
  replace hcM := And.intro hc1 hs1
  generalize cells + 1 = cells at hcs hcM ⊢; generalize slots + 60 = slots at hss hcM ⊢
  clear hP1 hD1 hz hq hck hc1 hs1; generalize H1 = H at hH hS ⊢
  obtain ⟨f21, hf21, hf⟩ := dz_bo hf
  obtain ⟨ha_f21, he_f21, hk_f21⟩ := zwo_o hf21
  refine va_putF (C := RX0) (T := TX0) (N := 7) hx hb hts in_X0 tyX0 tyX0_ok nmX0 hown hX.K hH.2.2 zw_D hS _ (zw_o ha_f21 he_f21) rfl 6 (by decide) (hts _ q164) (fun _ hq => hq) rfl hin rfl rfl rfl rfl hk_f21 dX0_init_45 (fun H1 locs hP1 _ hS => dz_size (fun hz => ?_))
  obtain ⟨s22, e_s22, hf⟩ := dz_lo hf
  have hH := zH_put (x := .inr (0, f21.set 6 (.ref r19))) hH hcs ha_f21 hP1 hz
  rw [← e_s22] at hH
  have hcs : s.heap.size + cells = s22.1 := by rw [e_s22]; exact hcs
  have hss : sl0 + slots = s22.2.1 := by rw [e_s22]; exact hss
  clear hP1 hz; generalize H1 = H at hH hS ⊢
  obtain ⟨hM1, hS1⟩ : cells = M ∧ slots = S := by have hq := congrArg Prod.snd (Option.some.inj hf); rw [← hq] at hM hS0; have hM : s.heap.size + M = s22.1 := hM; have hS0 : sl0 + S = s22.2.1 := hS0; omega
  refine W.widen (k := M) (n := S) (Nat.le_of_eq hM1) (Nat.le_of_eq hS1) ?_
  exact W.vret hx hb hr (fun t ht hW => ⟨⟨s22, rfl, Option.some.inj hf, z_at ht hH⟩, hS.F ht⟩) hS.2.2 dX0_init_48

noncomputable def fnX0_isIn (K : Nat) (a0 : Int64) (a1 : Int64) (a2 : Int64) : Option Int32 := if a0 < a1 then (some 0) else (if a2 < a0 then (some 0) else (some 1))
set_option maxHeartbeats 4000000 in
set_option maxRecDepth 100000 in
theorem mtX0_isIn (l : Launch) (a0 : Int64) (a1 : Int64) (a2 : Int64) (K : Nat) (res : Int32) (hf : fnX0_isIn K a0 a1 a2 = some res) : Met l yX0_isIn (ws_ yX0_isIn cX0_isIn 6 (some .boolean)) ({ frames := 0, cells := 0, slots := 0, locals := 0 }) (dz_P [.long a0, .long a1, .long a2]) (dz_Qi res) 0 0 (fun _ => False) := by
  refine Met.ofW (cc := cX0_isIn) (maxL := 6) (ret := some .boolean) (by decide +kernel) rfl ?_
  intro p e s m args below meth c s₁ B hml hv
  obtain ⟨rfl, -⟩ := hv
  have hx := B.exec
  have hb := B.bytes
  have hr := B.returns
  have hts := atoms_spec (ws := ws_ yX0_isIn cX0_isIn 6 (some .boolean)) B.pre
  have hts : ∀ w ∈ lw_all, w.before _ s = true := fun w h => hts w (List.mem_cons_of_mem _ h)
  have hown : s.vm.findClass RX0 = some m.cls := findClass_of_methodNamed B.named
  have hlocks := B.notSynchronized
  have hS : va_S (fun _ => False) s.heap s.heap [] := va_S.rf
  generalize hHe : s.heap = H at hS ⊢
  have hS : va_S (fun _ => False) s.heap H [] := by rw [hHe]; exact hS
  generalize ([] : List Loc) = locs at hS ⊢
  have hl := lv_entry ([.long a0, .long a1, .long a2]) (n := 6) (Nat.le_of_ble_eq_true rfl)
  rw [lg_entry_eq]
  generalize (lg_sl ([.long a0, .long a1, .long a2]) ++ List.replicate (6 - (lg_sl ([.long a0, .long a1, .long a2])).length) Slot.unset).toArray = ls at hl ⊢
  have hl : lv_has ls 6 [(0, .long a0), (2, .long a1), (4, .long a2)] := hl
  have hf : (if a0 < a1 then (some 0) else (if a2 < a0 then (some 0) else (some 1)) : Option Int32) = some res := hf
  refine lv_lload_n hx hb dX0_isIn_0 rfl (lv_at hl 0 rfl) ?_
  refine lv_lload_n hx hb dX0_isIn_1 rfl (lv_at hl 1 rfl) ?_
  refine W.lcmp hx hb dX0_isIn_2 ?_
  refine lv_if_lt (tgt := 17) hx hb dX0_isIn_3 (by decide) (fun c3 => ?_) (fun c3 => ?_)
  · have c3 : a0 < a1 := (lg_cmp_lt _ _).mp c3
    have hf := dz_t c3 hf
    refine lv_iconst (v := 0) hx hb dX0_isIn_17 (by decide) ?_
    exact W.zret (v := 0) hx hb hr rfl (fun t ht hW => ⟨⟨0, (), rfl, Option.some.inj hf, trivial⟩, hS.F ht⟩) hS.2.2 dX0_isIn_18
  · have c3 : ¬ a0 < a1 := fun hq => c3 ((lg_cmp_lt _ _).mpr hq)
    have hf := dz_f c3 hf
    refine lv_lload_n hx hb dX0_isIn_6 rfl (lv_at hl 0 rfl) ?_
    refine lv_lload hx hb dX0_isIn_7 (lv_at hl 2 rfl) ?_
    refine W.lcmp hx hb dX0_isIn_9 ?_
    refine lv_if_gt (tgt := 17) hx hb dX0_isIn_10 (by decide) (fun c10 => ?_) (fun c10 => ?_)
    · have c10 : a2 < a0 := (lg_cmp_gt _ _).mp c10
      have hf := dz_t c10 hf
      refine lv_iconst (v := 0) hx hb dX0_isIn_17 (by decide) ?_
      exact W.zret (v := 0) hx hb hr rfl (fun t ht hW => ⟨⟨0, (), rfl, Option.some.inj hf, trivial⟩, hS.F ht⟩) hS.2.2 dX0_isIn_18
    · have c10 : ¬ a2 < a0 := fun hq => c10 ((lg_cmp_gt _ _).mpr hq)
      have hf := dz_f c10 hf
      refine lv_iconst (v := 1) hx hb dX0_isIn_13 (by decide) ?_
      refine lv_goto (tgt := 18) hx hb dX0_isIn_14 (by decide) ?_
      exact W.zret (v := 1) hx hb hr rfl (fun t ht hW => ⟨⟨1, (), rfl, Option.some.inj hf, trivial⟩, hS.F ht⟩) hS.2.2 dX0_isIn_18

noncomputable def fnX0_isNumber (K : Nat) (a0 : Int64) : Option Int32 := dz_b (fnX0_isIn K a0 2 1000000000) fun x1 => if x1 = 0 ∨ x1 = 1 then (some x1) else none
set_option maxHeartbeats 4000000 in
set_option maxRecDepth 100000 in
theorem mtX0_isNumber (l : Launch) (a0 : Int64) (K : Nat) (res : Int32) (hf : fnX0_isNumber K a0 = some res) : Met l yX0_isNumber (ws_ yX0_isNumber cX0_isNumber 2 (some .boolean)) ({ frames := 1, cells := 0, slots := 0, locals := 25 }) (dz_P [.long a0]) (dz_Qi res) 0 0 (fun _ => False) := by
  refine Met.ofW (cc := cX0_isNumber) (maxL := 2) (ret := some .boolean) (by decide +kernel) rfl ?_
  intro p e s m args below meth c s₁ B hml hv
  obtain ⟨rfl, -⟩ := hv
  have hx := B.exec
  have hb := B.bytes
  have hr := B.returns
  have hts := atoms_spec (ws := ws_ yX0_isNumber cX0_isNumber 2 (some .boolean)) B.pre
  have hts : ∀ w ∈ lw_all, w.before _ s = true := fun w h => hts w (List.mem_cons_of_mem _ h)
  have hown : s.vm.findClass RX0 = some m.cls := findClass_of_methodNamed B.named
  have hlocks := B.notSynchronized
  have hS : va_S (fun _ => False) s.heap s.heap [] := va_S.rf
  generalize hHe : s.heap = H at hS ⊢
  have hS : va_S (fun _ => False) s.heap H [] := by rw [hHe]; exact hS
  generalize ([] : List Loc) = locs at hS ⊢
  have hl := lv_entry ([.long a0]) (n := 2) (Nat.le_of_ble_eq_true rfl)
  rw [lg_entry_eq]
  generalize (lg_sl ([.long a0]) ++ List.replicate (2 - (lg_sl ([.long a0])).length) Slot.unset).toArray = ls at hl ⊢
  have hl : lv_has ls 2 [(0, .long a0)] := hl
  have hf : (dz_b (fnX0_isIn K a0 2 1000000000) fun x1 => if x1 = 0 ∨ x1 = 1 then (some x1) else none : Option Int32) = some res := hf
  refine lv_lload_n hx hb dX0_isNumber_0 rfl (lv_at hl 0 rfl) ?_
  refine lv_ldc2 (v := 2) hx hb hown (hts _ q194) dX0_isNumber_1 ?_
  refine lv_ldc2 (v := 1000000000) hx hb hown (hts _ q195) dX0_isNumber_4 ?_
  obtain ⟨x1, hx1, hf⟩ := dz_bo hf
  refine va_calli (va_runS (As := [.long a0, .long 2, .long 1000000000]) (rest := []) ⟨hx, hb, hml, hown, hts⟩ (mtX0_isIn l a0 2 1000000000 K x1 hx1) (va_cwS 3 hts (lw_S q188 q189 q84 q190) rfl rfl rfl (by decide +kernel) ⟨Nat.le_of_ble_eq_true rfl, Nat.le_of_ble_eq_true rfl⟩) ⟨fun a U g mk q => q, fun U hU hW => ⟨rfl, trivial⟩⟩ rfl rfl hl.1 rfl (lv_room (Nat.le_of_ble_eq_true rfl)) dX0_isNumber_7 ⟨Nat.le_refl _, Nat.le_refl _⟩) hS (fun q _ hq => hq.elim) (fun q hq => hq.elim) (fun r u t H1 locs ht hvm hw hB hz hk hS => ?_)
  replace hw := hw.symm; subst hw
  clear hB hk hz hvm ht; generalize H1 = H at hS ⊢
  obtain ⟨g2, hf⟩ := dz_go hf
  exact W.zret (v := x1) hx hb hr (dz_nz g2) (fun t ht hW => ⟨⟨x1, (), rfl, Option.some.inj hf, trivial⟩, hS.F ht⟩) hS.2.2 dX0_isNumber_10

noncomputable def fnJ2_elementData (K : Nat) (ζ : pZ) (h : Nat) (a0 : Int32) (τ : pH) : Option (Nat × pH) := dz_b (zob ζ τ h 14) fun f1 => dz_b (zvr (f1[1]?)) fun x2 => dz_c (zaq ζ τ x2 4) fun n3 f4 => if ¬ (a0 < 0 ∨ n3 ≤ Int32.toNatClampNeg a0) then (dz_b (f4 (Int32.toNatClampNeg a0)) fun x6 => some (x6, τ)) else none
set_option maxHeartbeats 4000000 in
set_option maxRecDepth 100000 in
theorem mtJ2_elementData (l : Launch) (D : va_G) (cA : Nat → ClassId) (ζ : pZ) (τ : pH) (h : Nat) (a0 : Int32) (K : Nat) (res : (Nat × pH)) (hf : fnJ2_elementData K ζ h a0 τ = some res) (M S : Nat) (hM : τ.1 + M = res.2.1) (hS0 : τ.2.1 + S = res.2.2.1) : Met l yJ2_elementData (ws_ yJ2_elementData cJ2_elementData 2 (some (.object "java/lang/Object"))) ({ frames := 0, cells := M, slots := S, locals := 0 }) (zPc D cA ζ τ [.ref h, .int a0]) (zQr D cA ζ res) M S (zA ζ) := by
  refine Met.ofW (cc := cJ2_elementData) (maxL := 2) (ret := some (.object "java/lang/Object")) (by decide +kernel) rfl ?_
  intro p e s m args below meth c s₁ B hml hv
  obtain ⟨rfl, hX, hH⟩ := hv
  have hx := B.exec
  have hb := B.bytes
  have hr := B.returns
  have hts := atoms_spec (ws := ws_ yJ2_elementData cJ2_elementData 2 (some (.object "java/lang/Object"))) B.pre
  have hts : ∀ w ∈ lw_all, w.before _ s = true := fun w h => hts w (List.mem_cons_of_mem _ h)
  have hown : s.vm.findClass RJ2 = some m.cls := findClass_of_methodNamed B.named
  have hlocks := B.notSynchronized
  have hM : s.heap.size + M = res.2.1 := by rw [hH.1]; exact hM
  have hcs : s.heap.size + 0 = τ.1 := hH.1
  have hss : τ.2.1 + 0 = τ.2.1 := rfl
  generalize hsl0 : τ.2.1 = sl0 at hS0 hss
  have hss : sl0 + 0 = τ.2.1 := by rw [hsl0]; rfl
  have hS : va_S (zA ζ) s.heap s.heap [] := va_S.rf
  generalize hHe : s.heap = H at hH hS ⊢
  have hS : va_S (zA ζ) s.heap H [] := by rw [hHe]; exact hS
  generalize ([] : List Loc) = locs at hS ⊢
  have hl := lv_entry ([.ref h, .int a0]) (n := 2) (Nat.le_of_ble_eq_true rfl)
  rw [lg_entry_eq]
  generalize (lg_sl ([.ref h, .int a0]) ++ List.replicate (2 - (lg_sl ([.ref h, .int a0])).length) Slot.unset).toArray = ls at hl ⊢
  have hl : lv_has ls 2 [(0, .ref h), (1, .int a0)] := hl
  have hf : (dz_b (zob ζ τ h 14) fun f1 => dz_b (zvr (f1[1]?)) fun x2 => dz_c (zaq ζ τ x2 4) fun n3 f4 => if ¬ (a0 < 0 ∨ n3 ≤ Int32.toNatClampNeg a0) then (dz_b (f4 (Int32.toNatClampNeg a0)) fun x6 => some (x6, τ)) else none : Option (Nat × pH)) = some res := hf
  refine z_gen (fun cells slots hc0 hs0 => ?_)
  have hcs : s.heap.size + cells = τ.1 := by rw [hc0]; exact hcs
  have hss : sl0 + slots = τ.2.1 := by rw [hs0]; exact hss
  have hcM : cells ≤ M ∧ slots ≤ S := by rw [hc0, hs0]; exact ⟨Nat.zero_le _, Nat.zero_le _⟩
  clear hc0 hs0
  refine lv_aload_n hx hb dJ2_elementData_0 rfl (lv_at hl 0 rfl) ?_
  obtain ⟨f1, hf1, hf⟩ := dz_bo hf
  obtain ⟨x2, hx2, hf⟩ := dz_bo hf
  refine va_get (C := RJ2) (T := TJ2) (N := 3) hx hb hts in_J2 hown hX.K (zrd_P hX hS hH (zob_o hf1)) 0 rfl rfl 1 (by decide) (hts _ q141) (fun _ hq => hq) (zvr_o hx2) dJ2_elementData_1 ?_
  refine lv_iload_n hx hb dJ2_elementData_4 rfl (lv_at hl 1 rfl) ?_
  obtain ⟨n3, f4, hn3, hf⟩ := dz_co hf
  obtain ⟨g5, hf⟩ := dz_go hf
  obtain ⟨x6, hx6, hf⟩ := dz_bo hf
  refine va_aldq hx hb hX.K (zrd_P hX hS hH (zaq_o hn3)) 0 4 rfl rfl g5 dJ2_elementData_5 ?_
  rw [hx6]
  refine W.eq (g2 := F0 m 6 ls (.ref x6 :: [])) rfl ?_
  obtain ⟨hM1, hS1⟩ : cells = M ∧ slots = S := by have hq := congrArg Prod.snd (Option.some.inj hf); rw [← hq] at hM hS0; have hM : s.heap.size + M = τ.1 := hM; have hS0 : sl0 + S = τ.2.1 := hS0; omega
  refine W.widen (k := M) (n := S) (Nat.le_of_eq hM1) (Nat.le_of_eq hS1) ?_
  exact W.aret (v := .ref x6) hx hb hr (Or.inl ⟨_, rfl⟩) (Or.inr ⟨_, rfl⟩) (fun t ht hW => ⟨⟨τ, x6, rfl, trivial, Option.some.inj hf, z_at ht hH⟩, hS.F ht⟩) hS.2.2 dJ2_elementData_6

noncomputable def lfJ4_checkIndex_n (K : Nat) (ζ : pZ) : Nat → (Int32 → Int32 → pH → Option (Int32 × pH)) := Nat.rec (motive := fun _ => (Int32 → Int32 → pH → Option (Int32 × pH))) (fun _ _ _ => none) (fun _ G => (fun v0 v1 τ => none))
noncomputable def fnJ4_checkIndex_n (K : Nat) (ζ : pZ) (a0 : Int32) (a1 : Int32) (τ : pH) : Option (Int32 × pH) := if a0 < (0 : Int32) then ((lfJ4_checkIndex_n K ζ K) a0 a1 τ) else (if a0 < a1 then (some (a0, τ)) else ((lfJ4_checkIndex_n K ζ K) a0 a1 τ))
set_option maxHeartbeats 4000000 in
set_option maxRecDepth 100000 in
theorem wlJ4_checkIndex_n {p : Program} {l : Launch} {e : Env} {s : State} {m : MethodId} {below : List Frame} {meth : Method} {c : Code} {D : va_G} {cA : Nat → ClassId} {ζ : pZ} (hX : zX D cA ζ s) (K : Nat) (res : (Int32 × pH)) (M S sl0 : Nat) (hM : s.heap.size + M = res.2.1) (hS0 : sl0 + S = res.2.2.1) (a0 : Int32) (a1 : Int32) (hx : p.tables.exec = Jvm.exec) (hb : c.code = cJ4_checkIndex) (hr : meth.sig.returnType = some .int) (hlocks : meth.locks = false) (hml : c.maxLocals = 3) (hown : s.vm.findClass RJ4 = some m.cls) (hts : ∀ w ∈ lw_all, w.before ([.int a0, .int a1, .null] : List Value).toArray s = true) : ∀ k : Nat, (∀ (v0 : Int32) (v1 : Int32) (τ : pH) (H : Heap) (locs : List Loc) (cells slots : Nat), zH D cA ζ τ H → va_S (zA ζ) s.heap H locs → s.heap.size + cells = τ.1 → sl0 + slots = τ.2.1 → cells ≤ M ∧ slots ≤ S → ∀ (ls : Array Slot), lv_has ls 3 [(0, .int v0), (1, .int v1), (2, .null)] → (lfJ4_checkIndex_n K ζ k) v0 v1 τ = some res → W p l e (headSpec (ws_ yJ4_checkIndex cJ4_checkIndex 3 (some .int)) ({ frames := 0, cells := M, slots := S, locals := 0 })).room s m ([.int a0, .int a1, .null] : List Value).toArray below meth c H locs cells slots (MQ below (zQi D cA ζ res) ([.int a0, .int a1, .null] : List Value).toArray s M S (zA ζ)) (F0 m 9 ls [])) := by
  intro k
  induction k with
  | zero =>
    exact fun _ _ _ _ _ _ _ _ _ _ _ _ _ _ hf => (by cases hf)
  | succ k ih =>
    · intro v0 v1 τ H locs cells slots hH hS hcs hss hcM ls hl hf
      have hf : (none : Option (Int32 × pH)) = some res := hf
      refine lv_aload_nN hx hb dJ4_checkIndex_9 rfl (lv_at hl 2 rfl) ?_
      refine lv_iload_n hx hb dJ4_checkIndex_10 rfl (lv_at hl 0 rfl) ?_
      refine lv_iload_n hx hb dJ4_checkIndex_11 rfl (lv_at hl 1 rfl) ?_
      cases hf
set_option maxHeartbeats 4000000 in
set_option maxRecDepth 100000 in
theorem mtJ4_checkIndex_n (l : Launch) (D : va_G) (cA : Nat → ClassId) (ζ : pZ) (τ : pH) (a0 : Int32) (a1 : Int32) (K : Nat) (res : (Int32 × pH)) (hf : fnJ4_checkIndex_n K ζ a0 a1 τ = some res) (M S : Nat) (hM : τ.1 + M = res.2.1) (hS0 : τ.2.1 + S = res.2.2.1) : Met l yJ4_checkIndex (ws_ yJ4_checkIndex cJ4_checkIndex 3 (some .int)) ({ frames := 0, cells := M, slots := S, locals := 0 }) (zPc D cA ζ τ [.int a0, .int a1, .null]) (zQi D cA ζ res) M S (zA ζ) := by
  refine Met.ofW (cc := cJ4_checkIndex) (maxL := 3) (ret := some .int) (by decide +kernel) rfl ?_
  intro p e s m args below meth c s₁ B hml hv
  obtain ⟨rfl, hX, hH⟩ := hv
  have hx := B.exec
  have hb := B.bytes
  have hr := B.returns
  have hts := atoms_spec (ws := ws_ yJ4_checkIndex cJ4_checkIndex 3 (some .int)) B.pre
  have hts : ∀ w ∈ lw_all, w.before _ s = true := fun w h => hts w (List.mem_cons_of_mem _ h)
  have hown : s.vm.findClass RJ4 = some m.cls := findClass_of_methodNamed B.named
  have hlocks := B.notSynchronized
  have hM : s.heap.size + M = res.2.1 := by rw [hH.1]; exact hM
  have hcs : s.heap.size + 0 = τ.1 := hH.1
  have hss : τ.2.1 + 0 = τ.2.1 := rfl
  generalize hsl0 : τ.2.1 = sl0 at hS0 hss
  have hss : sl0 + 0 = τ.2.1 := by rw [hsl0]; rfl
  have hS : va_S (zA ζ) s.heap s.heap [] := va_S.rf
  generalize hHe : s.heap = H at hH hS ⊢
  have hS : va_S (zA ζ) s.heap H [] := by rw [hHe]; exact hS
  generalize ([] : List Loc) = locs at hS ⊢
  have hl := lv_entry ([.int a0, .int a1, .null]) (n := 3) (Nat.le_of_ble_eq_true rfl)
  rw [lg_entry_eq]
  generalize (lg_sl ([.int a0, .int a1, .null]) ++ List.replicate (3 - (lg_sl ([.int a0, .int a1, .null])).length) Slot.unset).toArray = ls at hl ⊢
  have hl : lv_has ls 3 [(0, .int a0), (1, .int a1), (2, .null)] := hl
  have hf : (if a0 < (0 : Int32) then ((lfJ4_checkIndex_n K ζ K) a0 a1 τ) else (if a0 < a1 then (some (a0, τ)) else ((lfJ4_checkIndex_n K ζ K) a0 a1 τ)) : Option (Int32 × pH)) = some res := hf
  refine z_gen (fun cells slots hc0 hs0 => ?_)
  have hcs : s.heap.size + cells = τ.1 := by rw [hc0]; exact hcs
  have hss : sl0 + slots = τ.2.1 := by rw [hs0]; exact hss
  have hcM : cells ≤ M ∧ slots ≤ S := by rw [hc0, hs0]; exact ⟨Nat.zero_le _, Nat.zero_le _⟩
  clear hc0 hs0
  have ih := wlJ4_checkIndex_n (l := l) (e := e) (below := below) (D := D) (cA := cA) hX K res M S sl0 hM hS0 a0 a1 hx hb hr hlocks hml hown hts K
  refine lv_iload_n hx hb dJ4_checkIndex_0 rfl (lv_at hl 0 rfl) ?_
  refine lv_if_lt (tgt := 9) hx hb dJ4_checkIndex_1 (by decide) (fun c1 => ?_) (fun c1 => ?_)
  · have hf := dz_t c1 hf
    exact ih a0 a1 τ H locs cells slots hH hS hcs hss hcM ls (lv_sub hl [0, 1, 2] rfl) hf
  · have hf := dz_f c1 hf
    refine lv_iload_n hx hb dJ4_checkIndex_4 rfl (lv_at hl 0 rfl) ?_
    refine lv_iload_n hx hb dJ4_checkIndex_5 rfl (lv_at hl 1 rfl) ?_
    refine lv_icmp_lt (tgt := 16) hx hb dJ4_checkIndex_6 (by decide) (fun c6 => ?_) (fun c6 => ?_)
    · have hf := dz_t c6 hf
      refine lv_iload_n hx hb dJ4_checkIndex_16 rfl (lv_at hl 0 rfl) ?_
      obtain ⟨hM1, hS1⟩ : cells = M ∧ slots = S := by have hq := congrArg Prod.snd (Option.some.inj hf); rw [← hq] at hM hS0; have hM : s.heap.size + M = τ.1 := hM; have hS0 : sl0 + S = τ.2.1 := hS0; omega
      refine W.widen (k := M) (n := S) (Nat.le_of_eq hM1) (Nat.le_of_eq hS1) ?_
      exact W.iret (v := a0) hx hb hr (fun t ht hW => ⟨⟨a0, τ, rfl, Option.some.inj hf, z_at ht hH⟩, hS.F ht⟩) hS.2.2 dJ4_checkIndex_17
    · have hf := dz_f c6 hf
      exact ih a0 a1 τ H locs cells slots hH hS hcs hss hcM ls (lv_sub hl [0, 1, 2] rfl) hf

noncomputable def fnJ3_checkIndex (K : Nat) (ζ : pZ) (a0 : Int32) (a1 : Int32) (τ : pH) : Option (Int32 × pH) := zcl τ (fnJ4_checkIndex_n K ζ a0 a1 τ) fun x1 s2 => some (x1, s2)
set_option maxHeartbeats 4000000 in
set_option maxRecDepth 100000 in
theorem mtJ3_checkIndex (l : Launch) (D : va_G) (cA : Nat → ClassId) (ζ : pZ) (τ : pH) (a0 : Int32) (a1 : Int32) (K : Nat) (res : (Int32 × pH)) (hf : fnJ3_checkIndex K ζ a0 a1 τ = some res) (M S : Nat) (hM : τ.1 + M = res.2.1) (hS0 : τ.2.1 + S = res.2.2.1) : Met l yJ3_checkIndex (ws_ yJ3_checkIndex cJ3_checkIndex 2 (some .int)) ({ frames := 1, cells := M, slots := S, locals := 22 }) (zPc D cA ζ τ [.int a0, .int a1]) (zQi D cA ζ res) M S (zA ζ) := by
  refine Met.ofW (cc := cJ3_checkIndex) (maxL := 2) (ret := some .int) (by decide +kernel) rfl ?_
  intro p e s m args below meth c s₁ B hml hv
  obtain ⟨rfl, hX, hH⟩ := hv
  have hx := B.exec
  have hb := B.bytes
  have hr := B.returns
  have hts := atoms_spec (ws := ws_ yJ3_checkIndex cJ3_checkIndex 2 (some .int)) B.pre
  have hts : ∀ w ∈ lw_all, w.before _ s = true := fun w h => hts w (List.mem_cons_of_mem _ h)
  have hown : s.vm.findClass RJ3 = some m.cls := findClass_of_methodNamed B.named
  have hlocks := B.notSynchronized
  have hM : s.heap.size + M = res.2.1 := by rw [hH.1]; exact hM
  have hcs : s.heap.size + 0 = τ.1 := hH.1
  have hss : τ.2.1 + 0 = τ.2.1 := rfl
  generalize hsl0 : τ.2.1 = sl0 at hS0 hss
  have hss : sl0 + 0 = τ.2.1 := by rw [hsl0]; rfl
  have hS : va_S (zA ζ) s.heap s.heap [] := va_S.rf
  generalize hHe : s.heap = H at hH hS ⊢
  have hS : va_S (zA ζ) s.heap H [] := by rw [hHe]; exact hS
  generalize ([] : List Loc) = locs at hS ⊢
  have hl := lv_entry ([.int a0, .int a1]) (n := 2) (Nat.le_of_ble_eq_true rfl)
  rw [lg_entry_eq]
  generalize (lg_sl ([.int a0, .int a1]) ++ List.replicate (2 - (lg_sl ([.int a0, .int a1])).length) Slot.unset).toArray = ls at hl ⊢
  have hl : lv_has ls 2 [(0, .int a0), (1, .int a1)] := hl
  have hf : (zcl τ (fnJ4_checkIndex_n K ζ a0 a1 τ) fun x1 s2 => some (x1, s2) : Option (Int32 × pH)) = some res := hf
  refine z_gen (fun cells slots hc0 hs0 => ?_)
  have hcs : s.heap.size + cells = τ.1 := by rw [hc0]; exact hcs
  have hss : sl0 + slots = τ.2.1 := by rw [hs0]; exact hss
  have hcM : cells ≤ M ∧ slots ≤ S := by rw [hc0, hs0]; exact ⟨Nat.zero_le _, Nat.zero_le _⟩
  clear hc0 hs0
  refine lv_iload_n hx hb dJ3_checkIndex_0 rfl (lv_at hl 0 rfl) ?_
  refine lv_iload_n hx hb dJ3_checkIndex_1 rfl (lv_at hl 1 rfl) ?_
  refine lv_null hx hb dJ3_checkIndex_2 ?_
  obtain ⟨x1, s2, hx1, hle, hck, hf⟩ := zcl_o hf
  have hc1 : cells + (s2.1 - τ.1) ≤ M := by omega
  have hs1 : slots + (s2.2.1 - τ.2.1) ≤ S := by omega
  refine va_calli (va_runS (As := [.int a0, .int a1, .null]) (rest := []) ⟨hx, hb, hml, hown, hts⟩ (mtJ4_checkIndex_n l D cA ζ τ a0 a1 K (x1, s2) hx1 (s2.1 - τ.1) (s2.2.1 - τ.2.1) (Nat.add_sub_cancel' hle.1) (Nat.add_sub_cancel' hle.2)) (va_cwS 3 hts (lw_S q211 q212 q90 q213) rfl rfl rfl (by decide +kernel) ⟨Nat.le_of_ble_eq_true rfl, Nat.le_of_ble_eq_true rfl⟩) (z_preS hX hS hH) rfl rfl hl.1 rfl (lv_room (Nat.le_of_ble_eq_true rfl)) dJ3_checkIndex_3 ⟨hc1, hs1⟩) hS (fun q _ hq => hq) (fun q hq => hq) (fun r u t H1 locs ht hvm hw hB hz hk hS => ?_)
  obtain ⟨hw1, hw2⟩ := Prod.mk.inj hw.symm; subst hw1; subst hw2
  have hH : zH D cA ζ s2 H1 := z_at ht.symm hB
  have hcs : s.heap.size + (cells + (s2.1 - τ.1)) = s2.1 := by omega
  have hss : sl0 + (slots + (s2.2.1 - τ.2.1)) = s2.2.1 := by omega
  replace hcM := And.intro hc1 hs1
  generalize cells + (s2.1 - τ.1) = cells at hcs hcM ⊢; generalize slots + (s2.2.1 - τ.2.1) = slots at hss hcM ⊢
  clear hB hk hz hvm ht hle hck hc1 hs1; generalize H1 = H at hH hS ⊢
  obtain ⟨hM1, hS1⟩ : cells = M ∧ slots = S := by have hq := congrArg Prod.snd (Option.some.inj hf); rw [← hq] at hM hS0; have hM : s.heap.size + M = s2.1 := hM; have hS0 : sl0 + S = s2.2.1 := hS0; omega
  refine W.widen (k := M) (n := S) (Nat.le_of_eq hM1) (Nat.le_of_eq hS1) ?_
  exact W.iret (v := x1) hx hb hr (fun t ht hW => ⟨⟨x1, s2, rfl, Option.some.inj hf, z_at ht hH⟩, hS.F ht⟩) hS.2.2 dJ3_checkIndex_6

noncomputable def fnJ2_get (K : Nat) (ζ : pZ) (h : Nat) (a0 : Int32) (τ : pH) : Option (Nat × pH) := dz_b (zob ζ τ h 14) fun f1 => dz_b (zvi (f1[2]?)) fun x2 => zcl τ (fnJ3_checkIndex K ζ a0 x2 τ) fun x3 s4 => dz_b (zob ζ s4 h 14) fun f7 => zcl s4 (fnJ2_elementData K ζ h a0 s4) fun x5 s6 => some (x5, s6)
set_option maxHeartbeats 4000000 in
set_option maxRecDepth 100000 in
theorem mtJ2_get (l : Launch) (D : va_G) (cA : Nat → ClassId) (ζ : pZ) (τ : pH) (h : Nat) (a0 : Int32) (K : Nat) (res : (Nat × pH)) (hf : fnJ2_get K ζ h a0 τ = some res) (M S : Nat) (hM : τ.1 + M = res.2.1) (hS0 : τ.2.1 + S = res.2.2.1) : Met l yJ2_get (ws_ yJ2_get cJ2_get 2 (some (.object "java/lang/Object"))) ({ frames := 2, cells := M, slots := S, locals := 43 }) (zPc D cA ζ τ [.ref h, .int a0]) (zQr D cA ζ res) M S (zA ζ) := by
  refine Met.ofW (cc := cJ2_get) (maxL := 2) (ret := some (.object "java/lang/Object")) (by decide +kernel) rfl ?_
  intro p e s m args below meth c s₁ B hml hv
  obtain ⟨rfl, hX, hH⟩ := hv
  have hx := B.exec
  have hb := B.bytes
  have hr := B.returns
  have hts := atoms_spec (ws := ws_ yJ2_get cJ2_get 2 (some (.object "java/lang/Object"))) B.pre
  have hts : ∀ w ∈ lw_all, w.before _ s = true := fun w h => hts w (List.mem_cons_of_mem _ h)
  have hown : s.vm.findClass RJ2 = some m.cls := findClass_of_methodNamed B.named
  have hlocks := B.notSynchronized
  have hM : s.heap.size + M = res.2.1 := by rw [hH.1]; exact hM
  have hcs : s.heap.size + 0 = τ.1 := hH.1
  have hss : τ.2.1 + 0 = τ.2.1 := rfl
  generalize hsl0 : τ.2.1 = sl0 at hS0 hss
  have hss : sl0 + 0 = τ.2.1 := by rw [hsl0]; rfl
  have hS : va_S (zA ζ) s.heap s.heap [] := va_S.rf
  generalize hHe : s.heap = H at hH hS ⊢
  have hS : va_S (zA ζ) s.heap H [] := by rw [hHe]; exact hS
  generalize ([] : List Loc) = locs at hS ⊢
  have hl := lv_entry ([.ref h, .int a0]) (n := 2) (Nat.le_of_ble_eq_true rfl)
  rw [lg_entry_eq]
  generalize (lg_sl ([.ref h, .int a0]) ++ List.replicate (2 - (lg_sl ([.ref h, .int a0])).length) Slot.unset).toArray = ls at hl ⊢
  have hl : lv_has ls 2 [(0, .ref h), (1, .int a0)] := hl
  have hf : (dz_b (zob ζ τ h 14) fun f1 => dz_b (zvi (f1[2]?)) fun x2 => zcl τ (fnJ3_checkIndex K ζ a0 x2 τ) fun x3 s4 => dz_b (zob ζ s4 h 14) fun f7 => zcl s4 (fnJ2_elementData K ζ h a0 s4) fun x5 s6 => some (x5, s6) : Option (Nat × pH)) = some res := hf
  refine z_gen (fun cells slots hc0 hs0 => ?_)
  have hcs : s.heap.size + cells = τ.1 := by rw [hc0]; exact hcs
  have hss : sl0 + slots = τ.2.1 := by rw [hs0]; exact hss
  have hcM : cells ≤ M ∧ slots ≤ S := by rw [hc0, hs0]; exact ⟨Nat.zero_le _, Nat.zero_le _⟩
  clear hc0 hs0
  refine lv_iload_n hx hb dJ2_get_0 rfl (lv_at hl 1 rfl) ?_
  refine lv_aload_n hx hb dJ2_get_1 rfl (lv_at hl 0 rfl) ?_
  obtain ⟨f1, hf1, hf⟩ := dz_bo hf
  obtain ⟨x2, hx2, hf⟩ := dz_bo hf
  refine va_get (C := RJ2) (T := TJ2) (N := 3) hx hb hts in_J2 hown hX.K (zrd_P hX hS hH (zob_o hf1)) 0 rfl rfl 2 (by decide) (hts _ q144) (fun _ hq => hq) (zvi_o hx2) dJ2_get_2 ?_
  obtain ⟨x3, s4, hx3, hle, hck, hf⟩ := zcl_o hf
  have hc1 : cells + (s4.1 - τ.1) ≤ M := by omega
  have hs1 : slots + (s4.2.1 - τ.2.1) ≤ S := by omega
  refine va_calli (va_runS (As := [.int a0, .int x2]) (rest := []) ⟨hx, hb, hml, hown, hts⟩ (mtJ3_checkIndex l D cA ζ τ a0 x2 K (x3, s4) hx3 (s4.1 - τ.1) (s4.2.1 - τ.2.1) (Nat.add_sub_cancel' hle.1) (Nat.add_sub_cancel' hle.2)) (va_cwS 2 hts (lw_S q208 q209 q89 q210) rfl rfl rfl (by decide +kernel) ⟨Nat.le_of_ble_eq_true rfl, Nat.le_of_ble_eq_true rfl⟩) (z_preS hX hS hH) rfl rfl hl.1 rfl (lv_room (Nat.le_of_ble_eq_true rfl)) dJ2_get_5 ⟨hc1, hs1⟩) hS (fun q _ hq => hq) (fun q hq => hq) (fun r u t H1 locs ht hvm hw hB hz hk hS => ?_)
  obtain ⟨hw1, hw2⟩ := Prod.mk.inj hw.symm; subst hw1; subst hw2
  have hH : zH D cA ζ s4 H1 := z_at ht.symm hB
  have hcs : s.heap.size + (cells + (s4.1 - τ.1)) = s4.1 := by omega
  have hss : sl0 + (slots + (s4.2.1 - τ.2.1)) = s4.2.1 := by omega
  replace hcM := And.intro hc1 hs1
  generalize cells + (s4.1 - τ.1) = cells at hcs hcM ⊢; generalize slots + (s4.2.1 - τ.2.1) = slots at hss hcM ⊢
  clear hB hk hz hvm ht hle hck hc1 hs1; generalize H1 = H at hH hS ⊢
  refine lv_pop hx hb dJ2_get_8 rfl ?_
  refine lv_aload_n hx hb dJ2_get_9 rfl (lv_at hl 0 rfl) ?_
  refine lv_iload_n hx hb dJ2_get_10 rfl (lv_at hl 1 rfl) ?_
  obtain ⟨f7, hf7, hf⟩ := dz_bo hf
  obtain ⟨x5, s6, hx5, hle, hck, hf⟩ := zcl_o hf
  have hc1 : cells + (s6.1 - s4.1) ≤ M := by omega
  have hs1 : slots + (s6.2.1 - s4.2.1) ≤ S := by omega
  refine va_callr (va_runV (As := [.int a0]) (rest := []) ⟨hx, hb, hml, hown, hts⟩ (mtJ2_elementData l D cA ζ s4 h a0 K (x5, s6) hx5 (s6.1 - s4.1) (s6.2.1 - s4.2.1) (Nat.add_sub_cancel' hle.1) (Nat.add_sub_cancel' hle.2)) (cwV 1 hts (lw_V q214 q215 q216 q87 q217) rfl rfl rfl (by decide +kernel) ⟨Nat.le_of_ble_eq_true rfl, Nat.le_of_ble_eq_true rfl⟩) (z_preV hX hS hH (zob_o hf7) rfl) rfl rfl hl.1 rfl (lv_room (Nat.le_of_ble_eq_true rfl)) dJ2_get_11 ⟨hc1, hs1⟩) hS (fun q _ hq => hq) (fun q hq => hq) (fun u r t H1 locs ht hvm hw hB hz hk hS => ?_)
  obtain ⟨hw, hB⟩ := hB
  obtain ⟨hw1, hw2⟩ := Prod.mk.inj hw.symm; subst hw1; subst hw2
  have hH : zH D cA ζ s6 H1 := z_at ht.symm hB
  have hcs : s.heap.size + (cells + (s6.1 - s4.1)) = s6.1 := by omega
  have hss : sl0 + (slots + (s6.2.1 - s4.2.1)) = s6.2.1 := by omega
  replace hcM := And.intro hc1 hs1
  generalize cells + (s6.1 - s4.1) = cells at hcs hcM ⊢; generalize slots + (s6.2.1 - s4.2.1) = slots at hss hcM ⊢
  clear hB hk hz hvm ht hle hck hc1 hs1; generalize H1 = H at hH hS ⊢
  obtain ⟨hM1, hS1⟩ : cells = M ∧ slots = S := by have hq := congrArg Prod.snd (Option.some.inj hf); rw [← hq] at hM hS0; have hM : s.heap.size + M = s6.1 := hM; have hS0 : sl0 + S = s6.2.1 := hS0; omega
  refine W.widen (k := M) (n := S) (Nat.le_of_eq hM1) (Nat.le_of_eq hS1) ?_
  exact W.aret (v := .ref x5) hx hb hr (Or.inl ⟨_, rfl⟩) (Or.inr ⟨_, rfl⟩) (fun t ht hW => ⟨⟨s6, x5, rfl, trivial, Option.some.inj hf, z_at ht hH⟩, hS.F ht⟩) hS.2.2 dJ2_get_14

noncomputable def fnJ2_size (K : Nat) (ζ : pZ) (h : Nat) (τ : pH) : Option (Int32 × pH) := dz_b (zob ζ τ h 14) fun f1 => dz_b (zvi (f1[2]?)) fun x2 => some (x2, τ)
set_option maxHeartbeats 4000000 in
set_option maxRecDepth 100000 in
theorem mtJ2_size (l : Launch) (D : va_G) (cA : Nat → ClassId) (ζ : pZ) (τ : pH) (h : Nat) (K : Nat) (res : (Int32 × pH)) (hf : fnJ2_size K ζ h τ = some res) (M S : Nat) (hM : τ.1 + M = res.2.1) (hS0 : τ.2.1 + S = res.2.2.1) : Met l yJ2_size (ws_ yJ2_size cJ2_size 1 (some .int)) ({ frames := 0, cells := M, slots := S, locals := 0 }) (zPc D cA ζ τ [.ref h]) (zQi D cA ζ res) M S (zA ζ) := by
  refine Met.ofW (cc := cJ2_size) (maxL := 1) (ret := some .int) (by decide +kernel) rfl ?_
  intro p e s m args below meth c s₁ B hml hv
  obtain ⟨rfl, hX, hH⟩ := hv
  have hx := B.exec
  have hb := B.bytes
  have hr := B.returns
  have hts := atoms_spec (ws := ws_ yJ2_size cJ2_size 1 (some .int)) B.pre
  have hts : ∀ w ∈ lw_all, w.before _ s = true := fun w h => hts w (List.mem_cons_of_mem _ h)
  have hown : s.vm.findClass RJ2 = some m.cls := findClass_of_methodNamed B.named
  have hlocks := B.notSynchronized
  have hM : s.heap.size + M = res.2.1 := by rw [hH.1]; exact hM
  have hcs : s.heap.size + 0 = τ.1 := hH.1
  have hss : τ.2.1 + 0 = τ.2.1 := rfl
  generalize hsl0 : τ.2.1 = sl0 at hS0 hss
  have hss : sl0 + 0 = τ.2.1 := by rw [hsl0]; rfl
  have hS : va_S (zA ζ) s.heap s.heap [] := va_S.rf
  generalize hHe : s.heap = H at hH hS ⊢
  have hS : va_S (zA ζ) s.heap H [] := by rw [hHe]; exact hS
  generalize ([] : List Loc) = locs at hS ⊢
  have hl := lv_entry ([.ref h]) (n := 1) (Nat.le_of_ble_eq_true rfl)
  rw [lg_entry_eq]
  generalize (lg_sl ([.ref h]) ++ List.replicate (1 - (lg_sl ([.ref h])).length) Slot.unset).toArray = ls at hl ⊢
  have hl : lv_has ls 1 [(0, .ref h)] := hl
  have hf : (dz_b (zob ζ τ h 14) fun f1 => dz_b (zvi (f1[2]?)) fun x2 => some (x2, τ) : Option (Int32 × pH)) = some res := hf
  refine z_gen (fun cells slots hc0 hs0 => ?_)
  have hcs : s.heap.size + cells = τ.1 := by rw [hc0]; exact hcs
  have hss : sl0 + slots = τ.2.1 := by rw [hs0]; exact hss
  have hcM : cells ≤ M ∧ slots ≤ S := by rw [hc0, hs0]; exact ⟨Nat.zero_le _, Nat.zero_le _⟩
  clear hc0 hs0
  refine lv_aload_n hx hb dJ2_size_0 rfl (lv_at hl 0 rfl) ?_
  obtain ⟨f1, hf1, hf⟩ := dz_bo hf
  obtain ⟨x2, hx2, hf⟩ := dz_bo hf
  refine va_get (C := RJ2) (T := TJ2) (N := 3) hx hb hts in_J2 hown hX.K (zrd_P hX hS hH (zob_o hf1)) 0 rfl rfl 2 (by decide) (hts _ q144) (fun _ hq => hq) (zvi_o hx2) dJ2_size_1 ?_
  obtain ⟨hM1, hS1⟩ : cells = M ∧ slots = S := by have hq := congrArg Prod.snd (Option.some.inj hf); rw [← hq] at hM hS0; have hM : s.heap.size + M = τ.1 := hM; have hS0 : sl0 + S = τ.2.1 := hS0; omega
  refine W.widen (k := M) (n := S) (Nat.le_of_eq hM1) (Nat.le_of_eq hS1) ?_
  exact W.iret (v := x2) hx hb hr (fun t ht hW => ⟨⟨x2, τ, rfl, Option.some.inj hf, z_at ht hH⟩, hS.F ht⟩) hS.2.2 dJ2_size_4

noncomputable def fnX2_init (K : Nat) (ζ : pZ) (h : Nat) (a0 : Nat) (τ : pH) : Option (Unit × pH) := dz_b (zwo ζ τ h 2 1) fun f1 => dz_l (zst τ h (.inr (2, f1.set 1 (.ref a0)))) fun s2 => some ((), s2)
set_option maxHeartbeats 4000000 in
set_option maxRecDepth 100000 in
theorem mtX2_init (l : Launch) (D : va_G) (cA : Nat → ClassId) (ζ : pZ) (τ : pH) (h : Nat) (a0 : Nat) (K : Nat) (res : (Unit × pH)) (hf : fnX2_init K ζ h a0 τ = some res) (M S : Nat) (hM : τ.1 + M = res.2.1) (hS0 : τ.2.1 + S = res.2.2.1) : Met l yX2_init (ws_ yX2_init cX2_init 2 (none)) ({ frames := 1, cells := M, slots := S, locals := 20 }) (zPc D cA ζ τ [.ref h, .ref a0]) (zQv D cA ζ res) M S (zA ζ) := by
  refine Met.ofW (cc := cX2_init) (maxL := 2) (ret := none) (by decide +kernel) rfl ?_
  intro p e s m args below meth c s₁ B hml hv
  obtain ⟨rfl, hX, hH⟩ := hv
  have hx := B.exec
  have hb := B.bytes
  have hr := B.returns
  have hts := atoms_spec (ws := ws_ yX2_init cX2_init 2 (none)) B.pre
  have hts : ∀ w ∈ lw_all, w.before _ s = true := fun w h => hts w (List.mem_cons_of_mem _ h)
  have hown : s.vm.findClass RX2 = some m.cls := findClass_of_methodNamed B.named
  have hlocks := B.notSynchronized
  have hin : meth.name = "<init>" := (name_of_methodNamed B.named B.method).1
  have hM : s.heap.size + M = res.2.1 := by rw [hH.1]; exact hM
  have hcs : s.heap.size + 0 = τ.1 := hH.1
  have hss : τ.2.1 + 0 = τ.2.1 := rfl
  generalize hsl0 : τ.2.1 = sl0 at hS0 hss
  have hss : sl0 + 0 = τ.2.1 := by rw [hsl0]; rfl
  have hS : va_S (zA ζ) s.heap s.heap [] := va_S.rf
  generalize hHe : s.heap = H at hH hS ⊢
  have hS : va_S (zA ζ) s.heap H [] := by rw [hHe]; exact hS
  generalize ([] : List Loc) = locs at hS ⊢
  have hl := lv_entry ([.ref h, .ref a0]) (n := 2) (Nat.le_of_ble_eq_true rfl)
  rw [lg_entry_eq]
  generalize (lg_sl ([.ref h, .ref a0]) ++ List.replicate (2 - (lg_sl ([.ref h, .ref a0])).length) Slot.unset).toArray = ls at hl ⊢
  have hl : lv_has ls 2 [(0, .ref h), (1, .ref a0)] := hl
  have hf : (dz_b (zwo ζ τ h 2 1) fun f1 => dz_l (zst τ h (.inr (2, f1.set 1 (.ref a0)))) fun s2 => some ((), s2) : Option (Unit × pH)) = some res := hf
  refine z_gen (fun cells slots hc0 hs0 => ?_)
  have hcs : s.heap.size + cells = τ.1 := by rw [hc0]; exact hcs
  have hss : sl0 + slots = τ.2.1 := by rw [hs0]; exact hss
  have hcM : cells ≤ M ∧ slots ≤ S := by rw [hc0, hs0]; exact ⟨Nat.zero_le _, Nat.zero_le _⟩
  clear hc0 hs0
  refine lv_aload_n hx hb dX2_init_0 rfl (lv_at hl 0 rfl) ?_
  refine lv_aload_n hx hb dX2_init_1 rfl (lv_at hl 1 rfl) ?_
  obtain ⟨f1, hf1, hf⟩ := dz_bo hf
  obtain ⟨ha_f1, he_f1, hk_f1⟩ := zwo_o hf1
  refine va_putF (C := RX2) (T := TX2) (N := 2) hx hb hts in_X2 tyX2 tyX2_ok nmX2 hown hX.K hH.2.2 zw_D hS _ (zw_o ha_f1 he_f1) rfl 1 (by decide) (hts _ q256) (fun _ hq => hq) rfl hin rfl rfl rfl rfl hk_f1 dX2_init_2 (fun H1 locs hP1 _ hS => dz_size (fun hz => ?_))
  obtain ⟨s2, e_s2, hf⟩ := dz_lo hf
  have hH := zH_put (x := .inr (2, f1.set 1 (.ref a0))) hH hcs ha_f1 hP1 hz
  rw [← e_s2] at hH
  have hcs : s.heap.size + cells = s2.1 := by rw [e_s2]; exact hcs
  have hss : sl0 + slots = s2.2.1 := by rw [e_s2]; exact hss
  clear hP1 hz; generalize H1 = H at hH hS ⊢
  refine lv_aload_n hx hb dX2_init_5 rfl (lv_at hl 0 rfl) ?_
  refine W.objInit hx hb hown (hts _ q254) (hts _ q125) (hts _ q126) rfl (by rw [hml]; exact hl.1) rfl dX2_init_6 (Nat.le_of_ble_eq_true rfl) (Nat.le_of_ble_eq_true rfl) ?_
  refine W.eq (g2 := F0 m 9 ls []) rfl ?_
  obtain ⟨hM1, hS1⟩ : cells = M ∧ slots = S := by have hq := congrArg Prod.snd (Option.some.inj hf); rw [← hq] at hM hS0; have hM : s.heap.size + M = s2.1 := hM; have hS0 : sl0 + S = s2.2.1 := hS0; omega
  refine W.widen (k := M) (n := S) (Nat.le_of_eq hM1) (Nat.le_of_eq hS1) ?_
  exact W.vret hx hb hr (fun t ht hW => ⟨⟨s2, rfl, Option.some.inj hf, z_at ht hH⟩, hS.F ht⟩) hS.2.2 dX2_init_9

noncomputable def fnX8_iterator (K : Nat) (ζ : pZ) (h : Nat) (τ : pH) : Option (Nat × pH) := dz_l τ.1 fun r1 => dz_l (znw τ 2 (.inr (2, [.int 0, .null]))) fun s2 => zck s2 (zcl s2 (fnX2_init K ζ r1 h s2) fun _ s4 => some (r1, s4))
set_option maxHeartbeats 4000000 in
set_option maxRecDepth 100000 in
theorem mtX8_iterator (l : Launch) (D : va_G) (cA : Nat → ClassId) (ζ : pZ) (τ : pH) (h : Nat) (K : Nat) (res : (Nat × pH)) (hf : fnX8_iterator K ζ h τ = some res) (M S : Nat) (hM : τ.1 + M = res.2.1) (hS0 : τ.2.1 + S = res.2.2.1) : Met l yX8_iterator (ws_ yX8_iterator cX8_iterator 1 (some (.object "java/util/Iterator"))) ({ frames := 2, cells := M, slots := S, locals := 41 }) (zPc D cA ζ τ [.ref h]) (zQr D cA ζ res) M S (zA ζ) := by
  refine Met.ofW (cc := cX8_iterator) (maxL := 1) (ret := some (.object "java/util/Iterator")) (by decide +kernel) rfl ?_
  intro p e s m args below meth c s₁ B hml hv
  obtain ⟨rfl, hX, hH⟩ := hv
  have hx := B.exec
  have hb := B.bytes
  have hr := B.returns
  have hts := atoms_spec (ws := ws_ yX8_iterator cX8_iterator 1 (some (.object "java/util/Iterator"))) B.pre
  have hts : ∀ w ∈ lw_all, w.before _ s = true := fun w h => hts w (List.mem_cons_of_mem _ h)
  have hown : s.vm.findClass RX8 = some m.cls := findClass_of_methodNamed B.named
  have hlocks := B.notSynchronized
  have hM : s.heap.size + M = res.2.1 := by rw [hH.1]; exact hM
  have hcs : s.heap.size + 0 = τ.1 := hH.1
  have hss : τ.2.1 + 0 = τ.2.1 := rfl
  generalize hsl0 : τ.2.1 = sl0 at hS0 hss
  have hss : sl0 + 0 = τ.2.1 := by rw [hsl0]; rfl
  have hS : va_S (zA ζ) s.heap s.heap [] := va_S.rf
  generalize hHe : s.heap = H at hH hS ⊢
  have hS : va_S (zA ζ) s.heap H [] := by rw [hHe]; exact hS
  generalize ([] : List Loc) = locs at hS ⊢
  have hl := lv_entry ([.ref h]) (n := 1) (Nat.le_of_ble_eq_true rfl)
  rw [lg_entry_eq]
  generalize (lg_sl ([.ref h]) ++ List.replicate (1 - (lg_sl ([.ref h])).length) Slot.unset).toArray = ls at hl ⊢
  have hl : lv_has ls 1 [(0, .ref h)] := hl
  have hf : (dz_l τ.1 fun r1 => dz_l (znw τ 2 (.inr (2, [.int 0, .null]))) fun s2 => zck s2 (zcl s2 (fnX2_init K ζ r1 h s2) fun _ s4 => some (r1, s4)) : Option (Nat × pH)) = some res := hf
  refine z_gen (fun cells slots hc0 hs0 => ?_)
  have hcs : s.heap.size + cells = τ.1 := by rw [hc0]; exact hcs
  have hss : sl0 + slots = τ.2.1 := by rw [hs0]; exact hss
  have hcM : cells ≤ M ∧ slots ≤ S := by rw [hc0, hs0]; exact ⟨Nat.zero_le _, Nat.zero_le _⟩
  clear hc0 hs0
  obtain ⟨r1, e_r1, hf⟩ := dz_lo hf
  obtain ⟨s2, e_s2, hf⟩ := dz_lo hf
  obtain ⟨hck, hf⟩ := zck_o hf
  have hc1 : cells + 1 ≤ M := by have hq := hck.1; rw [e_s2] at hq; have hq : τ.1 + 1 ≤ res.2.1 := hq; omega
  have hs1 : slots + 2 ≤ S := by have hq := hck.2; rw [e_s2] at hq; have hq : τ.2.1 + 2 ≤ res.2.2.1 := hq; omega
  refine va_new (ci := 2) (fs := [.int 0, .null]) (C := RX2) (T := TX2) (N := 2) hx hb hts in_X2 tyX2 tyX2_ok hown (hts _ q249) (hts _ q250) (hts _ q91) hX.K hH.2.2 zw_D hS hX.hA rfl zdf_X2 hc1 hs1 dX8_iterator_0 (fun q H1 hP1 hD1 hS => dz_size (fun hz => ?_))
  obtain ⟨hq, hH⟩ := zH_new (n := 2) (x := (.inr (2, [.int 0, .null]))) hH hcs hP1 hD1 hz
  rw [← e_s2] at hH; obtain rfl : r1 = q := e_r1.trans hq.symm
  have hcs : s.heap.size + (cells + 1) = s2.1 := by rw [e_s2]; show _ = τ.1 + 1; omega
  have hss : sl0 + (slots + 2) = s2.2.1 := by rw [e_s2]; show _ = τ.2.1 + 2; omega
  replace hcM := And.intro hc1 hs1
  generalize cells + 1 = cells at hcs hcM ⊢; generalize slots + 2 = slots at hss hcM ⊢
  clear hP1 hD1 hz hq hck hc1 hs1; generalize H1 = H at hH hS ⊢
  refine lv_dup hx hb dX8_iterator_3 rfl ?_
  refine lv_aload_n hx hb dX8_iterator_4 rfl (lv_at hl 0 rfl) ?_
  obtain ⟨x3, s4, hx3, hle, hck, hf⟩ := zcl_o hf
  have hc1 : cells + (s4.1 - s2.1) ≤ M := by omega
  have hs1 : slots + (s4.2.1 - s2.2.1) ≤ S := by omega
  refine va_callv (va_runIN (As := [.ref h]) (rest := [.ref r1]) ⟨hx, hb, hml, hown, hts⟩ (mtX2_init l D cA ζ s2 r1 h K (x3, s4) hx3 (s4.1 - s2.1) (s4.2.1 - s2.2.1) (Nat.add_sub_cancel' hle.1) (Nat.add_sub_cancel' hle.2)) ⟨va_cnB 1 hts (lw_meth q253) rfl rfl rfl (hX.N q251 rfl) (hts _ q91) (by decide +kernel) ⟨Nat.le_of_ble_eq_true rfl, Nat.le_of_ble_eq_true rfl⟩, rfl, hts _ q252⟩ (z_preS hX hS hH) rfl rfl hl.1 rfl (lv_room (Nat.le_of_ble_eq_true rfl)) dX8_iterator_5 ⟨hc1, hs1⟩) hS (fun q _ hq => hq) (fun q hq => hq) (fun u t H1 locs ht hvm hw hB hz hk hS => ?_)
  obtain ⟨-, hw2⟩ := Prod.mk.inj hw.symm; subst hw2
  have hH : zH D cA ζ s4 H1 := z_at ht.symm hB
  have hcs : s.heap.size + (cells + (s4.1 - s2.1)) = s4.1 := by omega
  have hss : sl0 + (slots + (s4.2.1 - s2.2.1)) = s4.2.1 := by omega
  replace hcM := And.intro hc1 hs1
  generalize cells + (s4.1 - s2.1) = cells at hcs hcM ⊢; generalize slots + (s4.2.1 - s2.2.1) = slots at hss hcM ⊢
  clear hB hk hz hvm ht hle hck hc1 hs1; generalize H1 = H at hH hS ⊢
  obtain ⟨hM1, hS1⟩ : cells = M ∧ slots = S := by have hq := congrArg Prod.snd (Option.some.inj hf); rw [← hq] at hM hS0; have hM : s.heap.size + M = s4.1 := hM; have hS0 : sl0 + S = s4.2.1 := hS0; omega
  refine W.widen (k := M) (n := S) (Nat.le_of_eq hM1) (Nat.le_of_eq hS1) ?_
  exact W.aret (v := .ref r1) hx hb hr (Or.inl ⟨_, rfl⟩) (Or.inr ⟨_, rfl⟩) (fun t ht hW => ⟨⟨s4, r1, rfl, trivial, Option.some.inj hf, z_at ht hH⟩, hS.F ht⟩) hS.2.2 dX8_iterator_8

noncomputable def fnX2_next_2 (K : Nat) (ζ : pZ) (h : Nat) (τ : pH) : Option (Nat × pH) := dz_b (zob ζ τ h 2) fun f1 => dz_b (zvi (f1[0]?)) fun x2 => dz_l (x2 + 1) fun x3 => dz_b (zwo ζ τ h 2 0) fun f4 => dz_l (zst τ h (.inr (2, f4.set 0 (.int x3)))) fun s5 => dz_b (zob ζ s5 h 2) fun f6 => dz_b (zvr (f6[1]?)) fun x7 => dz_b (zob ζ s5 x7 10) fun f8 => dz_b (zvr (f8[0]?)) fun x9 => dz_b (zob ζ s5 h 2) fun f10 => dz_b (zvi (f10[0]?)) fun x11 => dz_l (x11 - 1) fun x12 => dz_c (zaq ζ s5 x9 5) fun n13 f14 => if ¬ (x12 < 0 ∨ n13 ≤ Int32.toNatClampNeg x12) then (dz_b (f14 (Int32.toNatClampNeg x12)) fun x16 => some (x16, s5)) else none
set_option maxHeartbeats 4000000 in
set_option maxRecDepth 100000 in
theorem mtX2_next_2 (l : Launch) (D : va_G) (cA : Nat → ClassId) (ζ : pZ) (τ : pH) (h : Nat) (K : Nat) (res : (Nat × pH)) (hf : fnX2_next_2 K ζ h τ = some res) (M S : Nat) (hM : τ.1 + M = res.2.1) (hS0 : τ.2.1 + S = res.2.2.1) : Met l yX2_next_2 (ws_ yX2_next_2 cX2_next_2 1 (some (.object "PrimeProofs$Row"))) ({ frames := 0, cells := M, slots := S, locals := 0 }) (zPc D cA ζ τ [.ref h]) (zQr D cA ζ res) M S (zA ζ) := by
  refine Met.ofW (cc := cX2_next_2) (maxL := 1) (ret := some (.object "PrimeProofs$Row")) (by decide +kernel) rfl ?_
  intro p e s m args below meth c s₁ B hml hv
  obtain ⟨rfl, hX, hH⟩ := hv
  have hx := B.exec
  have hb := B.bytes
  have hr := B.returns
  have hts := atoms_spec (ws := ws_ yX2_next_2 cX2_next_2 1 (some (.object "PrimeProofs$Row"))) B.pre
  have hts : ∀ w ∈ lw_all, w.before _ s = true := fun w h => hts w (List.mem_cons_of_mem _ h)
  have hown : s.vm.findClass RX2 = some m.cls := findClass_of_methodNamed B.named
  have hlocks := B.notSynchronized
  have hM : s.heap.size + M = res.2.1 := by rw [hH.1]; exact hM
  have hcs : s.heap.size + 0 = τ.1 := hH.1
  have hss : τ.2.1 + 0 = τ.2.1 := rfl
  generalize hsl0 : τ.2.1 = sl0 at hS0 hss
  have hss : sl0 + 0 = τ.2.1 := by rw [hsl0]; rfl
  have hS : va_S (zA ζ) s.heap s.heap [] := va_S.rf
  generalize hHe : s.heap = H at hH hS ⊢
  have hS : va_S (zA ζ) s.heap H [] := by rw [hHe]; exact hS
  generalize ([] : List Loc) = locs at hS ⊢
  have hl := lv_entry ([.ref h]) (n := 1) (Nat.le_of_ble_eq_true rfl)
  rw [lg_entry_eq]
  generalize (lg_sl ([.ref h]) ++ List.replicate (1 - (lg_sl ([.ref h])).length) Slot.unset).toArray = ls at hl ⊢
  have hl : lv_has ls 1 [(0, .ref h)] := hl
  have hf : (dz_b (zob ζ τ h 2) fun f1 => dz_b (zvi (f1[0]?)) fun x2 => dz_l (x2 + 1) fun x3 => dz_b (zwo ζ τ h 2 0) fun f4 => dz_l (zst τ h (.inr (2, f4.set 0 (.int x3)))) fun s5 => dz_b (zob ζ s5 h 2) fun f6 => dz_b (zvr (f6[1]?)) fun x7 => dz_b (zob ζ s5 x7 10) fun f8 => dz_b (zvr (f8[0]?)) fun x9 => dz_b (zob ζ s5 h 2) fun f10 => dz_b (zvi (f10[0]?)) fun x11 => dz_l (x11 - 1) fun x12 => dz_c (zaq ζ s5 x9 5) fun n13 f14 => if ¬ (x12 < 0 ∨ n13 ≤ Int32.toNatClampNeg x12) then (dz_b (f14 (Int32.toNatClampNeg x12)) fun x16 => some (x16, s5)) else none : Option (Nat × pH)) = some res := hf
  refine z_gen (fun cells slots hc0 hs0 => ?_)
  have hcs : s.heap.size + cells = τ.1 := by rw [hc0]; exact hcs
  have hss : sl0 + slots = τ.2.1 := by rw [hs0]; exact hss
  have hcM : cells ≤ M ∧ slots ≤ S := by rw [hc0, hs0]; exact ⟨Nat.zero_le _, Nat.zero_le _⟩
  clear hc0 hs0
  refine lv_aload_n hx hb dX2_next_2_0 rfl (lv_at hl 0 rfl) ?_
  refine lv_dup hx hb dX2_next_2_1 rfl ?_
  obtain ⟨f1, hf1, hf⟩ := dz_bo hf
  obtain ⟨x2, hx2, hf⟩ := dz_bo hf
  refine va_get (C := RX2) (T := TX2) (N := 2) hx hb hts in_X2 hown hX.K (zrd_P hX hS hH (zob_o hf1)) 0 rfl rfl 0 (by decide) (hts _ q255) (fun _ hq => hq) (zvi_o hx2) dX2_next_2_2 ?_
  refine lv_iconst (v := 1) hx hb dX2_next_2_5 (by decide) ?_
  refine lv_iadd hx hb dX2_next_2_6 ?_
  refine lv_topi (fun x3 e_x3 => ?_)
  have hf := dz_ls e_x3 hf
  obtain ⟨f4, hf4, hf⟩ := dz_bo hf
  obtain ⟨ha_f4, he_f4, hk_f4⟩ := zwo_o hf4
  refine va_put (C := RX2) (T := TX2) (N := 2) hx hb hts in_X2 tyX2 tyX2_ok nmX2 hown hX.K hH.2.2 zw_D hS _ (zw_o ha_f4 he_f4) rfl 0 (by decide) (hts _ q255) (fun _ hq => hq) rfl rfl rfl rfl hk_f4 dX2_next_2_7 (fun H1 locs hP1 _ hS => dz_size (fun hz => ?_))
  obtain ⟨s5, e_s5, hf⟩ := dz_lo hf
  have hH := zH_put (x := .inr (2, f4.set 0 (.int x3))) hH hcs ha_f4 hP1 hz
  rw [← e_s5] at hH
  have hcs : s.heap.size + cells = s5.1 := by rw [e_s5]; exact hcs
  have hss : sl0 + slots = s5.2.1 := by rw [e_s5]; exact hss
  clear hP1 hz; generalize H1 = H at hH hS ⊢
  refine lv_aload_n hx hb dX2_next_2_10 rfl (lv_at hl 0 rfl) ?_
  obtain ⟨f6, hf6, hf⟩ := dz_bo hf
  obtain ⟨x7, hx7, hf⟩ := dz_bo hf
  refine va_get (C := RX2) (T := TX2) (N := 2) hx hb hts in_X2 hown hX.K (zrd_P hX hS hH (zob_o hf6)) 0 rfl rfl 1 (by decide) (hts _ q256) (fun _ hq => hq) (zvr_o hx7) dX2_next_2_11 ?_
  obtain ⟨f8, hf8, hf⟩ := dz_bo hf
  obtain ⟨x9, hx9, hf⟩ := dz_bo hf
  refine va_getN (C := RX8) (T := TX8) (N := 2) hx hb hts in_X8 hown hX.K (zrd_P hX hS hH (zob_o hf8)) 0 rfl rfl 0 (by decide) ((hX.N q516 rfl).use rfl) (fun _ hq => hq) (zvr_o hx9) dX2_next_2_14 ?_
  refine lv_aload_n hx hb dX2_next_2_17 rfl (lv_at hl 0 rfl) ?_
  obtain ⟨f10, hf10, hf⟩ := dz_bo hf
  obtain ⟨x11, hx11, hf⟩ := dz_bo hf
  refine va_get (C := RX2) (T := TX2) (N := 2) hx hb hts in_X2 hown hX.K (zrd_P hX hS hH (zob_o hf10)) 0 rfl rfl 0 (by decide) (hts _ q255) (fun _ hq => hq) (zvi_o hx11) dX2_next_2_18 ?_
  refine lv_iconst (v := 1) hx hb dX2_next_2_21 (by decide) ?_
  refine lv_isub hx hb dX2_next_2_22 ?_
  refine lv_topi (fun x12 e_x12 => ?_)
  have hf := dz_ls e_x12 hf
  obtain ⟨n13, f14, hn13, hf⟩ := dz_co hf
  obtain ⟨g15, hf⟩ := dz_go hf
  obtain ⟨x16, hx16, hf⟩ := dz_bo hf
  refine va_aldq hx hb hX.K (zrd_P hX hS hH (zaq_o hn13)) 0 5 rfl rfl g15 dX2_next_2_23 ?_
  rw [hx16]
  refine W.eq (g2 := F0 m 24 ls (.ref x16 :: [])) rfl ?_
  obtain ⟨hM1, hS1⟩ : cells = M ∧ slots = S := by have hq := congrArg Prod.snd (Option.some.inj hf); rw [← hq] at hM hS0; have hM : s.heap.size + M = s5.1 := hM; have hS0 : sl0 + S = s5.2.1 := hS0; omega
  refine W.widen (k := M) (n := S) (Nat.le_of_eq hM1) (Nat.le_of_eq hS1) ?_
  exact W.aret (v := .ref x16) hx hb hr (Or.inl ⟨_, rfl⟩) (Or.inr ⟨_, rfl⟩) (fun t ht hW => ⟨⟨s5, x16, rfl, trivial, Option.some.inj hf, z_at ht hH⟩, hS.F ht⟩) hS.2.2 dX2_next_2_24

noncomputable def fnX2_next (K : Nat) (ζ : pZ) (h : Nat) (τ : pH) : Option (Nat × pH) := dz_b (zob ζ τ h 2) fun f3 => zcl τ (fnX2_next_2 K ζ h τ) fun x1 s2 => some (x1, s2)
set_option maxHeartbeats 4000000 in
set_option maxRecDepth 100000 in
theorem mtX2_next (l : Launch) (D : va_G) (cA : Nat → ClassId) (ζ : pZ) (τ : pH) (h : Nat) (K : Nat) (res : (Nat × pH)) (hf : fnX2_next K ζ h τ = some res) (M S : Nat) (hM : τ.1 + M = res.2.1) (hS0 : τ.2.1 + S = res.2.2.1) : Met l yX2_next (ws_ yX2_next cX2_next 1 (some (.object "java/lang/Object"))) ({ frames := 1, cells := M, slots := S, locals := 20 }) (zPc D cA ζ τ [.ref h]) (zQr D cA ζ res) M S (zA ζ) := by
  refine Met.ofW (cc := cX2_next) (maxL := 1) (ret := some (.object "java/lang/Object")) (by decide +kernel) rfl ?_
  intro p e s m args below meth c s₁ B hml hv
  obtain ⟨rfl, hX, hH⟩ := hv
  have hx := B.exec
  have hb := B.bytes
  have hr := B.returns
  have hts := atoms_spec (ws := ws_ yX2_next cX2_next 1 (some (.object "java/lang/Object"))) B.pre
  have hts : ∀ w ∈ lw_all, w.before _ s = true := fun w h => hts w (List.mem_cons_of_mem _ h)
  have hown : s.vm.findClass RX2 = some m.cls := findClass_of_methodNamed B.named
  have hlocks := B.notSynchronized
  have hM : s.heap.size + M = res.2.1 := by rw [hH.1]; exact hM
  have hcs : s.heap.size + 0 = τ.1 := hH.1
  have hss : τ.2.1 + 0 = τ.2.1 := rfl
  generalize hsl0 : τ.2.1 = sl0 at hS0 hss
  have hss : sl0 + 0 = τ.2.1 := by rw [hsl0]; rfl
  have hS : va_S (zA ζ) s.heap s.heap [] := va_S.rf
  generalize hHe : s.heap = H at hH hS ⊢
  have hS : va_S (zA ζ) s.heap H [] := by rw [hHe]; exact hS
  generalize ([] : List Loc) = locs at hS ⊢
  have hl := lv_entry ([.ref h]) (n := 1) (Nat.le_of_ble_eq_true rfl)
  rw [lg_entry_eq]
  generalize (lg_sl ([.ref h]) ++ List.replicate (1 - (lg_sl ([.ref h])).length) Slot.unset).toArray = ls at hl ⊢
  have hl : lv_has ls 1 [(0, .ref h)] := hl
  have hf : (dz_b (zob ζ τ h 2) fun f3 => zcl τ (fnX2_next_2 K ζ h τ) fun x1 s2 => some (x1, s2) : Option (Nat × pH)) = some res := hf
  refine z_gen (fun cells slots hc0 hs0 => ?_)
  have hcs : s.heap.size + cells = τ.1 := by rw [hc0]; exact hcs
  have hss : sl0 + slots = τ.2.1 := by rw [hs0]; exact hss
  have hcM : cells ≤ M ∧ slots ≤ S := by rw [hc0, hs0]; exact ⟨Nat.zero_le _, Nat.zero_le _⟩
  clear hc0 hs0
  refine lv_aload_n hx hb dX2_next_0 rfl (lv_at hl 0 rfl) ?_
  obtain ⟨f3, hf3, hf⟩ := dz_bo hf
  obtain ⟨x1, s2, hx1, hle, hck, hf⟩ := zcl_o hf
  have hc1 : cells + (s2.1 - τ.1) ≤ M := by omega
  have hs1 : slots + (s2.2.1 - τ.2.1) ≤ S := by omega
  refine va_callr (va_runV (As := []) (rest := []) ⟨hx, hb, hml, hown, hts⟩ (mtX2_next_2 l D cA ζ τ h K (x1, s2) hx1 (s2.1 - τ.1) (s2.2.1 - τ.2.1) (Nat.add_sub_cancel' hle.1) (Nat.add_sub_cancel' hle.2)) (cwV 0 hts (lw_V q287 q288 q289 q91 q290) rfl rfl rfl (by decide +kernel) ⟨Nat.le_of_ble_eq_true rfl, Nat.le_of_ble_eq_true rfl⟩) (z_preV hX hS hH (zob_o hf3) rfl) rfl rfl hl.1 rfl (lv_room (Nat.le_of_ble_eq_true rfl)) dX2_next_1 ⟨hc1, hs1⟩) hS (fun q _ hq => hq) (fun q hq => hq) (fun u r t H1 locs ht hvm hw hB hz hk hS => ?_)
  obtain ⟨hw, hB⟩ := hB
  obtain ⟨hw1, hw2⟩ := Prod.mk.inj hw.symm; subst hw1; subst hw2
  have hH : zH D cA ζ s2 H1 := z_at ht.symm hB
  have hcs : s.heap.size + (cells + (s2.1 - τ.1)) = s2.1 := by omega
  have hss : sl0 + (slots + (s2.2.1 - τ.2.1)) = s2.2.1 := by omega
  replace hcM := And.intro hc1 hs1
  generalize cells + (s2.1 - τ.1) = cells at hcs hcM ⊢; generalize slots + (s2.2.1 - τ.2.1) = slots at hss hcM ⊢
  clear hB hk hz hvm ht hle hck hc1 hs1; generalize H1 = H at hH hS ⊢
  obtain ⟨hM1, hS1⟩ : cells = M ∧ slots = S := by have hq := congrArg Prod.snd (Option.some.inj hf); rw [← hq] at hM hS0; have hM : s.heap.size + M = s2.1 := hM; have hS0 : sl0 + S = s2.2.1 := hS0; omega
  refine W.widen (k := M) (n := S) (Nat.le_of_eq hM1) (Nat.le_of_eq hS1) ?_
  exact W.aret (v := .ref x1) hx hb hr (Or.inl ⟨_, rfl⟩) (Or.inr ⟨_, rfl⟩) (fun t ht hW => ⟨⟨s2, x1, rfl, trivial, Option.some.inj hf, z_at ht hH⟩, hS.F ht⟩) hS.2.2 dX2_next_4

noncomputable def fnX2_hasNext (K : Nat) (ζ : pZ) (h : Nat) (τ : pH) : Option (Int32 × pH) := dz_b (zob ζ τ h 2) fun f1 => dz_b (zvi (f1[0]?)) fun x2 => dz_b (zob ζ τ h 2) fun f3 => dz_b (zvr (f3[1]?)) fun x4 => dz_b (zob ζ τ x4 10) fun f5 => dz_b (zvi (f5[1]?)) fun x6 => if x6 ≤ x2 then (some (0, τ)) else (some (1, τ))
set_option maxHeartbeats 4000000 in
set_option maxRecDepth 100000 in
theorem mtX2_hasNext (l : Launch) (D : va_G) (cA : Nat → ClassId) (ζ : pZ) (τ : pH) (h : Nat) (K : Nat) (res : (Int32 × pH)) (hf : fnX2_hasNext K ζ h τ = some res) (M S : Nat) (hM : τ.1 + M = res.2.1) (hS0 : τ.2.1 + S = res.2.2.1) : Met l yX2_hasNext (ws_ yX2_hasNext cX2_hasNext 1 (some .boolean)) ({ frames := 0, cells := M, slots := S, locals := 0 }) (zPc D cA ζ τ [.ref h]) (zQi D cA ζ res) M S (zA ζ) := by
  refine Met.ofW (cc := cX2_hasNext) (maxL := 1) (ret := some .boolean) (by decide +kernel) rfl ?_
  intro p e s m args below meth c s₁ B hml hv
  obtain ⟨rfl, hX, hH⟩ := hv
  have hx := B.exec
  have hb := B.bytes
  have hr := B.returns
  have hts := atoms_spec (ws := ws_ yX2_hasNext cX2_hasNext 1 (some .boolean)) B.pre
  have hts : ∀ w ∈ lw_all, w.before _ s = true := fun w h => hts w (List.mem_cons_of_mem _ h)
  have hown : s.vm.findClass RX2 = some m.cls := findClass_of_methodNamed B.named
  have hlocks := B.notSynchronized
  have hM : s.heap.size + M = res.2.1 := by rw [hH.1]; exact hM
  have hcs : s.heap.size + 0 = τ.1 := hH.1
  have hss : τ.2.1 + 0 = τ.2.1 := rfl
  generalize hsl0 : τ.2.1 = sl0 at hS0 hss
  have hss : sl0 + 0 = τ.2.1 := by rw [hsl0]; rfl
  have hS : va_S (zA ζ) s.heap s.heap [] := va_S.rf
  generalize hHe : s.heap = H at hH hS ⊢
  have hS : va_S (zA ζ) s.heap H [] := by rw [hHe]; exact hS
  generalize ([] : List Loc) = locs at hS ⊢
  have hl := lv_entry ([.ref h]) (n := 1) (Nat.le_of_ble_eq_true rfl)
  rw [lg_entry_eq]
  generalize (lg_sl ([.ref h]) ++ List.replicate (1 - (lg_sl ([.ref h])).length) Slot.unset).toArray = ls at hl ⊢
  have hl : lv_has ls 1 [(0, .ref h)] := hl
  have hf : (dz_b (zob ζ τ h 2) fun f1 => dz_b (zvi (f1[0]?)) fun x2 => dz_b (zob ζ τ h 2) fun f3 => dz_b (zvr (f3[1]?)) fun x4 => dz_b (zob ζ τ x4 10) fun f5 => dz_b (zvi (f5[1]?)) fun x6 => if x6 ≤ x2 then (some (0, τ)) else (some (1, τ)) : Option (Int32 × pH)) = some res := hf
  refine z_gen (fun cells slots hc0 hs0 => ?_)
  have hcs : s.heap.size + cells = τ.1 := by rw [hc0]; exact hcs
  have hss : sl0 + slots = τ.2.1 := by rw [hs0]; exact hss
  have hcM : cells ≤ M ∧ slots ≤ S := by rw [hc0, hs0]; exact ⟨Nat.zero_le _, Nat.zero_le _⟩
  clear hc0 hs0
  refine lv_aload_n hx hb dX2_hasNext_0 rfl (lv_at hl 0 rfl) ?_
  obtain ⟨f1, hf1, hf⟩ := dz_bo hf
  obtain ⟨x2, hx2, hf⟩ := dz_bo hf
  refine va_get (C := RX2) (T := TX2) (N := 2) hx hb hts in_X2 hown hX.K (zrd_P hX hS hH (zob_o hf1)) 0 rfl rfl 0 (by decide) (hts _ q255) (fun _ hq => hq) (zvi_o hx2) dX2_hasNext_1 ?_
  refine lv_aload_n hx hb dX2_hasNext_4 rfl (lv_at hl 0 rfl) ?_
  obtain ⟨f3, hf3, hf⟩ := dz_bo hf
  obtain ⟨x4, hx4, hf⟩ := dz_bo hf
  refine va_get (C := RX2) (T := TX2) (N := 2) hx hb hts in_X2 hown hX.K (zrd_P hX hS hH (zob_o hf3)) 0 rfl rfl 1 (by decide) (hts _ q256) (fun _ hq => hq) (zvr_o hx4) dX2_hasNext_5 ?_
  obtain ⟨f5, hf5, hf⟩ := dz_bo hf
  obtain ⟨x6, hx6, hf⟩ := dz_bo hf
  refine va_getN (C := RX8) (T := TX8) (N := 2) hx hb hts in_X8 hown hX.K (zrd_P hX hS hH (zob_o hf5)) 0 rfl rfl 1 (by decide) ((hX.N q520 rfl).use rfl) (fun _ hq => hq) (zvi_o hx6) dX2_hasNext_8 ?_
  refine lv_icmp_ge (tgt := 18) hx hb dX2_hasNext_11 (by decide) (fun c11 => ?_) (fun c11 => ?_)
  · have hf := dz_t c11 hf
    refine lv_iconst (v := 0) hx hb dX2_hasNext_18 (by decide) ?_
    obtain ⟨hM1, hS1⟩ : cells = M ∧ slots = S := by have hq := congrArg Prod.snd (Option.some.inj hf); rw [← hq] at hM hS0; have hM : s.heap.size + M = τ.1 := hM; have hS0 : sl0 + S = τ.2.1 := hS0; omega
    refine W.widen (k := M) (n := S) (Nat.le_of_eq hM1) (Nat.le_of_eq hS1) ?_
    exact W.zret (v := 0) hx hb hr rfl (fun t ht hW => ⟨⟨0, τ, rfl, Option.some.inj hf, z_at ht hH⟩, hS.F ht⟩) hS.2.2 dX2_hasNext_19
  · have hf := dz_f c11 hf
    refine lv_iconst (v := 1) hx hb dX2_hasNext_14 (by decide) ?_
    refine lv_goto (tgt := 19) hx hb dX2_hasNext_15 (by decide) ?_
    obtain ⟨hM1, hS1⟩ : cells = M ∧ slots = S := by have hq := congrArg Prod.snd (Option.some.inj hf); rw [← hq] at hM hS0; have hM : s.heap.size + M = τ.1 := hM; have hS0 : sl0 + S = τ.2.1 := hS0; omega
    refine W.widen (k := M) (n := S) (Nat.le_of_eq hM1) (Nat.le_of_eq hS1) ?_
    exact W.zret (v := 1) hx hb hr rfl (fun t ht hW => ⟨⟨1, τ, rfl, Option.some.inj hf, z_at ht hH⟩, hS.F ht⟩) hS.2.2 dX2_hasNext_19

noncomputable def fnX3_init_3 (K : Nat) (ζ : pZ) (h : Nat) (τ : pH) : Option (Unit × pH) := some ((), τ)
set_option maxHeartbeats 4000000 in
set_option maxRecDepth 100000 in
theorem mtX3_init_3 (l : Launch) (D : va_G) (cA : Nat → ClassId) (ζ : pZ) (τ : pH) (h : Nat) (K : Nat) (res : (Unit × pH)) (hf : fnX3_init_3 K ζ h τ = some res) (M S : Nat) (hM : τ.1 + M = res.2.1) (hS0 : τ.2.1 + S = res.2.2.1) : Met l yX3_init (ws_ yX3_init cX3_init 1 (none)) ({ frames := 1, cells := M, slots := S, locals := 20 }) (zPc D cA ζ τ [.ref h]) (zQv D cA ζ res) M S (zA ζ) := by
  refine Met.ofW (cc := cX3_init) (maxL := 1) (ret := none) (by decide +kernel) rfl ?_
  intro p e s m args below meth c s₁ B hml hv
  obtain ⟨rfl, hX, hH⟩ := hv
  have hx := B.exec
  have hb := B.bytes
  have hr := B.returns
  have hts := atoms_spec (ws := ws_ yX3_init cX3_init 1 (none)) B.pre
  have hts : ∀ w ∈ lw_all, w.before _ s = true := fun w h => hts w (List.mem_cons_of_mem _ h)
  have hown : s.vm.findClass RX3 = some m.cls := findClass_of_methodNamed B.named
  have hlocks := B.notSynchronized
  have hin : meth.name = "<init>" := (name_of_methodNamed B.named B.method).1
  have hM : s.heap.size + M = res.2.1 := by rw [hH.1]; exact hM
  have hcs : s.heap.size + 0 = τ.1 := hH.1
  have hss : τ.2.1 + 0 = τ.2.1 := rfl
  generalize hsl0 : τ.2.1 = sl0 at hS0 hss
  have hss : sl0 + 0 = τ.2.1 := by rw [hsl0]; rfl
  have hS : va_S (zA ζ) s.heap s.heap [] := va_S.rf
  generalize hHe : s.heap = H at hH hS ⊢
  have hS : va_S (zA ζ) s.heap H [] := by rw [hHe]; exact hS
  generalize ([] : List Loc) = locs at hS ⊢
  have hl := lv_entry ([.ref h]) (n := 1) (Nat.le_of_ble_eq_true rfl)
  rw [lg_entry_eq]
  generalize (lg_sl ([.ref h]) ++ List.replicate (1 - (lg_sl ([.ref h])).length) Slot.unset).toArray = ls at hl ⊢
  have hl : lv_has ls 1 [(0, .ref h)] := hl
  have hf : (some ((), τ) : Option (Unit × pH)) = some res := hf
  refine z_gen (fun cells slots hc0 hs0 => ?_)
  have hcs : s.heap.size + cells = τ.1 := by rw [hc0]; exact hcs
  have hss : sl0 + slots = τ.2.1 := by rw [hs0]; exact hss
  have hcM : cells ≤ M ∧ slots ≤ S := by rw [hc0, hs0]; exact ⟨Nat.zero_le _, Nat.zero_le _⟩
  clear hc0 hs0
  refine lv_aload_n hx hb dX3_init_0 rfl (lv_at hl 0 rfl) ?_
  refine W.objInit hx hb hown (hts _ q378) (hts _ q125) (hts _ q126) rfl (by rw [hml]; exact hl.1) rfl dX3_init_1 (Nat.le_of_ble_eq_true rfl) (Nat.le_of_ble_eq_true rfl) ?_
  refine W.eq (g2 := F0 m 4 ls []) rfl ?_
  obtain ⟨hM1, hS1⟩ : cells = M ∧ slots = S := by have hq := congrArg Prod.snd (Option.some.inj hf); rw [← hq] at hM hS0; have hM : s.heap.size + M = τ.1 := hM; have hS0 : sl0 + S = τ.2.1 := hS0; omega
  refine W.widen (k := M) (n := S) (Nat.le_of_eq hM1) (Nat.le_of_eq hS1) ?_
  exact W.vret hx hb hr (fun t ht hW => ⟨⟨τ, rfl, Option.some.inj hf, z_at ht hH⟩, hS.F ht⟩) hS.2.2 dX3_init_4

