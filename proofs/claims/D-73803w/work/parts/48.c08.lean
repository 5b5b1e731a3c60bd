noncomputable def fnX6_isFar_9 (K : Nat) (ζ : pZ) (h : Nat) (a0 : Nat) (τ : pH) : Option (Int32 × pH) := dz_b (zob ζ τ a0 11) fun f1 => dz_b (zvi (f1[2]?)) fun x2 => dz_b (zob ζ τ h 9) fun f3 => dz_b (zvl (f3[0]?)) fun x4 => dz_b (zob ζ τ a0 11) fun f5 => dz_b (zvl (f5[0]?)) fun x6 => if ¬ x6 = 0 then (dz_l ((x4 - 1) / x6) fun x8 => dz_b (zob ζ τ h 9) fun f9 => dz_b (zvl (f9[0]?)) fun x10 => zcl τ (fnX0_powerOf K ζ (Int32.toInt64 x2) x8 x10 τ) fun x11 s12 => dz_b (zob ζ s12 h 9) fun f13 => dz_b (zvl (f13[0]?)) fun x14 => dz_b (fnJ5_floorMod K (x11 - 1) x14) fun x15 => dz_b (zob ζ s12 h 9) fun f16 => dz_b (zvl (f16[0]?)) fun x17 => dz_b (fnX0_common 100 x15 x17) fun x18 => if x18 = (1 : Int64) then (some (1, s12)) else (some (0, s12))) else none
set_option maxHeartbeats 4000000 in
set_option maxRecDepth 100000 in
theorem mtX6_isFar_9 (l : Launch) (D : va_G) (cA : Nat → ClassId) (ζ : pZ) (τ : pH) (h : Nat) (a0 : Nat) (K : Nat) (res : (Int32 × pH)) (hf : fnX6_isFar_9 K ζ h a0 τ = some res) (M S : Nat) (hM : τ.1 + M = res.2.1) (hS0 : τ.2.1 + S = res.2.2.1) : Met l yX6_isFar (ws_ yX6_isFar cX6_isFar 2 (some .boolean)) ({ frames := 101, cells := M, slots := S, locals := 2323 }) (zPc D cA ζ τ [.ref h, .ref a0]) (zQi D cA ζ res) M S (zA ζ) := by
  refine Met.ofW (cc := cX6_isFar) (maxL := 2) (ret := some .boolean) (by decide +kernel) rfl ?_
  intro p e s m args below meth c s₁ B hml hv
  obtain ⟨rfl, hX, hH⟩ := hv
  have hx := B.exec
  have hb := B.bytes
  have hr := B.returns
  have hts := atoms_spec (ws := ws_ yX6_isFar cX6_isFar 2 (some .boolean)) B.pre
  have hts : ∀ w ∈ lw_all, w.before _ s = true := fun w h => hts w (List.mem_cons_of_mem _ h)
  have hown : s.vm.findClass RX6 = some m.cls := findClass_of_methodNamed B.named
  have hlocks := B.notSynchronized
  have hM : s.heap.size + M = res.2.1 := by rw [hH.1]; exact hM
  have hcs : s.heap.size + 0 = τ.1 := hH.1
  have hss : τ.2.1 + 0 = τ.2.1 := rfl
  generalize hsl0 : τ.2.1 = sl0 at hS0 hss
  have hss : sl0 + 0 = τ.2.1 := by rw [hsl0]; rfl
  have hS : va_S (zA ζ) s.heap s.heap [] := va_S.rf
  generalize hHe : s.heap = H at hH hS ⊢
  have hS : va_S (zA ζ) s.heap H [] := by rw [hHe]; exact hS
  generalize ([] : List Loc) = locs at hS ⊢
  have hl := lv_entry ([.ref h, .ref a0]) (n := 2) (Nat.le_of_ble_eq_true rfl)
  rw [lg_entry_eq]
  generalize (lg_sl ([.ref h, .ref a0]) ++ List.replicate (2 - (lg_sl ([.ref h, .ref a0])).length) Slot.unset).toArray = ls at hl ⊢
  have hl : lv_has ls 2 [(0, .ref h), (1, .ref a0)] := hl
  have hf : (dz_b (zob ζ τ a0 11) fun f1 => dz_b (zvi (f1[2]?)) fun x2 => dz_b (zob ζ τ h 9) fun f3 => dz_b (zvl (f3[0]?)) fun x4 => dz_b (zob ζ τ a0 11) fun f5 => dz_b (zvl (f5[0]?)) fun x6 => if ¬ x6 = 0 then (dz_l ((x4 - 1) / x6) fun x8 => dz_b (zob ζ τ h 9) fun f9 => dz_b (zvl (f9[0]?)) fun x10 => zcl τ (fnX0_powerOf K ζ (Int32.toInt64 x2) x8 x10 τ) fun x11 s12 => dz_b (zob ζ s12 h 9) fun f13 => dz_b (zvl (f13[0]?)) fun x14 => dz_b (fnJ5_floorMod K (x11 - 1) x14) fun x15 => dz_b (zob ζ s12 h 9) fun f16 => dz_b (zvl (f16[0]?)) fun x17 => dz_b (fnX0_common 100 x15 x17) fun x18 => if x18 = (1 : Int64) then (some (1, s12)) else (some (0, s12))) else none : Option (Int32 × pH)) = some res := hf
  refine z_gen (fun cells slots hc0 hs0 => ?_)
  have hcs : s.heap.size + cells = τ.1 := by rw [hc0]; exact hcs
  have hss : sl0 + slots = τ.2.1 := by rw [hs0]; exact hss
  have hcM : cells ≤ M ∧ slots ≤ S := by rw [hc0, hs0]; exact ⟨Nat.zero_le _, Nat.zero_le _⟩
  clear hc0 hs0
  refine lv_aload_n hx hb dX6_isFar_0 rfl (lv_at hl 1 rfl) ?_
  obtain ⟨f1, hf1, hf⟩ := dz_bo hf
  obtain ⟨x2, hx2, hf⟩ := dz_bo hf
  refine va_get (C := RX13) (T := TX13) (N := 3) hx hb hts in_X13 hown hX.K (zrd_P hX hS hH (zob_o hf1)) 0 rfl rfl 2 (by decide) (hts _ q692) (fun _ hq => hq) (zvi_o hx2) dX6_isFar_1 ?_
  refine lv_i2l hx hb dX6_isFar_4 (rfl : _ = Int32.toInt64 x2) ?_
  refine lv_aload_n hx hb dX6_isFar_5 rfl (lv_at hl 0 rfl) ?_
  obtain ⟨f3, hf3, hf⟩ := dz_bo hf
  obtain ⟨x4, hx4, hf⟩ := dz_bo hf
  refine va_get (C := RX12) (T := TX12) (N := 8) hx hb hts in_X12 hown hX.K (zrd_P hX hS hH (zob_o hf3)) 0 rfl rfl 0 (by decide) (hts _ q532) (fun _ hq => hq) (zvl_o hx4) dX6_isFar_6 ?_
  refine lv_lconst (v := 1) hx hb dX6_isFar_9 rfl ?_
  refine lv_lsub hx hb dX6_isFar_10 ?_
  refine lv_aload_n hx hb dX6_isFar_11 rfl (lv_at hl 1 rfl) ?_
  obtain ⟨f5, hf5, hf⟩ := dz_bo hf
  obtain ⟨x6, hx6, hf⟩ := dz_bo hf
  refine va_get (C := RX13) (T := TX13) (N := 3) hx hb hts in_X13 hown hX.K (zrd_P hX hS hH (zob_o hf5)) 0 rfl rfl 0 (by decide) (hts _ q684) (fun _ hq => hq) (zvl_o hx6) dX6_isFar_12 ?_
  obtain ⟨g7, hf⟩ := dz_go hf
  refine lv_ldiv hx hb dX6_isFar_15 g7 ?_
  refine lv_topl (fun x8 e_x8 => ?_)
  have hf := dz_ls e_x8 hf
  refine lv_aload_n hx hb dX6_isFar_16 rfl (lv_at hl 0 rfl) ?_
  obtain ⟨f9, hf9, hf⟩ := dz_bo hf
  obtain ⟨x10, hx10, hf⟩ := dz_bo hf
  refine va_get (C := RX12) (T := TX12) (N := 8) hx hb hts in_X12 hown hX.K (zrd_P hX hS hH (zob_o hf9)) 0 rfl rfl 0 (by decide) (hts _ q532) (fun _ hq => hq) (zvl_o hx10) dX6_isFar_17 ?_
  obtain ⟨x11, s12, hx11, hle, hck, hf⟩ := zcl_o hf
  have hc1 : cells + (s12.1 - τ.1) ≤ M := by omega
  have hs1 : slots + (s12.2.1 - τ.2.1) ≤ S := by omega
  refine va_calll (va_runSN (As := [.long (Int32.toInt64 x2), .long x8, .long x10]) (rest := []) ⟨hx, hb, hml, hown, hts⟩ (mtX0_powerOf l D cA ζ τ (Int32.toInt64 x2) x8 x10 K (x11, s12) hx11 (s12.1 - τ.1) (s12.2.1 - τ.2.1) (Nat.add_sub_cancel' hle.1) (Nat.add_sub_cancel' hle.2)) ⟨va_cnB 3 hts (lw_meth q369) rfl rfl rfl (hX.N q367 rfl) (hts _ q84) (by decide +kernel) ⟨Nat.le_of_ble_eq_true rfl, Nat.le_of_ble_eq_true rfl⟩, hts _ q368, trivial⟩ (z_preS hX hS hH) rfl rfl hl.1 rfl (lv_room (Nat.le_of_ble_eq_true rfl)) dX6_isFar_20 ⟨hc1, hs1⟩) hS (fun q _ hq => hq) (fun q hq => hq) (fun r u t H1 locs ht hvm hw hB hz hk hS => ?_)
  obtain ⟨hw1, hw2⟩ := Prod.mk.inj hw.symm; subst hw1; subst hw2
  have hH : zH D cA ζ s12 H1 := z_at ht.symm hB
  have hcs : s.heap.size + (cells + (s12.1 - τ.1)) = s12.1 := by omega
  have hss : sl0 + (slots + (s12.2.1 - τ.2.1)) = s12.2.1 := by omega
  replace hcM := And.intro hc1 hs1
  generalize cells + (s12.1 - τ.1) = cells at hcs hcM ⊢; generalize slots + (s12.2.1 - τ.2.1) = slots at hss hcM ⊢
  clear hB hk hz hvm ht hle hck hc1 hs1; generalize H1 = H at hH hS ⊢
  refine lv_lconst (v := 1) hx hb dX6_isFar_23 rfl ?_
  refine lv_lsub hx hb dX6_isFar_24 ?_
  refine lv_aload_n hx hb dX6_isFar_25 rfl (lv_at hl 0 rfl) ?_
  obtain ⟨f13, hf13, hf⟩ := dz_bo hf
  obtain ⟨x14, hx14, hf⟩ := dz_bo hf
  refine va_get (C := RX12) (T := TX12) (N := 8) hx hb hts in_X12 hown hX.K (zrd_P hX hS hH (zob_o hf13)) 0 rfl rfl 0 (by decide) (hts _ q532) (fun _ hq => hq) (zvl_o hx14) dX6_isFar_26 ?_
  obtain ⟨x15, hx15, hf⟩ := dz_bo hf
  refine va_calll (va_runS (As := [.long (x11 - 1), .long x14]) (rest := []) ⟨hx, hb, hml, hown, hts⟩ (mtJ5_floorMod l (x11 - 1) x14 K x15 hx15) (va_cwS 2 hts (lw_S q440 q411 q92 q412) rfl rfl rfl (by decide +kernel) ⟨Nat.le_of_ble_eq_true rfl, Nat.le_of_ble_eq_true rfl⟩) ⟨fun a U g mk q => q, fun U hU hW => ⟨rfl, trivial⟩⟩ rfl rfl hl.1 rfl (lv_room (Nat.le_of_ble_eq_true rfl)) dX6_isFar_29 ⟨hcM.1, hcM.2⟩) hS (fun q _ hq => hq.elim) (fun q hq => hq.elim) (fun r u t H1 locs ht hvm hw hB hz hk hS => dz_size (fun hz9 => ?_))
  replace hw := hw.symm; subst hw
  replace hH := zH_keep hH hcs hz hk hz9
  clear hB hk hz hvm ht hz9; generalize H1 = H at hH hS ⊢
  refine W.widen (k := cells) (n := slots) (Nat.le_refl _) (Nat.le_refl _) ?_
  refine lv_aload_n hx hb dX6_isFar_32 rfl (lv_at hl 0 rfl) ?_
  obtain ⟨f16, hf16, hf⟩ := dz_bo hf
  obtain ⟨x17, hx17, hf⟩ := dz_bo hf
  refine va_get (C := RX12) (T := TX12) (N := 8) hx hb hts in_X12 hown hX.K (zrd_P hX hS hH (zob_o hf16)) 0 rfl rfl 0 (by decide) (hts _ q532) (fun _ hq => hq) (zvl_o hx17) dX6_isFar_33 ?_
  obtain ⟨x18, hx18, hf⟩ := dz_bo hf
  refine va_calll (va_runSN (As := [.long x15, .long x17]) (rest := []) ⟨hx, hb, hml, hown, hts⟩ (mtX0_common l x15 x17 100 x18 hx18) ⟨va_cnB 2 hts (lw_meth q348) rfl rfl rfl (hX.N q441 rfl) (hts _ q84) (by decide +kernel) ⟨Nat.le_of_ble_eq_true rfl, Nat.le_of_ble_eq_true rfl⟩, hts _ q347, trivial⟩ ⟨fun a U g mk q => q, fun U hU hW => ⟨rfl, trivial⟩⟩ rfl rfl hl.1 rfl (lv_room (Nat.le_of_ble_eq_true rfl)) dX6_isFar_36 ⟨hcM.1, hcM.2⟩) hS (fun q _ hq => hq.elim) (fun q hq => hq.elim) (fun r u t H1 locs ht hvm hw hB hz hk hS => dz_size (fun hz9 => ?_))
  replace hw := hw.symm; subst hw
  replace hH := zH_keep hH hcs hz hk hz9
  clear hB hk hz hvm ht hz9; generalize H1 = H at hH hS ⊢
  refine W.widen (k := cells) (n := slots) (Nat.le_refl _) (Nat.le_refl _) ?_
  refine lv_lconst (v := 1) hx hb dX6_isFar_39 rfl ?_
  refine W.lcmp hx hb dX6_isFar_40 ?_
  refine lv_if_ne (tgt := 48) hx hb dX6_isFar_41 (by decide) (fun c41 => ?_) (fun c41 => ?_)
  · have c41 : ¬ x18 = (1 : Int64) := fun hq => c41 ((lg_cmp_eq _ _).mpr hq)
    have hf := dz_f c41 hf
    refine lv_iconst (v := 0) hx hb dX6_isFar_48 (by decide) ?_
    obtain ⟨hM1, hS1⟩ : cells = M ∧ slots = S := by have hq := congrArg Prod.snd (Option.some.inj hf); rw [← hq] at hM hS0; have hM : s.heap.size + M = s12.1 := hM; have hS0 : sl0 + S = s12.2.1 := hS0; omega
    refine W.widen (k := M) (n := S) (Nat.le_of_eq hM1) (Nat.le_of_eq hS1) ?_
    exact W.zret (v := 0) hx hb hr rfl (fun t ht hW => ⟨⟨0, s12, rfl, Option.some.inj hf, z_at ht hH⟩, hS.F ht⟩) hS.2.2 dX6_isFar_49
  · have c41 : x18 = (1 : Int64) := (lg_cmp_eq _ _).mp c41
    have hf := dz_t c41 hf
    refine lv_iconst (v := 1) hx hb dX6_isFar_44 (by decide) ?_
    refine lv_goto (tgt := 49) hx hb dX6_isFar_45 (by decide) ?_
    obtain ⟨hM1, hS1⟩ : cells = M ∧ slots = S := by have hq := congrArg Prod.snd (Option.some.inj hf); rw [← hq] at hM hS0; have hM : s.heap.size + M = s12.1 := hM; have hS0 : sl0 + S = s12.2.1 := hS0; omega
    refine W.widen (k := M) (n := S) (Nat.le_of_eq hM1) (Nat.le_of_eq hS1) ?_
    exact W.zret (v := 1) hx hb hr rfl (fun t ht hW => ⟨⟨1, s12, rfl, Option.some.inj hf, z_at ht hH⟩, hS.F ht⟩) hS.2.2 dX6_isFar_49

noncomputable def lfX6_isBacked_9__0 (K : Nat) (ζ : pZ) : Nat → (Nat → Int32 → Nat → pH → Option (Int32 × pH)) := Nat.rec (motive := fun _ => (Nat → Int32 → Nat → pH → Option (Int32 × pH))) (fun _ _ _ _ => none) (fun _ G => (fun v0 v2 v3 τ => dz_b (zob ζ τ v3 2) fun f3 => zcl τ (fnX2_hasNext K ζ v3 τ) fun x1 s2 => if x1 = (0 : Int32) then (some (1, s2)) else (dz_b (zob ζ s2 v3 2) fun f6 => zcl s2 (fnX2_next K ζ v3 s2) fun x4 s5 => dz_b (zob ζ s5 x4 11) fun f7 => dz_b (zob ζ s5 v0 9) fun f8 => dz_b (zvr (f8[6]?)) fun x9 => dz_b (zob ζ s5 x4 11) fun f10 => dz_b (zvl (f10[0]?)) fun x11 => dz_b (zob ζ s5 x9 0) fun f14 => zcl s5 (fnX0_restOn__0 K ζ x9 x11 v2 s5) fun x12 s13 => if (0 : Int32) ≤ x12 then (G v0 v2 v3 s13) else (some (0, s13)))))
noncomputable def fnX6_isBacked_9__0 (K : Nat) (ζ : pZ) (h : Nat) (a0 : Nat) (a1 : Int32) (τ : pH) : Option (Int32 × pH) := dz_b (zob ζ τ a0 10) fun f3 => zcl τ (fnX8_hasTwice K ζ a0 τ) fun x1 s2 => if x1 = (0 : Int32) then (dz_b (zob ζ s2 a0 10) fun f6 => zcl s2 (fnX8_iterator K ζ a0 s2) fun x4 s5 => (lfX6_isBacked_9__0 K ζ K) h a1 x4 s5) else (some (0, s2))
set_option maxHeartbeats 4000000 in
set_option maxRecDepth 100000 in
theorem wlX6_isBacked_9__0 {p : Program} {l : Launch} {e : Env} {s : State} {m : MethodId} {below : List Frame} {meth : Method} {c : Code} {D : va_G} {cA : Nat → ClassId} {ζ : pZ} (hX : zX D cA ζ s) (K : Nat) (res : (Int32 × pH)) (M S sl0 : Nat) (hM : s.heap.size + M = res.2.1) (hS0 : sl0 + S = res.2.2.1) (h : Nat) (a0 : Nat) (a1 : Int32) (hx : p.tables.exec = Jvm.exec) (hb : c.code = cX6_isBacked) (hr : meth.sig.returnType = some .boolean) (hlocks : meth.locks = false) (hml : c.maxLocals = 5) (hown : s.vm.findClass RX6 = some m.cls) (hts : ∀ w ∈ lw_all, w.before ([.ref h, .ref a0, .int a1] : List Value).toArray s = true) : ∀ k : Nat, (∀ (v0 : Nat) (v2 : Int32) (v3 : Nat) (τ : pH) (H : Heap) (locs : List Loc) (cells slots : Nat), zH D cA ζ τ H → va_S (zA ζ) s.heap H locs → s.heap.size + cells = τ.1 → sl0 + slots = τ.2.1 → cells ≤ M ∧ slots ≤ S → ∀ (ls : Array Slot), lv_has ls 5 [(0, .ref v0), (2, .int v2), (3, .ref v3)] → (lfX6_isBacked_9__0 K ζ k) v0 v2 v3 τ = some res → W p l e (headSpec (ws_ yX6_isBacked cX6_isBacked 5 (some .boolean)) ({ frames := 5, cells := M, slots := S, locals := 109 })).room s m ([.ref h, .ref a0, .int a1] : List Value).toArray below meth c H locs cells slots (MQ below (zQi D cA ζ res) ([.ref h, .ref a0, .int a1] : List Value).toArray s M S (zA ζ)) (F0 m 14 ls [])) := by
  intro k
  induction k with
  | zero =>
    exact fun _ _ _ _ _ _ _ _ _ _ _ _ _ _ _ hf => (by cases hf)
  | succ k ih =>
    · intro v0 v2 v3 τ H locs cells slots hH hS hcs hss hcM ls hl hf
      have hf : (dz_b (zob ζ τ v3 2) fun f3 => zcl τ (fnX2_hasNext K ζ v3 τ) fun x1 s2 => if x1 = (0 : Int32) then (some (1, s2)) else (dz_b (zob ζ s2 v3 2) fun f6 => zcl s2 (fnX2_next K ζ v3 s2) fun x4 s5 => dz_b (zob ζ s5 x4 11) fun f7 => dz_b (zob ζ s5 v0 9) fun f8 => dz_b (zvr (f8[6]?)) fun x9 => dz_b (zob ζ s5 x4 11) fun f10 => dz_b (zvl (f10[0]?)) fun x11 => dz_b (zob ζ s5 x9 0) fun f14 => zcl s5 (fnX0_restOn__0 K ζ x9 x11 v2 s5) fun x12 s13 => if (0 : Int32) ≤ x12 then ((lfX6_isBacked_9__0 K ζ k) v0 v2 v3 s13) else (some (0, s13))) : Option (Int32 × pH)) = some res := hf
      refine lv_aload_n hx hb dX6_isBacked_14 rfl (lv_at hl 2 rfl) ?_
      obtain ⟨f3, hf3, hf⟩ := dz_bo hf
      obtain ⟨x1, s2, hx1, hle, hck, hf⟩ := zcl_o hf
      have hc1 : cells + (s2.1 - τ.1) ≤ M := by omega
      have hs1 : slots + (s2.2.1 - τ.2.1) ≤ S := by omega
      refine va_callFi (va_runF (hX.K.1 2 _ rfl).2 (As := []) (rest := []) ⟨hx, hb, hml, hown, hts⟩ (mtX2_hasNext l D cA ζ τ v3 K (x1, s2) hx1 (s2.1 - τ.1) (s2.2.1 - τ.2.1) (Nat.add_sub_cancel' hle.1) (Nat.add_sub_cancel' hle.2)) (va_cwF 0 hts (zF_in q263 q267 q269 q91 q271) rfl rfl rfl (hX.F 0 rfl) (by decide +kernel) ⟨Nat.le_of_ble_eq_true rfl, Nat.le_of_ble_eq_true rfl⟩) (z_preV hX hS hH (zob_o hf3) rfl) rfl rfl hl.1 rfl (lv_room (Nat.le_of_ble_eq_true rfl)) dX6_isBacked_15 ⟨hc1, hs1⟩) hS (fun q _ hq => hq) (fun q hq => hq) (fun r u t H1 locs ht hvm hw hB hz hk hS => ?_)
      obtain ⟨hw1, hw2⟩ := Prod.mk.inj hw.symm; subst hw1; subst hw2
      have hH : zH D cA ζ s2 H1 := z_at ht.symm hB
      have hcs : s.heap.size + (cells + (s2.1 - τ.1)) = s2.1 := by omega
      have hss : sl0 + (slots + (s2.2.1 - τ.2.1)) = s2.2.1 := by omega
      replace hcM := And.intro hc1 hs1
      generalize cells + (s2.1 - τ.1) = cells at hcs hcM ⊢; generalize slots + (s2.2.1 - τ.2.1) = slots at hss hcM ⊢
      clear hB hk hz hvm ht hle hck hc1 hs1; generalize H1 = H at hH hS ⊢
      refine lv_if_eq (tgt := 55) hx hb dX6_isBacked_20 (by decide) (fun c20 => ?_) (fun c20 => ?_)
      · have hf := dz_t c20 hf
        refine lv_iconst (v := 1) hx hb dX6_isBacked_55 (by decide) ?_
        obtain ⟨hM1, hS1⟩ : cells = M ∧ slots = S := by have hq := congrArg Prod.snd (Option.some.inj hf); rw [← hq] at hM hS0; have hM : s.heap.size + M = s2.1 := hM; have hS0 : sl0 + S = s2.2.1 := hS0; omega
        refine W.widen (k := M) (n := S) (Nat.le_of_eq hM1) (Nat.le_of_eq hS1) ?_
        exact W.zret (v := 1) hx hb hr rfl (fun t ht hW => ⟨⟨1, s2, rfl, Option.some.inj hf, z_at ht hH⟩, hS.F ht⟩) hS.2.2 dX6_isBacked_56
      · have hf := dz_f c20 hf
        refine lv_aload_n hx hb dX6_isBacked_23 rfl (lv_at hl 2 rfl) ?_
        obtain ⟨f6, hf6, hf⟩ := dz_bo hf
        obtain ⟨x4, s5, hx4, hle, hck, hf⟩ := zcl_o hf
        have hc1 : cells + (s5.1 - s2.1) ≤ M := by omega
        have hs1 : slots + (s5.2.1 - s2.2.1) ≤ S := by omega
        refine va_callFr (va_runF (hX.K.1 2 _ rfl).2 (As := []) (rest := []) ⟨hx, hb, hml, hown, hts⟩ (mtX2_next l D cA ζ s2 v3 K (x4, s5) hx4 (s5.1 - s2.1) (s5.2.1 - s2.2.1) (Nat.add_sub_cancel' hle.1) (Nat.add_sub_cancel' hle.2)) (va_cwF 0 hts (zF_in q279 q282 q284 q91 q286) rfl rfl rfl (hX.F 1 rfl) (by decide +kernel) ⟨Nat.le_of_ble_eq_true rfl, Nat.le_of_ble_eq_true rfl⟩) (z_preV hX hS hH (zob_o hf6) rfl) rfl rfl hl.1 rfl (lv_room (Nat.le_of_ble_eq_true rfl)) dX6_isBacked_24 ⟨hc1, hs1⟩) hS (fun q _ hq => hq) (fun q hq => hq) (fun u r t H1 locs ht hvm hw hB hz hk hS => ?_)
        obtain ⟨hw, hB⟩ := hB
        obtain ⟨hw1, hw2⟩ := Prod.mk.inj hw.symm; subst hw1; subst hw2
        have hH : zH D cA ζ s5 H1 := z_at ht.symm hB
        have hcs : s.heap.size + (cells + (s5.1 - s2.1)) = s5.1 := by omega
        have hss : sl0 + (slots + (s5.2.1 - s2.2.1)) = s5.2.1 := by omega
        replace hcM := And.intro hc1 hs1
        generalize cells + (s5.1 - s2.1) = cells at hcs hcM ⊢; generalize slots + (s5.2.1 - s2.2.1) = slots at hss hcM ⊢
        clear hB hk hz hvm ht hle hck hc1 hs1; generalize H1 = H at hH hS ⊢
        obtain ⟨f7, hf7, hf⟩ := dz_bo hf
        refine va_castS (nm := RX13) hx hb hown (hts _ q300) (hX.K.1 11 _ rfl).2 (va_recv hX.K (zrd_P hX hS hH (zob_o hf7)) (ci := 11) (q0 := 0) rfl rfl) dX6_isBacked_29 ?_
        refine lv_astore (lv' := [(4, .ref x4), (0, .ref v0), (2, .int v2), (3, .ref v3)]) hx hb dX6_isBacked_32 hl (by decide) rfl (fun ls hl => ?_)
        refine lv_aload_n hx hb dX6_isBacked_34 rfl (lv_at hl 1 rfl) ?_
        obtain ⟨f8, hf8, hf⟩ := dz_bo hf
        obtain ⟨x9, hx9, hf⟩ := dz_bo hf
        refine va_get (C := RX12) (T := TX12) (N := 8) hx hb hts in_X12 hown hX.K (zrd_P hX hS hH (zob_o hf8)) 0 rfl rfl 6 (by decide) (hts _ q566) (fun _ hq => hq) (zvr_o hx9) dX6_isBacked_35 ?_
        refine lv_aload hx hb dX6_isBacked_38 (lv_at hl 0 rfl) ?_
        obtain ⟨f10, hf10, hf⟩ := dz_bo hf
        obtain ⟨x11, hx11, hf⟩ := dz_bo hf
        refine va_get (C := RX13) (T := TX13) (N := 3) hx hb hts in_X13 hown hX.K (zrd_P hX hS hH (zob_o hf10)) 0 rfl rfl 0 (by decide) (hts _ q684) (fun _ hq => hq) (zvl_o hx11) dX6_isBacked_40 ?_
        refine lv_iload_n hx hb dX6_isBacked_43 rfl (lv_at hl 2 rfl) ?_
        obtain ⟨f14, hf14, hf⟩ := dz_bo hf
        obtain ⟨x12, s13, hx12, hle, hck, hf⟩ := zcl_o hf
        have hc1 : cells + (s13.1 - s5.1) ≤ M := by omega
        have hs1 : slots + (s13.2.1 - s5.2.1) ≤ S := by omega
        refine va_calli (va_runVN (As := [.long x11, .int v2]) (rest := []) ⟨hx, hb, hml, hown, hts⟩ (mtX0_restOn__0 l D cA ζ s5 x9 x11 v2 K (x12, s13) hx12 (s13.1 - s5.1) (s13.2.1 - s5.2.1) (Nat.add_sub_cancel' hle.1) (Nat.add_sub_cancel' hle.2)) ⟨va_cnB 2 hts (lw_meth q304) rfl rfl rfl (hX.N q301 rfl) (hts _ q84) (by decide +kernel) ⟨Nat.le_of_ble_eq_true rfl, Nat.le_of_ble_eq_true rfl⟩, hts _ q303, hts _ qs2⟩ (z_preV hX hS hH (zob_o hf14) rfl) rfl rfl hl.1 rfl (lv_room (Nat.le_of_ble_eq_true rfl)) dX6_isBacked_44 ⟨hc1, hs1⟩) hS (fun q _ hq => hq) (fun q hq => hq) (fun r u t H1 locs ht hvm hw hB hz hk hS => ?_)
        obtain ⟨hw1, hw2⟩ := Prod.mk.inj hw.symm; subst hw1; subst hw2
        have hH : zH D cA ζ s13 H1 := z_at ht.symm hB
        have hcs : s.heap.size + (cells + (s13.1 - s5.1)) = s13.1 := by omega
        have hss : sl0 + (slots + (s13.2.1 - s5.2.1)) = s13.2.1 := by omega
        replace hcM := And.intro hc1 hs1
        generalize cells + (s13.1 - s5.1) = cells at hcs hcM ⊢; generalize slots + (s13.2.1 - s5.2.1) = slots at hss hcM ⊢
        clear hB hk hz hvm ht hle hck hc1 hs1; generalize H1 = H at hH hS ⊢
        refine lv_if_ge (tgt := 52) hx hb dX6_isBacked_47 (by decide) (fun c47 => ?_) (fun c47 => ?_)
        · have hf := dz_t c47 hf
          refine lv_goto (tgt := 14) hx hb dX6_isBacked_52 (by decide) ?_
          exact ih v0 v2 v3 s13 H locs cells slots hH hS hcs hss hcM ls (lv_sub hl [1, 2, 3] rfl) hf
        · have hf := dz_f c47 hf
          refine lv_iconst (v := 0) hx hb dX6_isBacked_50 (by decide) ?_
          obtain ⟨hM1, hS1⟩ : cells = M ∧ slots = S := by have hq := congrArg Prod.snd (Option.some.inj hf); rw [← hq] at hM hS0; have hM : s.heap.size + M = s13.1 := hM; have hS0 : sl0 + S = s13.2.1 := hS0; omega
          refine W.widen (k := M) (n := S) (Nat.le_of_eq hM1) (Nat.le_of_eq hS1) ?_
          exact W.zret (v := 0) hx hb hr rfl (fun t ht hW => ⟨⟨0, s13, rfl, Option.some.inj hf, z_at ht hH⟩, hS.F ht⟩) hS.2.2 dX6_isBacked_51
set_option maxHeartbeats 4000000 in
set_option maxRecDepth 100000 in
theorem mtX6_isBacked_9__0 (l : Launch) (D : va_G) (cA : Nat → ClassId) (ζ : pZ) (τ : pH) (h : Nat) (a0 : Nat) (a1 : Int32) (K : Nat) (res : (Int32 × pH)) (hf : fnX6_isBacked_9__0 K ζ h a0 a1 τ = some res) (M S : Nat) (hM : τ.1 + M = res.2.1) (hS0 : τ.2.1 + S = res.2.2.1) : Met l yX6_isBacked (ws_ yX6_isBacked cX6_isBacked 5 (some .boolean)) ({ frames := 5, cells := M, slots := S, locals := 109 }) (zPc D cA ζ τ [.ref h, .ref a0, .int a1]) (zQi D cA ζ res) M S (zA ζ) := by
  refine Met.ofW (cc := cX6_isBacked) (maxL := 5) (ret := some .boolean) (by decide +kernel) rfl ?_
  intro p e s m args below meth c s₁ B hml hv
  obtain ⟨rfl, hX, hH⟩ := hv
  have hx := B.exec
  have hb := B.bytes
  have hr := B.returns
  have hts := atoms_spec (ws := ws_ yX6_isBacked cX6_isBacked 5 (some .boolean)) B.pre
  have hts : ∀ w ∈ lw_all, w.before _ s = true := fun w h => hts w (List.mem_cons_of_mem _ h)
  have hown : s.vm.findClass RX6 = some m.cls := findClass_of_methodNamed B.named
  have hlocks := B.notSynchronized
  have hM : s.heap.size + M = res.2.1 := by rw [hH.1]; exact hM
  have hcs : s.heap.size + 0 = τ.1 := hH.1
  have hss : τ.2.1 + 0 = τ.2.1 := rfl
  generalize hsl0 : τ.2.1 = sl0 at hS0 hss
  have hss : sl0 + 0 = τ.2.1 := by rw [hsl0]; rfl
  have hS : va_S (zA ζ) s.heap s.heap [] := va_S.rf
  generalize hHe : s.heap = H at hH hS ⊢
  have hS : va_S (zA ζ) s.heap H [] := by rw [hHe]; exact hS
  generalize ([] : List Loc) = locs at hS ⊢
  have hl := lv_entry ([.ref h, .ref a0, .int a1]) (n := 5) (Nat.le_of_ble_eq_true rfl)
  rw [lg_entry_eq]
  generalize (lg_sl ([.ref h, .ref a0, .int a1]) ++ List.replicate (5 - (lg_sl ([.ref h, .ref a0, .int a1])).length) Slot.unset).toArray = ls at hl ⊢
  have hl : lv_has ls 5 [(0, .ref h), (1, .ref a0), (2, .int a1)] := hl
  have hf : (dz_b (zob ζ τ a0 10) fun f3 => zcl τ (fnX8_hasTwice K ζ a0 τ) fun x1 s2 => if x1 = (0 : Int32) then (dz_b (zob ζ s2 a0 10) fun f6 => zcl s2 (fnX8_iterator K ζ a0 s2) fun x4 s5 => (lfX6_isBacked_9__0 K ζ K) h a1 x4 s5) else (some (0, s2)) : Option (Int32 × pH)) = some res := hf
  refine z_gen (fun cells slots hc0 hs0 => ?_)
  have hcs : s.heap.size + cells = τ.1 := by rw [hc0]; exact hcs
  have hss : sl0 + slots = τ.2.1 := by rw [hs0]; exact hss
  have hcM : cells ≤ M ∧ slots ≤ S := by rw [hc0, hs0]; exact ⟨Nat.zero_le _, Nat.zero_le _⟩
  clear hc0 hs0
  have ih := wlX6_isBacked_9__0 (l := l) (e := e) (below := below) (D := D) (cA := cA) hX K res M S sl0 hM hS0 h a0 a1 hx hb hr hlocks hml hown hts K
  refine lv_aload_n hx hb dX6_isBacked_0 rfl (lv_at hl 1 rfl) ?_
  obtain ⟨f3, hf3, hf⟩ := dz_bo hf
  obtain ⟨x1, s2, hx1, hle, hck, hf⟩ := zcl_o hf
  have hc1 : cells + (s2.1 - τ.1) ≤ M := by omega
  have hs1 : slots + (s2.2.1 - τ.2.1) ≤ S := by omega
  refine va_calli (va_runV (As := []) (rest := []) ⟨hx, hb, hml, hown, hts⟩ (mtX8_hasTwice l D cA ζ τ a0 K (x1, s2) hx1 (s2.1 - τ.1) (s2.2.1 - τ.2.1) (Nat.add_sub_cancel' hle.1) (Nat.add_sub_cancel' hle.2)) (cwV 0 hts (lw_V q241 q242 q243 q98 q244) rfl rfl rfl (by decide +kernel) ⟨Nat.le_of_ble_eq_true rfl, Nat.le_of_ble_eq_true rfl⟩) (z_preV hX hS hH (zob_o hf3) rfl) rfl rfl hl.1 rfl (lv_room (Nat.le_of_ble_eq_true rfl)) dX6_isBacked_1 ⟨hc1, hs1⟩) hS (fun q _ hq => hq) (fun q hq => hq) (fun r u t H1 locs ht hvm hw hB hz hk hS => ?_)
  obtain ⟨hw1, hw2⟩ := Prod.mk.inj hw.symm; subst hw1; subst hw2
  have hH : zH D cA ζ s2 H1 := z_at ht.symm hB
  have hcs : s.heap.size + (cells + (s2.1 - τ.1)) = s2.1 := by omega
  have hss : sl0 + (slots + (s2.2.1 - τ.2.1)) = s2.2.1 := by omega
  replace hcM := And.intro hc1 hs1
  generalize cells + (s2.1 - τ.1) = cells at hcs hcM ⊢; generalize slots + (s2.2.1 - τ.2.1) = slots at hss hcM ⊢
  clear hB hk hz hvm ht hle hck hc1 hs1; generalize H1 = H at hH hS ⊢
  refine lv_if_eq (tgt := 9) hx hb dX6_isBacked_4 (by decide) (fun c4 => ?_) (fun c4 => ?_)
  · have hf := dz_t c4 hf
    refine lv_aload_n hx hb dX6_isBacked_9 rfl (lv_at hl 1 rfl) ?_
    obtain ⟨f6, hf6, hf⟩ := dz_bo hf
    obtain ⟨x4, s5, hx4, hle, hck, hf⟩ := zcl_o hf
    have hc1 : cells + (s5.1 - s2.1) ≤ M := by omega
    have hs1 : slots + (s5.2.1 - s2.2.1) ≤ S := by omega
    refine va_callr (va_runV (As := []) (rest := []) ⟨hx, hb, hml, hown, hts⟩ (mtX8_iterator l D cA ζ s2 a0 K (x4, s5) hx4 (s5.1 - s2.1) (s5.2.1 - s2.2.1) (Nat.add_sub_cancel' hle.1) (Nat.add_sub_cancel' hle.2)) (cwV 0 hts (lw_V q245 q246 q247 q98 q248) rfl rfl rfl (by decide +kernel) ⟨Nat.le_of_ble_eq_true rfl, Nat.le_of_ble_eq_true rfl⟩) (z_preV hX hS hH (zob_o hf6) rfl) rfl rfl hl.1 rfl (lv_room (Nat.le_of_ble_eq_true rfl)) dX6_isBacked_10 ⟨hc1, hs1⟩) hS (fun q _ hq => hq) (fun q hq => hq) (fun u r t H1 locs ht hvm hw hB hz hk hS => ?_)
    obtain ⟨hw, hB⟩ := hB
    obtain ⟨hw1, hw2⟩ := Prod.mk.inj hw.symm; subst hw1; subst hw2
    have hH : zH D cA ζ s5 H1 := z_at ht.symm hB
    have hcs : s.heap.size + (cells + (s5.1 - s2.1)) = s5.1 := by omega
    have hss : sl0 + (slots + (s5.2.1 - s2.2.1)) = s5.2.1 := by omega
    replace hcM := And.intro hc1 hs1
    generalize cells + (s5.1 - s2.1) = cells at hcs hcM ⊢; generalize slots + (s5.2.1 - s2.2.1) = slots at hss hcM ⊢
    clear hB hk hz hvm ht hle hck hc1 hs1; generalize H1 = H at hH hS ⊢
    refine lv_astore_n (lv' := [(3, .ref x4), (0, .ref h), (1, .ref a0), (2, .int a1)]) hx hb dX6_isBacked_13 rfl hl (by decide) rfl (fun ls hl => ?_)
    exact ih h a1 x4 s5 H locs cells slots hH hS hcs hss hcM ls (lv_sub hl [1, 3, 0] rfl) hf
  · have hf := dz_f c4 hf
    refine lv_iconst (v := 0) hx hb dX6_isBacked_7 (by decide) ?_
    obtain ⟨hM1, hS1⟩ : cells = M ∧ slots = S := by have hq := congrArg Prod.snd (Option.some.inj hf); rw [← hq] at hM hS0; have hM : s.heap.size + M = s2.1 := hM; have hS0 : sl0 + S = s2.2.1 := hS0; omega
    refine W.widen (k := M) (n := S) (Nat.le_of_eq hM1) (Nat.le_of_eq hS1) ?_
    exact W.zret (v := 0) hx hb hr rfl (fun t ht hW => ⟨⟨0, s2, rfl, Option.some.inj hf, z_at ht hH⟩, hS.F ht⟩) hS.2.2 dX6_isBacked_8

noncomputable def fnX12_isWhole (K : Nat) (ζ : pZ) (h : Nat) (τ : pH) : Option (Int32 × pH) := dz_b (zob ζ τ h 9) fun f1 => dz_b (zvl (f1[0]?)) fun x2 => dz_b (zob ζ τ h 9) fun f3 => dz_b (zvr (f3[4]?)) fun x4 => dz_b (zob ζ τ x4 10) fun f7 => zcl τ (fnX8_product K ζ x4 τ) fun x5 s6 => if ¬ x5 = 0 then (dz_l ((x2 - 1) - (x2 - 1) / x5 * x5) fun x9 => if x9 = (0 : Int64) then (dz_b (zob ζ s6 h 9) fun f10 => dz_b (zvl (f10[0]?)) fun x11 => dz_b (zob ζ s6 h 9) fun f12 => dz_b (zvr (f12[5]?)) fun x13 => dz_b (zob ζ s6 x13 10) fun f16 => zcl s6 (fnX8_product K ζ x13 s6) fun x14 s15 => if ¬ x14 = 0 then (dz_l ((x11 + 1) - (x11 + 1) / x14 * x14) fun x18 => if x18 = (0 : Int64) then (some (1, s15)) else (some (0, s15))) else none) else (some (0, s6))) else none
set_option maxHeartbeats 4000000 in
set_option maxRecDepth 100000 in
theorem mtX12_isWhole (l : Launch) (D : va_G) (cA : Nat → ClassId) (ζ : pZ) (τ : pH) (h : Nat) (K : Nat) (res : (Int32 × pH)) (hf : fnX12_isWhole K ζ h τ = some res) (M S : Nat) (hM : τ.1 + M = res.2.1) (hS0 : τ.2.1 + S = res.2.2.1) : Met l yX12_isWhole (ws_ yX12_isWhole cX12_isWhole 1 (some .boolean)) ({ frames := 4, cells := M, slots := S, locals := 86 }) (zPc D cA ζ τ [.ref h]) (zQi D cA ζ res) M S (zA ζ) := by
  refine Met.ofW (cc := cX12_isWhole) (maxL := 1) (ret := some .boolean) (by decide +kernel) rfl ?_
  intro p e s m args below meth c s₁ B hml hv
  obtain ⟨rfl, hX, hH⟩ := hv
  have hx := B.exec
  have hb := B.bytes
  have hr := B.returns
  have hts := atoms_spec (ws := ws_ yX12_isWhole cX12_isWhole 1 (some .boolean)) B.pre
  have hts : ∀ w ∈ lw_all, w.before _ s = true := fun w h => hts w (List.mem_cons_of_mem _ h)
  have hown : s.vm.findClass RX12 = some m.cls := findClass_of_methodNamed B.named
  have hlocks := B.notSynchronized
  have hM : s.heap.size + M = res.2.1 := by rw [hH.1]; exact hM
  have hcs : s.heap.size + 0 = τ.1 := hH.1
  have hss : τ.2.1 + 0 = τ.2.1 := rfl
  generalize hsl0 : τ.2.1 = sl0 at hS0 hss
  have hss : sl0 + 0 = τ.2.1 := by rw [hsl0]; rfl
  have hS : va_S (zA ζ) s.heap s.heap [] := va_S.rf
  generalize hHe : s.heap = H at hH hS ⊢
  have hS : va_S (zA ζ) s.heap H [] := by rw [hHe]; exact hS
  generalize ([] : List Loc) = locs at hS ⊢
  have hl := lv_entry ([.ref h]) (n := 1) (Nat.le_of_ble_eq_true rfl)
  rw [lg_entry_eq]
  generalize (lg_sl ([.ref h]) ++ List.replicate (1 - (lg_sl ([.ref h])).length) Slot.unset).toArray = ls at hl ⊢
  have hl : lv_has ls 1 [(0, .ref h)] := hl
  have hf : (dz_b (zob ζ τ h 9) fun f1 => dz_b (zvl (f1[0]?)) fun x2 => dz_b (zob ζ τ h 9) fun f3 => dz_b (zvr (f3[4]?)) fun x4 => dz_b (zob ζ τ x4 10) fun f7 => zcl τ (fnX8_product K ζ x4 τ) fun x5 s6 => if ¬ x5 = 0 then (dz_l ((x2 - 1) - (x2 - 1) / x5 * x5) fun x9 => if x9 = (0 : Int64) then (dz_b (zob ζ s6 h 9) fun f10 => dz_b (zvl (f10[0]?)) fun x11 => dz_b (zob ζ s6 h 9) fun f12 => dz_b (zvr (f12[5]?)) fun x13 => dz_b (zob ζ s6 x13 10) fun f16 => zcl s6 (fnX8_product K ζ x13 s6) fun x14 s15 => if ¬ x14 = 0 then (dz_l ((x11 + 1) - (x11 + 1) / x14 * x14) fun x18 => if x18 = (0 : Int64) then (some (1, s15)) else (some (0, s15))) else none) else (some (0, s6))) else none : Option (Int32 × pH)) = some res := hf
  refine z_gen (fun cells slots hc0 hs0 => ?_)
  have hcs : s.heap.size + cells = τ.1 := by rw [hc0]; exact hcs
  have hss : sl0 + slots = τ.2.1 := by rw [hs0]; exact hss
  have hcM : cells ≤ M ∧ slots ≤ S := by rw [hc0, hs0]; exact ⟨Nat.zero_le _, Nat.zero_le _⟩
  clear hc0 hs0
  refine lv_aload_n hx hb dX12_isWhole_0 rfl (lv_at hl 0 rfl) ?_
  obtain ⟨f1, hf1, hf⟩ := dz_bo hf
  obtain ⟨x2, hx2, hf⟩ := dz_bo hf
  refine va_get (C := RX12) (T := TX12) (N := 8) hx hb hts in_X12 hown hX.K (zrd_P hX hS hH (zob_o hf1)) 0 rfl rfl 0 (by decide) (hts _ q533) (fun x hq => u_same (hts _ q534) x hq) (zvl_o hx2) dX12_isWhole_1 ?_
  refine lv_lconst (v := 1) hx hb dX12_isWhole_4 rfl ?_
  refine lv_lsub hx hb dX12_isWhole_5 ?_
  refine lv_aload_n hx hb dX12_isWhole_6 rfl (lv_at hl 0 rfl) ?_
  obtain ⟨f3, hf3, hf⟩ := dz_bo hf
  obtain ⟨x4, hx4, hf⟩ := dz_bo hf
  refine va_get (C := RX12) (T := TX12) (N := 8) hx hb hts in_X12 hown hX.K (zrd_P hX hS hH (zob_o hf3)) 0 rfl rfl 4 (by decide) (hts _ q553) (fun x hq => u_same (hts _ q554) x hq) (zvr_o hx4) dX12_isWhole_7 ?_
  obtain ⟨f7, hf7, hf⟩ := dz_bo hf
  obtain ⟨x5, s6, hx5, hle, hck, hf⟩ := zcl_o hf
  have hc1 : cells + (s6.1 - τ.1) ≤ M := by omega
  have hs1 : slots + (s6.2.1 - τ.2.1) ≤ S := by omega
  refine va_calll (va_runV (As := []) (rest := [.long (x2 - 1)]) ⟨hx, hb, hml, hown, hts⟩ (mtX8_product l D cA ζ τ x4 K (x5, s6) hx5 (s6.1 - τ.1) (s6.2.1 - τ.2.1) (Nat.add_sub_cancel' hle.1) (Nat.add_sub_cancel' hle.2)) (cwV 0 hts (lw_V q311 q312 q313 q98 q314) rfl rfl rfl (by decide +kernel) ⟨Nat.le_of_ble_eq_true rfl, Nat.le_of_ble_eq_true rfl⟩) (z_preV hX hS hH (zob_o hf7) rfl) rfl rfl hl.1 rfl (lv_room (Nat.le_of_ble_eq_true rfl)) dX12_isWhole_10 ⟨hc1, hs1⟩) hS (fun q _ hq => hq) (fun q hq => hq) (fun r u t H1 locs ht hvm hw hB hz hk hS => ?_)
  obtain ⟨hw1, hw2⟩ := Prod.mk.inj hw.symm; subst hw1; subst hw2
  have hH : zH D cA ζ s6 H1 := z_at ht.symm hB
  have hcs : s.heap.size + (cells + (s6.1 - τ.1)) = s6.1 := by omega
  have hss : sl0 + (slots + (s6.2.1 - τ.2.1)) = s6.2.1 := by omega
  replace hcM := And.intro hc1 hs1
  generalize cells + (s6.1 - τ.1) = cells at hcs hcM ⊢; generalize slots + (s6.2.1 - τ.2.1) = slots at hss hcM ⊢
  clear hB hk hz hvm ht hle hck hc1 hs1; generalize H1 = H at hH hS ⊢
  obtain ⟨g8, hf⟩ := dz_go hf
  refine lv_lrem hx hb dX12_isWhole_13 g8 ?_
  refine lv_topl (fun x9 e_x9 => ?_)
  have hf := dz_ls e_x9 hf
  refine lv_lconst (v := 0) hx hb dX12_isWhole_14 rfl ?_
  refine W.lcmp hx hb dX12_isWhole_15 ?_
  refine lv_if_ne (tgt := 42) hx hb dX12_isWhole_16 (by decide) (fun c16 => ?_) (fun c16 => ?_)
  · have c16 : ¬ x9 = (0 : Int64) := fun hq => c16 ((lg_cmp_eq _ _).mpr hq)
    have hf := dz_f c16 hf
    refine lv_iconst (v := 0) hx hb dX12_isWhole_42 (by decide) ?_
    obtain ⟨hM1, hS1⟩ : cells = M ∧ slots = S := by have hq := congrArg Prod.snd (Option.some.inj hf); rw [← hq] at hM hS0; have hM : s.heap.size + M = s6.1 := hM; have hS0 : sl0 + S = s6.2.1 := hS0; omega
    refine W.widen (k := M) (n := S) (Nat.le_of_eq hM1) (Nat.le_of_eq hS1) ?_
    exact W.zret (v := 0) hx hb hr rfl (fun t ht hW => ⟨⟨0, s6, rfl, Option.some.inj hf, z_at ht hH⟩, hS.F ht⟩) hS.2.2 dX12_isWhole_43
  · have c16 : x9 = (0 : Int64) := (lg_cmp_eq _ _).mp c16
    have hf := dz_t c16 hf
    refine lv_aload_n hx hb dX12_isWhole_19 rfl (lv_at hl 0 rfl) ?_
    obtain ⟨f10, hf10, hf⟩ := dz_bo hf
    obtain ⟨x11, hx11, hf⟩ := dz_bo hf
    refine va_get (C := RX12) (T := TX12) (N := 8) hx hb hts in_X12 hown hX.K (zrd_P hX hS hH (zob_o hf10)) 0 rfl rfl 0 (by decide) (hts _ q533) (fun x hq => u_same (hts _ q534) x hq) (zvl_o hx11) dX12_isWhole_20 ?_
    refine lv_lconst (v := 1) hx hb dX12_isWhole_23 rfl ?_
    refine lv_ladd hx hb dX12_isWhole_24 ?_
    refine lv_aload_n hx hb dX12_isWhole_25 rfl (lv_at hl 0 rfl) ?_
    obtain ⟨f12, hf12, hf⟩ := dz_bo hf
    obtain ⟨x13, hx13, hf⟩ := dz_bo hf
    refine va_get (C := RX12) (T := TX12) (N := 8) hx hb hts in_X12 hown hX.K (zrd_P hX hS hH (zob_o hf12)) 0 rfl rfl 5 (by decide) (hts _ q562) (fun x hq => u_same (hts _ q563) x hq) (zvr_o hx13) dX12_isWhole_26 ?_
    obtain ⟨f16, hf16, hf⟩ := dz_bo hf
    obtain ⟨x14, s15, hx14, hle, hck, hf⟩ := zcl_o hf
    have hc1 : cells + (s15.1 - s6.1) ≤ M := by omega
    have hs1 : slots + (s15.2.1 - s6.2.1) ≤ S := by omega
    refine va_calll (va_runV (As := []) (rest := [.long (x11 + 1)]) ⟨hx, hb, hml, hown, hts⟩ (mtX8_product l D cA ζ s6 x13 K (x14, s15) hx14 (s15.1 - s6.1) (s15.2.1 - s6.2.1) (Nat.add_sub_cancel' hle.1) (Nat.add_sub_cancel' hle.2)) (cwV 0 hts (lw_V q311 q312 q313 q98 q314) rfl rfl rfl (by decide +kernel) ⟨Nat.le_of_ble_eq_true rfl, Nat.le_of_ble_eq_true rfl⟩) (z_preV hX hS hH (zob_o hf16) rfl) rfl rfl hl.1 rfl (lv_room (Nat.le_of_ble_eq_true rfl)) dX12_isWhole_29 ⟨hc1, hs1⟩) hS (fun q _ hq => hq) (fun q hq => hq) (fun r u t H1 locs ht hvm hw hB hz hk hS => ?_)
    obtain ⟨hw1, hw2⟩ := Prod.mk.inj hw.symm; subst hw1; subst hw2
    have hH : zH D cA ζ s15 H1 := z_at ht.symm hB
    have hcs : s.heap.size + (cells + (s15.1 - s6.1)) = s15.1 := by omega
    have hss : sl0 + (slots + (s15.2.1 - s6.2.1)) = s15.2.1 := by omega
    replace hcM := And.intro hc1 hs1
    generalize cells + (s15.1 - s6.1) = cells at hcs hcM ⊢; generalize slots + (s15.2.1 - s6.2.1) = slots at hss hcM ⊢
    clear hB hk hz hvm ht hle hck hc1 hs1; generalize H1 = H at hH hS ⊢
    obtain ⟨g17, hf⟩ := dz_go hf
    refine lv_lrem hx hb dX12_isWhole_32 g17 ?_
    refine lv_topl (fun x18 e_x18 => ?_)
    have hf := dz_ls e_x18 hf
    refine lv_lconst (v := 0) hx hb dX12_isWhole_33 rfl ?_
    refine W.lcmp hx hb dX12_isWhole_34 ?_
    refine lv_if_ne (tgt := 42) hx hb dX12_isWhole_35 (by decide) (fun c35 => ?_) (fun c35 => ?_)
    · have c35 : ¬ x18 = (0 : Int64) := fun hq => c35 ((lg_cmp_eq _ _).mpr hq)
      have hf := dz_f c35 hf
      refine lv_iconst (v := 0) hx hb dX12_isWhole_42 (by decide) ?_
      obtain ⟨hM1, hS1⟩ : cells = M ∧ slots = S := by have hq := congrArg Prod.snd (Option.some.inj hf); rw [← hq] at hM hS0; have hM : s.heap.size + M = s15.1 := hM; have hS0 : sl0 + S = s15.2.1 := hS0; omega
      refine W.widen (k := M) (n := S) (Nat.le_of_eq hM1) (Nat.le_of_eq hS1) ?_
      exact W.zret (v := 0) hx hb hr rfl (fun t ht hW => ⟨⟨0, s15, rfl, Option.some.inj hf, z_at ht hH⟩, hS.F ht⟩) hS.2.2 dX12_isWhole_43
    · have c35 : x18 = (0 : Int64) := (lg_cmp_eq _ _).mp c35
      have hf := dz_t c35 hf
      refine lv_iconst (v := 1) hx hb dX12_isWhole_38 (by decide) ?_
      refine lv_goto (tgt := 43) hx hb dX12_isWhole_39 (by decide) ?_
      obtain ⟨hM1, hS1⟩ : cells = M ∧ slots = S := by have hq := congrArg Prod.snd (Option.some.inj hf); rw [← hq] at hM hS0; have hM : s.heap.size + M = s15.1 := hM; have hS0 : sl0 + S = s15.2.1 := hS0; omega
      refine W.widen (k := M) (n := S) (Nat.le_of_eq hM1) (Nat.le_of_eq hS1) ?_
      exact W.zret (v := 1) hx hb hr rfl (fun t ht hW => ⟨⟨1, s15, rfl, Option.some.inj hf, z_at ht hH⟩, hS.F ht⟩) hS.2.2 dX12_isWhole_43

noncomputable def lfX12_isEnough (K : Nat) (ζ : pZ) : Nat → (Nat → Int64 → pH → Option (Int32 × pH)) × (pH → Option (Int32 × pH)) := Nat.rec (motive := fun _ => (Nat → Int64 → pH → Option (Int32 × pH)) × (pH → Option (Int32 × pH))) ((fun _ _ _ => none), (fun _ => none)) (fun _ G => ((fun v0 v5 τ => dz_b (zob ζ τ v0 9) fun f1 => dz_b (zvl (f1[0]?)) fun x2 => if ¬ v5 = 0 then (dz_l (x2 - x2 / v5 * v5) fun x4 => if x4 ≤ (1 : Int64) then (G.2 τ) else (dz_b (zob ζ τ v0 9) fun f5 => dz_b (zvl (f5[0]?)) fun x6 => if x4 = x6 then (G.2 τ) else (dz_b (zob ζ τ v0 9) fun f7 => dz_b (zvl (f7[0]?)) fun x8 => if ¬ x4 = 0 then (dz_l (x8 - x8 / x4 * x4) fun x10 => if x10 = (0 : Int64) then (some (0, τ)) else (G.2 τ)) else none))) else none), (fun τ => some (1, τ))))
noncomputable def fnX12_isEnough (K : Nat) (ζ : pZ) (h : Nat) (τ : pH) : Option (Int32 × pH) := dz_b (zob ζ τ h 9) fun f1 => dz_b (zvr (f1[4]?)) fun x2 => dz_b (zob ζ τ x2 10) fun f5 => zcl τ (fnX8_product K ζ x2 τ) fun x3 s4 => dz_b (zob ζ s4 h 9) fun f6 => dz_b (zvr (f6[5]?)) fun x7 => dz_b (zob ζ s4 x7 10) fun f10 => zcl s4 (fnX8_product K ζ x7 s4) fun x8 s9 => dz_b (fnX0_common 100 x3 x8) fun x11 => if ¬ x11 = 0 then (dz_l (x3 / x11) fun x13 => dz_l (x13 * x8) fun x14 => if (1000000000 : Int64) < x14 then ((lfX12_isEnough K ζ K).1 h x14 s9) else (dz_b (zob ζ s9 h 9) fun f15 => dz_b (zvl (f15[0]?)) fun x16 => if x16 < (x14 * x14) then ((lfX12_isEnough K ζ K).1 h x14 s9) else (some (0, s9)))) else none
set_option maxHeartbeats 4000000 in
set_option maxRecDepth 100000 in
theorem wlX12_isEnough {p : Program} {l : Launch} {e : Env} {s : State} {m : MethodId} {below : List Frame} {meth : Method} {c : Code} {D : va_G} {cA : Nat → ClassId} {ζ : pZ} (hX : zX D cA ζ s) (K : Nat) (res : (Int32 × pH)) (M S sl0 : Nat) (hM : s.heap.size + M = res.2.1) (hS0 : sl0 + S = res.2.2.1) (h : Nat) (hx : p.tables.exec = Jvm.exec) (hb : c.code = cX12_isEnough) (hr : meth.sig.returnType = some .boolean) (hlocks : meth.locks = false) (hml : c.maxLocals = 9) (hown : s.vm.findClass RX12 = some m.cls) (hts : ∀ w ∈ lw_all, w.before ([.ref h] : List Value).toArray s = true) : ∀ k : Nat, (∀ (v0 : Nat) (v5 : Int64) (τ : pH) (H : Heap) (locs : List Loc) (cells slots : Nat), zH D cA ζ τ H → va_S (zA ζ) s.heap H locs → s.heap.size + cells = τ.1 → sl0 + slots = τ.2.1 → cells ≤ M ∧ slots ≤ S → ∀ (ls : Array Slot), lv_has ls 9 [(0, .ref v0), (5, .long v5)] → (lfX12_isEnough K ζ k).1 v0 v5 τ = some res → W p l e (headSpec (ws_ yX12_isEnough cX12_isEnough 9 (some .boolean)) ({ frames := 101, cells := M, slots := S, locals := 2323 })).room s m ([.ref h] : List Value).toArray below meth c H locs cells slots (MQ below (zQi D cA ζ res) ([.ref h] : List Value).toArray s M S (zA ζ)) (F0 m 51 ls [])) ∧ (∀  (τ : pH) (H : Heap) (locs : List Loc) (cells slots : Nat), zH D cA ζ τ H → va_S (zA ζ) s.heap H locs → s.heap.size + cells = τ.1 → sl0 + slots = τ.2.1 → cells ≤ M ∧ slots ≤ S → ∀ (ls : Array Slot), lv_has ls 9 [] → (lfX12_isEnough K ζ k).2 τ = some res → W p l e (headSpec (ws_ yX12_isEnough cX12_isEnough 9 (some .boolean)) ({ frames := 101, cells := M, slots := S, locals := 2323 })).room s m ([.ref h] : List Value).toArray below meth c H locs cells slots (MQ below (zQi D cA ζ res) ([.ref h] : List Value).toArray s M S (zA ζ)) (F0 m 89 ls [])) := by
  intro k
  induction k with
  | zero =>
    exact ⟨fun _ _ _ _ _ _ _ _ _ _ _ _ _ _ hf => (by cases hf), fun _ _ _ _ _ _ _ _ _ _ _ _ hf => (by cases hf)⟩
  | succ k ih =>
    refine ⟨?_, ?_⟩
    · intro v0 v5 τ H locs cells slots hH hS hcs hss hcM ls hl hf
      have hf : (dz_b (zob ζ τ v0 9) fun f1 => dz_b (zvl (f1[0]?)) fun x2 => if ¬ v5 = 0 then (dz_l (x2 - x2 / v5 * v5) fun x4 => if x4 ≤ (1 : Int64) then ((lfX12_isEnough K ζ k).2 τ) else (dz_b (zob ζ τ v0 9) fun f5 => dz_b (zvl (f5[0]?)) fun x6 => if x4 = x6 then ((lfX12_isEnough K ζ k).2 τ) else (dz_b (zob ζ τ v0 9) fun f7 => dz_b (zvl (f7[0]?)) fun x8 => if ¬ x4 = 0 then (dz_l (x8 - x8 / x4 * x4) fun x10 => if x10 = (0 : Int64) then (some (0, τ)) else ((lfX12_isEnough K ζ k).2 τ)) else none))) else none : Option (Int32 × pH)) = some res := hf
      refine lv_aload_n hx hb dX12_isEnough_51 rfl (lv_at hl 0 rfl) ?_
      obtain ⟨f1, hf1, hf⟩ := dz_bo hf
      obtain ⟨x2, hx2, hf⟩ := dz_bo hf
      refine va_get (C := RX12) (T := TX12) (N := 8) hx hb hts in_X12 hown hX.K (zrd_P hX hS hH (zob_o hf1)) 0 rfl rfl 0 (by decide) (hts _ q533) (fun x hq => u_same (hts _ q534) x hq) (zvl_o hx2) dX12_isEnough_52 ?_
      refine lv_lload hx hb dX12_isEnough_55 (lv_at hl 1 rfl) ?_
      obtain ⟨g3, hf⟩ := dz_go hf
      refine lv_lrem hx hb dX12_isEnough_57 g3 ?_
      refine lv_topl (fun x4 e_x4 => ?_)
      have hf := dz_ls e_x4 hf
      refine lv_lstore (lv' := [(7, .long x4), (0, .ref v0), (5, .long v5)]) hx hb dX12_isEnough_58 hl (by decide) rfl (fun ls hl => ?_)
      refine lv_lload hx hb dX12_isEnough_60 (lv_at hl 0 rfl) ?_
      refine lv_lconst (v := 1) hx hb dX12_isEnough_62 rfl ?_
      refine W.lcmp hx hb dX12_isEnough_63 ?_
      refine lv_if_le (tgt := 89) hx hb dX12_isEnough_64 (by decide) (fun c64 => ?_) (fun c64 => ?_)
      · have c64 : x4 ≤ (1 : Int64) := (lg_cmp_le _ _).mp c64
        have hf := dz_t c64 hf
        exact ih.2 τ H locs cells slots hH hS hcs hss hcM ls (lv_sub hl [] rfl) hf
      · have c64 : ¬ x4 ≤ (1 : Int64) := fun hq => c64 ((lg_cmp_le _ _).mpr hq)
        have hf := dz_f c64 hf
        refine lv_lload hx hb dX12_isEnough_67 (lv_at hl 0 rfl) ?_
        refine lv_aload_n hx hb dX12_isEnough_69 rfl (lv_at hl 1 rfl) ?_
        obtain ⟨f5, hf5, hf⟩ := dz_bo hf
        obtain ⟨x6, hx6, hf⟩ := dz_bo hf
        refine va_get (C := RX12) (T := TX12) (N := 8) hx hb hts in_X12 hown hX.K (zrd_P hX hS hH (zob_o hf5)) 0 rfl rfl 0 (by decide) (hts _ q533) (fun x hq => u_same (hts _ q534) x hq) (zvl_o hx6) dX12_isEnough_70 ?_
        refine W.lcmp hx hb dX12_isEnough_73 ?_
        refine lv_if_eq (tgt := 89) hx hb dX12_isEnough_74 (by decide) (fun c74 => ?_) (fun c74 => ?_)
        · have c74 : x4 = x6 := (lg_cmp_eq _ _).mp c74
          have hf := dz_t c74 hf
          exact ih.2 τ H locs cells slots hH hS hcs hss hcM ls (lv_sub hl [] rfl) hf
        · have c74 : ¬ x4 = x6 := fun hq => c74 ((lg_cmp_eq _ _).mpr hq)
          have hf := dz_f c74 hf
          refine lv_aload_n hx hb dX12_isEnough_77 rfl (lv_at hl 1 rfl) ?_
          obtain ⟨f7, hf7, hf⟩ := dz_bo hf
          obtain ⟨x8, hx8, hf⟩ := dz_bo hf
          refine va_get (C := RX12) (T := TX12) (N := 8) hx hb hts in_X12 hown hX.K (zrd_P hX hS hH (zob_o hf7)) 0 rfl rfl 0 (by decide) (hts _ q533) (fun x hq => u_same (hts _ q534) x hq) (zvl_o hx8) dX12_isEnough_78 ?_
          refine lv_lload hx hb dX12_isEnough_81 (lv_at hl 0 rfl) ?_
          obtain ⟨g9, hf⟩ := dz_go hf
          refine lv_lrem hx hb dX12_isEnough_83 g9 ?_
          refine lv_topl (fun x10 e_x10 => ?_)
          have hf := dz_ls e_x10 hf
          refine lv_lconst (v := 0) hx hb dX12_isEnough_84 rfl ?_
          refine W.lcmp hx hb dX12_isEnough_85 ?_
          refine lv_if_eq (tgt := 93) hx hb dX12_isEnough_86 (by decide) (fun c86 => ?_) (fun c86 => ?_)
          · have c86 : x10 = (0 : Int64) := (lg_cmp_eq _ _).mp c86
            have hf := dz_t c86 hf
            refine lv_iconst (v := 0) hx hb dX12_isEnough_93 (by decide) ?_
            obtain ⟨hM1, hS1⟩ : cells = M ∧ slots = S := by have hq := congrArg Prod.snd (Option.some.inj hf); rw [← hq] at hM hS0; have hM : s.heap.size + M = τ.1 := hM; have hS0 : sl0 + S = τ.2.1 := hS0; omega
            refine W.widen (k := M) (n := S) (Nat.le_of_eq hM1) (Nat.le_of_eq hS1) ?_
            exact W.zret (v := 0) hx hb hr rfl (fun t ht hW => ⟨⟨0, τ, rfl, Option.some.inj hf, z_at ht hH⟩, hS.F ht⟩) hS.2.2 dX12_isEnough_94
          · have c86 : ¬ x10 = (0 : Int64) := fun hq => c86 ((lg_cmp_eq _ _).mpr hq)
            have hf := dz_f c86 hf
            exact ih.2 τ H locs cells slots hH hS hcs hss hcM ls (lv_sub hl [] rfl) hf
    · intro τ H locs cells slots hH hS hcs hss hcM ls hl hf
      have hf : (some (1, τ) : Option (Int32 × pH)) = some res := hf
      refine lv_iconst (v := 1) hx hb dX12_isEnough_89 (by decide) ?_
      refine lv_goto (tgt := 94) hx hb dX12_isEnough_90 (by decide) ?_
      obtain ⟨hM1, hS1⟩ : cells = M ∧ slots = S := by have hq := congrArg Prod.snd (Option.some.inj hf); rw [← hq] at hM hS0; have hM : s.heap.size + M = τ.1 := hM; have hS0 : sl0 + S = τ.2.1 := hS0; omega
      refine W.widen (k := M) (n := S) (Nat.le_of_eq hM1) (Nat.le_of_eq hS1) ?_
      exact W.zret (v := 1) hx hb hr rfl (fun t ht hW => ⟨⟨1, τ, rfl, Option.some.inj hf, z_at ht hH⟩, hS.F ht⟩) hS.2.2 dX12_isEnough_94
set_option maxHeartbeats 4000000 in
set_option maxRecDepth 100000 in
theorem mtX12_isEnough (l : Launch) (D : va_G) (cA : Nat → ClassId) (ζ : pZ) (τ : pH) (h : Nat) (K : Nat) (res : (Int32 × pH)) (hf : fnX12_isEnough K ζ h τ = some res) (M S : Nat) (hM : τ.1 + M = res.2.1) (hS0 : τ.2.1 + S = res.2.2.1) : Met l yX12_isEnough (ws_ yX12_isEnough cX12_isEnough 9 (some .boolean)) ({ frames := 101, cells := M, slots := S, locals := 2323 }) (zPc D cA ζ τ [.ref h]) (zQi D cA ζ res) M S (zA ζ) := by
  refine Met.ofW (cc := cX12_isEnough) (maxL := 9) (ret := some .boolean) (by decide +kernel) rfl ?_
  intro p e s m args below meth c s₁ B hml hv
  obtain ⟨rfl, hX, hH⟩ := hv
  have hx := B.exec
  have hb := B.bytes
  have hr := B.returns
  have hts := atoms_spec (ws := ws_ yX12_isEnough cX12_isEnough 9 (some .boolean)) B.pre
  have hts : ∀ w ∈ lw_all, w.before _ s = true := fun w h => hts w (List.mem_cons_of_mem _ h)
  have hown : s.vm.findClass RX12 = some m.cls := findClass_of_methodNamed B.named
  have hlocks := B.notSynchronized
  have hM : s.heap.size + M = res.2.1 := by rw [hH.1]; exact hM
  have hcs : s.heap.size + 0 = τ.1 := hH.1
  have hss : τ.2.1 + 0 = τ.2.1 := rfl
  generalize hsl0 : τ.2.1 = sl0 at hS0 hss
  have hss : sl0 + 0 = τ.2.1 := by rw [hsl0]; rfl
  have hS : va_S (zA ζ) s.heap s.heap [] := va_S.rf
  generalize hHe : s.heap = H at hH hS ⊢
  have hS : va_S (zA ζ) s.heap H [] := by rw [hHe]; exact hS
  generalize ([] : List Loc) = locs at hS ⊢
  have hl := lv_entry ([.ref h]) (n := 9) (Nat.le_of_ble_eq_true rfl)
  rw [lg_entry_eq]
  generalize (lg_sl ([.ref h]) ++ List.replicate (9 - (lg_sl ([.ref h])).length) Slot.unset).toArray = ls at hl ⊢
  have hl : lv_has ls 9 [(0, .ref h)] := hl
  have hf : (dz_b (zob ζ τ h 9) fun f1 => dz_b (zvr (f1[4]?)) fun x2 => dz_b (zob ζ τ x2 10) fun f5 => zcl τ (fnX8_product K ζ x2 τ) fun x3 s4 => dz_b (zob ζ s4 h 9) fun f6 => dz_b (zvr (f6[5]?)) fun x7 => dz_b (zob ζ s4 x7 10) fun f10 => zcl s4 (fnX8_product K ζ x7 s4) fun x8 s9 => dz_b (fnX0_common 100 x3 x8) fun x11 => if ¬ x11 = 0 then (dz_l (x3 / x11) fun x13 => dz_l (x13 * x8) fun x14 => if (1000000000 : Int64) < x14 then ((lfX12_isEnough K ζ K).1 h x14 s9) else (dz_b (zob ζ s9 h 9) fun f15 => dz_b (zvl (f15[0]?)) fun x16 => if x16 < (x14 * x14) then ((lfX12_isEnough K ζ K).1 h x14 s9) else (some (0, s9)))) else none : Option (Int32 × pH)) = some res := hf
  refine z_gen (fun cells slots hc0 hs0 => ?_)
  have hcs : s.heap.size + cells = τ.1 := by rw [hc0]; exact hcs
  have hss : sl0 + slots = τ.2.1 := by rw [hs0]; exact hss
  have hcM : cells ≤ M ∧ slots ≤ S := by rw [hc0, hs0]; exact ⟨Nat.zero_le _, Nat.zero_le _⟩
  clear hc0 hs0
  have ih := wlX12_isEnough (l := l) (e := e) (below := below) (D := D) (cA := cA) hX K res M S sl0 hM hS0 h hx hb hr hlocks hml hown hts K
  refine lv_aload_n hx hb dX12_isEnough_0 rfl (lv_at hl 0 rfl) ?_
  obtain ⟨f1, hf1, hf⟩ := dz_bo hf
  obtain ⟨x2, hx2, hf⟩ := dz_bo hf
  refine va_get (C := RX12) (T := TX12) (N := 8) hx hb hts in_X12 hown hX.K (zrd_P hX hS hH (zob_o hf1)) 0 rfl rfl 4 (by decide) (hts _ q553) (fun x hq => u_same (hts _ q554) x hq) (zvr_o hx2) dX12_isEnough_1 ?_
  obtain ⟨f5, hf5, hf⟩ := dz_bo hf
  obtain ⟨x3, s4, hx3, hle, hck, hf⟩ := zcl_o hf
  have hc1 : cells + (s4.1 - τ.1) ≤ M := by omega
  have hs1 : slots + (s4.2.1 - τ.2.1) ≤ S := by omega
  refine va_calll (va_runV (As := []) (rest := []) ⟨hx, hb, hml, hown, hts⟩ (mtX8_product l D cA ζ τ x2 K (x3, s4) hx3 (s4.1 - τ.1) (s4.2.1 - τ.2.1) (Nat.add_sub_cancel' hle.1) (Nat.add_sub_cancel' hle.2)) (cwV 0 hts (lw_V q311 q312 q313 q98 q314) rfl rfl rfl (by decide +kernel) ⟨Nat.le_of_ble_eq_true rfl, Nat.le_of_ble_eq_true rfl⟩) (z_preV hX hS hH (zob_o hf5) rfl) rfl rfl hl.1 rfl (lv_room (Nat.le_of_ble_eq_true rfl)) dX12_isEnough_4 ⟨hc1, hs1⟩) hS (fun q _ hq => hq) (fun q hq => hq) (fun r u t H1 locs ht hvm hw hB hz hk hS => ?_)
  obtain ⟨hw1, hw2⟩ := Prod.mk.inj hw.symm; subst hw1; subst hw2
  have hH : zH D cA ζ s4 H1 := z_at ht.symm hB
  have hcs : s.heap.size + (cells + (s4.1 - τ.1)) = s4.1 := by omega
  have hss : sl0 + (slots + (s4.2.1 - τ.2.1)) = s4.2.1 := by omega
  replace hcM := And.intro hc1 hs1
  generalize cells + (s4.1 - τ.1) = cells at hcs hcM ⊢; generalize slots + (s4.2.1 - τ.2.1) = slots at hss hcM ⊢
  clear hB hk hz hvm ht hle hck hc1 hs1; generalize H1 = H at hH hS ⊢
  refine lv_lstore_n (lv' := [(1, .long x3), (0, .ref h)]) hx hb dX12_isEnough_7 rfl hl (by decide) rfl (fun ls hl => ?_)
  refine lv_aload_n hx hb dX12_isEnough_8 rfl (lv_at hl 1 rfl) ?_
  obtain ⟨f6, hf6, hf⟩ := dz_bo hf
  obtain ⟨x7, hx7, hf⟩ := dz_bo hf
  refine va_get (C := RX12) (T := TX12) (N := 8) hx hb hts in_X12 hown hX.K (zrd_P hX hS hH (zob_o hf6)) 0 rfl rfl 5 (by decide) (hts _ q562) (fun x hq => u_same (hts _ q563) x hq) (zvr_o hx7) dX12_isEnough_9 ?_
  obtain ⟨f10, hf10, hf⟩ := dz_bo hf
  obtain ⟨x8, s9, hx8, hle, hck, hf⟩ := zcl_o hf
  have hc1 : cells + (s9.1 - s4.1) ≤ M := by omega
  have hs1 : slots + (s9.2.1 - s4.2.1) ≤ S := by omega
  refine va_calll (va_runV (As := []) (rest := []) ⟨hx, hb, hml, hown, hts⟩ (mtX8_product l D cA ζ s4 x7 K (x8, s9) hx8 (s9.1 - s4.1) (s9.2.1 - s4.2.1) (Nat.add_sub_cancel' hle.1) (Nat.add_sub_cancel' hle.2)) (cwV 0 hts (lw_V q311 q312 q313 q98 q314) rfl rfl rfl (by decide +kernel) ⟨Nat.le_of_ble_eq_true rfl, Nat.le_of_ble_eq_true rfl⟩) (z_preV hX hS hH (zob_o hf10) rfl) rfl rfl hl.1 rfl (lv_room (Nat.le_of_ble_eq_true rfl)) dX12_isEnough_12 ⟨hc1, hs1⟩) hS (fun q _ hq => hq) (fun q hq => hq) (fun r u t H1 locs ht hvm hw hB hz hk hS => ?_)
  obtain ⟨hw1, hw2⟩ := Prod.mk.inj hw.symm; subst hw1; subst hw2
  have hH : zH D cA ζ s9 H1 := z_at ht.symm hB
  have hcs : s.heap.size + (cells + (s9.1 - s4.1)) = s9.1 := by omega
  have hss : sl0 + (slots + (s9.2.1 - s4.2.1)) = s9.2.1 := by omega
  replace hcM := And.intro hc1 hs1
  generalize cells + (s9.1 - s4.1) = cells at hcs hcM ⊢; generalize slots + (s9.2.1 - s4.2.1) = slots at hss hcM ⊢
  clear hB hk hz hvm ht hle hck hc1 hs1; generalize H1 = H at hH hS ⊢
  refine lv_lstore_n (lv' := [(3, .long x8), (1, .long x3), (0, .ref h)]) hx hb dX12_isEnough_15 rfl hl (by decide) rfl (fun ls hl => ?_)
  refine lv_lload_n hx hb dX12_isEnough_16 rfl (lv_at hl 1 rfl) ?_
  refine lv_lload_n hx hb dX12_isEnough_17 rfl (lv_at hl 1 rfl) ?_
  refine lv_lload_n hx hb dX12_isEnough_18 rfl (lv_at hl 0 rfl) ?_
  obtain ⟨x11, hx11, hf⟩ := dz_bo hf
  refine va_calll (va_runSN (As := [.long x3, .long x8]) (rest := [.long x3]) ⟨hx, hb, hml, hown, hts⟩ (mtX0_common l x3 x8 100 x11 hx11) ⟨va_cnB 2 hts (lw_meth q348) rfl rfl rfl (hX.N q346 rfl) (hts _ q84) (by decide +kernel) ⟨Nat.le_of_ble_eq_true rfl, Nat.le_of_ble_eq_true rfl⟩, hts _ q347, trivial⟩ ⟨fun a U g mk q => q, fun U hU hW => ⟨rfl, trivial⟩⟩ rfl rfl hl.1 rfl (lv_room (Nat.le_of_ble_eq_true rfl)) dX12_isEnough_19 ⟨hcM.1, hcM.2⟩) hS (fun q _ hq => hq.elim) (fun q hq => hq.elim) (fun r u t H1 locs ht hvm hw hB hz hk hS => dz_size (fun hz9 => ?_))
  replace hw := hw.symm; subst hw
  replace hH := zH_keep hH hcs hz hk hz9
  clear hB hk hz hvm ht hz9; generalize H1 = H at hH hS ⊢
  refine W.widen (k := cells) (n := slots) (Nat.le_refl _) (Nat.le_refl _) ?_
  obtain ⟨g12, hf⟩ := dz_go hf
  refine lv_ldiv hx hb dX12_isEnough_22 g12 ?_
  refine lv_topl (fun x13 e_x13 => ?_)
  have hf := dz_ls e_x13 hf
  refine lv_lload_n hx hb dX12_isEnough_23 rfl (lv_at hl 0 rfl) ?_
  refine lv_lmul hx hb dX12_isEnough_24 ?_
  refine lv_topl (fun x14 e_x14 => ?_)
  have hf := dz_ls e_x14 hf
  refine lv_lstore (lv' := [(5, .long x14), (3, .long x8), (1, .long x3), (0, .ref h)]) hx hb dX12_isEnough_25 hl (by decide) rfl (fun ls hl => ?_)
  refine lv_lload hx hb dX12_isEnough_27 (lv_at hl 0 rfl) ?_
  refine lv_ldc2 (v := 1000000000) hx hb hown (hts _ q350) dX12_isEnough_29 ?_
  refine W.lcmp hx hb dX12_isEnough_32 ?_
  refine lv_if_gt (tgt := 51) hx hb dX12_isEnough_33 (by decide) (fun c33 => ?_) (fun c33 => ?_)
  · have c33 : (1000000000 : Int64) < x14 := (lg_cmp_gt _ _).mp c33
    have hf := dz_t c33 hf
    exact ih.1 h x14 s9 H locs cells slots hH hS hcs hss hcM ls (lv_sub hl [3, 0] rfl) hf
  · have c33 : ¬ (1000000000 : Int64) < x14 := fun hq => c33 ((lg_cmp_gt _ _).mpr hq)
    have hf := dz_f c33 hf
    refine lv_lload hx hb dX12_isEnough_36 (lv_at hl 0 rfl) ?_
    refine lv_lload hx hb dX12_isEnough_38 (lv_at hl 0 rfl) ?_
    refine lv_lmul hx hb dX12_isEnough_40 ?_
    refine lv_aload_n hx hb dX12_isEnough_41 rfl (lv_at hl 3 rfl) ?_
    obtain ⟨f15, hf15, hf⟩ := dz_bo hf
    obtain ⟨x16, hx16, hf⟩ := dz_bo hf
    refine va_get (C := RX12) (T := TX12) (N := 8) hx hb hts in_X12 hown hX.K (zrd_P hX hS hH (zob_o hf15)) 0 rfl rfl 0 (by decide) (hts _ q533) (fun x hq => u_same (hts _ q534) x hq) (zvl_o hx16) dX12_isEnough_42 ?_
    refine W.lcmp hx hb dX12_isEnough_45 ?_
    refine lv_if_gt (tgt := 51) hx hb dX12_isEnough_46 (by decide) (fun c46 => ?_) (fun c46 => ?_)
    · have c46 : x16 < (x14 * x14) := (lg_cmp_gt _ _).mp c46
      have hf := dz_t c46 hf
      exact ih.1 h x14 s9 H locs cells slots hH hS hcs hss hcM ls (lv_sub hl [3, 0] rfl) hf
    · have c46 : ¬ x16 < (x14 * x14) := fun hq => c46 ((lg_cmp_gt _ _).mpr hq)
      have hf := dz_f c46 hf
      refine lv_iconst (v := 0) hx hb dX12_isEnough_49 (by decide) ?_
      obtain ⟨hM1, hS1⟩ : cells = M ∧ slots = S := by have hq := congrArg Prod.snd (Option.some.inj hf); rw [← hq] at hM hS0; have hM : s.heap.size + M = s9.1 := hM; have hS0 : sl0 + S = s9.2.1 := hS0; omega
      refine W.widen (k := M) (n := S) (Nat.le_of_eq hM1) (Nat.le_of_eq hS1) ?_
      exact W.zret (v := 0) hx hb hr rfl (fun t ht hW => ⟨⟨0, s9, rfl, Option.some.inj hf, z_at ht hH⟩, hS.F ht⟩) hS.2.2 dX12_isEnough_50

noncomputable def lfX6_fault_9__0 (K : Nat) (ζ : pZ) : Nat → (Nat → Nat → pH → Option (Int32 × pH)) × (Nat → Nat → pH → Option (Int32 × pH)) := Nat.rec (motive := fun _ => (Nat → Nat → pH → Option (Int32 × pH)) × (Nat → Nat → pH → Option (Int32 × pH))) ((fun _ _ _ => none), (fun _ _ _ => none)) (fun _ G => ((fun v0 v2 τ => dz_b (zob ζ τ v2 2) fun f3 => zcl τ (fnX2_hasNext K ζ v2 τ) fun x1 s2 => if x1 = (0 : Int32) then (dz_b (zob ζ s2 v0 9) fun f4 => dz_b (zvr (f4[4]?)) fun x5 => dz_b (zob ζ s2 x5 10) fun f8 => zcl s2 (fnX8_iterator K ζ x5 s2) fun x6 s7 => G.2 v0 x6 s7) else (dz_b (zob ζ s2 v2 2) fun f11 => zcl s2 (fnX2_next K ζ v2 s2) fun x9 s10 => dz_b (zob ζ s10 x9 11) fun f12 => dz_b (zob ζ s10 v0 9) fun f15 => zcl s10 (fnX6_isOne_9 K ζ v0 x9 s10) fun x13 s14 => if x13 = (0 : Int32) then (some (5, s14)) else (G.1 v0 v2 s14))), (fun v0 v2 τ => dz_b (zob ζ τ v2 2) fun f3 => zcl τ (fnX2_hasNext K ζ v2 τ) fun x1 s2 => if x1 = (0 : Int32) then (dz_b (zob ζ s2 v0 9) fun f6 => zcl s2 (fnX6_hasPair_9 K ζ v0 s2) fun x4 s5 => if x4 = (0 : Int32) then (some (0, s5)) else (dz_b (zob ζ s5 v0 9) fun f9 => zcl s5 (fnX6_pairFault_9 K ζ v0 s5) fun x7 s8 => some (x7, s8))) else (dz_b (zob ζ s2 v2 2) fun f12 => zcl s2 (fnX2_next K ζ v2 s2) fun x10 s11 => dz_b (zob ζ s11 x10 11) fun f13 => dz_b (zob ζ s11 v0 9) fun f16 => zcl s11 (fnX6_isFar_9 K ζ v0 x10 s11) fun x14 s15 => if x14 = (0 : Int32) then (some (6, s15)) else (G.2 v0 v2 s15)))))
noncomputable def fnX6_fault_9__0 (K : Nat) (ζ : pZ) (h : Nat) (a0 : Int32) (τ : pH) : Option (Int32 × pH) := dz_b (zob ζ τ h 9) fun f1 => dz_b (zvi (f1[1]?)) fun x2 => if x2 = (0 : Int32) then (dz_b (zob ζ τ h 9) fun f27 => dz_b (zvl (f27[0]?)) fun x28 => if (100 : Int64) ≤ x28 then (some (1, τ)) else (dz_b (zob ζ τ h 9) fun f29 => dz_b (zvl (f29[0]?)) fun x30 => dz_b (fnX0_isPrime K x30) fun x31 => if x31 = (0 : Int32) then (some (1, τ)) else (some (0, τ)))) else (dz_b (zob ζ τ h 9) fun f3 => dz_b (zvl (f3[0]?)) fun x4 => dz_l (x4 - x4 / 2 * 2) fun x5 => if x5 = (0 : Int64) then (some (1, τ)) else (dz_b (zob ζ τ h 9) fun f6 => dz_b (zvr (f6[4]?)) fun x7 => dz_b (zob ζ τ h 9) fun f10 => zcl τ (fnX6_isBacked_9__0 K ζ h x7 a0 τ) fun x8 s9 => if x8 = (0 : Int32) then (some (2, s9)) else (dz_b (zob ζ s9 h 9) fun f11 => dz_b (zvr (f11[5]?)) fun x12 => dz_b (zob ζ s9 h 9) fun f15 => zcl s9 (fnX6_isBacked_9__0 K ζ h x12 a0 s9) fun x13 s14 => if x13 = (0 : Int32) then (some (2, s14)) else (dz_b (zob ζ s14 h 9) fun f18 => zcl s14 (fnX12_isWhole K ζ h s14) fun x16 s17 => if x16 = (0 : Int32) then (some (3, s17)) else (dz_b (zob ζ s17 h 9) fun f21 => zcl s17 (fnX12_isEnough K ζ h s17) fun x19 s20 => if x19 = (0 : Int32) then (some (4, s20)) else (dz_b (zob ζ s20 h 9) fun f22 => dz_b (zvr (f22[4]?)) fun x23 => dz_b (zob ζ s20 x23 10) fun f26 => zcl s20 (fnX8_iterator K ζ x23 s20) fun x24 s25 => (lfX6_fault_9__0 K ζ K).1 h x24 s25))))))
set_option maxHeartbeats 4000000 in
set_option maxRecDepth 100000 in
theorem wlX6_fault_9__0 {p : Program} {l : Launch} {e : Env} {s : State} {m : MethodId} {below : List Frame} {meth : Method} {c : Code} {D : va_G} {cA : Nat → ClassId} {ζ : pZ} (hX : zX D cA ζ s) (K : Nat) (res : (Int32 × pH)) (M S sl0 : Nat) (hM : s.heap.size + M = res.2.1) (hS0 : sl0 + S = res.2.2.1) (h : Nat) (a0 : Int32) (hx : p.tables.exec = Jvm.exec) (hb : c.code = cX6_fault) (hr : meth.sig.returnType = some .int) (hlocks : meth.locks = false) (hml : c.maxLocals = 4) (hown : s.vm.findClass RX6 = some m.cls) (hts : ∀ w ∈ lw_all, w.before ([.ref h, .int a0] : List Value).toArray s = true) : ∀ k : Nat, (∀ (v0 : Nat) (v2 : Nat) (τ : pH) (H : Heap) (locs : List Loc) (cells slots : Nat), zH D cA ζ τ H → va_S (zA ζ) s.heap H locs → s.heap.size + cells = τ.1 → sl0 + slots = τ.2.1 → cells ≤ M ∧ slots ≤ S → ∀ (ls : Array Slot), lv_has ls 4 [(0, .ref v0), (2, .ref v2)] → (lfX6_fault_9__0 K ζ k).1 v0 v2 τ = some res → W p l e (headSpec (ws_ yX6_fault cX6_fault 4 (some .int)) ({ frames := 102, cells := M, slots := S, locals := 2351 })).room s m ([.ref h, .int a0] : List Value).toArray below meth c H locs cells slots (MQ below (zQi D cA ζ res) ([.ref h, .int a0] : List Value).toArray s M S (zA ζ)) (F0 m 101 ls [])) ∧ (∀ (v0 : Nat) (v2 : Nat) (τ : pH) (H : Heap) (locs : List Loc) (cells slots : Nat), zH D cA ζ τ H → va_S (zA ζ) s.heap H locs → s.heap.size + cells = τ.1 → sl0 + slots = τ.2.1 → cells ≤ M ∧ slots ≤ S → ∀ (ls : Array Slot), lv_has ls 4 [(0, .ref v0), (2, .ref v2)] → (lfX6_fault_9__0 K ζ k).2 v0 v2 τ = some res → W p l e (headSpec (ws_ yX6_fault cX6_fault 4 (some .int)) ({ frames := 102, cells := M, slots := S, locals := 2351 })).room s m ([.ref h, .int a0] : List Value).toArray below meth c H locs cells slots (MQ below (zQi D cA ζ res) ([.ref h, .int a0] : List Value).toArray s M S (zA ζ)) (F0 m 141 ls [])) := by
  intro k
  induction k with
  | zero =>
    exact ⟨fun _ _ _ _ _ _ _ _ _ _ _ _ _ _ hf => (by cases hf), fun _ _ _ _ _ _ _ _ _ _ _ _ _ _ hf => (by cases hf)⟩
  | succ k ih =>
    refine ⟨?_, ?_⟩
    · intro v0 v2 τ H locs cells slots hH hS hcs hss hcM ls hl hf
      have hf : (dz_b (zob ζ τ v2 2) fun f3 => zcl τ (fnX2_hasNext K ζ v2 τ) fun x1 s2 => if x1 = (0 : Int32) then (dz_b (zob ζ s2 v0 9) fun f4 => dz_b (zvr (f4[4]?)) fun x5 => dz_b (zob ζ s2 x5 10) fun f8 => zcl s2 (fnX8_iterator K ζ x5 s2) fun x6 s7 => (lfX6_fault_9__0 K ζ k).2 v0 x6 s7) else (dz_b (zob ζ s2 v2 2) fun f11 => zcl s2 (fnX2_next K ζ v2 s2) fun x9 s10 => dz_b (zob ζ s10 x9 11) fun f12 => dz_b (zob ζ s10 v0 9) fun f15 => zcl s10 (fnX6_isOne_9 K ζ v0 x9 s10) fun x13 s14 => if x13 = (0 : Int32) then (some (5, s14)) else ((lfX6_fault_9__0 K ζ k).1 v0 v2 s14)) : Option (Int32 × pH)) = some res := hf
      refine lv_aload_n hx hb dX6_fault_101 rfl (lv_at hl 1 rfl) ?_
      obtain ⟨f3, hf3, hf⟩ := dz_bo hf
      obtain ⟨x1, s2, hx1, hle, hck, hf⟩ := zcl_o hf
      have hc1 : cells + (s2.1 - τ.1) ≤ M := by omega
      have hs1 : slots + (s2.2.1 - τ.2.1) ≤ S := by omega
      refine va_callFi (va_runF (hX.K.1 2 _ rfl).2 (As := []) (rest := []) ⟨hx, hb, hml, hown, hts⟩ (mtX2_hasNext l D cA ζ τ v2 K (x1, s2) hx1 (s2.1 - τ.1) (s2.2.1 - τ.2.1) (Nat.add_sub_cancel' hle.1) (Nat.add_sub_cancel' hle.2)) (va_cwF 0 hts (zF_in q263 q267 q269 q91 q271) rfl rfl rfl (hX.F 0 rfl) (by decide +kernel) ⟨Nat.le_of_ble_eq_true rfl, Nat.le_of_ble_eq_true rfl⟩) (z_preV hX hS hH (zob_o hf3) rfl) rfl rfl hl.1 rfl (lv_room (Nat.le_of_ble_eq_true rfl)) dX6_fault_102 ⟨hc1, hs1⟩) hS (fun q _ hq => hq) (fun q hq => hq) (fun r u t H1 locs ht hvm hw hB hz hk hS => ?_)
      obtain ⟨hw1, hw2⟩ := Prod.mk.inj hw.symm; subst hw1; subst hw2
      have hH : zH D cA ζ s2 H1 := z_at ht.symm hB
      have hcs : s.heap.size + (cells + (s2.1 - τ.1)) = s2.1 := by omega
      have hss : sl0 + (slots + (s2.2.1 - τ.2.1)) = s2.2.1 := by omega
      replace hcM := And.intro hc1 hs1
      generalize cells + (s2.1 - τ.1) = cells at hcs hcM ⊢; generalize slots + (s2.2.1 - τ.2.1) = slots at hss hcM ⊢
      clear hB hk hz hvm ht hle hck hc1 hs1; generalize H1 = H at hH hS ⊢
      refine lv_if_eq (tgt := 133) hx hb dX6_fault_107 (by decide) (fun c107 => ?_) (fun c107 => ?_)
      · have hf := dz_t c107 hf
        refine lv_aload_n hx hb dX6_fault_133 rfl (lv_at hl 0 rfl) ?_
        obtain ⟨f4, hf4, hf⟩ := dz_bo hf
        obtain ⟨x5, hx5, hf⟩ := dz_bo hf
        refine va_get (C := RX12) (T := TX12) (N := 8) hx hb hts in_X12 hown hX.K (zrd_P hX hS hH (zob_o hf4)) 0 rfl rfl 4 (by decide) (hts _ q550) (fun _ hq => hq) (zvr_o hx5) dX6_fault_134 ?_
        obtain ⟨f8, hf8, hf⟩ := dz_bo hf
        obtain ⟨x6, s7, hx6, hle, hck, hf⟩ := zcl_o hf
        have hc1 : cells + (s7.1 - s2.1) ≤ M := by omega
        have hs1 : slots + (s7.2.1 - s2.2.1) ≤ S := by omega
        refine va_callr (va_runV (As := []) (rest := []) ⟨hx, hb, hml, hown, hts⟩ (mtX8_iterator l D cA ζ s2 x5 K (x6, s7) hx6 (s7.1 - s2.1) (s7.2.1 - s2.2.1) (Nat.add_sub_cancel' hle.1) (Nat.add_sub_cancel' hle.2)) (cwV 0 hts (lw_V q245 q246 q247 q98 q248) rfl rfl rfl (by decide +kernel) ⟨Nat.le_of_ble_eq_true rfl, Nat.le_of_ble_eq_true rfl⟩) (z_preV hX hS hH (zob_o hf8) rfl) rfl rfl hl.1 rfl (lv_room (Nat.le_of_ble_eq_true rfl)) dX6_fault_137 ⟨hc1, hs1⟩) hS (fun q _ hq => hq) (fun q hq => hq) (fun u r t H1 locs ht hvm hw hB hz hk hS => ?_)
        obtain ⟨hw, hB⟩ := hB
        obtain ⟨hw1, hw2⟩ := Prod.mk.inj hw.symm; subst hw1; subst hw2
        have hH : zH D cA ζ s7 H1 := z_at ht.symm hB
        have hcs : s.heap.size + (cells + (s7.1 - s2.1)) = s7.1 := by omega
        have hss : sl0 + (slots + (s7.2.1 - s2.2.1)) = s7.2.1 := by omega
        replace hcM := And.intro hc1 hs1
        generalize cells + (s7.1 - s2.1) = cells at hcs hcM ⊢; generalize slots + (s7.2.1 - s2.2.1) = slots at hss hcM ⊢
        clear hB hk hz hvm ht hle hck hc1 hs1; generalize H1 = H at hH hS ⊢
        refine lv_astore_n (lv' := [(2, .ref x6), (0, .ref v0)]) hx hb dX6_fault_140 rfl hl (by decide) rfl (fun ls hl => ?_)
        exact ih.2 v0 x6 s7 H locs cells slots hH hS hcs hss hcM ls (lv_sub hl [1, 0] rfl) hf
      · have hf := dz_f c107 hf
        refine lv_aload_n hx hb dX6_fault_110 rfl (lv_at hl 1 rfl) ?_
        obtain ⟨f11, hf11, hf⟩ := dz_bo hf
        obtain ⟨x9, s10, hx9, hle, hck, hf⟩ := zcl_o hf
        have hc1 : cells + (s10.1 - s2.1) ≤ M := by omega
        have hs1 : slots + (s10.2.1 - s2.2.1) ≤ S := by omega
        refine va_callFr (va_runF (hX.K.1 2 _ rfl).2 (As := []) (rest := []) ⟨hx, hb, hml, hown, hts⟩ (mtX2_next l D cA ζ s2 v2 K (x9, s10) hx9 (s10.1 - s2.1) (s10.2.1 - s2.2.1) (Nat.add_sub_cancel' hle.1) (Nat.add_sub_cancel' hle.2)) (va_cwF 0 hts (zF_in q279 q282 q284 q91 q286) rfl rfl rfl (hX.F 1 rfl) (by decide +kernel) ⟨Nat.le_of_ble_eq_true rfl, Nat.le_of_ble_eq_true rfl⟩) (z_preV hX hS hH (zob_o hf11) rfl) rfl rfl hl.1 rfl (lv_room (Nat.le_of_ble_eq_true rfl)) dX6_fault_111 ⟨hc1, hs1⟩) hS (fun q _ hq => hq) (fun q hq => hq) (fun u r t H1 locs ht hvm hw hB hz hk hS => ?_)
        obtain ⟨hw, hB⟩ := hB
        obtain ⟨hw1, hw2⟩ := Prod.mk.inj hw.symm; subst hw1; subst hw2
        have hH : zH D cA ζ s10 H1 := z_at ht.symm hB
        have hcs : s.heap.size + (cells + (s10.1 - s2.1)) = s10.1 := by omega
        have hss : sl0 + (slots + (s10.2.1 - s2.2.1)) = s10.2.1 := by omega
        replace hcM := And.intro hc1 hs1
        generalize cells + (s10.1 - s2.1) = cells at hcs hcM ⊢; generalize slots + (s10.2.1 - s2.2.1) = slots at hss hcM ⊢
        clear hB hk hz hvm ht hle hck hc1 hs1; generalize H1 = H at hH hS ⊢
        obtain ⟨f12, hf12, hf⟩ := dz_bo hf
        refine va_castS (nm := RX13) hx hb hown (hts _ q300) (hX.K.1 11 _ rfl).2 (va_recv hX.K (zrd_P hX hS hH (zob_o hf12)) (ci := 11) (q0 := 0) rfl rfl) dX6_fault_116 ?_
        refine lv_astore_n (lv' := [(3, .ref x9), (0, .ref v0), (2, .ref v2)]) hx hb dX6_fault_119 rfl hl (by decide) rfl (fun ls hl => ?_)
        refine lv_aload_n hx hb dX6_fault_120 rfl (lv_at hl 1 rfl) ?_
        refine lv_aload_n hx hb dX6_fault_121 rfl (lv_at hl 0 rfl) ?_
        obtain ⟨f15, hf15, hf⟩ := dz_bo hf
        obtain ⟨x13, s14, hx13, hle, hck, hf⟩ := zcl_o hf
        have hc1 : cells + (s14.1 - s10.1) ≤ M := by omega
        have hs1 : slots + (s14.2.1 - s10.2.1) ≤ S := by omega
        refine va_calli (va_runU (x := ⟨"PrimeProofs$Line", "isOne", "(LPrimeProofs$Row;)Z"⟩) (owner := "PrimeProofs$Line") (As := [.ref x9]) (rest := []) ⟨hx, hb, hml, hown, hts⟩ (mtX6_isOne_9 l D cA ζ s10 v0 x9 K (x13, s14) hx13 (s14.1 - s10.1) (s14.2.1 - s10.2.1) (Nat.add_sub_cancel' hle.1) (Nat.add_sub_cancel' hle.2)) (va_cwA 1 hts (zU_in q358 q360 q361 q359 q96 q366) rfl rfl rfl (hX.N q750 rfl) (by decide +kernel) ⟨Nat.le_of_ble_eq_true rfl, Nat.le_of_ble_eq_true rfl⟩) (z_preV hX hS hH (zob_o hf15) rfl) rfl rfl hl.1 rfl (lv_room (Nat.le_of_ble_eq_true rfl)) dX6_fault_122 ⟨hc1, hs1⟩) hS (fun q _ hq => hq) (fun q hq => hq) (fun r u t H1 locs ht hvm hw hB hz hk hS => ?_)
        obtain ⟨hw1, hw2⟩ := Prod.mk.inj hw.symm; subst hw1; subst hw2
        have hH : zH D cA ζ s14 H1 := z_at ht.symm hB
        have hcs : s.heap.size + (cells + (s14.1 - s10.1)) = s14.1 := by omega
        have hss : sl0 + (slots + (s14.2.1 - s10.2.1)) = s14.2.1 := by omega
        replace hcM := And.intro hc1 hs1
        generalize cells + (s14.1 - s10.1) = cells at hcs hcM ⊢; generalize slots + (s14.2.1 - s10.2.1) = slots at hss hcM ⊢
        clear hB hk hz hvm ht hle hck hc1 hs1; generalize H1 = H at hH hS ⊢
        refine lv_if_ne (tgt := 130) hx hb dX6_fault_125 (by decide) (fun c125 => ?_) (fun c125 => ?_)
        · have hf := dz_f c125 hf
          refine lv_goto (tgt := 101) hx hb dX6_fault_130 (by decide) ?_
          exact ih.1 v0 v2 s14 H locs cells slots hH hS hcs hss hcM ls (lv_sub hl [1, 2] rfl) hf
        · have hf := dz_t c125 hf
          refine lv_iconst (v := 5) hx hb dX6_fault_128 (by decide) ?_
          obtain ⟨hM1, hS1⟩ : cells = M ∧ slots = S := by have hq := congrArg Prod.snd (Option.some.inj hf); rw [← hq] at hM hS0; have hM : s.heap.size + M = s14.1 := hM; have hS0 : sl0 + S = s14.2.1 := hS0; omega
          refine W.widen (k := M) (n := S) (Nat.le_of_eq hM1) (Nat.le_of_eq hS1) ?_
          exact W.iret (v := 5) hx hb hr (fun t ht hW => ⟨⟨5, s14, rfl, Option.some.inj hf, z_at ht hH⟩, hS.F ht⟩) hS.2.2 dX6_fault_129
    · intro v0 v2 τ H locs cells slots hH hS hcs hss hcM ls hl hf
      have hf : (dz_b (zob ζ τ v2 2) fun f3 => zcl τ (fnX2_hasNext K ζ v2 τ) fun x1 s2 => if x1 = (0 : Int32) then (dz_b (zob ζ s2 v0 9) fun f6 => zcl s2 (fnX6_hasPair_9 K ζ v0 s2) fun x4 s5 => if x4 = (0 : Int32) then (some (0, s5)) else (dz_b (zob ζ s5 v0 9) fun f9 => zcl s5 (fnX6_pairFault_9 K ζ v0 s5) fun x7 s8 => some (x7, s8))) else (dz_b (zob ζ s2 v2 2) fun f12 => zcl s2 (fnX2_next K ζ v2 s2) fun x10 s11 => dz_b (zob ζ s11 x10 11) fun f13 => dz_b (zob ζ s11 v0 9) fun f16 => zcl s11 (fnX6_isFar_9 K ζ v0 x10 s11) fun x14 s15 => if x14 = (0 : Int32) then (some (6, s15)) else ((lfX6_fault_9__0 K ζ k).2 v0 v2 s15)) : Option (Int32 × pH)) = some res := hf
      refine lv_aload_n hx hb dX6_fault_141 rfl (lv_at hl 1 rfl) ?_
      obtain ⟨f3, hf3, hf⟩ := dz_bo hf
      obtain ⟨x1, s2, hx1, hle, hck, hf⟩ := zcl_o hf
      have hc1 : cells + (s2.1 - τ.1) ≤ M := by omega
      have hs1 : slots + (s2.2.1 - τ.2.1) ≤ S := by omega
      refine va_callFi (va_runF (hX.K.1 2 _ rfl).2 (As := []) (rest := []) ⟨hx, hb, hml, hown, hts⟩ (mtX2_hasNext l D cA ζ τ v2 K (x1, s2) hx1 (s2.1 - τ.1) (s2.2.1 - τ.2.1) (Nat.add_sub_cancel' hle.1) (Nat.add_sub_cancel' hle.2)) (va_cwF 0 hts (zF_in q263 q267 q269 q91 q271) rfl rfl rfl (hX.F 0 rfl) (by decide +kernel) ⟨Nat.le_of_ble_eq_true rfl, Nat.le_of_ble_eq_true rfl⟩) (z_preV hX hS hH (zob_o hf3) rfl) rfl rfl hl.1 rfl (lv_room (Nat.le_of_ble_eq_true rfl)) dX6_fault_142 ⟨hc1, hs1⟩) hS (fun q _ hq => hq) (fun q hq => hq) (fun r u t H1 locs ht hvm hw hB hz hk hS => ?_)
      obtain ⟨hw1, hw2⟩ := Prod.mk.inj hw.symm; subst hw1; subst hw2
      have hH : zH D cA ζ s2 H1 := z_at ht.symm hB
      have hcs : s.heap.size + (cells + (s2.1 - τ.1)) = s2.1 := by omega
      have hss : sl0 + (slots + (s2.2.1 - τ.2.1)) = s2.2.1 := by omega
      replace hcM := And.intro hc1 hs1
      generalize cells + (s2.1 - τ.1) = cells at hcs hcM ⊢; generalize slots + (s2.2.1 - τ.2.1) = slots at hss hcM ⊢
      clear hB hk hz hvm ht hle hck hc1 hs1; generalize H1 = H at hH hS ⊢
      refine lv_if_eq (tgt := 174) hx hb dX6_fault_147 (by decide) (fun c147 => ?_) (fun c147 => ?_)
      · have hf := dz_t c147 hf
        refine lv_aload_n hx hb dX6_fault_174 rfl (lv_at hl 0 rfl) ?_
        obtain ⟨f6, hf6, hf⟩ := dz_bo hf
        obtain ⟨x4, s5, hx4, hle, hck, hf⟩ := zcl_o hf
        have hc1 : cells + (s5.1 - s2.1) ≤ M := by omega
        have hs1 : slots + (s5.2.1 - s2.2.1) ≤ S := by omega
        refine va_calli (va_runU (x := ⟨"PrimeProofs$Line", "hasPair", "()Z"⟩) (owner := "PrimeProofs$Line") (As := []) (rest := []) ⟨hx, hb, hml, hown, hts⟩ (mtX6_hasPair_9 l D cA ζ s2 v0 K (x4, s5) hx4 (s5.1 - s2.1) (s5.2.1 - s2.2.1) (Nat.add_sub_cancel' hle.1) (Nat.add_sub_cancel' hle.2)) (va_cwU 0 hts (zU_in q442 q444 q445 q443 q96 q450) rfl rfl rfl rfl (by decide +kernel) ⟨Nat.le_of_ble_eq_true rfl, Nat.le_of_ble_eq_true rfl⟩) (z_preV hX hS hH (zob_o hf6) rfl) rfl rfl hl.1 rfl (lv_room (Nat.le_of_ble_eq_true rfl)) dX6_fault_175 ⟨hc1, hs1⟩) hS (fun q _ hq => hq) (fun q hq => hq) (fun r u t H1 locs ht hvm hw hB hz hk hS => ?_)
        obtain ⟨hw1, hw2⟩ := Prod.mk.inj hw.symm; subst hw1; subst hw2
        have hH : zH D cA ζ s5 H1 := z_at ht.symm hB
        have hcs : s.heap.size + (cells + (s5.1 - s2.1)) = s5.1 := by omega
        have hss : sl0 + (slots + (s5.2.1 - s2.2.1)) = s5.2.1 := by omega
        replace hcM := And.intro hc1 hs1
        generalize cells + (s5.1 - s2.1) = cells at hcs hcM ⊢; generalize slots + (s5.2.1 - s2.2.1) = slots at hss hcM ⊢
        clear hB hk hz hvm ht hle hck hc1 hs1; generalize H1 = H at hH hS ⊢
        refine lv_if_eq (tgt := 188) hx hb dX6_fault_178 (by decide) (fun c178 => ?_) (fun c178 => ?_)
        · have hf := dz_t c178 hf
          refine lv_iconst (v := 0) hx hb dX6_fault_188 (by decide) ?_
          obtain ⟨hM1, hS1⟩ : cells = M ∧ slots = S := by have hq := congrArg Prod.snd (Option.some.inj hf); rw [← hq] at hM hS0; have hM : s.heap.size + M = s5.1 := hM; have hS0 : sl0 + S = s5.2.1 := hS0; omega
          refine W.widen (k := M) (n := S) (Nat.le_of_eq hM1) (Nat.le_of_eq hS1) ?_
          exact W.iret (v := 0) hx hb hr (fun t ht hW => ⟨⟨0, s5, rfl, Option.some.inj hf, z_at ht hH⟩, hS.F ht⟩) hS.2.2 dX6_fault_189
        · have hf := dz_f c178 hf
          refine lv_aload_n hx hb dX6_fault_181 rfl (lv_at hl 0 rfl) ?_
          obtain ⟨f9, hf9, hf⟩ := dz_bo hf
          obtain ⟨x7, s8, hx7, hle, hck, hf⟩ := zcl_o hf
          have hc1 : cells + (s8.1 - s5.1) ≤ M := by omega
          have hs1 : slots + (s8.2.1 - s5.2.1) ≤ S := by omega
          refine va_calli (va_runU (x := ⟨"PrimeProofs$Line", "pairFault", "()I"⟩) (owner := "PrimeProofs$Line") (As := []) (rest := []) ⟨hx, hb, hml, hown, hts⟩ (mtX6_pairFault_9 l D cA ζ s5 v0 K (x7, s8) hx7 (s8.1 - s5.1) (s8.2.1 - s5.2.1) (Nat.add_sub_cancel' hle.1) (Nat.add_sub_cancel' hle.2)) (va_cwU 0 hts (zU_in q451 q453 q454 q452 q96 q459) rfl rfl rfl rfl (by decide +kernel) ⟨Nat.le_of_ble_eq_true rfl, Nat.le_of_ble_eq_true rfl⟩) (z_preV hX hS hH (zob_o hf9) rfl) rfl rfl hl.1 rfl (lv_room (Nat.le_of_ble_eq_true rfl)) dX6_fault_182 ⟨hc1, hs1⟩) hS (fun q _ hq => hq) (fun q hq => hq) (fun r u t H1 locs ht hvm hw hB hz hk hS => ?_)
          obtain ⟨hw1, hw2⟩ := Prod.mk.inj hw.symm; subst hw1; subst hw2
          have hH : zH D cA ζ s8 H1 := z_at ht.symm hB
          have hcs : s.heap.size + (cells + (s8.1 - s5.1)) = s8.1 := by omega
          have hss : sl0 + (slots + (s8.2.1 - s5.2.1)) = s8.2.1 := by omega
          replace hcM := And.intro hc1 hs1
          generalize cells + (s8.1 - s5.1) = cells at hcs hcM ⊢; generalize slots + (s8.2.1 - s5.2.1) = slots at hss hcM ⊢
          clear hB hk hz hvm ht hle hck hc1 hs1; generalize H1 = H at hH hS ⊢
          refine lv_goto (tgt := 189) hx hb dX6_fault_185 (by decide) ?_
          obtain ⟨hM1, hS1⟩ : cells = M ∧ slots = S := by have hq := congrArg Prod.snd (Option.some.inj hf); rw [← hq] at hM hS0; have hM : s.heap.size + M = s8.1 := hM; have hS0 : sl0 + S = s8.2.1 := hS0; omega
          refine W.widen (k := M) (n := S) (Nat.le_of_eq hM1) (Nat.le_of_eq hS1) ?_
          exact W.iret (v := x7) hx hb hr (fun t ht hW => ⟨⟨x7, s8, rfl, Option.some.inj hf, z_at ht hH⟩, hS.F ht⟩) hS.2.2 dX6_fault_189
      · have hf := dz_f c147 hf
        refine lv_aload_n hx hb dX6_fault_150 rfl (lv_at hl 1 rfl) ?_
        obtain ⟨f12, hf12, hf⟩ := dz_bo hf
        obtain ⟨x10, s11, hx10, hle, hck, hf⟩ := zcl_o hf
        have hc1 : cells + (s11.1 - s2.1) ≤ M := by omega
        have hs1 : slots + (s11.2.1 - s2.2.1) ≤ S := by omega
        refine va_callFr (va_runF (hX.K.1 2 _ rfl).2 (As := []) (rest := []) ⟨hx, hb, hml, hown, hts⟩ (mtX2_next l D cA ζ s2 v2 K (x10, s11) hx10 (s11.1 - s2.1) (s11.2.1 - s2.2.1) (Nat.add_sub_cancel' hle.1) (Nat.add_sub_cancel' hle.2)) (va_cwF 0 hts (zF_in q279 q282 q284 q91 q286) rfl rfl rfl (hX.F 1 rfl) (by decide +kernel) ⟨Nat.le_of_ble_eq_true rfl, Nat.le_of_ble_eq_true rfl⟩) (z_preV hX hS hH (zob_o hf12) rfl) rfl rfl hl.1 rfl (lv_room (Nat.le_of_ble_eq_true rfl)) dX6_fault_151 ⟨hc1, hs1⟩) hS (fun q _ hq => hq) (fun q hq => hq) (fun u r t H1 locs ht hvm hw hB hz hk hS => ?_)
        obtain ⟨hw, hB⟩ := hB
        obtain ⟨hw1, hw2⟩ := Prod.mk.inj hw.symm; subst hw1; subst hw2
        have hH : zH D cA ζ s11 H1 := z_at ht.symm hB
        have hcs : s.heap.size + (cells + (s11.1 - s2.1)) = s11.1 := by omega
        have hss : sl0 + (slots + (s11.2.1 - s2.2.1)) = s11.2.1 := by omega
        replace hcM := And.intro hc1 hs1
        generalize cells + (s11.1 - s2.1) = cells at hcs hcM ⊢; generalize slots + (s11.2.1 - s2.2.1) = slots at hss hcM ⊢
        clear hB hk hz hvm ht hle hck hc1 hs1; generalize H1 = H at hH hS ⊢
        obtain ⟨f13, hf13, hf⟩ := dz_bo hf
        refine va_castS (nm := RX13) hx hb hown (hts _ q300) (hX.K.1 11 _ rfl).2 (va_recv hX.K (zrd_P hX hS hH (zob_o hf13)) (ci := 11) (q0 := 0) rfl rfl) dX6_fault_156 ?_
        refine lv_astore_n (lv' := [(3, .ref x10), (0, .ref v0), (2, .ref v2)]) hx hb dX6_fault_159 rfl hl (by decide) rfl (fun ls hl => ?_)
        refine lv_aload_n hx hb dX6_fault_160 rfl (lv_at hl 1 rfl) ?_
        refine lv_aload_n hx hb dX6_fault_161 rfl (lv_at hl 0 rfl) ?_
        obtain ⟨f16, hf16, hf⟩ := dz_bo hf
        obtain ⟨x14, s15, hx14, hle, hck, hf⟩ := zcl_o hf
        have hc1 : cells + (s15.1 - s11.1) ≤ M := by omega
        have hs1 : slots + (s15.2.1 - s11.2.1) ≤ S := by omega
        refine va_calli (va_runU (x := ⟨"PrimeProofs$Line", "isFar", "(LPrimeProofs$Row;)Z"⟩) (owner := "PrimeProofs$Line") (As := [.ref x10]) (rest := []) ⟨hx, hb, hml, hown, hts⟩ (mtX6_isFar_9 l D cA ζ s11 v0 x10 K (x14, s15) hx14 (s15.1 - s11.1) (s15.2.1 - s11.2.1) (Nat.add_sub_cancel' hle.1) (Nat.add_sub_cancel' hle.2)) (va_cwA 1 hts (zU_in q431 q433 q434 q432 q96 q439) rfl rfl rfl (hX.N q754 rfl) (by decide +kernel) ⟨Nat.le_of_ble_eq_true rfl, Nat.le_of_ble_eq_true rfl⟩) (z_preV hX hS hH (zob_o hf16) rfl) rfl rfl hl.1 rfl (lv_room (Nat.le_of_ble_eq_true rfl)) dX6_fault_162 ⟨hc1, hs1⟩) hS (fun q _ hq => hq) (fun q hq => hq) (fun r u t H1 locs ht hvm hw hB hz hk hS => ?_)
        obtain ⟨hw1, hw2⟩ := Prod.mk.inj hw.symm; subst hw1; subst hw2
        have hH : zH D cA ζ s15 H1 := z_at ht.symm hB
        have hcs : s.heap.size + (cells + (s15.1 - s11.1)) = s15.1 := by omega
        have hss : sl0 + (slots + (s15.2.1 - s11.2.1)) = s15.2.1 := by omega
        replace hcM := And.intro hc1 hs1
        generalize cells + (s15.1 - s11.1) = cells at hcs hcM ⊢; generalize slots + (s15.2.1 - s11.2.1) = slots at hss hcM ⊢
        clear hB hk hz hvm ht hle hck hc1 hs1; generalize H1 = H at hH hS ⊢
        refine lv_if_ne (tgt := 171) hx hb dX6_fault_165 (by decide) (fun c165 => ?_) (fun c165 => ?_)
        · have hf := dz_f c165 hf
          refine lv_goto (tgt := 141) hx hb dX6_fault_171 (by decide) ?_
          exact ih.2 v0 v2 s15 H locs cells slots hH hS hcs hss hcM ls (lv_sub hl [1, 2] rfl) hf
        · have hf := dz_t c165 hf
          refine lv_bipush (v := 6) hx hb dX6_fault_168 (by decide) ?_
          obtain ⟨hM1, hS1⟩ : cells = M ∧ slots = S := by have hq := congrArg Prod.snd (Option.some.inj hf); rw [← hq] at hM hS0; have hM : s.heap.size + M = s15.1 := hM; have hS0 : sl0 + S = s15.2.1 := hS0; omega
          refine W.widen (k := M) (n := S) (Nat.le_of_eq hM1) (Nat.le_of_eq hS1) ?_
          exact W.iret (v := 6) hx hb hr (fun t ht hW => ⟨⟨6, s15, rfl, Option.some.inj hf, z_at ht hH⟩, hS.F ht⟩) hS.2.2 dX6_fault_170
set_option maxHeartbeats 4000000 in
set_option maxRecDepth 100000 in
theorem mtX6_fault_9__0 (l : Launch) (D : va_G) (cA : Nat → ClassId) (ζ : pZ) (τ : pH) (h : Nat) (a0 : Int32) (K : Nat) (res : (Int32 × pH)) (hf : fnX6_fault_9__0 K ζ h a0 τ = some res) (M S : Nat) (hM : τ.1 + M = res.2.1) (hS0 : τ.2.1 + S = res.2.2.1) : Met l yX6_fault (ws_ yX6_fault cX6_fault 4 (some .int)) ({ frames := 102, cells := M, slots := S, locals := 2351 }) (zPc D cA ζ τ [.ref h, .int a0]) (zQi D cA ζ res) M S (zA ζ) := by
  refine Met.ofW (cc := cX6_fault) (maxL := 4) (ret := some .int) (by decide +kernel) rfl ?_
  intro p e s m args below meth c s₁ B hml hv
  obtain ⟨rfl, hX, hH⟩ := hv
  have hx := B.exec
  have hb := B.bytes
  have hr := B.returns
  have hts := atoms_spec (ws := ws_ yX6_fault cX6_fault 4 (some .int)) B.pre
  have hts : ∀ w ∈ lw_all, w.before _ s = true := fun w h => hts w (List.mem_cons_of_mem _ h)
  have hown : s.vm.findClass RX6 = some m.cls := findClass_of_methodNamed B.named
  have hlocks := B.notSynchronized
  have hM : s.heap.size + M = res.2.1 := by rw [hH.1]; exact hM
  have hcs : s.heap.size + 0 = τ.1 := hH.1
  have hss : τ.2.1 + 0 = τ.2.1 := rfl
  generalize hsl0 : τ.2.1 = sl0 at hS0 hss
  have hss : sl0 + 0 = τ.2.1 := by rw [hsl0]; rfl
  have hS : va_S (zA ζ) s.heap s.heap [] := va_S.rf
  generalize hHe : s.heap = H at hH hS ⊢
  have hS : va_S (zA ζ) s.heap H [] := by rw [hHe]; exact hS
  generalize ([] : List Loc) = locs at hS ⊢
  have hl := lv_entry ([.ref h, .int a0]) (n := 4) (Nat.le_of_ble_eq_true rfl)
  rw [lg_entry_eq]
  generalize (lg_sl ([.ref h, .int a0]) ++ List.replicate (4 - (lg_sl ([.ref h, .int a0])).length) Slot.unset).toArray = ls at hl ⊢
  have hl : lv_has ls 4 [(0, .ref h), (1, .int a0)] := hl
  have hf : (dz_b (zob ζ τ h 9) fun f1 => dz_b (zvi (f1[1]?)) fun x2 => if x2 = (0 : Int32) then (dz_b (zob ζ τ h 9) fun f27 => dz_b (zvl (f27[0]?)) fun x28 => if (100 : Int64) ≤ x28 then (some (1, τ)) else (dz_b (zob ζ τ h 9) fun f29 => dz_b (zvl (f29[0]?)) fun x30 => dz_b (fnX0_isPrime K x30) fun x31 => if x31 = (0 : Int32) then (some (1, τ)) else (some (0, τ)))) else (dz_b (zob ζ τ h 9) fun f3 => dz_b (zvl (f3[0]?)) fun x4 => dz_l (x4 - x4 / 2 * 2) fun x5 => if x5 = (0 : Int64) then (some (1, τ)) else (dz_b (zob ζ τ h 9) fun f6 => dz_b (zvr (f6[4]?)) fun x7 => dz_b (zob ζ τ h 9) fun f10 => zcl τ (fnX6_isBacked_9__0 K ζ h x7 a0 τ) fun x8 s9 => if x8 = (0 : Int32) then (some (2, s9)) else (dz_b (zob ζ s9 h 9) fun f11 => dz_b (zvr (f11[5]?)) fun x12 => dz_b (zob ζ s9 h 9) fun f15 => zcl s9 (fnX6_isBacked_9__0 K ζ h x12 a0 s9) fun x13 s14 => if x13 = (0 : Int32) then (some (2, s14)) else (dz_b (zob ζ s14 h 9) fun f18 => zcl s14 (fnX12_isWhole K ζ h s14) fun x16 s17 => if x16 = (0 : Int32) then (some (3, s17)) else (dz_b (zob ζ s17 h 9) fun f21 => zcl s17 (fnX12_isEnough K ζ h s17) fun x19 s20 => if x19 = (0 : Int32) then (some (4, s20)) else (dz_b (zob ζ s20 h 9) fun f22 => dz_b (zvr (f22[4]?)) fun x23 => dz_b (zob ζ s20 x23 10) fun f26 => zcl s20 (fnX8_iterator K ζ x23 s20) fun x24 s25 => (lfX6_fault_9__0 K ζ K).1 h x24 s25)))))) : Option (Int32 × pH)) = some res := hf
  refine z_gen (fun cells slots hc0 hs0 => ?_)
  have hcs : s.heap.size + cells = τ.1 := by rw [hc0]; exact hcs
  have hss : sl0 + slots = τ.2.1 := by rw [hs0]; exact hss
  have hcM : cells ≤ M ∧ slots ≤ S := by rw [hc0, hs0]; exact ⟨Nat.zero_le _, Nat.zero_le _⟩
  clear hc0 hs0
  have ih := wlX6_fault_9__0 (l := l) (e := e) (below := below) (D := D) (cA := cA) hX K res M S sl0 hM hS0 h a0 hx hb hr hlocks hml hown hts K
  refine lv_aload_n hx hb dX6_fault_0 rfl (lv_at hl 0 rfl) ?_
  obtain ⟨f1, hf1, hf⟩ := dz_bo hf
  obtain ⟨x2, hx2, hf⟩ := dz_bo hf
  refine va_get (C := RX12) (T := TX12) (N := 8) hx hb hts in_X12 hown hX.K (zrd_P hX hS hH (zob_o hf1)) 0 rfl rfl 1 (by decide) (hts _ q542) (fun _ hq => hq) (zvi_o hx2) dX6_fault_1 ?_
  refine lv_if_ne (tgt := 34) hx hb dX6_fault_4 (by decide) (fun c4 => ?_) (fun c4 => ?_)
  · have hf := dz_f c4 hf
    refine lv_aload_n hx hb dX6_fault_34 rfl (lv_at hl 0 rfl) ?_
    obtain ⟨f3, hf3, hf⟩ := dz_bo hf
    obtain ⟨x4, hx4, hf⟩ := dz_bo hf
    refine va_get (C := RX12) (T := TX12) (N := 8) hx hb hts in_X12 hown hX.K (zrd_P hX hS hH (zob_o hf3)) 0 rfl rfl 0 (by decide) (hts _ q532) (fun _ hq => hq) (zvl_o hx4) dX6_fault_35 ?_
    refine lv_ldc2 (v := 2) hx hb hown (hts _ q236) dX6_fault_38 ?_
    refine lv_lrem hx hb dX6_fault_41 (by decide) ?_
    refine lv_topl (fun x5 e_x5 => ?_)
    have hf := dz_ls e_x5 hf
    refine lv_lconst (v := 0) hx hb dX6_fault_42 rfl ?_
    refine W.lcmp hx hb dX6_fault_43 ?_
    refine lv_if_ne (tgt := 49) hx hb dX6_fault_44 (by decide) (fun c44 => ?_) (fun c44 => ?_)
    · have c44 : ¬ x5 = (0 : Int64) := fun hq => c44 ((lg_cmp_eq _ _).mpr hq)
      have hf := dz_f c44 hf
      refine lv_aload_n hx hb dX6_fault_49 rfl (lv_at hl 0 rfl) ?_
      refine lv_aload_n hx hb dX6_fault_50 rfl (lv_at hl 0 rfl) ?_
      obtain ⟨f6, hf6, hf⟩ := dz_bo hf
      obtain ⟨x7, hx7, hf⟩ := dz_bo hf
      refine va_get (C := RX12) (T := TX12) (N := 8) hx hb hts in_X12 hown hX.K (zrd_P hX hS hH (zob_o hf6)) 0 rfl rfl 4 (by decide) (hts _ q550) (fun _ hq => hq) (zvr_o hx7) dX6_fault_51 ?_
      refine lv_iload_n hx hb dX6_fault_54 rfl (lv_at hl 1 rfl) ?_
      obtain ⟨f10, hf10, hf⟩ := dz_bo hf
      obtain ⟨x8, s9, hx8, hle, hck, hf⟩ := zcl_o hf
      have hc1 : cells + (s9.1 - τ.1) ≤ M := by omega
      have hs1 : slots + (s9.2.1 - τ.2.1) ≤ S := by omega
      refine va_calli (va_runU (x := ⟨"PrimeProofs$Line", "isBacked", "(LPrimeProofs$Rows;I)Z"⟩) (owner := "PrimeProofs$Line") (As := [.ref x7, .int a0]) (rest := []) ⟨hx, hb, hml, hown, hts⟩ (mtX6_isBacked_9__0 l D cA ζ τ h x7 a0 K (x8, s9) hx8 (s9.1 - τ.1) (s9.2.1 - τ.2.1) (Nat.add_sub_cancel' hle.1) (Nat.add_sub_cancel' hle.2)) (zcwP 2 hts (hX.sel 4 rfl) q237 q2199 q239 q96 q240 rfl rfl rfl (by decide +kernel) ⟨Nat.le_of_ble_eq_true rfl, Nat.le_of_ble_eq_true rfl⟩) (z_preV hX hS hH (zob_o hf10) rfl) rfl rfl hl.1 rfl (lv_room (Nat.le_of_ble_eq_true rfl)) dX6_fault_55 ⟨hc1, hs1⟩) hS (fun q _ hq => hq) (fun q hq => hq) (fun r u t H1 locs ht hvm hw hB hz hk hS => ?_)
      obtain ⟨hw1, hw2⟩ := Prod.mk.inj hw.symm; subst hw1; subst hw2
      have hH : zH D cA ζ s9 H1 := z_at ht.symm hB
      have hcs : s.heap.size + (cells + (s9.1 - τ.1)) = s9.1 := by omega
      have hss : sl0 + (slots + (s9.2.1 - τ.2.1)) = s9.2.1 := by omega
      replace hcM := And.intro hc1 hs1
      generalize cells + (s9.1 - τ.1) = cells at hcs hcM ⊢; generalize slots + (s9.2.1 - τ.2.1) = slots at hss hcM ⊢
      clear hB hk hz hvm ht hle hck hc1 hs1; generalize H1 = H at hH hS ⊢
      refine lv_if_eq (tgt := 73) hx hb dX6_fault_58 (by decide) (fun c58 => ?_) (fun c58 => ?_)
      · have hf := dz_t c58 hf
        refine lv_iconst (v := 2) hx hb dX6_fault_73 (by decide) ?_
        obtain ⟨hM1, hS1⟩ : cells = M ∧ slots = S := by have hq := congrArg Prod.snd (Option.some.inj hf); rw [← hq] at hM hS0; have hM : s.heap.size + M = s9.1 := hM; have hS0 : sl0 + S = s9.2.1 := hS0; omega
        refine W.widen (k := M) (n := S) (Nat.le_of_eq hM1) (Nat.le_of_eq hS1) ?_
        exact W.iret (v := 2) hx hb hr (fun t ht hW => ⟨⟨2, s9, rfl, Option.some.inj hf, z_at ht hH⟩, hS.F ht⟩) hS.2.2 dX6_fault_74
      · have hf := dz_f c58 hf
        refine lv_aload_n hx hb dX6_fault_61 rfl (lv_at hl 0 rfl) ?_
        refine lv_aload_n hx hb dX6_fault_62 rfl (lv_at hl 0 rfl) ?_
        obtain ⟨f11, hf11, hf⟩ := dz_bo hf
        obtain ⟨x12, hx12, hf⟩ := dz_bo hf
        refine va_get (C := RX12) (T := TX12) (N := 8) hx hb hts in_X12 hown hX.K (zrd_P hX hS hH (zob_o hf11)) 0 rfl rfl 5 (by decide) (hts _ q559) (fun _ hq => hq) (zvr_o hx12) dX6_fault_63 ?_
        refine lv_iload_n hx hb dX6_fault_66 rfl (lv_at hl 1 rfl) ?_
        obtain ⟨f15, hf15, hf⟩ := dz_bo hf
        obtain ⟨x13, s14, hx13, hle, hck, hf⟩ := zcl_o hf
        have hc1 : cells + (s14.1 - s9.1) ≤ M := by omega
        have hs1 : slots + (s14.2.1 - s9.2.1) ≤ S := by omega
        refine va_calli (va_runU (x := ⟨"PrimeProofs$Line", "isBacked", "(LPrimeProofs$Rows;I)Z"⟩) (owner := "PrimeProofs$Line") (As := [.ref x12, .int a0]) (rest := []) ⟨hx, hb, hml, hown, hts⟩ (mtX6_isBacked_9__0 l D cA ζ s9 h x12 a0 K (x13, s14) hx13 (s14.1 - s9.1) (s14.2.1 - s9.2.1) (Nat.add_sub_cancel' hle.1) (Nat.add_sub_cancel' hle.2)) (zcwP 2 hts (hX.sel 4 rfl) q237 q2199 q239 q96 q240 rfl rfl rfl (by decide +kernel) ⟨Nat.le_of_ble_eq_true rfl, Nat.le_of_ble_eq_true rfl⟩) (z_preV hX hS hH (zob_o hf15) rfl) rfl rfl hl.1 rfl (lv_room (Nat.le_of_ble_eq_true rfl)) dX6_fault_67 ⟨hc1, hs1⟩) hS (fun q _ hq => hq) (fun q hq => hq) (fun r u t H1 locs ht hvm hw hB hz hk hS => ?_)
        obtain ⟨hw1, hw2⟩ := Prod.mk.inj hw.symm; subst hw1; subst hw2
        have hH : zH D cA ζ s14 H1 := z_at ht.symm hB
        have hcs : s.heap.size + (cells + (s14.1 - s9.1)) = s14.1 := by omega
        have hss : sl0 + (slots + (s14.2.1 - s9.2.1)) = s14.2.1 := by omega
        replace hcM := And.intro hc1 hs1
        generalize cells + (s14.1 - s9.1) = cells at hcs hcM ⊢; generalize slots + (s14.2.1 - s9.2.1) = slots at hss hcM ⊢
        clear hB hk hz hvm ht hle hck hc1 hs1; generalize H1 = H at hH hS ⊢
        refine lv_if_ne (tgt := 75) hx hb dX6_fault_70 (by decide) (fun c70 => ?_) (fun c70 => ?_)
        · have hf := dz_f c70 hf
          refine lv_aload_n hx hb dX6_fault_75 rfl (lv_at hl 0 rfl) ?_
          obtain ⟨f18, hf18, hf⟩ := dz_bo hf
          obtain ⟨x16, s17, hx16, hle, hck, hf⟩ := zcl_o hf
          have hc1 : cells + (s17.1 - s14.1) ≤ M := by omega
          have hs1 : slots + (s17.2.1 - s14.2.1) ≤ S := by omega
          refine va_calli (va_runU (x := ⟨"PrimeProofs$Line", "isWhole", "()Z"⟩) (owner := "PrimeProofs$Line") (As := []) (rest := []) ⟨hx, hb, hml, hown, hts⟩ (mtX12_isWhole l D cA ζ s14 h K (x16, s17) hx16 (s17.1 - s14.1) (s17.2.1 - s14.2.1) (Nat.add_sub_cancel' hle.1) (Nat.add_sub_cancel' hle.2)) (va_cwA 0 hts (zU_in q305 q307 q308 q309 q102 q310) rfl rfl rfl (hX.N q306 rfl) (by decide +kernel) ⟨Nat.le_of_ble_eq_true rfl, Nat.le_of_ble_eq_true rfl⟩) (z_preV hX hS hH (zob_o hf18) rfl) rfl rfl hl.1 rfl (lv_room (Nat.le_of_ble_eq_true rfl)) dX6_fault_76 ⟨hc1, hs1⟩) hS (fun q _ hq => hq) (fun q hq => hq) (fun r u t H1 locs ht hvm hw hB hz hk hS => ?_)
          obtain ⟨hw1, hw2⟩ := Prod.mk.inj hw.symm; subst hw1; subst hw2
          have hH : zH D cA ζ s17 H1 := z_at ht.symm hB
          have hcs : s.heap.size + (cells + (s17.1 - s14.1)) = s17.1 := by omega
          have hss : sl0 + (slots + (s17.2.1 - s14.2.1)) = s17.2.1 := by omega
          replace hcM := And.intro hc1 hs1
          generalize cells + (s17.1 - s14.1) = cells at hcs hcM ⊢; generalize slots + (s17.2.1 - s14.2.1) = slots at hss hcM ⊢
          clear hB hk hz hvm ht hle hck hc1 hs1; generalize H1 = H at hH hS ⊢
          refine lv_if_ne (tgt := 84) hx hb dX6_fault_79 (by decide) (fun c79 => ?_) (fun c79 => ?_)
          · have hf := dz_f c79 hf
            refine lv_aload_n hx hb dX6_fault_84 rfl (lv_at hl 0 rfl) ?_
            obtain ⟨f21, hf21, hf⟩ := dz_bo hf
            obtain ⟨x19, s20, hx19, hle, hck, hf⟩ := zcl_o hf
            have hc1 : cells + (s20.1 - s17.1) ≤ M := by omega
            have hs1 : slots + (s20.2.1 - s17.2.1) ≤ S := by omega
            refine va_calli (va_runU (x := ⟨"PrimeProofs$Line", "isEnough", "()Z"⟩) (owner := "PrimeProofs$Line") (As := []) (rest := []) ⟨hx, hb, hml, hown, hts⟩ (mtX12_isEnough l D cA ζ s17 h K (x19, s20) hx19 (s20.1 - s17.1) (s20.2.1 - s17.2.1) (Nat.add_sub_cancel' hle.1) (Nat.add_sub_cancel' hle.2)) (va_cwO 0 hts (zO_in q340 q342 q341 q343 q344 q102 q345) rfl rfl rfl q357 (by decide +kernel) ⟨Nat.le_of_ble_eq_true rfl, Nat.le_of_ble_eq_true rfl⟩) (z_preV hX hS hH (zob_o hf21) rfl) rfl rfl hl.1 rfl (lv_room (Nat.le_of_ble_eq_true rfl)) dX6_fault_85 ⟨hc1, hs1⟩) hS (fun q _ hq => hq) (fun q hq => hq) (fun r u t H1 locs ht hvm hw hB hz hk hS => ?_)
            obtain ⟨hw1, hw2⟩ := Prod.mk.inj hw.symm; subst hw1; subst hw2
            have hH : zH D cA ζ s20 H1 := z_at ht.symm hB
            have hcs : s.heap.size + (cells + (s20.1 - s17.1)) = s20.1 := by omega
            have hss : sl0 + (slots + (s20.2.1 - s17.2.1)) = s20.2.1 := by omega
            replace hcM := And.intro hc1 hs1
            generalize cells + (s20.1 - s17.1) = cells at hcs hcM ⊢; generalize slots + (s20.2.1 - s17.2.1) = slots at hss hcM ⊢
            clear hB hk hz hvm ht hle hck hc1 hs1; generalize H1 = H at hH hS ⊢
            refine lv_if_ne (tgt := 93) hx hb dX6_fault_88 (by decide) (fun c88 => ?_) (fun c88 => ?_)
            · have hf := dz_f c88 hf
              refine lv_aload_n hx hb dX6_fault_93 rfl (lv_at hl 0 rfl) ?_
              obtain ⟨f22, hf22, hf⟩ := dz_bo hf
              obtain ⟨x23, hx23, hf⟩ := dz_bo hf
              refine va_get (C := RX12) (T := TX12) (N := 8) hx hb hts in_X12 hown hX.K (zrd_P hX hS hH (zob_o hf22)) 0 rfl rfl 4 (by decide) (hts _ q550) (fun _ hq => hq) (zvr_o hx23) dX6_fault_94 ?_
              obtain ⟨f26, hf26, hf⟩ := dz_bo hf
              obtain ⟨x24, s25, hx24, hle, hck, hf⟩ := zcl_o hf
              have hc1 : cells + (s25.1 - s20.1) ≤ M := by omega
              have hs1 : slots + (s25.2.1 - s20.2.1) ≤ S := by omega
              refine va_callr (va_runV (As := []) (rest := []) ⟨hx, hb, hml, hown, hts⟩ (mtX8_iterator l D cA ζ s20 x23 K (x24, s25) hx24 (s25.1 - s20.1) (s25.2.1 - s20.2.1) (Nat.add_sub_cancel' hle.1) (Nat.add_sub_cancel' hle.2)) (cwV 0 hts (lw_V q245 q246 q247 q98 q248) rfl rfl rfl (by decide +kernel) ⟨Nat.le_of_ble_eq_true rfl, Nat.le_of_ble_eq_true rfl⟩) (z_preV hX hS hH (zob_o hf26) rfl) rfl rfl hl.1 rfl (lv_room (Nat.le_of_ble_eq_true rfl)) dX6_fault_97 ⟨hc1, hs1⟩) hS (fun q _ hq => hq) (fun q hq => hq) (fun u r t H1 locs ht hvm hw hB hz hk hS => ?_)
              obtain ⟨hw, hB⟩ := hB
              obtain ⟨hw1, hw2⟩ := Prod.mk.inj hw.symm; subst hw1; subst hw2
              have hH : zH D cA ζ s25 H1 := z_at ht.symm hB
              have hcs : s.heap.size + (cells + (s25.1 - s20.1)) = s25.1 := by omega
              have hss : sl0 + (slots + (s25.2.1 - s20.2.1)) = s25.2.1 := by omega
              replace hcM := And.intro hc1 hs1
              generalize cells + (s25.1 - s20.1) = cells at hcs hcM ⊢; generalize slots + (s25.2.1 - s20.2.1) = slots at hss hcM ⊢
              clear hB hk hz hvm ht hle hck hc1 hs1; generalize H1 = H at hH hS ⊢
              refine lv_astore_n (lv' := [(2, .ref x24), (0, .ref h), (1, .int a0)]) hx hb dX6_fault_100 rfl hl (by decide) rfl (fun ls hl => ?_)
              exact ih.1 h x24 s25 H locs cells slots hH hS hcs hss hcM ls (lv_sub hl [1, 0] rfl) hf
            · have hf := dz_t c88 hf
              refine lv_iconst (v := 4) hx hb dX6_fault_91 (by decide) ?_
              obtain ⟨hM1, hS1⟩ : cells = M ∧ slots = S := by have hq := congrArg Prod.snd (Option.some.inj hf); rw [← hq] at hM hS0; have hM : s.heap.size + M = s20.1 := hM; have hS0 : sl0 + S = s20.2.1 := hS0; omega
              refine W.widen (k := M) (n := S) (Nat.le_of_eq hM1) (Nat.le_of_eq hS1) ?_
              exact W.iret (v := 4) hx hb hr (fun t ht hW => ⟨⟨4, s20, rfl, Option.some.inj hf, z_at ht hH⟩, hS.F ht⟩) hS.2.2 dX6_fault_92
          · have hf := dz_t c79 hf
            refine lv_iconst (v := 3) hx hb dX6_fault_82 (by decide) ?_
            obtain ⟨hM1, hS1⟩ : cells = M ∧ slots = S := by have hq := congrArg Prod.snd (Option.some.inj hf); rw [← hq] at hM hS0; have hM : s.heap.size + M = s17.1 := hM; have hS0 : sl0 + S = s17.2.1 := hS0; omega
            refine W.widen (k := M) (n := S) (Nat.le_of_eq hM1) (Nat.le_of_eq hS1) ?_
            exact W.iret (v := 3) hx hb hr (fun t ht hW => ⟨⟨3, s17, rfl, Option.some.inj hf, z_at ht hH⟩, hS.F ht⟩) hS.2.2 dX6_fault_83
        · have hf := dz_t c70 hf
          refine lv_iconst (v := 2) hx hb dX6_fault_73 (by decide) ?_
          obtain ⟨hM1, hS1⟩ : cells = M ∧ slots = S := by have hq := congrArg Prod.snd (Option.some.inj hf); rw [← hq] at hM hS0; have hM : s.heap.size + M = s14.1 := hM; have hS0 : sl0 + S = s14.2.1 := hS0; omega
          refine W.widen (k := M) (n := S) (Nat.le_of_eq hM1) (Nat.le_of_eq hS1) ?_
          exact W.iret (v := 2) hx hb hr (fun t ht hW => ⟨⟨2, s14, rfl, Option.some.inj hf, z_at ht hH⟩, hS.F ht⟩) hS.2.2 dX6_fault_74
    · have c44 : x5 = (0 : Int64) := (lg_cmp_eq _ _).mp c44
      have hf := dz_t c44 hf
      refine lv_iconst (v := 1) hx hb dX6_fault_47 (by decide) ?_
      obtain ⟨hM1, hS1⟩ : cells = M ∧ slots = S := by have hq := congrArg Prod.snd (Option.some.inj hf); rw [← hq] at hM hS0; have hM : s.heap.size + M = τ.1 := hM; have hS0 : sl0 + S = τ.2.1 := hS0; omega
      refine W.widen (k := M) (n := S) (Nat.le_of_eq hM1) (Nat.le_of_eq hS1) ?_
      exact W.iret (v := 1) hx hb hr (fun t ht hW => ⟨⟨1, τ, rfl, Option.some.inj hf, z_at ht hH⟩, hS.F ht⟩) hS.2.2 dX6_fault_48
  · have hf := dz_t c4 hf
    refine lv_aload_n hx hb dX6_fault_7 rfl (lv_at hl 0 rfl) ?_
    obtain ⟨f27, hf27, hf⟩ := dz_bo hf
    obtain ⟨x28, hx28, hf⟩ := dz_bo hf
    refine va_get (C := RX12) (T := TX12) (N := 8) hx hb hts in_X12 hown hX.K (zrd_P hX hS hH (zob_o hf27)) 0 rfl rfl 0 (by decide) (hts _ q532) (fun _ hq => hq) (zvl_o hx28) dX6_fault_8 ?_
    refine lv_ldc2 (v := 100) hx hb hown (hts _ q232) dX6_fault_11 ?_
    refine W.lcmp hx hb dX6_fault_14 ?_
    refine lv_if_ge (tgt := 32) hx hb dX6_fault_15 (by decide) (fun c15 => ?_) (fun c15 => ?_)
    · have c15 : (100 : Int64) ≤ x28 := (lg_cmp_ge _ _).mp c15
      have hf := dz_t c15 hf
      refine lv_iconst (v := 1) hx hb dX6_fault_32 (by decide) ?_
      obtain ⟨hM1, hS1⟩ : cells = M ∧ slots = S := by have hq := congrArg Prod.snd (Option.some.inj hf); rw [← hq] at hM hS0; have hM : s.heap.size + M = τ.1 := hM; have hS0 : sl0 + S = τ.2.1 := hS0; omega
      refine W.widen (k := M) (n := S) (Nat.le_of_eq hM1) (Nat.le_of_eq hS1) ?_
      exact W.iret (v := 1) hx hb hr (fun t ht hW => ⟨⟨1, τ, rfl, Option.some.inj hf, z_at ht hH⟩, hS.F ht⟩) hS.2.2 dX6_fault_33
    · have c15 : ¬ (100 : Int64) ≤ x28 := fun hq => c15 ((lg_cmp_ge _ _).mpr hq)
      have hf := dz_f c15 hf
      refine lv_aload_n hx hb dX6_fault_18 rfl (lv_at hl 0 rfl) ?_
      obtain ⟨f29, hf29, hf⟩ := dz_bo hf
      obtain ⟨x30, hx30, hf⟩ := dz_bo hf
      refine va_get (C := RX12) (T := TX12) (N := 8) hx hb hts in_X12 hown hX.K (zrd_P hX hS hH (zob_o hf29)) 0 rfl rfl 0 (by decide) (hts _ q532) (fun _ hq => hq) (zvl_o hx30) dX6_fault_19 ?_
      obtain ⟨x31, hx31, hf⟩ := dz_bo hf
      refine va_calli (va_runSN (As := [.long x30]) (rest := []) ⟨hx, hb, hml, hown, hts⟩ (mtX0_isPrime l x30 K x31 hx31) ⟨va_cnB 1 hts (lw_meth q235) rfl rfl rfl (hX.N q233 rfl) (hts _ q84) (by decide +kernel) ⟨Nat.le_of_ble_eq_true rfl, Nat.le_of_ble_eq_true rfl⟩, hts _ q234, trivial⟩ ⟨fun a U g mk q => q, fun U hU hW => ⟨rfl, trivial⟩⟩ rfl rfl hl.1 rfl (lv_room (Nat.le_of_ble_eq_true rfl)) dX6_fault_22 ⟨hcM.1, hcM.2⟩) hS (fun q _ hq => hq.elim) (fun q hq => hq.elim) (fun r u t H1 locs ht hvm hw hB hz hk hS => dz_size (fun hz9 => ?_))
      replace hw := hw.symm; subst hw
      replace hH := zH_keep hH hcs hz hk hz9
      clear hB hk hz hvm ht hz9; generalize H1 = H at hH hS ⊢
      refine W.widen (k := cells) (n := slots) (Nat.le_refl _) (Nat.le_refl _) ?_
      refine lv_if_eq (tgt := 32) hx hb dX6_fault_25 (by decide) (fun c25 => ?_) (fun c25 => ?_)
      · have hf := dz_t c25 hf
        refine lv_iconst (v := 1) hx hb dX6_fault_32 (by decide) ?_
        obtain ⟨hM1, hS1⟩ : cells = M ∧ slots = S := by have hq := congrArg Prod.snd (Option.some.inj hf); rw [← hq] at hM hS0; have hM : s.heap.size + M = τ.1 := hM; have hS0 : sl0 + S = τ.2.1 := hS0; omega
        refine W.widen (k := M) (n := S) (Nat.le_of_eq hM1) (Nat.le_of_eq hS1) ?_
        exact W.iret (v := 1) hx hb hr (fun t ht hW => ⟨⟨1, τ, rfl, Option.some.inj hf, z_at ht hH⟩, hS.F ht⟩) hS.2.2 dX6_fault_33
      · have hf := dz_f c25 hf
        refine lv_iconst (v := 0) hx hb dX6_fault_28 (by decide) ?_
        refine lv_goto (tgt := 33) hx hb dX6_fault_29 (by decide) ?_
        obtain ⟨hM1, hS1⟩ : cells = M ∧ slots = S := by have hq := congrArg Prod.snd (Option.some.inj hf); rw [← hq] at hM hS0; have hM : s.heap.size + M = τ.1 := hM; have hS0 : sl0 + S = τ.2.1 := hS0; omega
        refine W.widen (k := M) (n := S) (Nat.le_of_eq hM1) (Nat.le_of_eq hS1) ?_
        exact W.iret (v := 0) hx hb hr (fun t ht hW => ⟨⟨0, τ, rfl, Option.some.inj hf, z_at ht hH⟩, hS.F ht⟩) hS.2.2 dX6_fault_33

noncomputable def fnL_fault (K : Nat) (ζ : pZ) (h : Nat) (a0 : Int32) (τ : pH) : Option (Int32 × pH) := dz_b (zoL ζ τ h) fun q => if q.1 = 5 then fnX6_fault_5__0 K ζ h a0 τ else (if q.1 = 6 then fnX6_fault_6__0 K ζ h a0 τ else (if q.1 = 7 then fnX6_fault_7__0 K ζ h a0 τ else (if q.1 = 8 then fnX6_fault_8__0 K ζ h a0 τ else (if q.1 = 9 then fnX6_fault_9__0 K ζ h a0 τ else (none)))))
theorem L_fault_o {K : Nat} {ζ : pZ} {h : Nat} {a0 : Int32} {τ : pH} {r : (Int32 × pH)} (hf : fnL_fault K ζ h a0 τ = some r) : (∃ fs, zrd ζ τ h = some (.inr (5, fs)) ∧ fnX6_fault_5__0 K ζ h a0 τ = some r) ∨ (∃ fs, zrd ζ τ h = some (.inr (6, fs)) ∧ fnX6_fault_6__0 K ζ h a0 τ = some r) ∨ (∃ fs, zrd ζ τ h = some (.inr (7, fs)) ∧ fnX6_fault_7__0 K ζ h a0 τ = some r) ∨ (∃ fs, zrd ζ τ h = some (.inr (8, fs)) ∧ fnX6_fault_8__0 K ζ h a0 τ = some r) ∨ (∃ fs, zrd ζ τ h = some (.inr (9, fs)) ∧ fnX6_fault_9__0 K ζ h a0 τ = some r) := by
  obtain ⟨⟨ci, fs⟩, hq, hf⟩ := dz_bo hf
  obtain ⟨hr, hc⟩ := zoL_o hq
  rcases z5 hc with rfl | rfl | rfl | rfl | rfl
  · exact Or.inl ⟨fs, hr, hf⟩
  · exact Or.inr (Or.inl ⟨fs, hr, hf⟩)
  · exact Or.inr (Or.inr (Or.inl ⟨fs, hr, hf⟩))
  · exact Or.inr (Or.inr (Or.inr (Or.inl ⟨fs, hr, hf⟩)))
  · exact Or.inr (Or.inr (Or.inr (Or.inr ⟨fs, hr, hf⟩)))

