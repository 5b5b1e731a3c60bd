noncomputable def lfX6_findsPair_9 (K : Nat) (ζ : pZ) : Nat → (Nat → pH → Option (Int32 × pH)) × (Nat → pH → Option (Int32 × pH)) := Nat.rec (motive := fun _ => (Nat → pH → Option (Int32 × pH)) × (Nat → pH → Option (Int32 × pH))) ((fun _ _ => none), (fun _ _ => none)) (fun _ G => ((fun v0 τ => dz_b (zob ζ τ v0 9) fun f1 => dz_b (zvi (f1[2]?)) fun x2 => if (99 : Int32) < x2 then (some (0, τ)) else (dz_b (zwo ζ τ v0 9 3) fun f3 => dz_l (zst τ v0 (.inr (9, f3.set 3 (.int 1)))) fun s4 => G.2 v0 s4)), (fun v0 τ => dz_b (zob ζ τ v0 9) fun f1 => dz_b (zvi (f1[3]?)) fun x2 => if (99 : Int32) < x2 then (dz_b (zob ζ τ v0 9) fun f3 => dz_b (zvi (f3[2]?)) fun x4 => dz_l (x4 + 1) fun x5 => dz_b (zwo ζ τ v0 9 2) fun f6 => dz_l (zst τ v0 (.inr (9, f6.set 2 (.int x5)))) fun s7 => G.1 v0 s7) else (dz_b (zob ζ τ v0 9) fun f10 => zcl τ (fnX6_pairFault_9 K ζ v0 τ) fun x8 s9 => if x8 = (0 : Int32) then (some (1, s9)) else (dz_b (zob ζ s9 v0 9) fun f11 => dz_b (zvi (f11[3]?)) fun x12 => dz_l (x12 + 1) fun x13 => dz_b (zwo ζ s9 v0 9 3) fun f14 => dz_l (zst s9 v0 (.inr (9, f14.set 3 (.int x13)))) fun s15 => G.2 v0 s15)))))
noncomputable def fnX6_findsPair_9 (K : Nat) (ζ : pZ) (h : Nat) (τ : pH) : Option (Int32 × pH) := dz_b (zwo ζ τ h 9 2) fun f1 => dz_l (zst τ h (.inr (9, f1.set 2 (.int 1)))) fun s2 => (lfX6_findsPair_9 K ζ K).1 h s2
set_option maxHeartbeats 4000000 in
set_option maxRecDepth 100000 in
theorem wlX6_findsPair_9 {p : Program} {l : Launch} {e : Env} {s : State} {m : MethodId} {below : List Frame} {meth : Method} {c : Code} {D : va_G} {cA : Nat → ClassId} {ζ : pZ} (hX : zX D cA ζ s) (K : Nat) (res : (Int32 × pH)) (M S sl0 : Nat) (hM : s.heap.size + M = res.2.1) (hS0 : sl0 + S = res.2.2.1) (h : Nat) (hx : p.tables.exec = Jvm.exec) (hb : c.code = cX6_findsPair) (hr : meth.sig.returnType = some .boolean) (hlocks : meth.locks = false) (hml : c.maxLocals = 1) (hown : s.vm.findClass RX6 = some m.cls) (hts : ∀ w ∈ lw_all, w.before ([.ref h] : List Value).toArray s = true) : ∀ k : Nat, (∀ (v0 : Nat) (τ : pH) (H : Heap) (locs : List Loc) (cells slots : Nat), zH D cA ζ τ H → va_S (zA ζ) s.heap H locs → s.heap.size + cells = τ.1 → sl0 + slots = τ.2.1 → cells ≤ M ∧ slots ≤ S → ∀ (ls : Array Slot), lv_has ls 1 [(0, .ref v0)] → (lfX6_findsPair_9 K ζ k).1 v0 τ = some res → W p l e (headSpec (ws_ yX6_findsPair cX6_findsPair 1 (some .boolean)) ({ frames := 102, cells := M, slots := S, locals := 2345 })).room s m ([.ref h] : List Value).toArray below meth c H locs cells slots (MQ below (zQi D cA ζ res) ([.ref h] : List Value).toArray s M S (zA ζ)) (F0 m 5 ls [])) ∧ (∀ (v0 : Nat) (τ : pH) (H : Heap) (locs : List Loc) (cells slots : Nat), zH D cA ζ τ H → va_S (zA ζ) s.heap H locs → s.heap.size + cells = τ.1 → sl0 + slots = τ.2.1 → cells ≤ M ∧ slots ≤ S → ∀ (ls : Array Slot), lv_has ls 1 [(0, .ref v0)] → (lfX6_findsPair_9 K ζ k).2 v0 τ = some res → W p l e (headSpec (ws_ yX6_findsPair cX6_findsPair 1 (some .boolean)) ({ frames := 102, cells := M, slots := S, locals := 2345 })).room s m ([.ref h] : List Value).toArray below meth c H locs cells slots (MQ below (zQi D cA ζ res) ([.ref h] : List Value).toArray s M S (zA ζ)) (F0 m 19 ls [])) := by
  intro k
  induction k with
  | zero =>
    exact ⟨fun _ _ _ _ _ _ _ _ _ _ _ _ _ hf => (by cases hf), fun _ _ _ _ _ _ _ _ _ _ _ _ _ hf => (by cases hf)⟩
  | succ k ih =>
    refine ⟨?_, ?_⟩
    · intro v0 τ H locs cells slots hH hS hcs hss hcM ls hl hf
      have hf : (dz_b (zob ζ τ v0 9) fun f1 => dz_b (zvi (f1[2]?)) fun x2 => if (99 : Int32) < x2 then (some (0, τ)) else (dz_b (zwo ζ τ v0 9 3) fun f3 => dz_l (zst τ v0 (.inr (9, f3.set 3 (.int 1)))) fun s4 => (lfX6_findsPair_9 K ζ k).2 v0 s4) : Option (Int32 × pH)) = some res := hf
      refine lv_aload_n hx hb dX6_findsPair_5 rfl (lv_at hl 0 rfl) ?_
      obtain ⟨f1, hf1, hf⟩ := dz_bo hf
      obtain ⟨x2, hx2, hf⟩ := dz_bo hf
      refine va_get (C := RX12) (T := TX12) (N := 8) hx hb hts in_X12 hown hX.K (zrd_P hX hS hH (zob_o hf1)) 0 rfl rfl 2 (by decide) (hts _ q544) (fun _ hq => hq) (zvi_o hx2) dX6_findsPair_6 ?_
      refine lv_bipush (v := 99) hx hb dX6_findsPair_9 (by decide) ?_
      refine lv_icmp_gt (tgt := 63) hx hb dX6_findsPair_11 (by decide) (fun c11 => ?_) (fun c11 => ?_)
      · have hf := dz_t c11 hf
        refine lv_iconst (v := 0) hx hb dX6_findsPair_63 (by decide) ?_
        obtain ⟨hM1, hS1⟩ : cells = M ∧ slots = S := by have hq := congrArg Prod.snd (Option.some.inj hf); rw [← hq] at hM hS0; have hM : s.heap.size + M = τ.1 := hM; have hS0 : sl0 + S = τ.2.1 := hS0; omega
        refine W.widen (k := M) (n := S) (Nat.le_of_eq hM1) (Nat.le_of_eq hS1) ?_
        exact W.zret (v := 0) hx hb hr rfl (fun t ht hW => ⟨⟨0, τ, rfl, Option.some.inj hf, z_at ht hH⟩, hS.F ht⟩) hS.2.2 dX6_findsPair_64
      · have hf := dz_f c11 hf
        refine lv_aload_n hx hb dX6_findsPair_14 rfl (lv_at hl 0 rfl) ?_
        refine lv_iconst (v := 1) hx hb dX6_findsPair_15 (by decide) ?_
        obtain ⟨f3, hf3, hf⟩ := dz_bo hf
        obtain ⟨ha_f3, he_f3, hk_f3⟩ := zwo_o hf3
        refine zq_put (C := RX12) (T := TX12) (N := 8) hx hb hts in_X12 tyX12 tyX12_ok nmX12 hown hX.K hH.2.2 zw_D hS _ (zw_o ha_f3 he_f3) rfl 3 (by decide) (hts _ q547) (fun _ hq => hq) rfl rfl rfl rfl hk_f3 dX6_findsPair_16 (fun H1 locs hP1 _ hS => dz_size (fun hz => ?_))
        obtain ⟨s4, e_s4, hf⟩ := dz_lo hf
        have hH := zH_put (x := .inr (9, f3.set 3 (.int 1))) hH hcs ha_f3 hP1 hz
        rw [← e_s4] at hH
        have hcs : s.heap.size + cells = s4.1 := by rw [e_s4]; exact hcs
        have hss : sl0 + slots = s4.2.1 := by rw [e_s4]; exact hss
        clear hP1 hz; generalize H1 = H at hH hS ⊢
        exact ih.2 v0 s4 H locs cells slots hH hS hcs hss hcM ls (lv_sub hl [0] rfl) hf
    · intro v0 τ H locs cells slots hH hS hcs hss hcM ls hl hf
      have hf : (dz_b (zob ζ τ v0 9) fun f1 => dz_b (zvi (f1[3]?)) fun x2 => if (99 : Int32) < x2 then (dz_b (zob ζ τ v0 9) fun f3 => dz_b (zvi (f3[2]?)) fun x4 => dz_l (x4 + 1) fun x5 => dz_b (zwo ζ τ v0 9 2) fun f6 => dz_l (zst τ v0 (.inr (9, f6.set 2 (.int x5)))) fun s7 => (lfX6_findsPair_9 K ζ k).1 v0 s7) else (dz_b (zob ζ τ v0 9) fun f10 => zcl τ (fnX6_pairFault_9 K ζ v0 τ) fun x8 s9 => if x8 = (0 : Int32) then (some (1, s9)) else (dz_b (zob ζ s9 v0 9) fun f11 => dz_b (zvi (f11[3]?)) fun x12 => dz_l (x12 + 1) fun x13 => dz_b (zwo ζ s9 v0 9 3) fun f14 => dz_l (zst s9 v0 (.inr (9, f14.set 3 (.int x13)))) fun s15 => (lfX6_findsPair_9 K ζ k).2 v0 s15)) : Option (Int32 × pH)) = some res := hf
      refine lv_aload_n hx hb dX6_findsPair_19 rfl (lv_at hl 0 rfl) ?_
      obtain ⟨f1, hf1, hf⟩ := dz_bo hf
      obtain ⟨x2, hx2, hf⟩ := dz_bo hf
      refine va_get (C := RX12) (T := TX12) (N := 8) hx hb hts in_X12 hown hX.K (zrd_P hX hS hH (zob_o hf1)) 0 rfl rfl 3 (by decide) (hts _ q547) (fun _ hq => hq) (zvi_o hx2) dX6_findsPair_20 ?_
      refine lv_bipush (v := 99) hx hb dX6_findsPair_23 (by decide) ?_
      refine lv_icmp_gt (tgt := 50) hx hb dX6_findsPair_25 (by decide) (fun c25 => ?_) (fun c25 => ?_)
      · have hf := dz_t c25 hf
        refine lv_aload_n hx hb dX6_findsPair_50 rfl (lv_at hl 0 rfl) ?_
        refine lv_dup hx hb dX6_findsPair_51 rfl ?_
        obtain ⟨f3, hf3, hf⟩ := dz_bo hf
        obtain ⟨x4, hx4, hf⟩ := dz_bo hf
        refine va_get (C := RX12) (T := TX12) (N := 8) hx hb hts in_X12 hown hX.K (zrd_P hX hS hH (zob_o hf3)) 0 rfl rfl 2 (by decide) (hts _ q544) (fun _ hq => hq) (zvi_o hx4) dX6_findsPair_52 ?_
        refine lv_iconst (v := 1) hx hb dX6_findsPair_55 (by decide) ?_
        refine lv_iadd hx hb dX6_findsPair_56 ?_
        refine lv_topi (fun x5 e_x5 => ?_)
        have hf := dz_ls e_x5 hf
        obtain ⟨f6, hf6, hf⟩ := dz_bo hf
        obtain ⟨ha_f6, he_f6, hk_f6⟩ := zwo_o hf6
        refine zq_put (C := RX12) (T := TX12) (N := 8) hx hb hts in_X12 tyX12 tyX12_ok nmX12 hown hX.K hH.2.2 zw_D hS _ (zw_o ha_f6 he_f6) rfl 2 (by decide) (hts _ q544) (fun _ hq => hq) rfl rfl rfl rfl hk_f6 dX6_findsPair_57 (fun H1 locs hP1 _ hS => dz_size (fun hz => ?_))
        obtain ⟨s7, e_s7, hf⟩ := dz_lo hf
        have hH := zH_put (x := .inr (9, f6.set 2 (.int x5))) hH hcs ha_f6 hP1 hz
        rw [← e_s7] at hH
        have hcs : s.heap.size + cells = s7.1 := by rw [e_s7]; exact hcs
        have hss : sl0 + slots = s7.2.1 := by rw [e_s7]; exact hss
        clear hP1 hz; generalize H1 = H at hH hS ⊢
        refine lv_goto (tgt := 5) hx hb dX6_findsPair_60 (by decide) ?_
        exact ih.1 v0 s7 H locs cells slots hH hS hcs hss hcM ls (lv_sub hl [0] rfl) hf
      · have hf := dz_f c25 hf
        refine lv_aload_n hx hb dX6_findsPair_28 rfl (lv_at hl 0 rfl) ?_
        obtain ⟨f10, hf10, hf⟩ := dz_bo hf
        obtain ⟨x8, s9, hx8, hle, hck, hf⟩ := zcl_o hf
        have hc1 : cells + (s9.1 - τ.1) ≤ M := by omega
        have hs1 : slots + (s9.2.1 - τ.2.1) ≤ S := by omega
        refine va_calli (va_runU (x := ⟨"PrimeProofs$Line", "pairFault", "()I"⟩) (owner := "PrimeProofs$Line") (As := []) (rest := []) ⟨hx, hb, hml, hown, hts⟩ (mtX6_pairFault_9 l D cA ζ τ v0 K (x8, s9) hx8 (s9.1 - τ.1) (s9.2.1 - τ.2.1) (Nat.add_sub_cancel' hle.1) (Nat.add_sub_cancel' hle.2)) (va_cwU 0 hts (zU_in q451 q453 q454 q452 q96 q459) rfl rfl rfl rfl (by decide +kernel) ⟨Nat.le_of_ble_eq_true rfl, Nat.le_of_ble_eq_true rfl⟩) (z_preV hX hS hH (zob_o hf10) rfl) rfl rfl hl.1 rfl (lv_room (Nat.le_of_ble_eq_true rfl)) dX6_findsPair_29 ⟨hc1, hs1⟩) hS (fun q _ hq => hq) (fun q hq => hq) (fun r u t H1 locs ht hvm hw hB hz hk hS => ?_)
        obtain ⟨hw1, hw2⟩ := Prod.mk.inj hw.symm; subst hw1; subst hw2
        have hH : zH D cA ζ s9 H1 := z_at ht.symm hB
        have hcs : s.heap.size + (cells + (s9.1 - τ.1)) = s9.1 := by omega
        have hss : sl0 + (slots + (s9.2.1 - τ.2.1)) = s9.2.1 := by omega
        replace hcM := And.intro hc1 hs1
        generalize cells + (s9.1 - τ.1) = cells at hcs hcM ⊢; generalize slots + (s9.2.1 - τ.2.1) = slots at hss hcM ⊢
        clear hB hk hz hvm ht hle hck hc1 hs1; generalize H1 = H at hH hS ⊢
        refine lv_if_ne (tgt := 37) hx hb dX6_findsPair_32 (by decide) (fun c32 => ?_) (fun c32 => ?_)
        · have hf := dz_f c32 hf
          refine lv_aload_n hx hb dX6_findsPair_37 rfl (lv_at hl 0 rfl) ?_
          refine lv_dup hx hb dX6_findsPair_38 rfl ?_
          obtain ⟨f11, hf11, hf⟩ := dz_bo hf
          obtain ⟨x12, hx12, hf⟩ := dz_bo hf
          refine va_get (C := RX12) (T := TX12) (N := 8) hx hb hts in_X12 hown hX.K (zrd_P hX hS hH (zob_o hf11)) 0 rfl rfl 3 (by decide) (hts _ q547) (fun _ hq => hq) (zvi_o hx12) dX6_findsPair_39 ?_
          refine lv_iconst (v := 1) hx hb dX6_findsPair_42 (by decide) ?_
          refine lv_iadd hx hb dX6_findsPair_43 ?_
          refine lv_topi (fun x13 e_x13 => ?_)
          have hf := dz_ls e_x13 hf
          obtain ⟨f14, hf14, hf⟩ := dz_bo hf
          obtain ⟨ha_f14, he_f14, hk_f14⟩ := zwo_o hf14
          refine zq_put (C := RX12) (T := TX12) (N := 8) hx hb hts in_X12 tyX12 tyX12_ok nmX12 hown hX.K hH.2.2 zw_D hS _ (zw_o ha_f14 he_f14) rfl 3 (by decide) (hts _ q547) (fun _ hq => hq) rfl rfl rfl rfl hk_f14 dX6_findsPair_44 (fun H1 locs hP1 _ hS => dz_size (fun hz => ?_))
          obtain ⟨s15, e_s15, hf⟩ := dz_lo hf
          have hH := zH_put (x := .inr (9, f14.set 3 (.int x13))) hH hcs ha_f14 hP1 hz
          rw [← e_s15] at hH
          have hcs : s.heap.size + cells = s15.1 := by rw [e_s15]; exact hcs
          have hss : sl0 + slots = s15.2.1 := by rw [e_s15]; exact hss
          clear hP1 hz; generalize H1 = H at hH hS ⊢
          refine lv_goto (tgt := 19) hx hb dX6_findsPair_47 (by decide) ?_
          exact ih.2 v0 s15 H locs cells slots hH hS hcs hss hcM ls (lv_sub hl [0] rfl) hf
        · have hf := dz_t c32 hf
          refine lv_iconst (v := 1) hx hb dX6_findsPair_35 (by decide) ?_
          obtain ⟨hM1, hS1⟩ : cells = M ∧ slots = S := by have hq := congrArg Prod.snd (Option.some.inj hf); rw [← hq] at hM hS0; have hM : s.heap.size + M = s9.1 := hM; have hS0 : sl0 + S = s9.2.1 := hS0; omega
          refine W.widen (k := M) (n := S) (Nat.le_of_eq hM1) (Nat.le_of_eq hS1) ?_
          exact W.zret (v := 1) hx hb hr rfl (fun t ht hW => ⟨⟨1, s9, rfl, Option.some.inj hf, z_at ht hH⟩, hS.F ht⟩) hS.2.2 dX6_findsPair_36
set_option maxHeartbeats 4000000 in
set_option maxRecDepth 100000 in
theorem mtX6_findsPair_9 (l : Launch) (D : va_G) (cA : Nat → ClassId) (ζ : pZ) (τ : pH) (h : Nat) (K : Nat) (res : (Int32 × pH)) (hf : fnX6_findsPair_9 K ζ h τ = some res) (M S : Nat) (hM : τ.1 + M = res.2.1) (hS0 : τ.2.1 + S = res.2.2.1) : Met l yX6_findsPair (ws_ yX6_findsPair cX6_findsPair 1 (some .boolean)) ({ frames := 102, cells := M, slots := S, locals := 2345 }) (zPc D cA ζ τ [.ref h]) (zQi D cA ζ res) M S (zA ζ) := by
  refine Met.ofW (cc := cX6_findsPair) (maxL := 1) (ret := some .boolean) (by decide +kernel) rfl ?_
  intro p e s m args below meth c s₁ B hml hv
  obtain ⟨rfl, hX, hH⟩ := hv
  have hx := B.exec
  have hb := B.bytes
  have hr := B.returns
  have hts := atoms_spec (ws := ws_ yX6_findsPair cX6_findsPair 1 (some .boolean)) B.pre
  have hts : ∀ w ∈ lw_all, w.before _ s = true := fun w h => hts w (List.mem_cons_of_mem _ h)
  have hown : s.vm.findClass RX6 = some m.cls := findClass_of_methodNamed B.named
  have hlocks := B.notSynchronized
  have hM : s.heap.size + M = res.2.1 := by rw [hH.1]; exact hM
  have hcs : s.heap.size + 0 = τ.1 := hH.1
  have hss : τ.2.1 + 0 = τ.2.1 := rfl
  generalize hsl0 : τ.2.1 = sl0 at hS0 hss
  have hss : sl0 + 0 = τ.2.1 := by rw [hsl0]; rfl
  have hS : va_S (zA ζ) s.heap s.heap [] := va_S.rf
  generalize hHe : s.heap = H at hH hS ⊢
  have hS : va_S (zA ζ) s.heap H [] := by rw [hHe]; exact hS
  generalize ([] : List Loc) = locs at hS ⊢
  have hl := lv_entry ([.ref h]) (n := 1) (Nat.le_of_ble_eq_true rfl)
  rw [lg_entry_eq]
  generalize (lg_sl ([.ref h]) ++ List.replicate (1 - (lg_sl ([.ref h])).length) Slot.unset).toArray = ls at hl ⊢
  have hl : lv_has ls 1 [(0, .ref h)] := hl
  have hf : (dz_b (zwo ζ τ h 9 2) fun f1 => dz_l (zst τ h (.inr (9, f1.set 2 (.int 1)))) fun s2 => (lfX6_findsPair_9 K ζ K).1 h s2 : Option (Int32 × pH)) = some res := hf
  refine z_gen (fun cells slots hc0 hs0 => ?_)
  have hcs : s.heap.size + cells = τ.1 := by rw [hc0]; exact hcs
  have hss : sl0 + slots = τ.2.1 := by rw [hs0]; exact hss
  have hcM : cells ≤ M ∧ slots ≤ S := by rw [hc0, hs0]; exact ⟨Nat.zero_le _, Nat.zero_le _⟩
  clear hc0 hs0
  have ih := wlX6_findsPair_9 (l := l) (e := e) (below := below) (D := D) (cA := cA) hX K res M S sl0 hM hS0 h hx hb hr hlocks hml hown hts K
  refine lv_aload_n hx hb dX6_findsPair_0 rfl (lv_at hl 0 rfl) ?_
  refine lv_iconst (v := 1) hx hb dX6_findsPair_1 (by decide) ?_
  obtain ⟨f1, hf1, hf⟩ := dz_bo hf
  obtain ⟨ha_f1, he_f1, hk_f1⟩ := zwo_o hf1
  refine zq_put (C := RX12) (T := TX12) (N := 8) hx hb hts in_X12 tyX12 tyX12_ok nmX12 hown hX.K hH.2.2 zw_D hS _ (zw_o ha_f1 he_f1) rfl 2 (by decide) (hts _ q544) (fun _ hq => hq) rfl rfl rfl rfl hk_f1 dX6_findsPair_2 (fun H1 locs hP1 _ hS => dz_size (fun hz => ?_))
  obtain ⟨s2, e_s2, hf⟩ := dz_lo hf
  have hH := zH_put (x := .inr (9, f1.set 2 (.int 1))) hH hcs ha_f1 hP1 hz
  rw [← e_s2] at hH
  have hcs : s.heap.size + cells = s2.1 := by rw [e_s2]; exact hcs
  have hss : sl0 + slots = s2.2.1 := by rw [e_s2]; exact hss
  clear hP1 hz; generalize H1 = H at hH hS ⊢
  exact ih.1 h s2 H locs cells slots hH hS hcs hss hcM ls (lv_sub hl [0] rfl) hf

noncomputable def lfX6_isFound_9 (K : Nat) (ζ : pZ) : Nat → (pH → Option (Int32 × pH)) := Nat.rec (motive := fun _ => (pH → Option (Int32 × pH))) (fun _ => none) (fun _ G => (fun τ => some (1, τ)))
noncomputable def fnX6_isFound_9 (K : Nat) (ζ : pZ) (h : Nat) (τ : pH) : Option (Int32 × pH) := dz_b (zob ζ τ h 9) fun f3 => zcl τ (fnX12_lays K ζ h τ) fun _ s2 => dz_b (zob ζ s2 h 9) fun f6 => zcl s2 (fnX6_findsBases_9 K ζ h s2) fun x4 s5 => if x4 = (0 : Int32) then (some (0, s5)) else (dz_b (zob ζ s5 h 9) fun f9 => zcl s5 (fnX6_hasPair_9 K ζ h s5) fun x7 s8 => if x7 = (0 : Int32) then ((lfX6_isFound_9 K ζ K) s8) else (dz_b (zob ζ s8 h 9) fun f12 => zcl s8 (fnX6_findsPair_9 K ζ h s8) fun x10 s11 => if x10 = (0 : Int32) then (some (0, s11)) else ((lfX6_isFound_9 K ζ K) s11)))
set_option maxHeartbeats 4000000 in
set_option maxRecDepth 100000 in
theorem wlX6_isFound_9 {p : Program} {l : Launch} {e : Env} {s : State} {m : MethodId} {below : List Frame} {meth : Method} {c : Code} {D : va_G} {cA : Nat → ClassId} {ζ : pZ} (hX : zX D cA ζ s) (K : Nat) (res : (Int32 × pH)) (M S sl0 : Nat) (hM : s.heap.size + M = res.2.1) (hS0 : sl0 + S = res.2.2.1) (h : Nat) (hx : p.tables.exec = Jvm.exec) (hb : c.code = cX6_isFound) (hr : meth.sig.returnType = some .boolean) (hlocks : meth.locks = false) (hml : c.maxLocals = 1) (hown : s.vm.findClass RX6 = some m.cls) (hts : ∀ w ∈ lw_all, w.before ([.ref h] : List Value).toArray s = true) : ∀ k : Nat, (∀  (τ : pH) (H : Heap) (locs : List Loc) (cells slots : Nat), zH D cA ζ τ H → va_S (zA ζ) s.heap H locs → s.heap.size + cells = τ.1 → sl0 + slots = τ.2.1 → cells ≤ M ∧ slots ≤ S → ∀ (ls : Array Slot), lv_has ls 1 [] → (lfX6_isFound_9 K ζ k) τ = some res → W p l e (headSpec (ws_ yX6_isFound cX6_isFound 1 (some .boolean)) ({ frames := 104, cells := M, slots := S, locals := 2387 })).room s m ([.ref h] : List Value).toArray below meth c H locs cells slots (MQ below (zQi D cA ζ res) ([.ref h] : List Value).toArray s M S (zA ζ)) (F0 m 25 ls [])) := by
  intro k
  induction k with
  | zero =>
    exact fun _ _ _ _ _ _ _ _ _ _ _ _ hf => (by cases hf)
  | succ k ih =>
    · intro τ H locs cells slots hH hS hcs hss hcM ls hl hf
      have hf : (some (1, τ) : Option (Int32 × pH)) = some res := hf
      refine lv_iconst (v := 1) hx hb dX6_isFound_25 (by decide) ?_
      refine lv_goto (tgt := 30) hx hb dX6_isFound_26 (by decide) ?_
      obtain ⟨hM1, hS1⟩ : cells = M ∧ slots = S := by have hq := congrArg Prod.snd (Option.some.inj hf); rw [← hq] at hM hS0; have hM : s.heap.size + M = τ.1 := hM; have hS0 : sl0 + S = τ.2.1 := hS0; omega
      refine W.widen (k := M) (n := S) (Nat.le_of_eq hM1) (Nat.le_of_eq hS1) ?_
      exact W.zret (v := 1) hx hb hr rfl (fun t ht hW => ⟨⟨1, τ, rfl, Option.some.inj hf, z_at ht hH⟩, hS.F ht⟩) hS.2.2 dX6_isFound_30
set_option maxHeartbeats 4000000 in
set_option maxRecDepth 100000 in
theorem mtX6_isFound_9 (l : Launch) (D : va_G) (cA : Nat → ClassId) (ζ : pZ) (τ : pH) (h : Nat) (K : Nat) (res : (Int32 × pH)) (hf : fnX6_isFound_9 K ζ h τ = some res) (M S : Nat) (hM : τ.1 + M = res.2.1) (hS0 : τ.2.1 + S = res.2.2.1) : Met l yX6_isFound (ws_ yX6_isFound cX6_isFound 1 (some .boolean)) ({ frames := 104, cells := M, slots := S, locals := 2387 }) (zPc D cA ζ τ [.ref h]) (zQi D cA ζ res) M S (zA ζ) := by
  refine Met.ofW (cc := cX6_isFound) (maxL := 1) (ret := some .boolean) (by decide +kernel) rfl ?_
  intro p e s m args below meth c s₁ B hml hv
  obtain ⟨rfl, hX, hH⟩ := hv
  have hx := B.exec
  have hb := B.bytes
  have hr := B.returns
  have hts := atoms_spec (ws := ws_ yX6_isFound cX6_isFound 1 (some .boolean)) B.pre
  have hts : ∀ w ∈ lw_all, w.before _ s = true := fun w h => hts w (List.mem_cons_of_mem _ h)
  have hown : s.vm.findClass RX6 = some m.cls := findClass_of_methodNamed B.named
  have hlocks := B.notSynchronized
  have hM : s.heap.size + M = res.2.1 := by rw [hH.1]; exact hM
  have hcs : s.heap.size + 0 = τ.1 := hH.1
  have hss : τ.2.1 + 0 = τ.2.1 := rfl
  generalize hsl0 : τ.2.1 = sl0 at hS0 hss
  have hss : sl0 + 0 = τ.2.1 := by rw [hsl0]; rfl
  have hS : va_S (zA ζ) s.heap s.heap [] := va_S.rf
  generalize hHe : s.heap = H at hH hS ⊢
  have hS : va_S (zA ζ) s.heap H [] := by rw [hHe]; exact hS
  generalize ([] : List Loc) = locs at hS ⊢
  have hl := lv_entry ([.ref h]) (n := 1) (Nat.le_of_ble_eq_true rfl)
  rw [lg_entry_eq]
  generalize (lg_sl ([.ref h]) ++ List.replicate (1 - (lg_sl ([.ref h])).length) Slot.unset).toArray = ls at hl ⊢
  have hl : lv_has ls 1 [(0, .ref h)] := hl
  have hf : (dz_b (zob ζ τ h 9) fun f3 => zcl τ (fnX12_lays K ζ h τ) fun _ s2 => dz_b (zob ζ s2 h 9) fun f6 => zcl s2 (fnX6_findsBases_9 K ζ h s2) fun x4 s5 => if x4 = (0 : Int32) then (some (0, s5)) else (dz_b (zob ζ s5 h 9) fun f9 => zcl s5 (fnX6_hasPair_9 K ζ h s5) fun x7 s8 => if x7 = (0 : Int32) then ((lfX6_isFound_9 K ζ K) s8) else (dz_b (zob ζ s8 h 9) fun f12 => zcl s8 (fnX6_findsPair_9 K ζ h s8) fun x10 s11 => if x10 = (0 : Int32) then (some (0, s11)) else ((lfX6_isFound_9 K ζ K) s11))) : Option (Int32 × pH)) = some res := hf
  refine z_gen (fun cells slots hc0 hs0 => ?_)
  have hcs : s.heap.size + cells = τ.1 := by rw [hc0]; exact hcs
  have hss : sl0 + slots = τ.2.1 := by rw [hs0]; exact hss
  have hcM : cells ≤ M ∧ slots ≤ S := by rw [hc0, hs0]; exact ⟨Nat.zero_le _, Nat.zero_le _⟩
  clear hc0 hs0
  have ih := wlX6_isFound_9 (l := l) (e := e) (below := below) (D := D) (cA := cA) hX K res M S sl0 hM hS0 h hx hb hr hlocks hml hown hts K
  refine lv_aload_n hx hb dX6_isFound_0 rfl (lv_at hl 0 rfl) ?_
  obtain ⟨f3, hf3, hf⟩ := dz_bo hf
  obtain ⟨x1, s2, hx1, hle, hck, hf⟩ := zcl_o hf
  have hc1 : cells + (s2.1 - τ.1) ≤ M := by omega
  have hs1 : slots + (s2.2.1 - τ.2.1) ≤ S := by omega
  refine va_callv (va_runU (x := ⟨"PrimeProofs$Line", "lays", "()V"⟩) (owner := "PrimeProofs$Line") (As := []) (rest := []) ⟨hx, hb, hml, hown, hts⟩ (mtX12_lays l D cA ζ τ h K (x1, s2) hx1 (s2.1 - τ.1) (s2.2.1 - τ.2.1) (Nat.add_sub_cancel' hle.1) (Nat.add_sub_cancel' hle.2)) (va_cwA 0 hts (zU_in q666 q668 q669 q670 q102 q671) rfl rfl rfl (hX.N q667 rfl) (by decide +kernel) ⟨Nat.le_of_ble_eq_true rfl, Nat.le_of_ble_eq_true rfl⟩) (z_preV hX hS hH (zob_o hf3) rfl) rfl rfl hl.1 rfl (lv_room (Nat.le_of_ble_eq_true rfl)) dX6_isFound_1 ⟨hc1, hs1⟩) hS (fun q _ hq => hq) (fun q hq => hq) (fun u t H1 locs ht hvm hw hB hz hk hS => ?_)
  obtain ⟨-, hw2⟩ := Prod.mk.inj hw.symm; subst hw2
  have hH : zH D cA ζ s2 H1 := z_at ht.symm hB
  have hcs : s.heap.size + (cells + (s2.1 - τ.1)) = s2.1 := by omega
  have hss : sl0 + (slots + (s2.2.1 - τ.2.1)) = s2.2.1 := by omega
  replace hcM := And.intro hc1 hs1
  generalize cells + (s2.1 - τ.1) = cells at hcs hcM ⊢; generalize slots + (s2.2.1 - τ.2.1) = slots at hss hcM ⊢
  clear hB hk hz hvm ht hle hck hc1 hs1; generalize H1 = H at hH hS ⊢
  refine lv_aload_n hx hb dX6_isFound_4 rfl (lv_at hl 0 rfl) ?_
  obtain ⟨f6, hf6, hf⟩ := dz_bo hf
  obtain ⟨x4, s5, hx4, hle, hck, hf⟩ := zcl_o hf
  have hc1 : cells + (s5.1 - s2.1) ≤ M := by omega
  have hs1 : slots + (s5.2.1 - s2.2.1) ≤ S := by omega
  refine va_calli (va_runU (x := ⟨"PrimeProofs$Line", "findsBases", "()Z"⟩) (owner := "PrimeProofs$Line") (As := []) (rest := []) ⟨hx, hb, hml, hown, hts⟩ (mtX6_findsBases_9 l D cA ζ s2 h K (x4, s5) hx4 (s5.1 - s2.1) (s5.2.1 - s2.2.1) (Nat.add_sub_cancel' hle.1) (Nat.add_sub_cancel' hle.2)) (va_cwU 0 hts (zU_in q733 q735 q736 q734 q96 q757) rfl rfl rfl rfl (by decide +kernel) ⟨Nat.le_of_ble_eq_true rfl, Nat.le_of_ble_eq_true rfl⟩) (z_preV hX hS hH (zob_o hf6) rfl) rfl rfl hl.1 rfl (lv_room (Nat.le_of_ble_eq_true rfl)) dX6_isFound_5 ⟨hc1, hs1⟩) hS (fun q _ hq => hq) (fun q hq => hq) (fun r u t H1 locs ht hvm hw hB hz hk hS => ?_)
  obtain ⟨hw1, hw2⟩ := Prod.mk.inj hw.symm; subst hw1; subst hw2
  have hH : zH D cA ζ s5 H1 := z_at ht.symm hB
  have hcs : s.heap.size + (cells + (s5.1 - s2.1)) = s5.1 := by omega
  have hss : sl0 + (slots + (s5.2.1 - s2.2.1)) = s5.2.1 := by omega
  replace hcM := And.intro hc1 hs1
  generalize cells + (s5.1 - s2.1) = cells at hcs hcM ⊢; generalize slots + (s5.2.1 - s2.2.1) = slots at hss hcM ⊢
  clear hB hk hz hvm ht hle hck hc1 hs1; generalize H1 = H at hH hS ⊢
  refine lv_if_eq (tgt := 29) hx hb dX6_isFound_8 (by decide) (fun c8 => ?_) (fun c8 => ?_)
  · have hf := dz_t c8 hf
    refine lv_iconst (v := 0) hx hb dX6_isFound_29 (by decide) ?_
    obtain ⟨hM1, hS1⟩ : cells = M ∧ slots = S := by have hq := congrArg Prod.snd (Option.some.inj hf); rw [← hq] at hM hS0; have hM : s.heap.size + M = s5.1 := hM; have hS0 : sl0 + S = s5.2.1 := hS0; omega
    refine W.widen (k := M) (n := S) (Nat.le_of_eq hM1) (Nat.le_of_eq hS1) ?_
    exact W.zret (v := 0) hx hb hr rfl (fun t ht hW => ⟨⟨0, s5, rfl, Option.some.inj hf, z_at ht hH⟩, hS.F ht⟩) hS.2.2 dX6_isFound_30
  · have hf := dz_f c8 hf
    refine lv_aload_n hx hb dX6_isFound_11 rfl (lv_at hl 0 rfl) ?_
    obtain ⟨f9, hf9, hf⟩ := dz_bo hf
    obtain ⟨x7, s8, hx7, hle, hck, hf⟩ := zcl_o hf
    have hc1 : cells + (s8.1 - s5.1) ≤ M := by omega
    have hs1 : slots + (s8.2.1 - s5.2.1) ≤ S := by omega
    refine va_calli (va_runU (x := ⟨"PrimeProofs$Line", "hasPair", "()Z"⟩) (owner := "PrimeProofs$Line") (As := []) (rest := []) ⟨hx, hb, hml, hown, hts⟩ (mtX6_hasPair_9 l D cA ζ s5 h K (x7, s8) hx7 (s8.1 - s5.1) (s8.2.1 - s5.2.1) (Nat.add_sub_cancel' hle.1) (Nat.add_sub_cancel' hle.2)) (va_cwU 0 hts (zU_in q442 q444 q445 q443 q96 q450) rfl rfl rfl rfl (by decide +kernel) ⟨Nat.le_of_ble_eq_true rfl, Nat.le_of_ble_eq_true rfl⟩) (z_preV hX hS hH (zob_o hf9) rfl) rfl rfl hl.1 rfl (lv_room (Nat.le_of_ble_eq_true rfl)) dX6_isFound_12 ⟨hc1, hs1⟩) hS (fun q _ hq => hq) (fun q hq => hq) (fun r u t H1 locs ht hvm hw hB hz hk hS => ?_)
    obtain ⟨hw1, hw2⟩ := Prod.mk.inj hw.symm; subst hw1; subst hw2
    have hH : zH D cA ζ s8 H1 := z_at ht.symm hB
    have hcs : s.heap.size + (cells + (s8.1 - s5.1)) = s8.1 := by omega
    have hss : sl0 + (slots + (s8.2.1 - s5.2.1)) = s8.2.1 := by omega
    replace hcM := And.intro hc1 hs1
    generalize cells + (s8.1 - s5.1) = cells at hcs hcM ⊢; generalize slots + (s8.2.1 - s5.2.1) = slots at hss hcM ⊢
    clear hB hk hz hvm ht hle hck hc1 hs1; generalize H1 = H at hH hS ⊢
    refine lv_if_eq (tgt := 25) hx hb dX6_isFound_15 (by decide) (fun c15 => ?_) (fun c15 => ?_)
    · have hf := dz_t c15 hf
      exact ih s8 H locs cells slots hH hS hcs hss hcM ls (lv_sub hl [] rfl) hf
    · have hf := dz_f c15 hf
      refine lv_aload_n hx hb dX6_isFound_18 rfl (lv_at hl 0 rfl) ?_
      obtain ⟨f12, hf12, hf⟩ := dz_bo hf
      obtain ⟨x10, s11, hx10, hle, hck, hf⟩ := zcl_o hf
      have hc1 : cells + (s11.1 - s8.1) ≤ M := by omega
      have hs1 : slots + (s11.2.1 - s8.2.1) ≤ S := by omega
      refine va_calli (va_runU (x := ⟨"PrimeProofs$Line", "findsPair", "()Z"⟩) (owner := "PrimeProofs$Line") (As := []) (rest := []) ⟨hx, hb, hml, hown, hts⟩ (mtX6_findsPair_9 l D cA ζ s8 h K (x10, s11) hx10 (s11.1 - s8.1) (s11.2.1 - s8.2.1) (Nat.add_sub_cancel' hle.1) (Nat.add_sub_cancel' hle.2)) (va_cwU 0 hts (zU_in q767 q769 q770 q768 q96 q775) rfl rfl rfl rfl (by decide +kernel) ⟨Nat.le_of_ble_eq_true rfl, Nat.le_of_ble_eq_true rfl⟩) (z_preV hX hS hH (zob_o hf12) rfl) rfl rfl hl.1 rfl (lv_room (Nat.le_of_ble_eq_true rfl)) dX6_isFound_19 ⟨hc1, hs1⟩) hS (fun q _ hq => hq) (fun q hq => hq) (fun r u t H1 locs ht hvm hw hB hz hk hS => ?_)
      obtain ⟨hw1, hw2⟩ := Prod.mk.inj hw.symm; subst hw1; subst hw2
      have hH : zH D cA ζ s11 H1 := z_at ht.symm hB
      have hcs : s.heap.size + (cells + (s11.1 - s8.1)) = s11.1 := by omega
      have hss : sl0 + (slots + (s11.2.1 - s8.2.1)) = s11.2.1 := by omega
      replace hcM := And.intro hc1 hs1
      generalize cells + (s11.1 - s8.1) = cells at hcs hcM ⊢; generalize slots + (s11.2.1 - s8.2.1) = slots at hss hcM ⊢
      clear hB hk hz hvm ht hle hck hc1 hs1; generalize H1 = H at hH hS ⊢
      refine lv_if_eq (tgt := 29) hx hb dX6_isFound_22 (by decide) (fun c22 => ?_) (fun c22 => ?_)
      · have hf := dz_t c22 hf
        refine lv_iconst (v := 0) hx hb dX6_isFound_29 (by decide) ?_
        obtain ⟨hM1, hS1⟩ : cells = M ∧ slots = S := by have hq := congrArg Prod.snd (Option.some.inj hf); rw [← hq] at hM hS0; have hM : s.heap.size + M = s11.1 := hM; have hS0 : sl0 + S = s11.2.1 := hS0; omega
        refine W.widen (k := M) (n := S) (Nat.le_of_eq hM1) (Nat.le_of_eq hS1) ?_
        exact W.zret (v := 0) hx hb hr rfl (fun t ht hW => ⟨⟨0, s11, rfl, Option.some.inj hf, z_at ht hH⟩, hS.F ht⟩) hS.2.2 dX6_isFound_30
      · have hf := dz_f c22 hf
        exact ih s11 H locs cells slots hH hS hcs hss hcM ls (lv_sub hl [] rfl) hf

noncomputable def fnL_isFound (K : Nat) (ζ : pZ) (h : Nat)  (τ : pH) : Option (Int32 × pH) := dz_b (zoL ζ τ h) fun q => if q.1 = 5 then fnX6_isFound_5 K ζ h  τ else (if q.1 = 6 then fnX6_isFound_6 K ζ h  τ else (if q.1 = 7 then fnX6_isFound_7 K ζ h  τ else (if q.1 = 8 then fnX6_isFound_8 K ζ h  τ else (if q.1 = 9 then fnX6_isFound_9 K ζ h  τ else (none)))))
theorem L_isFound_o {K : Nat} {ζ : pZ} {h : Nat}  {τ : pH} {r : (Int32 × pH)} (hf : fnL_isFound K ζ h  τ = some r) : (∃ fs, zrd ζ τ h = some (.inr (5, fs)) ∧ fnX6_isFound_5 K ζ h  τ = some r) ∨ (∃ fs, zrd ζ τ h = some (.inr (6, fs)) ∧ fnX6_isFound_6 K ζ h  τ = some r) ∨ (∃ fs, zrd ζ τ h = some (.inr (7, fs)) ∧ fnX6_isFound_7 K ζ h  τ = some r) ∨ (∃ fs, zrd ζ τ h = some (.inr (8, fs)) ∧ fnX6_isFound_8 K ζ h  τ = some r) ∨ (∃ fs, zrd ζ τ h = some (.inr (9, fs)) ∧ fnX6_isFound_9 K ζ h  τ = some r) := by
  obtain ⟨⟨ci, fs⟩, hq, hf⟩ := dz_bo hf
  obtain ⟨hr, hc⟩ := zoL_o hq
  rcases z5 hc with rfl | rfl | rfl | rfl | rfl
  · exact Or.inl ⟨fs, hr, hf⟩
  · exact Or.inr (Or.inl ⟨fs, hr, hf⟩)
  · exact Or.inr (Or.inr (Or.inl ⟨fs, hr, hf⟩))
  · exact Or.inr (Or.inr (Or.inr (Or.inl ⟨fs, hr, hf⟩)))
  · exact Or.inr (Or.inr (Or.inr (Or.inr ⟨fs, hr, hf⟩)))

noncomputable def fnX0_mend (K : Nat) (ζ : pZ) (h : Nat) (a0 : Int32) (τ : pH) : Option (Int32 × pH) := dz_b (zob ζ τ h 0) fun f3 => zcl τ (fnX0_isLine K ζ h a0 τ) fun x1 s2 => if x1 = (0 : Int32) then (some ((-1), s2)) else (dz_b (zob ζ s2 h 0) fun f4 => dz_b (zvr (f4[0]?)) fun x5 => dz_b (zob ζ s2 x5 14) fun f8 => zcl s2 (fnJ2_get K ζ x5 a0 s2) fun x6 s7 => dz_c (zoL ζ s7 x6) fun cf9 f9 => dz_c (zoL ζ s7 x6) fun cf10 f10 => dz_b (zvl (f10[0]?)) fun x11 => dz_c (zoL ζ s7 x6) fun cf12 f12 => dz_b (zvi (f12[1]?)) fun x13 => dz_b (zob ζ s7 h 0) fun f16 => zcl s7 (fnX0_made K ζ h x11 x13 s7) fun x14 s15 => dz_c (zoL ζ s15 x14) fun cf17 f17 => dz_b (zvl (f17[0]?)) fun x18 => dz_c (zoL ζ s15 x14) fun cf19 f19 => dz_b (zvi (f19[1]?)) fun x20 => dz_b (fnX0_canBe K x18 x20) fun x21 => if x21 = (0 : Int32) then (some ((-2), s15)) else (zcl s15 (fnL_isFound K ζ x14 s15) fun x22 s23 => if x22 = (0 : Int32) then (some ((-2), s23)) else (dz_b (zob ζ s23 h 0) fun f24 => dz_b (zvr (f24[0]?)) fun x25 => dz_b (zob ζ s23 x25 14) fun f28 => zcl s23 (fnJ2_set K ζ x25 a0 x14 s23) fun x26 s27 => dz_b (zob ζ s27 h 0) fun f31 => zcl s27 (fnX0_changes K ζ h a0 s27) fun _ s30 => dz_b (zob ζ s30 h 0) fun f34 => zcl s30 (fnX0_isRight K ζ h a0 s30) fun x32 s33 => if x32 = (0 : Int32) then (dz_b (zob ζ s33 h 0) fun f35 => dz_b (zvr (f35[1]?)) fun x36 => dz_c (zai ζ s33 x36 3) fun n37 f38 => if ¬ (a0 < 0 ∨ n37 ≤ Int32.toNatClampNeg a0) then (dz_l (f38 (Int32.toNatClampNeg a0)) fun x40 => some (x40, s33)) else none) else (some (0, s33)))))
set_option maxHeartbeats 4000000 in
set_option maxRecDepth 100000 in
theorem mtX0_mend (l : Launch) (D : va_G) (cA : Nat → ClassId) (ζ : pZ) (τ : pH) (h : Nat) (a0 : Int32) (K : Nat) (res : (Int32 × pH)) (hf : fnX0_mend K ζ h a0 τ = some res) (M S : Nat) (hM : τ.1 + M = res.2.1) (hS0 : τ.2.1 + S = res.2.2.1) : Met l yX0_mend (ws_ yX0_mend cX0_mend 4 (some .int)) ({ frames := 105, cells := M, slots := S, locals := 2407 }) (zPc D cA ζ τ [.ref h, .int a0]) (zQi D cA ζ res) M S (zA ζ) := by
  refine Met.ofW (cc := cX0_mend) (maxL := 4) (ret := some .int) (by decide +kernel) rfl ?_
  intro p e s m args below meth c s₁ B hml hv
  obtain ⟨rfl, hX, hH⟩ := hv
  have hx := B.exec
  have hb := B.bytes
  have hr := B.returns
  have hts := atoms_spec (ws := ws_ yX0_mend cX0_mend 4 (some .int)) B.pre
  have hts : ∀ w ∈ lw_all, w.before _ s = true := fun w h => hts w (List.mem_cons_of_mem _ h)
  have hown : s.vm.findClass RX0 = some m.cls := findClass_of_methodNamed B.named
  have hlocks := B.notSynchronized
  have hM : s.heap.size + M = res.2.1 := by rw [hH.1]; exact hM
  have hcs : s.heap.size + 0 = τ.1 := hH.1
  have hss : τ.2.1 + 0 = τ.2.1 := rfl
  generalize hsl0 : τ.2.1 = sl0 at hS0 hss
  have hss : sl0 + 0 = τ.2.1 := by rw [hsl0]; rfl
  have hS : va_S (zA ζ) s.heap s.heap [] := va_S.rf
  generalize hHe : s.heap = H at hH hS ⊢
  have hS : va_S (zA ζ) s.heap H [] := by rw [hHe]; exact hS
  generalize ([] : List Loc) = locs at hS ⊢
  have hl := lv_entry ([.ref h, .int a0]) (n := 4) (Nat.le_of_ble_eq_true rfl)
  rw [lg_entry_eq]
  generalize (lg_sl ([.ref h, .int a0]) ++ List.replicate (4 - (lg_sl ([.ref h, .int a0])).length) Slot.unset).toArray = ls at hl ⊢
  have hl : lv_has ls 4 [(0, .ref h), (1, .int a0)] := hl
  have hf : (dz_b (zob ζ τ h 0) fun f3 => zcl τ (fnX0_isLine K ζ h a0 τ) fun x1 s2 => if x1 = (0 : Int32) then (some ((-1), s2)) else (dz_b (zob ζ s2 h 0) fun f4 => dz_b (zvr (f4[0]?)) fun x5 => dz_b (zob ζ s2 x5 14) fun f8 => zcl s2 (fnJ2_get K ζ x5 a0 s2) fun x6 s7 => dz_c (zoL ζ s7 x6) fun cf9 f9 => dz_c (zoL ζ s7 x6) fun cf10 f10 => dz_b (zvl (f10[0]?)) fun x11 => dz_c (zoL ζ s7 x6) fun cf12 f12 => dz_b (zvi (f12[1]?)) fun x13 => dz_b (zob ζ s7 h 0) fun f16 => zcl s7 (fnX0_made K ζ h x11 x13 s7) fun x14 s15 => dz_c (zoL ζ s15 x14) fun cf17 f17 => dz_b (zvl (f17[0]?)) fun x18 => dz_c (zoL ζ s15 x14) fun cf19 f19 => dz_b (zvi (f19[1]?)) fun x20 => dz_b (fnX0_canBe K x18 x20) fun x21 => if x21 = (0 : Int32) then (some ((-2), s15)) else (zcl s15 (fnL_isFound K ζ x14 s15) fun x22 s23 => if x22 = (0 : Int32) then (some ((-2), s23)) else (dz_b (zob ζ s23 h 0) fun f24 => dz_b (zvr (f24[0]?)) fun x25 => dz_b (zob ζ s23 x25 14) fun f28 => zcl s23 (fnJ2_set K ζ x25 a0 x14 s23) fun x26 s27 => dz_b (zob ζ s27 h 0) fun f31 => zcl s27 (fnX0_changes K ζ h a0 s27) fun _ s30 => dz_b (zob ζ s30 h 0) fun f34 => zcl s30 (fnX0_isRight K ζ h a0 s30) fun x32 s33 => if x32 = (0 : Int32) then (dz_b (zob ζ s33 h 0) fun f35 => dz_b (zvr (f35[1]?)) fun x36 => dz_c (zai ζ s33 x36 3) fun n37 f38 => if ¬ (a0 < 0 ∨ n37 ≤ Int32.toNatClampNeg a0) then (dz_l (f38 (Int32.toNatClampNeg a0)) fun x40 => some (x40, s33)) else none) else (some (0, s33))))) : Option (Int32 × pH)) = some res := hf
  refine z_gen (fun cells slots hc0 hs0 => ?_)
  have hcs : s.heap.size + cells = τ.1 := by rw [hc0]; exact hcs
  have hss : sl0 + slots = τ.2.1 := by rw [hs0]; exact hss
  have hcM : cells ≤ M ∧ slots ≤ S := by rw [hc0, hs0]; exact ⟨Nat.zero_le _, Nat.zero_le _⟩
  clear hc0 hs0
  refine lv_aload_n hx hb dX0_mend_0 rfl (lv_at hl 0 rfl) ?_
  refine lv_iload_n hx hb dX0_mend_1 rfl (lv_at hl 1 rfl) ?_
  obtain ⟨f3, hf3, hf⟩ := dz_bo hf
  obtain ⟨x1, s2, hx1, hle, hck, hf⟩ := zcl_o hf
  have hc1 : cells + (s2.1 - τ.1) ≤ M := by omega
  have hs1 : slots + (s2.2.1 - τ.2.1) ≤ S := by omega
  refine va_calli (va_runV (As := [.int a0]) (rest := []) ⟨hx, hb, hml, hown, hts⟩ (mtX0_isLine l D cA ζ τ h a0 K (x1, s2) hx1 (s2.1 - τ.1) (s2.2.1 - τ.2.1) (Nat.add_sub_cancel' hle.1) (Nat.add_sub_cancel' hle.2)) (cwV 1 hts (lw_V q1349 q1351 qs28 q84 q1352) rfl rfl rfl (by decide +kernel) ⟨Nat.le_of_ble_eq_true rfl, Nat.le_of_ble_eq_true rfl⟩) (z_preV hX hS hH (zob_o hf3) rfl) rfl rfl hl.1 rfl (lv_room (Nat.le_of_ble_eq_true rfl)) dX0_mend_2 ⟨hc1, hs1⟩) hS (fun q _ hq => hq) (fun q hq => hq) (fun r u t H1 locs ht hvm hw hB hz hk hS => ?_)
  obtain ⟨hw1, hw2⟩ := Prod.mk.inj hw.symm; subst hw1; subst hw2
  have hH : zH D cA ζ s2 H1 := z_at ht.symm hB
  have hcs : s.heap.size + (cells + (s2.1 - τ.1)) = s2.1 := by omega
  have hss : sl0 + (slots + (s2.2.1 - τ.2.1)) = s2.2.1 := by omega
  replace hcM := And.intro hc1 hs1
  generalize cells + (s2.1 - τ.1) = cells at hcs hcM ⊢; generalize slots + (s2.2.1 - τ.2.1) = slots at hss hcM ⊢
  clear hB hk hz hvm ht hle hck hc1 hs1; generalize H1 = H at hH hS ⊢
  refine lv_if_ne (tgt := 10) hx hb dX0_mend_5 (by decide) (fun c5 => ?_) (fun c5 => ?_)
  · have hf := dz_f c5 hf
    refine lv_aload_n hx hb dX0_mend_10 rfl (lv_at hl 0 rfl) ?_
    obtain ⟨f4, hf4, hf⟩ := dz_bo hf
    obtain ⟨x5, hx5, hf⟩ := dz_bo hf
    refine va_get (C := RX0) (T := TX0) (N := 7) hx hb hts in_X0 hown hX.K (zrd_P hX hS hH (zob_o hf4)) 0 rfl rfl 0 (by decide) (hts _ q156) (fun _ hq => hq) (zvr_o hx5) dX0_mend_11 ?_
    refine lv_iload_n hx hb dX0_mend_14 rfl (lv_at hl 1 rfl) ?_
    obtain ⟨f8, hf8, hf⟩ := dz_bo hf
    obtain ⟨x6, s7, hx6, hle, hck, hf⟩ := zcl_o hf
    have hc1 : cells + (s7.1 - s2.1) ≤ M := by omega
    have hs1 : slots + (s7.2.1 - s2.2.1) ≤ S := by omega
    refine va_callr (va_runV (As := [.int a0]) (rest := []) ⟨hx, hb, hml, hown, hts⟩ (mtJ2_get l D cA ζ s2 x5 a0 K (x6, s7) hx6 (s7.1 - s2.1) (s7.2.1 - s2.2.1) (Nat.add_sub_cancel' hle.1) (Nat.add_sub_cancel' hle.2)) (cwV 1 hts (lw_V q204 q205 q206 q87 q207) rfl rfl rfl (by decide +kernel) ⟨Nat.le_of_ble_eq_true rfl, Nat.le_of_ble_eq_true rfl⟩) (z_preV hX hS hH (zob_o hf8) rfl) rfl rfl hl.1 rfl (lv_room (Nat.le_of_ble_eq_true rfl)) dX0_mend_15 ⟨hc1, hs1⟩) hS (fun q _ hq => hq) (fun q hq => hq) (fun u r t H1 locs ht hvm hw hB hz hk hS => ?_)
    obtain ⟨hw, hB⟩ := hB
    obtain ⟨hw1, hw2⟩ := Prod.mk.inj hw.symm; subst hw1; subst hw2
    have hH : zH D cA ζ s7 H1 := z_at ht.symm hB
    have hcs : s.heap.size + (cells + (s7.1 - s2.1)) = s7.1 := by omega
    have hss : sl0 + (slots + (s7.2.1 - s2.2.1)) = s7.2.1 := by omega
    replace hcM := And.intro hc1 hs1
    generalize cells + (s7.1 - s2.1) = cells at hcs hcM ⊢; generalize slots + (s7.2.1 - s2.2.1) = slots at hss hcM ⊢
    clear hB hk hz hvm ht hle hck hc1 hs1; generalize H1 = H at hH hS ⊢
    obtain ⟨cf9, f9, hcf9, hf⟩ := dz_co hf
    obtain ⟨hr_f9, hc_f9⟩ := zoL_o hcf9
    refine zL_cast hx hb hown (hts _ q218) hX hS hH hr_f9 hc_f9 dX0_mend_18 ?_
    refine lv_astore_n (lv' := [(2, .ref x6), (0, .ref h), (1, .int a0)]) hx hb dX0_mend_21 rfl hl (by decide) rfl (fun ls hl => ?_)
    refine lv_aload_n hx hb dX0_mend_22 rfl (lv_at hl 1 rfl) ?_
    refine lv_aload_n hx hb dX0_mend_23 rfl (lv_at hl 0 rfl) ?_
    obtain ⟨cf10, f10, hcf10, hf⟩ := dz_co hf
    obtain ⟨x11, hx11, hf⟩ := dz_bo hf
    obtain ⟨hr_f10, hc_f10⟩ := zoL_o hcf10
    refine zL_get0 hx hb hts hown hX hS hH hr_f10 hc_f10 (hts _ q541) (zvl_o hx11) dX0_mend_24 ?_
    refine lv_aload_n hx hb dX0_mend_27 rfl (lv_at hl 0 rfl) ?_
    obtain ⟨cf12, f12, hcf12, hf⟩ := dz_co hf
    obtain ⟨x13, hx13, hf⟩ := dz_bo hf
    obtain ⟨hr_f12, hc_f12⟩ := zoL_o hcf12
    refine zL_get1 hx hb hts hown hX hS hH hr_f12 hc_f12 (hts _ q543) (zvi_o hx13) dX0_mend_28 ?_
    obtain ⟨f16, hf16, hf⟩ := dz_bo hf
    obtain ⟨x14, s15, hx14, hle, hck, hf⟩ := zcl_o hf
    have hc1 : cells + (s15.1 - s7.1) ≤ M := by omega
    have hs1 : slots + (s15.2.1 - s7.2.1) ≤ S := by omega
    refine va_callr (va_runV (As := [.long x11, .int x13]) (rest := []) ⟨hx, hb, hml, hown, hts⟩ (mtX0_made l D cA ζ s7 h x11 x13 K (x14, s15) hx14 (s15.1 - s7.1) (s15.2.1 - s7.2.1) (Nat.add_sub_cancel' hle.1) (Nat.add_sub_cancel' hle.2)) (cwV 2 hts (lw_V q495 q497 qs4 q84 q498) rfl rfl rfl (by decide +kernel) ⟨Nat.le_of_ble_eq_true rfl, Nat.le_of_ble_eq_true rfl⟩) (z_preV hX hS hH (zob_o hf16) rfl) rfl rfl hl.1 rfl (lv_room (Nat.le_of_ble_eq_true rfl)) dX0_mend_31 ⟨hc1, hs1⟩) hS (fun q _ hq => hq) (fun q hq => hq) (fun u r t H1 locs ht hvm hw hB hz hk hS => ?_)
    obtain ⟨hw, hB⟩ := hB
    obtain ⟨hw1, hw2⟩ := Prod.mk.inj hw.symm; subst hw1; subst hw2
    have hH : zH D cA ζ s15 H1 := z_at ht.symm hB
    have hcs : s.heap.size + (cells + (s15.1 - s7.1)) = s15.1 := by omega
    have hss : sl0 + (slots + (s15.2.1 - s7.2.1)) = s15.2.1 := by omega
    replace hcM := And.intro hc1 hs1
    generalize cells + (s15.1 - s7.1) = cells at hcs hcM ⊢; generalize slots + (s15.2.1 - s7.2.1) = slots at hss hcM ⊢
    clear hB hk hz hvm ht hle hck hc1 hs1; generalize H1 = H at hH hS ⊢
    refine lv_astore_n (lv' := [(3, .ref x14), (2, .ref x6), (0, .ref h), (1, .int a0)]) hx hb dX0_mend_34 rfl hl (by decide) rfl (fun ls hl => ?_)
    refine lv_aload_n hx hb dX0_mend_35 rfl (lv_at hl 0 rfl) ?_
    obtain ⟨cf17, f17, hcf17, hf⟩ := dz_co hf
    obtain ⟨x18, hx18, hf⟩ := dz_bo hf
    obtain ⟨hr_f17, hc_f17⟩ := zoL_o hcf17
    refine zL_get0 hx hb hts hown hX hS hH hr_f17 hc_f17 (hts _ q541) (zvl_o hx18) dX0_mend_36 ?_
    refine lv_aload_n hx hb dX0_mend_39 rfl (lv_at hl 0 rfl) ?_
    obtain ⟨cf19, f19, hcf19, hf⟩ := dz_co hf
    obtain ⟨x20, hx20, hf⟩ := dz_bo hf
    obtain ⟨hr_f19, hc_f19⟩ := zoL_o hcf19
    refine zL_get1 hx hb hts hown hX hS hH hr_f19 hc_f19 (hts _ q543) (zvi_o hx20) dX0_mend_40 ?_
    obtain ⟨x21, hx21, hf⟩ := dz_bo hf
    refine va_calli (va_runS (As := [.long x18, .int x20]) (rest := []) ⟨hx, hb, hml, hown, hts⟩ (mtX0_canBe l x18 x20 K x21 hx21) (va_cwS 2 hts (lw_S q652 q653 q84 q654) rfl rfl rfl (by decide +kernel) ⟨Nat.le_of_ble_eq_true rfl, Nat.le_of_ble_eq_true rfl⟩) ⟨fun a U g mk q => q, fun U hU hW => ⟨rfl, trivial⟩⟩ rfl rfl hl.1 rfl (lv_room (Nat.le_of_ble_eq_true rfl)) dX0_mend_43 ⟨hcM.1, hcM.2⟩) hS (fun q _ hq => hq.elim) (fun q hq => hq.elim) (fun r u t H1 locs ht hvm hw hB hz hk hS => dz_size (fun hz9 => ?_))
    replace hw := hw.symm; subst hw
    replace hH := zH_keep hH hcs hz hk hz9
    clear hB hk hz hvm ht hz9; generalize H1 = H at hH hS ⊢
    refine W.widen (k := cells) (n := slots) (Nat.le_refl _) (Nat.le_refl _) ?_
    refine lv_if_eq (tgt := 56) hx hb dX0_mend_46 (by decide) (fun c46 => ?_) (fun c46 => ?_)
    · have hf := dz_t c46 hf
      refine lv_bipush (v := (-2)) hx hb dX0_mend_56 (by decide) ?_
      obtain ⟨hM1, hS1⟩ : cells = M ∧ slots = S := by have hq := congrArg Prod.snd (Option.some.inj hf); rw [← hq] at hM hS0; have hM : s.heap.size + M = s15.1 := hM; have hS0 : sl0 + S = s15.2.1 := hS0; omega
      refine W.widen (k := M) (n := S) (Nat.le_of_eq hM1) (Nat.le_of_eq hS1) ?_
      exact W.iret (v := (-2)) hx hb hr (fun t ht hW => ⟨⟨(-2), s15, rfl, Option.some.inj hf, z_at ht hH⟩, hS.F ht⟩) hS.2.2 dX0_mend_58
    · have hf := dz_f c46 hf
      refine lv_aload_n hx hb dX0_mend_49 rfl (lv_at hl 0 rfl) ?_
      obtain ⟨x22, s23, hx22, hle, hck, hf⟩ := zcl_o hf
      have hc1 : cells + (s23.1 - s15.1) ≤ M := by omega
      have hs1 : slots + (s23.2.1 - s15.2.1) ≤ S := by omega
      refine va_calli (post := fun (r : Int32) (u : pH) => (r, u) = (x22, s23)) (B := fun u t => zH D cA ζ u t.heap) (A1 := zA ζ) (a := (Value.ref x14 :: [] : List Value).toArray) (mc := s23.1 - s15.1) (ms := s23.2.1 - s15.2.1) (rest := []) (free := zA ζ) ?_ hS (fun q _ hq => hq) (fun q hq => hq) (fun r u t H1 locs ht hvm hw hB hz hk hS => ?_)
      · rcases L_isFound_o hx22 with ⟨fs_, hr_, hg_⟩ | ⟨fs_, hr_, hg_⟩ | ⟨fs_, hr_, hg_⟩ | ⟨fs_, hr_, hg_⟩ | ⟨fs_, hr_, hg_⟩
        · exact va_runU (x := ⟨"PrimeProofs$Line", "isFound", "()Z"⟩) (owner := "PrimeProofs$Line") (As := []) (rest := []) ⟨hx, hb, hml, hown, hts⟩ (mtX6_isFound_5 l D cA ζ s15 x14 K (x22, s23) hg_ (s23.1 - s15.1) (s23.2.1 - s15.2.1) (Nat.add_sub_cancel' hle.1) (Nat.add_sub_cancel' hle.2)) (va_cwU 0 hts (zU_in q657 q659 q664 q658 q96 q665) rfl rfl rfl rfl (by decide +kernel) ⟨Nat.le_of_ble_eq_true rfl, Nat.le_of_ble_eq_true rfl⟩) (z_preV hX hS hH hr_ rfl) rfl rfl hl.1 rfl (lv_room (Nat.le_of_ble_eq_true rfl)) dX0_mend_50 ⟨hc1, hs1⟩
        · exact va_runU (x := ⟨"PrimeProofs$Line", "isFound", "()Z"⟩) (owner := "PrimeProofs$Line") (As := []) (rest := []) ⟨hx, hb, hml, hown, hts⟩ (mtX6_isFound_6 l D cA ζ s15 x14 K (x22, s23) hg_ (s23.1 - s15.1) (s23.2.1 - s15.2.1) (Nat.add_sub_cancel' hle.1) (Nat.add_sub_cancel' hle.2)) (va_cwU 0 hts (zU_in q657 q659 q663 q658 q96 q665) rfl rfl rfl rfl (by decide +kernel) ⟨Nat.le_of_ble_eq_true rfl, Nat.le_of_ble_eq_true rfl⟩) (z_preV hX hS hH hr_ rfl) rfl rfl hl.1 rfl (lv_room (Nat.le_of_ble_eq_true rfl)) dX0_mend_50 ⟨hc1, hs1⟩
        · exact va_runU (x := ⟨"PrimeProofs$Line", "isFound", "()Z"⟩) (owner := "PrimeProofs$Line") (As := []) (rest := []) ⟨hx, hb, hml, hown, hts⟩ (mtX6_isFound_7 l D cA ζ s15 x14 K (x22, s23) hg_ (s23.1 - s15.1) (s23.2.1 - s15.2.1) (Nat.add_sub_cancel' hle.1) (Nat.add_sub_cancel' hle.2)) (va_cwU 0 hts (zU_in q657 q659 q662 q658 q96 q665) rfl rfl rfl rfl (by decide +kernel) ⟨Nat.le_of_ble_eq_true rfl, Nat.le_of_ble_eq_true rfl⟩) (z_preV hX hS hH hr_ rfl) rfl rfl hl.1 rfl (lv_room (Nat.le_of_ble_eq_true rfl)) dX0_mend_50 ⟨hc1, hs1⟩
        · exact va_runU (x := ⟨"PrimeProofs$Line", "isFound", "()Z"⟩) (owner := "PrimeProofs$Line") (As := []) (rest := []) ⟨hx, hb, hml, hown, hts⟩ (mtX6_isFound_8 l D cA ζ s15 x14 K (x22, s23) hg_ (s23.1 - s15.1) (s23.2.1 - s15.2.1) (Nat.add_sub_cancel' hle.1) (Nat.add_sub_cancel' hle.2)) (va_cwU 0 hts (zU_in q657 q659 q661 q658 q96 q665) rfl rfl rfl rfl (by decide +kernel) ⟨Nat.le_of_ble_eq_true rfl, Nat.le_of_ble_eq_true rfl⟩) (z_preV hX hS hH hr_ rfl) rfl rfl hl.1 rfl (lv_room (Nat.le_of_ble_eq_true rfl)) dX0_mend_50 ⟨hc1, hs1⟩
        · exact va_runU (x := ⟨"PrimeProofs$Line", "isFound", "()Z"⟩) (owner := "PrimeProofs$Line") (As := []) (rest := []) ⟨hx, hb, hml, hown, hts⟩ (mtX6_isFound_9 l D cA ζ s15 x14 K (x22, s23) hg_ (s23.1 - s15.1) (s23.2.1 - s15.2.1) (Nat.add_sub_cancel' hle.1) (Nat.add_sub_cancel' hle.2)) (va_cwU 0 hts (zU_in q657 q659 q660 q658 q96 q665) rfl rfl rfl rfl (by decide +kernel) ⟨Nat.le_of_ble_eq_true rfl, Nat.le_of_ble_eq_true rfl⟩) (z_preV hX hS hH hr_ rfl) rfl rfl hl.1 rfl (lv_room (Nat.le_of_ble_eq_true rfl)) dX0_mend_50 ⟨hc1, hs1⟩
      obtain ⟨hw1, hw2⟩ := Prod.mk.inj hw.symm; subst hw1; subst hw2
      have hH : zH D cA ζ s23 H1 := z_at ht.symm hB
      have hcs : s.heap.size + (cells + (s23.1 - s15.1)) = s23.1 := by omega
      have hss : sl0 + (slots + (s23.2.1 - s15.2.1)) = s23.2.1 := by omega
      replace hcM := And.intro hc1 hs1
      generalize cells + (s23.1 - s15.1) = cells at hcs hcM ⊢; generalize slots + (s23.2.1 - s15.2.1) = slots at hss hcM ⊢
      clear hB hk hz hvm ht hle hck hc1 hs1; generalize H1 = H at hH hS ⊢
      refine lv_if_ne (tgt := 59) hx hb dX0_mend_53 (by decide) (fun c53 => ?_) (fun c53 => ?_)
      · have hf := dz_f c53 hf
        refine lv_aload_n hx hb dX0_mend_59 rfl (lv_at hl 2 rfl) ?_
        obtain ⟨f24, hf24, hf⟩ := dz_bo hf
        obtain ⟨x25, hx25, hf⟩ := dz_bo hf
        refine va_get (C := RX0) (T := TX0) (N := 7) hx hb hts in_X0 hown hX.K (zrd_P hX hS hH (zob_o hf24)) 0 rfl rfl 0 (by decide) (hts _ q156) (fun _ hq => hq) (zvr_o hx25) dX0_mend_60 ?_
        refine lv_iload_n hx hb dX0_mend_63 rfl (lv_at hl 3 rfl) ?_
        refine lv_aload_n hx hb dX0_mend_64 rfl (lv_at hl 0 rfl) ?_
        obtain ⟨f28, hf28, hf⟩ := dz_bo hf
        obtain ⟨x26, s27, hx26, hle, hck, hf⟩ := zcl_o hf
        have hc1 : cells + (s27.1 - s23.1) ≤ M := by omega
        have hs1 : slots + (s27.2.1 - s23.2.1) ≤ S := by omega
        refine va_callr (va_runV (As := [.int a0, .ref x14]) (rest := []) ⟨hx, hb, hml, hown, hts⟩ (mtJ2_set l D cA ζ s23 x25 a0 x14 K (x26, s27) hx26 (s27.1 - s23.1) (s27.2.1 - s23.2.1) (Nat.add_sub_cancel' hle.1) (Nat.add_sub_cancel' hle.2)) (cwV 2 hts (lw_V q1389 q1390 q1391 q87 q1392) rfl rfl rfl (by decide +kernel) ⟨Nat.le_of_ble_eq_true rfl, Nat.le_of_ble_eq_true rfl⟩) (z_preV hX hS hH (zob_o hf28) rfl) rfl rfl hl.1 rfl (lv_room (Nat.le_of_ble_eq_true rfl)) dX0_mend_65 ⟨hc1, hs1⟩) hS (fun q _ hq => hq) (fun q hq => hq) (fun u r t H1 locs ht hvm hw hB hz hk hS => ?_)
        obtain ⟨hw, hB⟩ := hB
        obtain ⟨hw1, hw2⟩ := Prod.mk.inj hw.symm; subst hw1; subst hw2
        have hH : zH D cA ζ s27 H1 := z_at ht.symm hB
        have hcs : s.heap.size + (cells + (s27.1 - s23.1)) = s27.1 := by omega
        have hss : sl0 + (slots + (s27.2.1 - s23.2.1)) = s27.2.1 := by omega
        replace hcM := And.intro hc1 hs1
        generalize cells + (s27.1 - s23.1) = cells at hcs hcM ⊢; generalize slots + (s27.2.1 - s23.2.1) = slots at hss hcM ⊢
        clear hB hk hz hvm ht hle hck hc1 hs1; generalize H1 = H at hH hS ⊢
        refine lv_pop hx hb dX0_mend_68 rfl ?_
        refine lv_aload_n hx hb dX0_mend_69 rfl (lv_at hl 2 rfl) ?_
        refine lv_iload_n hx hb dX0_mend_70 rfl (lv_at hl 3 rfl) ?_
        obtain ⟨f31, hf31, hf⟩ := dz_bo hf
        obtain ⟨x29, s30, hx29, hle, hck, hf⟩ := zcl_o hf
        have hc1 : cells + (s30.1 - s27.1) ≤ M := by omega
        have hs1 : slots + (s30.2.1 - s27.2.1) ≤ S := by omega
        refine va_callv (va_runV (As := [.int a0]) (rest := []) ⟨hx, hb, hml, hown, hts⟩ (mtX0_changes l D cA ζ s27 h a0 K (x29, s30) hx29 (s30.1 - s27.1) (s30.2.1 - s27.2.1) (Nat.add_sub_cancel' hle.1) (Nat.add_sub_cancel' hle.2)) (cwV 1 hts (lw_V q872 q874 qs13 q84 q875) rfl rfl rfl (by decide +kernel) ⟨Nat.le_of_ble_eq_true rfl, Nat.le_of_ble_eq_true rfl⟩) (z_preV hX hS hH (zob_o hf31) rfl) rfl rfl hl.1 rfl (lv_room (Nat.le_of_ble_eq_true rfl)) dX0_mend_71 ⟨hc1, hs1⟩) hS (fun q _ hq => hq) (fun q hq => hq) (fun u t H1 locs ht hvm hw hB hz hk hS => ?_)
        obtain ⟨-, hw2⟩ := Prod.mk.inj hw.symm; subst hw2
        have hH : zH D cA ζ s30 H1 := z_at ht.symm hB
        have hcs : s.heap.size + (cells + (s30.1 - s27.1)) = s30.1 := by omega
        have hss : sl0 + (slots + (s30.2.1 - s27.2.1)) = s30.2.1 := by omega
        replace hcM := And.intro hc1 hs1
        generalize cells + (s30.1 - s27.1) = cells at hcs hcM ⊢; generalize slots + (s30.2.1 - s27.2.1) = slots at hss hcM ⊢
        clear hB hk hz hvm ht hle hck hc1 hs1; generalize H1 = H at hH hS ⊢
        refine lv_aload_n hx hb dX0_mend_74 rfl (lv_at hl 2 rfl) ?_
        refine lv_iload_n hx hb dX0_mend_75 rfl (lv_at hl 3 rfl) ?_
        obtain ⟨f34, hf34, hf⟩ := dz_bo hf
        obtain ⟨x32, s33, hx32, hle, hck, hf⟩ := zcl_o hf
        have hc1 : cells + (s33.1 - s30.1) ≤ M := by omega
        have hs1 : slots + (s33.2.1 - s30.2.1) ≤ S := by omega
        refine va_calli (va_runV (As := [.int a0]) (rest := []) ⟨hx, hb, hml, hown, hts⟩ (mtX0_isRight l D cA ζ s30 h a0 K (x32, s33) hx32 (s33.1 - s30.1) (s33.2.1 - s30.2.1) (Nat.add_sub_cancel' hle.1) (Nat.add_sub_cancel' hle.2)) (cwV 1 hts (lw_V q219 q221 qs1 q84 q222) rfl rfl rfl (by decide +kernel) ⟨Nat.le_of_ble_eq_true rfl, Nat.le_of_ble_eq_true rfl⟩) (z_preV hX hS hH (zob_o hf34) rfl) rfl rfl hl.1 rfl (lv_room (Nat.le_of_ble_eq_true rfl)) dX0_mend_76 ⟨hc1, hs1⟩) hS (fun q _ hq => hq) (fun q hq => hq) (fun r u t H1 locs ht hvm hw hB hz hk hS => ?_)
        obtain ⟨hw1, hw2⟩ := Prod.mk.inj hw.symm; subst hw1; subst hw2
        have hH : zH D cA ζ s33 H1 := z_at ht.symm hB
        have hcs : s.heap.size + (cells + (s33.1 - s30.1)) = s33.1 := by omega
        have hss : sl0 + (slots + (s33.2.1 - s30.2.1)) = s33.2.1 := by omega
        replace hcM := And.intro hc1 hs1
        generalize cells + (s33.1 - s30.1) = cells at hcs hcM ⊢; generalize slots + (s33.2.1 - s30.2.1) = slots at hss hcM ⊢
        clear hB hk hz hvm ht hle hck hc1 hs1; generalize H1 = H at hH hS ⊢
        refine lv_if_eq (tgt := 86) hx hb dX0_mend_79 (by decide) (fun c79 => ?_) (fun c79 => ?_)
        · have hf := dz_t c79 hf
          refine lv_aload_n hx hb dX0_mend_86 rfl (lv_at hl 2 rfl) ?_
          obtain ⟨f35, hf35, hf⟩ := dz_bo hf
          obtain ⟨x36, hx36, hf⟩ := dz_bo hf
          refine va_get (C := RX0) (T := TX0) (N := 7) hx hb hts in_X0 hown hX.K (zrd_P hX hS hH (zob_o hf35)) 0 rfl rfl 1 (by decide) (hts _ q157) (fun _ hq => hq) (zvr_o hx36) dX0_mend_87 ?_
          refine lv_iload_n hx hb dX0_mend_90 rfl (lv_at hl 3 rfl) ?_
          obtain ⟨n37, f38, hn37, hf⟩ := dz_co hf
          obtain ⟨g39, hf⟩ := dz_go hf
          refine va_bald hx hb hX.K (zrd_P hX hS hH (zai_o hn37)) 0 3 rfl rfl g39 dX0_mend_91 ?_
          refine lv_topi (fun x40 e_x40 => ?_)
          have hf := dz_ls e_x40 hf
          obtain ⟨hM1, hS1⟩ : cells = M ∧ slots = S := by have hq := congrArg Prod.snd (Option.some.inj hf); rw [← hq] at hM hS0; have hM : s.heap.size + M = s33.1 := hM; have hS0 : sl0 + S = s33.2.1 := hS0; omega
          refine W.widen (k := M) (n := S) (Nat.le_of_eq hM1) (Nat.le_of_eq hS1) ?_
          exact W.iret (v := x40) hx hb hr (fun t ht hW => ⟨⟨x40, s33, rfl, Option.some.inj hf, z_at ht hH⟩, hS.F ht⟩) hS.2.2 dX0_mend_92
        · have hf := dz_f c79 hf
          refine lv_iconst (v := 0) hx hb dX0_mend_82 (by decide) ?_
          refine lv_goto (tgt := 92) hx hb dX0_mend_83 (by decide) ?_
          obtain ⟨hM1, hS1⟩ : cells = M ∧ slots = S := by have hq := congrArg Prod.snd (Option.some.inj hf); rw [← hq] at hM hS0; have hM : s.heap.size + M = s33.1 := hM; have hS0 : sl0 + S = s33.2.1 := hS0; omega
          refine W.widen (k := M) (n := S) (Nat.le_of_eq hM1) (Nat.le_of_eq hS1) ?_
          exact W.iret (v := 0) hx hb hr (fun t ht hW => ⟨⟨0, s33, rfl, Option.some.inj hf, z_at ht hH⟩, hS.F ht⟩) hS.2.2 dX0_mend_92
      · have hf := dz_t c53 hf
        refine lv_bipush (v := (-2)) hx hb dX0_mend_56 (by decide) ?_
        obtain ⟨hM1, hS1⟩ : cells = M ∧ slots = S := by have hq := congrArg Prod.snd (Option.some.inj hf); rw [← hq] at hM hS0; have hM : s.heap.size + M = s23.1 := hM; have hS0 : sl0 + S = s23.2.1 := hS0; omega
        refine W.widen (k := M) (n := S) (Nat.le_of_eq hM1) (Nat.le_of_eq hS1) ?_
        exact W.iret (v := (-2)) hx hb hr (fun t ht hW => ⟨⟨(-2), s23, rfl, Option.some.inj hf, z_at ht hH⟩, hS.F ht⟩) hS.2.2 dX0_mend_58
  · have hf := dz_t c5 hf
    refine lv_iconst (v := (-1)) hx hb dX0_mend_8 (by decide) ?_
    obtain ⟨hM1, hS1⟩ : cells = M ∧ slots = S := by have hq := congrArg Prod.snd (Option.some.inj hf); rw [← hq] at hM hS0; have hM : s.heap.size + M = s2.1 := hM; have hS0 : sl0 + S = s2.2.1 := hS0; omega
    refine W.widen (k := M) (n := S) (Nat.le_of_eq hM1) (Nat.le_of_eq hS1) ?_
    exact W.iret (v := (-1)) hx hb hr (fun t ht hW => ⟨⟨(-1), s2, rfl, Option.some.inj hf, z_at ht hH⟩, hS.F ht⟩) hS.2.2 dX0_mend_9

noncomputable def fnJ15_init (K : Nat) (ζ : pZ) (h : Nat) (a0 : Nat) (τ : pH) : Option (Unit × pH) := dz_b (zwo ζ τ h 15 3) fun f1 => dz_l (zst τ h (.inr (15, f1.set 3 (.ref a0)))) fun s2 => dz_b (zwo ζ s2 h 15 1) fun f3 => dz_l (zst s2 h (.inr (15, f3.set 1 (.int (-1))))) fun s4 => dz_b (zob ζ s4 h 15) fun f5 => dz_b (zvr (f5[3]?)) fun x6 => dz_b (zob ζ s4 x6 14) fun f7 => dz_b (zvi (f7[0]?)) fun x8 => dz_b (zwo ζ s4 h 15 2) fun f9 => dz_l (zst s4 h (.inr (15, f9.set 2 (.int x8)))) fun s10 => some ((), s10)
set_option maxHeartbeats 4000000 in
set_option maxRecDepth 100000 in
theorem mtJ15_init (l : Launch) (D : va_G) (cA : Nat → ClassId) (ζ : pZ) (τ : pH) (h : Nat) (a0 : Nat) (K : Nat) (res : (Unit × pH)) (hf : fnJ15_init K ζ h a0 τ = some res) (M S : Nat) (hM : τ.1 + M = res.2.1) (hS0 : τ.2.1 + S = res.2.2.1) : Met l yJ15_init (ws_ yJ15_init cJ15_init 2 (none)) ({ frames := 1, cells := M, slots := S, locals := 20 }) (zPc D cA ζ τ [.ref h, .ref a0]) (zQv D cA ζ res) M S (zA ζ) := by
  refine Met.ofW (cc := cJ15_init) (maxL := 2) (ret := none) (by decide +kernel) rfl ?_
  intro p e s m args below meth c s₁ B hml hv
  obtain ⟨rfl, hX, hH⟩ := hv
  have hx := B.exec
  have hb := B.bytes
  have hr := B.returns
  have hts := atoms_spec (ws := ws_ yJ15_init cJ15_init 2 (none)) B.pre
  have hts : ∀ w ∈ lw_all, w.before _ s = true := fun w h => hts w (List.mem_cons_of_mem _ h)
  have hown : s.vm.findClass RJ15 = some m.cls := findClass_of_methodNamed B.named
  have hlocks := B.notSynchronized
  have hin : meth.name = "<init>" := (name_of_methodNamed B.named B.method).1
  have hM : s.heap.size + M = res.2.1 := by rw [hH.1]; exact hM
  have hcs : s.heap.size + 0 = τ.1 := hH.1
  have hss : τ.2.1 + 0 = τ.2.1 := rfl
  generalize hsl0 : τ.2.1 = sl0 at hS0 hss
  have hss : sl0 + 0 = τ.2.1 := by rw [hsl0]; rfl
  have hS : va_S (zA ζ) s.heap s.heap [] := va_S.rf
  generalize hHe : s.heap = H at hH hS ⊢
  have hS : va_S (zA ζ) s.heap H [] := by rw [hHe]; exact hS
  generalize ([] : List Loc) = locs at hS ⊢
  have hl := lv_entry ([.ref h, .ref a0]) (n := 2) (Nat.le_of_ble_eq_true rfl)
  rw [lg_entry_eq]
  generalize (lg_sl ([.ref h, .ref a0]) ++ List.replicate (2 - (lg_sl ([.ref h, .ref a0])).length) Slot.unset).toArray = ls at hl ⊢
  have hl : lv_has ls 2 [(0, .ref h), (1, .ref a0)] := hl
  have hf : (dz_b (zwo ζ τ h 15 3) fun f1 => dz_l (zst τ h (.inr (15, f1.set 3 (.ref a0)))) fun s2 => dz_b (zwo ζ s2 h 15 1) fun f3 => dz_l (zst s2 h (.inr (15, f3.set 1 (.int (-1))))) fun s4 => dz_b (zob ζ s4 h 15) fun f5 => dz_b (zvr (f5[3]?)) fun x6 => dz_b (zob ζ s4 x6 14) fun f7 => dz_b (zvi (f7[0]?)) fun x8 => dz_b (zwo ζ s4 h 15 2) fun f9 => dz_l (zst s4 h (.inr (15, f9.set 2 (.int x8)))) fun s10 => some ((), s10) : Option (Unit × pH)) = some res := hf
  refine z_gen (fun cells slots hc0 hs0 => ?_)
  have hcs : s.heap.size + cells = τ.1 := by rw [hc0]; exact hcs
  have hss : sl0 + slots = τ.2.1 := by rw [hs0]; exact hss
  have hcM : cells ≤ M ∧ slots ≤ S := by rw [hc0, hs0]; exact ⟨Nat.zero_le _, Nat.zero_le _⟩
  clear hc0 hs0
  refine lv_aload_n hx hb dJ15_init_0 rfl (lv_at hl 0 rfl) ?_
  refine lv_aload_n hx hb dJ15_init_1 rfl (lv_at hl 1 rfl) ?_
  obtain ⟨f1, hf1, hf⟩ := dz_bo hf
  obtain ⟨ha_f1, he_f1, hk_f1⟩ := zwo_o hf1
  refine va_putF (C := RJ15) (T := TJ15) (N := 4) hx hb hts in_J15 tyJ15 tyJ15_ok nmJ15 hown hX.K hH.2.2 zw_D hS _ (zw_o ha_f1 he_f1) rfl 3 (by decide) (hts _ q1335) (fun _ hq => hq) rfl hin rfl rfl rfl rfl hk_f1 dJ15_init_2 (fun H1 locs hP1 _ hS => dz_size (fun hz => ?_))
  obtain ⟨s2, e_s2, hf⟩ := dz_lo hf
  have hH := zH_put (x := .inr (15, f1.set 3 (.ref a0))) hH hcs ha_f1 hP1 hz
  rw [← e_s2] at hH
  have hcs : s.heap.size + cells = s2.1 := by rw [e_s2]; exact hcs
  have hss : sl0 + slots = s2.2.1 := by rw [e_s2]; exact hss
  clear hP1 hz; generalize H1 = H at hH hS ⊢
  refine lv_aload_n hx hb dJ15_init_5 rfl (lv_at hl 0 rfl) ?_
  refine W.objInit hx hb hown (hts _ q1331) (hts _ q125) (hts _ q126) rfl (by rw [hml]; exact hl.1) rfl dJ15_init_6 (Nat.le_of_ble_eq_true rfl) (Nat.le_of_ble_eq_true rfl) ?_
  refine W.eq (g2 := F0 m 9 ls []) rfl ?_
  refine lv_aload_n hx hb dJ15_init_9 rfl (lv_at hl 0 rfl) ?_
  refine lv_iconst (v := (-1)) hx hb dJ15_init_10 (by decide) ?_
  obtain ⟨f3, hf3, hf⟩ := dz_bo hf
  obtain ⟨ha_f3, he_f3, hk_f3⟩ := zwo_o hf3
  refine va_put (C := RJ15) (T := TJ15) (N := 4) hx hb hts in_J15 tyJ15 tyJ15_ok nmJ15 hown hX.K hH.2.2 zw_D hS _ (zw_o ha_f3 he_f3) rfl 1 (by decide) (hts _ q1333) (fun _ hq => hq) rfl rfl rfl rfl hk_f3 dJ15_init_11 (fun H1 locs hP1 _ hS => dz_size (fun hz => ?_))
  obtain ⟨s4, e_s4, hf⟩ := dz_lo hf
  have hH := zH_put (x := .inr (15, f3.set 1 (.int (-1)))) hH hcs ha_f3 hP1 hz
  rw [← e_s4] at hH
  have hcs : s.heap.size + cells = s4.1 := by rw [e_s4]; exact hcs
  have hss : sl0 + slots = s4.2.1 := by rw [e_s4]; exact hss
  clear hP1 hz; generalize H1 = H at hH hS ⊢
  refine lv_aload_n hx hb dJ15_init_14 rfl (lv_at hl 0 rfl) ?_
  refine lv_aload_n hx hb dJ15_init_15 rfl (lv_at hl 0 rfl) ?_
  obtain ⟨f5, hf5, hf⟩ := dz_bo hf
  obtain ⟨x6, hx6, hf⟩ := dz_bo hf
  refine va_get (C := RJ15) (T := TJ15) (N := 4) hx hb hts in_J15 hown hX.K (zrd_P hX hS hH (zob_o hf5)) 0 rfl rfl 3 (by decide) (hts _ q1335) (fun _ hq => hq) (zvr_o hx6) dJ15_init_16 ?_
  obtain ⟨f7, hf7, hf⟩ := dz_bo hf
  obtain ⟨x8, hx8, hf⟩ := dz_bo hf
  refine va_get (C := RJ2) (T := TJ2) (N := 3) hx hb hts in_J2 hown hX.K (zrd_P hX hS hH (zob_o hf7)) 0 rfl rfl 0 (by decide) (hts _ q146) (fun x hq => u_same (hts _ q147) x hq) (zvi_o hx8) dJ15_init_19 ?_
  obtain ⟨f9, hf9, hf⟩ := dz_bo hf
  obtain ⟨ha_f9, he_f9, hk_f9⟩ := zwo_o hf9
  refine va_put (C := RJ15) (T := TJ15) (N := 4) hx hb hts in_J15 tyJ15 tyJ15_ok nmJ15 hown hX.K hH.2.2 zw_D hS _ (zw_o ha_f9 he_f9) rfl 2 (by decide) (hts _ q1334) (fun _ hq => hq) rfl rfl rfl rfl hk_f9 dJ15_init_22 (fun H1 locs hP1 _ hS => dz_size (fun hz => ?_))
  obtain ⟨s10, e_s10, hf⟩ := dz_lo hf
  have hH := zH_put (x := .inr (15, f9.set 2 (.int x8))) hH hcs ha_f9 hP1 hz
  rw [← e_s10] at hH
  have hcs : s.heap.size + cells = s10.1 := by rw [e_s10]; exact hcs
  have hss : sl0 + slots = s10.2.1 := by rw [e_s10]; exact hss
  clear hP1 hz; generalize H1 = H at hH hS ⊢
  obtain ⟨hM1, hS1⟩ : cells = M ∧ slots = S := by have hq := congrArg Prod.snd (Option.some.inj hf); rw [← hq] at hM hS0; have hM : s.heap.size + M = s10.1 := hM; have hS0 : sl0 + S = s10.2.1 := hS0; omega
  refine W.widen (k := M) (n := S) (Nat.le_of_eq hM1) (Nat.le_of_eq hS1) ?_
  exact W.vret hx hb hr (fun t ht hW => ⟨⟨s10, rfl, Option.some.inj hf, z_at ht hH⟩, hS.F ht⟩) hS.2.2 dJ15_init_25

noncomputable def fnJ2_iterator (K : Nat) (ζ : pZ) (h : Nat) (τ : pH) : Option (Nat × pH) := dz_l τ.1 fun r1 => dz_l (znw τ 4 (.inr (15, [.int 0, .int 0, .int 0, .null]))) fun s2 => zck s2 (zcl s2 (fnJ15_init K ζ r1 h s2) fun _ s4 => some (r1, s4))
set_option maxHeartbeats 4000000 in
set_option maxRecDepth 100000 in
theorem mtJ2_iterator (l : Launch) (D : va_G) (cA : Nat → ClassId) (ζ : pZ) (τ : pH) (h : Nat) (K : Nat) (res : (Nat × pH)) (hf : fnJ2_iterator K ζ h τ = some res) (M S : Nat) (hM : τ.1 + M = res.2.1) (hS0 : τ.2.1 + S = res.2.2.1) : Met l yJ2_iterator (ws_ yJ2_iterator cJ2_iterator 1 (some (.object "java/util/Iterator"))) ({ frames := 2, cells := M, slots := S, locals := 41 }) (zPc D cA ζ τ [.ref h]) (zQr D cA ζ res) M S (zA ζ) := by
  refine Met.ofW (cc := cJ2_iterator) (maxL := 1) (ret := some (.object "java/util/Iterator")) (by decide +kernel) rfl ?_
  intro p e s m args below meth c s₁ B hml hv
  obtain ⟨rfl, hX, hH⟩ := hv
  have hx := B.exec
  have hb := B.bytes
  have hr := B.returns
  have hts := atoms_spec (ws := ws_ yJ2_iterator cJ2_iterator 1 (some (.object "java/util/Iterator"))) B.pre
  have hts : ∀ w ∈ lw_all, w.before _ s = true := fun w h => hts w (List.mem_cons_of_mem _ h)
  have hown : s.vm.findClass RJ2 = some m.cls := findClass_of_methodNamed B.named
  have hlocks := B.notSynchronized
  have hM : s.heap.size + M = res.2.1 := by rw [hH.1]; exact hM
  have hcs : s.heap.size + 0 = τ.1 := hH.1
  have hss : τ.2.1 + 0 = τ.2.1 := rfl
  generalize hsl0 : τ.2.1 = sl0 at hS0 hss
  have hss : sl0 + 0 = τ.2.1 := by rw [hsl0]; rfl
  have hS : va_S (zA ζ) s.heap s.heap [] := va_S.rf
  generalize hHe : s.heap = H at hH hS ⊢
  have hS : va_S (zA ζ) s.heap H [] := by rw [hHe]; exact hS
  generalize ([] : List Loc) = locs at hS ⊢
  have hl := lv_entry ([.ref h]) (n := 1) (Nat.le_of_ble_eq_true rfl)
  rw [lg_entry_eq]
  generalize (lg_sl ([.ref h]) ++ List.replicate (1 - (lg_sl ([.ref h])).length) Slot.unset).toArray = ls at hl ⊢
  have hl : lv_has ls 1 [(0, .ref h)] := hl
  have hf : (dz_l τ.1 fun r1 => dz_l (znw τ 4 (.inr (15, [.int 0, .int 0, .int 0, .null]))) fun s2 => zck s2 (zcl s2 (fnJ15_init K ζ r1 h s2) fun _ s4 => some (r1, s4)) : Option (Nat × pH)) = some res := hf
  refine z_gen (fun cells slots hc0 hs0 => ?_)
  have hcs : s.heap.size + cells = τ.1 := by rw [hc0]; exact hcs
  have hss : sl0 + slots = τ.2.1 := by rw [hs0]; exact hss
  have hcM : cells ≤ M ∧ slots ≤ S := by rw [hc0, hs0]; exact ⟨Nat.zero_le _, Nat.zero_le _⟩
  clear hc0 hs0
  obtain ⟨r1, e_r1, hf⟩ := dz_lo hf
  obtain ⟨s2, e_s2, hf⟩ := dz_lo hf
  obtain ⟨hck, hf⟩ := zck_o hf
  have hc1 : cells + 1 ≤ M := by have hq := hck.1; rw [e_s2] at hq; have hq : τ.1 + 1 ≤ res.2.1 := hq; omega
  have hs1 : slots + 4 ≤ S := by have hq := hck.2; rw [e_s2] at hq; have hq : τ.2.1 + 4 ≤ res.2.2.1 := hq; omega
  refine va_new (ci := 15) (fs := [.int 0, .int 0, .int 0, .null]) (C := RJ15) (T := TJ15) (N := 4) hx hb hts in_J15 tyJ15 tyJ15_ok hown (hts _ q1326) (hts _ q1327) (hts _ q116) hX.K hH.2.2 zw_D hS hX.hA rfl zdf_J15 hc1 hs1 dJ2_iterator_0 (fun q H1 hP1 hD1 hS => dz_size (fun hz => ?_))
  obtain ⟨hq, hH⟩ := zH_new (n := 4) (x := (.inr (15, [.int 0, .int 0, .int 0, .null]))) hH hcs hP1 hD1 hz
  rw [← e_s2] at hH; obtain rfl : r1 = q := e_r1.trans hq.symm
  have hcs : s.heap.size + (cells + 1) = s2.1 := by rw [e_s2]; show _ = τ.1 + 1; omega
  have hss : sl0 + (slots + 4) = s2.2.1 := by rw [e_s2]; show _ = τ.2.1 + 4; omega
  replace hcM := And.intro hc1 hs1
  generalize cells + 1 = cells at hcs hcM ⊢; generalize slots + 4 = slots at hss hcM ⊢
  clear hP1 hD1 hz hq hck hc1 hs1; generalize H1 = H at hH hS ⊢
  refine lv_dup hx hb dJ2_iterator_3 rfl ?_
  refine lv_aload_n hx hb dJ2_iterator_4 rfl (lv_at hl 0 rfl) ?_
  obtain ⟨x3, s4, hx3, hle, hck, hf⟩ := zcl_o hf
  have hc1 : cells + (s4.1 - s2.1) ≤ M := by omega
  have hs1 : slots + (s4.2.1 - s2.2.1) ≤ S := by omega
  refine va_callv (va_runI (As := [.ref h]) (rest := [.ref r1]) ⟨hx, hb, hml, hown, hts⟩ (mtJ15_init l D cA ζ s2 r1 h K (x3, s4) hx3 (s4.1 - s2.1) (s4.2.1 - s2.2.1) (Nat.add_sub_cancel' hle.1) (Nat.add_sub_cancel' hle.2)) (cwI 1 hts (lw_meth q1330) rfl rfl rfl (hts _ q116) (hts _ q1328) (hts _ q1329) rfl (by decide +kernel) ⟨Nat.le_of_ble_eq_true rfl, Nat.le_of_ble_eq_true rfl⟩) (z_preS hX hS hH) rfl rfl hl.1 rfl (lv_room (Nat.le_of_ble_eq_true rfl)) dJ2_iterator_5 ⟨hc1, hs1⟩) hS (fun q _ hq => hq) (fun q hq => hq) (fun u t H1 locs ht hvm hw hB hz hk hS => ?_)
  obtain ⟨-, hw2⟩ := Prod.mk.inj hw.symm; subst hw2
  have hH : zH D cA ζ s4 H1 := z_at ht.symm hB
  have hcs : s.heap.size + (cells + (s4.1 - s2.1)) = s4.1 := by omega
  have hss : sl0 + (slots + (s4.2.1 - s2.2.1)) = s4.2.1 := by omega
  replace hcM := And.intro hc1 hs1
  generalize cells + (s4.1 - s2.1) = cells at hcs hcM ⊢; generalize slots + (s4.2.1 - s2.2.1) = slots at hss hcM ⊢
  clear hB hk hz hvm ht hle hck hc1 hs1; generalize H1 = H at hH hS ⊢
  obtain ⟨hM1, hS1⟩ : cells = M ∧ slots = S := by have hq := congrArg Prod.snd (Option.some.inj hf); rw [← hq] at hM hS0; have hM : s.heap.size + M = s4.1 := hM; have hS0 : sl0 + S = s4.2.1 := hS0; omega
  refine W.widen (k := M) (n := S) (Nat.le_of_eq hM1) (Nat.le_of_eq hS1) ?_
  exact W.aret (v := .ref r1) hx hb hr (Or.inl ⟨_, rfl⟩) (Or.inr ⟨_, rfl⟩) (fun t ht hW => ⟨⟨s4, r1, rfl, trivial, Option.some.inj hf, z_at ht hH⟩, hS.F ht⟩) hS.2.2 dJ2_iterator_8

noncomputable def fnJ15_checkForComodification (K : Nat) (ζ : pZ) (h : Nat) (τ : pH) : Option (Unit × pH) := dz_b (zob ζ τ h 15) fun f1 => dz_b (zvr (f1[3]?)) fun x2 => dz_b (zob ζ τ x2 14) fun f3 => dz_b (zvi (f3[0]?)) fun x4 => dz_b (zob ζ τ h 15) fun f5 => dz_b (zvi (f5[2]?)) fun x6 => if x4 = x6 then (some ((), τ)) else (none)
set_option maxHeartbeats 4000000 in
set_option maxRecDepth 100000 in
theorem mtJ15_checkForComodification (l : Launch) (D : va_G) (cA : Nat → ClassId) (ζ : pZ) (τ : pH) (h : Nat) (K : Nat) (res : (Unit × pH)) (hf : fnJ15_checkForComodification K ζ h τ = some res) (M S : Nat) (hM : τ.1 + M = res.2.1) (hS0 : τ.2.1 + S = res.2.2.1) : Met l yJ15_checkForComodification (ws_ yJ15_checkForComodification cJ15_checkForComodification 1 (none)) ({ frames := 0, cells := M, slots := S, locals := 0 }) (zPc D cA ζ τ [.ref h]) (zQv D cA ζ res) M S (zA ζ) := by
  refine Met.ofW (cc := cJ15_checkForComodification) (maxL := 1) (ret := none) (by decide +kernel) rfl ?_
  intro p e s m args below meth c s₁ B hml hv
  obtain ⟨rfl, hX, hH⟩ := hv
  have hx := B.exec
  have hb := B.bytes
  have hr := B.returns
  have hts := atoms_spec (ws := ws_ yJ15_checkForComodification cJ15_checkForComodification 1 (none)) B.pre
  have hts : ∀ w ∈ lw_all, w.before _ s = true := fun w h => hts w (List.mem_cons_of_mem _ h)
  have hown : s.vm.findClass RJ15 = some m.cls := findClass_of_methodNamed B.named
  have hlocks := B.notSynchronized
  have hM : s.heap.size + M = res.2.1 := by rw [hH.1]; exact hM
  have hcs : s.heap.size + 0 = τ.1 := hH.1
  have hss : τ.2.1 + 0 = τ.2.1 := rfl
  generalize hsl0 : τ.2.1 = sl0 at hS0 hss
  have hss : sl0 + 0 = τ.2.1 := by rw [hsl0]; rfl
  have hS : va_S (zA ζ) s.heap s.heap [] := va_S.rf
  generalize hHe : s.heap = H at hH hS ⊢
  have hS : va_S (zA ζ) s.heap H [] := by rw [hHe]; exact hS
  generalize ([] : List Loc) = locs at hS ⊢
  have hl := lv_entry ([.ref h]) (n := 1) (Nat.le_of_ble_eq_true rfl)
  rw [lg_entry_eq]
  generalize (lg_sl ([.ref h]) ++ List.replicate (1 - (lg_sl ([.ref h])).length) Slot.unset).toArray = ls at hl ⊢
  have hl : lv_has ls 1 [(0, .ref h)] := hl
  have hf : (dz_b (zob ζ τ h 15) fun f1 => dz_b (zvr (f1[3]?)) fun x2 => dz_b (zob ζ τ x2 14) fun f3 => dz_b (zvi (f3[0]?)) fun x4 => dz_b (zob ζ τ h 15) fun f5 => dz_b (zvi (f5[2]?)) fun x6 => if x4 = x6 then (some ((), τ)) else (none) : Option (Unit × pH)) = some res := hf
  refine z_gen (fun cells slots hc0 hs0 => ?_)
  have hcs : s.heap.size + cells = τ.1 := by rw [hc0]; exact hcs
  have hss : sl0 + slots = τ.2.1 := by rw [hs0]; exact hss
  have hcM : cells ≤ M ∧ slots ≤ S := by rw [hc0, hs0]; exact ⟨Nat.zero_le _, Nat.zero_le _⟩
  clear hc0 hs0
  refine lv_aload_n hx hb dJ15_checkForComodification_0 rfl (lv_at hl 0 rfl) ?_
  obtain ⟨f1, hf1, hf⟩ := dz_bo hf
  obtain ⟨x2, hx2, hf⟩ := dz_bo hf
  refine va_get (C := RJ15) (T := TJ15) (N := 4) hx hb hts in_J15 hown hX.K (zrd_P hX hS hH (zob_o hf1)) 0 rfl rfl 3 (by decide) (hts _ q1335) (fun _ hq => hq) (zvr_o hx2) dJ15_checkForComodification_1 ?_
  obtain ⟨f3, hf3, hf⟩ := dz_bo hf
  obtain ⟨x4, hx4, hf⟩ := dz_bo hf
  refine va_get (C := RJ2) (T := TJ2) (N := 3) hx hb hts in_J2 hown hX.K (zrd_P hX hS hH (zob_o hf3)) 0 rfl rfl 0 (by decide) (hts _ q146) (fun x hq => u_same (hts _ q147) x hq) (zvi_o hx4) dJ15_checkForComodification_4 ?_
  refine lv_aload_n hx hb dJ15_checkForComodification_7 rfl (lv_at hl 0 rfl) ?_
  obtain ⟨f5, hf5, hf⟩ := dz_bo hf
  obtain ⟨x6, hx6, hf⟩ := dz_bo hf
  refine va_get (C := RJ15) (T := TJ15) (N := 4) hx hb hts in_J15 hown hX.K (zrd_P hX hS hH (zob_o hf5)) 0 rfl rfl 2 (by decide) (hts _ q1334) (fun _ hq => hq) (zvi_o hx6) dJ15_checkForComodification_8 ?_
  refine lv_icmp_eq (tgt := 22) hx hb dJ15_checkForComodification_11 (by decide) (fun c11 => ?_) (fun c11 => ?_)
  · have hf := dz_t c11 hf
    obtain ⟨hM1, hS1⟩ : cells = M ∧ slots = S := by have hq := congrArg Prod.snd (Option.some.inj hf); rw [← hq] at hM hS0; have hM : s.heap.size + M = τ.1 := hM; have hS0 : sl0 + S = τ.2.1 := hS0; omega
    refine W.widen (k := M) (n := S) (Nat.le_of_eq hM1) (Nat.le_of_eq hS1) ?_
    exact W.vret hx hb hr (fun t ht hW => ⟨⟨τ, rfl, Option.some.inj hf, z_at ht hH⟩, hS.F ht⟩) hS.2.2 dJ15_checkForComodification_22
  · have hf := dz_f c11 hf
    cases hf

noncomputable def fnJ15_next (K : Nat) (ζ : pZ) (h : Nat) (τ : pH) : Option (Nat × pH) := dz_b (zob ζ τ h 15) fun f3 => zcl τ (fnJ15_checkForComodification K ζ h τ) fun _ s2 => dz_b (zob ζ s2 h 15) fun f4 => dz_b (zvi (f4[0]?)) fun x5 => dz_b (zob ζ s2 h 15) fun f6 => dz_b (zvr (f6[3]?)) fun x7 => dz_b (zob ζ s2 x7 14) fun f8 => dz_b (zvi (f8[2]?)) fun x9 => if x5 < x9 then (dz_b (zob ζ s2 h 15) fun f10 => dz_b (zvr (f10[3]?)) fun x11 => dz_b (zob ζ s2 x11 14) fun f12 => dz_b (zvr (f12[1]?)) fun x13 => dz_b (zlenq ζ s2 x13) fun n14 => dz_l (Int32.ofNat n14) fun x15 => if x5 < x15 then (dz_l (x5 + 1) fun x16 => dz_b (zwo ζ s2 h 15 0) fun f17 => dz_l (zst s2 h (.inr (15, f17.set 0 (.int x16)))) fun s18 => dz_b (zwo ζ s18 h 15 1) fun f19 => dz_l (zst s18 h (.inr (15, f19.set 1 (.int x5)))) fun s20 => dz_c (zaq ζ s20 x13 4) fun n21 f22 => if ¬ (x5 < 0 ∨ n21 ≤ Int32.toNatClampNeg x5) then (dz_b (f22 (Int32.toNatClampNeg x5)) fun x24 => some (x24, s20)) else none) else (none)) else (none)
set_option maxHeartbeats 4000000 in
set_option maxRecDepth 100000 in
theorem mtJ15_next (l : Launch) (D : va_G) (cA : Nat → ClassId) (ζ : pZ) (τ : pH) (h : Nat) (K : Nat) (res : (Nat × pH)) (hf : fnJ15_next K ζ h τ = some res) (M S : Nat) (hM : τ.1 + M = res.2.1) (hS0 : τ.2.1 + S = res.2.2.1) : Met l yJ15_next (ws_ yJ15_next cJ15_next 3 (some (.object "java/lang/Object"))) ({ frames := 1, cells := M, slots := S, locals := 20 }) (zPc D cA ζ τ [.ref h]) (zQr D cA ζ res) M S (zA ζ) := by
  refine Met.ofW (cc := cJ15_next) (maxL := 3) (ret := some (.object "java/lang/Object")) (by decide +kernel) rfl ?_
  intro p e s m args below meth c s₁ B hml hv
  obtain ⟨rfl, hX, hH⟩ := hv
  have hx := B.exec
  have hb := B.bytes
  have hr := B.returns
  have hts := atoms_spec (ws := ws_ yJ15_next cJ15_next 3 (some (.object "java/lang/Object"))) B.pre
  have hts : ∀ w ∈ lw_all, w.before _ s = true := fun w h => hts w (List.mem_cons_of_mem _ h)
  have hown : s.vm.findClass RJ15 = some m.cls := findClass_of_methodNamed B.named
  have hlocks := B.notSynchronized
  have hM : s.heap.size + M = res.2.1 := by rw [hH.1]; exact hM
  have hcs : s.heap.size + 0 = τ.1 := hH.1
  have hss : τ.2.1 + 0 = τ.2.1 := rfl
  generalize hsl0 : τ.2.1 = sl0 at hS0 hss
  have hss : sl0 + 0 = τ.2.1 := by rw [hsl0]; rfl
  have hS : va_S (zA ζ) s.heap s.heap [] := va_S.rf
  generalize hHe : s.heap = H at hH hS ⊢
  have hS : va_S (zA ζ) s.heap H [] := by rw [hHe]; exact hS
  generalize ([] : List Loc) = locs at hS ⊢
  have hl := lv_entry ([.ref h]) (n := 3) (Nat.le_of_ble_eq_true rfl)
  rw [lg_entry_eq]
  generalize (lg_sl ([.ref h]) ++ List.replicate (3 - (lg_sl ([.ref h])).length) Slot.unset).toArray = ls at hl ⊢
  have hl : lv_has ls 3 [(0, .ref h)] := hl
  have hf : (dz_b (zob ζ τ h 15) fun f3 => zcl τ (fnJ15_checkForComodification K ζ h τ) fun _ s2 => dz_b (zob ζ s2 h 15) fun f4 => dz_b (zvi (f4[0]?)) fun x5 => dz_b (zob ζ s2 h 15) fun f6 => dz_b (zvr (f6[3]?)) fun x7 => dz_b (zob ζ s2 x7 14) fun f8 => dz_b (zvi (f8[2]?)) fun x9 => if x5 < x9 then (dz_b (zob ζ s2 h 15) fun f10 => dz_b (zvr (f10[3]?)) fun x11 => dz_b (zob ζ s2 x11 14) fun f12 => dz_b (zvr (f12[1]?)) fun x13 => dz_b (zlenq ζ s2 x13) fun n14 => dz_l (Int32.ofNat n14) fun x15 => if x5 < x15 then (dz_l (x5 + 1) fun x16 => dz_b (zwo ζ s2 h 15 0) fun f17 => dz_l (zst s2 h (.inr (15, f17.set 0 (.int x16)))) fun s18 => dz_b (zwo ζ s18 h 15 1) fun f19 => dz_l (zst s18 h (.inr (15, f19.set 1 (.int x5)))) fun s20 => dz_c (zaq ζ s20 x13 4) fun n21 f22 => if ¬ (x5 < 0 ∨ n21 ≤ Int32.toNatClampNeg x5) then (dz_b (f22 (Int32.toNatClampNeg x5)) fun x24 => some (x24, s20)) else none) else (none)) else (none) : Option (Nat × pH)) = some res := hf
  refine z_gen (fun cells slots hc0 hs0 => ?_)
  have hcs : s.heap.size + cells = τ.1 := by rw [hc0]; exact hcs
  have hss : sl0 + slots = τ.2.1 := by rw [hs0]; exact hss
  have hcM : cells ≤ M ∧ slots ≤ S := by rw [hc0, hs0]; exact ⟨Nat.zero_le _, Nat.zero_le _⟩
  clear hc0 hs0
  refine lv_aload_n hx hb dJ15_next_0 rfl (lv_at hl 0 rfl) ?_
  obtain ⟨f3, hf3, hf⟩ := dz_bo hf
  obtain ⟨x1, s2, hx1, hle, hck, hf⟩ := zcl_o hf
  have hc1 : cells + (s2.1 - τ.1) ≤ M := by omega
  have hs1 : slots + (s2.2.1 - τ.2.1) ≤ S := by omega
  refine va_callv (va_runV (As := []) (rest := []) ⟨hx, hb, hml, hown, hts⟩ (mtJ15_checkForComodification l D cA ζ τ h K (x1, s2) hx1 (s2.1 - τ.1) (s2.2.1 - τ.2.1) (Nat.add_sub_cancel' hle.1) (Nat.add_sub_cancel' hle.2)) (cwV 0 hts (lw_V q296 q297 q298 q116 q299) rfl rfl rfl (by decide +kernel) ⟨Nat.le_of_ble_eq_true rfl, Nat.le_of_ble_eq_true rfl⟩) (z_preV hX hS hH (zob_o hf3) rfl) rfl rfl hl.1 rfl (lv_room (Nat.le_of_ble_eq_true rfl)) dJ15_next_1 ⟨hc1, hs1⟩) hS (fun q _ hq => hq) (fun q hq => hq) (fun u t H1 locs ht hvm hw hB hz hk hS => ?_)
  obtain ⟨-, hw2⟩ := Prod.mk.inj hw.symm; subst hw2
  have hH : zH D cA ζ s2 H1 := z_at ht.symm hB
  have hcs : s.heap.size + (cells + (s2.1 - τ.1)) = s2.1 := by omega
  have hss : sl0 + (slots + (s2.2.1 - τ.2.1)) = s2.2.1 := by omega
  replace hcM := And.intro hc1 hs1
  generalize cells + (s2.1 - τ.1) = cells at hcs hcM ⊢; generalize slots + (s2.2.1 - τ.2.1) = slots at hss hcM ⊢
  clear hB hk hz hvm ht hle hck hc1 hs1; generalize H1 = H at hH hS ⊢
  refine lv_aload_n hx hb dJ15_next_4 rfl (lv_at hl 0 rfl) ?_
  obtain ⟨f4, hf4, hf⟩ := dz_bo hf
  obtain ⟨x5, hx5, hf⟩ := dz_bo hf
  refine va_get (C := RJ15) (T := TJ15) (N := 4) hx hb hts in_J15 hown hX.K (zrd_P hX hS hH (zob_o hf4)) 0 rfl rfl 0 (by decide) (hts _ q1332) (fun _ hq => hq) (zvi_o hx5) dJ15_next_5 ?_
  refine lv_istore_n (lv' := [(1, .int x5), (0, .ref h)]) hx hb dJ15_next_8 rfl hl (by decide) rfl (fun ls hl => ?_)
  refine lv_iload_n hx hb dJ15_next_9 rfl (lv_at hl 0 rfl) ?_
  refine lv_aload_n hx hb dJ15_next_10 rfl (lv_at hl 1 rfl) ?_
  obtain ⟨f6, hf6, hf⟩ := dz_bo hf
  obtain ⟨x7, hx7, hf⟩ := dz_bo hf
  refine va_get (C := RJ15) (T := TJ15) (N := 4) hx hb hts in_J15 hown hX.K (zrd_P hX hS hH (zob_o hf6)) 0 rfl rfl 3 (by decide) (hts _ q1335) (fun _ hq => hq) (zvr_o hx7) dJ15_next_11 ?_
  obtain ⟨f8, hf8, hf⟩ := dz_bo hf
  obtain ⟨x9, hx9, hf⟩ := dz_bo hf
  refine va_getN (C := RJ2) (T := TJ2) (N := 3) hx hb hts in_J2 hown hX.K (zrd_P hX hS hH (zob_o hf8)) 0 rfl rfl 2 (by decide) ((hX.N q143 rfl).use rfl) (fun _ hq => hq) (zvi_o hx9) dJ15_next_14 ?_
  refine lv_icmp_lt (tgt := 28) hx hb dJ15_next_17 (by decide) (fun c17 => ?_) (fun c17 => ?_)
  · have hf := dz_t c17 hf
    refine lv_aload_n hx hb dJ15_next_28 rfl (lv_at hl 1 rfl) ?_
    obtain ⟨f10, hf10, hf⟩ := dz_bo hf
    obtain ⟨x11, hx11, hf⟩ := dz_bo hf
    refine va_get (C := RJ15) (T := TJ15) (N := 4) hx hb hts in_J15 hown hX.K (zrd_P hX hS hH (zob_o hf10)) 0 rfl rfl 3 (by decide) (hts _ q1335) (fun _ hq => hq) (zvr_o hx11) dJ15_next_29 ?_
    obtain ⟨f12, hf12, hf⟩ := dz_bo hf
    obtain ⟨x13, hx13, hf⟩ := dz_bo hf
    refine va_get (C := RJ2) (T := TJ2) (N := 3) hx hb hts in_J2 hown hX.K (zrd_P hX hS hH (zob_o hf12)) 0 rfl rfl 1 (by decide) (hts _ q142) (fun _ hq => hq) (zvr_o hx13) dJ15_next_32 ?_
    refine lv_astore_n (lv' := [(2, .ref x13), (1, .int x5), (0, .ref h)]) hx hb dJ15_next_35 rfl hl (by decide) rfl (fun ls hl => ?_)
    refine lv_iload_n hx hb dJ15_next_36 rfl (lv_at hl 1 rfl) ?_
    refine lv_aload_n hx hb dJ15_next_37 rfl (lv_at hl 0 rfl) ?_
    obtain ⟨n14, hn14, hf⟩ := dz_bo hf
    refine zq_alen hx hb hX hS hH hn14 dJ15_next_38 ?_
    refine lv_topi (fun x15 e_x15 => ?_)
    have hf := dz_ls e_x15 hf
    refine lv_icmp_lt (tgt := 50) hx hb dJ15_next_39 (by decide) (fun c39 => ?_) (fun c39 => ?_)
    · have hf := dz_t c39 hf
      refine lv_aload_n hx hb dJ15_next_50 rfl (lv_at hl 2 rfl) ?_
      refine lv_iload_n hx hb dJ15_next_51 rfl (lv_at hl 1 rfl) ?_
      refine lv_iconst (v := 1) hx hb dJ15_next_52 (by decide) ?_
      refine lv_iadd hx hb dJ15_next_53 ?_
      refine lv_topi (fun x16 e_x16 => ?_)
      have hf := dz_ls e_x16 hf
      obtain ⟨f17, hf17, hf⟩ := dz_bo hf
      obtain ⟨ha_f17, he_f17, hk_f17⟩ := zwo_o hf17
      refine va_put (C := RJ15) (T := TJ15) (N := 4) hx hb hts in_J15 tyJ15 tyJ15_ok nmJ15 hown hX.K hH.2.2 zw_D hS _ (zw_o ha_f17 he_f17) rfl 0 (by decide) (hts _ q1332) (fun _ hq => hq) rfl rfl rfl rfl hk_f17 dJ15_next_54 (fun H1 locs hP1 _ hS => dz_size (fun hz => ?_))
      obtain ⟨s18, e_s18, hf⟩ := dz_lo hf
      have hH := zH_put (x := .inr (15, f17.set 0 (.int x16))) hH hcs ha_f17 hP1 hz
      rw [← e_s18] at hH
      have hcs : s.heap.size + cells = s18.1 := by rw [e_s18]; exact hcs
      have hss : sl0 + slots = s18.2.1 := by rw [e_s18]; exact hss
      clear hP1 hz; generalize H1 = H at hH hS ⊢
      refine lv_aload_n hx hb dJ15_next_57 rfl (lv_at hl 0 rfl) ?_
      refine lv_aload_n hx hb dJ15_next_58 rfl (lv_at hl 2 rfl) ?_
      refine lv_iload_n hx hb dJ15_next_59 rfl (lv_at hl 1 rfl) ?_
      refine lv_dup_x1 hx hb dJ15_next_60 rfl rfl ?_
      obtain ⟨f19, hf19, hf⟩ := dz_bo hf
      obtain ⟨ha_f19, he_f19, hk_f19⟩ := zwo_o hf19
      refine va_put (C := RJ15) (T := TJ15) (N := 4) hx hb hts in_J15 tyJ15 tyJ15_ok nmJ15 hown hX.K hH.2.2 zw_D hS _ (zw_o ha_f19 he_f19) rfl 1 (by decide) (hts _ q1333) (fun _ hq => hq) rfl rfl rfl rfl hk_f19 dJ15_next_61 (fun H1 locs hP1 _ hS => dz_size (fun hz => ?_))
      obtain ⟨s20, e_s20, hf⟩ := dz_lo hf
      have hH := zH_put (x := .inr (15, f19.set 1 (.int x5))) hH hcs ha_f19 hP1 hz
      rw [← e_s20] at hH
      have hcs : s.heap.size + cells = s20.1 := by rw [e_s20]; exact hcs
      have hss : sl0 + slots = s20.2.1 := by rw [e_s20]; exact hss
      clear hP1 hz; generalize H1 = H at hH hS ⊢
      obtain ⟨n21, f22, hn21, hf⟩ := dz_co hf
      obtain ⟨g23, hf⟩ := dz_go hf
      obtain ⟨x24, hx24, hf⟩ := dz_bo hf
      refine va_aldq hx hb hX.K (zrd_P hX hS hH (zaq_o hn21)) 0 4 rfl rfl g23 dJ15_next_64 ?_
      rw [hx24]
      refine W.eq (g2 := F0 m 65 ls (.ref x24 :: [])) rfl ?_
      obtain ⟨hM1, hS1⟩ : cells = M ∧ slots = S := by have hq := congrArg Prod.snd (Option.some.inj hf); rw [← hq] at hM hS0; have hM : s.heap.size + M = s20.1 := hM; have hS0 : sl0 + S = s20.2.1 := hS0; omega
      refine W.widen (k := M) (n := S) (Nat.le_of_eq hM1) (Nat.le_of_eq hS1) ?_
      exact W.aret (v := .ref x24) hx hb hr (Or.inl ⟨_, rfl⟩) (Or.inr ⟨_, rfl⟩) (fun t ht hW => ⟨⟨s20, x24, rfl, trivial, Option.some.inj hf, z_at ht hH⟩, hS.F ht⟩) hS.2.2 dJ15_next_65
    · have hf := dz_f c39 hf
      cases hf
  · have hf := dz_f c17 hf
    cases hf

noncomputable def fnJ15_hasNext (K : Nat) (ζ : pZ) (h : Nat) (τ : pH) : Option (Int32 × pH) := dz_b (zob ζ τ h 15) fun f1 => dz_b (zvi (f1[0]?)) fun x2 => dz_b (zob ζ τ h 15) fun f3 => dz_b (zvr (f3[3]?)) fun x4 => dz_b (zob ζ τ x4 14) fun f5 => dz_b (zvi (f5[2]?)) fun x6 => if x2 = x6 then (some (0, τ)) else (some (1, τ))
set_option maxHeartbeats 4000000 in
set_option maxRecDepth 100000 in
theorem mtJ15_hasNext (l : Launch) (D : va_G) (cA : Nat → ClassId) (ζ : pZ) (τ : pH) (h : Nat) (K : Nat) (res : (Int32 × pH)) (hf : fnJ15_hasNext K ζ h τ = some res) (M S : Nat) (hM : τ.1 + M = res.2.1) (hS0 : τ.2.1 + S = res.2.2.1) : Met l yJ15_hasNext (ws_ yJ15_hasNext cJ15_hasNext 1 (some .boolean)) ({ frames := 0, cells := M, slots := S, locals := 0 }) (zPc D cA ζ τ [.ref h]) (zQi D cA ζ res) M S (zA ζ) := by
  refine Met.ofW (cc := cJ15_hasNext) (maxL := 1) (ret := some .boolean) (by decide +kernel) rfl ?_
  intro p e s m args below meth c s₁ B hml hv
  obtain ⟨rfl, hX, hH⟩ := hv
  have hx := B.exec
  have hb := B.bytes
  have hr := B.returns
  have hts := atoms_spec (ws := ws_ yJ15_hasNext cJ15_hasNext 1 (some .boolean)) B.pre
  have hts : ∀ w ∈ lw_all, w.before _ s = true := fun w h => hts w (List.mem_cons_of_mem _ h)
  have hown : s.vm.findClass RJ15 = some m.cls := findClass_of_methodNamed B.named
  have hlocks := B.notSynchronized
  have hM : s.heap.size + M = res.2.1 := by rw [hH.1]; exact hM
  have hcs : s.heap.size + 0 = τ.1 := hH.1
  have hss : τ.2.1 + 0 = τ.2.1 := rfl
  generalize hsl0 : τ.2.1 = sl0 at hS0 hss
  have hss : sl0 + 0 = τ.2.1 := by rw [hsl0]; rfl
  have hS : va_S (zA ζ) s.heap s.heap [] := va_S.rf
  generalize hHe : s.heap = H at hH hS ⊢
  have hS : va_S (zA ζ) s.heap H [] := by rw [hHe]; exact hS
  generalize ([] : List Loc) = locs at hS ⊢
  have hl := lv_entry ([.ref h]) (n := 1) (Nat.le_of_ble_eq_true rfl)
  rw [lg_entry_eq]
  generalize (lg_sl ([.ref h]) ++ List.replicate (1 - (lg_sl ([.ref h])).length) Slot.unset).toArray = ls at hl ⊢
  have hl : lv_has ls 1 [(0, .ref h)] := hl
  have hf : (dz_b (zob ζ τ h 15) fun f1 => dz_b (zvi (f1[0]?)) fun x2 => dz_b (zob ζ τ h 15) fun f3 => dz_b (zvr (f3[3]?)) fun x4 => dz_b (zob ζ τ x4 14) fun f5 => dz_b (zvi (f5[2]?)) fun x6 => if x2 = x6 then (some (0, τ)) else (some (1, τ)) : Option (Int32 × pH)) = some res := hf
  refine z_gen (fun cells slots hc0 hs0 => ?_)
  have hcs : s.heap.size + cells = τ.1 := by rw [hc0]; exact hcs
  have hss : sl0 + slots = τ.2.1 := by rw [hs0]; exact hss
  have hcM : cells ≤ M ∧ slots ≤ S := by rw [hc0, hs0]; exact ⟨Nat.zero_le _, Nat.zero_le _⟩
  clear hc0 hs0
  refine lv_aload_n hx hb dJ15_hasNext_0 rfl (lv_at hl 0 rfl) ?_
  obtain ⟨f1, hf1, hf⟩ := dz_bo hf
  obtain ⟨x2, hx2, hf⟩ := dz_bo hf
  refine va_get (C := RJ15) (T := TJ15) (N := 4) hx hb hts in_J15 hown hX.K (zrd_P hX hS hH (zob_o hf1)) 0 rfl rfl 0 (by decide) (hts _ q1332) (fun _ hq => hq) (zvi_o hx2) dJ15_hasNext_1 ?_
  refine lv_aload_n hx hb dJ15_hasNext_4 rfl (lv_at hl 0 rfl) ?_
  obtain ⟨f3, hf3, hf⟩ := dz_bo hf
  obtain ⟨x4, hx4, hf⟩ := dz_bo hf
  refine va_get (C := RJ15) (T := TJ15) (N := 4) hx hb hts in_J15 hown hX.K (zrd_P hX hS hH (zob_o hf3)) 0 rfl rfl 3 (by decide) (hts _ q1335) (fun _ hq => hq) (zvr_o hx4) dJ15_hasNext_5 ?_
  obtain ⟨f5, hf5, hf⟩ := dz_bo hf
  obtain ⟨x6, hx6, hf⟩ := dz_bo hf
  refine va_getN (C := RJ2) (T := TJ2) (N := 3) hx hb hts in_J2 hown hX.K (zrd_P hX hS hH (zob_o hf5)) 0 rfl rfl 2 (by decide) ((hX.N q143 rfl).use rfl) (fun _ hq => hq) (zvi_o hx6) dJ15_hasNext_8 ?_
  refine lv_icmp_eq (tgt := 18) hx hb dJ15_hasNext_11 (by decide) (fun c11 => ?_) (fun c11 => ?_)
  · have hf := dz_t c11 hf
    refine lv_iconst (v := 0) hx hb dJ15_hasNext_18 (by decide) ?_
    obtain ⟨hM1, hS1⟩ : cells = M ∧ slots = S := by have hq := congrArg Prod.snd (Option.some.inj hf); rw [← hq] at hM hS0; have hM : s.heap.size + M = τ.1 := hM; have hS0 : sl0 + S = τ.2.1 := hS0; omega
    refine W.widen (k := M) (n := S) (Nat.le_of_eq hM1) (Nat.le_of_eq hS1) ?_
    exact W.zret (v := 0) hx hb hr rfl (fun t ht hW => ⟨⟨0, τ, rfl, Option.some.inj hf, z_at ht hH⟩, hS.F ht⟩) hS.2.2 dJ15_hasNext_19
  · have hf := dz_f c11 hf
    refine lv_iconst (v := 1) hx hb dJ15_hasNext_14 (by decide) ?_
    refine lv_goto (tgt := 19) hx hb dJ15_hasNext_15 (by decide) ?_
    obtain ⟨hM1, hS1⟩ : cells = M ∧ slots = S := by have hq := congrArg Prod.snd (Option.some.inj hf); rw [← hq] at hM hS0; have hM : s.heap.size + M = τ.1 := hM; have hS0 : sl0 + S = τ.2.1 := hS0; omega
    refine W.widen (k := M) (n := S) (Nat.le_of_eq hM1) (Nat.le_of_eq hS1) ?_
    exact W.zret (v := 1) hx hb hr rfl (fun t ht hW => ⟨⟨1, τ, rfl, Option.some.inj hf, z_at ht hH⟩, hS.F ht⟩) hS.2.2 dJ15_hasNext_19

noncomputable def lfX0_addsRests (K : Nat) (ζ : pZ) : Nat → (Nat → Int32 → Nat → pH → Option (Unit × pH)) := Nat.rec (motive := fun _ => (Nat → Int32 → Nat → pH → Option (Unit × pH))) (fun _ _ _ _ => none) (fun _ G => (fun v0 v1 v3 τ => dz_b (zob ζ τ v3 2) fun f3 => zcl τ (fnX2_hasNext K ζ v3 τ) fun x1 s2 => if x1 = (0 : Int32) then (some ((), s2)) else (dz_b (zob ζ s2 v3 2) fun f6 => zcl s2 (fnX2_next K ζ v3 s2) fun x4 s5 => dz_b (zob ζ s5 x4 11) fun f7 => dz_b (zob ζ s5 x4 11) fun f8 => dz_b (zvl (f8[0]?)) fun x9 => dz_b (zob ζ s5 v0 0) fun f12 => zcl s5 (fnX0_restOn K ζ v0 x9 v1 s5) fun x10 s11 => dz_b (zob ζ s11 v0 0) fun f13 => dz_b (zvr (f13[5]?)) fun x14 => dz_c (zal ζ s11 x14 1) fun n15 f16 => if ¬ (v1 < 0 ∨ n15 ≤ Int32.toNatClampNeg v1) then (dz_l (f16 (Int32.toNatClampNeg v1)) fun x18 => dz_b (zob ζ s11 v0 0) fun f19 => dz_b (zvr (f19[5]?)) fun x20 => dz_c (zal ζ s11 x20 1) fun n21 f22 => if ¬ (x10 < 0 ∨ n21 ≤ Int32.toNatClampNeg x10) then (dz_l (f22 (Int32.toNatClampNeg x10)) fun x24 => dz_l (x18 ||| x24) fun x25 => if ζ.1 ≤ x14 ∧ x14 < s11.1 then (dz_c (zal ζ s11 x14 1) fun n26 f27 => if ¬ (v1 < 0 ∨ n26 ≤ Int32.toNatClampNeg v1) then (dz_l (zst s11 x14 (.inl (1, n26, .inr (.inl (vp_updL f27 (Int32.toNatClampNeg v1) x25))))) fun s28 => dz_b (zob ζ s28 v0 0) fun f31 => dz_b (zvr (f31[6]?)) fun x32 => dz_b (zob ζ s28 v0 0) fun f33 => dz_b (zvr (f33[6]?)) fun x34 => dz_c (zai ζ s28 x34 0) fun n35 f36 => if ¬ (v1 < 0 ∨ n35 ≤ Int32.toNatClampNeg v1) then (dz_l (f36 (Int32.toNatClampNeg v1)) fun x38 => dz_b (zob ζ s28 v0 0) fun f39 => dz_b (zvr (f39[6]?)) fun x40 => dz_c (zai ζ s28 x40 0) fun n41 f42 => if ¬ (x10 < 0 ∨ n41 ≤ Int32.toNatClampNeg x10) then (dz_l (f42 (Int32.toNatClampNeg x10)) fun x44 => dz_b (fnJ5_max K x38 (1 + x44)) fun x45 => if ζ.1 ≤ x32 ∧ x32 < s28.1 then (dz_c (zai ζ s28 x32 0) fun n46 f47 => if ¬ (v1 < 0 ∨ n46 ≤ Int32.toNatClampNeg v1) then (dz_l (zst s28 x32 (.inl (0, n46, .inl (upd f47 (Int32.toNatClampNeg v1) x45)))) fun s48 => G v0 v1 v3 s48) else none) else none) else none) else none) else none) else none) else none) else none)))
noncomputable def fnX0_addsRests (K : Nat) (ζ : pZ) (h : Nat) (a0 : Int32) (a1 : Nat) (τ : pH) : Option (Unit × pH) := dz_b (zob ζ τ a1 10) fun f3 => zcl τ (fnX8_iterator K ζ a1 τ) fun x1 s2 => (lfX0_addsRests K ζ K) h a0 x1 s2
set_option maxHeartbeats 4000000 in
set_option maxRecDepth 100000 in
theorem wlX0_addsRests {p : Program} {l : Launch} {e : Env} {s : State} {m : MethodId} {below : List Frame} {meth : Method} {c : Code} {D : va_G} {cA : Nat → ClassId} {ζ : pZ} (hX : zX D cA ζ s) (K : Nat) (res : (Unit × pH)) (M S sl0 : Nat) (hM : s.heap.size + M = res.2.1) (hS0 : sl0 + S = res.2.2.1) (h : Nat) (a0 : Int32) (a1 : Nat) (hx : p.tables.exec = Jvm.exec) (hb : c.code = cX0_addsRests) (hr : meth.sig.returnType = none) (hlocks : meth.locks = false) (hml : c.maxLocals = 6) (hown : s.vm.findClass RX0 = some m.cls) (hts : ∀ w ∈ lw_all, w.before ([.ref h, .int a0, .ref a1] : List Value).toArray s = true) : ∀ k : Nat, (∀ (v0 : Nat) (v1 : Int32) (v3 : Nat) (τ : pH) (H : Heap) (locs : List Loc) (cells slots : Nat), zH D cA ζ τ H → va_S (zA ζ) s.heap H locs → s.heap.size + cells = τ.1 → sl0 + slots = τ.2.1 → cells ≤ M ∧ slots ≤ S → ∀ (ls : Array Slot), lv_has ls 6 [(0, .ref v0), (1, .int v1), (3, .ref v3)] → (lfX0_addsRests K ζ k) v0 v1 v3 τ = some res → W p l e (headSpec (ws_ yX0_addsRests cX0_addsRests 6 (none)) ({ frames := 105, cells := M, slots := S, locals := 2419 })).room s m ([.ref h, .int a0, .ref a1] : List Value).toArray below meth c H locs cells slots (MQ below (zQv D cA ζ res) ([.ref h, .int a0, .ref a1] : List Value).toArray s M S (zA ζ)) (F0 m 5 ls [])) := by
  intro k
  induction k with
  | zero =>
    exact fun _ _ _ _ _ _ _ _ _ _ _ _ _ _ _ hf => (by cases hf)
  | succ k ih =>
    · intro v0 v1 v3 τ H locs cells slots hH hS hcs hss hcM ls hl hf
      have hf : (dz_b (zob ζ τ v3 2) fun f3 => zcl τ (fnX2_hasNext K ζ v3 τ) fun x1 s2 => if x1 = (0 : Int32) then (some ((), s2)) else (dz_b (zob ζ s2 v3 2) fun f6 => zcl s2 (fnX2_next K ζ v3 s2) fun x4 s5 => dz_b (zob ζ s5 x4 11) fun f7 => dz_b (zob ζ s5 x4 11) fun f8 => dz_b (zvl (f8[0]?)) fun x9 => dz_b (zob ζ s5 v0 0) fun f12 => zcl s5 (fnX0_restOn K ζ v0 x9 v1 s5) fun x10 s11 => dz_b (zob ζ s11 v0 0) fun f13 => dz_b (zvr (f13[5]?)) fun x14 => dz_c (zal ζ s11 x14 1) fun n15 f16 => if ¬ (v1 < 0 ∨ n15 ≤ Int32.toNatClampNeg v1) then (dz_l (f16 (Int32.toNatClampNeg v1)) fun x18 => dz_b (zob ζ s11 v0 0) fun f19 => dz_b (zvr (f19[5]?)) fun x20 => dz_c (zal ζ s11 x20 1) fun n21 f22 => if ¬ (x10 < 0 ∨ n21 ≤ Int32.toNatClampNeg x10) then (dz_l (f22 (Int32.toNatClampNeg x10)) fun x24 => dz_l (x18 ||| x24) fun x25 => if ζ.1 ≤ x14 ∧ x14 < s11.1 then (dz_c (zal ζ s11 x14 1) fun n26 f27 => if ¬ (v1 < 0 ∨ n26 ≤ Int32.toNatClampNeg v1) then (dz_l (zst s11 x14 (.inl (1, n26, .inr (.inl (vp_updL f27 (Int32.toNatClampNeg v1) x25))))) fun s28 => dz_b (zob ζ s28 v0 0) fun f31 => dz_b (zvr (f31[6]?)) fun x32 => dz_b (zob ζ s28 v0 0) fun f33 => dz_b (zvr (f33[6]?)) fun x34 => dz_c (zai ζ s28 x34 0) fun n35 f36 => if ¬ (v1 < 0 ∨ n35 ≤ Int32.toNatClampNeg v1) then (dz_l (f36 (Int32.toNatClampNeg v1)) fun x38 => dz_b (zob ζ s28 v0 0) fun f39 => dz_b (zvr (f39[6]?)) fun x40 => dz_c (zai ζ s28 x40 0) fun n41 f42 => if ¬ (x10 < 0 ∨ n41 ≤ Int32.toNatClampNeg x10) then (dz_l (f42 (Int32.toNatClampNeg x10)) fun x44 => dz_b (fnJ5_max K x38 (1 + x44)) fun x45 => if ζ.1 ≤ x32 ∧ x32 < s28.1 then (dz_c (zai ζ s28 x32 0) fun n46 f47 => if ¬ (v1 < 0 ∨ n46 ≤ Int32.toNatClampNeg v1) then (dz_l (zst s28 x32 (.inl (0, n46, .inl (upd f47 (Int32.toNatClampNeg v1) x45)))) fun s48 => (lfX0_addsRests K ζ k) v0 v1 v3 s48) else none) else none) else none) else none) else none) else none) else none) else none) : Option (Unit × pH)) = some res := hf
      refine lv_aload_n hx hb dX0_addsRests_5 rfl (lv_at hl 2 rfl) ?_
      obtain ⟨f3, hf3, hf⟩ := dz_bo hf
      obtain ⟨x1, s2, hx1, hle, hck, hf⟩ := zcl_o hf
      have hc1 : cells + (s2.1 - τ.1) ≤ M := by omega
      have hs1 : slots + (s2.2.1 - τ.2.1) ≤ S := by omega
      refine va_callFi (va_runF (hX.K.1 2 _ rfl).2 (As := []) (rest := []) ⟨hx, hb, hml, hown, hts⟩ (mtX2_hasNext l D cA ζ τ v3 K (x1, s2) hx1 (s2.1 - τ.1) (s2.2.1 - τ.2.1) (Nat.add_sub_cancel' hle.1) (Nat.add_sub_cancel' hle.2)) (va_cwF 0 hts (zF_in q782 q267 q269 q91 q271) rfl rfl rfl (hX.F 0 rfl) (by decide +kernel) ⟨Nat.le_of_ble_eq_true rfl, Nat.le_of_ble_eq_true rfl⟩) (z_preV hX hS hH (zob_o hf3) rfl) rfl rfl hl.1 rfl (lv_room (Nat.le_of_ble_eq_true rfl)) dX0_addsRests_6 ⟨hc1, hs1⟩) hS (fun q _ hq => hq) (fun q hq => hq) (fun r u t H1 locs ht hvm hw hB hz hk hS => ?_)
      obtain ⟨hw1, hw2⟩ := Prod.mk.inj hw.symm; subst hw1; subst hw2
      have hH : zH D cA ζ s2 H1 := z_at ht.symm hB
      have hcs : s.heap.size + (cells + (s2.1 - τ.1)) = s2.1 := by omega
      have hss : sl0 + (slots + (s2.2.1 - τ.2.1)) = s2.2.1 := by omega
      replace hcM := And.intro hc1 hs1
      generalize cells + (s2.1 - τ.1) = cells at hcs hcM ⊢; generalize slots + (s2.2.1 - τ.2.1) = slots at hss hcM ⊢
      clear hB hk hz hvm ht hle hck hc1 hs1; generalize H1 = H at hH hS ⊢
      refine lv_if_eq (tgt := 80) hx hb dX0_addsRests_11 (by decide) (fun c11 => ?_) (fun c11 => ?_)
      · have hf := dz_t c11 hf
        obtain ⟨hM1, hS1⟩ : cells = M ∧ slots = S := by have hq := congrArg Prod.snd (Option.some.inj hf); rw [← hq] at hM hS0; have hM : s.heap.size + M = s2.1 := hM; have hS0 : sl0 + S = s2.2.1 := hS0; omega
        refine W.widen (k := M) (n := S) (Nat.le_of_eq hM1) (Nat.le_of_eq hS1) ?_
        exact W.vret hx hb hr (fun t ht hW => ⟨⟨s2, rfl, Option.some.inj hf, z_at ht hH⟩, hS.F ht⟩) hS.2.2 dX0_addsRests_80
      · have hf := dz_f c11 hf
        refine lv_aload_n hx hb dX0_addsRests_14 rfl (lv_at hl 2 rfl) ?_
        obtain ⟨f6, hf6, hf⟩ := dz_bo hf
        obtain ⟨x4, s5, hx4, hle, hck, hf⟩ := zcl_o hf
        have hc1 : cells + (s5.1 - s2.1) ≤ M := by omega
        have hs1 : slots + (s5.2.1 - s2.2.1) ≤ S := by omega
        refine va_callFr (va_runF (hX.K.1 2 _ rfl).2 (As := []) (rest := []) ⟨hx, hb, hml, hown, hts⟩ (mtX2_next l D cA ζ s2 v3 K (x4, s5) hx4 (s5.1 - s2.1) (s5.2.1 - s2.2.1) (Nat.add_sub_cancel' hle.1) (Nat.add_sub_cancel' hle.2)) (va_cwF 0 hts (zF_in q784 q282 q284 q91 q286) rfl rfl rfl (hX.F 1 rfl) (by decide +kernel) ⟨Nat.le_of_ble_eq_true rfl, Nat.le_of_ble_eq_true rfl⟩) (z_preV hX hS hH (zob_o hf6) rfl) rfl rfl hl.1 rfl (lv_room (Nat.le_of_ble_eq_true rfl)) dX0_addsRests_15 ⟨hc1, hs1⟩) hS (fun q _ hq => hq) (fun q hq => hq) (fun u r t H1 locs ht hvm hw hB hz hk hS => ?_)
        obtain ⟨hw, hB⟩ := hB
        obtain ⟨hw1, hw2⟩ := Prod.mk.inj hw.symm; subst hw1; subst hw2
        have hH : zH D cA ζ s5 H1 := z_at ht.symm hB
        have hcs : s.heap.size + (cells + (s5.1 - s2.1)) = s5.1 := by omega
        have hss : sl0 + (slots + (s5.2.1 - s2.2.1)) = s5.2.1 := by omega
        replace hcM := And.intro hc1 hs1
        generalize cells + (s5.1 - s2.1) = cells at hcs hcM ⊢; generalize slots + (s5.2.1 - s2.2.1) = slots at hss hcM ⊢
        clear hB hk hz hvm ht hle hck hc1 hs1; generalize H1 = H at hH hS ⊢
        obtain ⟨f7, hf7, hf⟩ := dz_bo hf
        refine va_castS (nm := RX13) hx hb hown (hts _ q677) (hX.K.1 11 _ rfl).2 (va_recv hX.K (zrd_P hX hS hH (zob_o hf7)) (ci := 11) (q0 := 0) rfl rfl) dX0_addsRests_20 ?_
        refine lv_astore (lv' := [(4, .ref x4), (0, .ref v0), (1, .int v1), (3, .ref v3)]) hx hb dX0_addsRests_23 hl (by decide) rfl (fun ls hl => ?_)
        refine lv_aload_n hx hb dX0_addsRests_25 rfl (lv_at hl 1 rfl) ?_
        refine lv_aload hx hb dX0_addsRests_26 (lv_at hl 0 rfl) ?_
        obtain ⟨f8, hf8, hf⟩ := dz_bo hf
        obtain ⟨x9, hx9, hf⟩ := dz_bo hf
        refine va_get (C := RX13) (T := TX13) (N := 3) hx hb hts in_X13 hown hX.K (zrd_P hX hS hH (zob_o hf8)) 0 rfl rfl 0 (by decide) (hts _ q686) (fun _ hq => hq) (zvl_o hx9) dX0_addsRests_28 ?_
        refine lv_iload_n hx hb dX0_addsRests_31 rfl (lv_at hl 2 rfl) ?_
        obtain ⟨f12, hf12, hf⟩ := dz_bo hf
        obtain ⟨x10, s11, hx10, hle, hck, hf⟩ := zcl_o hf
        have hc1 : cells + (s11.1 - s5.1) ≤ M := by omega
        have hs1 : slots + (s11.2.1 - s5.2.1) ≤ S := by omega
        refine va_calli (va_runV (As := [.long x9, .int v1]) (rest := []) ⟨hx, hb, hml, hown, hts⟩ (mtX0_restOn l D cA ζ s5 v0 x9 v1 K (x10, s11) hx10 (s11.1 - s5.1) (s11.2.1 - s5.2.1) (Nat.add_sub_cancel' hle.1) (Nat.add_sub_cancel' hle.2)) (cwV 2 hts (lw_V q789 q303 qs2 q84 q304) rfl rfl rfl (by decide +kernel) ⟨Nat.le_of_ble_eq_true rfl, Nat.le_of_ble_eq_true rfl⟩) (z_preV hX hS hH (zob_o hf12) rfl) rfl rfl hl.1 rfl (lv_room (Nat.le_of_ble_eq_true rfl)) dX0_addsRests_32 ⟨hc1, hs1⟩) hS (fun q _ hq => hq) (fun q hq => hq) (fun r u t H1 locs ht hvm hw hB hz hk hS => ?_)
        obtain ⟨hw1, hw2⟩ := Prod.mk.inj hw.symm; subst hw1; subst hw2
        have hH : zH D cA ζ s11 H1 := z_at ht.symm hB
        have hcs : s.heap.size + (cells + (s11.1 - s5.1)) = s11.1 := by omega
        have hss : sl0 + (slots + (s11.2.1 - s5.2.1)) = s11.2.1 := by omega
        replace hcM := And.intro hc1 hs1
        generalize cells + (s11.1 - s5.1) = cells at hcs hcM ⊢; generalize slots + (s11.2.1 - s5.2.1) = slots at hss hcM ⊢
        clear hB hk hz hvm ht hle hck hc1 hs1; generalize H1 = H at hH hS ⊢
        refine lv_istore (lv' := [(5, .int x10), (4, .ref x4), (0, .ref v0), (1, .int v1), (3, .ref v3)]) hx hb dX0_addsRests_35 hl (by decide) rfl (fun ls hl => ?_)
        refine lv_aload_n hx hb dX0_addsRests_37 rfl (lv_at hl 2 rfl) ?_
        obtain ⟨f13, hf13, hf⟩ := dz_bo hf
        obtain ⟨x14, hx14, hf⟩ := dz_bo hf
        refine va_get (C := RX0) (T := TX0) (N := 7) hx hb hts in_X0 hown hX.K (zrd_P hX hS hH (zob_o hf13)) 0 rfl rfl 5 (by decide) (hts _ q163) (fun _ hq => hq) (zvr_o hx14) dX0_addsRests_38 ?_
        refine lv_iload_n hx hb dX0_addsRests_41 rfl (lv_at hl 3 rfl) ?_
        refine lv_dup2_11 hx hb dX0_addsRests_42 rfl rfl ?_
        obtain ⟨n15, f16, hn15, hf⟩ := dz_co hf
        obtain ⟨g17, hf⟩ := dz_go hf
        refine va_lald hx hb hX.K (zrd_P hX hS hH (zal_o hn15)) 0 1 rfl rfl g17 dX0_addsRests_43 ?_
        refine lv_topl (fun x18 e_x18 => ?_)
        have hf := dz_ls e_x18 hf
        refine lv_aload_n hx hb dX0_addsRests_44 rfl (lv_at hl 2 rfl) ?_
        obtain ⟨f19, hf19, hf⟩ := dz_bo hf
        obtain ⟨x20, hx20, hf⟩ := dz_bo hf
        refine va_get (C := RX0) (T := TX0) (N := 7) hx hb hts in_X0 hown hX.K (zrd_P hX hS hH (zob_o hf19)) 0 rfl rfl 5 (by decide) (hts _ q163) (fun _ hq => hq) (zvr_o hx20) dX0_addsRests_45 ?_
        refine lv_iload hx hb dX0_addsRests_48 (lv_at hl 0 rfl) ?_
        obtain ⟨n21, f22, hn21, hf⟩ := dz_co hf
        obtain ⟨g23, hf⟩ := dz_go hf
        refine va_lald hx hb hX.K (zrd_P hX hS hH (zal_o hn21)) 0 1 rfl rfl g23 dX0_addsRests_50 ?_
        refine lv_topl (fun x24 e_x24 => ?_)
        have hf := dz_ls e_x24 hf
        refine lv_lor hx hb dX0_addsRests_51 ?_
        refine lv_topl (fun x25 e_x25 => ?_)
        have hf := dz_ls e_x25 hf
        obtain ⟨g29, hf⟩ := dz_go hf
        obtain ⟨n26, f27, hn26, hf⟩ := dz_co hf
        obtain ⟨g30, hf⟩ := dz_go hf
        refine va_last hx hb hX.K hH.2.2 zw_D hS _ 1 (zw_a g29 (zrd_w (zal_o hn26) g29)) rfl g30 dX0_addsRests_52 (fun H1 locs hP1 _ hS => dz_size (fun hz => ?_))
        obtain ⟨s28, e_s28, hf⟩ := dz_lo hf
        have hH := zH_put (x := (.inl (1, n26, .inr (.inl (vp_updL f27 (Int32.toNatClampNeg v1) x25))))) hH hcs g29 hP1 hz
        rw [← e_s28] at hH
        have hcs : s.heap.size + cells = s28.1 := by rw [e_s28]; exact hcs
        have hss : sl0 + slots = s28.2.1 := by rw [e_s28]; exact hss
        clear hP1 hz; generalize H1 = H at hH hS ⊢
        refine lv_aload_n hx hb dX0_addsRests_53 rfl (lv_at hl 2 rfl) ?_
        obtain ⟨f31, hf31, hf⟩ := dz_bo hf
        obtain ⟨x32, hx32, hf⟩ := dz_bo hf
        refine va_get (C := RX0) (T := TX0) (N := 7) hx hb hts in_X0 hown hX.K (zrd_P hX hS hH (zob_o hf31)) 0 rfl rfl 6 (by decide) (hts _ q164) (fun _ hq => hq) (zvr_o hx32) dX0_addsRests_54 ?_
        refine lv_iload_n hx hb dX0_addsRests_57 rfl (lv_at hl 3 rfl) ?_
        refine lv_aload_n hx hb dX0_addsRests_58 rfl (lv_at hl 2 rfl) ?_
        obtain ⟨f33, hf33, hf⟩ := dz_bo hf
        obtain ⟨x34, hx34, hf⟩ := dz_bo hf
        refine va_get (C := RX0) (T := TX0) (N := 7) hx hb hts in_X0 hown hX.K (zrd_P hX hS hH (zob_o hf33)) 0 rfl rfl 6 (by decide) (hts _ q164) (fun _ hq => hq) (zvr_o hx34) dX0_addsRests_59 ?_
        refine lv_iload_n hx hb dX0_addsRests_62 rfl (lv_at hl 3 rfl) ?_
        obtain ⟨n35, f36, hn35, hf⟩ := dz_co hf
        obtain ⟨g37, hf⟩ := dz_go hf
        refine va_iald hx hb hX.K (zrd_P hX hS hH (zai_o hn35)) 0 0 rfl rfl g37 dX0_addsRests_63 ?_
        refine lv_topi (fun x38 e_x38 => ?_)
        have hf := dz_ls e_x38 hf
        refine lv_iconst (v := 1) hx hb dX0_addsRests_64 (by decide) ?_
        refine lv_aload_n hx hb dX0_addsRests_65 rfl (lv_at hl 2 rfl) ?_
        obtain ⟨f39, hf39, hf⟩ := dz_bo hf
        obtain ⟨x40, hx40, hf⟩ := dz_bo hf
        refine va_get (C := RX0) (T := TX0) (N := 7) hx hb hts in_X0 hown hX.K (zrd_P hX hS hH (zob_o hf39)) 0 rfl rfl 6 (by decide) (hts _ q164) (fun _ hq => hq) (zvr_o hx40) dX0_addsRests_66 ?_
        refine lv_iload hx hb dX0_addsRests_69 (lv_at hl 0 rfl) ?_
        obtain ⟨n41, f42, hn41, hf⟩ := dz_co hf
        obtain ⟨g43, hf⟩ := dz_go hf
        refine va_iald hx hb hX.K (zrd_P hX hS hH (zai_o hn41)) 0 0 rfl rfl g43 dX0_addsRests_71 ?_
        refine lv_topi (fun x44 e_x44 => ?_)
        have hf := dz_ls e_x44 hf
        refine lv_iadd hx hb dX0_addsRests_72 ?_
        obtain ⟨x45, hx45, hf⟩ := dz_bo hf
        refine va_calli (va_runS (As := [.int x38, .int (1 + x44)]) (rest := [.int v1, .ref x32]) ⟨hx, hb, hml, hown, hts⟩ (mtJ5_max l x38 (1 + x44) K x45 hx45) (va_cwS 2 hts (lw_S q1409 q814 q92 q815) rfl rfl rfl (by decide +kernel) ⟨Nat.le_of_ble_eq_true rfl, Nat.le_of_ble_eq_true rfl⟩) ⟨fun a U g mk q => q, fun U hU hW => ⟨rfl, trivial⟩⟩ rfl rfl hl.1 rfl (lv_room (Nat.le_of_ble_eq_true rfl)) dX0_addsRests_73 ⟨hcM.1, hcM.2⟩) hS (fun q _ hq => hq.elim) (fun q hq => hq.elim) (fun r u t H1 locs ht hvm hw hB hz hk hS => dz_size (fun hz9 => ?_))
        replace hw := hw.symm; subst hw
        replace hH := zH_keep hH hcs hz hk hz9
        clear hB hk hz hvm ht hz9; generalize H1 = H at hH hS ⊢
        refine W.widen (k := cells) (n := slots) (Nat.le_refl _) (Nat.le_refl _) ?_
        obtain ⟨g49, hf⟩ := dz_go hf
        obtain ⟨n46, f47, hn46, hf⟩ := dz_co hf
        obtain ⟨g50, hf⟩ := dz_go hf
        refine va_iast hx hb hX.K hH.2.2 zw_D hS _ 0 (zw_a g49 (zrd_w (zai_o hn46) g49)) rfl g50 dX0_addsRests_76 (fun H1 locs hP1 _ hS => dz_size (fun hz => ?_))
        obtain ⟨s48, e_s48, hf⟩ := dz_lo hf
        have hH := zH_put (x := (.inl (0, n46, .inl (upd f47 (Int32.toNatClampNeg v1) x45)))) hH hcs g49 hP1 hz
        rw [← e_s48] at hH
        have hcs : s.heap.size + cells = s48.1 := by rw [e_s48]; exact hcs
        have hss : sl0 + slots = s48.2.1 := by rw [e_s48]; exact hss
        clear hP1 hz; generalize H1 = H at hH hS ⊢
        refine lv_goto (tgt := 5) hx hb dX0_addsRests_77 (by decide) ?_
        exact ih v0 v1 v3 s48 H locs cells slots hH hS hcs hss hcM ls (lv_sub hl [2, 3, 4] rfl) hf
set_option maxHeartbeats 4000000 in
set_option maxRecDepth 100000 in
theorem mtX0_addsRests (l : Launch) (D : va_G) (cA : Nat → ClassId) (ζ : pZ) (τ : pH) (h : Nat) (a0 : Int32) (a1 : Nat) (K : Nat) (res : (Unit × pH)) (hf : fnX0_addsRests K ζ h a0 a1 τ = some res) (M S : Nat) (hM : τ.1 + M = res.2.1) (hS0 : τ.2.1 + S = res.2.2.1) : Met l yX0_addsRests (ws_ yX0_addsRests cX0_addsRests 6 (none)) ({ frames := 105, cells := M, slots := S, locals := 2419 }) (zPc D cA ζ τ [.ref h, .int a0, .ref a1]) (zQv D cA ζ res) M S (zA ζ) := by
  refine Met.ofW (cc := cX0_addsRests) (maxL := 6) (ret := none) (by decide +kernel) rfl ?_
  intro p e s m args below meth c s₁ B hml hv
  obtain ⟨rfl, hX, hH⟩ := hv
  have hx := B.exec
  have hb := B.bytes
  have hr := B.returns
  have hts := atoms_spec (ws := ws_ yX0_addsRests cX0_addsRests 6 (none)) B.pre
  have hts : ∀ w ∈ lw_all, w.before _ s = true := fun w h => hts w (List.mem_cons_of_mem _ h)
  have hown : s.vm.findClass RX0 = some m.cls := findClass_of_methodNamed B.named
  have hlocks := B.notSynchronized
  have hM : s.heap.size + M = res.2.1 := by rw [hH.1]; exact hM
  have hcs : s.heap.size + 0 = τ.1 := hH.1
  have hss : τ.2.1 + 0 = τ.2.1 := rfl
  generalize hsl0 : τ.2.1 = sl0 at hS0 hss
  have hss : sl0 + 0 = τ.2.1 := by rw [hsl0]; rfl
  have hS : va_S (zA ζ) s.heap s.heap [] := va_S.rf
  generalize hHe : s.heap = H at hH hS ⊢
  have hS : va_S (zA ζ) s.heap H [] := by rw [hHe]; exact hS
  generalize ([] : List Loc) = locs at hS ⊢
  have hl := lv_entry ([.ref h, .int a0, .ref a1]) (n := 6) (Nat.le_of_ble_eq_true rfl)
  rw [lg_entry_eq]
  generalize (lg_sl ([.ref h, .int a0, .ref a1]) ++ List.replicate (6 - (lg_sl ([.ref h, .int a0, .ref a1])).length) Slot.unset).toArray = ls at hl ⊢
  have hl : lv_has ls 6 [(0, .ref h), (1, .int a0), (2, .ref a1)] := hl
  have hf : (dz_b (zob ζ τ a1 10) fun f3 => zcl τ (fnX8_iterator K ζ a1 τ) fun x1 s2 => (lfX0_addsRests K ζ K) h a0 x1 s2 : Option (Unit × pH)) = some res := hf
  refine z_gen (fun cells slots hc0 hs0 => ?_)
  have hcs : s.heap.size + cells = τ.1 := by rw [hc0]; exact hcs
  have hss : sl0 + slots = τ.2.1 := by rw [hs0]; exact hss
  have hcM : cells ≤ M ∧ slots ≤ S := by rw [hc0, hs0]; exact ⟨Nat.zero_le _, Nat.zero_le _⟩
  clear hc0 hs0
  have ih := wlX0_addsRests (l := l) (e := e) (below := below) (D := D) (cA := cA) hX K res M S sl0 hM hS0 h a0 a1 hx hb hr hlocks hml hown hts K
  refine lv_aload_n hx hb dX0_addsRests_0 rfl (lv_at hl 2 rfl) ?_
  obtain ⟨f3, hf3, hf⟩ := dz_bo hf
  obtain ⟨x1, s2, hx1, hle, hck, hf⟩ := zcl_o hf
  have hc1 : cells + (s2.1 - τ.1) ≤ M := by omega
  have hs1 : slots + (s2.2.1 - τ.2.1) ≤ S := by omega
  refine va_callr (va_runV (As := []) (rest := []) ⟨hx, hb, hml, hown, hts⟩ (mtX8_iterator l D cA ζ τ a1 K (x1, s2) hx1 (s2.1 - τ.1) (s2.2.1 - τ.2.1) (Nat.add_sub_cancel' hle.1) (Nat.add_sub_cancel' hle.2)) (cwV 0 hts (lw_V q780 q246 q247 q98 q248) rfl rfl rfl (by decide +kernel) ⟨Nat.le_of_ble_eq_true rfl, Nat.le_of_ble_eq_true rfl⟩) (z_preV hX hS hH (zob_o hf3) rfl) rfl rfl hl.1 rfl (lv_room (Nat.le_of_ble_eq_true rfl)) dX0_addsRests_1 ⟨hc1, hs1⟩) hS (fun q _ hq => hq) (fun q hq => hq) (fun u r t H1 locs ht hvm hw hB hz hk hS => ?_)
  obtain ⟨hw, hB⟩ := hB
  obtain ⟨hw1, hw2⟩ := Prod.mk.inj hw.symm; subst hw1; subst hw2
  have hH : zH D cA ζ s2 H1 := z_at ht.symm hB
  have hcs : s.heap.size + (cells + (s2.1 - τ.1)) = s2.1 := by omega
  have hss : sl0 + (slots + (s2.2.1 - τ.2.1)) = s2.2.1 := by omega
  replace hcM := And.intro hc1 hs1
  generalize cells + (s2.1 - τ.1) = cells at hcs hcM ⊢; generalize slots + (s2.2.1 - τ.2.1) = slots at hss hcM ⊢
  clear hB hk hz hvm ht hle hck hc1 hs1; generalize H1 = H at hH hS ⊢
  refine lv_astore_n (lv' := [(3, .ref x1), (0, .ref h), (1, .int a0), (2, .ref a1)]) hx hb dX0_addsRests_4 rfl hl (by decide) rfl (fun ls hl => ?_)
  exact ih h a0 x1 s2 H locs cells slots hH hS hcs hss hcM ls (lv_sub hl [1, 2, 0] rfl) hf

