noncomputable def lfX6_findsPair_5 (K : Nat) (ζ : pZ) : Nat → (Nat → pH → Option (Int32 × pH)) × (Nat → pH → Option (Int32 × pH)) := Nat.rec (motive := fun _ => (Nat → pH → Option (Int32 × pH)) × (Nat → pH → Option (Int32 × pH))) ((fun _ _ => none), (fun _ _ => none)) (fun _ G => ((fun v0 τ => dz_b (zob ζ τ v0 5) fun f1 => dz_b (zvi (f1[2]?)) fun x2 => if (99 : Int32) < x2 then (some (0, τ)) else (dz_b (zwo ζ τ v0 5 3) fun f3 => dz_l (zst τ v0 (.inr (5, f3.set 3 (.int 1)))) fun s4 => G.2 v0 s4)), (fun v0 τ => dz_b (zob ζ τ v0 5) fun f1 => dz_b (zvi (f1[3]?)) fun x2 => if (99 : Int32) < x2 then (dz_b (zob ζ τ v0 5) fun f3 => dz_b (zvi (f3[2]?)) fun x4 => dz_l (x4 + 1) fun x5 => dz_b (zwo ζ τ v0 5 2) fun f6 => dz_l (zst τ v0 (.inr (5, f6.set 2 (.int x5)))) fun s7 => G.1 v0 s7) else (dz_b (zob ζ τ v0 5) fun f10 => zcl τ (fnX6_pairFault_5 K ζ v0 τ) fun x8 s9 => if x8 = (0 : Int32) then (some (1, s9)) else (dz_b (zob ζ s9 v0 5) fun f11 => dz_b (zvi (f11[3]?)) fun x12 => dz_l (x12 + 1) fun x13 => dz_b (zwo ζ s9 v0 5 3) fun f14 => dz_l (zst s9 v0 (.inr (5, f14.set 3 (.int x13)))) fun s15 => G.2 v0 s15)))))
noncomputable def fnX6_findsPair_5 (K : Nat) (ζ : pZ) (h : Nat) (τ : pH) : Option (Int32 × pH) := dz_b (zwo ζ τ h 5 2) fun f1 => dz_l (zst τ h (.inr (5, f1.set 2 (.int 1)))) fun s2 => (lfX6_findsPair_5 K ζ K).1 h s2
set_option maxHeartbeats 4000000 in
set_option maxRecDepth 100000 in
theorem wlX6_findsPair_5 {p : Program} {l : Launch} {e : Env} {s : State} {m : MethodId} {below : List Frame} {meth : Method} {c : Code} {D : va_G} {cA : Nat → ClassId} {ζ : pZ} (hX : zX D cA ζ s) (K : Nat) (res : (Int32 × pH)) (M S sl0 : Nat) (hM : s.heap.size + M = res.2.1) (hS0 : sl0 + S = res.2.2.1) (h : Nat) (hx : p.tables.exec = Jvm.exec) (hb : c.code = cX6_findsPair) (hr : meth.sig.returnType = some .boolean) (hlocks : meth.locks = false) (hml : c.maxLocals = 1) (hown : s.vm.findClass RX6 = some m.cls) (hts : ∀ w ∈ lw_all, w.before ([.ref h] : List Value).toArray s = true) : ∀ k : Nat, (∀ (v0 : Nat) (τ : pH) (H : Heap) (locs : List Loc) (cells slots : Nat), zH D cA ζ τ H → va_S (zA ζ) s.heap H locs → s.heap.size + cells = τ.1 → sl0 + slots = τ.2.1 → cells ≤ M ∧ slots ≤ S → ∀ (ls : Array Slot), lv_has ls 1 [(0, .ref v0)] → (lfX6_findsPair_5 K ζ k).1 v0 τ = some res → W p l e (headSpec (ws_ yX6_findsPair cX6_findsPair 1 (some .boolean)) ({ frames := 102, cells := M, slots := S, locals := 2345 })).room s m ([.ref h] : List Value).toArray below meth c H locs cells slots (MQ below (zQi D cA ζ res) ([.ref h] : List Value).toArray s M S (zA ζ)) (F0 m 5 ls [])) ∧ (∀ (v0 : Nat) (τ : pH) (H : Heap) (locs : List Loc) (cells slots : Nat), zH D cA ζ τ H → va_S (zA ζ) s.heap H locs → s.heap.size + cells = τ.1 → sl0 + slots = τ.2.1 → cells ≤ M ∧ slots ≤ S → ∀ (ls : Array Slot), lv_has ls 1 [(0, .ref v0)] → (lfX6_findsPair_5 K ζ k).2 v0 τ = some res → W p l e (headSpec (ws_ yX6_findsPair cX6_findsPair 1 (some .boolean)) ({ frames := 102, cells := M, slots := S, locals := 2345 })).room s m ([.ref h] : List Value).toArray below meth c H locs cells slots (MQ below (zQi D cA ζ res) ([.ref h] : List Value).toArray s M S (zA ζ)) (F0 m 19 ls [])) := by
  intro k
  induction k with
  | zero =>
    exact ⟨fun _ _ _ _ _ _ _ _ _ _ _ _ _ hf => (by cases hf), fun _ _ _ _ _ _ _ _ _ _ _ _ _ hf => (by cases hf)⟩
  | succ k ih =>
    refine ⟨?_, ?_⟩
    · intro v0 τ H locs cells slots hH hS hcs hss hcM ls hl hf
      have hf : (dz_b (zob ζ τ v0 5) fun f1 => dz_b (zvi (f1[2]?)) fun x2 => if (99 : Int32) < x2 then (some (0, τ)) else (dz_b (zwo ζ τ v0 5 3) fun f3 => dz_l (zst τ v0 (.inr (5, f3.set 3 (.int 1)))) fun s4 => (lfX6_findsPair_5 K ζ k).2 v0 s4) : Option (Int32 × pH)) = some res := hf
      refine lv_aload_n hx hb dX6_findsPair_5 rfl (lv_at hl 0 rfl) ?_
      obtain ⟨f1, hf1, hf⟩ := dz_bo hf
      obtain ⟨x2, hx2, hf⟩ := dz_bo hf
      refine va_get (C := RX7) (T := TX7) (N := 8) hx hb hts in_X7 hown hX.K (zrd_P hX hS hH (zob_o hf1)) 0 rfl rfl 2 (by decide) (hts _ q544) (fun _ hq => hq) (zvi_o hx2) dX6_findsPair_6 ?_
      refine lv_bipush (v := 99) hx hb dX6_findsPair_9 (by decide) ?_
      refine lv_icmp_gt (tgt := 63) hx hb dX6_findsPair_11 (by decide) (fun c11 => ?_) (fun c11 => ?_)
      · have hf := dz_t c11 hf
        refine lv_iconst (v := 0) hx hb dX6_findsPair_63 (by decide) ?_
        obtain ⟨hM1, hS1⟩ : cells = M ∧ slots = S := by have hq := congrArg Prod.snd (Option.some.inj hf); rw [← hq] at hM hS0; have hM : s.heap.size + M = τ.1 := hM; have hS0 : sl0 + S = τ.2.1 := hS0; omega
        refine W.widen (k := M) (n := S) (Nat.le_of_eq hM1) (Nat.le_of_eq hS1) ?_
        exact W.zret (v := 0) hx hb hr rfl (fun t ht hW => ⟨⟨0, τ, rfl, Option.some.inj hf, z_at ht hH⟩, hS.F ht⟩) hS.2.2 dX6_findsPair_64
      · have hf := dz_f c11 hf
        refine lv_aload_n hx hb dX6_findsPair_14 rfl (lv_at hl 0 rfl) ?_
        refine lv_iconst (v := 1) hx hb dX6_findsPair_15 (by decide) ?_
        obtain ⟨f3, hf3, hf⟩ := dz_bo hf
        obtain ⟨ha_f3, he_f3, hk_f3⟩ := zwo_o hf3
        refine zq_put (C := RX7) (T := TX7) (N := 8) hx hb hts in_X7 tyX7 tyX7_ok nmX7 hown hX.K hH.2.2 zw_D hS _ (zw_o ha_f3 he_f3) rfl 3 (by decide) (hts _ q547) (fun _ hq => hq) rfl rfl rfl rfl hk_f3 dX6_findsPair_16 (fun H1 locs hP1 _ hS => dz_size (fun hz => ?_))
        obtain ⟨s4, e_s4, hf⟩ := dz_lo hf
        have hH := zH_put (x := .inr (5, f3.set 3 (.int 1))) hH hcs ha_f3 hP1 hz
        rw [← e_s4] at hH
        have hcs : s.heap.size + cells = s4.1 := by rw [e_s4]; exact hcs
        have hss : sl0 + slots = s4.2.1 := by rw [e_s4]; exact hss
        clear hP1 hz; generalize H1 = H at hH hS ⊢
        exact ih.2 v0 s4 H locs cells slots hH hS hcs hss hcM ls (lv_sub hl [0] rfl) hf
    · intro v0 τ H locs cells slots hH hS hcs hss hcM ls hl hf
      have hf : (dz_b (zob ζ τ v0 5) fun f1 => dz_b (zvi (f1[3]?)) fun x2 => if (99 : Int32) < x2 then (dz_b (zob ζ τ v0 5) fun f3 => dz_b (zvi (f3[2]?)) fun x4 => dz_l (x4 + 1) fun x5 => dz_b (zwo ζ τ v0 5 2) fun f6 => dz_l (zst τ v0 (.inr (5, f6.set 2 (.int x5)))) fun s7 => (lfX6_findsPair_5 K ζ k).1 v0 s7) else (dz_b (zob ζ τ v0 5) fun f10 => zcl τ (fnX6_pairFault_5 K ζ v0 τ) fun x8 s9 => if x8 = (0 : Int32) then (some (1, s9)) else (dz_b (zob ζ s9 v0 5) fun f11 => dz_b (zvi (f11[3]?)) fun x12 => dz_l (x12 + 1) fun x13 => dz_b (zwo ζ s9 v0 5 3) fun f14 => dz_l (zst s9 v0 (.inr (5, f14.set 3 (.int x13)))) fun s15 => (lfX6_findsPair_5 K ζ k).2 v0 s15)) : Option (Int32 × pH)) = some res := hf
      refine lv_aload_n hx hb dX6_findsPair_19 rfl (lv_at hl 0 rfl) ?_
      obtain ⟨f1, hf1, hf⟩ := dz_bo hf
      obtain ⟨x2, hx2, hf⟩ := dz_bo hf
      refine va_get (C := RX7) (T := TX7) (N := 8) hx hb hts in_X7 hown hX.K (zrd_P hX hS hH (zob_o hf1)) 0 rfl rfl 3 (by decide) (hts _ q547) (fun _ hq => hq) (zvi_o hx2) dX6_findsPair_20 ?_
      refine lv_bipush (v := 99) hx hb dX6_findsPair_23 (by decide) ?_
      refine lv_icmp_gt (tgt := 50) hx hb dX6_findsPair_25 (by decide) (fun c25 => ?_) (fun c25 => ?_)
      · have hf := dz_t c25 hf
        refine lv_aload_n hx hb dX6_findsPair_50 rfl (lv_at hl 0 rfl) ?_
        refine lv_dup hx hb dX6_findsPair_51 rfl ?_
        obtain ⟨f3, hf3, hf⟩ := dz_bo hf
        obtain ⟨x4, hx4, hf⟩ := dz_bo hf
        refine va_get (C := RX7) (T := TX7) (N := 8) hx hb hts in_X7 hown hX.K (zrd_P hX hS hH (zob_o hf3)) 0 rfl rfl 2 (by decide) (hts _ q544) (fun _ hq => hq) (zvi_o hx4) dX6_findsPair_52 ?_
        refine lv_iconst (v := 1) hx hb dX6_findsPair_55 (by decide) ?_
        refine lv_iadd hx hb dX6_findsPair_56 ?_
        refine lv_topi (fun x5 e_x5 => ?_)
        have hf := dz_ls e_x5 hf
        obtain ⟨f6, hf6, hf⟩ := dz_bo hf
        obtain ⟨ha_f6, he_f6, hk_f6⟩ := zwo_o hf6
        refine zq_put (C := RX7) (T := TX7) (N := 8) hx hb hts in_X7 tyX7 tyX7_ok nmX7 hown hX.K hH.2.2 zw_D hS _ (zw_o ha_f6 he_f6) rfl 2 (by decide) (hts _ q544) (fun _ hq => hq) rfl rfl rfl rfl hk_f6 dX6_findsPair_57 (fun H1 locs hP1 _ hS => dz_size (fun hz => ?_))
        obtain ⟨s7, e_s7, hf⟩ := dz_lo hf
        have hH := zH_put (x := .inr (5, f6.set 2 (.int x5))) hH hcs ha_f6 hP1 hz
        rw [← e_s7] at hH
        have hcs : s.heap.size + cells = s7.1 := by rw [e_s7]; exact hcs
        have hss : sl0 + slots = s7.2.1 := by rw [e_s7]; exact hss
        clear hP1 hz; generalize H1 = H at hH hS ⊢
        refine lv_goto (tgt := 5) hx hb dX6_findsPair_60 (by decide) ?_
        exact ih.1 v0 s7 H locs cells slots hH hS hcs hss hcM ls (lv_sub hl [0] rfl) hf
      · have hf := dz_f c25 hf
        refine lv_aload_n hx hb dX6_findsPair_28 rfl (lv_at hl 0 rfl) ?_
        obtain ⟨f10, hf10, hf⟩ := dz_bo hf
        obtain ⟨x8, s9, hx8, hle, hck, hf⟩ := zcl_o hf
        have hc1 : cells + (s9.1 - τ.1) ≤ M := by omega
        have hs1 : slots + (s9.2.1 - τ.2.1) ≤ S := by omega
        refine va_calli (va_runU (x := ⟨"PrimeProofs$Line", "pairFault", "()I"⟩) (owner := "PrimeProofs$Line") (As := []) (rest := []) ⟨hx, hb, hml, hown, hts⟩ (mtX6_pairFault_5 l D cA ζ τ v0 K (x8, s9) hx8 (s9.1 - τ.1) (s9.2.1 - τ.2.1) (Nat.add_sub_cancel' hle.1) (Nat.add_sub_cancel' hle.2)) (va_cwU 0 hts (zU_in q451 q453 q458 q452 q96 q459) rfl rfl rfl rfl (by decide +kernel) ⟨Nat.le_of_ble_eq_true rfl, Nat.le_of_ble_eq_true rfl⟩) (z_preV hX hS hH (zob_o hf10) rfl) rfl rfl hl.1 rfl (lv_room (Nat.le_of_ble_eq_true rfl)) dX6_findsPair_29 ⟨hc1, hs1⟩) hS (fun q _ hq => hq) (fun q hq => hq) (fun r u t H1 locs ht hvm hw hB hz hk hS => ?_)
        obtain ⟨hw1, hw2⟩ := Prod.mk.inj hw.symm; subst hw1; subst hw2
        have hH : zH D cA ζ s9 H1 := z_at ht.symm hB
        have hcs : s.heap.size + (cells + (s9.1 - τ.1)) = s9.1 := by omega
        have hss : sl0 + (slots + (s9.2.1 - τ.2.1)) = s9.2.1 := by omega
        replace hcM := And.intro hc1 hs1
        generalize cells + (s9.1 - τ.1) = cells at hcs hcM ⊢; generalize slots + (s9.2.1 - τ.2.1) = slots at hss hcM ⊢
        clear hB hk hz hvm ht hle hck hc1 hs1; generalize H1 = H at hH hS ⊢
        refine lv_if_ne (tgt := 37) hx hb dX6_findsPair_32 (by decide) (fun c32 => ?_) (fun c32 => ?_)
        · have hf := dz_f c32 hf
          refine lv_aload_n hx hb dX6_findsPair_37 rfl (lv_at hl 0 rfl) ?_
          refine lv_dup hx hb dX6_findsPair_38 rfl ?_
          obtain ⟨f11, hf11, hf⟩ := dz_bo hf
          obtain ⟨x12, hx12, hf⟩ := dz_bo hf
          refine va_get (C := RX7) (T := TX7) (N := 8) hx hb hts in_X7 hown hX.K (zrd_P hX hS hH (zob_o hf11)) 0 rfl rfl 3 (by decide) (hts _ q547) (fun _ hq => hq) (zvi_o hx12) dX6_findsPair_39 ?_
          refine lv_iconst (v := 1) hx hb dX6_findsPair_42 (by decide) ?_
          refine lv_iadd hx hb dX6_findsPair_43 ?_
          refine lv_topi (fun x13 e_x13 => ?_)
          have hf := dz_ls e_x13 hf
          obtain ⟨f14, hf14, hf⟩ := dz_bo hf
          obtain ⟨ha_f14, he_f14, hk_f14⟩ := zwo_o hf14
          refine zq_put (C := RX7) (T := TX7) (N := 8) hx hb hts in_X7 tyX7 tyX7_ok nmX7 hown hX.K hH.2.2 zw_D hS _ (zw_o ha_f14 he_f14) rfl 3 (by decide) (hts _ q547) (fun _ hq => hq) rfl rfl rfl rfl hk_f14 dX6_findsPair_44 (fun H1 locs hP1 _ hS => dz_size (fun hz => ?_))
          obtain ⟨s15, e_s15, hf⟩ := dz_lo hf
          have hH := zH_put (x := .inr (5, f14.set 3 (.int x13))) hH hcs ha_f14 hP1 hz
          rw [← e_s15] at hH
          have hcs : s.heap.size + cells = s15.1 := by rw [e_s15]; exact hcs
          have hss : sl0 + slots = s15.2.1 := by rw [e_s15]; exact hss
          clear hP1 hz; generalize H1 = H at hH hS ⊢
          refine lv_goto (tgt := 19) hx hb dX6_findsPair_47 (by decide) ?_
          exact ih.2 v0 s15 H locs cells slots hH hS hcs hss hcM ls (lv_sub hl [0] rfl) hf
        · have hf := dz_t c32 hf
          refine lv_iconst (v := 1) hx hb dX6_findsPair_35 (by decide) ?_
          obtain ⟨hM1, hS1⟩ : cells = M ∧ slots = S := by have hq := congrArg Prod.snd (Option.some.inj hf); rw [← hq] at hM hS0; have hM : s.heap.size + M = s9.1 := hM; have hS0 : sl0 + S = s9.2.1 := hS0; omega
          refine W.widen (k := M) (n := S) (Nat.le_of_eq hM1) (Nat.le_of_eq hS1) ?_
          exact W.zret (v := 1) hx hb hr rfl (fun t ht hW => ⟨⟨1, s9, rfl, Option.some.inj hf, z_at ht hH⟩, hS.F ht⟩) hS.2.2 dX6_findsPair_36
set_option maxHeartbeats 4000000 in
set_option maxRecDepth 100000 in
theorem mtX6_findsPair_5 (l : Launch) (D : va_G) (cA : Nat → ClassId) (ζ : pZ) (τ : pH) (h : Nat) (K : Nat) (res : (Int32 × pH)) (hf : fnX6_findsPair_5 K ζ h τ = some res) (M S : Nat) (hM : τ.1 + M = res.2.1) (hS0 : τ.2.1 + S = res.2.2.1) : Met l yX6_findsPair (ws_ yX6_findsPair cX6_findsPair 1 (some .boolean)) ({ frames := 102, cells := M, slots := S, locals := 2345 }) (zPc D cA ζ τ [.ref h]) (zQi D cA ζ res) M S (zA ζ) := by
  refine Met.ofW (cc := cX6_findsPair) (maxL := 1) (ret := some .boolean) (by decide +kernel) rfl ?_
  intro p e s m args below meth c s₁ B hml hv
  obtain ⟨rfl, hX, hH⟩ := hv
  have hx := B.exec
  have hb := B.bytes
  have hr := B.returns
  have hts := atoms_spec (ws := ws_ yX6_findsPair cX6_findsPair 1 (some .boolean)) B.pre
  have hts : ∀ w ∈ lw_all, w.before _ s = true := fun w h => hts w (List.mem_cons_of_mem _ h)
  have hown : s.vm.findClass RX6 = some m.cls := findClass_of_methodNamed B.named
  have hlocks := B.notSynchronized
  have hM : s.heap.size + M = res.2.1 := by rw [hH.1]; exact hM
  have hcs : s.heap.size + 0 = τ.1 := hH.1
  have hss : τ.2.1 + 0 = τ.2.1 := rfl
  generalize hsl0 : τ.2.1 = sl0 at hS0 hss
  have hss : sl0 + 0 = τ.2.1 := by rw [hsl0]; rfl
  have hS : va_S (zA ζ) s.heap s.heap [] := va_S.rf
  generalize hHe : s.heap = H at hH hS ⊢
  have hS : va_S (zA ζ) s.heap H [] := by rw [hHe]; exact hS
  generalize ([] : List Loc) = locs at hS ⊢
  have hl := lv_entry ([.ref h]) (n := 1) (Nat.le_of_ble_eq_true rfl)
  rw [lg_entry_eq]
  generalize (lg_sl ([.ref h]) ++ List.replicate (1 - (lg_sl ([.ref h])).length) Slot.unset).toArray = ls at hl ⊢
  have hl : lv_has ls 1 [(0, .ref h)] := hl
  have hf : (dz_b (zwo ζ τ h 5 2) fun f1 => dz_l (zst τ h (.inr (5, f1.set 2 (.int 1)))) fun s2 => (lfX6_findsPair_5 K ζ K).1 h s2 : Option (Int32 × pH)) = some res := hf
  refine z_gen (fun cells slots hc0 hs0 => ?_)
  have hcs : s.heap.size + cells = τ.1 := by rw [hc0]; exact hcs
  have hss : sl0 + slots = τ.2.1 := by rw [hs0]; exact hss
  have hcM : cells ≤ M ∧ slots ≤ S := by rw [hc0, hs0]; exact ⟨Nat.zero_le _, Nat.zero_le _⟩
  clear hc0 hs0
  have ih := wlX6_findsPair_5 (l := l) (e := e) (below := below) (D := D) (cA := cA) hX K res M S sl0 hM hS0 h hx hb hr hlocks hml hown hts K
  refine lv_aload_n hx hb dX6_findsPair_0 rfl (lv_at hl 0 rfl) ?_
  refine lv_iconst (v := 1) hx hb dX6_findsPair_1 (by decide) ?_
  obtain ⟨f1, hf1, hf⟩ := dz_bo hf
  obtain ⟨ha_f1, he_f1, hk_f1⟩ := zwo_o hf1
  refine zq_put (C := RX7) (T := TX7) (N := 8) hx hb hts in_X7 tyX7 tyX7_ok nmX7 hown hX.K hH.2.2 zw_D hS _ (zw_o ha_f1 he_f1) rfl 2 (by decide) (hts _ q544) (fun _ hq => hq) rfl rfl rfl rfl hk_f1 dX6_findsPair_2 (fun H1 locs hP1 _ hS => dz_size (fun hz => ?_))
  obtain ⟨s2, e_s2, hf⟩ := dz_lo hf
  have hH := zH_put (x := .inr (5, f1.set 2 (.int 1))) hH hcs ha_f1 hP1 hz
  rw [← e_s2] at hH
  have hcs : s.heap.size + cells = s2.1 := by rw [e_s2]; exact hcs
  have hss : sl0 + slots = s2.2.1 := by rw [e_s2]; exact hss
  clear hP1 hz; generalize H1 = H at hH hS ⊢
  exact ih.1 h s2 H locs cells slots hH hS hcs hss hcM ls (lv_sub hl [0] rfl) hf

noncomputable def lfX6_isFound_5 (K : Nat) (ζ : pZ) : Nat → (pH → Option (Int32 × pH)) := Nat.rec (motive := fun _ => (pH → Option (Int32 × pH))) (fun _ => none) (fun _ G => (fun τ => some (1, τ)))
noncomputable def fnX6_isFound_5 (K : Nat) (ζ : pZ) (h : Nat) (τ : pH) : Option (Int32 × pH) := dz_b (zob ζ τ h 5) fun f3 => zcl τ (fnX7_lays K ζ h τ) fun _ s2 => dz_b (zob ζ s2 h 5) fun f6 => zcl s2 (fnX6_findsBases_5 K ζ h s2) fun x4 s5 => if x4 = (0 : Int32) then (some (0, s5)) else (dz_b (zob ζ s5 h 5) fun f9 => zcl s5 (fnX6_hasPair_5 K ζ h s5) fun x7 s8 => if x7 = (0 : Int32) then ((lfX6_isFound_5 K ζ K) s8) else (dz_b (zob ζ s8 h 5) fun f12 => zcl s8 (fnX6_findsPair_5 K ζ h s8) fun x10 s11 => if x10 = (0 : Int32) then (some (0, s11)) else ((lfX6_isFound_5 K ζ K) s11)))
set_option maxHeartbeats 4000000 in
set_option maxRecDepth 100000 in
theorem wlX6_isFound_5 {p : Program} {l : Launch} {e : Env} {s : State} {m : MethodId} {below : List Frame} {meth : Method} {c : Code} {D : va_G} {cA : Nat → ClassId} {ζ : pZ} (hX : zX D cA ζ s) (K : Nat) (res : (Int32 × pH)) (M S sl0 : Nat) (hM : s.heap.size + M = res.2.1) (hS0 : sl0 + S = res.2.2.1) (h : Nat) (hx : p.tables.exec = Jvm.exec) (hb : c.code = cX6_isFound) (hr : meth.sig.returnType = some .boolean) (hlocks : meth.locks = false) (hml : c.maxLocals = 1) (hown : s.vm.findClass RX6 = some m.cls) (hts : ∀ w ∈ lw_all, w.before ([.ref h] : List Value).toArray s = true) : ∀ k : Nat, (∀  (τ : pH) (H : Heap) (locs : List Loc) (cells slots : Nat), zH D cA ζ τ H → va_S (zA ζ) s.heap H locs → s.heap.size + cells = τ.1 → sl0 + slots = τ.2.1 → cells ≤ M ∧ slots ≤ S → ∀ (ls : Array Slot), lv_has ls 1 [] → (lfX6_isFound_5 K ζ k) τ = some res → W p l e (headSpec (ws_ yX6_isFound cX6_isFound 1 (some .boolean)) ({ frames := 104, cells := M, slots := S, locals := 2387 })).room s m ([.ref h] : List Value).toArray below meth c H locs cells slots (MQ below (zQi D cA ζ res) ([.ref h] : List Value).toArray s M S (zA ζ)) (F0 m 25 ls [])) := by
  intro k
  induction k with
  | zero =>
    exact fun _ _ _ _ _ _ _ _ _ _ _ _ hf => (by cases hf)
  | succ k ih =>
    · intro τ H locs cells slots hH hS hcs hss hcM ls hl hf
      have hf : (some (1, τ) : Option (Int32 × pH)) = some res := hf
      refine lv_iconst (v := 1) hx hb dX6_isFound_25 (by decide) ?_
      refine lv_goto (tgt := 30) hx hb dX6_isFound_26 (by decide) ?_
      obtain ⟨hM1, hS1⟩ : cells = M ∧ slots = S := by have hq := congrArg Prod.snd (Option.some.inj hf); rw [← hq] at hM hS0; have hM : s.heap.size + M = τ.1 := hM; have hS0 : sl0 + S = τ.2.1 := hS0; omega
      refine W.widen (k := M) (n := S) (Nat.le_of_eq hM1) (Nat.le_of_eq hS1) ?_
      exact W.zret (v := 1) hx hb hr rfl (fun t ht hW => ⟨⟨1, τ, rfl, Option.some.inj hf, z_at ht hH⟩, hS.F ht⟩) hS.2.2 dX6_isFound_30
set_option maxHeartbeats 4000000 in
set_option maxRecDepth 100000 in
theorem mtX6_isFound_5 (l : Launch) (D : va_G) (cA : Nat → ClassId) (ζ : pZ) (τ : pH) (h : Nat) (K : Nat) (res : (Int32 × pH)) (hf : fnX6_isFound_5 K ζ h τ = some res) (M S : Nat) (hM : τ.1 + M = res.2.1) (hS0 : τ.2.1 + S = res.2.2.1) : Met l yX6_isFound (ws_ yX6_isFound cX6_isFound 1 (some .boolean)) ({ frames := 104, cells := M, slots := S, locals := 2387 }) (zPc D cA ζ τ [.ref h]) (zQi D cA ζ res) M S (zA ζ) := by
  refine Met.ofW (cc := cX6_isFound) (maxL := 1) (ret := some .boolean) (by decide +kernel) rfl ?_
  intro p e s m args below meth c s₁ B hml hv
  obtain ⟨rfl, hX, hH⟩ := hv
  have hx := B.exec
  have hb := B.bytes
  have hr := B.returns
  have hts := atoms_spec (ws := ws_ yX6_isFound cX6_isFound 1 (some .boolean)) B.pre
  have hts : ∀ w ∈ lw_all, w.before _ s = true := fun w h => hts w (List.mem_cons_of_mem _ h)
  have hown : s.vm.findClass RX6 = some m.cls := findClass_of_methodNamed B.named
  have hlocks := B.notSynchronized
  have hM : s.heap.size + M = res.2.1 := by rw [hH.1]; exact hM
  have hcs : s.heap.size + 0 = τ.1 := hH.1
  have hss : τ.2.1 + 0 = τ.2.1 := rfl
  generalize hsl0 : τ.2.1 = sl0 at hS0 hss
  have hss : sl0 + 0 = τ.2.1 := by rw [hsl0]; rfl
  have hS : va_S (zA ζ) s.heap s.heap [] := va_S.rf
  generalize hHe : s.heap = H at hH hS ⊢
  have hS : va_S (zA ζ) s.heap H [] := by rw [hHe]; exact hS
  generalize ([] : List Loc) = locs at hS ⊢
  have hl := lv_entry ([.ref h]) (n := 1) (Nat.le_of_ble_eq_true rfl)
  rw [lg_entry_eq]
  generalize (lg_sl ([.ref h]) ++ List.replicate (1 - (lg_sl ([.ref h])).length) Slot.unset).toArray = ls at hl ⊢
  have hl : lv_has ls 1 [(0, .ref h)] := hl
  have hf : (dz_b (zob ζ τ h 5) fun f3 => zcl τ (fnX7_lays K ζ h τ) fun _ s2 => dz_b (zob ζ s2 h 5) fun f6 => zcl s2 (fnX6_findsBases_5 K ζ h s2) fun x4 s5 => if x4 = (0 : Int32) then (some (0, s5)) else (dz_b (zob ζ s5 h 5) fun f9 => zcl s5 (fnX6_hasPair_5 K ζ h s5) fun x7 s8 => if x7 = (0 : Int32) then ((lfX6_isFound_5 K ζ K) s8) else (dz_b (zob ζ s8 h 5) fun f12 => zcl s8 (fnX6_findsPair_5 K ζ h s8) fun x10 s11 => if x10 = (0 : Int32) then (some (0, s11)) else ((lfX6_isFound_5 K ζ K) s11))) : Option (Int32 × pH)) = some res := hf
  refine z_gen (fun cells slots hc0 hs0 => ?_)
  have hcs : s.heap.size + cells = τ.1 := by rw [hc0]; exact hcs
  have hss : sl0 + slots = τ.2.1 := by rw [hs0]; exact hss
  have hcM : cells ≤ M ∧ slots ≤ S := by rw [hc0, hs0]; exact ⟨Nat.zero_le _, Nat.zero_le _⟩
  clear hc0 hs0
  have ih := wlX6_isFound_5 (l := l) (e := e) (below := below) (D := D) (cA := cA) hX K res M S sl0 hM hS0 h hx hb hr hlocks hml hown hts K
  refine lv_aload_n hx hb dX6_isFound_0 rfl (lv_at hl 0 rfl) ?_
  obtain ⟨f3, hf3, hf⟩ := dz_bo hf
  obtain ⟨x1, s2, hx1, hle, hck, hf⟩ := zcl_o hf
  have hc1 : cells + (s2.1 - τ.1) ≤ M := by omega
  have hs1 : slots + (s2.2.1 - τ.2.1) ≤ S := by omega
  refine va_callv (va_runU (x := ⟨"PrimeProofs$Line", "lays", "()V"⟩) (owner := "PrimeProofs$Line") (As := []) (rest := []) ⟨hx, hb, hml, hown, hts⟩ (mtX7_lays l D cA ζ τ h K (x1, s2) hx1 (s2.1 - τ.1) (s2.2.1 - τ.2.1) (Nat.add_sub_cancel' hle.1) (Nat.add_sub_cancel' hle.2)) (va_cwA 0 hts (zU_in q666 q668 q730 q731 q97 q732) rfl rfl rfl (hX.N q667 rfl) (by decide +kernel) ⟨Nat.le_of_ble_eq_true rfl, Nat.le_of_ble_eq_true rfl⟩) (z_preV hX hS hH (zob_o hf3) rfl) rfl rfl hl.1 rfl (lv_room (Nat.le_of_ble_eq_true rfl)) dX6_isFound_1 ⟨hc1, hs1⟩) hS (fun q _ hq => hq) (fun q hq => hq) (fun u t H1 locs ht hvm hw hB hz hk hS => ?_)
  obtain ⟨-, hw2⟩ := Prod.mk.inj hw.symm; subst hw2
  have hH : zH D cA ζ s2 H1 := z_at ht.symm hB
  have hcs : s.heap.size + (cells + (s2.1 - τ.1)) = s2.1 := by omega
  have hss : sl0 + (slots + (s2.2.1 - τ.2.1)) = s2.2.1 := by omega
  replace hcM := And.intro hc1 hs1
  generalize cells + (s2.1 - τ.1) = cells at hcs hcM ⊢; generalize slots + (s2.2.1 - τ.2.1) = slots at hss hcM ⊢
  clear hB hk hz hvm ht hle hck hc1 hs1; generalize H1 = H at hH hS ⊢
  refine lv_aload_n hx hb dX6_isFound_4 rfl (lv_at hl 0 rfl) ?_
  obtain ⟨f6, hf6, hf⟩ := dz_bo hf
  obtain ⟨x4, s5, hx4, hle, hck, hf⟩ := zcl_o hf
  have hc1 : cells + (s5.1 - s2.1) ≤ M := by omega
  have hs1 : slots + (s5.2.1 - s2.2.1) ≤ S := by omega
  refine va_calli (va_runU (x := ⟨"PrimeProofs$Line", "findsBases", "()Z"⟩) (owner := "PrimeProofs$Line") (As := []) (rest := []) ⟨hx, hb, hml, hown, hts⟩ (mtX6_findsBases_5 l D cA ζ s2 h K (x4, s5) hx4 (s5.1 - s2.1) (s5.2.1 - s2.2.1) (Nat.add_sub_cancel' hle.1) (Nat.add_sub_cancel' hle.2)) (va_cwU 0 hts (zU_in q733 q735 q756 q734 q96 q757) rfl rfl rfl rfl (by decide +kernel) ⟨Nat.le_of_ble_eq_true rfl, Nat.le_of_ble_eq_true rfl⟩) (z_preV hX hS hH (zob_o hf6) rfl) rfl rfl hl.1 rfl (lv_room (Nat.le_of_ble_eq_true rfl)) dX6_isFound_5 ⟨hc1, hs1⟩) hS (fun q _ hq => hq) (fun q hq => hq) (fun r u t H1 locs ht hvm hw hB hz hk hS => ?_)
  obtain ⟨hw1, hw2⟩ := Prod.mk.inj hw.symm; subst hw1; subst hw2
  have hH : zH D cA ζ s5 H1 := z_at ht.symm hB
  have hcs : s.heap.size + (cells + (s5.1 - s2.1)) = s5.1 := by omega
  have hss : sl0 + (slots + (s5.2.1 - s2.2.1)) = s5.2.1 := by omega
  replace hcM := And.intro hc1 hs1
  generalize cells + (s5.1 - s2.1) = cells at hcs hcM ⊢; generalize slots + (s5.2.1 - s2.2.1) = slots at hss hcM ⊢
  clear hB hk hz hvm ht hle hck hc1 hs1; generalize H1 = H at hH hS ⊢
  refine lv_if_eq (tgt := 29) hx hb dX6_isFound_8 (by decide) (fun c8 => ?_) (fun c8 => ?_)
  · have hf := dz_t c8 hf
    refine lv_iconst (v := 0) hx hb dX6_isFound_29 (by decide) ?_
    obtain ⟨hM1, hS1⟩ : cells = M ∧ slots = S := by have hq := congrArg Prod.snd (Option.some.inj hf); rw [← hq] at hM hS0; have hM : s.heap.size + M = s5.1 := hM; have hS0 : sl0 + S = s5.2.1 := hS0; omega
    refine W.widen (k := M) (n := S) (Nat.le_of_eq hM1) (Nat.le_of_eq hS1) ?_
    exact W.zret (v := 0) hx hb hr rfl (fun t ht hW => ⟨⟨0, s5, rfl, Option.some.inj hf, z_at ht hH⟩, hS.F ht⟩) hS.2.2 dX6_isFound_30
  · have hf := dz_f c8 hf
    refine lv_aload_n hx hb dX6_isFound_11 rfl (lv_at hl 0 rfl) ?_
    obtain ⟨f9, hf9, hf⟩ := dz_bo hf
    obtain ⟨x7, s8, hx7, hle, hck, hf⟩ := zcl_o hf
    have hc1 : cells + (s8.1 - s5.1) ≤ M := by omega
    have hs1 : slots + (s8.2.1 - s5.2.1) ≤ S := by omega
    refine va_calli (va_runU (x := ⟨"PrimeProofs$Line", "hasPair", "()Z"⟩) (owner := "PrimeProofs$Line") (As := []) (rest := []) ⟨hx, hb, hml, hown, hts⟩ (mtX6_hasPair_5 l D cA ζ s5 h K (x7, s8) hx7 (s8.1 - s5.1) (s8.2.1 - s5.2.1) (Nat.add_sub_cancel' hle.1) (Nat.add_sub_cancel' hle.2)) (va_cwU 0 hts (zU_in q442 q444 q449 q443 q96 q450) rfl rfl rfl rfl (by decide +kernel) ⟨Nat.le_of_ble_eq_true rfl, Nat.le_of_ble_eq_true rfl⟩) (z_preV hX hS hH (zob_o hf9) rfl) rfl rfl hl.1 rfl (lv_room (Nat.le_of_ble_eq_true rfl)) dX6_isFound_12 ⟨hc1, hs1⟩) hS (fun q _ hq => hq) (fun q hq => hq) (fun r u t H1 locs ht hvm hw hB hz hk hS => ?_)
    obtain ⟨hw1, hw2⟩ := Prod.mk.inj hw.symm; subst hw1; subst hw2
    have hH : zH D cA ζ s8 H1 := z_at ht.symm hB
    have hcs : s.heap.size + (cells + (s8.1 - s5.1)) = s8.1 := by omega
    have hss : sl0 + (slots + (s8.2.1 - s5.2.1)) = s8.2.1 := by omega
    replace hcM := And.intro hc1 hs1
    generalize cells + (s8.1 - s5.1) = cells at hcs hcM ⊢; generalize slots + (s8.2.1 - s5.2.1) = slots at hss hcM ⊢
    clear hB hk hz hvm ht hle hck hc1 hs1; generalize H1 = H at hH hS ⊢
    refine lv_if_eq (tgt := 25) hx hb dX6_isFound_15 (by decide) (fun c15 => ?_) (fun c15 => ?_)
    · have hf := dz_t c15 hf
      exact ih s8 H locs cells slots hH hS hcs hss hcM ls (lv_sub hl [] rfl) hf
    · have hf := dz_f c15 hf
      refine lv_aload_n hx hb dX6_isFound_18 rfl (lv_at hl 0 rfl) ?_
      obtain ⟨f12, hf12, hf⟩ := dz_bo hf
      obtain ⟨x10, s11, hx10, hle, hck, hf⟩ := zcl_o hf
      have hc1 : cells + (s11.1 - s8.1) ≤ M := by omega
      have hs1 : slots + (s11.2.1 - s8.2.1) ≤ S := by omega
      refine va_calli (va_runU (x := ⟨"PrimeProofs$Line", "findsPair", "()Z"⟩) (owner := "PrimeProofs$Line") (As := []) (rest := []) ⟨hx, hb, hml, hown, hts⟩ (mtX6_findsPair_5 l D cA ζ s8 h K (x10, s11) hx10 (s11.1 - s8.1) (s11.2.1 - s8.2.1) (Nat.add_sub_cancel' hle.1) (Nat.add_sub_cancel' hle.2)) (va_cwU 0 hts (zU_in q767 q769 q774 q768 q96 q775) rfl rfl rfl rfl (by decide +kernel) ⟨Nat.le_of_ble_eq_true rfl, Nat.le_of_ble_eq_true rfl⟩) (z_preV hX hS hH (zob_o hf12) rfl) rfl rfl hl.1 rfl (lv_room (Nat.le_of_ble_eq_true rfl)) dX6_isFound_19 ⟨hc1, hs1⟩) hS (fun q _ hq => hq) (fun q hq => hq) (fun r u t H1 locs ht hvm hw hB hz hk hS => ?_)
      obtain ⟨hw1, hw2⟩ := Prod.mk.inj hw.symm; subst hw1; subst hw2
      have hH : zH D cA ζ s11 H1 := z_at ht.symm hB
      have hcs : s.heap.size + (cells + (s11.1 - s8.1)) = s11.1 := by omega
      have hss : sl0 + (slots + (s11.2.1 - s8.2.1)) = s11.2.1 := by omega
      replace hcM := And.intro hc1 hs1
      generalize cells + (s11.1 - s8.1) = cells at hcs hcM ⊢; generalize slots + (s11.2.1 - s8.2.1) = slots at hss hcM ⊢
      clear hB hk hz hvm ht hle hck hc1 hs1; generalize H1 = H at hH hS ⊢
      refine lv_if_eq (tgt := 29) hx hb dX6_isFound_22 (by decide) (fun c22 => ?_) (fun c22 => ?_)
      · have hf := dz_t c22 hf
        refine lv_iconst (v := 0) hx hb dX6_isFound_29 (by decide) ?_
        obtain ⟨hM1, hS1⟩ : cells = M ∧ slots = S := by have hq := congrArg Prod.snd (Option.some.inj hf); rw [← hq] at hM hS0; have hM : s.heap.size + M = s11.1 := hM; have hS0 : sl0 + S = s11.2.1 := hS0; omega
        refine W.widen (k := M) (n := S) (Nat.le_of_eq hM1) (Nat.le_of_eq hS1) ?_
        exact W.zret (v := 0) hx hb hr rfl (fun t ht hW => ⟨⟨0, s11, rfl, Option.some.inj hf, z_at ht hH⟩, hS.F ht⟩) hS.2.2 dX6_isFound_30
      · have hf := dz_f c22 hf
        exact ih s11 H locs cells slots hH hS hcs hss hcM ls (lv_sub hl [] rfl) hf

noncomputable def lfX9_findsBases (K : Nat) (ζ : pZ) : Nat → (Nat → Int32 → pH → Option (Int32 × pH)) × (Nat → Int32 → Int32 → Nat → pH → Option (Int32 × pH)) × (Nat → Int32 → Nat → pH → Option (Int32 × pH)) := Nat.rec (motive := fun _ => (Nat → Int32 → pH → Option (Int32 × pH)) × (Nat → Int32 → Int32 → Nat → pH → Option (Int32 × pH)) × (Nat → Int32 → Nat → pH → Option (Int32 × pH))) ((fun _ _ _ => none), (fun _ _ _ _ _ => none), (fun _ _ _ _ => none)) (fun _ G => ((fun v0 v1 τ => if (999 : Int32) < v1 then (some (0, τ)) else (dz_b (zob ζ τ v0 6) fun f1 => dz_b (zvr (f1[4]?)) fun x2 => dz_b (zob ζ τ x2 10) fun f5 => zcl τ (fnX8_iterator K ζ x2 τ) fun x3 s4 => G.2.1 v0 v1 1 x3 s4)), (fun v0 v1 v2 v3 τ => dz_b (zob ζ τ v3 2) fun f3 => zcl τ (fnX2_hasNext K ζ v3 τ) fun x1 s2 => if x1 = (0 : Int32) then (if v2 = (0 : Int32) then (dz_l (v1 + 1) fun x4 => G.1 v0 x4 s2) else (some (1, s2))) else (dz_b (zob ζ s2 v3 2) fun f7 => zcl s2 (fnX2_next K ζ v3 s2) fun x5 s6 => dz_b (zob ζ s6 x5 11) fun f8 => dz_b (zwo ζ s6 x5 11 2) fun f9 => dz_l (zst s6 x5 (.inr (11, f9.set 2 (.int v1)))) fun s10 => if v2 = (0 : Int32) then (G.2.2 v0 v1 v3 s10) else (dz_b (zob ζ s10 v0 6) fun f13 => zcl s10 (fnX6_isOne_6 K ζ v0 x5 s10) fun x11 s12 => if x11 = (0 : Int32) then (G.2.2 v0 v1 v3 s12) else (dz_b (zob ζ s12 v0 6) fun f16 => zcl s12 (fnX6_isFar_6 K ζ v0 x5 s12) fun x14 s15 => if x14 = (0 : Int32) then (G.2.2 v0 v1 v3 s15) else (G.2.1 v0 v1 1 v3 s15))))), (fun v0 v1 v3 τ => G.2.1 v0 v1 0 v3 τ)))
noncomputable def fnX9_findsBases (K : Nat) (ζ : pZ) (h : Nat) (τ : pH) : Option (Int32 × pH) := (lfX9_findsBases K ζ K).1 h 2 τ
set_option maxHeartbeats 4000000 in
set_option maxRecDepth 100000 in
theorem wlX9_findsBases {p : Program} {l : Launch} {e : Env} {s : State} {m : MethodId} {below : List Frame} {meth : Method} {c : Code} {D : va_G} {cA : Nat → ClassId} {ζ : pZ} (hX : zX D cA ζ s) (K : Nat) (res : (Int32 × pH)) (M S sl0 : Nat) (hM : s.heap.size + M = res.2.1) (hS0 : sl0 + S = res.2.2.1) (h : Nat) (hx : p.tables.exec = Jvm.exec) (hb : c.code = cX9_findsBases) (hr : meth.sig.returnType = some .boolean) (hlocks : meth.locks = false) (hml : c.maxLocals = 5) (hown : s.vm.findClass RX9 = some m.cls) (hts : ∀ w ∈ lw_all, w.before ([.ref h] : List Value).toArray s = true) : ∀ k : Nat, (∀ (v0 : Nat) (v1 : Int32) (τ : pH) (H : Heap) (locs : List Loc) (cells slots : Nat), zH D cA ζ τ H → va_S (zA ζ) s.heap H locs → s.heap.size + cells = τ.1 → sl0 + slots = τ.2.1 → cells ≤ M ∧ slots ≤ S → ∀ (ls : Array Slot), lv_has ls 5 [(0, .ref v0), (1, .int v1)] → (lfX9_findsBases K ζ k).1 v0 v1 τ = some res → W p l e (headSpec (ws_ yX9_findsBases cX9_findsBases 5 (some .boolean)) ({ frames := 102, cells := M, slots := S, locals := 2344 })).room s m ([.ref h] : List Value).toArray below meth c H locs cells slots (MQ below (zQi D cA ζ res) ([.ref h] : List Value).toArray s M S (zA ζ)) (F0 m 2 ls [])) ∧ (∀ (v0 : Nat) (v1 : Int32) (v2 : Int32) (v3 : Nat) (τ : pH) (H : Heap) (locs : List Loc) (cells slots : Nat), zH D cA ζ τ H → va_S (zA ζ) s.heap H locs → s.heap.size + cells = τ.1 → sl0 + slots = τ.2.1 → cells ≤ M ∧ slots ≤ S → ∀ (ls : Array Slot), lv_has ls 5 [(0, .ref v0), (1, .int v1), (2, .int v2), (3, .ref v3)] → (lfX9_findsBases K ζ k).2.1 v0 v1 v2 v3 τ = some res → W p l e (headSpec (ws_ yX9_findsBases cX9_findsBases 5 (some .boolean)) ({ frames := 102, cells := M, slots := S, locals := 2344 })).room s m ([.ref h] : List Value).toArray below meth c H locs cells slots (MQ below (zQi D cA ζ res) ([.ref h] : List Value).toArray s M S (zA ζ)) (F0 m 19 ls [])) ∧ (∀ (v0 : Nat) (v1 : Int32) (v3 : Nat) (τ : pH) (H : Heap) (locs : List Loc) (cells slots : Nat), zH D cA ζ τ H → va_S (zA ζ) s.heap H locs → s.heap.size + cells = τ.1 → sl0 + slots = τ.2.1 → cells ≤ M ∧ slots ≤ S → ∀ (ls : Array Slot), lv_has ls 5 [(0, .ref v0), (1, .int v1), (3, .ref v3)] → (lfX9_findsBases K ζ k).2.2 v0 v1 v3 τ = some res → W p l e (headSpec (ws_ yX9_findsBases cX9_findsBases 5 (some .boolean)) ({ frames := 102, cells := M, slots := S, locals := 2344 })).room s m ([.ref h] : List Value).toArray below meth c H locs cells slots (MQ below (zQi D cA ζ res) ([.ref h] : List Value).toArray s M S (zA ζ)) (F0 m 71 ls [])) := by
  intro k
  induction k with
  | zero =>
    exact ⟨fun _ _ _ _ _ _ _ _ _ _ _ _ _ _ hf => (by cases hf), fun _ _ _ _ _ _ _ _ _ _ _ _ _ _ _ _ hf => (by cases hf), fun _ _ _ _ _ _ _ _ _ _ _ _ _ _ _ hf => (by cases hf)⟩
  | succ k ih =>
    refine ⟨?_, ?_, ?_⟩
    · intro v0 v1 τ H locs cells slots hH hS hcs hss hcM ls hl hf
      have hf : (if (999 : Int32) < v1 then (some (0, τ)) else (dz_b (zob ζ τ v0 6) fun f1 => dz_b (zvr (f1[4]?)) fun x2 => dz_b (zob ζ τ x2 10) fun f5 => zcl τ (fnX8_iterator K ζ x2 τ) fun x3 s4 => (lfX9_findsBases K ζ k).2.1 v0 v1 1 x3 s4) : Option (Int32 × pH)) = some res := hf
      refine lv_iload_n hx hb dX9_findsBases_2 rfl (lv_at hl 1 rfl) ?_
      refine lv_sipush (v := 999) hx hb dX9_findsBases_3 (by decide) ?_
      refine lv_icmp_gt (tgt := 88) hx hb dX9_findsBases_6 (by decide) (fun c6 => ?_) (fun c6 => ?_)
      · have hf := dz_t c6 hf
        refine lv_iconst (v := 0) hx hb dX9_findsBases_88 (by decide) ?_
        obtain ⟨hM1, hS1⟩ : cells = M ∧ slots = S := by have hq := congrArg Prod.snd (Option.some.inj hf); rw [← hq] at hM hS0; have hM : s.heap.size + M = τ.1 := hM; have hS0 : sl0 + S = τ.2.1 := hS0; omega
        refine W.widen (k := M) (n := S) (Nat.le_of_eq hM1) (Nat.le_of_eq hS1) ?_
        exact W.zret (v := 0) hx hb hr rfl (fun t ht hW => ⟨⟨0, τ, rfl, Option.some.inj hf, z_at ht hH⟩, hS.F ht⟩) hS.2.2 dX9_findsBases_89
      · have hf := dz_f c6 hf
        refine lv_iconst (v := 1) hx hb dX9_findsBases_9 (by decide) ?_
        refine lv_istore_n (lv' := [(2, .int 1), (0, .ref v0), (1, .int v1)]) hx hb dX9_findsBases_10 rfl hl (by decide) rfl (fun ls hl => ?_)
        refine lv_aload_n hx hb dX9_findsBases_11 rfl (lv_at hl 1 rfl) ?_
        obtain ⟨f1, hf1, hf⟩ := dz_bo hf
        obtain ⟨x2, hx2, hf⟩ := dz_bo hf
        refine va_get (C := RX9) (T := TX9) (N := 8) hx hb hts in_X9 hown hX.K (zrd_P hX hS hH (zob_o hf1)) 0 rfl rfl 4 (by decide) (hts _ q551) (fun x hq => u_same (hts _ q552) x hq) (zvr_o hx2) dX9_findsBases_12 ?_
        obtain ⟨f5, hf5, hf⟩ := dz_bo hf
        obtain ⟨x3, s4, hx3, hle, hck, hf⟩ := zcl_o hf
        have hc1 : cells + (s4.1 - τ.1) ≤ M := by omega
        have hs1 : slots + (s4.2.1 - τ.2.1) ≤ S := by omega
        refine va_callr (va_runV (As := []) (rest := []) ⟨hx, hb, hml, hown, hts⟩ (mtX8_iterator l D cA ζ τ x2 K (x3, s4) hx3 (s4.1 - τ.1) (s4.2.1 - τ.2.1) (Nat.add_sub_cancel' hle.1) (Nat.add_sub_cancel' hle.2)) (cwV 0 hts (lw_V q742 q246 q247 q98 q248) rfl rfl rfl (by decide +kernel) ⟨Nat.le_of_ble_eq_true rfl, Nat.le_of_ble_eq_true rfl⟩) (z_preV hX hS hH (zob_o hf5) rfl) rfl rfl hl.1 rfl (lv_room (Nat.le_of_ble_eq_true rfl)) dX9_findsBases_15 ⟨hc1, hs1⟩) hS (fun q _ hq => hq) (fun q hq => hq) (fun u r t H1 locs ht hvm hw hB hz hk hS => ?_)
        obtain ⟨hw, hB⟩ := hB
        obtain ⟨hw1, hw2⟩ := Prod.mk.inj hw.symm; subst hw1; subst hw2
        have hH : zH D cA ζ s4 H1 := z_at ht.symm hB
        have hcs : s.heap.size + (cells + (s4.1 - τ.1)) = s4.1 := by omega
        have hss : sl0 + (slots + (s4.2.1 - τ.2.1)) = s4.2.1 := by omega
        replace hcM := And.intro hc1 hs1
        generalize cells + (s4.1 - τ.1) = cells at hcs hcM ⊢; generalize slots + (s4.2.1 - τ.2.1) = slots at hss hcM ⊢
        clear hB hk hz hvm ht hle hck hc1 hs1; generalize H1 = H at hH hS ⊢
        refine lv_astore_n (lv' := [(3, .ref x3), (2, .int 1), (0, .ref v0), (1, .int v1)]) hx hb dX9_findsBases_18 rfl hl (by decide) rfl (fun ls hl => ?_)
        exact ih.2.1 v0 v1 1 x3 s4 H locs cells slots hH hS hcs hss hcM ls (lv_sub hl [2, 3, 1, 0] rfl) hf
    · intro v0 v1 v2 v3 τ H locs cells slots hH hS hcs hss hcM ls hl hf
      have hf : (dz_b (zob ζ τ v3 2) fun f3 => zcl τ (fnX2_hasNext K ζ v3 τ) fun x1 s2 => if x1 = (0 : Int32) then (if v2 = (0 : Int32) then (dz_l (v1 + 1) fun x4 => (lfX9_findsBases K ζ k).1 v0 x4 s2) else (some (1, s2))) else (dz_b (zob ζ s2 v3 2) fun f7 => zcl s2 (fnX2_next K ζ v3 s2) fun x5 s6 => dz_b (zob ζ s6 x5 11) fun f8 => dz_b (zwo ζ s6 x5 11 2) fun f9 => dz_l (zst s6 x5 (.inr (11, f9.set 2 (.int v1)))) fun s10 => if v2 = (0 : Int32) then ((lfX9_findsBases K ζ k).2.2 v0 v1 v3 s10) else (dz_b (zob ζ s10 v0 6) fun f13 => zcl s10 (fnX6_isOne_6 K ζ v0 x5 s10) fun x11 s12 => if x11 = (0 : Int32) then ((lfX9_findsBases K ζ k).2.2 v0 v1 v3 s12) else (dz_b (zob ζ s12 v0 6) fun f16 => zcl s12 (fnX6_isFar_6 K ζ v0 x5 s12) fun x14 s15 => if x14 = (0 : Int32) then ((lfX9_findsBases K ζ k).2.2 v0 v1 v3 s15) else ((lfX9_findsBases K ζ k).2.1 v0 v1 1 v3 s15)))) : Option (Int32 × pH)) = some res := hf
      refine lv_aload_n hx hb dX9_findsBases_19 rfl (lv_at hl 3 rfl) ?_
      obtain ⟨f3, hf3, hf⟩ := dz_bo hf
      obtain ⟨x1, s2, hx1, hle, hck, hf⟩ := zcl_o hf
      have hc1 : cells + (s2.1 - τ.1) ≤ M := by omega
      have hs1 : slots + (s2.2.1 - τ.2.1) ≤ S := by omega
      refine va_callFi (va_runF (hX.K.1 2 _ rfl).2 (As := []) (rest := []) ⟨hx, hb, hml, hown, hts⟩ (mtX2_hasNext l D cA ζ τ v3 K (x1, s2) hx1 (s2.1 - τ.1) (s2.2.1 - τ.2.1) (Nat.add_sub_cancel' hle.1) (Nat.add_sub_cancel' hle.2)) (va_cwF 0 hts (zF_in q744 q267 q269 q91 q271) rfl rfl rfl (hX.F 0 rfl) (by decide +kernel) ⟨Nat.le_of_ble_eq_true rfl, Nat.le_of_ble_eq_true rfl⟩) (z_preV hX hS hH (zob_o hf3) rfl) rfl rfl hl.1 rfl (lv_room (Nat.le_of_ble_eq_true rfl)) dX9_findsBases_20 ⟨hc1, hs1⟩) hS (fun q _ hq => hq) (fun q hq => hq) (fun r u t H1 locs ht hvm hw hB hz hk hS => ?_)
      obtain ⟨hw1, hw2⟩ := Prod.mk.inj hw.symm; subst hw1; subst hw2
      have hH : zH D cA ζ s2 H1 := z_at ht.symm hB
      have hcs : s.heap.size + (cells + (s2.1 - τ.1)) = s2.1 := by omega
      have hss : sl0 + (slots + (s2.2.1 - τ.2.1)) = s2.2.1 := by omega
      replace hcM := And.intro hc1 hs1
      generalize cells + (s2.1 - τ.1) = cells at hcs hcM ⊢; generalize slots + (s2.2.1 - τ.2.1) = slots at hss hcM ⊢
      clear hB hk hz hvm ht hle hck hc1 hs1; generalize H1 = H at hH hS ⊢
      refine lv_if_eq (tgt := 76) hx hb dX9_findsBases_25 (by decide) (fun c25 => ?_) (fun c25 => ?_)
      · have hf := dz_t c25 hf
        refine lv_iload_n hx hb dX9_findsBases_76 rfl (lv_at hl 2 rfl) ?_
        refine lv_if_eq (tgt := 82) hx hb dX9_findsBases_77 (by decide) (fun c77 => ?_) (fun c77 => ?_)
        · have hf := dz_t c77 hf
          obtain ⟨x4, e_x4, hf⟩ := dz_lo hf
          refine lv_iinc (v := x4) (lv' := [(1, .int x4), (0, .ref v0), (2, .int v2), (3, .ref v3)]) hx hb dX9_findsBases_82 hl (k := 1) rfl (by rw [e_x4]; rfl) (by decide) rfl (fun ls hl => ?_)
          refine lv_goto (tgt := 2) hx hb dX9_findsBases_85 (by decide) ?_
          exact ih.1 v0 x4 s2 H locs cells slots hH hS hcs hss hcM ls (lv_sub hl [1, 0] rfl) hf
        · have hf := dz_f c77 hf
          refine lv_iconst (v := 1) hx hb dX9_findsBases_80 (by decide) ?_
          obtain ⟨hM1, hS1⟩ : cells = M ∧ slots = S := by have hq := congrArg Prod.snd (Option.some.inj hf); rw [← hq] at hM hS0; have hM : s.heap.size + M = s2.1 := hM; have hS0 : sl0 + S = s2.2.1 := hS0; omega
          refine W.widen (k := M) (n := S) (Nat.le_of_eq hM1) (Nat.le_of_eq hS1) ?_
          exact W.zret (v := 1) hx hb hr rfl (fun t ht hW => ⟨⟨1, s2, rfl, Option.some.inj hf, z_at ht hH⟩, hS.F ht⟩) hS.2.2 dX9_findsBases_81
      · have hf := dz_f c25 hf
        refine lv_aload_n hx hb dX9_findsBases_28 rfl (lv_at hl 3 rfl) ?_
        obtain ⟨f7, hf7, hf⟩ := dz_bo hf
        obtain ⟨x5, s6, hx5, hle, hck, hf⟩ := zcl_o hf
        have hc1 : cells + (s6.1 - s2.1) ≤ M := by omega
        have hs1 : slots + (s6.2.1 - s2.2.1) ≤ S := by omega
        refine va_callFr (va_runF (hX.K.1 2 _ rfl).2 (As := []) (rest := []) ⟨hx, hb, hml, hown, hts⟩ (mtX2_next l D cA ζ s2 v3 K (x5, s6) hx5 (s6.1 - s2.1) (s6.2.1 - s2.2.1) (Nat.add_sub_cancel' hle.1) (Nat.add_sub_cancel' hle.2)) (va_cwF 0 hts (zF_in q746 q282 q284 q91 q286) rfl rfl rfl (hX.F 1 rfl) (by decide +kernel) ⟨Nat.le_of_ble_eq_true rfl, Nat.le_of_ble_eq_true rfl⟩) (z_preV hX hS hH (zob_o hf7) rfl) rfl rfl hl.1 rfl (lv_room (Nat.le_of_ble_eq_true rfl)) dX9_findsBases_29 ⟨hc1, hs1⟩) hS (fun q _ hq => hq) (fun q hq => hq) (fun u r t H1 locs ht hvm hw hB hz hk hS => ?_)
        obtain ⟨hw, hB⟩ := hB
        obtain ⟨hw1, hw2⟩ := Prod.mk.inj hw.symm; subst hw1; subst hw2
        have hH : zH D cA ζ s6 H1 := z_at ht.symm hB
        have hcs : s.heap.size + (cells + (s6.1 - s2.1)) = s6.1 := by omega
        have hss : sl0 + (slots + (s6.2.1 - s2.2.1)) = s6.2.1 := by omega
        replace hcM := And.intro hc1 hs1
        generalize cells + (s6.1 - s2.1) = cells at hcs hcM ⊢; generalize slots + (s6.2.1 - s2.2.1) = slots at hss hcM ⊢
        clear hB hk hz hvm ht hle hck hc1 hs1; generalize H1 = H at hH hS ⊢
        obtain ⟨f8, hf8, hf⟩ := dz_bo hf
        refine va_castS (nm := RX13) hx hb hown (hts _ q747) (hX.K.1 11 _ rfl).2 (va_recv hX.K (zrd_P hX hS hH (zob_o hf8)) (ci := 11) (q0 := 0) rfl rfl) dX9_findsBases_34 ?_
        refine lv_astore (lv' := [(4, .ref x5), (0, .ref v0), (1, .int v1), (2, .int v2), (3, .ref v3)]) hx hb dX9_findsBases_37 hl (by decide) rfl (fun ls hl => ?_)
        refine lv_aload hx hb dX9_findsBases_39 (lv_at hl 0 rfl) ?_
        refine lv_iload_n hx hb dX9_findsBases_41 rfl (lv_at hl 2 rfl) ?_
        obtain ⟨f9, hf9, hf⟩ := dz_bo hf
        obtain ⟨ha_f9, he_f9, hk_f9⟩ := zwo_o hf9
        refine va_put (C := RX13) (T := TX13) (N := 3) hx hb hts in_X13 tyX13 tyX13_ok nmX13 hown hX.K hH.2.2 zw_D hS _ (zw_o ha_f9 he_f9) rfl 2 (by decide) (hts _ q691) (fun _ hq => hq) rfl rfl rfl rfl hk_f9 dX9_findsBases_42 (fun H1 locs hP1 _ hS => dz_size (fun hz => ?_))
        obtain ⟨s10, e_s10, hf⟩ := dz_lo hf
        have hH := zH_put (x := .inr (11, f9.set 2 (.int v1))) hH hcs ha_f9 hP1 hz
        rw [← e_s10] at hH
        have hcs : s.heap.size + cells = s10.1 := by rw [e_s10]; exact hcs
        have hss : sl0 + slots = s10.2.1 := by rw [e_s10]; exact hss
        clear hP1 hz; generalize H1 = H at hH hS ⊢
        refine lv_iload_n hx hb dX9_findsBases_45 rfl (lv_at hl 3 rfl) ?_
        refine lv_if_eq (tgt := 71) hx hb dX9_findsBases_46 (by decide) (fun c46 => ?_) (fun c46 => ?_)
        · have hf := dz_t c46 hf
          exact ih.2.2 v0 v1 v3 s10 H locs cells slots hH hS hcs hss hcM ls (lv_sub hl [1, 2, 4] rfl) hf
        · have hf := dz_f c46 hf
          refine lv_aload_n hx hb dX9_findsBases_49 rfl (lv_at hl 1 rfl) ?_
          refine lv_aload hx hb dX9_findsBases_50 (lv_at hl 0 rfl) ?_
          obtain ⟨f13, hf13, hf⟩ := dz_bo hf
          obtain ⟨x11, s12, hx11, hle, hck, hf⟩ := zcl_o hf
          have hc1 : cells + (s12.1 - s10.1) ≤ M := by omega
          have hs1 : slots + (s12.2.1 - s10.2.1) ≤ S := by omega
          refine va_calli (va_runU (x := ⟨"PrimeProofs$Pratt", "isOne", "(LPrimeProofs$Row;)Z"⟩) (owner := "PrimeProofs$Line") (As := [.ref x5]) (rest := []) ⟨hx, hb, hml, hown, hts⟩ (mtX6_isOne_6 l D cA ζ s10 v0 x5 K (x11, s12) hx11 (s12.1 - s10.1) (s12.2.1 - s10.2.1) (Nat.add_sub_cancel' hle.1) (Nat.add_sub_cancel' hle.2)) (va_cwA 1 hts (zU_in q748 q749 q751 q359 q96 q366) rfl rfl rfl (hX.N q750 rfl) (by decide +kernel) ⟨Nat.le_of_ble_eq_true rfl, Nat.le_of_ble_eq_true rfl⟩) (z_preV hX hS hH (zob_o hf13) rfl) rfl rfl hl.1 rfl (lv_room (Nat.le_of_ble_eq_true rfl)) dX9_findsBases_52 ⟨hc1, hs1⟩) hS (fun q _ hq => hq) (fun q hq => hq) (fun r u t H1 locs ht hvm hw hB hz hk hS => ?_)
          obtain ⟨hw1, hw2⟩ := Prod.mk.inj hw.symm; subst hw1; subst hw2
          have hH : zH D cA ζ s12 H1 := z_at ht.symm hB
          have hcs : s.heap.size + (cells + (s12.1 - s10.1)) = s12.1 := by omega
          have hss : sl0 + (slots + (s12.2.1 - s10.2.1)) = s12.2.1 := by omega
          replace hcM := And.intro hc1 hs1
          generalize cells + (s12.1 - s10.1) = cells at hcs hcM ⊢; generalize slots + (s12.2.1 - s10.2.1) = slots at hss hcM ⊢
          clear hB hk hz hvm ht hle hck hc1 hs1; generalize H1 = H at hH hS ⊢
          refine lv_if_eq (tgt := 71) hx hb dX9_findsBases_55 (by decide) (fun c55 => ?_) (fun c55 => ?_)
          · have hf := dz_t c55 hf
            exact ih.2.2 v0 v1 v3 s12 H locs cells slots hH hS hcs hss hcM ls (lv_sub hl [1, 2, 4] rfl) hf
          · have hf := dz_f c55 hf
            refine lv_aload_n hx hb dX9_findsBases_58 rfl (lv_at hl 1 rfl) ?_
            refine lv_aload hx hb dX9_findsBases_59 (lv_at hl 0 rfl) ?_
            obtain ⟨f16, hf16, hf⟩ := dz_bo hf
            obtain ⟨x14, s15, hx14, hle, hck, hf⟩ := zcl_o hf
            have hc1 : cells + (s15.1 - s12.1) ≤ M := by omega
            have hs1 : slots + (s15.2.1 - s12.2.1) ≤ S := by omega
            refine va_calli (va_runU (x := ⟨"PrimeProofs$Pratt", "isFar", "(LPrimeProofs$Row;)Z"⟩) (owner := "PrimeProofs$Line") (As := [.ref x5]) (rest := []) ⟨hx, hb, hml, hown, hts⟩ (mtX6_isFar_6 l D cA ζ s12 v0 x5 K (x14, s15) hx14 (s15.1 - s12.1) (s15.2.1 - s12.2.1) (Nat.add_sub_cancel' hle.1) (Nat.add_sub_cancel' hle.2)) (va_cwA 1 hts (zU_in q752 q753 q755 q432 q96 q439) rfl rfl rfl (hX.N q754 rfl) (by decide +kernel) ⟨Nat.le_of_ble_eq_true rfl, Nat.le_of_ble_eq_true rfl⟩) (z_preV hX hS hH (zob_o hf16) rfl) rfl rfl hl.1 rfl (lv_room (Nat.le_of_ble_eq_true rfl)) dX9_findsBases_61 ⟨hc1, hs1⟩) hS (fun q _ hq => hq) (fun q hq => hq) (fun r u t H1 locs ht hvm hw hB hz hk hS => ?_)
            obtain ⟨hw1, hw2⟩ := Prod.mk.inj hw.symm; subst hw1; subst hw2
            have hH : zH D cA ζ s15 H1 := z_at ht.symm hB
            have hcs : s.heap.size + (cells + (s15.1 - s12.1)) = s15.1 := by omega
            have hss : sl0 + (slots + (s15.2.1 - s12.2.1)) = s15.2.1 := by omega
            replace hcM := And.intro hc1 hs1
            generalize cells + (s15.1 - s12.1) = cells at hcs hcM ⊢; generalize slots + (s15.2.1 - s12.2.1) = slots at hss hcM ⊢
            clear hB hk hz hvm ht hle hck hc1 hs1; generalize H1 = H at hH hS ⊢
            refine lv_if_eq (tgt := 71) hx hb dX9_findsBases_64 (by decide) (fun c64 => ?_) (fun c64 => ?_)
            · have hf := dz_t c64 hf
              exact ih.2.2 v0 v1 v3 s15 H locs cells slots hH hS hcs hss hcM ls (lv_sub hl [1, 2, 4] rfl) hf
            · have hf := dz_f c64 hf
              refine lv_iconst (v := 1) hx hb dX9_findsBases_67 (by decide) ?_
              refine lv_goto (tgt := 72) hx hb dX9_findsBases_68 (by decide) ?_
              refine lv_istore_n (lv' := [(2, .int 1), (4, .ref x5), (0, .ref v0), (1, .int v1), (3, .ref v3)]) hx hb dX9_findsBases_72 rfl hl (by decide) rfl (fun ls hl => ?_)
              refine lv_goto (tgt := 19) hx hb dX9_findsBases_73 (by decide) ?_
              exact ih.2.1 v0 v1 1 v3 s15 H locs cells slots hH hS hcs hss hcM ls (lv_sub hl [2, 3, 0, 4] rfl) hf
    · intro v0 v1 v3 τ H locs cells slots hH hS hcs hss hcM ls hl hf
      have hf : ((lfX9_findsBases K ζ k).2.1 v0 v1 0 v3 τ : Option (Int32 × pH)) = some res := hf
      refine lv_iconst (v := 0) hx hb dX9_findsBases_71 (by decide) ?_
      refine lv_istore_n (lv' := [(2, .int 0), (0, .ref v0), (1, .int v1), (3, .ref v3)]) hx hb dX9_findsBases_72 rfl hl (by decide) rfl (fun ls hl => ?_)
      refine lv_goto (tgt := 19) hx hb dX9_findsBases_73 (by decide) ?_
      exact ih.2.1 v0 v1 0 v3 τ H locs cells slots hH hS hcs hss hcM ls (lv_sub hl [1, 2, 0, 3] rfl) hf
set_option maxHeartbeats 4000000 in
set_option maxRecDepth 100000 in
theorem mtX9_findsBases (l : Launch) (D : va_G) (cA : Nat → ClassId) (ζ : pZ) (τ : pH) (h : Nat) (K : Nat) (res : (Int32 × pH)) (hf : fnX9_findsBases K ζ h τ = some res) (M S : Nat) (hM : τ.1 + M = res.2.1) (hS0 : τ.2.1 + S = res.2.2.1) : Met l yX9_findsBases (ws_ yX9_findsBases cX9_findsBases 5 (some .boolean)) ({ frames := 102, cells := M, slots := S, locals := 2344 }) (zPc D cA ζ τ [.ref h]) (zQi D cA ζ res) M S (zA ζ) := by
  refine Met.ofW (cc := cX9_findsBases) (maxL := 5) (ret := some .boolean) (by decide +kernel) rfl ?_
  intro p e s m args below meth c s₁ B hml hv
  obtain ⟨rfl, hX, hH⟩ := hv
  have hx := B.exec
  have hb := B.bytes
  have hr := B.returns
  have hts := atoms_spec (ws := ws_ yX9_findsBases cX9_findsBases 5 (some .boolean)) B.pre
  have hts : ∀ w ∈ lw_all, w.before _ s = true := fun w h => hts w (List.mem_cons_of_mem _ h)
  have hown : s.vm.findClass RX9 = some m.cls := findClass_of_methodNamed B.named
  have hlocks := B.notSynchronized
  have hM : s.heap.size + M = res.2.1 := by rw [hH.1]; exact hM
  have hcs : s.heap.size + 0 = τ.1 := hH.1
  have hss : τ.2.1 + 0 = τ.2.1 := rfl
  generalize hsl0 : τ.2.1 = sl0 at hS0 hss
  have hss : sl0 + 0 = τ.2.1 := by rw [hsl0]; rfl
  have hS : va_S (zA ζ) s.heap s.heap [] := va_S.rf
  generalize hHe : s.heap = H at hH hS ⊢
  have hS : va_S (zA ζ) s.heap H [] := by rw [hHe]; exact hS
  generalize ([] : List Loc) = locs at hS ⊢
  have hl := lv_entry ([.ref h]) (n := 5) (Nat.le_of_ble_eq_true rfl)
  rw [lg_entry_eq]
  generalize (lg_sl ([.ref h]) ++ List.replicate (5 - (lg_sl ([.ref h])).length) Slot.unset).toArray = ls at hl ⊢
  have hl : lv_has ls 5 [(0, .ref h)] := hl
  have hf : ((lfX9_findsBases K ζ K).1 h 2 τ : Option (Int32 × pH)) = some res := hf
  refine z_gen (fun cells slots hc0 hs0 => ?_)
  have hcs : s.heap.size + cells = τ.1 := by rw [hc0]; exact hcs
  have hss : sl0 + slots = τ.2.1 := by rw [hs0]; exact hss
  have hcM : cells ≤ M ∧ slots ≤ S := by rw [hc0, hs0]; exact ⟨Nat.zero_le _, Nat.zero_le _⟩
  clear hc0 hs0
  have ih := wlX9_findsBases (l := l) (e := e) (below := below) (D := D) (cA := cA) hX K res M S sl0 hM hS0 h hx hb hr hlocks hml hown hts K
  refine lv_iconst (v := 2) hx hb dX9_findsBases_0 (by decide) ?_
  refine lv_istore_n (lv' := [(1, .int 2), (0, .ref h)]) hx hb dX9_findsBases_1 rfl hl (by decide) rfl (fun ls hl => ?_)
  exact ih.1 h 2 τ H locs cells slots hH hS hcs hss hcM ls (lv_sub hl [1, 0] rfl) hf

noncomputable def lfX6_findsPair_6 (K : Nat) (ζ : pZ) : Nat → (Nat → pH → Option (Int32 × pH)) × (Nat → pH → Option (Int32 × pH)) := Nat.rec (motive := fun _ => (Nat → pH → Option (Int32 × pH)) × (Nat → pH → Option (Int32 × pH))) ((fun _ _ => none), (fun _ _ => none)) (fun _ G => ((fun v0 τ => dz_b (zob ζ τ v0 6) fun f1 => dz_b (zvi (f1[2]?)) fun x2 => if (99 : Int32) < x2 then (some (0, τ)) else (dz_b (zwo ζ τ v0 6 3) fun f3 => dz_l (zst τ v0 (.inr (6, f3.set 3 (.int 1)))) fun s4 => G.2 v0 s4)), (fun v0 τ => dz_b (zob ζ τ v0 6) fun f1 => dz_b (zvi (f1[3]?)) fun x2 => if (99 : Int32) < x2 then (dz_b (zob ζ τ v0 6) fun f3 => dz_b (zvi (f3[2]?)) fun x4 => dz_l (x4 + 1) fun x5 => dz_b (zwo ζ τ v0 6 2) fun f6 => dz_l (zst τ v0 (.inr (6, f6.set 2 (.int x5)))) fun s7 => G.1 v0 s7) else (dz_b (zob ζ τ v0 6) fun f10 => zcl τ (fnX6_pairFault_6 K ζ v0 τ) fun x8 s9 => if x8 = (0 : Int32) then (some (1, s9)) else (dz_b (zob ζ s9 v0 6) fun f11 => dz_b (zvi (f11[3]?)) fun x12 => dz_l (x12 + 1) fun x13 => dz_b (zwo ζ s9 v0 6 3) fun f14 => dz_l (zst s9 v0 (.inr (6, f14.set 3 (.int x13)))) fun s15 => G.2 v0 s15)))))
noncomputable def fnX6_findsPair_6 (K : Nat) (ζ : pZ) (h : Nat) (τ : pH) : Option (Int32 × pH) := dz_b (zwo ζ τ h 6 2) fun f1 => dz_l (zst τ h (.inr (6, f1.set 2 (.int 1)))) fun s2 => (lfX6_findsPair_6 K ζ K).1 h s2
set_option maxHeartbeats 4000000 in
set_option maxRecDepth 100000 in
theorem wlX6_findsPair_6 {p : Program} {l : Launch} {e : Env} {s : State} {m : MethodId} {below : List Frame} {meth : Method} {c : Code} {D : va_G} {cA : Nat → ClassId} {ζ : pZ} (hX : zX D cA ζ s) (K : Nat) (res : (Int32 × pH)) (M S sl0 : Nat) (hM : s.heap.size + M = res.2.1) (hS0 : sl0 + S = res.2.2.1) (h : Nat) (hx : p.tables.exec = Jvm.exec) (hb : c.code = cX6_findsPair) (hr : meth.sig.returnType = some .boolean) (hlocks : meth.locks = false) (hml : c.maxLocals = 1) (hown : s.vm.findClass RX6 = some m.cls) (hts : ∀ w ∈ lw_all, w.before ([.ref h] : List Value).toArray s = true) : ∀ k : Nat, (∀ (v0 : Nat) (τ : pH) (H : Heap) (locs : List Loc) (cells slots : Nat), zH D cA ζ τ H → va_S (zA ζ) s.heap H locs → s.heap.size + cells = τ.1 → sl0 + slots = τ.2.1 → cells ≤ M ∧ slots ≤ S → ∀ (ls : Array Slot), lv_has ls 1 [(0, .ref v0)] → (lfX6_findsPair_6 K ζ k).1 v0 τ = some res → W p l e (headSpec (ws_ yX6_findsPair cX6_findsPair 1 (some .boolean)) ({ frames := 102, cells := M, slots := S, locals := 2345 })).room s m ([.ref h] : List Value).toArray below meth c H locs cells slots (MQ below (zQi D cA ζ res) ([.ref h] : List Value).toArray s M S (zA ζ)) (F0 m 5 ls [])) ∧ (∀ (v0 : Nat) (τ : pH) (H : Heap) (locs : List Loc) (cells slots : Nat), zH D cA ζ τ H → va_S (zA ζ) s.heap H locs → s.heap.size + cells = τ.1 → sl0 + slots = τ.2.1 → cells ≤ M ∧ slots ≤ S → ∀ (ls : Array Slot), lv_has ls 1 [(0, .ref v0)] → (lfX6_findsPair_6 K ζ k).2 v0 τ = some res → W p l e (headSpec (ws_ yX6_findsPair cX6_findsPair 1 (some .boolean)) ({ frames := 102, cells := M, slots := S, locals := 2345 })).room s m ([.ref h] : List Value).toArray below meth c H locs cells slots (MQ below (zQi D cA ζ res) ([.ref h] : List Value).toArray s M S (zA ζ)) (F0 m 19 ls [])) := by
  intro k
  induction k with
  | zero =>
    exact ⟨fun _ _ _ _ _ _ _ _ _ _ _ _ _ hf => (by cases hf), fun _ _ _ _ _ _ _ _ _ _ _ _ _ hf => (by cases hf)⟩
  | succ k ih =>
    refine ⟨?_, ?_⟩
    · intro v0 τ H locs cells slots hH hS hcs hss hcM ls hl hf
      have hf : (dz_b (zob ζ τ v0 6) fun f1 => dz_b (zvi (f1[2]?)) fun x2 => if (99 : Int32) < x2 then (some (0, τ)) else (dz_b (zwo ζ τ v0 6 3) fun f3 => dz_l (zst τ v0 (.inr (6, f3.set 3 (.int 1)))) fun s4 => (lfX6_findsPair_6 K ζ k).2 v0 s4) : Option (Int32 × pH)) = some res := hf
      refine lv_aload_n hx hb dX6_findsPair_5 rfl (lv_at hl 0 rfl) ?_
      obtain ⟨f1, hf1, hf⟩ := dz_bo hf
      obtain ⟨x2, hx2, hf⟩ := dz_bo hf
      refine va_get (C := RX9) (T := TX9) (N := 8) hx hb hts in_X9 hown hX.K (zrd_P hX hS hH (zob_o hf1)) 0 rfl rfl 2 (by decide) (hts _ q544) (fun _ hq => hq) (zvi_o hx2) dX6_findsPair_6 ?_
      refine lv_bipush (v := 99) hx hb dX6_findsPair_9 (by decide) ?_
      refine lv_icmp_gt (tgt := 63) hx hb dX6_findsPair_11 (by decide) (fun c11 => ?_) (fun c11 => ?_)
      · have hf := dz_t c11 hf
        refine lv_iconst (v := 0) hx hb dX6_findsPair_63 (by decide) ?_
        obtain ⟨hM1, hS1⟩ : cells = M ∧ slots = S := by have hq := congrArg Prod.snd (Option.some.inj hf); rw [← hq] at hM hS0; have hM : s.heap.size + M = τ.1 := hM; have hS0 : sl0 + S = τ.2.1 := hS0; omega
        refine W.widen (k := M) (n := S) (Nat.le_of_eq hM1) (Nat.le_of_eq hS1) ?_
        exact W.zret (v := 0) hx hb hr rfl (fun t ht hW => ⟨⟨0, τ, rfl, Option.some.inj hf, z_at ht hH⟩, hS.F ht⟩) hS.2.2 dX6_findsPair_64
      · have hf := dz_f c11 hf
        refine lv_aload_n hx hb dX6_findsPair_14 rfl (lv_at hl 0 rfl) ?_
        refine lv_iconst (v := 1) hx hb dX6_findsPair_15 (by decide) ?_
        obtain ⟨f3, hf3, hf⟩ := dz_bo hf
        obtain ⟨ha_f3, he_f3, hk_f3⟩ := zwo_o hf3
        refine zq_put (C := RX9) (T := TX9) (N := 8) hx hb hts in_X9 tyX9 tyX9_ok nmX9 hown hX.K hH.2.2 zw_D hS _ (zw_o ha_f3 he_f3) rfl 3 (by decide) (hts _ q547) (fun _ hq => hq) rfl rfl rfl rfl hk_f3 dX6_findsPair_16 (fun H1 locs hP1 _ hS => dz_size (fun hz => ?_))
        obtain ⟨s4, e_s4, hf⟩ := dz_lo hf
        have hH := zH_put (x := .inr (6, f3.set 3 (.int 1))) hH hcs ha_f3 hP1 hz
        rw [← e_s4] at hH
        have hcs : s.heap.size + cells = s4.1 := by rw [e_s4]; exact hcs
        have hss : sl0 + slots = s4.2.1 := by rw [e_s4]; exact hss
        clear hP1 hz; generalize H1 = H at hH hS ⊢
        exact ih.2 v0 s4 H locs cells slots hH hS hcs hss hcM ls (lv_sub hl [0] rfl) hf
    · intro v0 τ H locs cells slots hH hS hcs hss hcM ls hl hf
      have hf : (dz_b (zob ζ τ v0 6) fun f1 => dz_b (zvi (f1[3]?)) fun x2 => if (99 : Int32) < x2 then (dz_b (zob ζ τ v0 6) fun f3 => dz_b (zvi (f3[2]?)) fun x4 => dz_l (x4 + 1) fun x5 => dz_b (zwo ζ τ v0 6 2) fun f6 => dz_l (zst τ v0 (.inr (6, f6.set 2 (.int x5)))) fun s7 => (lfX6_findsPair_6 K ζ k).1 v0 s7) else (dz_b (zob ζ τ v0 6) fun f10 => zcl τ (fnX6_pairFault_6 K ζ v0 τ) fun x8 s9 => if x8 = (0 : Int32) then (some (1, s9)) else (dz_b (zob ζ s9 v0 6) fun f11 => dz_b (zvi (f11[3]?)) fun x12 => dz_l (x12 + 1) fun x13 => dz_b (zwo ζ s9 v0 6 3) fun f14 => dz_l (zst s9 v0 (.inr (6, f14.set 3 (.int x13)))) fun s15 => (lfX6_findsPair_6 K ζ k).2 v0 s15)) : Option (Int32 × pH)) = some res := hf
      refine lv_aload_n hx hb dX6_findsPair_19 rfl (lv_at hl 0 rfl) ?_
      obtain ⟨f1, hf1, hf⟩ := dz_bo hf
      obtain ⟨x2, hx2, hf⟩ := dz_bo hf
      refine va_get (C := RX9) (T := TX9) (N := 8) hx hb hts in_X9 hown hX.K (zrd_P hX hS hH (zob_o hf1)) 0 rfl rfl 3 (by decide) (hts _ q547) (fun _ hq => hq) (zvi_o hx2) dX6_findsPair_20 ?_
      refine lv_bipush (v := 99) hx hb dX6_findsPair_23 (by decide) ?_
      refine lv_icmp_gt (tgt := 50) hx hb dX6_findsPair_25 (by decide) (fun c25 => ?_) (fun c25 => ?_)
      · have hf := dz_t c25 hf
        refine lv_aload_n hx hb dX6_findsPair_50 rfl (lv_at hl 0 rfl) ?_
        refine lv_dup hx hb dX6_findsPair_51 rfl ?_
        obtain ⟨f3, hf3, hf⟩ := dz_bo hf
        obtain ⟨x4, hx4, hf⟩ := dz_bo hf
        refine va_get (C := RX9) (T := TX9) (N := 8) hx hb hts in_X9 hown hX.K (zrd_P hX hS hH (zob_o hf3)) 0 rfl rfl 2 (by decide) (hts _ q544) (fun _ hq => hq) (zvi_o hx4) dX6_findsPair_52 ?_
        refine lv_iconst (v := 1) hx hb dX6_findsPair_55 (by decide) ?_
        refine lv_iadd hx hb dX6_findsPair_56 ?_
        refine lv_topi (fun x5 e_x5 => ?_)
        have hf := dz_ls e_x5 hf
        obtain ⟨f6, hf6, hf⟩ := dz_bo hf
        obtain ⟨ha_f6, he_f6, hk_f6⟩ := zwo_o hf6
        refine zq_put (C := RX9) (T := TX9) (N := 8) hx hb hts in_X9 tyX9 tyX9_ok nmX9 hown hX.K hH.2.2 zw_D hS _ (zw_o ha_f6 he_f6) rfl 2 (by decide) (hts _ q544) (fun _ hq => hq) rfl rfl rfl rfl hk_f6 dX6_findsPair_57 (fun H1 locs hP1 _ hS => dz_size (fun hz => ?_))
        obtain ⟨s7, e_s7, hf⟩ := dz_lo hf
        have hH := zH_put (x := .inr (6, f6.set 2 (.int x5))) hH hcs ha_f6 hP1 hz
        rw [← e_s7] at hH
        have hcs : s.heap.size + cells = s7.1 := by rw [e_s7]; exact hcs
        have hss : sl0 + slots = s7.2.1 := by rw [e_s7]; exact hss
        clear hP1 hz; generalize H1 = H at hH hS ⊢
        refine lv_goto (tgt := 5) hx hb dX6_findsPair_60 (by decide) ?_
        exact ih.1 v0 s7 H locs cells slots hH hS hcs hss hcM ls (lv_sub hl [0] rfl) hf
      · have hf := dz_f c25 hf
        refine lv_aload_n hx hb dX6_findsPair_28 rfl (lv_at hl 0 rfl) ?_
        obtain ⟨f10, hf10, hf⟩ := dz_bo hf
        obtain ⟨x8, s9, hx8, hle, hck, hf⟩ := zcl_o hf
        have hc1 : cells + (s9.1 - τ.1) ≤ M := by omega
        have hs1 : slots + (s9.2.1 - τ.2.1) ≤ S := by omega
        refine va_calli (va_runU (x := ⟨"PrimeProofs$Line", "pairFault", "()I"⟩) (owner := "PrimeProofs$Line") (As := []) (rest := []) ⟨hx, hb, hml, hown, hts⟩ (mtX6_pairFault_6 l D cA ζ τ v0 K (x8, s9) hx8 (s9.1 - τ.1) (s9.2.1 - τ.2.1) (Nat.add_sub_cancel' hle.1) (Nat.add_sub_cancel' hle.2)) (va_cwU 0 hts (zU_in q451 q453 q457 q452 q96 q459) rfl rfl rfl rfl (by decide +kernel) ⟨Nat.le_of_ble_eq_true rfl, Nat.le_of_ble_eq_true rfl⟩) (z_preV hX hS hH (zob_o hf10) rfl) rfl rfl hl.1 rfl (lv_room (Nat.le_of_ble_eq_true rfl)) dX6_findsPair_29 ⟨hc1, hs1⟩) hS (fun q _ hq => hq) (fun q hq => hq) (fun r u t H1 locs ht hvm hw hB hz hk hS => ?_)
        obtain ⟨hw1, hw2⟩ := Prod.mk.inj hw.symm; subst hw1; subst hw2
        have hH : zH D cA ζ s9 H1 := z_at ht.symm hB
        have hcs : s.heap.size + (cells + (s9.1 - τ.1)) = s9.1 := by omega
        have hss : sl0 + (slots + (s9.2.1 - τ.2.1)) = s9.2.1 := by omega
        replace hcM := And.intro hc1 hs1
        generalize cells + (s9.1 - τ.1) = cells at hcs hcM ⊢; generalize slots + (s9.2.1 - τ.2.1) = slots at hss hcM ⊢
        clear hB hk hz hvm ht hle hck hc1 hs1; generalize H1 = H at hH hS ⊢
        refine lv_if_ne (tgt := 37) hx hb dX6_findsPair_32 (by decide) (fun c32 => ?_) (fun c32 => ?_)
        · have hf := dz_f c32 hf
          refine lv_aload_n hx hb dX6_findsPair_37 rfl (lv_at hl 0 rfl) ?_
          refine lv_dup hx hb dX6_findsPair_38 rfl ?_
          obtain ⟨f11, hf11, hf⟩ := dz_bo hf
          obtain ⟨x12, hx12, hf⟩ := dz_bo hf
          refine va_get (C := RX9) (T := TX9) (N := 8) hx hb hts in_X9 hown hX.K (zrd_P hX hS hH (zob_o hf11)) 0 rfl rfl 3 (by decide) (hts _ q547) (fun _ hq => hq) (zvi_o hx12) dX6_findsPair_39 ?_
          refine lv_iconst (v := 1) hx hb dX6_findsPair_42 (by decide) ?_
          refine lv_iadd hx hb dX6_findsPair_43 ?_
          refine lv_topi (fun x13 e_x13 => ?_)
          have hf := dz_ls e_x13 hf
          obtain ⟨f14, hf14, hf⟩ := dz_bo hf
          obtain ⟨ha_f14, he_f14, hk_f14⟩ := zwo_o hf14
          refine zq_put (C := RX9) (T := TX9) (N := 8) hx hb hts in_X9 tyX9 tyX9_ok nmX9 hown hX.K hH.2.2 zw_D hS _ (zw_o ha_f14 he_f14) rfl 3 (by decide) (hts _ q547) (fun _ hq => hq) rfl rfl rfl rfl hk_f14 dX6_findsPair_44 (fun H1 locs hP1 _ hS => dz_size (fun hz => ?_))
          obtain ⟨s15, e_s15, hf⟩ := dz_lo hf
          have hH := zH_put (x := .inr (6, f14.set 3 (.int x13))) hH hcs ha_f14 hP1 hz
          rw [← e_s15] at hH
          have hcs : s.heap.size + cells = s15.1 := by rw [e_s15]; exact hcs
          have hss : sl0 + slots = s15.2.1 := by rw [e_s15]; exact hss
          clear hP1 hz; generalize H1 = H at hH hS ⊢
          refine lv_goto (tgt := 19) hx hb dX6_findsPair_47 (by decide) ?_
          exact ih.2 v0 s15 H locs cells slots hH hS hcs hss hcM ls (lv_sub hl [0] rfl) hf
        · have hf := dz_t c32 hf
          refine lv_iconst (v := 1) hx hb dX6_findsPair_35 (by decide) ?_
          obtain ⟨hM1, hS1⟩ : cells = M ∧ slots = S := by have hq := congrArg Prod.snd (Option.some.inj hf); rw [← hq] at hM hS0; have hM : s.heap.size + M = s9.1 := hM; have hS0 : sl0 + S = s9.2.1 := hS0; omega
          refine W.widen (k := M) (n := S) (Nat.le_of_eq hM1) (Nat.le_of_eq hS1) ?_
          exact W.zret (v := 1) hx hb hr rfl (fun t ht hW => ⟨⟨1, s9, rfl, Option.some.inj hf, z_at ht hH⟩, hS.F ht⟩) hS.2.2 dX6_findsPair_36
set_option maxHeartbeats 4000000 in
set_option maxRecDepth 100000 in
theorem mtX6_findsPair_6 (l : Launch) (D : va_G) (cA : Nat → ClassId) (ζ : pZ) (τ : pH) (h : Nat) (K : Nat) (res : (Int32 × pH)) (hf : fnX6_findsPair_6 K ζ h τ = some res) (M S : Nat) (hM : τ.1 + M = res.2.1) (hS0 : τ.2.1 + S = res.2.2.1) : Met l yX6_findsPair (ws_ yX6_findsPair cX6_findsPair 1 (some .boolean)) ({ frames := 102, cells := M, slots := S, locals := 2345 }) (zPc D cA ζ τ [.ref h]) (zQi D cA ζ res) M S (zA ζ) := by
  refine Met.ofW (cc := cX6_findsPair) (maxL := 1) (ret := some .boolean) (by decide +kernel) rfl ?_
  intro p e s m args below meth c s₁ B hml hv
  obtain ⟨rfl, hX, hH⟩ := hv
  have hx := B.exec
  have hb := B.bytes
  have hr := B.returns
  have hts := atoms_spec (ws := ws_ yX6_findsPair cX6_findsPair 1 (some .boolean)) B.pre
  have hts : ∀ w ∈ lw_all, w.before _ s = true := fun w h => hts w (List.mem_cons_of_mem _ h)
  have hown : s.vm.findClass RX6 = some m.cls := findClass_of_methodNamed B.named
  have hlocks := B.notSynchronized
  have hM : s.heap.size + M = res.2.1 := by rw [hH.1]; exact hM
  have hcs : s.heap.size + 0 = τ.1 := hH.1
  have hss : τ.2.1 + 0 = τ.2.1 := rfl
  generalize hsl0 : τ.2.1 = sl0 at hS0 hss
  have hss : sl0 + 0 = τ.2.1 := by rw [hsl0]; rfl
  have hS : va_S (zA ζ) s.heap s.heap [] := va_S.rf
  generalize hHe : s.heap = H at hH hS ⊢
  have hS : va_S (zA ζ) s.heap H [] := by rw [hHe]; exact hS
  generalize ([] : List Loc) = locs at hS ⊢
  have hl := lv_entry ([.ref h]) (n := 1) (Nat.le_of_ble_eq_true rfl)
  rw [lg_entry_eq]
  generalize (lg_sl ([.ref h]) ++ List.replicate (1 - (lg_sl ([.ref h])).length) Slot.unset).toArray = ls at hl ⊢
  have hl : lv_has ls 1 [(0, .ref h)] := hl
  have hf : (dz_b (zwo ζ τ h 6 2) fun f1 => dz_l (zst τ h (.inr (6, f1.set 2 (.int 1)))) fun s2 => (lfX6_findsPair_6 K ζ K).1 h s2 : Option (Int32 × pH)) = some res := hf
  refine z_gen (fun cells slots hc0 hs0 => ?_)
  have hcs : s.heap.size + cells = τ.1 := by rw [hc0]; exact hcs
  have hss : sl0 + slots = τ.2.1 := by rw [hs0]; exact hss
  have hcM : cells ≤ M ∧ slots ≤ S := by rw [hc0, hs0]; exact ⟨Nat.zero_le _, Nat.zero_le _⟩
  clear hc0 hs0
  have ih := wlX6_findsPair_6 (l := l) (e := e) (below := below) (D := D) (cA := cA) hX K res M S sl0 hM hS0 h hx hb hr hlocks hml hown hts K
  refine lv_aload_n hx hb dX6_findsPair_0 rfl (lv_at hl 0 rfl) ?_
  refine lv_iconst (v := 1) hx hb dX6_findsPair_1 (by decide) ?_
  obtain ⟨f1, hf1, hf⟩ := dz_bo hf
  obtain ⟨ha_f1, he_f1, hk_f1⟩ := zwo_o hf1
  refine zq_put (C := RX9) (T := TX9) (N := 8) hx hb hts in_X9 tyX9 tyX9_ok nmX9 hown hX.K hH.2.2 zw_D hS _ (zw_o ha_f1 he_f1) rfl 2 (by decide) (hts _ q544) (fun _ hq => hq) rfl rfl rfl rfl hk_f1 dX6_findsPair_2 (fun H1 locs hP1 _ hS => dz_size (fun hz => ?_))
  obtain ⟨s2, e_s2, hf⟩ := dz_lo hf
  have hH := zH_put (x := .inr (6, f1.set 2 (.int 1))) hH hcs ha_f1 hP1 hz
  rw [← e_s2] at hH
  have hcs : s.heap.size + cells = s2.1 := by rw [e_s2]; exact hcs
  have hss : sl0 + slots = s2.2.1 := by rw [e_s2]; exact hss
  clear hP1 hz; generalize H1 = H at hH hS ⊢
  exact ih.1 h s2 H locs cells slots hH hS hcs hss hcM ls (lv_sub hl [0] rfl) hf

noncomputable def lfX6_isFound_6 (K : Nat) (ζ : pZ) : Nat → (pH → Option (Int32 × pH)) := Nat.rec (motive := fun _ => (pH → Option (Int32 × pH))) (fun _ => none) (fun _ G => (fun τ => some (1, τ)))
noncomputable def fnX6_isFound_6 (K : Nat) (ζ : pZ) (h : Nat) (τ : pH) : Option (Int32 × pH) := dz_b (zob ζ τ h 6) fun f3 => zcl τ (fnX9_lays K ζ h τ) fun _ s2 => dz_b (zob ζ s2 h 6) fun f6 => zcl s2 (fnX9_findsBases K ζ h s2) fun x4 s5 => if x4 = (0 : Int32) then (some (0, s5)) else (dz_b (zob ζ s5 h 6) fun f9 => zcl s5 (fnX6_hasPair_6 K ζ h s5) fun x7 s8 => if x7 = (0 : Int32) then ((lfX6_isFound_6 K ζ K) s8) else (dz_b (zob ζ s8 h 6) fun f12 => zcl s8 (fnX6_findsPair_6 K ζ h s8) fun x10 s11 => if x10 = (0 : Int32) then (some (0, s11)) else ((lfX6_isFound_6 K ζ K) s11)))
set_option maxHeartbeats 4000000 in
set_option maxRecDepth 100000 in
theorem wlX6_isFound_6 {p : Program} {l : Launch} {e : Env} {s : State} {m : MethodId} {below : List Frame} {meth : Method} {c : Code} {D : va_G} {cA : Nat → ClassId} {ζ : pZ} (hX : zX D cA ζ s) (K : Nat) (res : (Int32 × pH)) (M S sl0 : Nat) (hM : s.heap.size + M = res.2.1) (hS0 : sl0 + S = res.2.2.1) (h : Nat) (hx : p.tables.exec = Jvm.exec) (hb : c.code = cX6_isFound) (hr : meth.sig.returnType = some .boolean) (hlocks : meth.locks = false) (hml : c.maxLocals = 1) (hown : s.vm.findClass RX6 = some m.cls) (hts : ∀ w ∈ lw_all, w.before ([.ref h] : List Value).toArray s = true) : ∀ k : Nat, (∀  (τ : pH) (H : Heap) (locs : List Loc) (cells slots : Nat), zH D cA ζ τ H → va_S (zA ζ) s.heap H locs → s.heap.size + cells = τ.1 → sl0 + slots = τ.2.1 → cells ≤ M ∧ slots ≤ S → ∀ (ls : Array Slot), lv_has ls 1 [] → (lfX6_isFound_6 K ζ k) τ = some res → W p l e (headSpec (ws_ yX6_isFound cX6_isFound 1 (some .boolean)) ({ frames := 103, cells := M, slots := S, locals := 2368 })).room s m ([.ref h] : List Value).toArray below meth c H locs cells slots (MQ below (zQi D cA ζ res) ([.ref h] : List Value).toArray s M S (zA ζ)) (F0 m 25 ls [])) := by
  intro k
  induction k with
  | zero =>
    exact fun _ _ _ _ _ _ _ _ _ _ _ _ hf => (by cases hf)
  | succ k ih =>
    · intro τ H locs cells slots hH hS hcs hss hcM ls hl hf
      have hf : (some (1, τ) : Option (Int32 × pH)) = some res := hf
      refine lv_iconst (v := 1) hx hb dX6_isFound_25 (by decide) ?_
      refine lv_goto (tgt := 30) hx hb dX6_isFound_26 (by decide) ?_
      obtain ⟨hM1, hS1⟩ : cells = M ∧ slots = S := by have hq := congrArg Prod.snd (Option.some.inj hf); rw [← hq] at hM hS0; have hM : s.heap.size + M = τ.1 := hM; have hS0 : sl0 + S = τ.2.1 := hS0; omega
      refine W.widen (k := M) (n := S) (Nat.le_of_eq hM1) (Nat.le_of_eq hS1) ?_
      exact W.zret (v := 1) hx hb hr rfl (fun t ht hW => ⟨⟨1, τ, rfl, Option.some.inj hf, z_at ht hH⟩, hS.F ht⟩) hS.2.2 dX6_isFound_30
set_option maxHeartbeats 4000000 in
set_option maxRecDepth 100000 in
theorem mtX6_isFound_6 (l : Launch) (D : va_G) (cA : Nat → ClassId) (ζ : pZ) (τ : pH) (h : Nat) (K : Nat) (res : (Int32 × pH)) (hf : fnX6_isFound_6 K ζ h τ = some res) (M S : Nat) (hM : τ.1 + M = res.2.1) (hS0 : τ.2.1 + S = res.2.2.1) : Met l yX6_isFound (ws_ yX6_isFound cX6_isFound 1 (some .boolean)) ({ frames := 103, cells := M, slots := S, locals := 2368 }) (zPc D cA ζ τ [.ref h]) (zQi D cA ζ res) M S (zA ζ) := by
  refine Met.ofW (cc := cX6_isFound) (maxL := 1) (ret := some .boolean) (by decide +kernel) rfl ?_
  intro p e s m args below meth c s₁ B hml hv
  obtain ⟨rfl, hX, hH⟩ := hv
  have hx := B.exec
  have hb := B.bytes
  have hr := B.returns
  have hts := atoms_spec (ws := ws_ yX6_isFound cX6_isFound 1 (some .boolean)) B.pre
  have hts : ∀ w ∈ lw_all, w.before _ s = true := fun w h => hts w (List.mem_cons_of_mem _ h)
  have hown : s.vm.findClass RX6 = some m.cls := findClass_of_methodNamed B.named
  have hlocks := B.notSynchronized
  have hM : s.heap.size + M = res.2.1 := by rw [hH.1]; exact hM
  have hcs : s.heap.size + 0 = τ.1 := hH.1
  have hss : τ.2.1 + 0 = τ.2.1 := rfl
  generalize hsl0 : τ.2.1 = sl0 at hS0 hss
  have hss : sl0 + 0 = τ.2.1 := by rw [hsl0]; rfl
  have hS : va_S (zA ζ) s.heap s.heap [] := va_S.rf
  generalize hHe : s.heap = H at hH hS ⊢
  have hS : va_S (zA ζ) s.heap H [] := by rw [hHe]; exact hS
  generalize ([] : List Loc) = locs at hS ⊢
  have hl := lv_entry ([.ref h]) (n := 1) (Nat.le_of_ble_eq_true rfl)
  rw [lg_entry_eq]
  generalize (lg_sl ([.ref h]) ++ List.replicate (1 - (lg_sl ([.ref h])).length) Slot.unset).toArray = ls at hl ⊢
  have hl : lv_has ls 1 [(0, .ref h)] := hl
  have hf : (dz_b (zob ζ τ h 6) fun f3 => zcl τ (fnX9_lays K ζ h τ) fun _ s2 => dz_b (zob ζ s2 h 6) fun f6 => zcl s2 (fnX9_findsBases K ζ h s2) fun x4 s5 => if x4 = (0 : Int32) then (some (0, s5)) else (dz_b (zob ζ s5 h 6) fun f9 => zcl s5 (fnX6_hasPair_6 K ζ h s5) fun x7 s8 => if x7 = (0 : Int32) then ((lfX6_isFound_6 K ζ K) s8) else (dz_b (zob ζ s8 h 6) fun f12 => zcl s8 (fnX6_findsPair_6 K ζ h s8) fun x10 s11 => if x10 = (0 : Int32) then (some (0, s11)) else ((lfX6_isFound_6 K ζ K) s11))) : Option (Int32 × pH)) = some res := hf
  refine z_gen (fun cells slots hc0 hs0 => ?_)
  have hcs : s.heap.size + cells = τ.1 := by rw [hc0]; exact hcs
  have hss : sl0 + slots = τ.2.1 := by rw [hs0]; exact hss
  have hcM : cells ≤ M ∧ slots ≤ S := by rw [hc0, hs0]; exact ⟨Nat.zero_le _, Nat.zero_le _⟩
  clear hc0 hs0
  have ih := wlX6_isFound_6 (l := l) (e := e) (below := below) (D := D) (cA := cA) hX K res M S sl0 hM hS0 h hx hb hr hlocks hml hown hts K
  refine lv_aload_n hx hb dX6_isFound_0 rfl (lv_at hl 0 rfl) ?_
  obtain ⟨f3, hf3, hf⟩ := dz_bo hf
  obtain ⟨x1, s2, hx1, hle, hck, hf⟩ := zcl_o hf
  have hc1 : cells + (s2.1 - τ.1) ≤ M := by omega
  have hs1 : slots + (s2.2.1 - τ.2.1) ≤ S := by omega
  refine va_callv (va_runU (x := ⟨"PrimeProofs$Line", "lays", "()V"⟩) (owner := "PrimeProofs$Line") (As := []) (rest := []) ⟨hx, hb, hml, hown, hts⟩ (mtX9_lays l D cA ζ τ h K (x1, s2) hx1 (s2.1 - τ.1) (s2.2.1 - τ.2.1) (Nat.add_sub_cancel' hle.1) (Nat.add_sub_cancel' hle.2)) (va_cwA 0 hts (zU_in q666 q668 q724 q725 q99 q726) rfl rfl rfl (hX.N q667 rfl) (by decide +kernel) ⟨Nat.le_of_ble_eq_true rfl, Nat.le_of_ble_eq_true rfl⟩) (z_preV hX hS hH (zob_o hf3) rfl) rfl rfl hl.1 rfl (lv_room (Nat.le_of_ble_eq_true rfl)) dX6_isFound_1 ⟨hc1, hs1⟩) hS (fun q _ hq => hq) (fun q hq => hq) (fun u t H1 locs ht hvm hw hB hz hk hS => ?_)
  obtain ⟨-, hw2⟩ := Prod.mk.inj hw.symm; subst hw2
  have hH : zH D cA ζ s2 H1 := z_at ht.symm hB
  have hcs : s.heap.size + (cells + (s2.1 - τ.1)) = s2.1 := by omega
  have hss : sl0 + (slots + (s2.2.1 - τ.2.1)) = s2.2.1 := by omega
  replace hcM := And.intro hc1 hs1
  generalize cells + (s2.1 - τ.1) = cells at hcs hcM ⊢; generalize slots + (s2.2.1 - τ.2.1) = slots at hss hcM ⊢
  clear hB hk hz hvm ht hle hck hc1 hs1; generalize H1 = H at hH hS ⊢
  refine lv_aload_n hx hb dX6_isFound_4 rfl (lv_at hl 0 rfl) ?_
  obtain ⟨f6, hf6, hf⟩ := dz_bo hf
  obtain ⟨x4, s5, hx4, hle, hck, hf⟩ := zcl_o hf
  have hc1 : cells + (s5.1 - s2.1) ≤ M := by omega
  have hs1 : slots + (s5.2.1 - s2.2.1) ≤ S := by omega
  refine va_calli (va_runU (x := ⟨"PrimeProofs$Line", "findsBases", "()Z"⟩) (owner := "PrimeProofs$Line") (As := []) (rest := []) ⟨hx, hb, hml, hown, hts⟩ (mtX9_findsBases l D cA ζ s2 h K (x4, s5) hx4 (s5.1 - s2.1) (s5.2.1 - s2.2.1) (Nat.add_sub_cancel' hle.1) (Nat.add_sub_cancel' hle.2)) (va_cwO 0 hts (zO_in q733 q735 q734 q739 q740 q99 q741) rfl rfl rfl q757 (by decide +kernel) ⟨Nat.le_of_ble_eq_true rfl, Nat.le_of_ble_eq_true rfl⟩) (z_preV hX hS hH (zob_o hf6) rfl) rfl rfl hl.1 rfl (lv_room (Nat.le_of_ble_eq_true rfl)) dX6_isFound_5 ⟨hc1, hs1⟩) hS (fun q _ hq => hq) (fun q hq => hq) (fun r u t H1 locs ht hvm hw hB hz hk hS => ?_)
  obtain ⟨hw1, hw2⟩ := Prod.mk.inj hw.symm; subst hw1; subst hw2
  have hH : zH D cA ζ s5 H1 := z_at ht.symm hB
  have hcs : s.heap.size + (cells + (s5.1 - s2.1)) = s5.1 := by omega
  have hss : sl0 + (slots + (s5.2.1 - s2.2.1)) = s5.2.1 := by omega
  replace hcM := And.intro hc1 hs1
  generalize cells + (s5.1 - s2.1) = cells at hcs hcM ⊢; generalize slots + (s5.2.1 - s2.2.1) = slots at hss hcM ⊢
  clear hB hk hz hvm ht hle hck hc1 hs1; generalize H1 = H at hH hS ⊢
  refine lv_if_eq (tgt := 29) hx hb dX6_isFound_8 (by decide) (fun c8 => ?_) (fun c8 => ?_)
  · have hf := dz_t c8 hf
    refine lv_iconst (v := 0) hx hb dX6_isFound_29 (by decide) ?_
    obtain ⟨hM1, hS1⟩ : cells = M ∧ slots = S := by have hq := congrArg Prod.snd (Option.some.inj hf); rw [← hq] at hM hS0; have hM : s.heap.size + M = s5.1 := hM; have hS0 : sl0 + S = s5.2.1 := hS0; omega
    refine W.widen (k := M) (n := S) (Nat.le_of_eq hM1) (Nat.le_of_eq hS1) ?_
    exact W.zret (v := 0) hx hb hr rfl (fun t ht hW => ⟨⟨0, s5, rfl, Option.some.inj hf, z_at ht hH⟩, hS.F ht⟩) hS.2.2 dX6_isFound_30
  · have hf := dz_f c8 hf
    refine lv_aload_n hx hb dX6_isFound_11 rfl (lv_at hl 0 rfl) ?_
    obtain ⟨f9, hf9, hf⟩ := dz_bo hf
    obtain ⟨x7, s8, hx7, hle, hck, hf⟩ := zcl_o hf
    have hc1 : cells + (s8.1 - s5.1) ≤ M := by omega
    have hs1 : slots + (s8.2.1 - s5.2.1) ≤ S := by omega
    refine va_calli (va_runU (x := ⟨"PrimeProofs$Line", "hasPair", "()Z"⟩) (owner := "PrimeProofs$Line") (As := []) (rest := []) ⟨hx, hb, hml, hown, hts⟩ (mtX6_hasPair_6 l D cA ζ s5 h K (x7, s8) hx7 (s8.1 - s5.1) (s8.2.1 - s5.2.1) (Nat.add_sub_cancel' hle.1) (Nat.add_sub_cancel' hle.2)) (va_cwU 0 hts (zU_in q442 q444 q448 q443 q96 q450) rfl rfl rfl rfl (by decide +kernel) ⟨Nat.le_of_ble_eq_true rfl, Nat.le_of_ble_eq_true rfl⟩) (z_preV hX hS hH (zob_o hf9) rfl) rfl rfl hl.1 rfl (lv_room (Nat.le_of_ble_eq_true rfl)) dX6_isFound_12 ⟨hc1, hs1⟩) hS (fun q _ hq => hq) (fun q hq => hq) (fun r u t H1 locs ht hvm hw hB hz hk hS => ?_)
    obtain ⟨hw1, hw2⟩ := Prod.mk.inj hw.symm; subst hw1; subst hw2
    have hH : zH D cA ζ s8 H1 := z_at ht.symm hB
    have hcs : s.heap.size + (cells + (s8.1 - s5.1)) = s8.1 := by omega
    have hss : sl0 + (slots + (s8.2.1 - s5.2.1)) = s8.2.1 := by omega
    replace hcM := And.intro hc1 hs1
    generalize cells + (s8.1 - s5.1) = cells at hcs hcM ⊢; generalize slots + (s8.2.1 - s5.2.1) = slots at hss hcM ⊢
    clear hB hk hz hvm ht hle hck hc1 hs1; generalize H1 = H at hH hS ⊢
    refine lv_if_eq (tgt := 25) hx hb dX6_isFound_15 (by decide) (fun c15 => ?_) (fun c15 => ?_)
    · have hf := dz_t c15 hf
      exact ih s8 H locs cells slots hH hS hcs hss hcM ls (lv_sub hl [] rfl) hf
    · have hf := dz_f c15 hf
      refine lv_aload_n hx hb dX6_isFound_18 rfl (lv_at hl 0 rfl) ?_
      obtain ⟨f12, hf12, hf⟩ := dz_bo hf
      obtain ⟨x10, s11, hx10, hle, hck, hf⟩ := zcl_o hf
      have hc1 : cells + (s11.1 - s8.1) ≤ M := by omega
      have hs1 : slots + (s11.2.1 - s8.2.1) ≤ S := by omega
      refine va_calli (va_runU (x := ⟨"PrimeProofs$Line", "findsPair", "()Z"⟩) (owner := "PrimeProofs$Line") (As := []) (rest := []) ⟨hx, hb, hml, hown, hts⟩ (mtX6_findsPair_6 l D cA ζ s8 h K (x10, s11) hx10 (s11.1 - s8.1) (s11.2.1 - s8.2.1) (Nat.add_sub_cancel' hle.1) (Nat.add_sub_cancel' hle.2)) (va_cwU 0 hts (zU_in q767 q769 q773 q768 q96 q775) rfl rfl rfl rfl (by decide +kernel) ⟨Nat.le_of_ble_eq_true rfl, Nat.le_of_ble_eq_true rfl⟩) (z_preV hX hS hH (zob_o hf12) rfl) rfl rfl hl.1 rfl (lv_room (Nat.le_of_ble_eq_true rfl)) dX6_isFound_19 ⟨hc1, hs1⟩) hS (fun q _ hq => hq) (fun q hq => hq) (fun r u t H1 locs ht hvm hw hB hz hk hS => ?_)
      obtain ⟨hw1, hw2⟩ := Prod.mk.inj hw.symm; subst hw1; subst hw2
      have hH : zH D cA ζ s11 H1 := z_at ht.symm hB
      have hcs : s.heap.size + (cells + (s11.1 - s8.1)) = s11.1 := by omega
      have hss : sl0 + (slots + (s11.2.1 - s8.2.1)) = s11.2.1 := by omega
      replace hcM := And.intro hc1 hs1
      generalize cells + (s11.1 - s8.1) = cells at hcs hcM ⊢; generalize slots + (s11.2.1 - s8.2.1) = slots at hss hcM ⊢
      clear hB hk hz hvm ht hle hck hc1 hs1; generalize H1 = H at hH hS ⊢
      refine lv_if_eq (tgt := 29) hx hb dX6_isFound_22 (by decide) (fun c22 => ?_) (fun c22 => ?_)
      · have hf := dz_t c22 hf
        refine lv_iconst (v := 0) hx hb dX6_isFound_29 (by decide) ?_
        obtain ⟨hM1, hS1⟩ : cells = M ∧ slots = S := by have hq := congrArg Prod.snd (Option.some.inj hf); rw [← hq] at hM hS0; have hM : s.heap.size + M = s11.1 := hM; have hS0 : sl0 + S = s11.2.1 := hS0; omega
        refine W.widen (k := M) (n := S) (Nat.le_of_eq hM1) (Nat.le_of_eq hS1) ?_
        exact W.zret (v := 0) hx hb hr rfl (fun t ht hW => ⟨⟨0, s11, rfl, Option.some.inj hf, z_at ht hH⟩, hS.F ht⟩) hS.2.2 dX6_isFound_30
      · have hf := dz_f c22 hf
        exact ih s11 H locs cells slots hH hS hcs hss hcM ls (lv_sub hl [] rfl) hf

noncomputable def lfX6_findsBase_7 (K : Nat) (ζ : pZ) : Nat → (Nat → Nat → pH → Option (Int32 × pH)) × (Nat → Nat → pH → Option (Int32 × pH)) := Nat.rec (motive := fun _ => (Nat → Nat → pH → Option (Int32 × pH)) × (Nat → Nat → pH → Option (Int32 × pH))) ((fun _ _ _ => none), (fun _ _ _ => none)) (fun _ G => ((fun v0 v1 τ => dz_b (zob ζ τ v1 11) fun f1 => dz_b (zvi (f1[2]?)) fun x2 => if (999 : Int32) < x2 then (some (0, τ)) else (dz_b (zob ζ τ v0 7) fun f5 => zcl τ (fnX6_isOne_7 K ζ v0 v1 τ) fun x3 s4 => if x3 = (0 : Int32) then (G.2 v0 v1 s4) else (dz_b (zob ζ s4 v0 7) fun f8 => zcl s4 (fnX6_isFar_7 K ζ v0 v1 s4) fun x6 s7 => if x6 = (0 : Int32) then (G.2 v0 v1 s7) else (some (1, s7))))), (fun v0 v1 τ => dz_b (zob ζ τ v1 11) fun f1 => dz_b (zvi (f1[2]?)) fun x2 => dz_l (x2 + 1) fun x3 => dz_b (zwo ζ τ v1 11 2) fun f4 => dz_l (zst τ v1 (.inr (11, f4.set 2 (.int x3)))) fun s5 => G.1 v0 v1 s5)))
noncomputable def fnX6_findsBase_7 (K : Nat) (ζ : pZ) (h : Nat) (a0 : Nat) (τ : pH) : Option (Int32 × pH) := dz_b (zwo ζ τ a0 11 2) fun f1 => dz_l (zst τ a0 (.inr (11, f1.set 2 (.int 2)))) fun s2 => (lfX6_findsBase_7 K ζ K).1 h a0 s2
set_option maxHeartbeats 4000000 in
set_option maxRecDepth 100000 in
theorem wlX6_findsBase_7 {p : Program} {l : Launch} {e : Env} {s : State} {m : MethodId} {below : List Frame} {meth : Method} {c : Code} {D : va_G} {cA : Nat → ClassId} {ζ : pZ} (hX : zX D cA ζ s) (K : Nat) (res : (Int32 × pH)) (M S sl0 : Nat) (hM : s.heap.size + M = res.2.1) (hS0 : sl0 + S = res.2.2.1) (h : Nat) (a0 : Nat) (hx : p.tables.exec = Jvm.exec) (hb : c.code = cX6_findsBase) (hr : meth.sig.returnType = some .boolean) (hlocks : meth.locks = false) (hml : c.maxLocals = 2) (hown : s.vm.findClass RX6 = some m.cls) (hts : ∀ w ∈ lw_all, w.before ([.ref h, .ref a0] : List Value).toArray s = true) : ∀ k : Nat, (∀ (v0 : Nat) (v1 : Nat) (τ : pH) (H : Heap) (locs : List Loc) (cells slots : Nat), zH D cA ζ τ H → va_S (zA ζ) s.heap H locs → s.heap.size + cells = τ.1 → sl0 + slots = τ.2.1 → cells ≤ M ∧ slots ≤ S → ∀ (ls : Array Slot), lv_has ls 2 [(0, .ref v0), (1, .ref v1)] → (lfX6_findsBase_7 K ζ k).1 v0 v1 τ = some res → W p l e (headSpec (ws_ yX6_findsBase cX6_findsBase 2 (some .boolean)) ({ frames := 102, cells := M, slots := S, locals := 2344 })).room s m ([.ref h, .ref a0] : List Value).toArray below meth c H locs cells slots (MQ below (zQi D cA ζ res) ([.ref h, .ref a0] : List Value).toArray s M S (zA ζ)) (F0 m 5 ls [])) ∧ (∀ (v0 : Nat) (v1 : Nat) (τ : pH) (H : Heap) (locs : List Loc) (cells slots : Nat), zH D cA ζ τ H → va_S (zA ζ) s.heap H locs → s.heap.size + cells = τ.1 → sl0 + slots = τ.2.1 → cells ≤ M ∧ slots ≤ S → ∀ (ls : Array Slot), lv_has ls 2 [(0, .ref v0), (1, .ref v1)] → (lfX6_findsBase_7 K ζ k).2 v0 v1 τ = some res → W p l e (headSpec (ws_ yX6_findsBase cX6_findsBase 2 (some .boolean)) ({ frames := 102, cells := M, slots := S, locals := 2344 })).room s m ([.ref h, .ref a0] : List Value).toArray below meth c H locs cells slots (MQ below (zQi D cA ζ res) ([.ref h, .ref a0] : List Value).toArray s M S (zA ζ)) (F0 m 33 ls [])) := by
  intro k
  induction k with
  | zero =>
    exact ⟨fun _ _ _ _ _ _ _ _ _ _ _ _ _ _ hf => (by cases hf), fun _ _ _ _ _ _ _ _ _ _ _ _ _ _ hf => (by cases hf)⟩
  | succ k ih =>
    refine ⟨?_, ?_⟩
    · intro v0 v1 τ H locs cells slots hH hS hcs hss hcM ls hl hf
      have hf : (dz_b (zob ζ τ v1 11) fun f1 => dz_b (zvi (f1[2]?)) fun x2 => if (999 : Int32) < x2 then (some (0, τ)) else (dz_b (zob ζ τ v0 7) fun f5 => zcl τ (fnX6_isOne_7 K ζ v0 v1 τ) fun x3 s4 => if x3 = (0 : Int32) then ((lfX6_findsBase_7 K ζ k).2 v0 v1 s4) else (dz_b (zob ζ s4 v0 7) fun f8 => zcl s4 (fnX6_isFar_7 K ζ v0 v1 s4) fun x6 s7 => if x6 = (0 : Int32) then ((lfX6_findsBase_7 K ζ k).2 v0 v1 s7) else (some (1, s7)))) : Option (Int32 × pH)) = some res := hf
      refine lv_aload_n hx hb dX6_findsBase_5 rfl (lv_at hl 1 rfl) ?_
      obtain ⟨f1, hf1, hf⟩ := dz_bo hf
      obtain ⟨x2, hx2, hf⟩ := dz_bo hf
      refine va_get (C := RX13) (T := TX13) (N := 3) hx hb hts in_X13 hown hX.K (zrd_P hX hS hH (zob_o hf1)) 0 rfl rfl 2 (by decide) (hts _ q692) (fun _ hq => hq) (zvi_o hx2) dX6_findsBase_6 ?_
      refine lv_sipush (v := 999) hx hb dX6_findsBase_9 (by decide) ?_
      refine lv_icmp_gt (tgt := 46) hx hb dX6_findsBase_12 (by decide) (fun c12 => ?_) (fun c12 => ?_)
      · have hf := dz_t c12 hf
        refine lv_iconst (v := 0) hx hb dX6_findsBase_46 (by decide) ?_
        obtain ⟨hM1, hS1⟩ : cells = M ∧ slots = S := by have hq := congrArg Prod.snd (Option.some.inj hf); rw [← hq] at hM hS0; have hM : s.heap.size + M = τ.1 := hM; have hS0 : sl0 + S = τ.2.1 := hS0; omega
        refine W.widen (k := M) (n := S) (Nat.le_of_eq hM1) (Nat.le_of_eq hS1) ?_
        exact W.zret (v := 0) hx hb hr rfl (fun t ht hW => ⟨⟨0, τ, rfl, Option.some.inj hf, z_at ht hH⟩, hS.F ht⟩) hS.2.2 dX6_findsBase_47
      · have hf := dz_f c12 hf
        refine lv_aload_n hx hb dX6_findsBase_15 rfl (lv_at hl 0 rfl) ?_
        refine lv_aload_n hx hb dX6_findsBase_16 rfl (lv_at hl 1 rfl) ?_
        obtain ⟨f5, hf5, hf⟩ := dz_bo hf
        obtain ⟨x3, s4, hx3, hle, hck, hf⟩ := zcl_o hf
        have hc1 : cells + (s4.1 - τ.1) ≤ M := by omega
        have hs1 : slots + (s4.2.1 - τ.2.1) ≤ S := by omega
        refine va_calli (va_runU (x := ⟨"PrimeProofs$Line", "isOne", "(LPrimeProofs$Row;)Z"⟩) (owner := "PrimeProofs$Line") (As := [.ref v1]) (rest := []) ⟨hx, hb, hml, hown, hts⟩ (mtX6_isOne_7 l D cA ζ τ v0 v1 K (x3, s4) hx3 (s4.1 - τ.1) (s4.2.1 - τ.2.1) (Nat.add_sub_cancel' hle.1) (Nat.add_sub_cancel' hle.2)) (va_cwA 1 hts (zU_in q358 q360 q363 q359 q96 q366) rfl rfl rfl (hX.N q750 rfl) (by decide +kernel) ⟨Nat.le_of_ble_eq_true rfl, Nat.le_of_ble_eq_true rfl⟩) (z_preV hX hS hH (zob_o hf5) rfl) rfl rfl hl.1 rfl (lv_room (Nat.le_of_ble_eq_true rfl)) dX6_findsBase_17 ⟨hc1, hs1⟩) hS (fun q _ hq => hq) (fun q hq => hq) (fun r u t H1 locs ht hvm hw hB hz hk hS => ?_)
        obtain ⟨hw1, hw2⟩ := Prod.mk.inj hw.symm; subst hw1; subst hw2
        have hH : zH D cA ζ s4 H1 := z_at ht.symm hB
        have hcs : s.heap.size + (cells + (s4.1 - τ.1)) = s4.1 := by omega
        have hss : sl0 + (slots + (s4.2.1 - τ.2.1)) = s4.2.1 := by omega
        replace hcM := And.intro hc1 hs1
        generalize cells + (s4.1 - τ.1) = cells at hcs hcM ⊢; generalize slots + (s4.2.1 - τ.2.1) = slots at hss hcM ⊢
        clear hB hk hz hvm ht hle hck hc1 hs1; generalize H1 = H at hH hS ⊢
        refine lv_if_eq (tgt := 33) hx hb dX6_findsBase_20 (by decide) (fun c20 => ?_) (fun c20 => ?_)
        · have hf := dz_t c20 hf
          exact ih.2 v0 v1 s4 H locs cells slots hH hS hcs hss hcM ls (lv_sub hl [0, 1] rfl) hf
        · have hf := dz_f c20 hf
          refine lv_aload_n hx hb dX6_findsBase_23 rfl (lv_at hl 0 rfl) ?_
          refine lv_aload_n hx hb dX6_findsBase_24 rfl (lv_at hl 1 rfl) ?_
          obtain ⟨f8, hf8, hf⟩ := dz_bo hf
          obtain ⟨x6, s7, hx6, hle, hck, hf⟩ := zcl_o hf
          have hc1 : cells + (s7.1 - s4.1) ≤ M := by omega
          have hs1 : slots + (s7.2.1 - s4.2.1) ≤ S := by omega
          refine va_calli (va_runU (x := ⟨"PrimeProofs$Line", "isFar", "(LPrimeProofs$Row;)Z"⟩) (owner := "PrimeProofs$Line") (As := [.ref v1]) (rest := []) ⟨hx, hb, hml, hown, hts⟩ (mtX6_isFar_7 l D cA ζ s4 v0 v1 K (x6, s7) hx6 (s7.1 - s4.1) (s7.2.1 - s4.2.1) (Nat.add_sub_cancel' hle.1) (Nat.add_sub_cancel' hle.2)) (va_cwA 1 hts (zU_in q431 q433 q436 q432 q96 q439) rfl rfl rfl (hX.N q754 rfl) (by decide +kernel) ⟨Nat.le_of_ble_eq_true rfl, Nat.le_of_ble_eq_true rfl⟩) (z_preV hX hS hH (zob_o hf8) rfl) rfl rfl hl.1 rfl (lv_room (Nat.le_of_ble_eq_true rfl)) dX6_findsBase_25 ⟨hc1, hs1⟩) hS (fun q _ hq => hq) (fun q hq => hq) (fun r u t H1 locs ht hvm hw hB hz hk hS => ?_)
          obtain ⟨hw1, hw2⟩ := Prod.mk.inj hw.symm; subst hw1; subst hw2
          have hH : zH D cA ζ s7 H1 := z_at ht.symm hB
          have hcs : s.heap.size + (cells + (s7.1 - s4.1)) = s7.1 := by omega
          have hss : sl0 + (slots + (s7.2.1 - s4.2.1)) = s7.2.1 := by omega
          replace hcM := And.intro hc1 hs1
          generalize cells + (s7.1 - s4.1) = cells at hcs hcM ⊢; generalize slots + (s7.2.1 - s4.2.1) = slots at hss hcM ⊢
          clear hB hk hz hvm ht hle hck hc1 hs1; generalize H1 = H at hH hS ⊢
          refine lv_if_eq (tgt := 33) hx hb dX6_findsBase_28 (by decide) (fun c28 => ?_) (fun c28 => ?_)
          · have hf := dz_t c28 hf
            exact ih.2 v0 v1 s7 H locs cells slots hH hS hcs hss hcM ls (lv_sub hl [0, 1] rfl) hf
          · have hf := dz_f c28 hf
            refine lv_iconst (v := 1) hx hb dX6_findsBase_31 (by decide) ?_
            obtain ⟨hM1, hS1⟩ : cells = M ∧ slots = S := by have hq := congrArg Prod.snd (Option.some.inj hf); rw [← hq] at hM hS0; have hM : s.heap.size + M = s7.1 := hM; have hS0 : sl0 + S = s7.2.1 := hS0; omega
            refine W.widen (k := M) (n := S) (Nat.le_of_eq hM1) (Nat.le_of_eq hS1) ?_
            exact W.zret (v := 1) hx hb hr rfl (fun t ht hW => ⟨⟨1, s7, rfl, Option.some.inj hf, z_at ht hH⟩, hS.F ht⟩) hS.2.2 dX6_findsBase_32
    · intro v0 v1 τ H locs cells slots hH hS hcs hss hcM ls hl hf
      have hf : (dz_b (zob ζ τ v1 11) fun f1 => dz_b (zvi (f1[2]?)) fun x2 => dz_l (x2 + 1) fun x3 => dz_b (zwo ζ τ v1 11 2) fun f4 => dz_l (zst τ v1 (.inr (11, f4.set 2 (.int x3)))) fun s5 => (lfX6_findsBase_7 K ζ k).1 v0 v1 s5 : Option (Int32 × pH)) = some res := hf
      refine lv_aload_n hx hb dX6_findsBase_33 rfl (lv_at hl 1 rfl) ?_
      refine lv_dup hx hb dX6_findsBase_34 rfl ?_
      obtain ⟨f1, hf1, hf⟩ := dz_bo hf
      obtain ⟨x2, hx2, hf⟩ := dz_bo hf
      refine va_get (C := RX13) (T := TX13) (N := 3) hx hb hts in_X13 hown hX.K (zrd_P hX hS hH (zob_o hf1)) 0 rfl rfl 2 (by decide) (hts _ q692) (fun _ hq => hq) (zvi_o hx2) dX6_findsBase_35 ?_
      refine lv_iconst (v := 1) hx hb dX6_findsBase_38 (by decide) ?_
      refine lv_iadd hx hb dX6_findsBase_39 ?_
      refine lv_topi (fun x3 e_x3 => ?_)
      have hf := dz_ls e_x3 hf
      obtain ⟨f4, hf4, hf⟩ := dz_bo hf
      obtain ⟨ha_f4, he_f4, hk_f4⟩ := zwo_o hf4
      refine va_put (C := RX13) (T := TX13) (N := 3) hx hb hts in_X13 tyX13 tyX13_ok nmX13 hown hX.K hH.2.2 zw_D hS _ (zw_o ha_f4 he_f4) rfl 2 (by decide) (hts _ q692) (fun _ hq => hq) rfl rfl rfl rfl hk_f4 dX6_findsBase_40 (fun H1 locs hP1 _ hS => dz_size (fun hz => ?_))
      obtain ⟨s5, e_s5, hf⟩ := dz_lo hf
      have hH := zH_put (x := .inr (11, f4.set 2 (.int x3))) hH hcs ha_f4 hP1 hz
      rw [← e_s5] at hH
      have hcs : s.heap.size + cells = s5.1 := by rw [e_s5]; exact hcs
      have hss : sl0 + slots = s5.2.1 := by rw [e_s5]; exact hss
      clear hP1 hz; generalize H1 = H at hH hS ⊢
      refine lv_goto (tgt := 5) hx hb dX6_findsBase_43 (by decide) ?_
      exact ih.1 v0 v1 s5 H locs cells slots hH hS hcs hss hcM ls (lv_sub hl [0, 1] rfl) hf
set_option maxHeartbeats 4000000 in
set_option maxRecDepth 100000 in
theorem mtX6_findsBase_7 (l : Launch) (D : va_G) (cA : Nat → ClassId) (ζ : pZ) (τ : pH) (h : Nat) (a0 : Nat) (K : Nat) (res : (Int32 × pH)) (hf : fnX6_findsBase_7 K ζ h a0 τ = some res) (M S : Nat) (hM : τ.1 + M = res.2.1) (hS0 : τ.2.1 + S = res.2.2.1) : Met l yX6_findsBase (ws_ yX6_findsBase cX6_findsBase 2 (some .boolean)) ({ frames := 102, cells := M, slots := S, locals := 2344 }) (zPc D cA ζ τ [.ref h, .ref a0]) (zQi D cA ζ res) M S (zA ζ) := by
  refine Met.ofW (cc := cX6_findsBase) (maxL := 2) (ret := some .boolean) (by decide +kernel) rfl ?_
  intro p e s m args below meth c s₁ B hml hv
  obtain ⟨rfl, hX, hH⟩ := hv
  have hx := B.exec
  have hb := B.bytes
  have hr := B.returns
  have hts := atoms_spec (ws := ws_ yX6_findsBase cX6_findsBase 2 (some .boolean)) B.pre
  have hts : ∀ w ∈ lw_all, w.before _ s = true := fun w h => hts w (List.mem_cons_of_mem _ h)
  have hown : s.vm.findClass RX6 = some m.cls := findClass_of_methodNamed B.named
  have hlocks := B.notSynchronized
  have hM : s.heap.size + M = res.2.1 := by rw [hH.1]; exact hM
  have hcs : s.heap.size + 0 = τ.1 := hH.1
  have hss : τ.2.1 + 0 = τ.2.1 := rfl
  generalize hsl0 : τ.2.1 = sl0 at hS0 hss
  have hss : sl0 + 0 = τ.2.1 := by rw [hsl0]; rfl
  have hS : va_S (zA ζ) s.heap s.heap [] := va_S.rf
  generalize hHe : s.heap = H at hH hS ⊢
  have hS : va_S (zA ζ) s.heap H [] := by rw [hHe]; exact hS
  generalize ([] : List Loc) = locs at hS ⊢
  have hl := lv_entry ([.ref h, .ref a0]) (n := 2) (Nat.le_of_ble_eq_true rfl)
  rw [lg_entry_eq]
  generalize (lg_sl ([.ref h, .ref a0]) ++ List.replicate (2 - (lg_sl ([.ref h, .ref a0])).length) Slot.unset).toArray = ls at hl ⊢
  have hl : lv_has ls 2 [(0, .ref h), (1, .ref a0)] := hl
  have hf : (dz_b (zwo ζ τ a0 11 2) fun f1 => dz_l (zst τ a0 (.inr (11, f1.set 2 (.int 2)))) fun s2 => (lfX6_findsBase_7 K ζ K).1 h a0 s2 : Option (Int32 × pH)) = some res := hf
  refine z_gen (fun cells slots hc0 hs0 => ?_)
  have hcs : s.heap.size + cells = τ.1 := by rw [hc0]; exact hcs
  have hss : sl0 + slots = τ.2.1 := by rw [hs0]; exact hss
  have hcM : cells ≤ M ∧ slots ≤ S := by rw [hc0, hs0]; exact ⟨Nat.zero_le _, Nat.zero_le _⟩
  clear hc0 hs0
  have ih := wlX6_findsBase_7 (l := l) (e := e) (below := below) (D := D) (cA := cA) hX K res M S sl0 hM hS0 h a0 hx hb hr hlocks hml hown hts K
  refine lv_aload_n hx hb dX6_findsBase_0 rfl (lv_at hl 1 rfl) ?_
  refine lv_iconst (v := 2) hx hb dX6_findsBase_1 (by decide) ?_
  obtain ⟨f1, hf1, hf⟩ := dz_bo hf
  obtain ⟨ha_f1, he_f1, hk_f1⟩ := zwo_o hf1
  refine va_put (C := RX13) (T := TX13) (N := 3) hx hb hts in_X13 tyX13 tyX13_ok nmX13 hown hX.K hH.2.2 zw_D hS _ (zw_o ha_f1 he_f1) rfl 2 (by decide) (hts _ q692) (fun _ hq => hq) rfl rfl rfl rfl hk_f1 dX6_findsBase_2 (fun H1 locs hP1 _ hS => dz_size (fun hz => ?_))
  obtain ⟨s2, e_s2, hf⟩ := dz_lo hf
  have hH := zH_put (x := .inr (11, f1.set 2 (.int 2))) hH hcs ha_f1 hP1 hz
  rw [← e_s2] at hH
  have hcs : s.heap.size + cells = s2.1 := by rw [e_s2]; exact hcs
  have hss : sl0 + slots = s2.2.1 := by rw [e_s2]; exact hss
  clear hP1 hz; generalize H1 = H at hH hS ⊢
  exact ih.1 h a0 s2 H locs cells slots hH hS hcs hss hcM ls (lv_sub hl [0, 1] rfl) hf

noncomputable def lfX6_findsBases_7 (K : Nat) (ζ : pZ) : Nat → (Nat → Nat → pH → Option (Int32 × pH)) := Nat.rec (motive := fun _ => (Nat → Nat → pH → Option (Int32 × pH))) (fun _ _ _ => none) (fun _ G => (fun v0 v1 τ => dz_b (zob ζ τ v1 2) fun f3 => zcl τ (fnX2_hasNext K ζ v1 τ) fun x1 s2 => if x1 = (0 : Int32) then (some (1, s2)) else (dz_b (zob ζ s2 v1 2) fun f6 => zcl s2 (fnX2_next K ζ v1 s2) fun x4 s5 => dz_b (zob ζ s5 x4 11) fun f7 => dz_b (zob ζ s5 v0 7) fun f10 => zcl s5 (fnX6_findsBase_7 K ζ v0 x4 s5) fun x8 s9 => if x8 = (0 : Int32) then (some (0, s9)) else (G v0 v1 s9))))
noncomputable def fnX6_findsBases_7 (K : Nat) (ζ : pZ) (h : Nat) (τ : pH) : Option (Int32 × pH) := dz_b (zob ζ τ h 7) fun f1 => dz_b (zvr (f1[4]?)) fun x2 => dz_b (zob ζ τ x2 10) fun f5 => zcl τ (fnX8_iterator K ζ x2 τ) fun x3 s4 => (lfX6_findsBases_7 K ζ K) h x3 s4
set_option maxHeartbeats 4000000 in
set_option maxRecDepth 100000 in
theorem wlX6_findsBases_7 {p : Program} {l : Launch} {e : Env} {s : State} {m : MethodId} {below : List Frame} {meth : Method} {c : Code} {D : va_G} {cA : Nat → ClassId} {ζ : pZ} (hX : zX D cA ζ s) (K : Nat) (res : (Int32 × pH)) (M S sl0 : Nat) (hM : s.heap.size + M = res.2.1) (hS0 : sl0 + S = res.2.2.1) (h : Nat) (hx : p.tables.exec = Jvm.exec) (hb : c.code = cX6_findsBases) (hr : meth.sig.returnType = some .boolean) (hlocks : meth.locks = false) (hml : c.maxLocals = 3) (hown : s.vm.findClass RX6 = some m.cls) (hts : ∀ w ∈ lw_all, w.before ([.ref h] : List Value).toArray s = true) : ∀ k : Nat, (∀ (v0 : Nat) (v1 : Nat) (τ : pH) (H : Heap) (locs : List Loc) (cells slots : Nat), zH D cA ζ τ H → va_S (zA ζ) s.heap H locs → s.heap.size + cells = τ.1 → sl0 + slots = τ.2.1 → cells ≤ M ∧ slots ≤ S → ∀ (ls : Array Slot), lv_has ls 3 [(0, .ref v0), (1, .ref v1)] → (lfX6_findsBases_7 K ζ k) v0 v1 τ = some res → W p l e (headSpec (ws_ yX6_findsBases cX6_findsBases 3 (some .boolean)) ({ frames := 103, cells := M, slots := S, locals := 2365 })).room s m ([.ref h] : List Value).toArray below meth c H locs cells slots (MQ below (zQi D cA ζ res) ([.ref h] : List Value).toArray s M S (zA ζ)) (F0 m 8 ls [])) := by
  intro k
  induction k with
  | zero =>
    exact fun _ _ _ _ _ _ _ _ _ _ _ _ _ _ hf => (by cases hf)
  | succ k ih =>
    · intro v0 v1 τ H locs cells slots hH hS hcs hss hcM ls hl hf
      have hf : (dz_b (zob ζ τ v1 2) fun f3 => zcl τ (fnX2_hasNext K ζ v1 τ) fun x1 s2 => if x1 = (0 : Int32) then (some (1, s2)) else (dz_b (zob ζ s2 v1 2) fun f6 => zcl s2 (fnX2_next K ζ v1 s2) fun x4 s5 => dz_b (zob ζ s5 x4 11) fun f7 => dz_b (zob ζ s5 v0 7) fun f10 => zcl s5 (fnX6_findsBase_7 K ζ v0 x4 s5) fun x8 s9 => if x8 = (0 : Int32) then (some (0, s9)) else ((lfX6_findsBases_7 K ζ k) v0 v1 s9)) : Option (Int32 × pH)) = some res := hf
      refine lv_aload_n hx hb dX6_findsBases_8 rfl (lv_at hl 1 rfl) ?_
      obtain ⟨f3, hf3, hf⟩ := dz_bo hf
      obtain ⟨x1, s2, hx1, hle, hck, hf⟩ := zcl_o hf
      have hc1 : cells + (s2.1 - τ.1) ≤ M := by omega
      have hs1 : slots + (s2.2.1 - τ.2.1) ≤ S := by omega
      refine va_callFi (va_runF (hX.K.1 2 _ rfl).2 (As := []) (rest := []) ⟨hx, hb, hml, hown, hts⟩ (mtX2_hasNext l D cA ζ τ v1 K (x1, s2) hx1 (s2.1 - τ.1) (s2.2.1 - τ.2.1) (Nat.add_sub_cancel' hle.1) (Nat.add_sub_cancel' hle.2)) (va_cwF 0 hts (zF_in q263 q267 q269 q91 q271) rfl rfl rfl (hX.F 0 rfl) (by decide +kernel) ⟨Nat.le_of_ble_eq_true rfl, Nat.le_of_ble_eq_true rfl⟩) (z_preV hX hS hH (zob_o hf3) rfl) rfl rfl hl.1 rfl (lv_room (Nat.le_of_ble_eq_true rfl)) dX6_findsBases_9 ⟨hc1, hs1⟩) hS (fun q _ hq => hq) (fun q hq => hq) (fun r u t H1 locs ht hvm hw hB hz hk hS => ?_)
      obtain ⟨hw1, hw2⟩ := Prod.mk.inj hw.symm; subst hw1; subst hw2
      have hH : zH D cA ζ s2 H1 := z_at ht.symm hB
      have hcs : s.heap.size + (cells + (s2.1 - τ.1)) = s2.1 := by omega
      have hss : sl0 + (slots + (s2.2.1 - τ.2.1)) = s2.2.1 := by omega
      replace hcM := And.intro hc1 hs1
      generalize cells + (s2.1 - τ.1) = cells at hcs hcM ⊢; generalize slots + (s2.2.1 - τ.2.1) = slots at hss hcM ⊢
      clear hB hk hz hvm ht hle hck hc1 hs1; generalize H1 = H at hH hS ⊢
      refine lv_if_eq (tgt := 40) hx hb dX6_findsBases_14 (by decide) (fun c14 => ?_) (fun c14 => ?_)
      · have hf := dz_t c14 hf
        refine lv_iconst (v := 1) hx hb dX6_findsBases_40 (by decide) ?_
        obtain ⟨hM1, hS1⟩ : cells = M ∧ slots = S := by have hq := congrArg Prod.snd (Option.some.inj hf); rw [← hq] at hM hS0; have hM : s.heap.size + M = s2.1 := hM; have hS0 : sl0 + S = s2.2.1 := hS0; omega
        refine W.widen (k := M) (n := S) (Nat.le_of_eq hM1) (Nat.le_of_eq hS1) ?_
        exact W.zret (v := 1) hx hb hr rfl (fun t ht hW => ⟨⟨1, s2, rfl, Option.some.inj hf, z_at ht hH⟩, hS.F ht⟩) hS.2.2 dX6_findsBases_41
      · have hf := dz_f c14 hf
        refine lv_aload_n hx hb dX6_findsBases_17 rfl (lv_at hl 1 rfl) ?_
        obtain ⟨f6, hf6, hf⟩ := dz_bo hf
        obtain ⟨x4, s5, hx4, hle, hck, hf⟩ := zcl_o hf
        have hc1 : cells + (s5.1 - s2.1) ≤ M := by omega
        have hs1 : slots + (s5.2.1 - s2.2.1) ≤ S := by omega
        refine va_callFr (va_runF (hX.K.1 2 _ rfl).2 (As := []) (rest := []) ⟨hx, hb, hml, hown, hts⟩ (mtX2_next l D cA ζ s2 v1 K (x4, s5) hx4 (s5.1 - s2.1) (s5.2.1 - s2.2.1) (Nat.add_sub_cancel' hle.1) (Nat.add_sub_cancel' hle.2)) (va_cwF 0 hts (zF_in q279 q282 q284 q91 q286) rfl rfl rfl (hX.F 1 rfl) (by decide +kernel) ⟨Nat.le_of_ble_eq_true rfl, Nat.le_of_ble_eq_true rfl⟩) (z_preV hX hS hH (zob_o hf6) rfl) rfl rfl hl.1 rfl (lv_room (Nat.le_of_ble_eq_true rfl)) dX6_findsBases_18 ⟨hc1, hs1⟩) hS (fun q _ hq => hq) (fun q hq => hq) (fun u r t H1 locs ht hvm hw hB hz hk hS => ?_)
        obtain ⟨hw, hB⟩ := hB
        obtain ⟨hw1, hw2⟩ := Prod.mk.inj hw.symm; subst hw1; subst hw2
        have hH : zH D cA ζ s5 H1 := z_at ht.symm hB
        have hcs : s.heap.size + (cells + (s5.1 - s2.1)) = s5.1 := by omega
        have hss : sl0 + (slots + (s5.2.1 - s2.2.1)) = s5.2.1 := by omega
        replace hcM := And.intro hc1 hs1
        generalize cells + (s5.1 - s2.1) = cells at hcs hcM ⊢; generalize slots + (s5.2.1 - s2.2.1) = slots at hss hcM ⊢
        clear hB hk hz hvm ht hle hck hc1 hs1; generalize H1 = H at hH hS ⊢
        obtain ⟨f7, hf7, hf⟩ := dz_bo hf
        refine va_castS (nm := RX13) hx hb hown (hts _ q300) (hX.K.1 11 _ rfl).2 (va_recv hX.K (zrd_P hX hS hH (zob_o hf7)) (ci := 11) (q0 := 0) rfl rfl) dX6_findsBases_23 ?_
        refine lv_astore_n (lv' := [(2, .ref x4), (0, .ref v0), (1, .ref v1)]) hx hb dX6_findsBases_26 rfl hl (by decide) rfl (fun ls hl => ?_)
        refine lv_aload_n hx hb dX6_findsBases_27 rfl (lv_at hl 1 rfl) ?_
        refine lv_aload_n hx hb dX6_findsBases_28 rfl (lv_at hl 0 rfl) ?_
        obtain ⟨f10, hf10, hf⟩ := dz_bo hf
        obtain ⟨x8, s9, hx8, hle, hck, hf⟩ := zcl_o hf
        have hc1 : cells + (s9.1 - s5.1) ≤ M := by omega
        have hs1 : slots + (s9.2.1 - s5.2.1) ≤ S := by omega
        refine va_calli (va_runU (x := ⟨"PrimeProofs$Line", "findsBase", "(LPrimeProofs$Row;)Z"⟩) (owner := "PrimeProofs$Line") (As := [.ref x4]) (rest := []) ⟨hx, hb, hml, hown, hts⟩ (mtX6_findsBase_7 l D cA ζ s5 v0 x4 K (x8, s9) hx8 (s9.1 - s5.1) (s9.2.1 - s5.2.1) (Nat.add_sub_cancel' hle.1) (Nat.add_sub_cancel' hle.2)) (va_cwU 1 hts (zU_in q758 q760 q763 q759 q96 q766) rfl rfl rfl rfl (by decide +kernel) ⟨Nat.le_of_ble_eq_true rfl, Nat.le_of_ble_eq_true rfl⟩) (z_preV hX hS hH (zob_o hf10) rfl) rfl rfl hl.1 rfl (lv_room (Nat.le_of_ble_eq_true rfl)) dX6_findsBases_29 ⟨hc1, hs1⟩) hS (fun q _ hq => hq) (fun q hq => hq) (fun r u t H1 locs ht hvm hw hB hz hk hS => ?_)
        obtain ⟨hw1, hw2⟩ := Prod.mk.inj hw.symm; subst hw1; subst hw2
        have hH : zH D cA ζ s9 H1 := z_at ht.symm hB
        have hcs : s.heap.size + (cells + (s9.1 - s5.1)) = s9.1 := by omega
        have hss : sl0 + (slots + (s9.2.1 - s5.2.1)) = s9.2.1 := by omega
        replace hcM := And.intro hc1 hs1
        generalize cells + (s9.1 - s5.1) = cells at hcs hcM ⊢; generalize slots + (s9.2.1 - s5.2.1) = slots at hss hcM ⊢
        clear hB hk hz hvm ht hle hck hc1 hs1; generalize H1 = H at hH hS ⊢
        refine lv_if_ne (tgt := 37) hx hb dX6_findsBases_32 (by decide) (fun c32 => ?_) (fun c32 => ?_)
        · have hf := dz_f c32 hf
          refine lv_goto (tgt := 8) hx hb dX6_findsBases_37 (by decide) ?_
          exact ih v0 v1 s9 H locs cells slots hH hS hcs hss hcM ls (lv_sub hl [1, 2] rfl) hf
        · have hf := dz_t c32 hf
          refine lv_iconst (v := 0) hx hb dX6_findsBases_35 (by decide) ?_
          obtain ⟨hM1, hS1⟩ : cells = M ∧ slots = S := by have hq := congrArg Prod.snd (Option.some.inj hf); rw [← hq] at hM hS0; have hM : s.heap.size + M = s9.1 := hM; have hS0 : sl0 + S = s9.2.1 := hS0; omega
          refine W.widen (k := M) (n := S) (Nat.le_of_eq hM1) (Nat.le_of_eq hS1) ?_
          exact W.zret (v := 0) hx hb hr rfl (fun t ht hW => ⟨⟨0, s9, rfl, Option.some.inj hf, z_at ht hH⟩, hS.F ht⟩) hS.2.2 dX6_findsBases_36
set_option maxHeartbeats 4000000 in
set_option maxRecDepth 100000 in
theorem mtX6_findsBases_7 (l : Launch) (D : va_G) (cA : Nat → ClassId) (ζ : pZ) (τ : pH) (h : Nat) (K : Nat) (res : (Int32 × pH)) (hf : fnX6_findsBases_7 K ζ h τ = some res) (M S : Nat) (hM : τ.1 + M = res.2.1) (hS0 : τ.2.1 + S = res.2.2.1) : Met l yX6_findsBases (ws_ yX6_findsBases cX6_findsBases 3 (some .boolean)) ({ frames := 103, cells := M, slots := S, locals := 2365 }) (zPc D cA ζ τ [.ref h]) (zQi D cA ζ res) M S (zA ζ) := by
  refine Met.ofW (cc := cX6_findsBases) (maxL := 3) (ret := some .boolean) (by decide +kernel) rfl ?_
  intro p e s m args below meth c s₁ B hml hv
  obtain ⟨rfl, hX, hH⟩ := hv
  have hx := B.exec
  have hb := B.bytes
  have hr := B.returns
  have hts := atoms_spec (ws := ws_ yX6_findsBases cX6_findsBases 3 (some .boolean)) B.pre
  have hts : ∀ w ∈ lw_all, w.before _ s = true := fun w h => hts w (List.mem_cons_of_mem _ h)
  have hown : s.vm.findClass RX6 = some m.cls := findClass_of_methodNamed B.named
  have hlocks := B.notSynchronized
  have hM : s.heap.size + M = res.2.1 := by rw [hH.1]; exact hM
  have hcs : s.heap.size + 0 = τ.1 := hH.1
  have hss : τ.2.1 + 0 = τ.2.1 := rfl
  generalize hsl0 : τ.2.1 = sl0 at hS0 hss
  have hss : sl0 + 0 = τ.2.1 := by rw [hsl0]; rfl
  have hS : va_S (zA ζ) s.heap s.heap [] := va_S.rf
  generalize hHe : s.heap = H at hH hS ⊢
  have hS : va_S (zA ζ) s.heap H [] := by rw [hHe]; exact hS
  generalize ([] : List Loc) = locs at hS ⊢
  have hl := lv_entry ([.ref h]) (n := 3) (Nat.le_of_ble_eq_true rfl)
  rw [lg_entry_eq]
  generalize (lg_sl ([.ref h]) ++ List.replicate (3 - (lg_sl ([.ref h])).length) Slot.unset).toArray = ls at hl ⊢
  have hl : lv_has ls 3 [(0, .ref h)] := hl
  have hf : (dz_b (zob ζ τ h 7) fun f1 => dz_b (zvr (f1[4]?)) fun x2 => dz_b (zob ζ τ x2 10) fun f5 => zcl τ (fnX8_iterator K ζ x2 τ) fun x3 s4 => (lfX6_findsBases_7 K ζ K) h x3 s4 : Option (Int32 × pH)) = some res := hf
  refine z_gen (fun cells slots hc0 hs0 => ?_)
  have hcs : s.heap.size + cells = τ.1 := by rw [hc0]; exact hcs
  have hss : sl0 + slots = τ.2.1 := by rw [hs0]; exact hss
  have hcM : cells ≤ M ∧ slots ≤ S := by rw [hc0, hs0]; exact ⟨Nat.zero_le _, Nat.zero_le _⟩
  clear hc0 hs0
  have ih := wlX6_findsBases_7 (l := l) (e := e) (below := below) (D := D) (cA := cA) hX K res M S sl0 hM hS0 h hx hb hr hlocks hml hown hts K
  refine lv_aload_n hx hb dX6_findsBases_0 rfl (lv_at hl 0 rfl) ?_
  obtain ⟨f1, hf1, hf⟩ := dz_bo hf
  obtain ⟨x2, hx2, hf⟩ := dz_bo hf
  refine va_get (C := RX10) (T := TX10) (N := 8) hx hb hts in_X10 hown hX.K (zrd_P hX hS hH (zob_o hf1)) 0 rfl rfl 4 (by decide) (hts _ q550) (fun _ hq => hq) (zvr_o hx2) dX6_findsBases_1 ?_
  obtain ⟨f5, hf5, hf⟩ := dz_bo hf
  obtain ⟨x3, s4, hx3, hle, hck, hf⟩ := zcl_o hf
  have hc1 : cells + (s4.1 - τ.1) ≤ M := by omega
  have hs1 : slots + (s4.2.1 - τ.2.1) ≤ S := by omega
  refine va_callr (va_runV (As := []) (rest := []) ⟨hx, hb, hml, hown, hts⟩ (mtX8_iterator l D cA ζ τ x2 K (x3, s4) hx3 (s4.1 - τ.1) (s4.2.1 - τ.2.1) (Nat.add_sub_cancel' hle.1) (Nat.add_sub_cancel' hle.2)) (cwV 0 hts (lw_V q245 q246 q247 q98 q248) rfl rfl rfl (by decide +kernel) ⟨Nat.le_of_ble_eq_true rfl, Nat.le_of_ble_eq_true rfl⟩) (z_preV hX hS hH (zob_o hf5) rfl) rfl rfl hl.1 rfl (lv_room (Nat.le_of_ble_eq_true rfl)) dX6_findsBases_4 ⟨hc1, hs1⟩) hS (fun q _ hq => hq) (fun q hq => hq) (fun u r t H1 locs ht hvm hw hB hz hk hS => ?_)
  obtain ⟨hw, hB⟩ := hB
  obtain ⟨hw1, hw2⟩ := Prod.mk.inj hw.symm; subst hw1; subst hw2
  have hH : zH D cA ζ s4 H1 := z_at ht.symm hB
  have hcs : s.heap.size + (cells + (s4.1 - τ.1)) = s4.1 := by omega
  have hss : sl0 + (slots + (s4.2.1 - τ.2.1)) = s4.2.1 := by omega
  replace hcM := And.intro hc1 hs1
  generalize cells + (s4.1 - τ.1) = cells at hcs hcM ⊢; generalize slots + (s4.2.1 - τ.2.1) = slots at hss hcM ⊢
  clear hB hk hz hvm ht hle hck hc1 hs1; generalize H1 = H at hH hS ⊢
  refine lv_astore_n (lv' := [(1, .ref x3), (0, .ref h)]) hx hb dX6_findsBases_7 rfl hl (by decide) rfl (fun ls hl => ?_)
  exact ih h x3 s4 H locs cells slots hH hS hcs hss hcM ls (lv_sub hl [1, 0] rfl) hf

