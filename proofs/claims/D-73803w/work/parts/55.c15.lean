noncomputable def lfX8_cuts (K : Nat) (ζ : pZ) : Nat → (Nat → Int32 → pH → Option (Unit × pH)) := Nat.rec (motive := fun _ => (Nat → Int32 → pH → Option (Unit × pH))) (fun _ _ _ => none) (fun _ G => (fun v0 v2 τ => dz_b (zob ζ τ v0 10) fun f1 => dz_b (zvi (f1[1]?)) fun x2 => if x2 ≤ v2 then (dz_b (zob ζ τ v0 10) fun f3 => dz_b (zvi (f3[1]?)) fun x4 => dz_l (x4 - 1) fun x5 => dz_b (zwo ζ τ v0 10 1) fun f6 => dz_l (zst τ v0 (.inr (10, f6.set 1 (.int x5)))) fun s7 => some ((), s7)) else (dz_b (zob ζ τ v0 10) fun f8 => dz_b (zvr (f8[0]?)) fun x9 => dz_b (zob ζ τ v0 10) fun f10 => dz_b (zvr (f10[0]?)) fun x11 => dz_c (zaq ζ τ x11 5) fun n12 f13 => if ¬ (v2 < 0 ∨ n12 ≤ Int32.toNatClampNeg v2) then (dz_b (f13 (Int32.toNatClampNeg v2)) fun x15 => if ζ.1 ≤ x9 ∧ x9 < τ.1 then (dz_c (zaq ζ τ x9 5) fun n16 f17 => if ¬ ((v2 - 1) < 0 ∨ n16 ≤ Int32.toNatClampNeg (v2 - 1)) then (if ζ.1 ≤ x15 ∧ x15 < τ.1 then (dz_b (zob ζ τ x15 11) fun f22 => dz_l (zst τ x9 (.inl (5, n16, .inr (.inr (.inr (.inr (va_up f17 (Int32.toNatClampNeg (v2 - 1)) (some x15)))))))) fun s18 => dz_l (v2 + 1) fun x23 => G v0 x23 s18) else none) else none) else none) else none)))
noncomputable def fnX8_cuts (K : Nat) (ζ : pZ) (h : Nat) (a0 : Int32) (τ : pH) : Option (Unit × pH) := dz_l (a0 + 1) fun x1 => (lfX8_cuts K ζ K) h x1 τ
set_option maxHeartbeats 4000000 in
set_option maxRecDepth 100000 in
theorem wlX8_cuts {p : Program} {l : Launch} {e : Env} {s : State} {m : MethodId} {below : List Frame} {meth : Method} {c : Code} {D : va_G} {cA : Nat → ClassId} {ζ : pZ} (hX : zX D cA ζ s) (K : Nat) (res : (Unit × pH)) (M S sl0 : Nat) (hM : s.heap.size + M = res.2.1) (hS0 : sl0 + S = res.2.2.1) (h : Nat) (a0 : Int32) (hx : p.tables.exec = Jvm.exec) (hb : c.code = cX8_cuts) (hr : meth.sig.returnType = none) (hlocks : meth.locks = false) (hml : c.maxLocals = 3) (hown : s.vm.findClass RX8 = some m.cls) (hts : ∀ w ∈ lw_all, w.before ([.ref h, .int a0] : List Value).toArray s = true) : ∀ k : Nat, (∀ (v0 : Nat) (v2 : Int32) (τ : pH) (H : Heap) (locs : List Loc) (cells slots : Nat), zH D cA ζ τ H → va_S (zA ζ) s.heap H locs → s.heap.size + cells = τ.1 → sl0 + slots = τ.2.1 → cells ≤ M ∧ slots ≤ S → ∀ (ls : Array Slot), lv_has ls 3 [(0, .ref v0), (2, .int v2)] → (lfX8_cuts K ζ k) v0 v2 τ = some res → W p l e (headSpec (ws_ yX8_cuts cX8_cuts 3 (none)) ({ frames := 0, cells := M, slots := S, locals := 0 })).room s m ([.ref h, .int a0] : List Value).toArray below meth c H locs cells slots (MQ below (zQv D cA ζ res) ([.ref h, .int a0] : List Value).toArray s M S (zA ζ)) (F0 m 4 ls [])) := by
  intro k
  induction k with
  | zero =>
    exact fun _ _ _ _ _ _ _ _ _ _ _ _ _ _ hf => (by cases hf)
  | succ k ih =>
    · intro v0 v2 τ H locs cells slots hH hS hcs hss hcM ls hl hf
      have hf : (dz_b (zob ζ τ v0 10) fun f1 => dz_b (zvi (f1[1]?)) fun x2 => if x2 ≤ v2 then (dz_b (zob ζ τ v0 10) fun f3 => dz_b (zvi (f3[1]?)) fun x4 => dz_l (x4 - 1) fun x5 => dz_b (zwo ζ τ v0 10 1) fun f6 => dz_l (zst τ v0 (.inr (10, f6.set 1 (.int x5)))) fun s7 => some ((), s7)) else (dz_b (zob ζ τ v0 10) fun f8 => dz_b (zvr (f8[0]?)) fun x9 => dz_b (zob ζ τ v0 10) fun f10 => dz_b (zvr (f10[0]?)) fun x11 => dz_c (zaq ζ τ x11 5) fun n12 f13 => if ¬ (v2 < 0 ∨ n12 ≤ Int32.toNatClampNeg v2) then (dz_b (f13 (Int32.toNatClampNeg v2)) fun x15 => if ζ.1 ≤ x9 ∧ x9 < τ.1 then (dz_c (zaq ζ τ x9 5) fun n16 f17 => if ¬ ((v2 - 1) < 0 ∨ n16 ≤ Int32.toNatClampNeg (v2 - 1)) then (if ζ.1 ≤ x15 ∧ x15 < τ.1 then (dz_b (zob ζ τ x15 11) fun f22 => dz_l (zst τ x9 (.inl (5, n16, .inr (.inr (.inr (.inr (va_up f17 (Int32.toNatClampNeg (v2 - 1)) (some x15)))))))) fun s18 => dz_l (v2 + 1) fun x23 => (lfX8_cuts K ζ k) v0 x23 s18) else none) else none) else none) else none) : Option (Unit × pH)) = some res := hf
      refine lv_iload_n hx hb dX8_cuts_4 rfl (lv_at hl 1 rfl) ?_
      refine lv_aload_n hx hb dX8_cuts_5 rfl (lv_at hl 0 rfl) ?_
      obtain ⟨f1, hf1, hf⟩ := dz_bo hf
      obtain ⟨x2, hx2, hf⟩ := dz_bo hf
      refine va_get (C := RX8) (T := TX8) (N := 2) hx hb hts in_X8 hown hX.K (zrd_P hX hS hH (zob_o hf1)) 0 rfl rfl 1 (by decide) (hts _ q521) (fun _ hq => hq) (zvi_o hx2) dX8_cuts_6 ?_
      refine lv_icmp_ge (tgt := 32) hx hb dX8_cuts_9 (by decide) (fun c9 => ?_) (fun c9 => ?_)
      · have hf := dz_t c9 hf
        refine lv_aload_n hx hb dX8_cuts_32 rfl (lv_at hl 0 rfl) ?_
        refine lv_dup hx hb dX8_cuts_33 rfl ?_
        obtain ⟨f3, hf3, hf⟩ := dz_bo hf
        obtain ⟨x4, hx4, hf⟩ := dz_bo hf
        refine va_get (C := RX8) (T := TX8) (N := 2) hx hb hts in_X8 hown hX.K (zrd_P hX hS hH (zob_o hf3)) 0 rfl rfl 1 (by decide) (hts _ q521) (fun _ hq => hq) (zvi_o hx4) dX8_cuts_34 ?_
        refine lv_iconst (v := 1) hx hb dX8_cuts_37 (by decide) ?_
        refine lv_isub hx hb dX8_cuts_38 ?_
        refine lv_topi (fun x5 e_x5 => ?_)
        have hf := dz_ls e_x5 hf
        obtain ⟨f6, hf6, hf⟩ := dz_bo hf
        obtain ⟨ha_f6, he_f6, hk_f6⟩ := zwo_o hf6
        refine va_put (C := RX8) (T := TX8) (N := 2) hx hb hts in_X8 tyX8 tyX8_ok nmX8 hown hX.K hH.2.2 zw_D hS _ (zw_o ha_f6 he_f6) rfl 1 (by decide) (hts _ q521) (fun _ hq => hq) rfl rfl rfl rfl hk_f6 dX8_cuts_39 (fun H1 locs hP1 _ hS => dz_size (fun hz => ?_))
        obtain ⟨s7, e_s7, hf⟩ := dz_lo hf
        have hH := zH_put (x := .inr (10, f6.set 1 (.int x5))) hH hcs ha_f6 hP1 hz
        rw [← e_s7] at hH
        have hcs : s.heap.size + cells = s7.1 := by rw [e_s7]; exact hcs
        have hss : sl0 + slots = s7.2.1 := by rw [e_s7]; exact hss
        clear hP1 hz; generalize H1 = H at hH hS ⊢
        obtain ⟨hM1, hS1⟩ : cells = M ∧ slots = S := by have hq := congrArg Prod.snd (Option.some.inj hf); rw [← hq] at hM hS0; have hM : s.heap.size + M = s7.1 := hM; have hS0 : sl0 + S = s7.2.1 := hS0; omega
        refine W.widen (k := M) (n := S) (Nat.le_of_eq hM1) (Nat.le_of_eq hS1) ?_
        exact W.vret hx hb hr (fun t ht hW => ⟨⟨s7, rfl, Option.some.inj hf, z_at ht hH⟩, hS.F ht⟩) hS.2.2 dX8_cuts_42
      · have hf := dz_f c9 hf
        refine lv_aload_n hx hb dX8_cuts_12 rfl (lv_at hl 0 rfl) ?_
        obtain ⟨f8, hf8, hf⟩ := dz_bo hf
        obtain ⟨x9, hx9, hf⟩ := dz_bo hf
        refine va_get (C := RX8) (T := TX8) (N := 2) hx hb hts in_X8 hown hX.K (zrd_P hX hS hH (zob_o hf8)) 0 rfl rfl 0 (by decide) (hts _ q515) (fun _ hq => hq) (zvr_o hx9) dX8_cuts_13 ?_
        refine lv_iload_n hx hb dX8_cuts_16 rfl (lv_at hl 1 rfl) ?_
        refine lv_iconst (v := 1) hx hb dX8_cuts_17 (by decide) ?_
        refine lv_isub hx hb dX8_cuts_18 ?_
        refine lv_aload_n hx hb dX8_cuts_19 rfl (lv_at hl 0 rfl) ?_
        obtain ⟨f10, hf10, hf⟩ := dz_bo hf
        obtain ⟨x11, hx11, hf⟩ := dz_bo hf
        refine va_get (C := RX8) (T := TX8) (N := 2) hx hb hts in_X8 hown hX.K (zrd_P hX hS hH (zob_o hf10)) 0 rfl rfl 0 (by decide) (hts _ q515) (fun _ hq => hq) (zvr_o hx11) dX8_cuts_20 ?_
        refine lv_iload_n hx hb dX8_cuts_23 rfl (lv_at hl 1 rfl) ?_
        obtain ⟨n12, f13, hn12, hf⟩ := dz_co hf
        obtain ⟨g14, hf⟩ := dz_go hf
        obtain ⟨x15, hx15, hf⟩ := dz_bo hf
        refine va_aldq hx hb hX.K (zrd_P hX hS hH (zaq_o hn12)) 0 5 rfl rfl g14 dX8_cuts_24 ?_
        rw [hx15]
        refine W.eq (g2 := F0 m 25 ls (.ref x15 :: [.int (v2 - 1), .ref x9])) rfl ?_
        obtain ⟨g19, hf⟩ := dz_go hf
        obtain ⟨n16, f17, hn16, hf⟩ := dz_co hf
        obtain ⟨g20, hf⟩ := dz_go hf
        obtain ⟨g21, hf⟩ := dz_go hf
        obtain ⟨f22, hf22, hf⟩ := dz_bo hf
        refine va_astq hx hb hX.K hH.2.2 zw_D hS _ 5 _ 11 (r := (RX13, TX13, 3)) (zw_a g19 (zrd_w (zaq_o hn16) g19)) rfl (zw_o g21 (zrd_w (zob_o hf22) g21)) rfl g20 dX8_cuts_25 (fun H1 locs hP1 _ hS => dz_size (fun hz => ?_))
        obtain ⟨s18, e_s18, hf⟩ := dz_lo hf
        have hH := zH_put (x := (.inl (5, n16, .inr (.inr (.inr (.inr (va_up f17 (Int32.toNatClampNeg (v2 - 1)) (some x15)))))))) hH hcs g19 hP1 hz
        rw [← e_s18] at hH
        have hcs : s.heap.size + cells = s18.1 := by rw [e_s18]; exact hcs
        have hss : sl0 + slots = s18.2.1 := by rw [e_s18]; exact hss
        clear hP1 hz; generalize H1 = H at hH hS ⊢
        obtain ⟨x23, e_x23, hf⟩ := dz_lo hf
        refine lv_iinc (v := x23) (lv' := [(2, .int x23), (0, .ref v0)]) hx hb dX8_cuts_26 hl (k := 1) rfl (by rw [e_x23]; rfl) (by decide) rfl (fun ls hl => ?_)
        refine lv_goto (tgt := 4) hx hb dX8_cuts_29 (by decide) ?_
        exact ih v0 x23 s18 H locs cells slots hH hS hcs hss hcM ls (lv_sub hl [1, 0] rfl) hf
set_option maxHeartbeats 4000000 in
set_option maxRecDepth 100000 in
theorem mtX8_cuts (l : Launch) (D : va_G) (cA : Nat → ClassId) (ζ : pZ) (τ : pH) (h : Nat) (a0 : Int32) (K : Nat) (res : (Unit × pH)) (hf : fnX8_cuts K ζ h a0 τ = some res) (M S : Nat) (hM : τ.1 + M = res.2.1) (hS0 : τ.2.1 + S = res.2.2.1) : Met l yX8_cuts (ws_ yX8_cuts cX8_cuts 3 (none)) ({ frames := 0, cells := M, slots := S, locals := 0 }) (zPc D cA ζ τ [.ref h, .int a0]) (zQv D cA ζ res) M S (zA ζ) := by
  refine Met.ofW (cc := cX8_cuts) (maxL := 3) (ret := none) (by decide +kernel) rfl ?_
  intro p e s m args below meth c s₁ B hml hv
  obtain ⟨rfl, hX, hH⟩ := hv
  have hx := B.exec
  have hb := B.bytes
  have hr := B.returns
  have hts := atoms_spec (ws := ws_ yX8_cuts cX8_cuts 3 (none)) B.pre
  have hts : ∀ w ∈ lw_all, w.before _ s = true := fun w h => hts w (List.mem_cons_of_mem _ h)
  have hown : s.vm.findClass RX8 = some m.cls := findClass_of_methodNamed B.named
  have hlocks := B.notSynchronized
  have hM : s.heap.size + M = res.2.1 := by rw [hH.1]; exact hM
  have hcs : s.heap.size + 0 = τ.1 := hH.1
  have hss : τ.2.1 + 0 = τ.2.1 := rfl
  generalize hsl0 : τ.2.1 = sl0 at hS0 hss
  have hss : sl0 + 0 = τ.2.1 := by rw [hsl0]; rfl
  have hS : va_S (zA ζ) s.heap s.heap [] := va_S.rf
  generalize hHe : s.heap = H at hH hS ⊢
  have hS : va_S (zA ζ) s.heap H [] := by rw [hHe]; exact hS
  generalize ([] : List Loc) = locs at hS ⊢
  have hl := lv_entry ([.ref h, .int a0]) (n := 3) (Nat.le_of_ble_eq_true rfl)
  rw [lg_entry_eq]
  generalize (lg_sl ([.ref h, .int a0]) ++ List.replicate (3 - (lg_sl ([.ref h, .int a0])).length) Slot.unset).toArray = ls at hl ⊢
  have hl : lv_has ls 3 [(0, .ref h), (1, .int a0)] := hl
  have hf : (dz_l (a0 + 1) fun x1 => (lfX8_cuts K ζ K) h x1 τ : Option (Unit × pH)) = some res := hf
  refine z_gen (fun cells slots hc0 hs0 => ?_)
  have hcs : s.heap.size + cells = τ.1 := by rw [hc0]; exact hcs
  have hss : sl0 + slots = τ.2.1 := by rw [hs0]; exact hss
  have hcM : cells ≤ M ∧ slots ≤ S := by rw [hc0, hs0]; exact ⟨Nat.zero_le _, Nat.zero_le _⟩
  clear hc0 hs0
  have ih := wlX8_cuts (l := l) (e := e) (below := below) (D := D) (cA := cA) hX K res M S sl0 hM hS0 h a0 hx hb hr hlocks hml hown hts K
  refine lv_iload_n hx hb dX8_cuts_0 rfl (lv_at hl 1 rfl) ?_
  refine lv_iconst (v := 1) hx hb dX8_cuts_1 (by decide) ?_
  refine lv_iadd hx hb dX8_cuts_2 ?_
  refine lv_topi (fun x1 e_x1 => ?_)
  have hf := dz_ls e_x1 hf
  refine lv_istore_n (lv' := [(2, .int x1), (0, .ref h), (1, .int a0)]) hx hb dX8_cuts_3 rfl hl (by decide) rfl (fun ls hl => ?_)
  exact ih h x1 τ H locs cells slots hH hS hcs hss hcM ls (lv_sub hl [1, 0] rfl) hf

noncomputable def fnX0_cut (K : Nat) (ζ : pZ) (h : Nat) (a0 : Int32) (a1 : Int32) (a2 : Int32) (τ : pH) : Option (Int32 × pH) := dz_b (zob ζ τ h 0) fun f3 => zcl τ (fnX0_rowOf K ζ h a0 a1 a2 τ) fun x1 s2 => dz_o x1 (fun y4 => if a1 = (0 : Int32) then (dz_b (zob ζ s2 h 0) fun f5 => dz_b (zvr (f5[0]?)) fun x6 => dz_b (zob ζ s2 x6 14) fun f9 => zcl s2 (fnJ2_get K ζ x6 a0 s2) fun x7 s8 => dz_c (zoL ζ s8 x7) fun cf10 f10 => dz_c (zoL ζ s8 x7) fun cf11 f11 => dz_b (zvr (f11[4]?)) fun x12 => dz_b (zob ζ s8 x12 10) fun f15 => zcl s8 (fnX8_cuts K ζ x12 a2 s8) fun _ s14 => dz_b (zob ζ s14 h 0) fun f18 => zcl s14 (fnX0_changes K ζ h a0 s14) fun _ s17 => dz_b (zob ζ s17 x12 10) fun f19 => dz_b (zvi (f19[1]?)) fun x20 => some (x20, s17)) else (dz_b (zob ζ s2 h 0) fun f21 => dz_b (zvr (f21[0]?)) fun x22 => dz_b (zob ζ s2 x22 14) fun f25 => zcl s2 (fnJ2_get K ζ x22 a0 s2) fun x23 s24 => dz_c (zoL ζ s24 x23) fun cf26 f26 => dz_c (zoL ζ s24 x23) fun cf27 f27 => dz_b (zvr (f27[5]?)) fun x28 => dz_b (zob ζ s24 x28 10) fun f31 => zcl s24 (fnX8_cuts K ζ x28 a2 s24) fun _ s30 => dz_b (zob ζ s30 h 0) fun f34 => zcl s30 (fnX0_changes K ζ h a0 s30) fun _ s33 => dz_b (zob ζ s33 x28 10) fun f35 => dz_b (zvi (f35[1]?)) fun x36 => some (x36, s33))) (some ((-1), s2))
set_option maxHeartbeats 4000000 in
set_option maxRecDepth 100000 in
theorem mtX0_cut (l : Launch) (D : va_G) (cA : Nat → ClassId) (ζ : pZ) (τ : pH) (h : Nat) (a0 : Int32) (a1 : Int32) (a2 : Int32) (K : Nat) (res : (Int32 × pH)) (hf : fnX0_cut K ζ h a0 a1 a2 τ = some res) (M S : Nat) (hM : τ.1 + M = res.2.1) (hS0 : τ.2.1 + S = res.2.2.1) : Met l yX0_cut (ws_ yX0_cut cX0_cut 5 (some .int)) ({ frames := 4, cells := M, slots := S, locals := 88 }) (zPc D cA ζ τ [.ref h, .int a0, .int a1, .int a2]) (zQi D cA ζ res) M S (zA ζ) := by
  refine Met.ofW (cc := cX0_cut) (maxL := 5) (ret := some .int) (by decide +kernel) rfl ?_
  intro p e s m args below meth c s₁ B hml hv
  obtain ⟨rfl, hX, hH⟩ := hv
  have hx := B.exec
  have hb := B.bytes
  have hr := B.returns
  have hts := atoms_spec (ws := ws_ yX0_cut cX0_cut 5 (some .int)) B.pre
  have hts : ∀ w ∈ lw_all, w.before _ s = true := fun w h => hts w (List.mem_cons_of_mem _ h)
  have hown : s.vm.findClass RX0 = some m.cls := findClass_of_methodNamed B.named
  have hlocks := B.notSynchronized
  have hM : s.heap.size + M = res.2.1 := by rw [hH.1]; exact hM
  have hcs : s.heap.size + 0 = τ.1 := hH.1
  have hss : τ.2.1 + 0 = τ.2.1 := rfl
  generalize hsl0 : τ.2.1 = sl0 at hS0 hss
  have hss : sl0 + 0 = τ.2.1 := by rw [hsl0]; rfl
  have hS : va_S (zA ζ) s.heap s.heap [] := va_S.rf
  generalize hHe : s.heap = H at hH hS ⊢
  have hS : va_S (zA ζ) s.heap H [] := by rw [hHe]; exact hS
  generalize ([] : List Loc) = locs at hS ⊢
  have hl := lv_entry ([.ref h, .int a0, .int a1, .int a2]) (n := 5) (Nat.le_of_ble_eq_true rfl)
  rw [lg_entry_eq]
  generalize (lg_sl ([.ref h, .int a0, .int a1, .int a2]) ++ List.replicate (5 - (lg_sl ([.ref h, .int a0, .int a1, .int a2])).length) Slot.unset).toArray = ls at hl ⊢
  have hl : lv_has ls 5 [(0, .ref h), (1, .int a0), (2, .int a1), (3, .int a2)] := hl
  have hf : (dz_b (zob ζ τ h 0) fun f3 => zcl τ (fnX0_rowOf K ζ h a0 a1 a2 τ) fun x1 s2 => dz_o x1 (fun y4 => if a1 = (0 : Int32) then (dz_b (zob ζ s2 h 0) fun f5 => dz_b (zvr (f5[0]?)) fun x6 => dz_b (zob ζ s2 x6 14) fun f9 => zcl s2 (fnJ2_get K ζ x6 a0 s2) fun x7 s8 => dz_c (zoL ζ s8 x7) fun cf10 f10 => dz_c (zoL ζ s8 x7) fun cf11 f11 => dz_b (zvr (f11[4]?)) fun x12 => dz_b (zob ζ s8 x12 10) fun f15 => zcl s8 (fnX8_cuts K ζ x12 a2 s8) fun _ s14 => dz_b (zob ζ s14 h 0) fun f18 => zcl s14 (fnX0_changes K ζ h a0 s14) fun _ s17 => dz_b (zob ζ s17 x12 10) fun f19 => dz_b (zvi (f19[1]?)) fun x20 => some (x20, s17)) else (dz_b (zob ζ s2 h 0) fun f21 => dz_b (zvr (f21[0]?)) fun x22 => dz_b (zob ζ s2 x22 14) fun f25 => zcl s2 (fnJ2_get K ζ x22 a0 s2) fun x23 s24 => dz_c (zoL ζ s24 x23) fun cf26 f26 => dz_c (zoL ζ s24 x23) fun cf27 f27 => dz_b (zvr (f27[5]?)) fun x28 => dz_b (zob ζ s24 x28 10) fun f31 => zcl s24 (fnX8_cuts K ζ x28 a2 s24) fun _ s30 => dz_b (zob ζ s30 h 0) fun f34 => zcl s30 (fnX0_changes K ζ h a0 s30) fun _ s33 => dz_b (zob ζ s33 x28 10) fun f35 => dz_b (zvi (f35[1]?)) fun x36 => some (x36, s33))) (some ((-1), s2)) : Option (Int32 × pH)) = some res := hf
  refine z_gen (fun cells slots hc0 hs0 => ?_)
  have hcs : s.heap.size + cells = τ.1 := by rw [hc0]; exact hcs
  have hss : sl0 + slots = τ.2.1 := by rw [hs0]; exact hss
  have hcM : cells ≤ M ∧ slots ≤ S := by rw [hc0, hs0]; exact ⟨Nat.zero_le _, Nat.zero_le _⟩
  clear hc0 hs0
  refine lv_aload_n hx hb dX0_cut_0 rfl (lv_at hl 0 rfl) ?_
  refine lv_iload_n hx hb dX0_cut_1 rfl (lv_at hl 1 rfl) ?_
  refine lv_iload_n hx hb dX0_cut_2 rfl (lv_at hl 2 rfl) ?_
  refine lv_iload_n hx hb dX0_cut_3 rfl (lv_at hl 3 rfl) ?_
  obtain ⟨f3, hf3, hf⟩ := dz_bo hf
  obtain ⟨x1, s2, hx1, hle, hck, hf⟩ := zcl_o hf
  have hc1 : cells + (s2.1 - τ.1) ≤ M := by omega
  have hs1 : slots + (s2.2.1 - τ.2.1) ≤ S := by omega
  refine va_callq (va_runV (As := [.int a0, .int a1, .int a2]) (rest := []) ⟨hx, hb, hml, hown, hts⟩ (mtX0_rowOf l D cA ζ τ h a0 a1 a2 K (x1, s2) hx1 (s2.1 - τ.1) (s2.2.1 - τ.2.1) (Nat.add_sub_cancel' hle.1) (Nat.add_sub_cancel' hle.2)) (cwV 3 hts (lw_V q1359 q1361 qs29 q84 q1362) rfl rfl rfl (by decide +kernel) ⟨Nat.le_of_ble_eq_true rfl, Nat.le_of_ble_eq_true rfl⟩) (z_preV hX hS hH (zob_o hf3) rfl) rfl rfl hl.1 rfl (lv_room (Nat.le_of_ble_eq_true rfl)) dX0_cut_4 ⟨hc1, hs1⟩) hS (fun q _ hq => hq) (fun q hq => hq) (fun r u t H1 locs ht hvm hw hB hz hk hS => ?_)
  obtain ⟨hw1, hw2⟩ := Prod.mk.inj hw.symm; subst hw1; subst hw2
  have hH : zH D cA ζ s2 H1 := z_at ht.symm hB
  have hcs : s.heap.size + (cells + (s2.1 - τ.1)) = s2.1 := by omega
  have hss : sl0 + (slots + (s2.2.1 - τ.2.1)) = s2.2.1 := by omega
  replace hcM := And.intro hc1 hs1
  generalize cells + (s2.1 - τ.1) = cells at hcs hcM ⊢; generalize slots + (s2.2.1 - τ.2.1) = slots at hss hcM ⊢
  clear hB hk hz hvm ht hle hck hc1 hs1; generalize H1 = H at hH hS ⊢
  refine dz_oc hf (fun y4 hq hf => ?_) (fun hq hf => ?_)
  · subst hq
    refine W.eq (g2 := F0 m 7 ls [.ref y4]) rfl ?_
    refine lv_ifnonnull (tgt := 12) hx hb dX0_cut_7 (by decide) ?_
    refine lv_iload_n hx hb dX0_cut_12 rfl (lv_at hl 2 rfl) ?_
    refine lv_if_eq (tgt := 33) hx hb dX0_cut_13 (by decide) (fun c13 => ?_) (fun c13 => ?_)
    · have hf := dz_t c13 hf
      refine lv_aload_n hx hb dX0_cut_33 rfl (lv_at hl 0 rfl) ?_
      obtain ⟨f5, hf5, hf⟩ := dz_bo hf
      obtain ⟨x6, hx6, hf⟩ := dz_bo hf
      refine va_get (C := RX0) (T := TX0) (N := 7) hx hb hts in_X0 hown hX.K (zrd_P hX hS hH (zob_o hf5)) 0 rfl rfl 0 (by decide) (hts _ q156) (fun _ hq => hq) (zvr_o hx6) dX0_cut_34 ?_
      refine lv_iload_n hx hb dX0_cut_37 rfl (lv_at hl 1 rfl) ?_
      obtain ⟨f9, hf9, hf⟩ := dz_bo hf
      obtain ⟨x7, s8, hx7, hle, hck, hf⟩ := zcl_o hf
      have hc1 : cells + (s8.1 - s2.1) ≤ M := by omega
      have hs1 : slots + (s8.2.1 - s2.2.1) ≤ S := by omega
      refine va_callr (va_runV (As := [.int a0]) (rest := []) ⟨hx, hb, hml, hown, hts⟩ (mtJ2_get l D cA ζ s2 x6 a0 K (x7, s8) hx7 (s8.1 - s2.1) (s8.2.1 - s2.2.1) (Nat.add_sub_cancel' hle.1) (Nat.add_sub_cancel' hle.2)) (cwV 1 hts (lw_V q204 q205 q206 q87 q207) rfl rfl rfl (by decide +kernel) ⟨Nat.le_of_ble_eq_true rfl, Nat.le_of_ble_eq_true rfl⟩) (z_preV hX hS hH (zob_o hf9) rfl) rfl rfl hl.1 rfl (lv_room (Nat.le_of_ble_eq_true rfl)) dX0_cut_38 ⟨hc1, hs1⟩) hS (fun q _ hq => hq) (fun q hq => hq) (fun u r t H1 locs ht hvm hw hB hz hk hS => ?_)
      obtain ⟨hw, hB⟩ := hB
      obtain ⟨hw1, hw2⟩ := Prod.mk.inj hw.symm; subst hw1; subst hw2
      have hH : zH D cA ζ s8 H1 := z_at ht.symm hB
      have hcs : s.heap.size + (cells + (s8.1 - s2.1)) = s8.1 := by omega
      have hss : sl0 + (slots + (s8.2.1 - s2.2.1)) = s8.2.1 := by omega
      replace hcM := And.intro hc1 hs1
      generalize cells + (s8.1 - s2.1) = cells at hcs hcM ⊢; generalize slots + (s8.2.1 - s2.2.1) = slots at hss hcM ⊢
      clear hB hk hz hvm ht hle hck hc1 hs1; generalize H1 = H at hH hS ⊢
      obtain ⟨cf10, f10, hcf10, hf⟩ := dz_co hf
      obtain ⟨hr_f10, hc_f10⟩ := zoL_o hcf10
      refine zL_cast hx hb hown (hts _ q218) hX hS hH hr_f10 hc_f10 dX0_cut_41 ?_
      obtain ⟨cf11, f11, hcf11, hf⟩ := dz_co hf
      obtain ⟨x12, hx12, hf⟩ := dz_bo hf
      obtain ⟨hr_f11, hc_f11⟩ := zoL_o hcf11
      refine zL_get4 hx hb hts hown hX hS hH hr_f11 hc_f11 (hts _ q558) (zvr_o hx12) dX0_cut_44 ?_
      refine lv_astore (lv' := [(4, .ref x12), (0, .ref h), (1, .int a0), (2, .int a1), (3, .int a2)]) hx hb dX0_cut_47 hl (by decide) rfl (fun ls hl => ?_)
      refine lv_aload hx hb dX0_cut_49 (lv_at hl 0 rfl) ?_
      refine lv_iload_n hx hb dX0_cut_51 rfl (lv_at hl 4 rfl) ?_
      obtain ⟨f15, hf15, hf⟩ := dz_bo hf
      obtain ⟨x13, s14, hx13, hle, hck, hf⟩ := zcl_o hf
      have hc1 : cells + (s14.1 - s8.1) ≤ M := by omega
      have hs1 : slots + (s14.2.1 - s8.2.1) ≤ S := by omega
      refine va_callv (va_runV (As := [.int a2]) (rest := []) ⟨hx, hb, hml, hown, hts⟩ (mtX8_cuts l D cA ζ s8 x12 a2 K (x13, s14) hx13 (s14.1 - s8.1) (s14.2.1 - s8.2.1) (Nat.add_sub_cancel' hle.1) (Nat.add_sub_cancel' hle.2)) (cwV 1 hts (lw_V q1369 q1370 q1371 q98 q1372) rfl rfl rfl (by decide +kernel) ⟨Nat.le_of_ble_eq_true rfl, Nat.le_of_ble_eq_true rfl⟩) (z_preV hX hS hH (zob_o hf15) rfl) rfl rfl hl.1 rfl (lv_room (Nat.le_of_ble_eq_true rfl)) dX0_cut_52 ⟨hc1, hs1⟩) hS (fun q _ hq => hq) (fun q hq => hq) (fun u t H1 locs ht hvm hw hB hz hk hS => ?_)
      obtain ⟨-, hw2⟩ := Prod.mk.inj hw.symm; subst hw2
      have hH : zH D cA ζ s14 H1 := z_at ht.symm hB
      have hcs : s.heap.size + (cells + (s14.1 - s8.1)) = s14.1 := by omega
      have hss : sl0 + (slots + (s14.2.1 - s8.2.1)) = s14.2.1 := by omega
      replace hcM := And.intro hc1 hs1
      generalize cells + (s14.1 - s8.1) = cells at hcs hcM ⊢; generalize slots + (s14.2.1 - s8.2.1) = slots at hss hcM ⊢
      clear hB hk hz hvm ht hle hck hc1 hs1; generalize H1 = H at hH hS ⊢
      refine lv_aload_n hx hb dX0_cut_55 rfl (lv_at hl 1 rfl) ?_
      refine lv_iload_n hx hb dX0_cut_56 rfl (lv_at hl 2 rfl) ?_
      obtain ⟨f18, hf18, hf⟩ := dz_bo hf
      obtain ⟨x16, s17, hx16, hle, hck, hf⟩ := zcl_o hf
      have hc1 : cells + (s17.1 - s14.1) ≤ M := by omega
      have hs1 : slots + (s17.2.1 - s14.2.1) ≤ S := by omega
      refine va_callv (va_runV (As := [.int a0]) (rest := []) ⟨hx, hb, hml, hown, hts⟩ (mtX0_changes l D cA ζ s14 h a0 K (x16, s17) hx16 (s17.1 - s14.1) (s17.2.1 - s14.2.1) (Nat.add_sub_cancel' hle.1) (Nat.add_sub_cancel' hle.2)) (cwV 1 hts (lw_V q872 q874 qs13 q84 q875) rfl rfl rfl (by decide +kernel) ⟨Nat.le_of_ble_eq_true rfl, Nat.le_of_ble_eq_true rfl⟩) (z_preV hX hS hH (zob_o hf18) rfl) rfl rfl hl.1 rfl (lv_room (Nat.le_of_ble_eq_true rfl)) dX0_cut_57 ⟨hc1, hs1⟩) hS (fun q _ hq => hq) (fun q hq => hq) (fun u t H1 locs ht hvm hw hB hz hk hS => ?_)
      obtain ⟨-, hw2⟩ := Prod.mk.inj hw.symm; subst hw2
      have hH : zH D cA ζ s17 H1 := z_at ht.symm hB
      have hcs : s.heap.size + (cells + (s17.1 - s14.1)) = s17.1 := by omega
      have hss : sl0 + (slots + (s17.2.1 - s14.2.1)) = s17.2.1 := by omega
      replace hcM := And.intro hc1 hs1
      generalize cells + (s17.1 - s14.1) = cells at hcs hcM ⊢; generalize slots + (s17.2.1 - s14.2.1) = slots at hss hcM ⊢
      clear hB hk hz hvm ht hle hck hc1 hs1; generalize H1 = H at hH hS ⊢
      refine lv_aload hx hb dX0_cut_60 (lv_at hl 0 rfl) ?_
      obtain ⟨f19, hf19, hf⟩ := dz_bo hf
      obtain ⟨x20, hx20, hf⟩ := dz_bo hf
      refine va_getN (C := RX8) (T := TX8) (N := 2) hx hb hts in_X8 hown hX.K (zrd_P hX hS hH (zob_o hf19)) 0 rfl rfl 1 (by decide) ((hX.N q525 rfl).use rfl) (fun _ hq => hq) (zvi_o hx20) dX0_cut_62 ?_
      obtain ⟨hM1, hS1⟩ : cells = M ∧ slots = S := by have hq := congrArg Prod.snd (Option.some.inj hf); rw [← hq] at hM hS0; have hM : s.heap.size + M = s17.1 := hM; have hS0 : sl0 + S = s17.2.1 := hS0; omega
      refine W.widen (k := M) (n := S) (Nat.le_of_eq hM1) (Nat.le_of_eq hS1) ?_
      exact W.iret (v := x20) hx hb hr (fun t ht hW => ⟨⟨x20, s17, rfl, Option.some.inj hf, z_at ht hH⟩, hS.F ht⟩) hS.2.2 dX0_cut_65
    · have hf := dz_f c13 hf
      refine lv_aload_n hx hb dX0_cut_16 rfl (lv_at hl 0 rfl) ?_
      obtain ⟨f21, hf21, hf⟩ := dz_bo hf
      obtain ⟨x22, hx22, hf⟩ := dz_bo hf
      refine va_get (C := RX0) (T := TX0) (N := 7) hx hb hts in_X0 hown hX.K (zrd_P hX hS hH (zob_o hf21)) 0 rfl rfl 0 (by decide) (hts _ q156) (fun _ hq => hq) (zvr_o hx22) dX0_cut_17 ?_
      refine lv_iload_n hx hb dX0_cut_20 rfl (lv_at hl 1 rfl) ?_
      obtain ⟨f25, hf25, hf⟩ := dz_bo hf
      obtain ⟨x23, s24, hx23, hle, hck, hf⟩ := zcl_o hf
      have hc1 : cells + (s24.1 - s2.1) ≤ M := by omega
      have hs1 : slots + (s24.2.1 - s2.2.1) ≤ S := by omega
      refine va_callr (va_runV (As := [.int a0]) (rest := []) ⟨hx, hb, hml, hown, hts⟩ (mtJ2_get l D cA ζ s2 x22 a0 K (x23, s24) hx23 (s24.1 - s2.1) (s24.2.1 - s2.2.1) (Nat.add_sub_cancel' hle.1) (Nat.add_sub_cancel' hle.2)) (cwV 1 hts (lw_V q204 q205 q206 q87 q207) rfl rfl rfl (by decide +kernel) ⟨Nat.le_of_ble_eq_true rfl, Nat.le_of_ble_eq_true rfl⟩) (z_preV hX hS hH (zob_o hf25) rfl) rfl rfl hl.1 rfl (lv_room (Nat.le_of_ble_eq_true rfl)) dX0_cut_21 ⟨hc1, hs1⟩) hS (fun q _ hq => hq) (fun q hq => hq) (fun u r t H1 locs ht hvm hw hB hz hk hS => ?_)
      obtain ⟨hw, hB⟩ := hB
      obtain ⟨hw1, hw2⟩ := Prod.mk.inj hw.symm; subst hw1; subst hw2
      have hH : zH D cA ζ s24 H1 := z_at ht.symm hB
      have hcs : s.heap.size + (cells + (s24.1 - s2.1)) = s24.1 := by omega
      have hss : sl0 + (slots + (s24.2.1 - s2.2.1)) = s24.2.1 := by omega
      replace hcM := And.intro hc1 hs1
      generalize cells + (s24.1 - s2.1) = cells at hcs hcM ⊢; generalize slots + (s24.2.1 - s2.2.1) = slots at hss hcM ⊢
      clear hB hk hz hvm ht hle hck hc1 hs1; generalize H1 = H at hH hS ⊢
      obtain ⟨cf26, f26, hcf26, hf⟩ := dz_co hf
      obtain ⟨hr_f26, hc_f26⟩ := zoL_o hcf26
      refine zL_cast hx hb hown (hts _ q218) hX hS hH hr_f26 hc_f26 dX0_cut_24 ?_
      obtain ⟨cf27, f27, hcf27, hf⟩ := dz_co hf
      obtain ⟨x28, hx28, hf⟩ := dz_bo hf
      obtain ⟨hr_f27, hc_f27⟩ := zoL_o hcf27
      refine zL_get5 hx hb hts hown hX hS hH hr_f27 hc_f27 (hts _ q565) (zvr_o hx28) dX0_cut_27 ?_
      refine lv_goto (tgt := 47) hx hb dX0_cut_30 (by decide) ?_
      refine lv_astore (lv' := [(4, .ref x28), (0, .ref h), (1, .int a0), (2, .int a1), (3, .int a2)]) hx hb dX0_cut_47 hl (by decide) rfl (fun ls hl => ?_)
      refine lv_aload hx hb dX0_cut_49 (lv_at hl 0 rfl) ?_
      refine lv_iload_n hx hb dX0_cut_51 rfl (lv_at hl 4 rfl) ?_
      obtain ⟨f31, hf31, hf⟩ := dz_bo hf
      obtain ⟨x29, s30, hx29, hle, hck, hf⟩ := zcl_o hf
      have hc1 : cells + (s30.1 - s24.1) ≤ M := by omega
      have hs1 : slots + (s30.2.1 - s24.2.1) ≤ S := by omega
      refine va_callv (va_runV (As := [.int a2]) (rest := []) ⟨hx, hb, hml, hown, hts⟩ (mtX8_cuts l D cA ζ s24 x28 a2 K (x29, s30) hx29 (s30.1 - s24.1) (s30.2.1 - s24.2.1) (Nat.add_sub_cancel' hle.1) (Nat.add_sub_cancel' hle.2)) (cwV 1 hts (lw_V q1369 q1370 q1371 q98 q1372) rfl rfl rfl (by decide +kernel) ⟨Nat.le_of_ble_eq_true rfl, Nat.le_of_ble_eq_true rfl⟩) (z_preV hX hS hH (zob_o hf31) rfl) rfl rfl hl.1 rfl (lv_room (Nat.le_of_ble_eq_true rfl)) dX0_cut_52 ⟨hc1, hs1⟩) hS (fun q _ hq => hq) (fun q hq => hq) (fun u t H1 locs ht hvm hw hB hz hk hS => ?_)
      obtain ⟨-, hw2⟩ := Prod.mk.inj hw.symm; subst hw2
      have hH : zH D cA ζ s30 H1 := z_at ht.symm hB
      have hcs : s.heap.size + (cells + (s30.1 - s24.1)) = s30.1 := by omega
      have hss : sl0 + (slots + (s30.2.1 - s24.2.1)) = s30.2.1 := by omega
      replace hcM := And.intro hc1 hs1
      generalize cells + (s30.1 - s24.1) = cells at hcs hcM ⊢; generalize slots + (s30.2.1 - s24.2.1) = slots at hss hcM ⊢
      clear hB hk hz hvm ht hle hck hc1 hs1; generalize H1 = H at hH hS ⊢
      refine lv_aload_n hx hb dX0_cut_55 rfl (lv_at hl 1 rfl) ?_
      refine lv_iload_n hx hb dX0_cut_56 rfl (lv_at hl 2 rfl) ?_
      obtain ⟨f34, hf34, hf⟩ := dz_bo hf
      obtain ⟨x32, s33, hx32, hle, hck, hf⟩ := zcl_o hf
      have hc1 : cells + (s33.1 - s30.1) ≤ M := by omega
      have hs1 : slots + (s33.2.1 - s30.2.1) ≤ S := by omega
      refine va_callv (va_runV (As := [.int a0]) (rest := []) ⟨hx, hb, hml, hown, hts⟩ (mtX0_changes l D cA ζ s30 h a0 K (x32, s33) hx32 (s33.1 - s30.1) (s33.2.1 - s30.2.1) (Nat.add_sub_cancel' hle.1) (Nat.add_sub_cancel' hle.2)) (cwV 1 hts (lw_V q872 q874 qs13 q84 q875) rfl rfl rfl (by decide +kernel) ⟨Nat.le_of_ble_eq_true rfl, Nat.le_of_ble_eq_true rfl⟩) (z_preV hX hS hH (zob_o hf34) rfl) rfl rfl hl.1 rfl (lv_room (Nat.le_of_ble_eq_true rfl)) dX0_cut_57 ⟨hc1, hs1⟩) hS (fun q _ hq => hq) (fun q hq => hq) (fun u t H1 locs ht hvm hw hB hz hk hS => ?_)
      obtain ⟨-, hw2⟩ := Prod.mk.inj hw.symm; subst hw2
      have hH : zH D cA ζ s33 H1 := z_at ht.symm hB
      have hcs : s.heap.size + (cells + (s33.1 - s30.1)) = s33.1 := by omega
      have hss : sl0 + (slots + (s33.2.1 - s30.2.1)) = s33.2.1 := by omega
      replace hcM := And.intro hc1 hs1
      generalize cells + (s33.1 - s30.1) = cells at hcs hcM ⊢; generalize slots + (s33.2.1 - s30.2.1) = slots at hss hcM ⊢
      clear hB hk hz hvm ht hle hck hc1 hs1; generalize H1 = H at hH hS ⊢
      refine lv_aload hx hb dX0_cut_60 (lv_at hl 0 rfl) ?_
      obtain ⟨f35, hf35, hf⟩ := dz_bo hf
      obtain ⟨x36, hx36, hf⟩ := dz_bo hf
      refine va_getN (C := RX8) (T := TX8) (N := 2) hx hb hts in_X8 hown hX.K (zrd_P hX hS hH (zob_o hf35)) 0 rfl rfl 1 (by decide) ((hX.N q525 rfl).use rfl) (fun _ hq => hq) (zvi_o hx36) dX0_cut_62 ?_
      obtain ⟨hM1, hS1⟩ : cells = M ∧ slots = S := by have hq := congrArg Prod.snd (Option.some.inj hf); rw [← hq] at hM hS0; have hM : s.heap.size + M = s33.1 := hM; have hS0 : sl0 + S = s33.2.1 := hS0; omega
      refine W.widen (k := M) (n := S) (Nat.le_of_eq hM1) (Nat.le_of_eq hS1) ?_
      exact W.iret (v := x36) hx hb hr (fun t ht hW => ⟨⟨x36, s33, rfl, Option.some.inj hf, z_at ht hH⟩, hS.F ht⟩) hS.2.2 dX0_cut_65
  · subst hq
    refine W.eq (g2 := F0 m 7 ls [.null]) rfl ?_
    refine lv_ifnonnullN hx hb dX0_cut_7 ?_
    refine lv_iconst (v := (-1)) hx hb dX0_cut_10 (by decide) ?_
    obtain ⟨hM1, hS1⟩ : cells = M ∧ slots = S := by have hq := congrArg Prod.snd (Option.some.inj hf); rw [← hq] at hM hS0; have hM : s.heap.size + M = s2.1 := hM; have hS0 : sl0 + S = s2.2.1 := hS0; omega
    refine W.widen (k := M) (n := S) (Nat.le_of_eq hM1) (Nat.le_of_eq hS1) ?_
    exact W.iret (v := (-1)) hx hb hr (fun t ht hW => ⟨⟨(-1), s2, rfl, Option.some.inj hf, z_at ht hH⟩, hS.F ht⟩) hS.2.2 dX0_cut_11

noncomputable def lfJ2_rangeCheckForAdd (K : Nat) (ζ : pZ) : Nat → (pH → Option (Unit × pH)) := Nat.rec (motive := fun _ => (pH → Option (Unit × pH))) (fun _ => none) (fun _ G => (fun τ => none))
noncomputable def fnJ2_rangeCheckForAdd (K : Nat) (ζ : pZ) (h : Nat) (a0 : Int32) (τ : pH) : Option (Unit × pH) := dz_b (zob ζ τ h 14) fun f1 => dz_b (zvi (f1[2]?)) fun x2 => if x2 < a0 then ((lfJ2_rangeCheckForAdd K ζ K) τ) else (if (0 : Int32) ≤ a0 then (some ((), τ)) else ((lfJ2_rangeCheckForAdd K ζ K) τ))
set_option maxHeartbeats 4000000 in
set_option maxRecDepth 100000 in
theorem wlJ2_rangeCheckForAdd {p : Program} {l : Launch} {e : Env} {s : State} {m : MethodId} {below : List Frame} {meth : Method} {c : Code} {D : va_G} {cA : Nat → ClassId} {ζ : pZ} (hX : zX D cA ζ s) (K : Nat) (res : (Unit × pH)) (M S sl0 : Nat) (hM : s.heap.size + M = res.2.1) (hS0 : sl0 + S = res.2.2.1) (h : Nat) (a0 : Int32) (hx : p.tables.exec = Jvm.exec) (hb : c.code = cJ2_rangeCheckForAdd) (hr : meth.sig.returnType = none) (hlocks : meth.locks = false) (hml : c.maxLocals = 2) (hown : s.vm.findClass RJ2 = some m.cls) (hts : ∀ w ∈ lw_all, w.before ([.ref h, .int a0] : List Value).toArray s = true) : ∀ k : Nat, (∀  (τ : pH) (H : Heap) (locs : List Loc) (cells slots : Nat), zH D cA ζ τ H → va_S (zA ζ) s.heap H locs → s.heap.size + cells = τ.1 → sl0 + slots = τ.2.1 → cells ≤ M ∧ slots ≤ S → ∀ (ls : Array Slot), lv_has ls 2 [] → (lfJ2_rangeCheckForAdd K ζ k) τ = some res → W p l e (headSpec (ws_ yJ2_rangeCheckForAdd cJ2_rangeCheckForAdd 2 (none)) ({ frames := 0, cells := M, slots := S, locals := 0 })).room s m ([.ref h, .int a0] : List Value).toArray below meth c H locs cells slots (MQ below (zQv D cA ζ res) ([.ref h, .int a0] : List Value).toArray s M S (zA ζ)) (F0 m 12 ls [])) := by
  intro k
  induction k with
  | zero =>
    exact fun _ _ _ _ _ _ _ _ _ _ _ _ hf => (by cases hf)
  | succ k ih =>
    · intro τ H locs cells slots hH hS hcs hss hcM ls hl hf
      have hf : (none : Option (Unit × pH)) = some res := hf
      cases hf
set_option maxHeartbeats 4000000 in
set_option maxRecDepth 100000 in
theorem mtJ2_rangeCheckForAdd (l : Launch) (D : va_G) (cA : Nat → ClassId) (ζ : pZ) (τ : pH) (h : Nat) (a0 : Int32) (K : Nat) (res : (Unit × pH)) (hf : fnJ2_rangeCheckForAdd K ζ h a0 τ = some res) (M S : Nat) (hM : τ.1 + M = res.2.1) (hS0 : τ.2.1 + S = res.2.2.1) : Met l yJ2_rangeCheckForAdd (ws_ yJ2_rangeCheckForAdd cJ2_rangeCheckForAdd 2 (none)) ({ frames := 0, cells := M, slots := S, locals := 0 }) (zPc D cA ζ τ [.ref h, .int a0]) (zQv D cA ζ res) M S (zA ζ) := by
  refine Met.ofW (cc := cJ2_rangeCheckForAdd) (maxL := 2) (ret := none) (by decide +kernel) rfl ?_
  intro p e s m args below meth c s₁ B hml hv
  obtain ⟨rfl, hX, hH⟩ := hv
  have hx := B.exec
  have hb := B.bytes
  have hr := B.returns
  have hts := atoms_spec (ws := ws_ yJ2_rangeCheckForAdd cJ2_rangeCheckForAdd 2 (none)) B.pre
  have hts : ∀ w ∈ lw_all, w.before _ s = true := fun w h => hts w (List.mem_cons_of_mem _ h)
  have hown : s.vm.findClass RJ2 = some m.cls := findClass_of_methodNamed B.named
  have hlocks := B.notSynchronized
  have hM : s.heap.size + M = res.2.1 := by rw [hH.1]; exact hM
  have hcs : s.heap.size + 0 = τ.1 := hH.1
  have hss : τ.2.1 + 0 = τ.2.1 := rfl
  generalize hsl0 : τ.2.1 = sl0 at hS0 hss
  have hss : sl0 + 0 = τ.2.1 := by rw [hsl0]; rfl
  have hS : va_S (zA ζ) s.heap s.heap [] := va_S.rf
  generalize hHe : s.heap = H at hH hS ⊢
  have hS : va_S (zA ζ) s.heap H [] := by rw [hHe]; exact hS
  generalize ([] : List Loc) = locs at hS ⊢
  have hl := lv_entry ([.ref h, .int a0]) (n := 2) (Nat.le_of_ble_eq_true rfl)
  rw [lg_entry_eq]
  generalize (lg_sl ([.ref h, .int a0]) ++ List.replicate (2 - (lg_sl ([.ref h, .int a0])).length) Slot.unset).toArray = ls at hl ⊢
  have hl : lv_has ls 2 [(0, .ref h), (1, .int a0)] := hl
  have hf : (dz_b (zob ζ τ h 14) fun f1 => dz_b (zvi (f1[2]?)) fun x2 => if x2 < a0 then ((lfJ2_rangeCheckForAdd K ζ K) τ) else (if (0 : Int32) ≤ a0 then (some ((), τ)) else ((lfJ2_rangeCheckForAdd K ζ K) τ)) : Option (Unit × pH)) = some res := hf
  refine z_gen (fun cells slots hc0 hs0 => ?_)
  have hcs : s.heap.size + cells = τ.1 := by rw [hc0]; exact hcs
  have hss : sl0 + slots = τ.2.1 := by rw [hs0]; exact hss
  have hcM : cells ≤ M ∧ slots ≤ S := by rw [hc0, hs0]; exact ⟨Nat.zero_le _, Nat.zero_le _⟩
  clear hc0 hs0
  have ih := wlJ2_rangeCheckForAdd (l := l) (e := e) (below := below) (D := D) (cA := cA) hX K res M S sl0 hM hS0 h a0 hx hb hr hlocks hml hown hts K
  refine lv_iload_n hx hb dJ2_rangeCheckForAdd_0 rfl (lv_at hl 1 rfl) ?_
  refine lv_aload_n hx hb dJ2_rangeCheckForAdd_1 rfl (lv_at hl 0 rfl) ?_
  obtain ⟨f1, hf1, hf⟩ := dz_bo hf
  obtain ⟨x2, hx2, hf⟩ := dz_bo hf
  refine va_get (C := RJ2) (T := TJ2) (N := 3) hx hb hts in_J2 hown hX.K (zrd_P hX hS hH (zob_o hf1)) 0 rfl rfl 2 (by decide) (hts _ q144) (fun _ hq => hq) (zvi_o hx2) dJ2_rangeCheckForAdd_2 ?_
  refine lv_icmp_gt (tgt := 12) hx hb dJ2_rangeCheckForAdd_5 (by decide) (fun c5 => ?_) (fun c5 => ?_)
  · have hf := dz_t c5 hf
    exact ih τ H locs cells slots hH hS hcs hss hcM ls (lv_sub hl [] rfl) hf
  · have hf := dz_f c5 hf
    refine lv_iload_n hx hb dJ2_rangeCheckForAdd_8 rfl (lv_at hl 1 rfl) ?_
    refine lv_if_ge (tgt := 25) hx hb dJ2_rangeCheckForAdd_9 (by decide) (fun c9 => ?_) (fun c9 => ?_)
    · have hf := dz_t c9 hf
      obtain ⟨hM1, hS1⟩ : cells = M ∧ slots = S := by have hq := congrArg Prod.snd (Option.some.inj hf); rw [← hq] at hM hS0; have hM : s.heap.size + M = τ.1 := hM; have hS0 : sl0 + S = τ.2.1 := hS0; omega
      refine W.widen (k := M) (n := S) (Nat.le_of_eq hM1) (Nat.le_of_eq hS1) ?_
      exact W.vret hx hb hr (fun t ht hW => ⟨⟨τ, rfl, Option.some.inj hf, z_at ht hH⟩, hS.F ht⟩) hS.2.2 dJ2_rangeCheckForAdd_25
    · have hf := dz_f c9 hf
      exact ih τ H locs cells slots hH hS hcs hss hcM ls (lv_sub hl [] rfl) hf

noncomputable def lfJ2_add_3 (K : Nat) (ζ : pZ) : Nat → (Nat → Int32 → Nat → Int32 → Nat → pH → Option (Unit × pH)) := Nat.rec (motive := fun _ => (Nat → Int32 → Nat → Int32 → Nat → pH → Option (Unit × pH))) (fun _ _ _ _ _ _ => none) (fun _ G => (fun v0 v1 v2 v3 v4 τ => if ζ.1 ≤ v4 ∧ v4 < τ.1 then (if ζ.1 ≤ v4 ∧ v4 < τ.1 then (dz_c (zaq ζ τ v4 4) fun n1 f2 => dz_c (zaq ζ τ v4 4) fun n3 f4 => if ¬ v1 < 0 then (if ¬ (v1 + 1) < 0 then (if ¬ (v3 - v1) < 0 then (if (Int32.toNatClampNeg v1) + (Int32.toNatClampNeg (v3 - v1)) ≤ n1 then (if (Int32.toNatClampNeg (v1 + 1)) + (Int32.toNatClampNeg (v3 - v1)) ≤ n3 then (if zels ζ τ f2 (Int32.toNatClampNeg v1) (Int32.toNatClampNeg (v3 - v1)) = true then (dz_l (zst τ v4 (.inl (4, n3, .inr (.inr (.inr (.inr (va_cpy f2 f4 (Int32.toNatClampNeg v1) (Int32.toNatClampNeg (v1 + 1)) (Int32.toNatClampNeg (v3 - v1))))))))) fun s5 => if ζ.1 ≤ v4 ∧ v4 < s5.1 then (dz_c (zaq ζ s5 v4 4) fun n14 f15 => if ¬ (v1 < 0 ∨ n14 ≤ Int32.toNatClampNeg v1) then (if ζ.1 ≤ v2 ∧ v2 < s5.1 then (dz_c (zoL ζ s5 v2) fun cf20 f20 => dz_l (zst s5 v4 (.inl (4, n14, .inr (.inr (.inr (.inr (va_up f15 (Int32.toNatClampNeg v1) (some v2)))))))) fun s16 => dz_l (v3 + 1) fun x21 => dz_b (zwo ζ s16 v0 14 2) fun f22 => dz_l (zst s16 v0 (.inr (14, f22.set 2 (.int x21)))) fun s23 => some ((), s23)) else none) else none) else none) else none) else none) else none) else none) else none) else none) else none) else none))
noncomputable def fnJ2_add_3 (K : Nat) (ζ : pZ) (h : Nat) (a0 : Int32) (a1 : Nat) (τ : pH) : Option (Unit × pH) := dz_b (zob ζ τ h 14) fun f3 => zcl τ (fnJ2_rangeCheckForAdd K ζ h a0 τ) fun _ s2 => dz_b (zob ζ s2 h 14) fun f4 => dz_b (zvi (f4[0]?)) fun x5 => dz_l (x5 + 1) fun x6 => dz_b (zwo ζ s2 h 14 0) fun f7 => dz_l (zst s2 h (.inr (14, f7.set 0 (.int x6)))) fun s8 => dz_b (zob ζ s8 h 14) fun f9 => dz_b (zvi (f9[2]?)) fun x10 => dz_b (zob ζ s8 h 14) fun f11 => dz_b (zvr (f11[1]?)) fun x12 => dz_b (zlenq ζ s8 x12) fun n13 => dz_l (Int32.ofNat n13) fun x14 => if x10 = x14 then (dz_b (zob ζ s8 h 14) fun f17 => zcl s8 (fnJ2_grow K ζ h s8) fun x15 s16 => (lfJ2_add_3 K ζ K) h a0 a1 x10 x15 s16) else ((lfJ2_add_3 K ζ K) h a0 a1 x10 x12 s8)
set_option maxHeartbeats 4000000 in
set_option maxRecDepth 100000 in
theorem wlJ2_add_3 {p : Program} {l : Launch} {e : Env} {s : State} {m : MethodId} {below : List Frame} {meth : Method} {c : Code} {D : va_G} {cA : Nat → ClassId} {ζ : pZ} (hX : zX D cA ζ s) (K : Nat) (res : (Unit × pH)) (M S sl0 : Nat) (hM : s.heap.size + M = res.2.1) (hS0 : sl0 + S = res.2.2.1) (h : Nat) (a0 : Int32) (a1 : Nat) (hx : p.tables.exec = Jvm.exec) (hb : c.code = cJ2_add_3) (hr : meth.sig.returnType = none) (hlocks : meth.locks = false) (hml : c.maxLocals = 5) (hown : s.vm.findClass RJ2 = some m.cls) (hts : ∀ w ∈ lw_all, w.before ([.ref h, .int a0, .ref a1] : List Value).toArray s = true) : ∀ k : Nat, (∀ (v0 : Nat) (v1 : Int32) (v2 : Nat) (v3 : Int32) (v4 : Nat) (τ : pH) (H : Heap) (locs : List Loc) (cells slots : Nat), zH D cA ζ τ H → va_S (zA ζ) s.heap H locs → s.heap.size + cells = τ.1 → sl0 + slots = τ.2.1 → cells ≤ M ∧ slots ≤ S → ∀ (ls : Array Slot), lv_has ls 5 [(0, .ref v0), (1, .int v1), (2, .ref v2), (3, .int v3), (4, .ref v4)] → (lfJ2_add_3 K ζ k) v0 v1 v2 v3 v4 τ = some res → W p l e (headSpec (ws_ yJ2_add_3 cJ2_add_3 5 (none)) ({ frames := 5, cells := M, slots := S, locals := 147 })).room s m ([.ref h, .int a0, .ref a1] : List Value).toArray below meth c H locs cells slots (MQ below (zQv D cA ζ res) ([.ref h, .int a0, .ref a1] : List Value).toArray s M S (zA ζ)) (F0 m 38 ls [])) := by
  intro k
  induction k with
  | zero =>
    exact fun _ _ _ _ _ _ _ _ _ _ _ _ _ _ _ _ _ hf => (by cases hf)
  | succ k ih =>
    · intro v0 v1 v2 v3 v4 τ H locs cells slots hH hS hcs hss hcM ls hl hf
      have hf : (if ζ.1 ≤ v4 ∧ v4 < τ.1 then (if ζ.1 ≤ v4 ∧ v4 < τ.1 then (dz_c (zaq ζ τ v4 4) fun n1 f2 => dz_c (zaq ζ τ v4 4) fun n3 f4 => if ¬ v1 < 0 then (if ¬ (v1 + 1) < 0 then (if ¬ (v3 - v1) < 0 then (if (Int32.toNatClampNeg v1) + (Int32.toNatClampNeg (v3 - v1)) ≤ n1 then (if (Int32.toNatClampNeg (v1 + 1)) + (Int32.toNatClampNeg (v3 - v1)) ≤ n3 then (if zels ζ τ f2 (Int32.toNatClampNeg v1) (Int32.toNatClampNeg (v3 - v1)) = true then (dz_l (zst τ v4 (.inl (4, n3, .inr (.inr (.inr (.inr (va_cpy f2 f4 (Int32.toNatClampNeg v1) (Int32.toNatClampNeg (v1 + 1)) (Int32.toNatClampNeg (v3 - v1))))))))) fun s5 => if ζ.1 ≤ v4 ∧ v4 < s5.1 then (dz_c (zaq ζ s5 v4 4) fun n14 f15 => if ¬ (v1 < 0 ∨ n14 ≤ Int32.toNatClampNeg v1) then (if ζ.1 ≤ v2 ∧ v2 < s5.1 then (dz_c (zoL ζ s5 v2) fun cf20 f20 => dz_l (zst s5 v4 (.inl (4, n14, .inr (.inr (.inr (.inr (va_up f15 (Int32.toNatClampNeg v1) (some v2)))))))) fun s16 => dz_l (v3 + 1) fun x21 => dz_b (zwo ζ s16 v0 14 2) fun f22 => dz_l (zst s16 v0 (.inr (14, f22.set 2 (.int x21)))) fun s23 => some ((), s23)) else none) else none) else none) else none) else none) else none) else none) else none) else none) else none) else none : Option (Unit × pH)) = some res := hf
      refine lv_aload hx hb dJ2_add_3_38 (lv_at hl 4 rfl) ?_
      refine lv_iload_n hx hb dJ2_add_3_40 rfl (lv_at hl 1 rfl) ?_
      refine lv_aload hx hb dJ2_add_3_41 (lv_at hl 4 rfl) ?_
      refine lv_iload_n hx hb dJ2_add_3_43 rfl (lv_at hl 1 rfl) ?_
      refine lv_iconst (v := 1) hx hb dJ2_add_3_44 (by decide) ?_
      refine lv_iadd hx hb dJ2_add_3_45 ?_
      refine lv_iload_n hx hb dJ2_add_3_46 rfl (lv_at hl 3 rfl) ?_
      refine lv_iload_n hx hb dJ2_add_3_47 rfl (lv_at hl 1 rfl) ?_
      refine lv_isub hx hb dJ2_add_3_48 ?_
      obtain ⟨g6, hf⟩ := dz_go hf
      obtain ⟨g7, hf⟩ := dz_go hf
      obtain ⟨n1, f2, hn1, hf⟩ := dz_co hf
      obtain ⟨n3, f4, hn3, hf⟩ := dz_co hf
      obtain ⟨g8, hf⟩ := dz_go hf
      obtain ⟨g9, hf⟩ := dz_go hf
      obtain ⟨g10, hf⟩ := dz_go hf
      obtain ⟨g11, hf⟩ := dz_go hf
      obtain ⟨g12, hf⟩ := dz_go hf
      obtain ⟨g13, hf⟩ := dz_go hf
      refine va_copyM hx hb (hml.trans hl.1.symm) hown (hts _ q871) (hts _ q856) (hts _ q855) (hts _ q106) hX.K hH.2.2 zw_D hS _ _ 4 4 (zw_a g6 (zrd_w (zaq_o hn1) g6)) (zw_a g7 (zrd_w (zaq_o hn3) g7)) rfl rfl g8 g9 g10 g11 g12 (fun i hi y hy => by obtain ⟨_, _, hq⟩ := zels_o g13 i hi y hy; exact z_anyL hX hS hH hq) (Nat.le_of_ble_eq_true rfl) (Nat.le_of_ble_eq_true rfl) dJ2_add_3_49 (fun H1 locs hP1 _ hS => dz_size (fun hz => ?_))
      obtain ⟨s5, e_s5, hf⟩ := dz_lo hf
      have hH := zH_put (x := (.inl (4, n3, .inr (.inr (.inr (.inr (va_cpy f2 f4 (Int32.toNatClampNeg v1) (Int32.toNatClampNeg (v1 + 1)) (Int32.toNatClampNeg (v3 - v1))))))))) hH hcs g7 hP1 hz
      rw [← e_s5] at hH
      have hcs : s.heap.size + cells = s5.1 := by rw [e_s5]; exact hcs
      have hss : sl0 + slots = s5.2.1 := by rw [e_s5]; exact hss
      clear hP1 hz; generalize H1 = H at hH hS ⊢
      refine lv_aload hx hb dJ2_add_3_52 (lv_at hl 4 rfl) ?_
      refine lv_iload_n hx hb dJ2_add_3_54 rfl (lv_at hl 1 rfl) ?_
      refine lv_aload_n hx hb dJ2_add_3_55 rfl (lv_at hl 2 rfl) ?_
      obtain ⟨g17, hf⟩ := dz_go hf
      obtain ⟨n14, f15, hn14, hf⟩ := dz_co hf
      obtain ⟨g18, hf⟩ := dz_go hf
      obtain ⟨g19, hf⟩ := dz_go hf
      obtain ⟨cf20, f20, hcf20, hf⟩ := dz_co hf
      obtain ⟨hr_f20, hc_f20⟩ := zoL_o hcf20
      refine zL_ast hx hb hX hH hS (zw_a g17 (zrd_w (zaq_o hn14) g17)) g19 (zrd_w hr_f20 g19) hc_f20 g18 dJ2_add_3_56 (fun H1 locs hP1 hS => dz_size (fun hz => ?_))
      obtain ⟨s16, e_s16, hf⟩ := dz_lo hf
      have hH := zH_put (x := (.inl (4, n14, .inr (.inr (.inr (.inr (va_up f15 (Int32.toNatClampNeg v1) (some v2)))))))) hH hcs g17 hP1 hz
      rw [← e_s16] at hH
      have hcs : s.heap.size + cells = s16.1 := by rw [e_s16]; exact hcs
      have hss : sl0 + slots = s16.2.1 := by rw [e_s16]; exact hss
      clear hP1 hz; generalize H1 = H at hH hS ⊢
      refine lv_aload_n hx hb dJ2_add_3_57 rfl (lv_at hl 0 rfl) ?_
      refine lv_iload_n hx hb dJ2_add_3_58 rfl (lv_at hl 3 rfl) ?_
      refine lv_iconst (v := 1) hx hb dJ2_add_3_59 (by decide) ?_
      refine lv_iadd hx hb dJ2_add_3_60 ?_
      refine lv_topi (fun x21 e_x21 => ?_)
      have hf := dz_ls e_x21 hf
      obtain ⟨f22, hf22, hf⟩ := dz_bo hf
      obtain ⟨ha_f22, he_f22, hk_f22⟩ := zwo_o hf22
      refine va_put (C := RJ2) (T := TJ2) (N := 3) hx hb hts in_J2 tyJ2 tyJ2_ok nmJ2 hown hX.K hH.2.2 zw_D hS _ (zw_o ha_f22 he_f22) rfl 2 (by decide) (hts _ q144) (fun _ hq => hq) rfl rfl rfl rfl hk_f22 dJ2_add_3_61 (fun H1 locs hP1 _ hS => dz_size (fun hz => ?_))
      obtain ⟨s23, e_s23, hf⟩ := dz_lo hf
      have hH := zH_put (x := .inr (14, f22.set 2 (.int x21))) hH hcs ha_f22 hP1 hz
      rw [← e_s23] at hH
      have hcs : s.heap.size + cells = s23.1 := by rw [e_s23]; exact hcs
      have hss : sl0 + slots = s23.2.1 := by rw [e_s23]; exact hss
      clear hP1 hz; generalize H1 = H at hH hS ⊢
      obtain ⟨hM1, hS1⟩ : cells = M ∧ slots = S := by have hq := congrArg Prod.snd (Option.some.inj hf); rw [← hq] at hM hS0; have hM : s.heap.size + M = s23.1 := hM; have hS0 : sl0 + S = s23.2.1 := hS0; omega
      refine W.widen (k := M) (n := S) (Nat.le_of_eq hM1) (Nat.le_of_eq hS1) ?_
      exact W.vret hx hb hr (fun t ht hW => ⟨⟨s23, rfl, Option.some.inj hf, z_at ht hH⟩, hS.F ht⟩) hS.2.2 dJ2_add_3_64
set_option maxHeartbeats 4000000 in
set_option maxRecDepth 100000 in
theorem mtJ2_add_3 (l : Launch) (D : va_G) (cA : Nat → ClassId) (ζ : pZ) (τ : pH) (h : Nat) (a0 : Int32) (a1 : Nat) (K : Nat) (res : (Unit × pH)) (hf : fnJ2_add_3 K ζ h a0 a1 τ = some res) (M S : Nat) (hM : τ.1 + M = res.2.1) (hS0 : τ.2.1 + S = res.2.2.1) : Met l yJ2_add_3 (ws_ yJ2_add_3 cJ2_add_3 5 (none)) ({ frames := 5, cells := M, slots := S, locals := 147 }) (zPc D cA ζ τ [.ref h, .int a0, .ref a1]) (zQv D cA ζ res) M S (zA ζ) := by
  refine Met.ofW (cc := cJ2_add_3) (maxL := 5) (ret := none) (by decide +kernel) rfl ?_
  intro p e s m args below meth c s₁ B hml hv
  obtain ⟨rfl, hX, hH⟩ := hv
  have hx := B.exec
  have hb := B.bytes
  have hr := B.returns
  have hts := atoms_spec (ws := ws_ yJ2_add_3 cJ2_add_3 5 (none)) B.pre
  have hts : ∀ w ∈ lw_all, w.before _ s = true := fun w h => hts w (List.mem_cons_of_mem _ h)
  have hown : s.vm.findClass RJ2 = some m.cls := findClass_of_methodNamed B.named
  have hlocks := B.notSynchronized
  have hM : s.heap.size + M = res.2.1 := by rw [hH.1]; exact hM
  have hcs : s.heap.size + 0 = τ.1 := hH.1
  have hss : τ.2.1 + 0 = τ.2.1 := rfl
  generalize hsl0 : τ.2.1 = sl0 at hS0 hss
  have hss : sl0 + 0 = τ.2.1 := by rw [hsl0]; rfl
  have hS : va_S (zA ζ) s.heap s.heap [] := va_S.rf
  generalize hHe : s.heap = H at hH hS ⊢
  have hS : va_S (zA ζ) s.heap H [] := by rw [hHe]; exact hS
  generalize ([] : List Loc) = locs at hS ⊢
  have hl := lv_entry ([.ref h, .int a0, .ref a1]) (n := 5) (Nat.le_of_ble_eq_true rfl)
  rw [lg_entry_eq]
  generalize (lg_sl ([.ref h, .int a0, .ref a1]) ++ List.replicate (5 - (lg_sl ([.ref h, .int a0, .ref a1])).length) Slot.unset).toArray = ls at hl ⊢
  have hl : lv_has ls 5 [(0, .ref h), (1, .int a0), (2, .ref a1)] := hl
  have hf : (dz_b (zob ζ τ h 14) fun f3 => zcl τ (fnJ2_rangeCheckForAdd K ζ h a0 τ) fun _ s2 => dz_b (zob ζ s2 h 14) fun f4 => dz_b (zvi (f4[0]?)) fun x5 => dz_l (x5 + 1) fun x6 => dz_b (zwo ζ s2 h 14 0) fun f7 => dz_l (zst s2 h (.inr (14, f7.set 0 (.int x6)))) fun s8 => dz_b (zob ζ s8 h 14) fun f9 => dz_b (zvi (f9[2]?)) fun x10 => dz_b (zob ζ s8 h 14) fun f11 => dz_b (zvr (f11[1]?)) fun x12 => dz_b (zlenq ζ s8 x12) fun n13 => dz_l (Int32.ofNat n13) fun x14 => if x10 = x14 then (dz_b (zob ζ s8 h 14) fun f17 => zcl s8 (fnJ2_grow K ζ h s8) fun x15 s16 => (lfJ2_add_3 K ζ K) h a0 a1 x10 x15 s16) else ((lfJ2_add_3 K ζ K) h a0 a1 x10 x12 s8) : Option (Unit × pH)) = some res := hf
  refine z_gen (fun cells slots hc0 hs0 => ?_)
  have hcs : s.heap.size + cells = τ.1 := by rw [hc0]; exact hcs
  have hss : sl0 + slots = τ.2.1 := by rw [hs0]; exact hss
  have hcM : cells ≤ M ∧ slots ≤ S := by rw [hc0, hs0]; exact ⟨Nat.zero_le _, Nat.zero_le _⟩
  clear hc0 hs0
  have ih := wlJ2_add_3 (l := l) (e := e) (below := below) (D := D) (cA := cA) hX K res M S sl0 hM hS0 h a0 a1 hx hb hr hlocks hml hown hts K
  refine lv_aload_n hx hb dJ2_add_3_0 rfl (lv_at hl 0 rfl) ?_
  refine lv_iload_n hx hb dJ2_add_3_1 rfl (lv_at hl 1 rfl) ?_
  obtain ⟨f3, hf3, hf⟩ := dz_bo hf
  obtain ⟨x1, s2, hx1, hle, hck, hf⟩ := zcl_o hf
  have hc1 : cells + (s2.1 - τ.1) ≤ M := by omega
  have hs1 : slots + (s2.2.1 - τ.2.1) ≤ S := by omega
  refine va_callv (va_runV (As := [.int a0]) (rest := []) ⟨hx, hb, hml, hown, hts⟩ (mtJ2_rangeCheckForAdd l D cA ζ τ h a0 K (x1, s2) hx1 (s2.1 - τ.1) (s2.2.1 - τ.2.1) (Nat.add_sub_cancel' hle.1) (Nat.add_sub_cancel' hle.2)) (cwV 1 hts (lw_V q1381 q1383 qs30 q87 q1384) rfl rfl rfl (by decide +kernel) ⟨Nat.le_of_ble_eq_true rfl, Nat.le_of_ble_eq_true rfl⟩) (z_preV hX hS hH (zob_o hf3) rfl) rfl rfl hl.1 rfl (lv_room (Nat.le_of_ble_eq_true rfl)) dJ2_add_3_2 ⟨hc1, hs1⟩) hS (fun q _ hq => hq) (fun q hq => hq) (fun u t H1 locs ht hvm hw hB hz hk hS => ?_)
  obtain ⟨-, hw2⟩ := Prod.mk.inj hw.symm; subst hw2
  have hH : zH D cA ζ s2 H1 := z_at ht.symm hB
  have hcs : s.heap.size + (cells + (s2.1 - τ.1)) = s2.1 := by omega
  have hss : sl0 + (slots + (s2.2.1 - τ.2.1)) = s2.2.1 := by omega
  replace hcM := And.intro hc1 hs1
  generalize cells + (s2.1 - τ.1) = cells at hcs hcM ⊢; generalize slots + (s2.2.1 - τ.2.1) = slots at hss hcM ⊢
  clear hB hk hz hvm ht hle hck hc1 hs1; generalize H1 = H at hH hS ⊢
  refine lv_aload_n hx hb dJ2_add_3_5 rfl (lv_at hl 0 rfl) ?_
  refine lv_dup hx hb dJ2_add_3_6 rfl ?_
  obtain ⟨f4, hf4, hf⟩ := dz_bo hf
  obtain ⟨x5, hx5, hf⟩ := dz_bo hf
  refine va_get (C := RJ2) (T := TJ2) (N := 3) hx hb hts in_J2 hown hX.K (zrd_P hX hS hH (zob_o hf4)) 0 rfl rfl 0 (by decide) (hts _ q148) (fun x hq => u_same (hts _ q147) x hq) (zvi_o hx5) dJ2_add_3_7 ?_
  refine lv_iconst (v := 1) hx hb dJ2_add_3_10 (by decide) ?_
  refine lv_iadd hx hb dJ2_add_3_11 ?_
  refine lv_topi (fun x6 e_x6 => ?_)
  have hf := dz_ls e_x6 hf
  obtain ⟨f7, hf7, hf⟩ := dz_bo hf
  obtain ⟨ha_f7, he_f7, hk_f7⟩ := zwo_o hf7
  refine va_put (C := RJ2) (T := TJ2) (N := 3) hx hb hts in_J2 tyJ2 tyJ2_ok nmJ2 hown hX.K hH.2.2 zw_D hS _ (zw_o ha_f7 he_f7) rfl 0 (by decide) (hts _ q148) (fun x hq => u_same (hts _ q147) x hq) rfl rfl rfl rfl hk_f7 dJ2_add_3_12 (fun H1 locs hP1 _ hS => dz_size (fun hz => ?_))
  obtain ⟨s8, e_s8, hf⟩ := dz_lo hf
  have hH := zH_put (x := .inr (14, f7.set 0 (.int x6))) hH hcs ha_f7 hP1 hz
  rw [← e_s8] at hH
  have hcs : s.heap.size + cells = s8.1 := by rw [e_s8]; exact hcs
  have hss : sl0 + slots = s8.2.1 := by rw [e_s8]; exact hss
  clear hP1 hz; generalize H1 = H at hH hS ⊢
  refine lv_aload_n hx hb dJ2_add_3_15 rfl (lv_at hl 0 rfl) ?_
  obtain ⟨f9, hf9, hf⟩ := dz_bo hf
  obtain ⟨x10, hx10, hf⟩ := dz_bo hf
  refine va_get (C := RJ2) (T := TJ2) (N := 3) hx hb hts in_J2 hown hX.K (zrd_P hX hS hH (zob_o hf9)) 0 rfl rfl 2 (by decide) (hts _ q144) (fun _ hq => hq) (zvi_o hx10) dJ2_add_3_16 ?_
  refine lv_dup hx hb dJ2_add_3_19 rfl ?_
  refine lv_istore_n (lv' := [(3, .int x10), (0, .ref h), (1, .int a0), (2, .ref a1)]) hx hb dJ2_add_3_20 rfl hl (by decide) rfl (fun ls hl => ?_)
  refine lv_aload_n hx hb dJ2_add_3_21 rfl (lv_at hl 1 rfl) ?_
  obtain ⟨f11, hf11, hf⟩ := dz_bo hf
  obtain ⟨x12, hx12, hf⟩ := dz_bo hf
  refine va_get (C := RJ2) (T := TJ2) (N := 3) hx hb hts in_J2 hown hX.K (zrd_P hX hS hH (zob_o hf11)) 0 rfl rfl 1 (by decide) (hts _ q141) (fun _ hq => hq) (zvr_o hx12) dJ2_add_3_22 ?_
  refine lv_dup hx hb dJ2_add_3_25 rfl ?_
  refine lv_astore (lv' := [(4, .ref x12), (3, .int x10), (0, .ref h), (1, .int a0), (2, .ref a1)]) hx hb dJ2_add_3_26 hl (by decide) rfl (fun ls hl => ?_)
  obtain ⟨n13, hn13, hf⟩ := dz_bo hf
  refine zq_alen hx hb hX hS hH hn13 dJ2_add_3_28 ?_
  refine lv_topi (fun x14 e_x14 => ?_)
  have hf := dz_ls e_x14 hf
  refine lv_icmp_ne (tgt := 38) hx hb dJ2_add_3_29 (by decide) (fun c29 => ?_) (fun c29 => ?_)
  · have hf := dz_f c29 hf
    exact ih h a0 a1 x10 x12 s8 H locs cells slots hH hS hcs hss hcM ls (lv_sub hl [2, 3, 4, 1, 0] rfl) hf
  · have hf := dz_t c29 hf
    refine lv_aload_n hx hb dJ2_add_3_32 rfl (lv_at hl 2 rfl) ?_
    obtain ⟨f17, hf17, hf⟩ := dz_bo hf
    obtain ⟨x15, s16, hx15, hle, hck, hf⟩ := zcl_o hf
    have hc1 : cells + (s16.1 - s8.1) ≤ M := by omega
    have hs1 : slots + (s16.2.1 - s8.2.1) ≤ S := by omega
    refine va_callr (va_runV (As := []) (rest := []) ⟨hx, hb, hml, hown, hts⟩ (mtJ2_grow l D cA ζ s8 h K (x15, s16) hx15 (s16.1 - s8.1) (s16.2.1 - s8.2.1) (Nat.add_sub_cancel' hle.1) (Nat.add_sub_cancel' hle.2)) (cwV 0 hts (lw_V q802 q804 qs9 q87 q805) rfl rfl rfl (by decide +kernel) ⟨Nat.le_of_ble_eq_true rfl, Nat.le_of_ble_eq_true rfl⟩) (z_preV hX hS hH (zob_o hf17) rfl) rfl rfl hl.1 rfl (lv_room (Nat.le_of_ble_eq_true rfl)) dJ2_add_3_33 ⟨hc1, hs1⟩) hS (fun q _ hq => hq) (fun q hq => hq) (fun u r t H1 locs ht hvm hw hB hz hk hS => ?_)
    obtain ⟨hw, hB⟩ := hB
    obtain ⟨hw1, hw2⟩ := Prod.mk.inj hw.symm; subst hw1; subst hw2
    have hH : zH D cA ζ s16 H1 := z_at ht.symm hB
    have hcs : s.heap.size + (cells + (s16.1 - s8.1)) = s16.1 := by omega
    have hss : sl0 + (slots + (s16.2.1 - s8.2.1)) = s16.2.1 := by omega
    replace hcM := And.intro hc1 hs1
    generalize cells + (s16.1 - s8.1) = cells at hcs hcM ⊢; generalize slots + (s16.2.1 - s8.2.1) = slots at hss hcM ⊢
    clear hB hk hz hvm ht hle hck hc1 hs1; generalize H1 = H at hH hS ⊢
    refine lv_astore (lv' := [(4, .ref x15), (3, .int x10), (0, .ref h), (1, .int a0), (2, .ref a1)]) hx hb dJ2_add_3_36 hl (by decide) rfl (fun ls hl => ?_)
    exact ih h a0 a1 x10 x15 s16 H locs cells slots hH hS hcs hss hcM ls (lv_sub hl [2, 3, 4, 1, 0] rfl) hf

noncomputable def fnX0_move (K : Nat) (ζ : pZ) (h : Nat) (a0 : Int32) (a1 : Int32) (τ : pH) : Option (Int32 × pH) := dz_b (zob ζ τ h 0) fun f3 => zcl τ (fnX0_isLine K ζ h a0 τ) fun x1 s2 => if x1 = (0 : Int32) then (some ((-1), s2)) else (dz_b (zob ζ s2 h 0) fun f6 => zcl s2 (fnX0_isLine K ζ h a1 s2) fun x4 s5 => if x4 = (0 : Int32) then (some ((-1), s5)) else (if a0 = a1 then (some ((-1), s5)) else (dz_b (zob ζ s5 h 0) fun f7 => dz_b (zvr (f7[0]?)) fun x8 => dz_b (zob ζ s5 h 0) fun f9 => dz_b (zvr (f9[0]?)) fun x10 => dz_b (zob ζ s5 x10 14) fun f13 => zcl s5 (fnJ2_remove K ζ x10 a0 s5) fun x11 s12 => dz_c (zoL ζ s12 x11) fun cf14 f14 => dz_b (zob ζ s12 x8 14) fun f17 => zcl s12 (fnJ2_add_3 K ζ x8 a1 x11 s12) fun _ s16 => dz_b (fnJ5_min_2 K a0 a1) fun x18 => dz_b (zob ζ s16 h 0) fun f21 => zcl s16 (fnX0_changes K ζ h x18 s16) fun _ s20 => dz_b (zob ζ s20 h 0) fun f24 => zcl s20 (fnX0_isRight K ζ h a1 s20) fun x22 s23 => if x22 = (0 : Int32) then (some (0, s23)) else (some (1, s23)))))
set_option maxHeartbeats 4000000 in
set_option maxRecDepth 100000 in
theorem mtX0_move (l : Launch) (D : va_G) (cA : Nat → ClassId) (ζ : pZ) (τ : pH) (h : Nat) (a0 : Int32) (a1 : Int32) (K : Nat) (res : (Int32 × pH)) (hf : fnX0_move K ζ h a0 a1 τ = some res) (M S : Nat) (hM : τ.1 + M = res.2.1) (hS0 : τ.2.1 + S = res.2.2.1) : Met l yX0_move (ws_ yX0_move cX0_move 3 (some .int)) ({ frames := 104, cells := M, slots := S, locals := 2395 }) (zPc D cA ζ τ [.ref h, .int a0, .int a1]) (zQi D cA ζ res) M S (zA ζ) := by
  refine Met.ofW (cc := cX0_move) (maxL := 3) (ret := some .int) (by decide +kernel) rfl ?_
  intro p e s m args below meth c s₁ B hml hv
  obtain ⟨rfl, hX, hH⟩ := hv
  have hx := B.exec
  have hb := B.bytes
  have hr := B.returns
  have hts := atoms_spec (ws := ws_ yX0_move cX0_move 3 (some .int)) B.pre
  have hts : ∀ w ∈ lw_all, w.before _ s = true := fun w h => hts w (List.mem_cons_of_mem _ h)
  have hown : s.vm.findClass RX0 = some m.cls := findClass_of_methodNamed B.named
  have hlocks := B.notSynchronized
  have hM : s.heap.size + M = res.2.1 := by rw [hH.1]; exact hM
  have hcs : s.heap.size + 0 = τ.1 := hH.1
  have hss : τ.2.1 + 0 = τ.2.1 := rfl
  generalize hsl0 : τ.2.1 = sl0 at hS0 hss
  have hss : sl0 + 0 = τ.2.1 := by rw [hsl0]; rfl
  have hS : va_S (zA ζ) s.heap s.heap [] := va_S.rf
  generalize hHe : s.heap = H at hH hS ⊢
  have hS : va_S (zA ζ) s.heap H [] := by rw [hHe]; exact hS
  generalize ([] : List Loc) = locs at hS ⊢
  have hl := lv_entry ([.ref h, .int a0, .int a1]) (n := 3) (Nat.le_of_ble_eq_true rfl)
  rw [lg_entry_eq]
  generalize (lg_sl ([.ref h, .int a0, .int a1]) ++ List.replicate (3 - (lg_sl ([.ref h, .int a0, .int a1])).length) Slot.unset).toArray = ls at hl ⊢
  have hl : lv_has ls 3 [(0, .ref h), (1, .int a0), (2, .int a1)] := hl
  have hf : (dz_b (zob ζ τ h 0) fun f3 => zcl τ (fnX0_isLine K ζ h a0 τ) fun x1 s2 => if x1 = (0 : Int32) then (some ((-1), s2)) else (dz_b (zob ζ s2 h 0) fun f6 => zcl s2 (fnX0_isLine K ζ h a1 s2) fun x4 s5 => if x4 = (0 : Int32) then (some ((-1), s5)) else (if a0 = a1 then (some ((-1), s5)) else (dz_b (zob ζ s5 h 0) fun f7 => dz_b (zvr (f7[0]?)) fun x8 => dz_b (zob ζ s5 h 0) fun f9 => dz_b (zvr (f9[0]?)) fun x10 => dz_b (zob ζ s5 x10 14) fun f13 => zcl s5 (fnJ2_remove K ζ x10 a0 s5) fun x11 s12 => dz_c (zoL ζ s12 x11) fun cf14 f14 => dz_b (zob ζ s12 x8 14) fun f17 => zcl s12 (fnJ2_add_3 K ζ x8 a1 x11 s12) fun _ s16 => dz_b (fnJ5_min_2 K a0 a1) fun x18 => dz_b (zob ζ s16 h 0) fun f21 => zcl s16 (fnX0_changes K ζ h x18 s16) fun _ s20 => dz_b (zob ζ s20 h 0) fun f24 => zcl s20 (fnX0_isRight K ζ h a1 s20) fun x22 s23 => if x22 = (0 : Int32) then (some (0, s23)) else (some (1, s23))))) : Option (Int32 × pH)) = some res := hf
  refine z_gen (fun cells slots hc0 hs0 => ?_)
  have hcs : s.heap.size + cells = τ.1 := by rw [hc0]; exact hcs
  have hss : sl0 + slots = τ.2.1 := by rw [hs0]; exact hss
  have hcM : cells ≤ M ∧ slots ≤ S := by rw [hc0, hs0]; exact ⟨Nat.zero_le _, Nat.zero_le _⟩
  clear hc0 hs0
  refine lv_aload_n hx hb dX0_move_0 rfl (lv_at hl 0 rfl) ?_
  refine lv_iload_n hx hb dX0_move_1 rfl (lv_at hl 1 rfl) ?_
  obtain ⟨f3, hf3, hf⟩ := dz_bo hf
  obtain ⟨x1, s2, hx1, hle, hck, hf⟩ := zcl_o hf
  have hc1 : cells + (s2.1 - τ.1) ≤ M := by omega
  have hs1 : slots + (s2.2.1 - τ.2.1) ≤ S := by omega
  refine va_calli (va_runV (As := [.int a0]) (rest := []) ⟨hx, hb, hml, hown, hts⟩ (mtX0_isLine l D cA ζ τ h a0 K (x1, s2) hx1 (s2.1 - τ.1) (s2.2.1 - τ.2.1) (Nat.add_sub_cancel' hle.1) (Nat.add_sub_cancel' hle.2)) (cwV 1 hts (lw_V q1349 q1351 qs28 q84 q1352) rfl rfl rfl (by decide +kernel) ⟨Nat.le_of_ble_eq_true rfl, Nat.le_of_ble_eq_true rfl⟩) (z_preV hX hS hH (zob_o hf3) rfl) rfl rfl hl.1 rfl (lv_room (Nat.le_of_ble_eq_true rfl)) dX0_move_2 ⟨hc1, hs1⟩) hS (fun q _ hq => hq) (fun q hq => hq) (fun r u t H1 locs ht hvm hw hB hz hk hS => ?_)
  obtain ⟨hw1, hw2⟩ := Prod.mk.inj hw.symm; subst hw1; subst hw2
  have hH : zH D cA ζ s2 H1 := z_at ht.symm hB
  have hcs : s.heap.size + (cells + (s2.1 - τ.1)) = s2.1 := by omega
  have hss : sl0 + (slots + (s2.2.1 - τ.2.1)) = s2.2.1 := by omega
  replace hcM := And.intro hc1 hs1
  generalize cells + (s2.1 - τ.1) = cells at hcs hcM ⊢; generalize slots + (s2.2.1 - τ.2.1) = slots at hss hcM ⊢
  clear hB hk hz hvm ht hle hck hc1 hs1; generalize H1 = H at hH hS ⊢
  refine lv_if_eq (tgt := 21) hx hb dX0_move_5 (by decide) (fun c5 => ?_) (fun c5 => ?_)
  · have hf := dz_t c5 hf
    refine lv_iconst (v := (-1)) hx hb dX0_move_21 (by decide) ?_
    obtain ⟨hM1, hS1⟩ : cells = M ∧ slots = S := by have hq := congrArg Prod.snd (Option.some.inj hf); rw [← hq] at hM hS0; have hM : s.heap.size + M = s2.1 := hM; have hS0 : sl0 + S = s2.2.1 := hS0; omega
    refine W.widen (k := M) (n := S) (Nat.le_of_eq hM1) (Nat.le_of_eq hS1) ?_
    exact W.iret (v := (-1)) hx hb hr (fun t ht hW => ⟨⟨(-1), s2, rfl, Option.some.inj hf, z_at ht hH⟩, hS.F ht⟩) hS.2.2 dX0_move_22
  · have hf := dz_f c5 hf
    refine lv_aload_n hx hb dX0_move_8 rfl (lv_at hl 0 rfl) ?_
    refine lv_iload_n hx hb dX0_move_9 rfl (lv_at hl 2 rfl) ?_
    obtain ⟨f6, hf6, hf⟩ := dz_bo hf
    obtain ⟨x4, s5, hx4, hle, hck, hf⟩ := zcl_o hf
    have hc1 : cells + (s5.1 - s2.1) ≤ M := by omega
    have hs1 : slots + (s5.2.1 - s2.2.1) ≤ S := by omega
    refine va_calli (va_runV (As := [.int a1]) (rest := []) ⟨hx, hb, hml, hown, hts⟩ (mtX0_isLine l D cA ζ s2 h a1 K (x4, s5) hx4 (s5.1 - s2.1) (s5.2.1 - s2.2.1) (Nat.add_sub_cancel' hle.1) (Nat.add_sub_cancel' hle.2)) (cwV 1 hts (lw_V q1349 q1351 qs28 q84 q1352) rfl rfl rfl (by decide +kernel) ⟨Nat.le_of_ble_eq_true rfl, Nat.le_of_ble_eq_true rfl⟩) (z_preV hX hS hH (zob_o hf6) rfl) rfl rfl hl.1 rfl (lv_room (Nat.le_of_ble_eq_true rfl)) dX0_move_10 ⟨hc1, hs1⟩) hS (fun q _ hq => hq) (fun q hq => hq) (fun r u t H1 locs ht hvm hw hB hz hk hS => ?_)
    obtain ⟨hw1, hw2⟩ := Prod.mk.inj hw.symm; subst hw1; subst hw2
    have hH : zH D cA ζ s5 H1 := z_at ht.symm hB
    have hcs : s.heap.size + (cells + (s5.1 - s2.1)) = s5.1 := by omega
    have hss : sl0 + (slots + (s5.2.1 - s2.2.1)) = s5.2.1 := by omega
    replace hcM := And.intro hc1 hs1
    generalize cells + (s5.1 - s2.1) = cells at hcs hcM ⊢; generalize slots + (s5.2.1 - s2.2.1) = slots at hss hcM ⊢
    clear hB hk hz hvm ht hle hck hc1 hs1; generalize H1 = H at hH hS ⊢
    refine lv_if_eq (tgt := 21) hx hb dX0_move_13 (by decide) (fun c13 => ?_) (fun c13 => ?_)
    · have hf := dz_t c13 hf
      refine lv_iconst (v := (-1)) hx hb dX0_move_21 (by decide) ?_
      obtain ⟨hM1, hS1⟩ : cells = M ∧ slots = S := by have hq := congrArg Prod.snd (Option.some.inj hf); rw [← hq] at hM hS0; have hM : s.heap.size + M = s5.1 := hM; have hS0 : sl0 + S = s5.2.1 := hS0; omega
      refine W.widen (k := M) (n := S) (Nat.le_of_eq hM1) (Nat.le_of_eq hS1) ?_
      exact W.iret (v := (-1)) hx hb hr (fun t ht hW => ⟨⟨(-1), s5, rfl, Option.some.inj hf, z_at ht hH⟩, hS.F ht⟩) hS.2.2 dX0_move_22
    · have hf := dz_f c13 hf
      refine lv_iload_n hx hb dX0_move_16 rfl (lv_at hl 1 rfl) ?_
      refine lv_iload_n hx hb dX0_move_17 rfl (lv_at hl 2 rfl) ?_
      refine lv_icmp_ne (tgt := 23) hx hb dX0_move_18 (by decide) (fun c18 => ?_) (fun c18 => ?_)
      · have hf := dz_f c18 hf
        refine lv_aload_n hx hb dX0_move_23 rfl (lv_at hl 0 rfl) ?_
        obtain ⟨f7, hf7, hf⟩ := dz_bo hf
        obtain ⟨x8, hx8, hf⟩ := dz_bo hf
        refine va_get (C := RX0) (T := TX0) (N := 7) hx hb hts in_X0 hown hX.K (zrd_P hX hS hH (zob_o hf7)) 0 rfl rfl 0 (by decide) (hts _ q156) (fun _ hq => hq) (zvr_o hx8) dX0_move_24 ?_
        refine lv_iload_n hx hb dX0_move_27 rfl (lv_at hl 2 rfl) ?_
        refine lv_aload_n hx hb dX0_move_28 rfl (lv_at hl 0 rfl) ?_
        obtain ⟨f9, hf9, hf⟩ := dz_bo hf
        obtain ⟨x10, hx10, hf⟩ := dz_bo hf
        refine va_get (C := RX0) (T := TX0) (N := 7) hx hb hts in_X0 hown hX.K (zrd_P hX hS hH (zob_o hf9)) 0 rfl rfl 0 (by decide) (hts _ q156) (fun _ hq => hq) (zvr_o hx10) dX0_move_29 ?_
        refine lv_iload_n hx hb dX0_move_32 rfl (lv_at hl 1 rfl) ?_
        obtain ⟨f13, hf13, hf⟩ := dz_bo hf
        obtain ⟨x11, s12, hx11, hle, hck, hf⟩ := zcl_o hf
        have hc1 : cells + (s12.1 - s5.1) ≤ M := by omega
        have hs1 : slots + (s12.2.1 - s5.2.1) ≤ S := by omega
        refine va_callr (va_runV (As := [.int a0]) (rest := [.int a1, .ref x8]) ⟨hx, hb, hml, hown, hts⟩ (mtJ2_remove l D cA ζ s5 x10 a0 K (x11, s12) hx11 (s12.1 - s5.1) (s12.2.1 - s5.2.1) (Nat.add_sub_cancel' hle.1) (Nat.add_sub_cancel' hle.2)) (cwV 1 hts (lw_V q863 q864 q865 q87 q866) rfl rfl rfl (by decide +kernel) ⟨Nat.le_of_ble_eq_true rfl, Nat.le_of_ble_eq_true rfl⟩) (z_preV hX hS hH (zob_o hf13) rfl) rfl rfl hl.1 rfl (lv_room (Nat.le_of_ble_eq_true rfl)) dX0_move_33 ⟨hc1, hs1⟩) hS (fun q _ hq => hq) (fun q hq => hq) (fun u r t H1 locs ht hvm hw hB hz hk hS => ?_)
        obtain ⟨hw, hB⟩ := hB
        obtain ⟨hw1, hw2⟩ := Prod.mk.inj hw.symm; subst hw1; subst hw2
        have hH : zH D cA ζ s12 H1 := z_at ht.symm hB
        have hcs : s.heap.size + (cells + (s12.1 - s5.1)) = s12.1 := by omega
        have hss : sl0 + (slots + (s12.2.1 - s5.2.1)) = s12.2.1 := by omega
        replace hcM := And.intro hc1 hs1
        generalize cells + (s12.1 - s5.1) = cells at hcs hcM ⊢; generalize slots + (s12.2.1 - s5.2.1) = slots at hss hcM ⊢
        clear hB hk hz hvm ht hle hck hc1 hs1; generalize H1 = H at hH hS ⊢
        obtain ⟨cf14, f14, hcf14, hf⟩ := dz_co hf
        obtain ⟨hr_f14, hc_f14⟩ := zoL_o hcf14
        refine zL_cast hx hb hown (hts _ q218) hX hS hH hr_f14 hc_f14 dX0_move_36 ?_
        obtain ⟨f17, hf17, hf⟩ := dz_bo hf
        obtain ⟨x15, s16, hx15, hle, hck, hf⟩ := zcl_o hf
        have hc1 : cells + (s16.1 - s12.1) ≤ M := by omega
        have hs1 : slots + (s16.2.1 - s12.2.1) ≤ S := by omega
        refine va_callv (va_runV (As := [.int a1, .ref x11]) (rest := []) ⟨hx, hb, hml, hown, hts⟩ (mtJ2_add_3 l D cA ζ s12 x8 a1 x11 K (x15, s16) hx15 (s16.1 - s12.1) (s16.2.1 - s12.2.1) (Nat.add_sub_cancel' hle.1) (Nat.add_sub_cancel' hle.2)) (cwV 2 hts (lw_V q1377 q1378 q1379 q87 q1380) rfl rfl rfl (by decide +kernel) ⟨Nat.le_of_ble_eq_true rfl, Nat.le_of_ble_eq_true rfl⟩) (z_preV hX hS hH (zob_o hf17) rfl) rfl rfl hl.1 rfl (lv_room (Nat.le_of_ble_eq_true rfl)) dX0_move_39 ⟨hc1, hs1⟩) hS (fun q _ hq => hq) (fun q hq => hq) (fun u t H1 locs ht hvm hw hB hz hk hS => ?_)
        obtain ⟨-, hw2⟩ := Prod.mk.inj hw.symm; subst hw2
        have hH : zH D cA ζ s16 H1 := z_at ht.symm hB
        have hcs : s.heap.size + (cells + (s16.1 - s12.1)) = s16.1 := by omega
        have hss : sl0 + (slots + (s16.2.1 - s12.2.1)) = s16.2.1 := by omega
        replace hcM := And.intro hc1 hs1
        generalize cells + (s16.1 - s12.1) = cells at hcs hcM ⊢; generalize slots + (s16.2.1 - s12.2.1) = slots at hss hcM ⊢
        clear hB hk hz hvm ht hle hck hc1 hs1; generalize H1 = H at hH hS ⊢
        refine lv_aload_n hx hb dX0_move_42 rfl (lv_at hl 0 rfl) ?_
        refine lv_iload_n hx hb dX0_move_43 rfl (lv_at hl 1 rfl) ?_
        refine lv_iload_n hx hb dX0_move_44 rfl (lv_at hl 2 rfl) ?_
        obtain ⟨x18, hx18, hf⟩ := dz_bo hf
        refine va_calli (va_runS (As := [.int a0, .int a1]) (rest := [.ref h]) ⟨hx, hb, hml, hown, hts⟩ (mtJ5_min_2 l a0 a1 K x18 hx18) (va_cwS 2 hts (lw_S q876 q852 q92 q853) rfl rfl rfl (by decide +kernel) ⟨Nat.le_of_ble_eq_true rfl, Nat.le_of_ble_eq_true rfl⟩) ⟨fun a U g mk q => q, fun U hU hW => ⟨rfl, trivial⟩⟩ rfl rfl hl.1 rfl (lv_room (Nat.le_of_ble_eq_true rfl)) dX0_move_45 ⟨hcM.1, hcM.2⟩) hS (fun q _ hq => hq.elim) (fun q hq => hq.elim) (fun r u t H1 locs ht hvm hw hB hz hk hS => dz_size (fun hz9 => ?_))
        replace hw := hw.symm; subst hw
        replace hH := zH_keep hH hcs hz hk hz9
        clear hB hk hz hvm ht hz9; generalize H1 = H at hH hS ⊢
        refine W.widen (k := cells) (n := slots) (Nat.le_refl _) (Nat.le_refl _) ?_
        obtain ⟨f21, hf21, hf⟩ := dz_bo hf
        obtain ⟨x19, s20, hx19, hle, hck, hf⟩ := zcl_o hf
        have hc1 : cells + (s20.1 - s16.1) ≤ M := by omega
        have hs1 : slots + (s20.2.1 - s16.2.1) ≤ S := by omega
        refine va_callv (va_runV (As := [.int x18]) (rest := []) ⟨hx, hb, hml, hown, hts⟩ (mtX0_changes l D cA ζ s16 h x18 K (x19, s20) hx19 (s20.1 - s16.1) (s20.2.1 - s16.2.1) (Nat.add_sub_cancel' hle.1) (Nat.add_sub_cancel' hle.2)) (cwV 1 hts (lw_V q872 q874 qs13 q84 q875) rfl rfl rfl (by decide +kernel) ⟨Nat.le_of_ble_eq_true rfl, Nat.le_of_ble_eq_true rfl⟩) (z_preV hX hS hH (zob_o hf21) rfl) rfl rfl hl.1 rfl (lv_room (Nat.le_of_ble_eq_true rfl)) dX0_move_48 ⟨hc1, hs1⟩) hS (fun q _ hq => hq) (fun q hq => hq) (fun u t H1 locs ht hvm hw hB hz hk hS => ?_)
        obtain ⟨-, hw2⟩ := Prod.mk.inj hw.symm; subst hw2
        have hH : zH D cA ζ s20 H1 := z_at ht.symm hB
        have hcs : s.heap.size + (cells + (s20.1 - s16.1)) = s20.1 := by omega
        have hss : sl0 + (slots + (s20.2.1 - s16.2.1)) = s20.2.1 := by omega
        replace hcM := And.intro hc1 hs1
        generalize cells + (s20.1 - s16.1) = cells at hcs hcM ⊢; generalize slots + (s20.2.1 - s16.2.1) = slots at hss hcM ⊢
        clear hB hk hz hvm ht hle hck hc1 hs1; generalize H1 = H at hH hS ⊢
        refine lv_aload_n hx hb dX0_move_51 rfl (lv_at hl 0 rfl) ?_
        refine lv_iload_n hx hb dX0_move_52 rfl (lv_at hl 2 rfl) ?_
        obtain ⟨f24, hf24, hf⟩ := dz_bo hf
        obtain ⟨x22, s23, hx22, hle, hck, hf⟩ := zcl_o hf
        have hc1 : cells + (s23.1 - s20.1) ≤ M := by omega
        have hs1 : slots + (s23.2.1 - s20.2.1) ≤ S := by omega
        refine va_calli (va_runV (As := [.int a1]) (rest := []) ⟨hx, hb, hml, hown, hts⟩ (mtX0_isRight l D cA ζ s20 h a1 K (x22, s23) hx22 (s23.1 - s20.1) (s23.2.1 - s20.2.1) (Nat.add_sub_cancel' hle.1) (Nat.add_sub_cancel' hle.2)) (cwV 1 hts (lw_V q219 q221 qs1 q84 q222) rfl rfl rfl (by decide +kernel) ⟨Nat.le_of_ble_eq_true rfl, Nat.le_of_ble_eq_true rfl⟩) (z_preV hX hS hH (zob_o hf24) rfl) rfl rfl hl.1 rfl (lv_room (Nat.le_of_ble_eq_true rfl)) dX0_move_53 ⟨hc1, hs1⟩) hS (fun q _ hq => hq) (fun q hq => hq) (fun r u t H1 locs ht hvm hw hB hz hk hS => ?_)
        obtain ⟨hw1, hw2⟩ := Prod.mk.inj hw.symm; subst hw1; subst hw2
        have hH : zH D cA ζ s23 H1 := z_at ht.symm hB
        have hcs : s.heap.size + (cells + (s23.1 - s20.1)) = s23.1 := by omega
        have hss : sl0 + (slots + (s23.2.1 - s20.2.1)) = s23.2.1 := by omega
        replace hcM := And.intro hc1 hs1
        generalize cells + (s23.1 - s20.1) = cells at hcs hcM ⊢; generalize slots + (s23.2.1 - s20.2.1) = slots at hss hcM ⊢
        clear hB hk hz hvm ht hle hck hc1 hs1; generalize H1 = H at hH hS ⊢
        refine lv_if_eq (tgt := 63) hx hb dX0_move_56 (by decide) (fun c56 => ?_) (fun c56 => ?_)
        · have hf := dz_t c56 hf
          refine lv_iconst (v := 0) hx hb dX0_move_63 (by decide) ?_
          obtain ⟨hM1, hS1⟩ : cells = M ∧ slots = S := by have hq := congrArg Prod.snd (Option.some.inj hf); rw [← hq] at hM hS0; have hM : s.heap.size + M = s23.1 := hM; have hS0 : sl0 + S = s23.2.1 := hS0; omega
          refine W.widen (k := M) (n := S) (Nat.le_of_eq hM1) (Nat.le_of_eq hS1) ?_
          exact W.iret (v := 0) hx hb hr (fun t ht hW => ⟨⟨0, s23, rfl, Option.some.inj hf, z_at ht hH⟩, hS.F ht⟩) hS.2.2 dX0_move_64
        · have hf := dz_f c56 hf
          refine lv_iconst (v := 1) hx hb dX0_move_59 (by decide) ?_
          refine lv_goto (tgt := 64) hx hb dX0_move_60 (by decide) ?_
          obtain ⟨hM1, hS1⟩ : cells = M ∧ slots = S := by have hq := congrArg Prod.snd (Option.some.inj hf); rw [← hq] at hM hS0; have hM : s.heap.size + M = s23.1 := hM; have hS0 : sl0 + S = s23.2.1 := hS0; omega
          refine W.widen (k := M) (n := S) (Nat.le_of_eq hM1) (Nat.le_of_eq hS1) ?_
          exact W.iret (v := 1) hx hb hr (fun t ht hW => ⟨⟨1, s23, rfl, Option.some.inj hf, z_at ht hH⟩, hS.F ht⟩) hS.2.2 dX0_move_64
      · have hf := dz_t c18 hf
        refine lv_iconst (v := (-1)) hx hb dX0_move_21 (by decide) ?_
        obtain ⟨hM1, hS1⟩ : cells = M ∧ slots = S := by have hq := congrArg Prod.snd (Option.some.inj hf); rw [← hq] at hM hS0; have hM : s.heap.size + M = s5.1 := hM; have hS0 : sl0 + S = s5.2.1 := hS0; omega
        refine W.widen (k := M) (n := S) (Nat.le_of_eq hM1) (Nat.le_of_eq hS1) ?_
        exact W.iret (v := (-1)) hx hb hr (fun t ht hW => ⟨⟨(-1), s5, rfl, Option.some.inj hf, z_at ht hH⟩, hS.F ht⟩) hS.2.2 dX0_move_22

noncomputable def fnJ2_set (K : Nat) (ζ : pZ) (h : Nat) (a0 : Int32) (a1 : Nat) (τ : pH) : Option (Nat × pH) := dz_b (zob ζ τ h 14) fun f1 => dz_b (zvi (f1[2]?)) fun x2 => zcl τ (fnJ3_checkIndex K ζ a0 x2 τ) fun x3 s4 => dz_b (zob ζ s4 h 14) fun f7 => zcl s4 (fnJ2_elementData K ζ h a0 s4) fun x5 s6 => dz_b (zob ζ s6 h 14) fun f8 => dz_b (zvr (f8[1]?)) fun x9 => if ζ.1 ≤ x9 ∧ x9 < s6.1 then (dz_c (zaq ζ s6 x9 4) fun n10 f11 => if ¬ (a0 < 0 ∨ n10 ≤ Int32.toNatClampNeg a0) then (if ζ.1 ≤ a1 ∧ a1 < s6.1 then (dz_c (zoL ζ s6 a1) fun cf16 f16 => dz_l (zst s6 x9 (.inl (4, n10, .inr (.inr (.inr (.inr (va_up f11 (Int32.toNatClampNeg a0) (some a1)))))))) fun s12 => some (x5, s12)) else none) else none) else none
set_option maxHeartbeats 4000000 in
set_option maxRecDepth 100000 in
theorem mtJ2_set (l : Launch) (D : va_G) (cA : Nat → ClassId) (ζ : pZ) (τ : pH) (h : Nat) (a0 : Int32) (a1 : Nat) (K : Nat) (res : (Nat × pH)) (hf : fnJ2_set K ζ h a0 a1 τ = some res) (M S : Nat) (hM : τ.1 + M = res.2.1) (hS0 : τ.2.1 + S = res.2.2.1) : Met l yJ2_set (ws_ yJ2_set cJ2_set 4 (some (.object "java/lang/Object"))) ({ frames := 2, cells := M, slots := S, locals := 43 }) (zPc D cA ζ τ [.ref h, .int a0, .ref a1]) (zQr D cA ζ res) M S (zA ζ) := by
  refine Met.ofW (cc := cJ2_set) (maxL := 4) (ret := some (.object "java/lang/Object")) (by decide +kernel) rfl ?_
  intro p e s m args below meth c s₁ B hml hv
  obtain ⟨rfl, hX, hH⟩ := hv
  have hx := B.exec
  have hb := B.bytes
  have hr := B.returns
  have hts := atoms_spec (ws := ws_ yJ2_set cJ2_set 4 (some (.object "java/lang/Object"))) B.pre
  have hts : ∀ w ∈ lw_all, w.before _ s = true := fun w h => hts w (List.mem_cons_of_mem _ h)
  have hown : s.vm.findClass RJ2 = some m.cls := findClass_of_methodNamed B.named
  have hlocks := B.notSynchronized
  have hM : s.heap.size + M = res.2.1 := by rw [hH.1]; exact hM
  have hcs : s.heap.size + 0 = τ.1 := hH.1
  have hss : τ.2.1 + 0 = τ.2.1 := rfl
  generalize hsl0 : τ.2.1 = sl0 at hS0 hss
  have hss : sl0 + 0 = τ.2.1 := by rw [hsl0]; rfl
  have hS : va_S (zA ζ) s.heap s.heap [] := va_S.rf
  generalize hHe : s.heap = H at hH hS ⊢
  have hS : va_S (zA ζ) s.heap H [] := by rw [hHe]; exact hS
  generalize ([] : List Loc) = locs at hS ⊢
  have hl := lv_entry ([.ref h, .int a0, .ref a1]) (n := 4) (Nat.le_of_ble_eq_true rfl)
  rw [lg_entry_eq]
  generalize (lg_sl ([.ref h, .int a0, .ref a1]) ++ List.replicate (4 - (lg_sl ([.ref h, .int a0, .ref a1])).length) Slot.unset).toArray = ls at hl ⊢
  have hl : lv_has ls 4 [(0, .ref h), (1, .int a0), (2, .ref a1)] := hl
  have hf : (dz_b (zob ζ τ h 14) fun f1 => dz_b (zvi (f1[2]?)) fun x2 => zcl τ (fnJ3_checkIndex K ζ a0 x2 τ) fun x3 s4 => dz_b (zob ζ s4 h 14) fun f7 => zcl s4 (fnJ2_elementData K ζ h a0 s4) fun x5 s6 => dz_b (zob ζ s6 h 14) fun f8 => dz_b (zvr (f8[1]?)) fun x9 => if ζ.1 ≤ x9 ∧ x9 < s6.1 then (dz_c (zaq ζ s6 x9 4) fun n10 f11 => if ¬ (a0 < 0 ∨ n10 ≤ Int32.toNatClampNeg a0) then (if ζ.1 ≤ a1 ∧ a1 < s6.1 then (dz_c (zoL ζ s6 a1) fun cf16 f16 => dz_l (zst s6 x9 (.inl (4, n10, .inr (.inr (.inr (.inr (va_up f11 (Int32.toNatClampNeg a0) (some a1)))))))) fun s12 => some (x5, s12)) else none) else none) else none : Option (Nat × pH)) = some res := hf
  refine z_gen (fun cells slots hc0 hs0 => ?_)
  have hcs : s.heap.size + cells = τ.1 := by rw [hc0]; exact hcs
  have hss : sl0 + slots = τ.2.1 := by rw [hs0]; exact hss
  have hcM : cells ≤ M ∧ slots ≤ S := by rw [hc0, hs0]; exact ⟨Nat.zero_le _, Nat.zero_le _⟩
  clear hc0 hs0
  refine lv_iload_n hx hb dJ2_set_0 rfl (lv_at hl 1 rfl) ?_
  refine lv_aload_n hx hb dJ2_set_1 rfl (lv_at hl 0 rfl) ?_
  obtain ⟨f1, hf1, hf⟩ := dz_bo hf
  obtain ⟨x2, hx2, hf⟩ := dz_bo hf
  refine va_get (C := RJ2) (T := TJ2) (N := 3) hx hb hts in_J2 hown hX.K (zrd_P hX hS hH (zob_o hf1)) 0 rfl rfl 2 (by decide) (hts _ q144) (fun _ hq => hq) (zvi_o hx2) dJ2_set_2 ?_
  obtain ⟨x3, s4, hx3, hle, hck, hf⟩ := zcl_o hf
  have hc1 : cells + (s4.1 - τ.1) ≤ M := by omega
  have hs1 : slots + (s4.2.1 - τ.2.1) ≤ S := by omega
  refine va_calli (va_runS (As := [.int a0, .int x2]) (rest := []) ⟨hx, hb, hml, hown, hts⟩ (mtJ3_checkIndex l D cA ζ τ a0 x2 K (x3, s4) hx3 (s4.1 - τ.1) (s4.2.1 - τ.2.1) (Nat.add_sub_cancel' hle.1) (Nat.add_sub_cancel' hle.2)) (va_cwS 2 hts (lw_S q208 q209 q89 q210) rfl rfl rfl (by decide +kernel) ⟨Nat.le_of_ble_eq_true rfl, Nat.le_of_ble_eq_true rfl⟩) (z_preS hX hS hH) rfl rfl hl.1 rfl (lv_room (Nat.le_of_ble_eq_true rfl)) dJ2_set_5 ⟨hc1, hs1⟩) hS (fun q _ hq => hq) (fun q hq => hq) (fun r u t H1 locs ht hvm hw hB hz hk hS => ?_)
  obtain ⟨hw1, hw2⟩ := Prod.mk.inj hw.symm; subst hw1; subst hw2
  have hH : zH D cA ζ s4 H1 := z_at ht.symm hB
  have hcs : s.heap.size + (cells + (s4.1 - τ.1)) = s4.1 := by omega
  have hss : sl0 + (slots + (s4.2.1 - τ.2.1)) = s4.2.1 := by omega
  replace hcM := And.intro hc1 hs1
  generalize cells + (s4.1 - τ.1) = cells at hcs hcM ⊢; generalize slots + (s4.2.1 - τ.2.1) = slots at hss hcM ⊢
  clear hB hk hz hvm ht hle hck hc1 hs1; generalize H1 = H at hH hS ⊢
  refine lv_pop hx hb dJ2_set_8 rfl ?_
  refine lv_aload_n hx hb dJ2_set_9 rfl (lv_at hl 0 rfl) ?_
  refine lv_iload_n hx hb dJ2_set_10 rfl (lv_at hl 1 rfl) ?_
  obtain ⟨f7, hf7, hf⟩ := dz_bo hf
  obtain ⟨x5, s6, hx5, hle, hck, hf⟩ := zcl_o hf
  have hc1 : cells + (s6.1 - s4.1) ≤ M := by omega
  have hs1 : slots + (s6.2.1 - s4.2.1) ≤ S := by omega
  refine va_callr (va_runV (As := [.int a0]) (rest := []) ⟨hx, hb, hml, hown, hts⟩ (mtJ2_elementData l D cA ζ s4 h a0 K (x5, s6) hx5 (s6.1 - s4.1) (s6.2.1 - s4.2.1) (Nat.add_sub_cancel' hle.1) (Nat.add_sub_cancel' hle.2)) (cwV 1 hts (lw_V q214 q215 q216 q87 q217) rfl rfl rfl (by decide +kernel) ⟨Nat.le_of_ble_eq_true rfl, Nat.le_of_ble_eq_true rfl⟩) (z_preV hX hS hH (zob_o hf7) rfl) rfl rfl hl.1 rfl (lv_room (Nat.le_of_ble_eq_true rfl)) dJ2_set_11 ⟨hc1, hs1⟩) hS (fun q _ hq => hq) (fun q hq => hq) (fun u r t H1 locs ht hvm hw hB hz hk hS => ?_)
  obtain ⟨hw, hB⟩ := hB
  obtain ⟨hw1, hw2⟩ := Prod.mk.inj hw.symm; subst hw1; subst hw2
  have hH : zH D cA ζ s6 H1 := z_at ht.symm hB
  have hcs : s.heap.size + (cells + (s6.1 - s4.1)) = s6.1 := by omega
  have hss : sl0 + (slots + (s6.2.1 - s4.2.1)) = s6.2.1 := by omega
  replace hcM := And.intro hc1 hs1
  generalize cells + (s6.1 - s4.1) = cells at hcs hcM ⊢; generalize slots + (s6.2.1 - s4.2.1) = slots at hss hcM ⊢
  clear hB hk hz hvm ht hle hck hc1 hs1; generalize H1 = H at hH hS ⊢
  refine lv_astore_n (lv' := [(3, .ref x5), (0, .ref h), (1, .int a0), (2, .ref a1)]) hx hb dJ2_set_14 rfl hl (by decide) rfl (fun ls hl => ?_)
  refine lv_aload_n hx hb dJ2_set_15 rfl (lv_at hl 1 rfl) ?_
  obtain ⟨f8, hf8, hf⟩ := dz_bo hf
  obtain ⟨x9, hx9, hf⟩ := dz_bo hf
  refine va_get (C := RJ2) (T := TJ2) (N := 3) hx hb hts in_J2 hown hX.K (zrd_P hX hS hH (zob_o hf8)) 0 rfl rfl 1 (by decide) (hts _ q141) (fun _ hq => hq) (zvr_o hx9) dJ2_set_16 ?_
  refine lv_iload_n hx hb dJ2_set_19 rfl (lv_at hl 2 rfl) ?_
  refine lv_aload_n hx hb dJ2_set_20 rfl (lv_at hl 3 rfl) ?_
  obtain ⟨g13, hf⟩ := dz_go hf
  obtain ⟨n10, f11, hn10, hf⟩ := dz_co hf
  obtain ⟨g14, hf⟩ := dz_go hf
  obtain ⟨g15, hf⟩ := dz_go hf
  obtain ⟨cf16, f16, hcf16, hf⟩ := dz_co hf
  obtain ⟨hr_f16, hc_f16⟩ := zoL_o hcf16
  refine zL_ast hx hb hX hH hS (zw_a g13 (zrd_w (zaq_o hn10) g13)) g15 (zrd_w hr_f16 g15) hc_f16 g14 dJ2_set_21 (fun H1 locs hP1 hS => dz_size (fun hz => ?_))
  obtain ⟨s12, e_s12, hf⟩ := dz_lo hf
  have hH := zH_put (x := (.inl (4, n10, .inr (.inr (.inr (.inr (va_up f11 (Int32.toNatClampNeg a0) (some a1)))))))) hH hcs g13 hP1 hz
  rw [← e_s12] at hH
  have hcs : s.heap.size + cells = s12.1 := by rw [e_s12]; exact hcs
  have hss : sl0 + slots = s12.2.1 := by rw [e_s12]; exact hss
  clear hP1 hz; generalize H1 = H at hH hS ⊢
  refine lv_aload_n hx hb dJ2_set_22 rfl (lv_at hl 0 rfl) ?_
  obtain ⟨hM1, hS1⟩ : cells = M ∧ slots = S := by have hq := congrArg Prod.snd (Option.some.inj hf); rw [← hq] at hM hS0; have hM : s.heap.size + M = s12.1 := hM; have hS0 : sl0 + S = s12.2.1 := hS0; omega
  refine W.widen (k := M) (n := S) (Nat.le_of_eq hM1) (Nat.le_of_eq hS1) ?_
  exact W.aret (v := .ref x5) hx hb hr (Or.inl ⟨_, rfl⟩) (Or.inr ⟨_, rfl⟩) (fun t ht hW => ⟨⟨s12, x5, rfl, trivial, Option.some.inj hf, z_at ht hH⟩, hS.F ht⟩) hS.2.2 dJ2_set_23

noncomputable def lfX6_findsBase_5 (K : Nat) (ζ : pZ) : Nat → (Nat → Nat → pH → Option (Int32 × pH)) × (Nat → Nat → pH → Option (Int32 × pH)) := Nat.rec (motive := fun _ => (Nat → Nat → pH → Option (Int32 × pH)) × (Nat → Nat → pH → Option (Int32 × pH))) ((fun _ _ _ => none), (fun _ _ _ => none)) (fun _ G => ((fun v0 v1 τ => dz_b (zob ζ τ v1 11) fun f1 => dz_b (zvi (f1[2]?)) fun x2 => if (999 : Int32) < x2 then (some (0, τ)) else (dz_b (zob ζ τ v0 5) fun f5 => zcl τ (fnX6_isOne_5 K ζ v0 v1 τ) fun x3 s4 => if x3 = (0 : Int32) then (G.2 v0 v1 s4) else (dz_b (zob ζ s4 v0 5) fun f8 => zcl s4 (fnX6_isFar_5 K ζ v0 v1 s4) fun x6 s7 => if x6 = (0 : Int32) then (G.2 v0 v1 s7) else (some (1, s7))))), (fun v0 v1 τ => dz_b (zob ζ τ v1 11) fun f1 => dz_b (zvi (f1[2]?)) fun x2 => dz_l (x2 + 1) fun x3 => dz_b (zwo ζ τ v1 11 2) fun f4 => dz_l (zst τ v1 (.inr (11, f4.set 2 (.int x3)))) fun s5 => G.1 v0 v1 s5)))
noncomputable def fnX6_findsBase_5 (K : Nat) (ζ : pZ) (h : Nat) (a0 : Nat) (τ : pH) : Option (Int32 × pH) := dz_b (zwo ζ τ a0 11 2) fun f1 => dz_l (zst τ a0 (.inr (11, f1.set 2 (.int 2)))) fun s2 => (lfX6_findsBase_5 K ζ K).1 h a0 s2
set_option maxHeartbeats 4000000 in
set_option maxRecDepth 100000 in
theorem wlX6_findsBase_5 {p : Program} {l : Launch} {e : Env} {s : State} {m : MethodId} {below : List Frame} {meth : Method} {c : Code} {D : va_G} {cA : Nat → ClassId} {ζ : pZ} (hX : zX D cA ζ s) (K : Nat) (res : (Int32 × pH)) (M S sl0 : Nat) (hM : s.heap.size + M = res.2.1) (hS0 : sl0 + S = res.2.2.1) (h : Nat) (a0 : Nat) (hx : p.tables.exec = Jvm.exec) (hb : c.code = cX6_findsBase) (hr : meth.sig.returnType = some .boolean) (hlocks : meth.locks = false) (hml : c.maxLocals = 2) (hown : s.vm.findClass RX6 = some m.cls) (hts : ∀ w ∈ lw_all, w.before ([.ref h, .ref a0] : List Value).toArray s = true) : ∀ k : Nat, (∀ (v0 : Nat) (v1 : Nat) (τ : pH) (H : Heap) (locs : List Loc) (cells slots : Nat), zH D cA ζ τ H → va_S (zA ζ) s.heap H locs → s.heap.size + cells = τ.1 → sl0 + slots = τ.2.1 → cells ≤ M ∧ slots ≤ S → ∀ (ls : Array Slot), lv_has ls 2 [(0, .ref v0), (1, .ref v1)] → (lfX6_findsBase_5 K ζ k).1 v0 v1 τ = some res → W p l e (headSpec (ws_ yX6_findsBase cX6_findsBase 2 (some .boolean)) ({ frames := 102, cells := M, slots := S, locals := 2344 })).room s m ([.ref h, .ref a0] : List Value).toArray below meth c H locs cells slots (MQ below (zQi D cA ζ res) ([.ref h, .ref a0] : List Value).toArray s M S (zA ζ)) (F0 m 5 ls [])) ∧ (∀ (v0 : Nat) (v1 : Nat) (τ : pH) (H : Heap) (locs : List Loc) (cells slots : Nat), zH D cA ζ τ H → va_S (zA ζ) s.heap H locs → s.heap.size + cells = τ.1 → sl0 + slots = τ.2.1 → cells ≤ M ∧ slots ≤ S → ∀ (ls : Array Slot), lv_has ls 2 [(0, .ref v0), (1, .ref v1)] → (lfX6_findsBase_5 K ζ k).2 v0 v1 τ = some res → W p l e (headSpec (ws_ yX6_findsBase cX6_findsBase 2 (some .boolean)) ({ frames := 102, cells := M, slots := S, locals := 2344 })).room s m ([.ref h, .ref a0] : List Value).toArray below meth c H locs cells slots (MQ below (zQi D cA ζ res) ([.ref h, .ref a0] : List Value).toArray s M S (zA ζ)) (F0 m 33 ls [])) := by
  intro k
  induction k with
  | zero =>
    exact ⟨fun _ _ _ _ _ _ _ _ _ _ _ _ _ _ hf => (by cases hf), fun _ _ _ _ _ _ _ _ _ _ _ _ _ _ hf => (by cases hf)⟩
  | succ k ih =>
    refine ⟨?_, ?_⟩
    · intro v0 v1 τ H locs cells slots hH hS hcs hss hcM ls hl hf
      have hf : (dz_b (zob ζ τ v1 11) fun f1 => dz_b (zvi (f1[2]?)) fun x2 => if (999 : Int32) < x2 then (some (0, τ)) else (dz_b (zob ζ τ v0 5) fun f5 => zcl τ (fnX6_isOne_5 K ζ v0 v1 τ) fun x3 s4 => if x3 = (0 : Int32) then ((lfX6_findsBase_5 K ζ k).2 v0 v1 s4) else (dz_b (zob ζ s4 v0 5) fun f8 => zcl s4 (fnX6_isFar_5 K ζ v0 v1 s4) fun x6 s7 => if x6 = (0 : Int32) then ((lfX6_findsBase_5 K ζ k).2 v0 v1 s7) else (some (1, s7)))) : Option (Int32 × pH)) = some res := hf
      refine lv_aload_n hx hb dX6_findsBase_5 rfl (lv_at hl 1 rfl) ?_
      obtain ⟨f1, hf1, hf⟩ := dz_bo hf
      obtain ⟨x2, hx2, hf⟩ := dz_bo hf
      refine va_get (C := RX13) (T := TX13) (N := 3) hx hb hts in_X13 hown hX.K (zrd_P hX hS hH (zob_o hf1)) 0 rfl rfl 2 (by decide) (hts _ q692) (fun _ hq => hq) (zvi_o hx2) dX6_findsBase_6 ?_
      refine lv_sipush (v := 999) hx hb dX6_findsBase_9 (by decide) ?_
      refine lv_icmp_gt (tgt := 46) hx hb dX6_findsBase_12 (by decide) (fun c12 => ?_) (fun c12 => ?_)
      · have hf := dz_t c12 hf
        refine lv_iconst (v := 0) hx hb dX6_findsBase_46 (by decide) ?_
        obtain ⟨hM1, hS1⟩ : cells = M ∧ slots = S := by have hq := congrArg Prod.snd (Option.some.inj hf); rw [← hq] at hM hS0; have hM : s.heap.size + M = τ.1 := hM; have hS0 : sl0 + S = τ.2.1 := hS0; omega
        refine W.widen (k := M) (n := S) (Nat.le_of_eq hM1) (Nat.le_of_eq hS1) ?_
        exact W.zret (v := 0) hx hb hr rfl (fun t ht hW => ⟨⟨0, τ, rfl, Option.some.inj hf, z_at ht hH⟩, hS.F ht⟩) hS.2.2 dX6_findsBase_47
      · have hf := dz_f c12 hf
        refine lv_aload_n hx hb dX6_findsBase_15 rfl (lv_at hl 0 rfl) ?_
        refine lv_aload_n hx hb dX6_findsBase_16 rfl (lv_at hl 1 rfl) ?_
        obtain ⟨f5, hf5, hf⟩ := dz_bo hf
        obtain ⟨x3, s4, hx3, hle, hck, hf⟩ := zcl_o hf
        have hc1 : cells + (s4.1 - τ.1) ≤ M := by omega
        have hs1 : slots + (s4.2.1 - τ.2.1) ≤ S := by omega
        refine va_calli (va_runU (x := ⟨"PrimeProofs$Line", "isOne", "(LPrimeProofs$Row;)Z"⟩) (owner := "PrimeProofs$Line") (As := [.ref v1]) (rest := []) ⟨hx, hb, hml, hown, hts⟩ (mtX6_isOne_5 l D cA ζ τ v0 v1 K (x3, s4) hx3 (s4.1 - τ.1) (s4.2.1 - τ.2.1) (Nat.add_sub_cancel' hle.1) (Nat.add_sub_cancel' hle.2)) (va_cwA 1 hts (zU_in q358 q360 q365 q359 q96 q366) rfl rfl rfl (hX.N q750 rfl) (by decide +kernel) ⟨Nat.le_of_ble_eq_true rfl, Nat.le_of_ble_eq_true rfl⟩) (z_preV hX hS hH (zob_o hf5) rfl) rfl rfl hl.1 rfl (lv_room (Nat.le_of_ble_eq_true rfl)) dX6_findsBase_17 ⟨hc1, hs1⟩) hS (fun q _ hq => hq) (fun q hq => hq) (fun r u t H1 locs ht hvm hw hB hz hk hS => ?_)
        obtain ⟨hw1, hw2⟩ := Prod.mk.inj hw.symm; subst hw1; subst hw2
        have hH : zH D cA ζ s4 H1 := z_at ht.symm hB
        have hcs : s.heap.size + (cells + (s4.1 - τ.1)) = s4.1 := by omega
        have hss : sl0 + (slots + (s4.2.1 - τ.2.1)) = s4.2.1 := by omega
        replace hcM := And.intro hc1 hs1
        generalize cells + (s4.1 - τ.1) = cells at hcs hcM ⊢; generalize slots + (s4.2.1 - τ.2.1) = slots at hss hcM ⊢
        clear hB hk hz hvm ht hle hck hc1 hs1; generalize H1 = H at hH hS ⊢
        refine lv_if_eq (tgt := 33) hx hb dX6_findsBase_20 (by decide) (fun c20 => ?_) (fun c20 => ?_)
        · have hf := dz_t c20 hf
          exact ih.2 v0 v1 s4 H locs cells slots hH hS hcs hss hcM ls (lv_sub hl [0, 1] rfl) hf
        · have hf := dz_f c20 hf
          refine lv_aload_n hx hb dX6_findsBase_23 rfl (lv_at hl 0 rfl) ?_
          refine lv_aload_n hx hb dX6_findsBase_24 rfl (lv_at hl 1 rfl) ?_
          obtain ⟨f8, hf8, hf⟩ := dz_bo hf
          obtain ⟨x6, s7, hx6, hle, hck, hf⟩ := zcl_o hf
          have hc1 : cells + (s7.1 - s4.1) ≤ M := by omega
          have hs1 : slots + (s7.2.1 - s4.2.1) ≤ S := by omega
          refine va_calli (va_runU (x := ⟨"PrimeProofs$Line", "isFar", "(LPrimeProofs$Row;)Z"⟩) (owner := "PrimeProofs$Line") (As := [.ref v1]) (rest := []) ⟨hx, hb, hml, hown, hts⟩ (mtX6_isFar_5 l D cA ζ s4 v0 v1 K (x6, s7) hx6 (s7.1 - s4.1) (s7.2.1 - s4.2.1) (Nat.add_sub_cancel' hle.1) (Nat.add_sub_cancel' hle.2)) (va_cwA 1 hts (zU_in q431 q433 q438 q432 q96 q439) rfl rfl rfl (hX.N q754 rfl) (by decide +kernel) ⟨Nat.le_of_ble_eq_true rfl, Nat.le_of_ble_eq_true rfl⟩) (z_preV hX hS hH (zob_o hf8) rfl) rfl rfl hl.1 rfl (lv_room (Nat.le_of_ble_eq_true rfl)) dX6_findsBase_25 ⟨hc1, hs1⟩) hS (fun q _ hq => hq) (fun q hq => hq) (fun r u t H1 locs ht hvm hw hB hz hk hS => ?_)
          obtain ⟨hw1, hw2⟩ := Prod.mk.inj hw.symm; subst hw1; subst hw2
          have hH : zH D cA ζ s7 H1 := z_at ht.symm hB
          have hcs : s.heap.size + (cells + (s7.1 - s4.1)) = s7.1 := by omega
          have hss : sl0 + (slots + (s7.2.1 - s4.2.1)) = s7.2.1 := by omega
          replace hcM := And.intro hc1 hs1
          generalize cells + (s7.1 - s4.1) = cells at hcs hcM ⊢; generalize slots + (s7.2.1 - s4.2.1) = slots at hss hcM ⊢
          clear hB hk hz hvm ht hle hck hc1 hs1; generalize H1 = H at hH hS ⊢
          refine lv_if_eq (tgt := 33) hx hb dX6_findsBase_28 (by decide) (fun c28 => ?_) (fun c28 => ?_)
          · have hf := dz_t c28 hf
            exact ih.2 v0 v1 s7 H locs cells slots hH hS hcs hss hcM ls (lv_sub hl [0, 1] rfl) hf
          · have hf := dz_f c28 hf
            refine lv_iconst (v := 1) hx hb dX6_findsBase_31 (by decide) ?_
            obtain ⟨hM1, hS1⟩ : cells = M ∧ slots = S := by have hq := congrArg Prod.snd (Option.some.inj hf); rw [← hq] at hM hS0; have hM : s.heap.size + M = s7.1 := hM; have hS0 : sl0 + S = s7.2.1 := hS0; omega
            refine W.widen (k := M) (n := S) (Nat.le_of_eq hM1) (Nat.le_of_eq hS1) ?_
            exact W.zret (v := 1) hx hb hr rfl (fun t ht hW => ⟨⟨1, s7, rfl, Option.some.inj hf, z_at ht hH⟩, hS.F ht⟩) hS.2.2 dX6_findsBase_32
    · intro v0 v1 τ H locs cells slots hH hS hcs hss hcM ls hl hf
      have hf : (dz_b (zob ζ τ v1 11) fun f1 => dz_b (zvi (f1[2]?)) fun x2 => dz_l (x2 + 1) fun x3 => dz_b (zwo ζ τ v1 11 2) fun f4 => dz_l (zst τ v1 (.inr (11, f4.set 2 (.int x3)))) fun s5 => (lfX6_findsBase_5 K ζ k).1 v0 v1 s5 : Option (Int32 × pH)) = some res := hf
      refine lv_aload_n hx hb dX6_findsBase_33 rfl (lv_at hl 1 rfl) ?_
      refine lv_dup hx hb dX6_findsBase_34 rfl ?_
      obtain ⟨f1, hf1, hf⟩ := dz_bo hf
      obtain ⟨x2, hx2, hf⟩ := dz_bo hf
      refine va_get (C := RX13) (T := TX13) (N := 3) hx hb hts in_X13 hown hX.K (zrd_P hX hS hH (zob_o hf1)) 0 rfl rfl 2 (by decide) (hts _ q692) (fun _ hq => hq) (zvi_o hx2) dX6_findsBase_35 ?_
      refine lv_iconst (v := 1) hx hb dX6_findsBase_38 (by decide) ?_
      refine lv_iadd hx hb dX6_findsBase_39 ?_
      refine lv_topi (fun x3 e_x3 => ?_)
      have hf := dz_ls e_x3 hf
      obtain ⟨f4, hf4, hf⟩ := dz_bo hf
      obtain ⟨ha_f4, he_f4, hk_f4⟩ := zwo_o hf4
      refine va_put (C := RX13) (T := TX13) (N := 3) hx hb hts in_X13 tyX13 tyX13_ok nmX13 hown hX.K hH.2.2 zw_D hS _ (zw_o ha_f4 he_f4) rfl 2 (by decide) (hts _ q692) (fun _ hq => hq) rfl rfl rfl rfl hk_f4 dX6_findsBase_40 (fun H1 locs hP1 _ hS => dz_size (fun hz => ?_))
      obtain ⟨s5, e_s5, hf⟩ := dz_lo hf
      have hH := zH_put (x := .inr (11, f4.set 2 (.int x3))) hH hcs ha_f4 hP1 hz
      rw [← e_s5] at hH
      have hcs : s.heap.size + cells = s5.1 := by rw [e_s5]; exact hcs
      have hss : sl0 + slots = s5.2.1 := by rw [e_s5]; exact hss
      clear hP1 hz; generalize H1 = H at hH hS ⊢
      refine lv_goto (tgt := 5) hx hb dX6_findsBase_43 (by decide) ?_
      exact ih.1 v0 v1 s5 H locs cells slots hH hS hcs hss hcM ls (lv_sub hl [0, 1] rfl) hf
set_option maxHeartbeats 4000000 in
set_option maxRecDepth 100000 in
theorem mtX6_findsBase_5 (l : Launch) (D : va_G) (cA : Nat → ClassId) (ζ : pZ) (τ : pH) (h : Nat) (a0 : Nat) (K : Nat) (res : (Int32 × pH)) (hf : fnX6_findsBase_5 K ζ h a0 τ = some res) (M S : Nat) (hM : τ.1 + M = res.2.1) (hS0 : τ.2.1 + S = res.2.2.1) : Met l yX6_findsBase (ws_ yX6_findsBase cX6_findsBase 2 (some .boolean)) ({ frames := 102, cells := M, slots := S, locals := 2344 }) (zPc D cA ζ τ [.ref h, .ref a0]) (zQi D cA ζ res) M S (zA ζ) := by
  refine Met.ofW (cc := cX6_findsBase) (maxL := 2) (ret := some .boolean) (by decide +kernel) rfl ?_
  intro p e s m args below meth c s₁ B hml hv
  obtain ⟨rfl, hX, hH⟩ := hv
  have hx := B.exec
  have hb := B.bytes
  have hr := B.returns
  have hts := atoms_spec (ws := ws_ yX6_findsBase cX6_findsBase 2 (some .boolean)) B.pre
  have hts : ∀ w ∈ lw_all, w.before _ s = true := fun w h => hts w (List.mem_cons_of_mem _ h)
  have hown : s.vm.findClass RX6 = some m.cls := findClass_of_methodNamed B.named
  have hlocks := B.notSynchronized
  have hM : s.heap.size + M = res.2.1 := by rw [hH.1]; exact hM
  have hcs : s.heap.size + 0 = τ.1 := hH.1
  have hss : τ.2.1 + 0 = τ.2.1 := rfl
  generalize hsl0 : τ.2.1 = sl0 at hS0 hss
  have hss : sl0 + 0 = τ.2.1 := by rw [hsl0]; rfl
  have hS : va_S (zA ζ) s.heap s.heap [] := va_S.rf
  generalize hHe : s.heap = H at hH hS ⊢
  have hS : va_S (zA ζ) s.heap H [] := by rw [hHe]; exact hS
  generalize ([] : List Loc) = locs at hS ⊢
  have hl := lv_entry ([.ref h, .ref a0]) (n := 2) (Nat.le_of_ble_eq_true rfl)
  rw [lg_entry_eq]
  generalize (lg_sl ([.ref h, .ref a0]) ++ List.replicate (2 - (lg_sl ([.ref h, .ref a0])).length) Slot.unset).toArray = ls at hl ⊢
  have hl : lv_has ls 2 [(0, .ref h), (1, .ref a0)] := hl
  have hf : (dz_b (zwo ζ τ a0 11 2) fun f1 => dz_l (zst τ a0 (.inr (11, f1.set 2 (.int 2)))) fun s2 => (lfX6_findsBase_5 K ζ K).1 h a0 s2 : Option (Int32 × pH)) = some res := hf
  refine z_gen (fun cells slots hc0 hs0 => ?_)
  have hcs : s.heap.size + cells = τ.1 := by rw [hc0]; exact hcs
  have hss : sl0 + slots = τ.2.1 := by rw [hs0]; exact hss
  have hcM : cells ≤ M ∧ slots ≤ S := by rw [hc0, hs0]; exact ⟨Nat.zero_le _, Nat.zero_le _⟩
  clear hc0 hs0
  have ih := wlX6_findsBase_5 (l := l) (e := e) (below := below) (D := D) (cA := cA) hX K res M S sl0 hM hS0 h a0 hx hb hr hlocks hml hown hts K
  refine lv_aload_n hx hb dX6_findsBase_0 rfl (lv_at hl 1 rfl) ?_
  refine lv_iconst (v := 2) hx hb dX6_findsBase_1 (by decide) ?_
  obtain ⟨f1, hf1, hf⟩ := dz_bo hf
  obtain ⟨ha_f1, he_f1, hk_f1⟩ := zwo_o hf1
  refine va_put (C := RX13) (T := TX13) (N := 3) hx hb hts in_X13 tyX13 tyX13_ok nmX13 hown hX.K hH.2.2 zw_D hS _ (zw_o ha_f1 he_f1) rfl 2 (by decide) (hts _ q692) (fun _ hq => hq) rfl rfl rfl rfl hk_f1 dX6_findsBase_2 (fun H1 locs hP1 _ hS => dz_size (fun hz => ?_))
  obtain ⟨s2, e_s2, hf⟩ := dz_lo hf
  have hH := zH_put (x := .inr (11, f1.set 2 (.int 2))) hH hcs ha_f1 hP1 hz
  rw [← e_s2] at hH
  have hcs : s.heap.size + cells = s2.1 := by rw [e_s2]; exact hcs
  have hss : sl0 + slots = s2.2.1 := by rw [e_s2]; exact hss
  clear hP1 hz; generalize H1 = H at hH hS ⊢
  exact ih.1 h a0 s2 H locs cells slots hH hS hcs hss hcM ls (lv_sub hl [0, 1] rfl) hf

noncomputable def lfX6_findsBases_5 (K : Nat) (ζ : pZ) : Nat → (Nat → Nat → pH → Option (Int32 × pH)) := Nat.rec (motive := fun _ => (Nat → Nat → pH → Option (Int32 × pH))) (fun _ _ _ => none) (fun _ G => (fun v0 v1 τ => dz_b (zob ζ τ v1 2) fun f3 => zcl τ (fnX2_hasNext K ζ v1 τ) fun x1 s2 => if x1 = (0 : Int32) then (some (1, s2)) else (dz_b (zob ζ s2 v1 2) fun f6 => zcl s2 (fnX2_next K ζ v1 s2) fun x4 s5 => dz_b (zob ζ s5 x4 11) fun f7 => dz_b (zob ζ s5 v0 5) fun f10 => zcl s5 (fnX6_findsBase_5 K ζ v0 x4 s5) fun x8 s9 => if x8 = (0 : Int32) then (some (0, s9)) else (G v0 v1 s9))))
noncomputable def fnX6_findsBases_5 (K : Nat) (ζ : pZ) (h : Nat) (τ : pH) : Option (Int32 × pH) := dz_b (zob ζ τ h 5) fun f1 => dz_b (zvr (f1[4]?)) fun x2 => dz_b (zob ζ τ x2 10) fun f5 => zcl τ (fnX8_iterator K ζ x2 τ) fun x3 s4 => (lfX6_findsBases_5 K ζ K) h x3 s4
set_option maxHeartbeats 4000000 in
set_option maxRecDepth 100000 in
theorem wlX6_findsBases_5 {p : Program} {l : Launch} {e : Env} {s : State} {m : MethodId} {below : List Frame} {meth : Method} {c : Code} {D : va_G} {cA : Nat → ClassId} {ζ : pZ} (hX : zX D cA ζ s) (K : Nat) (res : (Int32 × pH)) (M S sl0 : Nat) (hM : s.heap.size + M = res.2.1) (hS0 : sl0 + S = res.2.2.1) (h : Nat) (hx : p.tables.exec = Jvm.exec) (hb : c.code = cX6_findsBases) (hr : meth.sig.returnType = some .boolean) (hlocks : meth.locks = false) (hml : c.maxLocals = 3) (hown : s.vm.findClass RX6 = some m.cls) (hts : ∀ w ∈ lw_all, w.before ([.ref h] : List Value).toArray s = true) : ∀ k : Nat, (∀ (v0 : Nat) (v1 : Nat) (τ : pH) (H : Heap) (locs : List Loc) (cells slots : Nat), zH D cA ζ τ H → va_S (zA ζ) s.heap H locs → s.heap.size + cells = τ.1 → sl0 + slots = τ.2.1 → cells ≤ M ∧ slots ≤ S → ∀ (ls : Array Slot), lv_has ls 3 [(0, .ref v0), (1, .ref v1)] → (lfX6_findsBases_5 K ζ k) v0 v1 τ = some res → W p l e (headSpec (ws_ yX6_findsBases cX6_findsBases 3 (some .boolean)) ({ frames := 103, cells := M, slots := S, locals := 2365 })).room s m ([.ref h] : List Value).toArray below meth c H locs cells slots (MQ below (zQi D cA ζ res) ([.ref h] : List Value).toArray s M S (zA ζ)) (F0 m 8 ls [])) := by
  intro k
  induction k with
  | zero =>
    exact fun _ _ _ _ _ _ _ _ _ _ _ _ _ _ hf => (by cases hf)
  | succ k ih =>
    · intro v0 v1 τ H locs cells slots hH hS hcs hss hcM ls hl hf
      have hf : (dz_b (zob ζ τ v1 2) fun f3 => zcl τ (fnX2_hasNext K ζ v1 τ) fun x1 s2 => if x1 = (0 : Int32) then (some (1, s2)) else (dz_b (zob ζ s2 v1 2) fun f6 => zcl s2 (fnX2_next K ζ v1 s2) fun x4 s5 => dz_b (zob ζ s5 x4 11) fun f7 => dz_b (zob ζ s5 v0 5) fun f10 => zcl s5 (fnX6_findsBase_5 K ζ v0 x4 s5) fun x8 s9 => if x8 = (0 : Int32) then (some (0, s9)) else ((lfX6_findsBases_5 K ζ k) v0 v1 s9)) : Option (Int32 × pH)) = some res := hf
      refine lv_aload_n hx hb dX6_findsBases_8 rfl (lv_at hl 1 rfl) ?_
      obtain ⟨f3, hf3, hf⟩ := dz_bo hf
      obtain ⟨x1, s2, hx1, hle, hck, hf⟩ := zcl_o hf
      have hc1 : cells + (s2.1 - τ.1) ≤ M := by omega
      have hs1 : slots + (s2.2.1 - τ.2.1) ≤ S := by omega
      refine va_callFi (va_runF (hX.K.1 2 _ rfl).2 (As := []) (rest := []) ⟨hx, hb, hml, hown, hts⟩ (mtX2_hasNext l D cA ζ τ v1 K (x1, s2) hx1 (s2.1 - τ.1) (s2.2.1 - τ.2.1) (Nat.add_sub_cancel' hle.1) (Nat.add_sub_cancel' hle.2)) (va_cwF 0 hts (zF_in q263 q267 q269 q91 q271) rfl rfl rfl (hX.F 0 rfl) (by decide +kernel) ⟨Nat.le_of_ble_eq_true rfl, Nat.le_of_ble_eq_true rfl⟩) (z_preV hX hS hH (zob_o hf3) rfl) rfl rfl hl.1 rfl (lv_room (Nat.le_of_ble_eq_true rfl)) dX6_findsBases_9 ⟨hc1, hs1⟩) hS (fun q _ hq => hq) (fun q hq => hq) (fun r u t H1 locs ht hvm hw hB hz hk hS => ?_)
      obtain ⟨hw1, hw2⟩ := Prod.mk.inj hw.symm; subst hw1; subst hw2
      have hH : zH D cA ζ s2 H1 := z_at ht.symm hB
      have hcs : s.heap.size + (cells + (s2.1 - τ.1)) = s2.1 := by omega
      have hss : sl0 + (slots + (s2.2.1 - τ.2.1)) = s2.2.1 := by omega
      replace hcM := And.intro hc1 hs1
      generalize cells + (s2.1 - τ.1) = cells at hcs hcM ⊢; generalize slots + (s2.2.1 - τ.2.1) = slots at hss hcM ⊢
      clear hB hk hz hvm ht hle hck hc1 hs1; generalize H1 = H at hH hS ⊢
      refine lv_if_eq (tgt := 40) hx hb dX6_findsBases_14 (by decide) (fun c14 => ?_) (fun c14 => ?_)
      · have hf := dz_t c14 hf
        refine lv_iconst (v := 1) hx hb dX6_findsBases_40 (by decide) ?_
        obtain ⟨hM1, hS1⟩ : cells = M ∧ slots = S := by have hq := congrArg Prod.snd (Option.some.inj hf); rw [← hq] at hM hS0; have hM : s.heap.size + M = s2.1 := hM; have hS0 : sl0 + S = s2.2.1 := hS0; omega
        refine W.widen (k := M) (n := S) (Nat.le_of_eq hM1) (Nat.le_of_eq hS1) ?_
        exact W.zret (v := 1) hx hb hr rfl (fun t ht hW => ⟨⟨1, s2, rfl, Option.some.inj hf, z_at ht hH⟩, hS.F ht⟩) hS.2.2 dX6_findsBases_41
      · have hf := dz_f c14 hf
        refine lv_aload_n hx hb dX6_findsBases_17 rfl (lv_at hl 1 rfl) ?_
        obtain ⟨f6, hf6, hf⟩ := dz_bo hf
        obtain ⟨x4, s5, hx4, hle, hck, hf⟩ := zcl_o hf
        have hc1 : cells + (s5.1 - s2.1) ≤ M := by omega
        have hs1 : slots + (s5.2.1 - s2.2.1) ≤ S := by omega
        refine va_callFr (va_runF (hX.K.1 2 _ rfl).2 (As := []) (rest := []) ⟨hx, hb, hml, hown, hts⟩ (mtX2_next l D cA ζ s2 v1 K (x4, s5) hx4 (s5.1 - s2.1) (s5.2.1 - s2.2.1) (Nat.add_sub_cancel' hle.1) (Nat.add_sub_cancel' hle.2)) (va_cwF 0 hts (zF_in q279 q282 q284 q91 q286) rfl rfl rfl (hX.F 1 rfl) (by decide +kernel) ⟨Nat.le_of_ble_eq_true rfl, Nat.le_of_ble_eq_true rfl⟩) (z_preV hX hS hH (zob_o hf6) rfl) rfl rfl hl.1 rfl (lv_room (Nat.le_of_ble_eq_true rfl)) dX6_findsBases_18 ⟨hc1, hs1⟩) hS (fun q _ hq => hq) (fun q hq => hq) (fun u r t H1 locs ht hvm hw hB hz hk hS => ?_)
        obtain ⟨hw, hB⟩ := hB
        obtain ⟨hw1, hw2⟩ := Prod.mk.inj hw.symm; subst hw1; subst hw2
        have hH : zH D cA ζ s5 H1 := z_at ht.symm hB
        have hcs : s.heap.size + (cells + (s5.1 - s2.1)) = s5.1 := by omega
        have hss : sl0 + (slots + (s5.2.1 - s2.2.1)) = s5.2.1 := by omega
        replace hcM := And.intro hc1 hs1
        generalize cells + (s5.1 - s2.1) = cells at hcs hcM ⊢; generalize slots + (s5.2.1 - s2.2.1) = slots at hss hcM ⊢
        clear hB hk hz hvm ht hle hck hc1 hs1; generalize H1 = H at hH hS ⊢
        obtain ⟨f7, hf7, hf⟩ := dz_bo hf
        refine va_castS (nm := RX13) hx hb hown (hts _ q300) (hX.K.1 11 _ rfl).2 (va_recv hX.K (zrd_P hX hS hH (zob_o hf7)) (ci := 11) (q0 := 0) rfl rfl) dX6_findsBases_23 ?_
        refine lv_astore_n (lv' := [(2, .ref x4), (0, .ref v0), (1, .ref v1)]) hx hb dX6_findsBases_26 rfl hl (by decide) rfl (fun ls hl => ?_)
        refine lv_aload_n hx hb dX6_findsBases_27 rfl (lv_at hl 1 rfl) ?_
        refine lv_aload_n hx hb dX6_findsBases_28 rfl (lv_at hl 0 rfl) ?_
        obtain ⟨f10, hf10, hf⟩ := dz_bo hf
        obtain ⟨x8, s9, hx8, hle, hck, hf⟩ := zcl_o hf
        have hc1 : cells + (s9.1 - s5.1) ≤ M := by omega
        have hs1 : slots + (s9.2.1 - s5.2.1) ≤ S := by omega
        refine va_calli (va_runU (x := ⟨"PrimeProofs$Line", "findsBase", "(LPrimeProofs$Row;)Z"⟩) (owner := "PrimeProofs$Line") (As := [.ref x4]) (rest := []) ⟨hx, hb, hml, hown, hts⟩ (mtX6_findsBase_5 l D cA ζ s5 v0 x4 K (x8, s9) hx8 (s9.1 - s5.1) (s9.2.1 - s5.2.1) (Nat.add_sub_cancel' hle.1) (Nat.add_sub_cancel' hle.2)) (va_cwU 1 hts (zU_in q758 q760 q765 q759 q96 q766) rfl rfl rfl rfl (by decide +kernel) ⟨Nat.le_of_ble_eq_true rfl, Nat.le_of_ble_eq_true rfl⟩) (z_preV hX hS hH (zob_o hf10) rfl) rfl rfl hl.1 rfl (lv_room (Nat.le_of_ble_eq_true rfl)) dX6_findsBases_29 ⟨hc1, hs1⟩) hS (fun q _ hq => hq) (fun q hq => hq) (fun r u t H1 locs ht hvm hw hB hz hk hS => ?_)
        obtain ⟨hw1, hw2⟩ := Prod.mk.inj hw.symm; subst hw1; subst hw2
        have hH : zH D cA ζ s9 H1 := z_at ht.symm hB
        have hcs : s.heap.size + (cells + (s9.1 - s5.1)) = s9.1 := by omega
        have hss : sl0 + (slots + (s9.2.1 - s5.2.1)) = s9.2.1 := by omega
        replace hcM := And.intro hc1 hs1
        generalize cells + (s9.1 - s5.1) = cells at hcs hcM ⊢; generalize slots + (s9.2.1 - s5.2.1) = slots at hss hcM ⊢
        clear hB hk hz hvm ht hle hck hc1 hs1; generalize H1 = H at hH hS ⊢
        refine lv_if_ne (tgt := 37) hx hb dX6_findsBases_32 (by decide) (fun c32 => ?_) (fun c32 => ?_)
        · have hf := dz_f c32 hf
          refine lv_goto (tgt := 8) hx hb dX6_findsBases_37 (by decide) ?_
          exact ih v0 v1 s9 H locs cells slots hH hS hcs hss hcM ls (lv_sub hl [1, 2] rfl) hf
        · have hf := dz_t c32 hf
          refine lv_iconst (v := 0) hx hb dX6_findsBases_35 (by decide) ?_
          obtain ⟨hM1, hS1⟩ : cells = M ∧ slots = S := by have hq := congrArg Prod.snd (Option.some.inj hf); rw [← hq] at hM hS0; have hM : s.heap.size + M = s9.1 := hM; have hS0 : sl0 + S = s9.2.1 := hS0; omega
          refine W.widen (k := M) (n := S) (Nat.le_of_eq hM1) (Nat.le_of_eq hS1) ?_
          exact W.zret (v := 0) hx hb hr rfl (fun t ht hW => ⟨⟨0, s9, rfl, Option.some.inj hf, z_at ht hH⟩, hS.F ht⟩) hS.2.2 dX6_findsBases_36
set_option maxHeartbeats 4000000 in
set_option maxRecDepth 100000 in
theorem mtX6_findsBases_5 (l : Launch) (D : va_G) (cA : Nat → ClassId) (ζ : pZ) (τ : pH) (h : Nat) (K : Nat) (res : (Int32 × pH)) (hf : fnX6_findsBases_5 K ζ h τ = some res) (M S : Nat) (hM : τ.1 + M = res.2.1) (hS0 : τ.2.1 + S = res.2.2.1) : Met l yX6_findsBases (ws_ yX6_findsBases cX6_findsBases 3 (some .boolean)) ({ frames := 103, cells := M, slots := S, locals := 2365 }) (zPc D cA ζ τ [.ref h]) (zQi D cA ζ res) M S (zA ζ) := by
  refine Met.ofW (cc := cX6_findsBases) (maxL := 3) (ret := some .boolean) (by decide +kernel) rfl ?_
  intro p e s m args below meth c s₁ B hml hv
  obtain ⟨rfl, hX, hH⟩ := hv
  have hx := B.exec
  have hb := B.bytes
  have hr := B.returns
  have hts := atoms_spec (ws := ws_ yX6_findsBases cX6_findsBases 3 (some .boolean)) B.pre
  have hts : ∀ w ∈ lw_all, w.before _ s = true := fun w h => hts w (List.mem_cons_of_mem _ h)
  have hown : s.vm.findClass RX6 = some m.cls := findClass_of_methodNamed B.named
  have hlocks := B.notSynchronized
  have hM : s.heap.size + M = res.2.1 := by rw [hH.1]; exact hM
  have hcs : s.heap.size + 0 = τ.1 := hH.1
  have hss : τ.2.1 + 0 = τ.2.1 := rfl
  generalize hsl0 : τ.2.1 = sl0 at hS0 hss
  have hss : sl0 + 0 = τ.2.1 := by rw [hsl0]; rfl
  have hS : va_S (zA ζ) s.heap s.heap [] := va_S.rf
  generalize hHe : s.heap = H at hH hS ⊢
  have hS : va_S (zA ζ) s.heap H [] := by rw [hHe]; exact hS
  generalize ([] : List Loc) = locs at hS ⊢
  have hl := lv_entry ([.ref h]) (n := 3) (Nat.le_of_ble_eq_true rfl)
  rw [lg_entry_eq]
  generalize (lg_sl ([.ref h]) ++ List.replicate (3 - (lg_sl ([.ref h])).length) Slot.unset).toArray = ls at hl ⊢
  have hl : lv_has ls 3 [(0, .ref h)] := hl
  have hf : (dz_b (zob ζ τ h 5) fun f1 => dz_b (zvr (f1[4]?)) fun x2 => dz_b (zob ζ τ x2 10) fun f5 => zcl τ (fnX8_iterator K ζ x2 τ) fun x3 s4 => (lfX6_findsBases_5 K ζ K) h x3 s4 : Option (Int32 × pH)) = some res := hf
  refine z_gen (fun cells slots hc0 hs0 => ?_)
  have hcs : s.heap.size + cells = τ.1 := by rw [hc0]; exact hcs
  have hss : sl0 + slots = τ.2.1 := by rw [hs0]; exact hss
  have hcM : cells ≤ M ∧ slots ≤ S := by rw [hc0, hs0]; exact ⟨Nat.zero_le _, Nat.zero_le _⟩
  clear hc0 hs0
  have ih := wlX6_findsBases_5 (l := l) (e := e) (below := below) (D := D) (cA := cA) hX K res M S sl0 hM hS0 h hx hb hr hlocks hml hown hts K
  refine lv_aload_n hx hb dX6_findsBases_0 rfl (lv_at hl 0 rfl) ?_
  obtain ⟨f1, hf1, hf⟩ := dz_bo hf
  obtain ⟨x2, hx2, hf⟩ := dz_bo hf
  refine va_get (C := RX7) (T := TX7) (N := 8) hx hb hts in_X7 hown hX.K (zrd_P hX hS hH (zob_o hf1)) 0 rfl rfl 4 (by decide) (hts _ q550) (fun _ hq => hq) (zvr_o hx2) dX6_findsBases_1 ?_
  obtain ⟨f5, hf5, hf⟩ := dz_bo hf
  obtain ⟨x3, s4, hx3, hle, hck, hf⟩ := zcl_o hf
  have hc1 : cells + (s4.1 - τ.1) ≤ M := by omega
  have hs1 : slots + (s4.2.1 - τ.2.1) ≤ S := by omega
  refine va_callr (va_runV (As := []) (rest := []) ⟨hx, hb, hml, hown, hts⟩ (mtX8_iterator l D cA ζ τ x2 K (x3, s4) hx3 (s4.1 - τ.1) (s4.2.1 - τ.2.1) (Nat.add_sub_cancel' hle.1) (Nat.add_sub_cancel' hle.2)) (cwV 0 hts (lw_V q245 q246 q247 q98 q248) rfl rfl rfl (by decide +kernel) ⟨Nat.le_of_ble_eq_true rfl, Nat.le_of_ble_eq_true rfl⟩) (z_preV hX hS hH (zob_o hf5) rfl) rfl rfl hl.1 rfl (lv_room (Nat.le_of_ble_eq_true rfl)) dX6_findsBases_4 ⟨hc1, hs1⟩) hS (fun q _ hq => hq) (fun q hq => hq) (fun u r t H1 locs ht hvm hw hB hz hk hS => ?_)
  obtain ⟨hw, hB⟩ := hB
  obtain ⟨hw1, hw2⟩ := Prod.mk.inj hw.symm; subst hw1; subst hw2
  have hH : zH D cA ζ s4 H1 := z_at ht.symm hB
  have hcs : s.heap.size + (cells + (s4.1 - τ.1)) = s4.1 := by omega
  have hss : sl0 + (slots + (s4.2.1 - τ.2.1)) = s4.2.1 := by omega
  replace hcM := And.intro hc1 hs1
  generalize cells + (s4.1 - τ.1) = cells at hcs hcM ⊢; generalize slots + (s4.2.1 - τ.2.1) = slots at hss hcM ⊢
  clear hB hk hz hvm ht hle hck hc1 hs1; generalize H1 = H at hH hS ⊢
  refine lv_astore_n (lv' := [(1, .ref x3), (0, .ref h)]) hx hb dX6_findsBases_7 rfl hl (by decide) rfl (fun ls hl => ?_)
  exact ih h x3 s4 H locs cells slots hH hS hcs hss hcM ls (lv_sub hl [1, 0] rfl) hf

