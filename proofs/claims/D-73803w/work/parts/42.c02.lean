noncomputable def fnX5_goesOn (K : Nat) (ζ : pZ) (h : Nat) (τ : pH) : Option (Unit × pH) := dz_b (zob ζ τ h 4) fun f1 => dz_b (zvl (f1[0]?)) fun x2 => dz_b (zob ζ τ h 4) fun f3 => dz_b (zvl (f3[1]?)) fun x4 => dz_b (zwo ζ τ h 4 0) fun f5 => dz_l (zst τ h (.inr (4, f5.set 0 (.long x4)))) fun s6 => dz_b (zob ζ s6 h 4) fun f7 => dz_b (zvl (f7[3]?)) fun x8 => dz_b (zob ζ s6 h 4) fun f9 => dz_b (zvl (f9[1]?)) fun x10 => dz_b (zob ζ s6 h 4) fun f11 => dz_b (zvl (f11[4]?)) fun x12 => dz_b (zob ζ s6 h 4) fun f15 => zcl s6 (fnX5_rest K ζ h ((x8 * x10) - (x12 * x2)) s6) fun x13 s14 => dz_b (zwo ζ s14 h 4 1) fun f16 => dz_l (zst s14 h (.inr (4, f16.set 1 (.long x13)))) fun s17 => some ((), s17)
set_option maxHeartbeats 4000000 in
set_option maxRecDepth 100000 in
theorem mtX5_goesOn (l : Launch) (D : va_G) (cA : Nat → ClassId) (ζ : pZ) (τ : pH) (h : Nat) (K : Nat) (res : (Unit × pH)) (hf : fnX5_goesOn K ζ h τ = some res) (M S : Nat) (hM : τ.1 + M = res.2.1) (hS0 : τ.2.1 + S = res.2.2.1) : Met l yX5_goesOn (ws_ yX5_goesOn cX5_goesOn 3 (none)) ({ frames := 2, cells := M, slots := S, locals := 47 }) (zPc D cA ζ τ [.ref h]) (zQv D cA ζ res) M S (zA ζ) := by
  refine Met.ofW (cc := cX5_goesOn) (maxL := 3) (ret := none) (by decide +kernel) rfl ?_
  intro p e s m args below meth c s₁ B hml hv
  obtain ⟨rfl, hX, hH⟩ := hv
  have hx := B.exec
  have hb := B.bytes
  have hr := B.returns
  have hts := atoms_spec (ws := ws_ yX5_goesOn cX5_goesOn 3 (none)) B.pre
  have hts : ∀ w ∈ lw_all, w.before _ s = true := fun w h => hts w (List.mem_cons_of_mem _ h)
  have hown : s.vm.findClass RX5 = some m.cls := findClass_of_methodNamed B.named
  have hlocks := B.notSynchronized
  have hM : s.heap.size + M = res.2.1 := by rw [hH.1]; exact hM
  have hcs : s.heap.size + 0 = τ.1 := hH.1
  have hss : τ.2.1 + 0 = τ.2.1 := rfl
  generalize hsl0 : τ.2.1 = sl0 at hS0 hss
  have hss : sl0 + 0 = τ.2.1 := by rw [hsl0]; rfl
  have hS : va_S (zA ζ) s.heap s.heap [] := va_S.rf
  generalize hHe : s.heap = H at hH hS ⊢
  have hS : va_S (zA ζ) s.heap H [] := by rw [hHe]; exact hS
  generalize ([] : List Loc) = locs at hS ⊢
  have hl := lv_entry ([.ref h]) (n := 3) (Nat.le_of_ble_eq_true rfl)
  rw [lg_entry_eq]
  generalize (lg_sl ([.ref h]) ++ List.replicate (3 - (lg_sl ([.ref h])).length) Slot.unset).toArray = ls at hl ⊢
  have hl : lv_has ls 3 [(0, .ref h)] := hl
  have hf : (dz_b (zob ζ τ h 4) fun f1 => dz_b (zvl (f1[0]?)) fun x2 => dz_b (zob ζ τ h 4) fun f3 => dz_b (zvl (f3[1]?)) fun x4 => dz_b (zwo ζ τ h 4 0) fun f5 => dz_l (zst τ h (.inr (4, f5.set 0 (.long x4)))) fun s6 => dz_b (zob ζ s6 h 4) fun f7 => dz_b (zvl (f7[3]?)) fun x8 => dz_b (zob ζ s6 h 4) fun f9 => dz_b (zvl (f9[1]?)) fun x10 => dz_b (zob ζ s6 h 4) fun f11 => dz_b (zvl (f11[4]?)) fun x12 => dz_b (zob ζ s6 h 4) fun f15 => zcl s6 (fnX5_rest K ζ h ((x8 * x10) - (x12 * x2)) s6) fun x13 s14 => dz_b (zwo ζ s14 h 4 1) fun f16 => dz_l (zst s14 h (.inr (4, f16.set 1 (.long x13)))) fun s17 => some ((), s17) : Option (Unit × pH)) = some res := hf
  refine z_gen (fun cells slots hc0 hs0 => ?_)
  have hcs : s.heap.size + cells = τ.1 := by rw [hc0]; exact hcs
  have hss : sl0 + slots = τ.2.1 := by rw [hs0]; exact hss
  have hcM : cells ≤ M ∧ slots ≤ S := by rw [hc0, hs0]; exact ⟨Nat.zero_le _, Nat.zero_le _⟩
  clear hc0 hs0
  refine lv_aload_n hx hb dX5_goesOn_0 rfl (lv_at hl 0 rfl) ?_
  obtain ⟨f1, hf1, hf⟩ := dz_bo hf
  obtain ⟨x2, hx2, hf⟩ := dz_bo hf
  refine va_get (C := RX5) (T := TX5) (N := 5) hx hb hts in_X5 hown hX.K (zrd_P hX hS hH (zob_o hf1)) 0 rfl rfl 0 (by decide) (hts _ q476) (fun _ hq => hq) (zvl_o hx2) dX5_goesOn_1 ?_
  refine lv_lstore_n (lv' := [(1, .long x2), (0, .ref h)]) hx hb dX5_goesOn_4 rfl hl (by decide) rfl (fun ls hl => ?_)
  refine lv_aload_n hx hb dX5_goesOn_5 rfl (lv_at hl 1 rfl) ?_
  refine lv_aload_n hx hb dX5_goesOn_6 rfl (lv_at hl 1 rfl) ?_
  obtain ⟨f3, hf3, hf⟩ := dz_bo hf
  obtain ⟨x4, hx4, hf⟩ := dz_bo hf
  refine va_get (C := RX5) (T := TX5) (N := 5) hx hb hts in_X5 hown hX.K (zrd_P hX hS hH (zob_o hf3)) 0 rfl rfl 1 (by decide) (hts _ q477) (fun _ hq => hq) (zvl_o hx4) dX5_goesOn_7 ?_
  obtain ⟨f5, hf5, hf⟩ := dz_bo hf
  obtain ⟨ha_f5, he_f5, hk_f5⟩ := zwo_o hf5
  refine va_put (C := RX5) (T := TX5) (N := 5) hx hb hts in_X5 tyX5 tyX5_ok nmX5 hown hX.K hH.2.2 zw_D hS _ (zw_o ha_f5 he_f5) rfl 0 (by decide) (hts _ q476) (fun _ hq => hq) rfl rfl rfl rfl hk_f5 dX5_goesOn_10 (fun H1 locs hP1 _ hS => dz_size (fun hz => ?_))
  obtain ⟨s6, e_s6, hf⟩ := dz_lo hf
  have hH := zH_put (x := .inr (4, f5.set 0 (.long x4))) hH hcs ha_f5 hP1 hz
  rw [← e_s6] at hH
  have hcs : s.heap.size + cells = s6.1 := by rw [e_s6]; exact hcs
  have hss : sl0 + slots = s6.2.1 := by rw [e_s6]; exact hss
  clear hP1 hz; generalize H1 = H at hH hS ⊢
  refine lv_aload_n hx hb dX5_goesOn_13 rfl (lv_at hl 1 rfl) ?_
  refine lv_aload_n hx hb dX5_goesOn_14 rfl (lv_at hl 1 rfl) ?_
  refine lv_aload_n hx hb dX5_goesOn_15 rfl (lv_at hl 1 rfl) ?_
  obtain ⟨f7, hf7, hf⟩ := dz_bo hf
  obtain ⟨x8, hx8, hf⟩ := dz_bo hf
  refine va_get (C := RX5) (T := TX5) (N := 5) hx hb hts in_X5 hown hX.K (zrd_P hX hS hH (zob_o hf7)) 0 rfl rfl 3 (by decide) (hts _ q479) (fun _ hq => hq) (zvl_o hx8) dX5_goesOn_16 ?_
  refine lv_aload_n hx hb dX5_goesOn_19 rfl (lv_at hl 1 rfl) ?_
  obtain ⟨f9, hf9, hf⟩ := dz_bo hf
  obtain ⟨x10, hx10, hf⟩ := dz_bo hf
  refine va_get (C := RX5) (T := TX5) (N := 5) hx hb hts in_X5 hown hX.K (zrd_P hX hS hH (zob_o hf9)) 0 rfl rfl 1 (by decide) (hts _ q477) (fun _ hq => hq) (zvl_o hx10) dX5_goesOn_20 ?_
  refine lv_lmul hx hb dX5_goesOn_23 ?_
  refine lv_aload_n hx hb dX5_goesOn_24 rfl (lv_at hl 1 rfl) ?_
  obtain ⟨f11, hf11, hf⟩ := dz_bo hf
  obtain ⟨x12, hx12, hf⟩ := dz_bo hf
  refine va_get (C := RX5) (T := TX5) (N := 5) hx hb hts in_X5 hown hX.K (zrd_P hX hS hH (zob_o hf11)) 0 rfl rfl 4 (by decide) (hts _ q480) (fun _ hq => hq) (zvl_o hx12) dX5_goesOn_25 ?_
  refine lv_lload_n hx hb dX5_goesOn_28 rfl (lv_at hl 0 rfl) ?_
  refine lv_lmul hx hb dX5_goesOn_29 ?_
  refine lv_lsub hx hb dX5_goesOn_30 ?_
  obtain ⟨f15, hf15, hf⟩ := dz_bo hf
  obtain ⟨x13, s14, hx13, hle, hck, hf⟩ := zcl_o hf
  have hc1 : cells + (s14.1 - s6.1) ≤ M := by omega
  have hs1 : slots + (s14.2.1 - s6.2.1) ≤ S := by omega
  refine va_calll (va_runV (As := [.long ((x8 * x10) - (x12 * x2))]) (rest := [.ref h]) ⟨hx, hb, hml, hown, hts⟩ (mtX5_rest l D cA ζ s6 h ((x8 * x10) - (x12 * x2)) K (x13, s14) hx13 (s14.1 - s6.1) (s14.2.1 - s6.2.1) (Nat.add_sub_cancel' hle.1) (Nat.add_sub_cancel' hle.2)) (cwV 1 hts (lw_V q405 q407 qs3 q95 q409) rfl rfl rfl (by decide +kernel) ⟨Nat.le_of_ble_eq_true rfl, Nat.le_of_ble_eq_true rfl⟩) (z_preV hX hS hH (zob_o hf15) rfl) rfl rfl hl.1 rfl (lv_room (Nat.le_of_ble_eq_true rfl)) dX5_goesOn_31 ⟨hc1, hs1⟩) hS (fun q _ hq => hq) (fun q hq => hq) (fun r u t H1 locs ht hvm hw hB hz hk hS => ?_)
  obtain ⟨hw1, hw2⟩ := Prod.mk.inj hw.symm; subst hw1; subst hw2
  have hH : zH D cA ζ s14 H1 := z_at ht.symm hB
  have hcs : s.heap.size + (cells + (s14.1 - s6.1)) = s14.1 := by omega
  have hss : sl0 + (slots + (s14.2.1 - s6.2.1)) = s14.2.1 := by omega
  replace hcM := And.intro hc1 hs1
  generalize cells + (s14.1 - s6.1) = cells at hcs hcM ⊢; generalize slots + (s14.2.1 - s6.2.1) = slots at hss hcM ⊢
  clear hB hk hz hvm ht hle hck hc1 hs1; generalize H1 = H at hH hS ⊢
  obtain ⟨f16, hf16, hf⟩ := dz_bo hf
  obtain ⟨ha_f16, he_f16, hk_f16⟩ := zwo_o hf16
  refine va_put (C := RX5) (T := TX5) (N := 5) hx hb hts in_X5 tyX5 tyX5_ok nmX5 hown hX.K hH.2.2 zw_D hS _ (zw_o ha_f16 he_f16) rfl 1 (by decide) (hts _ q477) (fun _ hq => hq) rfl rfl rfl rfl hk_f16 dX5_goesOn_34 (fun H1 locs hP1 _ hS => dz_size (fun hz => ?_))
  obtain ⟨s17, e_s17, hf⟩ := dz_lo hf
  have hH := zH_put (x := .inr (4, f16.set 1 (.long x13))) hH hcs ha_f16 hP1 hz
  rw [← e_s17] at hH
  have hcs : s.heap.size + cells = s17.1 := by rw [e_s17]; exact hcs
  have hss : sl0 + slots = s17.2.1 := by rw [e_s17]; exact hss
  clear hP1 hz; generalize H1 = H at hH hS ⊢
  obtain ⟨hM1, hS1⟩ : cells = M ∧ slots = S := by have hq := congrArg Prod.snd (Option.some.inj hf); rw [← hq] at hM hS0; have hM : s.heap.size + M = s17.1 := hM; have hS0 : sl0 + S = s17.2.1 := hS0; omega
  refine W.widen (k := M) (n := S) (Nat.le_of_eq hM1) (Nat.le_of_eq hS1) ?_
  exact W.vret hx hb hr (fun t ht hW => ⟨⟨s17, rfl, Option.some.inj hf, z_at ht hH⟩, hS.F ht⟩) hS.2.2 dX5_goesOn_37

noncomputable def lfX3_climbs_4 (K : Nat) (ζ : pZ) : Nat → (Nat → Int64 → Int32 → pH → Option (Int64 × pH)) × (Nat → Int64 → Int32 → pH → Option (Int64 × pH)) := Nat.rec (motive := fun _ => (Nat → Int64 → Int32 → pH → Option (Int64 × pH)) × (Nat → Int64 → Int32 → pH → Option (Int64 × pH))) ((fun _ _ _ _ => none), (fun _ _ _ _ => none)) (fun _ G => ((fun v0 v1 v3 τ => if v3 < (0 : Int32) then (dz_b (zob ζ τ v0 4) fun f3 => zcl τ (fnX5_told K ζ v0 τ) fun x1 s2 => some (x1, s2)) else (if (v1 >>> (Int32.toInt64 v3 &&& 63)) = (0 : Int64) then (G.2 v0 v1 v3 τ) else (dz_b (zob ζ τ v0 4) fun f6 => zcl τ (fnX5_doubles K ζ v0 τ) fun _ s5 => if ((v1 >>> (Int32.toInt64 v3 &&& 63)) &&& 1) = (1 : Int64) then (dz_b (zob ζ s5 v0 4) fun f9 => zcl s5 (fnX5_goesOn K ζ v0 s5) fun _ s8 => G.2 v0 v1 v3 s8) else (G.2 v0 v1 v3 s5)))), (fun v0 v1 v3 τ => dz_l (v3 + (-1)) fun x1 => G.1 v0 v1 x1 τ)))
noncomputable def fnX3_climbs_4 (K : Nat) (ζ : pZ) (h : Nat) (a0 : Int64) (τ : pH) : Option (Int64 × pH) := (lfX3_climbs_4 K ζ K).1 h a0 62 τ
set_option maxHeartbeats 4000000 in
set_option maxRecDepth 100000 in
theorem wlX3_climbs_4 {p : Program} {l : Launch} {e : Env} {s : State} {m : MethodId} {below : List Frame} {meth : Method} {c : Code} {D : va_G} {cA : Nat → ClassId} {ζ : pZ} (hX : zX D cA ζ s) (K : Nat) (res : (Int64 × pH)) (M S sl0 : Nat) (hM : s.heap.size + M = res.2.1) (hS0 : sl0 + S = res.2.2.1) (h : Nat) (a0 : Int64) (hx : p.tables.exec = Jvm.exec) (hb : c.code = cX3_climbs) (hr : meth.sig.returnType = some .long) (hlocks : meth.locks = false) (hml : c.maxLocals = 4) (hown : s.vm.findClass RX3 = some m.cls) (hts : ∀ w ∈ lw_all, w.before ([.ref h, .long a0] : List Value).toArray s = true) : ∀ k : Nat, (∀ (v0 : Nat) (v1 : Int64) (v3 : Int32) (τ : pH) (H : Heap) (locs : List Loc) (cells slots : Nat), zH D cA ζ τ H → va_S (zA ζ) s.heap H locs → s.heap.size + cells = τ.1 → sl0 + slots = τ.2.1 → cells ≤ M ∧ slots ≤ S → ∀ (ls : Array Slot), lv_has ls 4 [(0, .ref v0), (1, .long v1), (3, .int v3)] → (lfX3_climbs_4 K ζ k).1 v0 v1 v3 τ = some res → W p l e (headSpec (ws_ yX3_climbs cX3_climbs 4 (some .long)) ({ frames := 3, cells := M, slots := S, locals := 69 })).room s m ([.ref h, .long a0] : List Value).toArray below meth c H locs cells slots (MQ below (zQl D cA ζ res) ([.ref h, .long a0] : List Value).toArray s M S (zA ζ)) (F0 m 3 ls [])) ∧ (∀ (v0 : Nat) (v1 : Int64) (v3 : Int32) (τ : pH) (H : Heap) (locs : List Loc) (cells slots : Nat), zH D cA ζ τ H → va_S (zA ζ) s.heap H locs → s.heap.size + cells = τ.1 → sl0 + slots = τ.2.1 → cells ≤ M ∧ slots ≤ S → ∀ (ls : Array Slot), lv_has ls 4 [(0, .ref v0), (1, .long v1), (3, .int v3)] → (lfX3_climbs_4 K ζ k).2 v0 v1 v3 τ = some res → W p l e (headSpec (ws_ yX3_climbs cX3_climbs 4 (some .long)) ({ frames := 3, cells := M, slots := S, locals := 69 })).room s m ([.ref h, .long a0] : List Value).toArray below meth c H locs cells slots (MQ below (zQl D cA ζ res) ([.ref h, .long a0] : List Value).toArray s M S (zA ζ)) (F0 m 36 ls [])) := by
  intro k
  induction k with
  | zero =>
    exact ⟨fun _ _ _ _ _ _ _ _ _ _ _ _ _ _ _ hf => (by cases hf), fun _ _ _ _ _ _ _ _ _ _ _ _ _ _ _ hf => (by cases hf)⟩
  | succ k ih =>
    refine ⟨?_, ?_⟩
    · intro v0 v1 v3 τ H locs cells slots hH hS hcs hss hcM ls hl hf
      have hf : (if v3 < (0 : Int32) then (dz_b (zob ζ τ v0 4) fun f3 => zcl τ (fnX5_told K ζ v0 τ) fun x1 s2 => some (x1, s2)) else (if (v1 >>> (Int32.toInt64 v3 &&& 63)) = (0 : Int64) then ((lfX3_climbs_4 K ζ k).2 v0 v1 v3 τ) else (dz_b (zob ζ τ v0 4) fun f6 => zcl τ (fnX5_doubles K ζ v0 τ) fun _ s5 => if ((v1 >>> (Int32.toInt64 v3 &&& 63)) &&& 1) = (1 : Int64) then (dz_b (zob ζ s5 v0 4) fun f9 => zcl s5 (fnX5_goesOn K ζ v0 s5) fun _ s8 => (lfX3_climbs_4 K ζ k).2 v0 v1 v3 s8) else ((lfX3_climbs_4 K ζ k).2 v0 v1 v3 s5))) : Option (Int64 × pH)) = some res := hf
      refine lv_iload_n hx hb dX3_climbs_3 rfl (lv_at hl 2 rfl) ?_
      refine lv_if_lt (tgt := 42) hx hb dX3_climbs_4 (by decide) (fun c4 => ?_) (fun c4 => ?_)
      · have hf := dz_t c4 hf
        refine lv_aload_n hx hb dX3_climbs_42 rfl (lv_at hl 0 rfl) ?_
        obtain ⟨f3, hf3, hf⟩ := dz_bo hf
        obtain ⟨x1, s2, hx1, hle, hck, hf⟩ := zcl_o hf
        have hc1 : cells + (s2.1 - τ.1) ≤ M := by omega
        have hs1 : slots + (s2.2.1 - τ.2.1) ≤ S := by omega
        refine va_calll (va_runU (x := ⟨"PrimeProofs$Climber", "told", "()J"⟩) (owner := "PrimeProofs$Climber") (As := []) (rest := []) ⟨hx, hb, hml, hown, hts⟩ (mtX5_told l D cA ζ τ v0 K (x1, s2) hx1 (s2.1 - τ.1) (s2.2.1 - τ.2.1) (Nat.add_sub_cancel' hle.1) (Nat.add_sub_cancel' hle.2)) (va_cwA 0 hts (zU_in q422 q424 q428 q429 q95 q430) rfl rfl rfl (hX.N q423 rfl) (by decide +kernel) ⟨Nat.le_of_ble_eq_true rfl, Nat.le_of_ble_eq_true rfl⟩) (z_preV hX hS hH (zob_o hf3) rfl) rfl rfl hl.1 rfl (lv_room (Nat.le_of_ble_eq_true rfl)) dX3_climbs_43 ⟨hc1, hs1⟩) hS (fun q _ hq => hq) (fun q hq => hq) (fun r u t H1 locs ht hvm hw hB hz hk hS => ?_)
        obtain ⟨hw1, hw2⟩ := Prod.mk.inj hw.symm; subst hw1; subst hw2
        have hH : zH D cA ζ s2 H1 := z_at ht.symm hB
        have hcs : s.heap.size + (cells + (s2.1 - τ.1)) = s2.1 := by omega
        have hss : sl0 + (slots + (s2.2.1 - τ.2.1)) = s2.2.1 := by omega
        replace hcM := And.intro hc1 hs1
        generalize cells + (s2.1 - τ.1) = cells at hcs hcM ⊢; generalize slots + (s2.2.1 - τ.2.1) = slots at hss hcM ⊢
        clear hB hk hz hvm ht hle hck hc1 hs1; generalize H1 = H at hH hS ⊢
        obtain ⟨hM1, hS1⟩ : cells = M ∧ slots = S := by have hq := congrArg Prod.snd (Option.some.inj hf); rw [← hq] at hM hS0; have hM : s.heap.size + M = s2.1 := hM; have hS0 : sl0 + S = s2.2.1 := hS0; omega
        refine W.widen (k := M) (n := S) (Nat.le_of_eq hM1) (Nat.le_of_eq hS1) ?_
        exact W.lret (v := x1) hx hb hr (fun t ht hW => ⟨⟨x1, s2, rfl, Option.some.inj hf, z_at ht hH⟩, hS.F ht⟩) hS.2.2 dX3_climbs_46
      · have hf := dz_f c4 hf
        refine lv_lload_n hx hb dX3_climbs_7 rfl (lv_at hl 1 rfl) ?_
        refine lv_iload_n hx hb dX3_climbs_8 rfl (lv_at hl 2 rfl) ?_
        refine lv_lshr hx hb dX3_climbs_9 (rfl : _ = v1 >>> (Int32.toInt64 v3 &&& 63)) ?_
        refine lv_lconst (v := 0) hx hb dX3_climbs_10 rfl ?_
        refine W.lcmp hx hb dX3_climbs_11 ?_
        refine lv_if_ne (tgt := 18) hx hb dX3_climbs_12 (by decide) (fun c12 => ?_) (fun c12 => ?_)
        · have c12 : ¬ (v1 >>> (Int32.toInt64 v3 &&& 63)) = (0 : Int64) := fun hq => c12 ((lg_cmp_eq _ _).mpr hq)
          have hf := dz_f c12 hf
          refine lv_aload_n hx hb dX3_climbs_18 rfl (lv_at hl 0 rfl) ?_
          obtain ⟨f6, hf6, hf⟩ := dz_bo hf
          obtain ⟨x4, s5, hx4, hle, hck, hf⟩ := zcl_o hf
          have hc1 : cells + (s5.1 - τ.1) ≤ M := by omega
          have hs1 : slots + (s5.2.1 - τ.2.1) ≤ S := by omega
          refine va_callv (va_runU (x := ⟨"PrimeProofs$Climber", "doubles", "()V"⟩) (owner := "PrimeProofs$Climber") (As := []) (rest := []) ⟨hx, hb, hml, hown, hts⟩ (mtX5_doubles l D cA ζ τ v0 K (x4, s5) hx4 (s5.1 - τ.1) (s5.2.1 - τ.2.1) (Nat.add_sub_cancel' hle.1) (Nat.add_sub_cancel' hle.2)) (va_cwA 0 hts (zU_in q395 q397 q401 q402 q95 q403) rfl rfl rfl (hX.N q396 rfl) (by decide +kernel) ⟨Nat.le_of_ble_eq_true rfl, Nat.le_of_ble_eq_true rfl⟩) (z_preV hX hS hH (zob_o hf6) rfl) rfl rfl hl.1 rfl (lv_room (Nat.le_of_ble_eq_true rfl)) dX3_climbs_19 ⟨hc1, hs1⟩) hS (fun q _ hq => hq) (fun q hq => hq) (fun u t H1 locs ht hvm hw hB hz hk hS => ?_)
          obtain ⟨-, hw2⟩ := Prod.mk.inj hw.symm; subst hw2
          have hH : zH D cA ζ s5 H1 := z_at ht.symm hB
          have hcs : s.heap.size + (cells + (s5.1 - τ.1)) = s5.1 := by omega
          have hss : sl0 + (slots + (s5.2.1 - τ.2.1)) = s5.2.1 := by omega
          replace hcM := And.intro hc1 hs1
          generalize cells + (s5.1 - τ.1) = cells at hcs hcM ⊢; generalize slots + (s5.2.1 - τ.2.1) = slots at hss hcM ⊢
          clear hB hk hz hvm ht hle hck hc1 hs1; generalize H1 = H at hH hS ⊢
          refine lv_lload_n hx hb dX3_climbs_22 rfl (lv_at hl 1 rfl) ?_
          refine lv_iload_n hx hb dX3_climbs_23 rfl (lv_at hl 2 rfl) ?_
          refine lv_lshr hx hb dX3_climbs_24 (rfl : _ = v1 >>> (Int32.toInt64 v3 &&& 63)) ?_
          refine lv_lconst (v := 1) hx hb dX3_climbs_25 rfl ?_
          refine lv_land hx hb dX3_climbs_26 ?_
          refine lv_lconst (v := 1) hx hb dX3_climbs_27 rfl ?_
          refine W.lcmp hx hb dX3_climbs_28 ?_
          refine lv_if_ne (tgt := 36) hx hb dX3_climbs_29 (by decide) (fun c29 => ?_) (fun c29 => ?_)
          · have c29 : ¬ ((v1 >>> (Int32.toInt64 v3 &&& 63)) &&& 1) = (1 : Int64) := fun hq => c29 ((lg_cmp_eq _ _).mpr hq)
            have hf := dz_f c29 hf
            exact ih.2 v0 v1 v3 s5 H locs cells slots hH hS hcs hss hcM ls (lv_sub hl [0, 1, 2] rfl) hf
          · have c29 : ((v1 >>> (Int32.toInt64 v3 &&& 63)) &&& 1) = (1 : Int64) := (lg_cmp_eq _ _).mp c29
            have hf := dz_t c29 hf
            refine lv_aload_n hx hb dX3_climbs_32 rfl (lv_at hl 0 rfl) ?_
            obtain ⟨f9, hf9, hf⟩ := dz_bo hf
            obtain ⟨x7, s8, hx7, hle, hck, hf⟩ := zcl_o hf
            have hc1 : cells + (s8.1 - s5.1) ≤ M := by omega
            have hs1 : slots + (s8.2.1 - s5.2.1) ≤ S := by omega
            refine va_callv (va_runU (x := ⟨"PrimeProofs$Climber", "goesOn", "()V"⟩) (owner := "PrimeProofs$Climber") (As := []) (rest := []) ⟨hx, hb, hml, hown, hts⟩ (mtX5_goesOn l D cA ζ s5 v0 K (x7, s8) hx7 (s8.1 - s5.1) (s8.2.1 - s5.2.1) (Nat.add_sub_cancel' hle.1) (Nat.add_sub_cancel' hle.2)) (va_cwA 0 hts (zU_in q413 q415 q419 q420 q95 q421) rfl rfl rfl (hX.N q414 rfl) (by decide +kernel) ⟨Nat.le_of_ble_eq_true rfl, Nat.le_of_ble_eq_true rfl⟩) (z_preV hX hS hH (zob_o hf9) rfl) rfl rfl hl.1 rfl (lv_room (Nat.le_of_ble_eq_true rfl)) dX3_climbs_33 ⟨hc1, hs1⟩) hS (fun q _ hq => hq) (fun q hq => hq) (fun u t H1 locs ht hvm hw hB hz hk hS => ?_)
            obtain ⟨-, hw2⟩ := Prod.mk.inj hw.symm; subst hw2
            have hH : zH D cA ζ s8 H1 := z_at ht.symm hB
            have hcs : s.heap.size + (cells + (s8.1 - s5.1)) = s8.1 := by omega
            have hss : sl0 + (slots + (s8.2.1 - s5.2.1)) = s8.2.1 := by omega
            replace hcM := And.intro hc1 hs1
            generalize cells + (s8.1 - s5.1) = cells at hcs hcM ⊢; generalize slots + (s8.2.1 - s5.2.1) = slots at hss hcM ⊢
            clear hB hk hz hvm ht hle hck hc1 hs1; generalize H1 = H at hH hS ⊢
            exact ih.2 v0 v1 v3 s8 H locs cells slots hH hS hcs hss hcM ls (lv_sub hl [0, 1, 2] rfl) hf
        · have c12 : (v1 >>> (Int32.toInt64 v3 &&& 63)) = (0 : Int64) := (lg_cmp_eq _ _).mp c12
          have hf := dz_t c12 hf
          refine lv_goto (tgt := 36) hx hb dX3_climbs_15 (by decide) ?_
          exact ih.2 v0 v1 v3 τ H locs cells slots hH hS hcs hss hcM ls (lv_sub hl [0, 1, 2] rfl) hf
    · intro v0 v1 v3 τ H locs cells slots hH hS hcs hss hcM ls hl hf
      have hf : (dz_l (v3 + (-1)) fun x1 => (lfX3_climbs_4 K ζ k).1 v0 v1 x1 τ : Option (Int64 × pH)) = some res := hf
      obtain ⟨x1, e_x1, hf⟩ := dz_lo hf
      refine lv_iinc (v := x1) (lv' := [(3, .int x1), (0, .ref v0), (1, .long v1)]) hx hb dX3_climbs_36 hl (k := 2) rfl (by rw [e_x1]; rfl) (by decide) rfl (fun ls hl => ?_)
      refine lv_goto (tgt := 3) hx hb dX3_climbs_39 (by decide) ?_
      exact ih.1 v0 v1 x1 τ H locs cells slots hH hS hcs hss hcM ls (lv_sub hl [1, 2, 0] rfl) hf
set_option maxHeartbeats 4000000 in
set_option maxRecDepth 100000 in
theorem mtX3_climbs_4 (l : Launch) (D : va_G) (cA : Nat → ClassId) (ζ : pZ) (τ : pH) (h : Nat) (a0 : Int64) (K : Nat) (res : (Int64 × pH)) (hf : fnX3_climbs_4 K ζ h a0 τ = some res) (M S : Nat) (hM : τ.1 + M = res.2.1) (hS0 : τ.2.1 + S = res.2.2.1) : Met l yX3_climbs (ws_ yX3_climbs cX3_climbs 4 (some .long)) ({ frames := 3, cells := M, slots := S, locals := 69 }) (zPc D cA ζ τ [.ref h, .long a0]) (zQl D cA ζ res) M S (zA ζ) := by
  refine Met.ofW (cc := cX3_climbs) (maxL := 4) (ret := some .long) (by decide +kernel) rfl ?_
  intro p e s m args below meth c s₁ B hml hv
  obtain ⟨rfl, hX, hH⟩ := hv
  have hx := B.exec
  have hb := B.bytes
  have hr := B.returns
  have hts := atoms_spec (ws := ws_ yX3_climbs cX3_climbs 4 (some .long)) B.pre
  have hts : ∀ w ∈ lw_all, w.before _ s = true := fun w h => hts w (List.mem_cons_of_mem _ h)
  have hown : s.vm.findClass RX3 = some m.cls := findClass_of_methodNamed B.named
  have hlocks := B.notSynchronized
  have hM : s.heap.size + M = res.2.1 := by rw [hH.1]; exact hM
  have hcs : s.heap.size + 0 = τ.1 := hH.1
  have hss : τ.2.1 + 0 = τ.2.1 := rfl
  generalize hsl0 : τ.2.1 = sl0 at hS0 hss
  have hss : sl0 + 0 = τ.2.1 := by rw [hsl0]; rfl
  have hS : va_S (zA ζ) s.heap s.heap [] := va_S.rf
  generalize hHe : s.heap = H at hH hS ⊢
  have hS : va_S (zA ζ) s.heap H [] := by rw [hHe]; exact hS
  generalize ([] : List Loc) = locs at hS ⊢
  have hl := lv_entry ([.ref h, .long a0]) (n := 4) (Nat.le_of_ble_eq_true rfl)
  rw [lg_entry_eq]
  generalize (lg_sl ([.ref h, .long a0]) ++ List.replicate (4 - (lg_sl ([.ref h, .long a0])).length) Slot.unset).toArray = ls at hl ⊢
  have hl : lv_has ls 4 [(0, .ref h), (1, .long a0)] := hl
  have hf : ((lfX3_climbs_4 K ζ K).1 h a0 62 τ : Option (Int64 × pH)) = some res := hf
  refine z_gen (fun cells slots hc0 hs0 => ?_)
  have hcs : s.heap.size + cells = τ.1 := by rw [hc0]; exact hcs
  have hss : sl0 + slots = τ.2.1 := by rw [hs0]; exact hss
  have hcM : cells ≤ M ∧ slots ≤ S := by rw [hc0, hs0]; exact ⟨Nat.zero_le _, Nat.zero_le _⟩
  clear hc0 hs0
  have ih := wlX3_climbs_4 (l := l) (e := e) (below := below) (D := D) (cA := cA) hX K res M S sl0 hM hS0 h a0 hx hb hr hlocks hml hown hts K
  refine lv_bipush (v := 62) hx hb dX3_climbs_0 (by decide) ?_
  refine lv_istore_n (lv' := [(3, .int 62), (0, .ref h), (1, .long a0)]) hx hb dX3_climbs_2 rfl hl (by decide) rfl (fun ls hl => ?_)
  exact ih.1 h a0 62 τ H locs cells slots hH hS hcs hss hcM ls (lv_sub hl [1, 2, 0] rfl) hf

noncomputable def fnX0_sequenceOf (K : Nat) (ζ : pZ) (a0 : Int64) (a1 : Int64) (a2 : Int64) (a3 : Int64) (τ : pH) : Option (Int64 × pH) := dz_l τ.1 fun r1 => dz_l (znw τ 5 (.inr (4, [.long 0, .long 0, .long 0, .long 0, .long 0]))) fun s2 => zck s2 (zcl s2 (fnX5_init K ζ r1 a3 a0 a1 s2) fun _ s4 => dz_b (zob ζ s4 r1 4) fun f7 => zcl s4 (fnX3_climbs_4 K ζ r1 a2 s4) fun x5 s6 => some (x5, s6))
set_option maxHeartbeats 4000000 in
set_option maxRecDepth 100000 in
theorem mtX0_sequenceOf (l : Launch) (D : va_G) (cA : Nat → ClassId) (ζ : pZ) (τ : pH) (a0 : Int64) (a1 : Int64) (a2 : Int64) (a3 : Int64) (K : Nat) (res : (Int64 × pH)) (hf : fnX0_sequenceOf K ζ a0 a1 a2 a3 τ = some res) (M S : Nat) (hM : τ.1 + M = res.2.1) (hS0 : τ.2.1 + S = res.2.2.1) : Met l yX0_sequenceOf (ws_ yX0_sequenceOf cX0_sequenceOf 8 (some .long)) ({ frames := 4, cells := M, slots := S, locals := 92 }) (zPc D cA ζ τ [.long a0, .long a1, .long a2, .long a3]) (zQl D cA ζ res) M S (zA ζ) := by
  refine Met.ofW (cc := cX0_sequenceOf) (maxL := 8) (ret := some .long) (by decide +kernel) rfl ?_
  intro p e s m args below meth c s₁ B hml hv
  obtain ⟨rfl, hX, hH⟩ := hv
  have hx := B.exec
  have hb := B.bytes
  have hr := B.returns
  have hts := atoms_spec (ws := ws_ yX0_sequenceOf cX0_sequenceOf 8 (some .long)) B.pre
  have hts : ∀ w ∈ lw_all, w.before _ s = true := fun w h => hts w (List.mem_cons_of_mem _ h)
  have hown : s.vm.findClass RX0 = some m.cls := findClass_of_methodNamed B.named
  have hlocks := B.notSynchronized
  have hM : s.heap.size + M = res.2.1 := by rw [hH.1]; exact hM
  have hcs : s.heap.size + 0 = τ.1 := hH.1
  have hss : τ.2.1 + 0 = τ.2.1 := rfl
  generalize hsl0 : τ.2.1 = sl0 at hS0 hss
  have hss : sl0 + 0 = τ.2.1 := by rw [hsl0]; rfl
  have hS : va_S (zA ζ) s.heap s.heap [] := va_S.rf
  generalize hHe : s.heap = H at hH hS ⊢
  have hS : va_S (zA ζ) s.heap H [] := by rw [hHe]; exact hS
  generalize ([] : List Loc) = locs at hS ⊢
  have hl := lv_entry ([.long a0, .long a1, .long a2, .long a3]) (n := 8) (Nat.le_of_ble_eq_true rfl)
  rw [lg_entry_eq]
  generalize (lg_sl ([.long a0, .long a1, .long a2, .long a3]) ++ List.replicate (8 - (lg_sl ([.long a0, .long a1, .long a2, .long a3])).length) Slot.unset).toArray = ls at hl ⊢
  have hl : lv_has ls 8 [(0, .long a0), (2, .long a1), (4, .long a2), (6, .long a3)] := hl
  have hf : (dz_l τ.1 fun r1 => dz_l (znw τ 5 (.inr (4, [.long 0, .long 0, .long 0, .long 0, .long 0]))) fun s2 => zck s2 (zcl s2 (fnX5_init K ζ r1 a3 a0 a1 s2) fun _ s4 => dz_b (zob ζ s4 r1 4) fun f7 => zcl s4 (fnX3_climbs_4 K ζ r1 a2 s4) fun x5 s6 => some (x5, s6)) : Option (Int64 × pH)) = some res := hf
  refine z_gen (fun cells slots hc0 hs0 => ?_)
  have hcs : s.heap.size + cells = τ.1 := by rw [hc0]; exact hcs
  have hss : sl0 + slots = τ.2.1 := by rw [hs0]; exact hss
  have hcM : cells ≤ M ∧ slots ≤ S := by rw [hc0, hs0]; exact ⟨Nat.zero_le _, Nat.zero_le _⟩
  clear hc0 hs0
  obtain ⟨r1, e_r1, hf⟩ := dz_lo hf
  obtain ⟨s2, e_s2, hf⟩ := dz_lo hf
  obtain ⟨hck, hf⟩ := zck_o hf
  have hc1 : cells + 1 ≤ M := by have hq := hck.1; rw [e_s2] at hq; have hq : τ.1 + 1 ≤ res.2.1 := hq; omega
  have hs1 : slots + 5 ≤ S := by have hq := hck.2; rw [e_s2] at hq; have hq : τ.2.1 + 5 ≤ res.2.2.1 := hq; omega
  refine va_new (ci := 4) (fs := [.long 0, .long 0, .long 0, .long 0, .long 0]) (C := RX5) (T := TX5) (N := 5) hx hb hts in_X5 tyX5 tyX5_ok hown (hts _ q471) (hts _ q408) (hts _ q95) hX.K hH.2.2 zw_D hS hX.hA rfl zdf_X5 hc1 hs1 dX0_sequenceOf_0 (fun q H1 hP1 hD1 hS => dz_size (fun hz => ?_))
  obtain ⟨hq, hH⟩ := zH_new (n := 5) (x := (.inr (4, [.long 0, .long 0, .long 0, .long 0, .long 0]))) hH hcs hP1 hD1 hz
  rw [← e_s2] at hH; obtain rfl : r1 = q := e_r1.trans hq.symm
  have hcs : s.heap.size + (cells + 1) = s2.1 := by rw [e_s2]; show _ = τ.1 + 1; omega
  have hss : sl0 + (slots + 5) = s2.2.1 := by rw [e_s2]; show _ = τ.2.1 + 5; omega
  replace hcM := And.intro hc1 hs1
  generalize cells + 1 = cells at hcs hcM ⊢; generalize slots + 5 = slots at hss hcM ⊢
  clear hP1 hD1 hz hq hck hc1 hs1; generalize H1 = H at hH hS ⊢
  refine lv_dup hx hb dX0_sequenceOf_3 rfl ?_
  refine lv_lload hx hb dX0_sequenceOf_4 (lv_at hl 3 rfl) ?_
  refine lv_lload_n hx hb dX0_sequenceOf_6 rfl (lv_at hl 0 rfl) ?_
  refine lv_lload_n hx hb dX0_sequenceOf_7 rfl (lv_at hl 1 rfl) ?_
  obtain ⟨x3, s4, hx3, hle, hck, hf⟩ := zcl_o hf
  have hc1 : cells + (s4.1 - s2.1) ≤ M := by omega
  have hs1 : slots + (s4.2.1 - s2.2.1) ≤ S := by omega
  refine va_callv (va_runI (As := [.long a3, .long a0, .long a1]) (rest := [.ref r1]) ⟨hx, hb, hml, hown, hts⟩ (mtX5_init l D cA ζ s2 r1 a3 a0 a1 K (x3, s4) hx3 (s4.1 - s2.1) (s4.2.1 - s2.2.1) (Nat.add_sub_cancel' hle.1) (Nat.add_sub_cancel' hle.2)) (cwI 3 hts (lw_meth q474) rfl rfl rfl (hts _ q95) (hts _ q472) (hts _ q473) rfl (by decide +kernel) ⟨Nat.le_of_ble_eq_true rfl, Nat.le_of_ble_eq_true rfl⟩) (z_preS hX hS hH) rfl rfl hl.1 rfl (lv_room (Nat.le_of_ble_eq_true rfl)) dX0_sequenceOf_8 ⟨hc1, hs1⟩) hS (fun q _ hq => hq) (fun q hq => hq) (fun u t H1 locs ht hvm hw hB hz hk hS => ?_)
  obtain ⟨-, hw2⟩ := Prod.mk.inj hw.symm; subst hw2
  have hH : zH D cA ζ s4 H1 := z_at ht.symm hB
  have hcs : s.heap.size + (cells + (s4.1 - s2.1)) = s4.1 := by omega
  have hss : sl0 + (slots + (s4.2.1 - s2.2.1)) = s4.2.1 := by omega
  replace hcM := And.intro hc1 hs1
  generalize cells + (s4.1 - s2.1) = cells at hcs hcM ⊢; generalize slots + (s4.2.1 - s2.2.1) = slots at hss hcM ⊢
  clear hB hk hz hvm ht hle hck hc1 hs1; generalize H1 = H at hH hS ⊢
  refine lv_lload hx hb dX0_sequenceOf_11 (lv_at hl 2 rfl) ?_
  obtain ⟨f7, hf7, hf⟩ := dz_bo hf
  obtain ⟨x5, s6, hx5, hle, hck, hf⟩ := zcl_o hf
  have hc1 : cells + (s6.1 - s4.1) ≤ M := by omega
  have hs1 : slots + (s6.2.1 - s4.2.1) ≤ S := by omega
  refine va_calll (va_runU (x := ⟨"PrimeProofs$1Sequence", "climbs", "(J)J"⟩) (owner := "PrimeProofs$Climber") (As := [.long a2]) (rest := []) ⟨hx, hb, hml, hown, hts⟩ (mtX3_climbs_4 l D cA ζ s4 r1 a2 K (x5, s6) hx5 (s6.1 - s4.1) (s6.2.1 - s4.2.1) (Nat.add_sub_cancel' hle.1) (Nat.add_sub_cancel' hle.2)) (va_cwA 1 hts (zU_in q492 q493 q494 q393 q93 q394) rfl rfl rfl (hX.N q391 rfl) (by decide +kernel) ⟨Nat.le_of_ble_eq_true rfl, Nat.le_of_ble_eq_true rfl⟩) (z_preV hX hS hH (zob_o hf7) rfl) rfl rfl hl.1 rfl (lv_room (Nat.le_of_ble_eq_true rfl)) dX0_sequenceOf_13 ⟨hc1, hs1⟩) hS (fun q _ hq => hq) (fun q hq => hq) (fun r u t H1 locs ht hvm hw hB hz hk hS => ?_)
  obtain ⟨hw1, hw2⟩ := Prod.mk.inj hw.symm; subst hw1; subst hw2
  have hH : zH D cA ζ s6 H1 := z_at ht.symm hB
  have hcs : s.heap.size + (cells + (s6.1 - s4.1)) = s6.1 := by omega
  have hss : sl0 + (slots + (s6.2.1 - s4.2.1)) = s6.2.1 := by omega
  replace hcM := And.intro hc1 hs1
  generalize cells + (s6.1 - s4.1) = cells at hcs hcM ⊢; generalize slots + (s6.2.1 - s4.2.1) = slots at hss hcM ⊢
  clear hB hk hz hvm ht hle hck hc1 hs1; generalize H1 = H at hH hS ⊢
  obtain ⟨hM1, hS1⟩ : cells = M ∧ slots = S := by have hq := congrArg Prod.snd (Option.some.inj hf); rw [← hq] at hM hS0; have hM : s.heap.size + M = s6.1 := hM; have hS0 : sl0 + S = s6.2.1 := hS0; omega
  refine W.widen (k := M) (n := S) (Nat.le_of_eq hM1) (Nat.le_of_eq hS1) ?_
  exact W.lret (v := x5) hx hb hr (fun t ht hW => ⟨⟨x5, s6, rfl, Option.some.inj hf, z_at ht hH⟩, hS.F ht⟩) hS.2.2 dX0_sequenceOf_16

noncomputable def fnX0_common : Nat → Int64 → Int64 → Option Int64 := Nat.rec (motive := fun _ => Int64 → Int64 → Option Int64) (fun _ _ => none) (fun _ F a0 a1 => if a0 = (0 : Int64) then (some a1) else (if ¬ a0 = 0 then (dz_l (a1 - a1 / a0 * a0) fun x1 => dz_b (F x1 a0) fun x2 => some x2) else none))
set_option maxHeartbeats 4000000 in
set_option maxRecDepth 100000 in
theorem mtX0_common (l : Launch) (a0 a1 : Int64) (K : Nat) (res : Int64) (hf : fnX0_common K a0 a1 = some res) : Met l yX0_common (ws_ yX0_common cX0_common 4 (some .long)) ({ frames := K, cells := 0, slots := 0, locals := 23 * K }) (dz_P [.long a0, .long a1]) (dz_Ql res) 0 0 (fun _ => False) := by
  induction K generalizing a0 a1 res with
  | zero => cases hf
  | succ K ih =>
    have hf : (if a0 = (0 : Int64) then (some a1) else (if ¬ a0 = 0 then (dz_l (a1 - a1 / a0 * a0) fun x1 => dz_b (fnX0_common K x1 a0) fun x2 => some x2) else none) : Option Int64) = some res := hf
    refine Met.ofW (cc := cX0_common) (maxL := 4) (ret := some .long) (by decide) rfl ?_
    intro p e s m args below meth c s₁ B hml hv
    obtain ⟨rfl, -⟩ := hv
    have hx := B.exec
    have hb := B.bytes
    have hr := B.returns
    have hts := atoms_spec (ws := ws_ yX0_common cX0_common 4 (some .long)) B.pre
    have hts : ∀ w ∈ lw_all, w.before _ s = true := fun w h => hts w (List.mem_cons_of_mem _ h)
    have hown : s.vm.findClass RX0 = some m.cls := findClass_of_methodNamed B.named
    have hlocks := B.notSynchronized
    have hS : va_S (fun _ => False) s.heap s.heap [] := va_S.rf
    have hl := lv_entry ([.long a0, .long a1]) (n := 4) (Nat.le_of_ble_eq_true rfl)
    rw [lg_entry_eq]
    generalize (lg_sl ([.long a0, .long a1]) ++ List.replicate (4 - (lg_sl ([.long a0, .long a1])).length) Slot.unset).toArray = ls at hl ⊢
    have hl : lv_has ls 4 [(0, .long a0), (2, .long a1)] := hl
    refine lv_lload_n hx hb dX0_common_0 rfl (lv_at hl 0 rfl) ?_
    refine lv_lconst (v := 0) hx hb dX0_common_1 rfl ?_
    refine W.lcmp hx hb dX0_common_2 ?_
    refine lv_if_ne (tgt := 10) hx hb dX0_common_3 (by decide) (fun c3 => ?_) (fun c3 => ?_)
    · have c3 : ¬ a0 = 0 := fun hq => c3 ((lg_cmp_eq _ _).mpr hq)
      have hf := dz_f c3 hf
      refine lv_lload_n hx hb dX0_common_10 rfl (lv_at hl 1 rfl) ?_
      refine lv_lload_n hx hb dX0_common_11 rfl (lv_at hl 0 rfl) ?_
      obtain ⟨g1, hf⟩ := dz_go hf
      refine lv_lrem hx hb dX0_common_12 g1 ?_
      refine lv_topl (fun x1 e1 => ?_)
      have hf := dz_ls e1 hf
      refine lv_lload_n hx hb dX0_common_13 rfl (lv_at hl 0 rfl) ?_
      obtain ⟨x2, hx2, hf⟩ := dz_bo hf
      refine va_calll (va_runS (As := [.long x1, .long a0]) (rest := []) ⟨hx, hb, hml, hown, hts⟩ (ih x1 a0 x2 hx2) (va_cwS 2 hts (lw_S q349 q347 q84 q348) rfl rfl rfl (by decide +kernel) ⟨Nat.le_refl _, (by show 8 + (4 + 11) + 23 * K ≤ 23 * (K + 1); omega)⟩) ⟨fun a U g mk q => q, fun U hU hW => ⟨rfl, trivial⟩⟩ rfl rfl hl.1 rfl (lv_room (Nat.le_of_ble_eq_true rfl)) dX0_common_14 ⟨Nat.le_refl _, Nat.le_refl _⟩) hS (fun q _ hq => hq.elim) (fun q hq => hq.elim) (fun r u t H1 locs ht hvm hw hB hz hk hS => ?_)
      replace hw := hw.symm; subst hw
      exact W.lret (v := x2) hx hb hr (fun t ht hW => ⟨⟨x2, (), rfl, Option.some.inj hf, trivial⟩, hS.F ht⟩) hS.2.2 dX0_common_17
    · have c3 : a0 = 0 := (lg_cmp_eq _ _).mp c3
      have hf := dz_t c3 hf
      refine lv_lload_n hx hb dX0_common_6 rfl (lv_at hl 1 rfl) ?_
      refine lv_goto (tgt := 17) hx hb dX0_common_7 (by decide) ?_
      exact W.lret (v := a1) hx hb hr (fun t ht hW => ⟨⟨a1, (), rfl, Option.some.inj hf, trivial⟩, hS.F ht⟩) hS.2.2 dX0_common_17

noncomputable def lfX0_jacobiOf (K : Nat) : Nat → (Int64 → Int64 → Int32 → Option Int32) × (Int64 → Int64 → Int32 → Option Int32) × (Int64 → Int64 → Int32 → Option Int32) × (Int64 → Int64 → Int32 → Option Int32) := Nat.rec (motive := fun _ => (Int64 → Int64 → Int32 → Option Int32) × (Int64 → Int64 → Int32 → Option Int32) × (Int64 → Int64 → Int32 → Option Int32) × (Int64 → Int64 → Int32 → Option Int32)) ((fun _ _ _ => none), (fun _ _ _ => none), (fun _ _ _ => none), (fun _ _ _ => none)) (fun _ G => ((fun v4 v6 v8 => if v4 = (0 : Int64) then (if v6 = (1 : Int64) then (some v8) else (some 0)) else (G.2.1 v4 v6 v8)), (fun v4 v6 v8 => dz_l (v4 - v4 / 2 * 2) fun x1 => if x1 = (0 : Int64) then (dz_l (v4 / 2) fun x5 => dz_l (v6 - v6 / 8 * 8) fun x6 => if x6 = (3 : Int64) then (G.2.2.1 x5 v6 v8) else (dz_l (v6 - v6 / 8 * 8) fun x7 => if x7 = (5 : Int64) then (G.2.2.1 x5 v6 v8) else (G.2.1 x5 v6 v8))) else (dz_l (v6 - v6 / 4 * 4) fun x2 => if x2 = (3 : Int64) then (dz_l (v4 - v4 / 4 * 4) fun x3 => if x3 = (3 : Int64) then (dz_l (-v8) fun x4 => G.2.2.2 v6 v4 x4) else (G.2.2.2 v6 v4 v8)) else (G.2.2.2 v6 v4 v8))), (fun v4 v6 v8 => dz_l (-v8) fun x1 => G.2.1 v4 v6 x1), (fun v4 v6 v8 => if ¬ v6 = 0 then (dz_l (v4 - v4 / v6 * v6) fun x2 => G.1 x2 v6 v8) else none)))
noncomputable def fnX0_jacobiOf (K : Nat) (a0 : Int64) (a1 : Int64) : Option Int32 := dz_b (fnJ5_floorMod K a0 a1) fun x1 => (lfX0_jacobiOf K K).1 x1 a1 1
set_option maxHeartbeats 4000000 in
set_option maxRecDepth 100000 in
theorem wlX0_jacobiOf {p : Program} {l : Launch} {e : Env} {s : State} {m : MethodId} {below : List Frame} {meth : Method} {c : Code}  (K : Nat) (res : Int32) (a0 : Int64) (a1 : Int64) (hx : p.tables.exec = Jvm.exec) (hb : c.code = cX0_jacobiOf) (hr : meth.sig.returnType = some .int) (hlocks : meth.locks = false) (hml : c.maxLocals = 11) (hown : s.vm.findClass RX0 = some m.cls) (hts : ∀ w ∈ lw_all, w.before ([.long a0, .long a1] : List Value).toArray s = true) : ∀ k : Nat, (∀ (v4 : Int64) (v6 : Int64) (v8 : Int32) (H : Heap) (locs : List Loc), va_S (fun _ => False) s.heap H locs → ∀ (ls : Array Slot), lv_has ls 11 [(4, .long v4), (6, .long v6), (8, .int v8)] → (lfX0_jacobiOf K k).1 v4 v6 v8 = some res → W p l e (headSpec (ws_ yX0_jacobiOf cX0_jacobiOf 11 (some .int)) ({ frames := 1, cells := 0, slots := 0, locals := 25 })).room s m ([.long a0, .long a1] : List Value).toArray below meth c H locs 0 0 (MQ below (dz_Qi res) ([.long a0, .long a1] : List Value).toArray s 0 0 (fun _ => False)) (F0 m 13 ls [])) ∧ (∀ (v4 : Int64) (v6 : Int64) (v8 : Int32) (H : Heap) (locs : List Loc), va_S (fun _ => False) s.heap H locs → ∀ (ls : Array Slot), lv_has ls 11 [(4, .long v4), (6, .long v6), (8, .int v8)] → (lfX0_jacobiOf K k).2.1 v4 v6 v8 = some res → W p l e (headSpec (ws_ yX0_jacobiOf cX0_jacobiOf 11 (some .int)) ({ frames := 1, cells := 0, slots := 0, locals := 25 })).room s m ([.long a0, .long a1] : List Value).toArray below meth c H locs 0 0 (MQ below (dz_Qi res) ([.long a0, .long a1] : List Value).toArray s 0 0 (fun _ => False)) (F0 m 20 ls [])) ∧ (∀ (v4 : Int64) (v6 : Int64) (v8 : Int32) (H : Heap) (locs : List Loc), va_S (fun _ => False) s.heap H locs → ∀ (ls : Array Slot), lv_has ls 11 [(4, .long v4), (6, .long v6), (8, .int v8)] → (lfX0_jacobiOf K k).2.2.1 v4 v6 v8 = some res → W p l e (headSpec (ws_ yX0_jacobiOf cX0_jacobiOf 11 (some .int)) ({ frames := 1, cells := 0, slots := 0, locals := 25 })).room s m ([.long a0, .long a1] : List Value).toArray below meth c H locs 0 0 (MQ below (dz_Qi res) ([.long a0, .long a1] : List Value).toArray s 0 0 (fun _ => False)) (F0 m 65 ls [])) ∧ (∀ (v4 : Int64) (v6 : Int64) (v8 : Int32) (H : Heap) (locs : List Loc), va_S (fun _ => False) s.heap H locs → ∀ (ls : Array Slot), lv_has ls 11 [(4, .long v4), (6, .long v6), (8, .int v8)] → (lfX0_jacobiOf K k).2.2.2 v4 v6 v8 = some res → W p l e (headSpec (ws_ yX0_jacobiOf cX0_jacobiOf 11 (some .int)) ({ frames := 1, cells := 0, slots := 0, locals := 25 })).room s m ([.long a0, .long a1] : List Value).toArray below meth c H locs 0 0 (MQ below (dz_Qi res) ([.long a0, .long a1] : List Value).toArray s 0 0 (fun _ => False)) (F0 m 116 ls [])) := by
  intro k
  induction k with
  | zero =>
    exact ⟨fun _ _ _ _ _ _ _ _ hf => (by cases hf), fun _ _ _ _ _ _ _ _ hf => (by cases hf), fun _ _ _ _ _ _ _ _ hf => (by cases hf), fun _ _ _ _ _ _ _ _ hf => (by cases hf)⟩
  | succ k ih =>
    refine ⟨?_, ?_, ?_, ?_⟩
    · intro v4 v6 v8 H locs hS ls hl hf
      have hf : (if v4 = (0 : Int64) then (if v6 = (1 : Int64) then (some v8) else (some 0)) else ((lfX0_jacobiOf K k).2.1 v4 v6 v8) : Option Int32) = some res := hf
      refine lv_lload hx hb dX0_jacobiOf_13 (lv_at hl 0 rfl) ?_
      refine lv_lconst (v := 0) hx hb dX0_jacobiOf_15 rfl ?_
      refine W.lcmp hx hb dX0_jacobiOf_16 ?_
      refine lv_if_eq (tgt := 126) hx hb dX0_jacobiOf_17 (by decide) (fun c17 => ?_) (fun c17 => ?_)
      · have c17 : v4 = (0 : Int64) := (lg_cmp_eq _ _).mp c17
        have hf := dz_t c17 hf
        refine lv_lload hx hb dX0_jacobiOf_126 (lv_at hl 1 rfl) ?_
        refine lv_lconst (v := 1) hx hb dX0_jacobiOf_128 rfl ?_
        refine W.lcmp hx hb dX0_jacobiOf_129 ?_
        refine lv_if_ne (tgt := 138) hx hb dX0_jacobiOf_130 (by decide) (fun c130 => ?_) (fun c130 => ?_)
        · have c130 : ¬ v6 = (1 : Int64) := fun hq => c130 ((lg_cmp_eq _ _).mpr hq)
          have hf := dz_f c130 hf
          refine lv_iconst (v := 0) hx hb dX0_jacobiOf_138 (by decide) ?_
          exact W.iret (v := 0) hx hb hr (fun t ht hW => ⟨⟨0, (), rfl, Option.some.inj hf, trivial⟩, hS.F ht⟩) hS.2.2 dX0_jacobiOf_139
        · have c130 : v6 = (1 : Int64) := (lg_cmp_eq _ _).mp c130
          have hf := dz_t c130 hf
          refine lv_iload hx hb dX0_jacobiOf_133 (lv_at hl 2 rfl) ?_
          refine lv_goto (tgt := 139) hx hb dX0_jacobiOf_135 (by decide) ?_
          exact W.iret (v := v8) hx hb hr (fun t ht hW => ⟨⟨v8, (), rfl, Option.some.inj hf, trivial⟩, hS.F ht⟩) hS.2.2 dX0_jacobiOf_139
      · have c17 : ¬ v4 = (0 : Int64) := fun hq => c17 ((lg_cmp_eq _ _).mpr hq)
        have hf := dz_f c17 hf
        exact ih.2.1 v4 v6 v8 H locs hS ls (lv_sub hl [0, 1, 2] rfl) hf
    · intro v4 v6 v8 H locs hS ls hl hf
      have hf : (dz_l (v4 - v4 / 2 * 2) fun x1 => if x1 = (0 : Int64) then (dz_l (v4 / 2) fun x5 => dz_l (v6 - v6 / 8 * 8) fun x6 => if x6 = (3 : Int64) then ((lfX0_jacobiOf K k).2.2.1 x5 v6 v8) else (dz_l (v6 - v6 / 8 * 8) fun x7 => if x7 = (5 : Int64) then ((lfX0_jacobiOf K k).2.2.1 x5 v6 v8) else ((lfX0_jacobiOf K k).2.1 x5 v6 v8))) else (dz_l (v6 - v6 / 4 * 4) fun x2 => if x2 = (3 : Int64) then (dz_l (v4 - v4 / 4 * 4) fun x3 => if x3 = (3 : Int64) then (dz_l (-v8) fun x4 => (lfX0_jacobiOf K k).2.2.2 v6 v4 x4) else ((lfX0_jacobiOf K k).2.2.2 v6 v4 v8)) else ((lfX0_jacobiOf K k).2.2.2 v6 v4 v8)) : Option Int32) = some res := hf
      refine lv_lload hx hb dX0_jacobiOf_20 (lv_at hl 0 rfl) ?_
      refine lv_ldc2 (v := 2) hx hb hown (hts _ q194) dX0_jacobiOf_22 ?_
      refine lv_lrem hx hb dX0_jacobiOf_25 (by decide) ?_
      refine lv_topl (fun x1 e_x1 => ?_)
      have hf := dz_ls e_x1 hf
      refine lv_lconst (v := 0) hx hb dX0_jacobiOf_26 rfl ?_
      refine W.lcmp hx hb dX0_jacobiOf_27 ?_
      refine lv_if_ne (tgt := 73) hx hb dX0_jacobiOf_28 (by decide) (fun c28 => ?_) (fun c28 => ?_)
      · have c28 : ¬ x1 = (0 : Int64) := fun hq => c28 ((lg_cmp_eq _ _).mpr hq)
        have hf := dz_f c28 hf
        refine lv_lload hx hb dX0_jacobiOf_73 (lv_at hl 0 rfl) ?_
        refine lv_lstore (lv' := [(9, .long v4), (4, .long v4), (6, .long v6), (8, .int v8)]) hx hb dX0_jacobiOf_75 hl (by decide) rfl (fun ls hl => ?_)
        refine lv_lload hx hb dX0_jacobiOf_77 (lv_at hl 2 rfl) ?_
        refine lv_lstore (lv' := [(4, .long v6), (9, .long v4), (6, .long v6), (8, .int v8)]) hx hb dX0_jacobiOf_79 hl (by decide) rfl (fun ls hl => ?_)
        refine lv_lload hx hb dX0_jacobiOf_81 (lv_at hl 1 rfl) ?_
        refine lv_lstore (lv' := [(6, .long v4), (4, .long v6), (9, .long v4), (8, .int v8)]) hx hb dX0_jacobiOf_83 hl (by decide) rfl (fun ls hl => ?_)
        refine lv_lload hx hb dX0_jacobiOf_85 (lv_at hl 1 rfl) ?_
        refine lv_ldc2 (v := 4) hx hb hown (hts _ q187) dX0_jacobiOf_87 ?_
        refine lv_lrem hx hb dX0_jacobiOf_90 (by decide) ?_
        refine lv_topl (fun x2 e_x2 => ?_)
        have hf := dz_ls e_x2 hf
        refine lv_ldc2 (v := 3) hx hb hown (hts _ q466) dX0_jacobiOf_91 ?_
        refine W.lcmp hx hb dX0_jacobiOf_94 ?_
        refine lv_if_ne (tgt := 116) hx hb dX0_jacobiOf_95 (by decide) (fun c95 => ?_) (fun c95 => ?_)
        · have c95 : ¬ x2 = (3 : Int64) := fun hq => c95 ((lg_cmp_eq _ _).mpr hq)
          have hf := dz_f c95 hf
          exact ih.2.2.2 v6 v4 v8 H locs hS ls (lv_sub hl [1, 0, 3] rfl) hf
        · have c95 : x2 = (3 : Int64) := (lg_cmp_eq _ _).mp c95
          have hf := dz_t c95 hf
          refine lv_lload hx hb dX0_jacobiOf_98 (lv_at hl 0 rfl) ?_
          refine lv_ldc2 (v := 4) hx hb hown (hts _ q187) dX0_jacobiOf_100 ?_
          refine lv_lrem hx hb dX0_jacobiOf_103 (by decide) ?_
          refine lv_topl (fun x3 e_x3 => ?_)
          have hf := dz_ls e_x3 hf
          refine lv_ldc2 (v := 3) hx hb hown (hts _ q466) dX0_jacobiOf_104 ?_
          refine W.lcmp hx hb dX0_jacobiOf_107 ?_
          refine lv_if_ne (tgt := 116) hx hb dX0_jacobiOf_108 (by decide) (fun c108 => ?_) (fun c108 => ?_)
          · have c108 : ¬ x3 = (3 : Int64) := fun hq => c108 ((lg_cmp_eq _ _).mpr hq)
            have hf := dz_f c108 hf
            exact ih.2.2.2 v6 v4 v8 H locs hS ls (lv_sub hl [1, 0, 3] rfl) hf
          · have c108 : x3 = (3 : Int64) := (lg_cmp_eq _ _).mp c108
            have hf := dz_t c108 hf
            refine lv_iload hx hb dX0_jacobiOf_111 (lv_at hl 3 rfl) ?_
            refine lv_ineg hx hb dX0_jacobiOf_113 ?_
            refine lv_topi (fun x4 e_x4 => ?_)
            have hf := dz_ls e_x4 hf
            refine lv_istore (lv' := [(8, .int x4), (6, .long v4), (4, .long v6), (9, .long v4)]) hx hb dX0_jacobiOf_114 hl (by decide) rfl (fun ls hl => ?_)
            exact ih.2.2.2 v6 v4 x4 H locs hS ls (lv_sub hl [2, 1, 0] rfl) hf
      · have c28 : x1 = (0 : Int64) := (lg_cmp_eq _ _).mp c28
        have hf := dz_t c28 hf
        refine lv_lload hx hb dX0_jacobiOf_31 (lv_at hl 0 rfl) ?_
        refine lv_ldc2 (v := 2) hx hb hown (hts _ q194) dX0_jacobiOf_33 ?_
        refine lv_ldiv hx hb dX0_jacobiOf_36 (by decide) ?_
        refine lv_topl (fun x5 e_x5 => ?_)
        have hf := dz_ls e_x5 hf
        refine lv_lstore (lv' := [(4, .long x5), (6, .long v6), (8, .int v8)]) hx hb dX0_jacobiOf_37 hl (by decide) rfl (fun ls hl => ?_)
        refine lv_lload hx hb dX0_jacobiOf_39 (lv_at hl 1 rfl) ?_
        refine lv_ldc2 (v := 8) hx hb hown (hts _ q465) dX0_jacobiOf_41 ?_
        refine lv_lrem hx hb dX0_jacobiOf_44 (by decide) ?_
        refine lv_topl (fun x6 e_x6 => ?_)
        have hf := dz_ls e_x6 hf
        refine lv_ldc2 (v := 3) hx hb hown (hts _ q466) dX0_jacobiOf_45 ?_
        refine W.lcmp hx hb dX0_jacobiOf_48 ?_
        refine lv_if_eq (tgt := 65) hx hb dX0_jacobiOf_49 (by decide) (fun c49 => ?_) (fun c49 => ?_)
        · have c49 : x6 = (3 : Int64) := (lg_cmp_eq _ _).mp c49
          have hf := dz_t c49 hf
          exact ih.2.2.1 x5 v6 v8 H locs hS ls (lv_sub hl [0, 1, 2] rfl) hf
        · have c49 : ¬ x6 = (3 : Int64) := fun hq => c49 ((lg_cmp_eq _ _).mpr hq)
          have hf := dz_f c49 hf
          refine lv_lload hx hb dX0_jacobiOf_52 (lv_at hl 1 rfl) ?_
          refine lv_ldc2 (v := 8) hx hb hown (hts _ q465) dX0_jacobiOf_54 ?_
          refine lv_lrem hx hb dX0_jacobiOf_57 (by decide) ?_
          refine lv_topl (fun x7 e_x7 => ?_)
          have hf := dz_ls e_x7 hf
          refine lv_ldc2 (v := 5) hx hb hown (hts _ q467) dX0_jacobiOf_58 ?_
          refine W.lcmp hx hb dX0_jacobiOf_61 ?_
          refine lv_if_ne (tgt := 20) hx hb dX0_jacobiOf_62 (by decide) (fun c62 => ?_) (fun c62 => ?_)
          · have c62 : ¬ x7 = (5 : Int64) := fun hq => c62 ((lg_cmp_eq _ _).mpr hq)
            have hf := dz_f c62 hf
            exact ih.2.1 x5 v6 v8 H locs hS ls (lv_sub hl [0, 1, 2] rfl) hf
          · have c62 : x7 = (5 : Int64) := (lg_cmp_eq _ _).mp c62
            have hf := dz_t c62 hf
            exact ih.2.2.1 x5 v6 v8 H locs hS ls (lv_sub hl [0, 1, 2] rfl) hf
    · intro v4 v6 v8 H locs hS ls hl hf
      have hf : (dz_l (-v8) fun x1 => (lfX0_jacobiOf K k).2.1 v4 v6 x1 : Option Int32) = some res := hf
      refine lv_iload hx hb dX0_jacobiOf_65 (lv_at hl 2 rfl) ?_
      refine lv_ineg hx hb dX0_jacobiOf_67 ?_
      refine lv_topi (fun x1 e_x1 => ?_)
      have hf := dz_ls e_x1 hf
      refine lv_istore (lv' := [(8, .int x1), (4, .long v4), (6, .long v6)]) hx hb dX0_jacobiOf_68 hl (by decide) rfl (fun ls hl => ?_)
      refine lv_goto (tgt := 20) hx hb dX0_jacobiOf_70 (by decide) ?_
      exact ih.2.1 v4 v6 x1 H locs hS ls (lv_sub hl [1, 2, 0] rfl) hf
    · intro v4 v6 v8 H locs hS ls hl hf
      have hf : (if ¬ v6 = 0 then (dz_l (v4 - v4 / v6 * v6) fun x2 => (lfX0_jacobiOf K k).1 x2 v6 v8) else none : Option Int32) = some res := hf
      refine lv_lload hx hb dX0_jacobiOf_116 (lv_at hl 0 rfl) ?_
      refine lv_lload hx hb dX0_jacobiOf_118 (lv_at hl 1 rfl) ?_
      obtain ⟨g1, hf⟩ := dz_go hf
      refine lv_lrem hx hb dX0_jacobiOf_120 g1 ?_
      refine lv_topl (fun x2 e_x2 => ?_)
      have hf := dz_ls e_x2 hf
      refine lv_lstore (lv' := [(4, .long x2), (6, .long v6), (8, .int v8)]) hx hb dX0_jacobiOf_121 hl (by decide) rfl (fun ls hl => ?_)
      refine lv_goto (tgt := 13) hx hb dX0_jacobiOf_123 (by decide) ?_
      exact ih.1 x2 v6 v8 H locs hS ls (lv_sub hl [0, 1, 2] rfl) hf
set_option maxHeartbeats 4000000 in
set_option maxRecDepth 100000 in
theorem mtX0_jacobiOf (l : Launch) (a0 : Int64) (a1 : Int64) (K : Nat) (res : Int32) (hf : fnX0_jacobiOf K a0 a1 = some res) : Met l yX0_jacobiOf (ws_ yX0_jacobiOf cX0_jacobiOf 11 (some .int)) ({ frames := 1, cells := 0, slots := 0, locals := 25 }) (dz_P [.long a0, .long a1]) (dz_Qi res) 0 0 (fun _ => False) := by
  refine Met.ofW (cc := cX0_jacobiOf) (maxL := 11) (ret := some .int) (by decide +kernel) rfl ?_
  intro p e s m args below meth c s₁ B hml hv
  obtain ⟨rfl, -⟩ := hv
  have hx := B.exec
  have hb := B.bytes
  have hr := B.returns
  have hts := atoms_spec (ws := ws_ yX0_jacobiOf cX0_jacobiOf 11 (some .int)) B.pre
  have hts : ∀ w ∈ lw_all, w.before _ s = true := fun w h => hts w (List.mem_cons_of_mem _ h)
  have hown : s.vm.findClass RX0 = some m.cls := findClass_of_methodNamed B.named
  have hlocks := B.notSynchronized
  have hS : va_S (fun _ => False) s.heap s.heap [] := va_S.rf
  generalize hHe : s.heap = H at hS ⊢
  have hS : va_S (fun _ => False) s.heap H [] := by rw [hHe]; exact hS
  generalize ([] : List Loc) = locs at hS ⊢
  have hl := lv_entry ([.long a0, .long a1]) (n := 11) (Nat.le_of_ble_eq_true rfl)
  rw [lg_entry_eq]
  generalize (lg_sl ([.long a0, .long a1]) ++ List.replicate (11 - (lg_sl ([.long a0, .long a1])).length) Slot.unset).toArray = ls at hl ⊢
  have hl : lv_has ls 11 [(0, .long a0), (2, .long a1)] := hl
  have hf : (dz_b (fnJ5_floorMod K a0 a1) fun x1 => (lfX0_jacobiOf K K).1 x1 a1 1 : Option Int32) = some res := hf
  have ih := wlX0_jacobiOf (l := l) (e := e) (below := below) K res a0 a1 hx hb hr hlocks hml hown hts K
  refine lv_lload_n hx hb dX0_jacobiOf_0 rfl (lv_at hl 0 rfl) ?_
  refine lv_lload_n hx hb dX0_jacobiOf_1 rfl (lv_at hl 1 rfl) ?_
  obtain ⟨x1, hx1, hf⟩ := dz_bo hf
  refine va_calll (va_runS (As := [.long a0, .long a1]) (rest := []) ⟨hx, hb, hml, hown, hts⟩ (mtJ5_floorMod l a0 a1 K x1 hx1) (va_cwS 2 hts (lw_S q464 q411 q92 q412) rfl rfl rfl (by decide +kernel) ⟨Nat.le_of_ble_eq_true rfl, Nat.le_of_ble_eq_true rfl⟩) ⟨fun a U g mk q => q, fun U hU hW => ⟨rfl, trivial⟩⟩ rfl rfl hl.1 rfl (lv_room (Nat.le_of_ble_eq_true rfl)) dX0_jacobiOf_2 ⟨Nat.le_refl _, Nat.le_refl _⟩) hS (fun q _ hq => hq.elim) (fun q hq => hq.elim) (fun r u t H1 locs ht hvm hw hB hz hk hS => ?_)
  replace hw := hw.symm; subst hw
  clear hB hk hz hvm ht; generalize H1 = H at hS ⊢
  refine lv_lstore (lv' := [(4, .long x1), (0, .long a0), (2, .long a1)]) hx hb dX0_jacobiOf_5 hl (by decide) rfl (fun ls hl => ?_)
  refine lv_lload_n hx hb dX0_jacobiOf_7 rfl (lv_at hl 2 rfl) ?_
  refine lv_lstore (lv' := [(6, .long a1), (4, .long x1), (0, .long a0), (2, .long a1)]) hx hb dX0_jacobiOf_8 hl (by decide) rfl (fun ls hl => ?_)
  refine lv_iconst (v := 1) hx hb dX0_jacobiOf_10 (by decide) ?_
  refine lv_istore (lv' := [(8, .int 1), (6, .long a1), (4, .long x1), (0, .long a0), (2, .long a1)]) hx hb dX0_jacobiOf_11 hl (by decide) rfl (fun ls hl => ?_)
  exact ih.1 x1 a1 1 H locs hS ls (lv_sub hl [2, 1, 0] rfl) hf

noncomputable def lfX6_pairFault_5 (K : Nat) (ζ : pZ) : Nat → (Nat → Nat → pH → Option (Int32 × pH)) := Nat.rec (motive := fun _ => (Nat → Nat → pH → Option (Int32 × pH))) (fun _ _ _ => none) (fun _ G => (fun v0 v1 τ => dz_b (zob ζ τ v1 2) fun f3 => zcl τ (fnX2_hasNext K ζ v1 τ) fun x1 s2 => if x1 = (0 : Int32) then (some (0, s2)) else (dz_b (zob ζ s2 v1 2) fun f6 => zcl s2 (fnX2_next K ζ v1 s2) fun x4 s5 => dz_b (zob ζ s5 x4 11) fun f7 => dz_b (zob ζ s5 v0 5) fun f8 => dz_b (zvi (f8[2]?)) fun x9 => dz_b (zob ζ s5 v0 5) fun f10 => dz_b (zvi (f10[3]?)) fun x11 => dz_b (zob ζ s5 v0 5) fun f12 => dz_b (zvl (f12[0]?)) fun x13 => dz_b (zob ζ s5 x4 11) fun f14 => dz_b (zvl (f14[0]?)) fun x15 => if ¬ x15 = 0 then (dz_l ((x13 + 1) / x15) fun x17 => dz_b (zob ζ s5 v0 5) fun f18 => dz_b (zvl (f18[0]?)) fun x19 => zcl s5 (fnX0_sequenceOf K ζ (Int32.toInt64 x9) (Int32.toInt64 x11) x17 x19 s5) fun x20 s21 => dz_b (zob ζ s21 v0 5) fun f22 => dz_b (zvl (f22[0]?)) fun x23 => dz_b (fnX0_common 100 x20 x23) fun x24 => if x24 = (1 : Int64) then (G v0 v1 s21) else (some (9, s21))) else none)))
noncomputable def fnX6_pairFault_5 (K : Nat) (ζ : pZ) (h : Nat) (τ : pH) : Option (Int32 × pH) := dz_b (zob ζ τ h 5) fun f1 => dz_b (zvi (f1[2]?)) fun x2 => dz_b (zob ζ τ h 5) fun f3 => dz_b (zvi (f3[2]?)) fun x4 => dz_b (zob ζ τ h 5) fun f5 => dz_b (zvi (f5[3]?)) fun x6 => dz_b (zob ζ τ h 5) fun f7 => dz_b (zvl (f7[0]?)) fun x8 => dz_b (fnX0_jacobiOf K (((Int32.toInt64 x2) * (Int32.toInt64 x4)) - (4 * (Int32.toInt64 x6))) x8) fun x9 => if x9 = (-1 : Int32) then (dz_b (zob ζ τ h 5) fun f10 => dz_b (zvi (f10[3]?)) fun x11 => dz_b (zob ζ τ h 5) fun f12 => dz_b (zvl (f12[0]?)) fun x13 => dz_b (fnX0_common 100 (Int32.toInt64 x11) x13) fun x14 => if x14 = (1 : Int64) then (dz_b (zob ζ τ h 5) fun f15 => dz_b (zvi (f15[2]?)) fun x16 => dz_b (zob ζ τ h 5) fun f17 => dz_b (zvi (f17[3]?)) fun x18 => dz_b (zob ζ τ h 5) fun f19 => dz_b (zvl (f19[0]?)) fun x20 => dz_b (zob ζ τ h 5) fun f21 => dz_b (zvl (f21[0]?)) fun x22 => zcl τ (fnX0_sequenceOf K ζ (Int32.toInt64 x16) (Int32.toInt64 x18) (x20 + 1) x22 τ) fun x23 s24 => if x23 = (0 : Int64) then (dz_b (zob ζ s24 h 5) fun f25 => dz_b (zvr (f25[5]?)) fun x26 => dz_b (zob ζ s24 x26 10) fun f29 => zcl s24 (fnX8_iterator K ζ x26 s24) fun x27 s28 => (lfX6_pairFault_5 K ζ K) h x27 s28) else (some (8, s24))) else (some (7, τ))) else (some (7, τ))
set_option maxHeartbeats 4000000 in
set_option maxRecDepth 100000 in
theorem wlX6_pairFault_5 {p : Program} {l : Launch} {e : Env} {s : State} {m : MethodId} {below : List Frame} {meth : Method} {c : Code} {D : va_G} {cA : Nat → ClassId} {ζ : pZ} (hX : zX D cA ζ s) (K : Nat) (res : (Int32 × pH)) (M S sl0 : Nat) (hM : s.heap.size + M = res.2.1) (hS0 : sl0 + S = res.2.2.1) (h : Nat) (hx : p.tables.exec = Jvm.exec) (hb : c.code = cX6_pairFault) (hr : meth.sig.returnType = some .int) (hlocks : meth.locks = false) (hml : c.maxLocals = 3) (hown : s.vm.findClass RX6 = some m.cls) (hts : ∀ w ∈ lw_all, w.before ([.ref h] : List Value).toArray s = true) : ∀ k : Nat, (∀ (v0 : Nat) (v1 : Nat) (τ : pH) (H : Heap) (locs : List Loc) (cells slots : Nat), zH D cA ζ τ H → va_S (zA ζ) s.heap H locs → s.heap.size + cells = τ.1 → sl0 + slots = τ.2.1 → cells ≤ M ∧ slots ≤ S → ∀ (ls : Array Slot), lv_has ls 3 [(0, .ref v0), (1, .ref v1)] → (lfX6_pairFault_5 K ζ k) v0 v1 τ = some res → W p l e (headSpec (ws_ yX6_pairFault cX6_pairFault 3 (some .int)) ({ frames := 101, cells := M, slots := S, locals := 2323 })).room s m ([.ref h] : List Value).toArray below meth c H locs cells slots (MQ below (zQi D cA ζ res) ([.ref h] : List Value).toArray s M S (zA ζ)) (F0 m 91 ls [])) := by
  intro k
  induction k with
  | zero =>
    exact fun _ _ _ _ _ _ _ _ _ _ _ _ _ _ hf => (by cases hf)
  | succ k ih =>
    · intro v0 v1 τ H locs cells slots hH hS hcs hss hcM ls hl hf
      have hf : (dz_b (zob ζ τ v1 2) fun f3 => zcl τ (fnX2_hasNext K ζ v1 τ) fun x1 s2 => if x1 = (0 : Int32) then (some (0, s2)) else (dz_b (zob ζ s2 v1 2) fun f6 => zcl s2 (fnX2_next K ζ v1 s2) fun x4 s5 => dz_b (zob ζ s5 x4 11) fun f7 => dz_b (zob ζ s5 v0 5) fun f8 => dz_b (zvi (f8[2]?)) fun x9 => dz_b (zob ζ s5 v0 5) fun f10 => dz_b (zvi (f10[3]?)) fun x11 => dz_b (zob ζ s5 v0 5) fun f12 => dz_b (zvl (f12[0]?)) fun x13 => dz_b (zob ζ s5 x4 11) fun f14 => dz_b (zvl (f14[0]?)) fun x15 => if ¬ x15 = 0 then (dz_l ((x13 + 1) / x15) fun x17 => dz_b (zob ζ s5 v0 5) fun f18 => dz_b (zvl (f18[0]?)) fun x19 => zcl s5 (fnX0_sequenceOf K ζ (Int32.toInt64 x9) (Int32.toInt64 x11) x17 x19 s5) fun x20 s21 => dz_b (zob ζ s21 v0 5) fun f22 => dz_b (zvl (f22[0]?)) fun x23 => dz_b (fnX0_common 100 x20 x23) fun x24 => if x24 = (1 : Int64) then ((lfX6_pairFault_5 K ζ k) v0 v1 s21) else (some (9, s21))) else none) : Option (Int32 × pH)) = some res := hf
      refine lv_aload_n hx hb dX6_pairFault_91 rfl (lv_at hl 1 rfl) ?_
      obtain ⟨f3, hf3, hf⟩ := dz_bo hf
      obtain ⟨x1, s2, hx1, hle, hck, hf⟩ := zcl_o hf
      have hc1 : cells + (s2.1 - τ.1) ≤ M := by omega
      have hs1 : slots + (s2.2.1 - τ.2.1) ≤ S := by omega
      refine va_callFi (va_runF (hX.K.1 2 _ rfl).2 (As := []) (rest := []) ⟨hx, hb, hml, hown, hts⟩ (mtX2_hasNext l D cA ζ τ v1 K (x1, s2) hx1 (s2.1 - τ.1) (s2.2.1 - τ.2.1) (Nat.add_sub_cancel' hle.1) (Nat.add_sub_cancel' hle.2)) (va_cwF 0 hts (zF_in q263 q267 q269 q91 q271) rfl rfl rfl (hX.F 0 rfl) (by decide +kernel) ⟨Nat.le_of_ble_eq_true rfl, Nat.le_of_ble_eq_true rfl⟩) (z_preV hX hS hH (zob_o hf3) rfl) rfl rfl hl.1 rfl (lv_room (Nat.le_of_ble_eq_true rfl)) dX6_pairFault_92 ⟨hc1, hs1⟩) hS (fun q _ hq => hq) (fun q hq => hq) (fun r u t H1 locs ht hvm hw hB hz hk hS => ?_)
      obtain ⟨hw1, hw2⟩ := Prod.mk.inj hw.symm; subst hw1; subst hw2
      have hH : zH D cA ζ s2 H1 := z_at ht.symm hB
      have hcs : s.heap.size + (cells + (s2.1 - τ.1)) = s2.1 := by omega
      have hss : sl0 + (slots + (s2.2.1 - τ.2.1)) = s2.2.1 := by omega
      replace hcM := And.intro hc1 hs1
      generalize cells + (s2.1 - τ.1) = cells at hcs hcM ⊢; generalize slots + (s2.2.1 - τ.2.1) = slots at hss hcM ⊢
      clear hB hk hz hvm ht hle hck hc1 hs1; generalize H1 = H at hH hS ⊢
      refine lv_if_eq (tgt := 156) hx hb dX6_pairFault_97 (by decide) (fun c97 => ?_) (fun c97 => ?_)
      · have hf := dz_t c97 hf
        refine lv_iconst (v := 0) hx hb dX6_pairFault_156 (by decide) ?_
        obtain ⟨hM1, hS1⟩ : cells = M ∧ slots = S := by have hq := congrArg Prod.snd (Option.some.inj hf); rw [← hq] at hM hS0; have hM : s.heap.size + M = s2.1 := hM; have hS0 : sl0 + S = s2.2.1 := hS0; omega
        refine W.widen (k := M) (n := S) (Nat.le_of_eq hM1) (Nat.le_of_eq hS1) ?_
        exact W.iret (v := 0) hx hb hr (fun t ht hW => ⟨⟨0, s2, rfl, Option.some.inj hf, z_at ht hH⟩, hS.F ht⟩) hS.2.2 dX6_pairFault_157
      · have hf := dz_f c97 hf
        refine lv_aload_n hx hb dX6_pairFault_100 rfl (lv_at hl 1 rfl) ?_
        obtain ⟨f6, hf6, hf⟩ := dz_bo hf
        obtain ⟨x4, s5, hx4, hle, hck, hf⟩ := zcl_o hf
        have hc1 : cells + (s5.1 - s2.1) ≤ M := by omega
        have hs1 : slots + (s5.2.1 - s2.2.1) ≤ S := by omega
        refine va_callFr (va_runF (hX.K.1 2 _ rfl).2 (As := []) (rest := []) ⟨hx, hb, hml, hown, hts⟩ (mtX2_next l D cA ζ s2 v1 K (x4, s5) hx4 (s5.1 - s2.1) (s5.2.1 - s2.2.1) (Nat.add_sub_cancel' hle.1) (Nat.add_sub_cancel' hle.2)) (va_cwF 0 hts (zF_in q279 q282 q284 q91 q286) rfl rfl rfl (hX.F 1 rfl) (by decide +kernel) ⟨Nat.le_of_ble_eq_true rfl, Nat.le_of_ble_eq_true rfl⟩) (z_preV hX hS hH (zob_o hf6) rfl) rfl rfl hl.1 rfl (lv_room (Nat.le_of_ble_eq_true rfl)) dX6_pairFault_101 ⟨hc1, hs1⟩) hS (fun q _ hq => hq) (fun q hq => hq) (fun u r t H1 locs ht hvm hw hB hz hk hS => ?_)
        obtain ⟨hw, hB⟩ := hB
        obtain ⟨hw1, hw2⟩ := Prod.mk.inj hw.symm; subst hw1; subst hw2
        have hH : zH D cA ζ s5 H1 := z_at ht.symm hB
        have hcs : s.heap.size + (cells + (s5.1 - s2.1)) = s5.1 := by omega
        have hss : sl0 + (slots + (s5.2.1 - s2.2.1)) = s5.2.1 := by omega
        replace hcM := And.intro hc1 hs1
        generalize cells + (s5.1 - s2.1) = cells at hcs hcM ⊢; generalize slots + (s5.2.1 - s2.2.1) = slots at hss hcM ⊢
        clear hB hk hz hvm ht hle hck hc1 hs1; generalize H1 = H at hH hS ⊢
        obtain ⟨f7, hf7, hf⟩ := dz_bo hf
        refine va_castS (nm := RX13) hx hb hown (hts _ q300) (hX.K.1 11 _ rfl).2 (va_recv hX.K (zrd_P hX hS hH (zob_o hf7)) (ci := 11) (q0 := 0) rfl rfl) dX6_pairFault_106 ?_
        refine lv_astore_n (lv' := [(2, .ref x4), (0, .ref v0), (1, .ref v1)]) hx hb dX6_pairFault_109 rfl hl (by decide) rfl (fun ls hl => ?_)
        refine lv_aload_n hx hb dX6_pairFault_110 rfl (lv_at hl 1 rfl) ?_
        obtain ⟨f8, hf8, hf⟩ := dz_bo hf
        obtain ⟨x9, hx9, hf⟩ := dz_bo hf
        refine va_get (C := RX7) (T := TX7) (N := 8) hx hb hts in_X7 hown hX.K (zrd_P hX hS hH (zob_o hf8)) 0 rfl rfl 2 (by decide) (hts _ q544) (fun _ hq => hq) (zvi_o hx9) dX6_pairFault_111 ?_
        refine lv_i2l hx hb dX6_pairFault_114 (rfl : _ = Int32.toInt64 x9) ?_
        refine lv_aload_n hx hb dX6_pairFault_115 rfl (lv_at hl 1 rfl) ?_
        obtain ⟨f10, hf10, hf⟩ := dz_bo hf
        obtain ⟨x11, hx11, hf⟩ := dz_bo hf
        refine va_get (C := RX7) (T := TX7) (N := 8) hx hb hts in_X7 hown hX.K (zrd_P hX hS hH (zob_o hf10)) 0 rfl rfl 3 (by decide) (hts _ q547) (fun _ hq => hq) (zvi_o hx11) dX6_pairFault_116 ?_
        refine lv_i2l hx hb dX6_pairFault_119 (rfl : _ = Int32.toInt64 x11) ?_
        refine lv_aload_n hx hb dX6_pairFault_120 rfl (lv_at hl 1 rfl) ?_
        obtain ⟨f12, hf12, hf⟩ := dz_bo hf
        obtain ⟨x13, hx13, hf⟩ := dz_bo hf
        refine va_get (C := RX7) (T := TX7) (N := 8) hx hb hts in_X7 hown hX.K (zrd_P hX hS hH (zob_o hf12)) 0 rfl rfl 0 (by decide) (hts _ q532) (fun _ hq => hq) (zvl_o hx13) dX6_pairFault_121 ?_
        refine lv_lconst (v := 1) hx hb dX6_pairFault_124 rfl ?_
        refine lv_ladd hx hb dX6_pairFault_125 ?_
        refine lv_aload_n hx hb dX6_pairFault_126 rfl (lv_at hl 0 rfl) ?_
        obtain ⟨f14, hf14, hf⟩ := dz_bo hf
        obtain ⟨x15, hx15, hf⟩ := dz_bo hf
        refine va_get (C := RX13) (T := TX13) (N := 3) hx hb hts in_X13 hown hX.K (zrd_P hX hS hH (zob_o hf14)) 0 rfl rfl 0 (by decide) (hts _ q684) (fun _ hq => hq) (zvl_o hx15) dX6_pairFault_127 ?_
        obtain ⟨g16, hf⟩ := dz_go hf
        refine lv_ldiv hx hb dX6_pairFault_130 g16 ?_
        refine lv_topl (fun x17 e_x17 => ?_)
        have hf := dz_ls e_x17 hf
        refine lv_aload_n hx hb dX6_pairFault_131 rfl (lv_at hl 1 rfl) ?_
        obtain ⟨f18, hf18, hf⟩ := dz_bo hf
        obtain ⟨x19, hx19, hf⟩ := dz_bo hf
        refine va_get (C := RX7) (T := TX7) (N := 8) hx hb hts in_X7 hown hX.K (zrd_P hX hS hH (zob_o hf18)) 0 rfl rfl 0 (by decide) (hts _ q532) (fun _ hq => hq) (zvl_o hx19) dX6_pairFault_132 ?_
        obtain ⟨x20, s21, hx20, hle, hck, hf⟩ := zcl_o hf
        have hc1 : cells + (s21.1 - s5.1) ≤ M := by omega
        have hs1 : slots + (s21.2.1 - s5.2.1) ≤ S := by omega
        refine va_calll (va_runSN (As := [.long (Int32.toInt64 x9), .long (Int32.toInt64 x11), .long x17, .long x19]) (rest := []) ⟨hx, hb, hml, hown, hts⟩ (mtX0_sequenceOf l D cA ζ s5 (Int32.toInt64 x9) (Int32.toInt64 x11) x17 x19 K (x20, s21) hx20 (s21.1 - s5.1) (s21.2.1 - s5.2.1) (Nat.add_sub_cancel' hle.1) (Nat.add_sub_cancel' hle.2)) ⟨va_cnB 4 hts (lw_meth q470) rfl rfl rfl (hX.N q468 rfl) (hts _ q84) (by decide +kernel) ⟨Nat.le_of_ble_eq_true rfl, Nat.le_of_ble_eq_true rfl⟩, hts _ q469, trivial⟩ (z_preS hX hS hH) rfl rfl hl.1 rfl (lv_room (Nat.le_of_ble_eq_true rfl)) dX6_pairFault_135 ⟨hc1, hs1⟩) hS (fun q _ hq => hq) (fun q hq => hq) (fun r u t H1 locs ht hvm hw hB hz hk hS => ?_)
        obtain ⟨hw1, hw2⟩ := Prod.mk.inj hw.symm; subst hw1; subst hw2
        have hH : zH D cA ζ s21 H1 := z_at ht.symm hB
        have hcs : s.heap.size + (cells + (s21.1 - s5.1)) = s21.1 := by omega
        have hss : sl0 + (slots + (s21.2.1 - s5.2.1)) = s21.2.1 := by omega
        replace hcM := And.intro hc1 hs1
        generalize cells + (s21.1 - s5.1) = cells at hcs hcM ⊢; generalize slots + (s21.2.1 - s5.2.1) = slots at hss hcM ⊢
        clear hB hk hz hvm ht hle hck hc1 hs1; generalize H1 = H at hH hS ⊢
        refine lv_aload_n hx hb dX6_pairFault_138 rfl (lv_at hl 1 rfl) ?_
        obtain ⟨f22, hf22, hf⟩ := dz_bo hf
        obtain ⟨x23, hx23, hf⟩ := dz_bo hf
        refine va_get (C := RX7) (T := TX7) (N := 8) hx hb hts in_X7 hown hX.K (zrd_P hX hS hH (zob_o hf22)) 0 rfl rfl 0 (by decide) (hts _ q532) (fun _ hq => hq) (zvl_o hx23) dX6_pairFault_139 ?_
        obtain ⟨x24, hx24, hf⟩ := dz_bo hf
        refine va_calll (va_runSN (As := [.long x20, .long x23]) (rest := []) ⟨hx, hb, hml, hown, hts⟩ (mtX0_common l x20 x23 100 x24 hx24) ⟨va_cnB 2 hts (lw_meth q348) rfl rfl rfl (hX.N q441 rfl) (hts _ q84) (by decide +kernel) ⟨Nat.le_of_ble_eq_true rfl, Nat.le_of_ble_eq_true rfl⟩, hts _ q347, trivial⟩ ⟨fun a U g mk q => q, fun U hU hW => ⟨rfl, trivial⟩⟩ rfl rfl hl.1 rfl (lv_room (Nat.le_of_ble_eq_true rfl)) dX6_pairFault_142 ⟨hcM.1, hcM.2⟩) hS (fun q _ hq => hq.elim) (fun q hq => hq.elim) (fun r u t H1 locs ht hvm hw hB hz hk hS => dz_size (fun hz9 => ?_))
        replace hw := hw.symm; subst hw
        replace hH := zH_keep hH hcs hz hk hz9
        clear hB hk hz hvm ht hz9; generalize H1 = H at hH hS ⊢
        refine W.widen (k := cells) (n := slots) (Nat.le_refl _) (Nat.le_refl _) ?_
        refine lv_lconst (v := 1) hx hb dX6_pairFault_145 rfl ?_
        refine W.lcmp hx hb dX6_pairFault_146 ?_
        refine lv_if_eq (tgt := 153) hx hb dX6_pairFault_147 (by decide) (fun c147 => ?_) (fun c147 => ?_)
        · have c147 : x24 = (1 : Int64) := (lg_cmp_eq _ _).mp c147
          have hf := dz_t c147 hf
          refine lv_goto (tgt := 91) hx hb dX6_pairFault_153 (by decide) ?_
          exact ih v0 v1 s21 H locs cells slots hH hS hcs hss hcM ls (lv_sub hl [1, 2] rfl) hf
        · have c147 : ¬ x24 = (1 : Int64) := fun hq => c147 ((lg_cmp_eq _ _).mpr hq)
          have hf := dz_f c147 hf
          refine lv_bipush (v := 9) hx hb dX6_pairFault_150 (by decide) ?_
          obtain ⟨hM1, hS1⟩ : cells = M ∧ slots = S := by have hq := congrArg Prod.snd (Option.some.inj hf); rw [← hq] at hM hS0; have hM : s.heap.size + M = s21.1 := hM; have hS0 : sl0 + S = s21.2.1 := hS0; omega
          refine W.widen (k := M) (n := S) (Nat.le_of_eq hM1) (Nat.le_of_eq hS1) ?_
          exact W.iret (v := 9) hx hb hr (fun t ht hW => ⟨⟨9, s21, rfl, Option.some.inj hf, z_at ht hH⟩, hS.F ht⟩) hS.2.2 dX6_pairFault_152
set_option maxHeartbeats 4000000 in
set_option maxRecDepth 100000 in
theorem mtX6_pairFault_5 (l : Launch) (D : va_G) (cA : Nat → ClassId) (ζ : pZ) (τ : pH) (h : Nat) (K : Nat) (res : (Int32 × pH)) (hf : fnX6_pairFault_5 K ζ h τ = some res) (M S : Nat) (hM : τ.1 + M = res.2.1) (hS0 : τ.2.1 + S = res.2.2.1) : Met l yX6_pairFault (ws_ yX6_pairFault cX6_pairFault 3 (some .int)) ({ frames := 101, cells := M, slots := S, locals := 2323 }) (zPc D cA ζ τ [.ref h]) (zQi D cA ζ res) M S (zA ζ) := by
  refine Met.ofW (cc := cX6_pairFault) (maxL := 3) (ret := some .int) (by decide +kernel) rfl ?_
  intro p e s m args below meth c s₁ B hml hv
  obtain ⟨rfl, hX, hH⟩ := hv
  have hx := B.exec
  have hb := B.bytes
  have hr := B.returns
  have hts := atoms_spec (ws := ws_ yX6_pairFault cX6_pairFault 3 (some .int)) B.pre
  have hts : ∀ w ∈ lw_all, w.before _ s = true := fun w h => hts w (List.mem_cons_of_mem _ h)
  have hown : s.vm.findClass RX6 = some m.cls := findClass_of_methodNamed B.named
  have hlocks := B.notSynchronized
  have hM : s.heap.size + M = res.2.1 := by rw [hH.1]; exact hM
  have hcs : s.heap.size + 0 = τ.1 := hH.1
  have hss : τ.2.1 + 0 = τ.2.1 := rfl
  generalize hsl0 : τ.2.1 = sl0 at hS0 hss
  have hss : sl0 + 0 = τ.2.1 := by rw [hsl0]; rfl
  have hS : va_S (zA ζ) s.heap s.heap [] := va_S.rf
  generalize hHe : s.heap = H at hH hS ⊢
  have hS : va_S (zA ζ) s.heap H [] := by rw [hHe]; exact hS
  generalize ([] : List Loc) = locs at hS ⊢
  have hl := lv_entry ([.ref h]) (n := 3) (Nat.le_of_ble_eq_true rfl)
  rw [lg_entry_eq]
  generalize (lg_sl ([.ref h]) ++ List.replicate (3 - (lg_sl ([.ref h])).length) Slot.unset).toArray = ls at hl ⊢
  have hl : lv_has ls 3 [(0, .ref h)] := hl
  have hf : (dz_b (zob ζ τ h 5) fun f1 => dz_b (zvi (f1[2]?)) fun x2 => dz_b (zob ζ τ h 5) fun f3 => dz_b (zvi (f3[2]?)) fun x4 => dz_b (zob ζ τ h 5) fun f5 => dz_b (zvi (f5[3]?)) fun x6 => dz_b (zob ζ τ h 5) fun f7 => dz_b (zvl (f7[0]?)) fun x8 => dz_b (fnX0_jacobiOf K (((Int32.toInt64 x2) * (Int32.toInt64 x4)) - (4 * (Int32.toInt64 x6))) x8) fun x9 => if x9 = (-1 : Int32) then (dz_b (zob ζ τ h 5) fun f10 => dz_b (zvi (f10[3]?)) fun x11 => dz_b (zob ζ τ h 5) fun f12 => dz_b (zvl (f12[0]?)) fun x13 => dz_b (fnX0_common 100 (Int32.toInt64 x11) x13) fun x14 => if x14 = (1 : Int64) then (dz_b (zob ζ τ h 5) fun f15 => dz_b (zvi (f15[2]?)) fun x16 => dz_b (zob ζ τ h 5) fun f17 => dz_b (zvi (f17[3]?)) fun x18 => dz_b (zob ζ τ h 5) fun f19 => dz_b (zvl (f19[0]?)) fun x20 => dz_b (zob ζ τ h 5) fun f21 => dz_b (zvl (f21[0]?)) fun x22 => zcl τ (fnX0_sequenceOf K ζ (Int32.toInt64 x16) (Int32.toInt64 x18) (x20 + 1) x22 τ) fun x23 s24 => if x23 = (0 : Int64) then (dz_b (zob ζ s24 h 5) fun f25 => dz_b (zvr (f25[5]?)) fun x26 => dz_b (zob ζ s24 x26 10) fun f29 => zcl s24 (fnX8_iterator K ζ x26 s24) fun x27 s28 => (lfX6_pairFault_5 K ζ K) h x27 s28) else (some (8, s24))) else (some (7, τ))) else (some (7, τ)) : Option (Int32 × pH)) = some res := hf
  refine z_gen (fun cells slots hc0 hs0 => ?_)
  have hcs : s.heap.size + cells = τ.1 := by rw [hc0]; exact hcs
  have hss : sl0 + slots = τ.2.1 := by rw [hs0]; exact hss
  have hcM : cells ≤ M ∧ slots ≤ S := by rw [hc0, hs0]; exact ⟨Nat.zero_le _, Nat.zero_le _⟩
  clear hc0 hs0
  have ih := wlX6_pairFault_5 (l := l) (e := e) (below := below) (D := D) (cA := cA) hX K res M S sl0 hM hS0 h hx hb hr hlocks hml hown hts K
  refine lv_aload_n hx hb dX6_pairFault_0 rfl (lv_at hl 0 rfl) ?_
  obtain ⟨f1, hf1, hf⟩ := dz_bo hf
  obtain ⟨x2, hx2, hf⟩ := dz_bo hf
  refine va_get (C := RX7) (T := TX7) (N := 8) hx hb hts in_X7 hown hX.K (zrd_P hX hS hH (zob_o hf1)) 0 rfl rfl 2 (by decide) (hts _ q544) (fun _ hq => hq) (zvi_o hx2) dX6_pairFault_1 ?_
  refine lv_i2l hx hb dX6_pairFault_4 (rfl : _ = Int32.toInt64 x2) ?_
  refine lv_aload_n hx hb dX6_pairFault_5 rfl (lv_at hl 0 rfl) ?_
  obtain ⟨f3, hf3, hf⟩ := dz_bo hf
  obtain ⟨x4, hx4, hf⟩ := dz_bo hf
  refine va_get (C := RX7) (T := TX7) (N := 8) hx hb hts in_X7 hown hX.K (zrd_P hX hS hH (zob_o hf3)) 0 rfl rfl 2 (by decide) (hts _ q544) (fun _ hq => hq) (zvi_o hx4) dX6_pairFault_6 ?_
  refine lv_i2l hx hb dX6_pairFault_9 (rfl : _ = Int32.toInt64 x4) ?_
  refine lv_lmul hx hb dX6_pairFault_10 ?_
  refine lv_ldc2 (v := 4) hx hb hown (hts _ q460) dX6_pairFault_11 ?_
  refine lv_aload_n hx hb dX6_pairFault_14 rfl (lv_at hl 0 rfl) ?_
  obtain ⟨f5, hf5, hf⟩ := dz_bo hf
  obtain ⟨x6, hx6, hf⟩ := dz_bo hf
  refine va_get (C := RX7) (T := TX7) (N := 8) hx hb hts in_X7 hown hX.K (zrd_P hX hS hH (zob_o hf5)) 0 rfl rfl 3 (by decide) (hts _ q547) (fun _ hq => hq) (zvi_o hx6) dX6_pairFault_15 ?_
  refine lv_i2l hx hb dX6_pairFault_18 (rfl : _ = Int32.toInt64 x6) ?_
  refine lv_lmul hx hb dX6_pairFault_19 ?_
  refine lv_lsub hx hb dX6_pairFault_20 ?_
  refine lv_aload_n hx hb dX6_pairFault_21 rfl (lv_at hl 0 rfl) ?_
  obtain ⟨f7, hf7, hf⟩ := dz_bo hf
  obtain ⟨x8, hx8, hf⟩ := dz_bo hf
  refine va_get (C := RX7) (T := TX7) (N := 8) hx hb hts in_X7 hown hX.K (zrd_P hX hS hH (zob_o hf7)) 0 rfl rfl 0 (by decide) (hts _ q532) (fun _ hq => hq) (zvl_o hx8) dX6_pairFault_22 ?_
  obtain ⟨x9, hx9, hf⟩ := dz_bo hf
  refine va_calli (va_runSN (As := [.long (((Int32.toInt64 x2) * (Int32.toInt64 x4)) - (4 * (Int32.toInt64 x6))), .long x8]) (rest := []) ⟨hx, hb, hml, hown, hts⟩ (mtX0_jacobiOf l (((Int32.toInt64 x2) * (Int32.toInt64 x4)) - (4 * (Int32.toInt64 x6))) x8 K x9 hx9) ⟨va_cnB 2 hts (lw_meth q463) rfl rfl rfl (hX.N q461 rfl) (hts _ q84) (by decide +kernel) ⟨Nat.le_of_ble_eq_true rfl, Nat.le_of_ble_eq_true rfl⟩, hts _ q462, trivial⟩ ⟨fun a U g mk q => q, fun U hU hW => ⟨rfl, trivial⟩⟩ rfl rfl hl.1 rfl (lv_room (Nat.le_of_ble_eq_true rfl)) dX6_pairFault_25 ⟨hcM.1, hcM.2⟩) hS (fun q _ hq => hq.elim) (fun q hq => hq.elim) (fun r u t H1 locs ht hvm hw hB hz hk hS => dz_size (fun hz9 => ?_))
  replace hw := hw.symm; subst hw
  replace hH := zH_keep hH hcs hz hk hz9
  clear hB hk hz hvm ht hz9; generalize H1 = H at hH hS ⊢
  refine W.widen (k := cells) (n := slots) (Nat.le_refl _) (Nat.le_refl _) ?_
  refine lv_iconst (v := (-1)) hx hb dX6_pairFault_28 (by decide) ?_
  refine lv_icmp_ne (tgt := 49) hx hb dX6_pairFault_29 (by decide) (fun c29 => ?_) (fun c29 => ?_)
  · have hf := dz_f c29 hf
    refine lv_bipush (v := 7) hx hb dX6_pairFault_49 (by decide) ?_
    obtain ⟨hM1, hS1⟩ : cells = M ∧ slots = S := by have hq := congrArg Prod.snd (Option.some.inj hf); rw [← hq] at hM hS0; have hM : s.heap.size + M = τ.1 := hM; have hS0 : sl0 + S = τ.2.1 := hS0; omega
    refine W.widen (k := M) (n := S) (Nat.le_of_eq hM1) (Nat.le_of_eq hS1) ?_
    exact W.iret (v := 7) hx hb hr (fun t ht hW => ⟨⟨7, τ, rfl, Option.some.inj hf, z_at ht hH⟩, hS.F ht⟩) hS.2.2 dX6_pairFault_51
  · have hf := dz_t c29 hf
    refine lv_aload_n hx hb dX6_pairFault_32 rfl (lv_at hl 0 rfl) ?_
    obtain ⟨f10, hf10, hf⟩ := dz_bo hf
    obtain ⟨x11, hx11, hf⟩ := dz_bo hf
    refine va_get (C := RX7) (T := TX7) (N := 8) hx hb hts in_X7 hown hX.K (zrd_P hX hS hH (zob_o hf10)) 0 rfl rfl 3 (by decide) (hts _ q547) (fun _ hq => hq) (zvi_o hx11) dX6_pairFault_33 ?_
    refine lv_i2l hx hb dX6_pairFault_36 (rfl : _ = Int32.toInt64 x11) ?_
    refine lv_aload_n hx hb dX6_pairFault_37 rfl (lv_at hl 0 rfl) ?_
    obtain ⟨f12, hf12, hf⟩ := dz_bo hf
    obtain ⟨x13, hx13, hf⟩ := dz_bo hf
    refine va_get (C := RX7) (T := TX7) (N := 8) hx hb hts in_X7 hown hX.K (zrd_P hX hS hH (zob_o hf12)) 0 rfl rfl 0 (by decide) (hts _ q532) (fun _ hq => hq) (zvl_o hx13) dX6_pairFault_38 ?_
    obtain ⟨x14, hx14, hf⟩ := dz_bo hf
    refine va_calll (va_runSN (As := [.long (Int32.toInt64 x11), .long x13]) (rest := []) ⟨hx, hb, hml, hown, hts⟩ (mtX0_common l (Int32.toInt64 x11) x13 100 x14 hx14) ⟨va_cnB 2 hts (lw_meth q348) rfl rfl rfl (hX.N q441 rfl) (hts _ q84) (by decide +kernel) ⟨Nat.le_of_ble_eq_true rfl, Nat.le_of_ble_eq_true rfl⟩, hts _ q347, trivial⟩ ⟨fun a U g mk q => q, fun U hU hW => ⟨rfl, trivial⟩⟩ rfl rfl hl.1 rfl (lv_room (Nat.le_of_ble_eq_true rfl)) dX6_pairFault_41 ⟨hcM.1, hcM.2⟩) hS (fun q _ hq => hq.elim) (fun q hq => hq.elim) (fun r u t H1 locs ht hvm hw hB hz hk hS => dz_size (fun hz9 => ?_))
    replace hw := hw.symm; subst hw
    replace hH := zH_keep hH hcs hz hk hz9
    clear hB hk hz hvm ht hz9; generalize H1 = H at hH hS ⊢
    refine W.widen (k := cells) (n := slots) (Nat.le_refl _) (Nat.le_refl _) ?_
    refine lv_lconst (v := 1) hx hb dX6_pairFault_44 rfl ?_
    refine W.lcmp hx hb dX6_pairFault_45 ?_
    refine lv_if_eq (tgt := 52) hx hb dX6_pairFault_46 (by decide) (fun c46 => ?_) (fun c46 => ?_)
    · have c46 : x14 = (1 : Int64) := (lg_cmp_eq _ _).mp c46
      have hf := dz_t c46 hf
      refine lv_aload_n hx hb dX6_pairFault_52 rfl (lv_at hl 0 rfl) ?_
      obtain ⟨f15, hf15, hf⟩ := dz_bo hf
      obtain ⟨x16, hx16, hf⟩ := dz_bo hf
      refine va_get (C := RX7) (T := TX7) (N := 8) hx hb hts in_X7 hown hX.K (zrd_P hX hS hH (zob_o hf15)) 0 rfl rfl 2 (by decide) (hts _ q544) (fun _ hq => hq) (zvi_o hx16) dX6_pairFault_53 ?_
      refine lv_i2l hx hb dX6_pairFault_56 (rfl : _ = Int32.toInt64 x16) ?_
      refine lv_aload_n hx hb dX6_pairFault_57 rfl (lv_at hl 0 rfl) ?_
      obtain ⟨f17, hf17, hf⟩ := dz_bo hf
      obtain ⟨x18, hx18, hf⟩ := dz_bo hf
      refine va_get (C := RX7) (T := TX7) (N := 8) hx hb hts in_X7 hown hX.K (zrd_P hX hS hH (zob_o hf17)) 0 rfl rfl 3 (by decide) (hts _ q547) (fun _ hq => hq) (zvi_o hx18) dX6_pairFault_58 ?_
      refine lv_i2l hx hb dX6_pairFault_61 (rfl : _ = Int32.toInt64 x18) ?_
      refine lv_aload_n hx hb dX6_pairFault_62 rfl (lv_at hl 0 rfl) ?_
      obtain ⟨f19, hf19, hf⟩ := dz_bo hf
      obtain ⟨x20, hx20, hf⟩ := dz_bo hf
      refine va_get (C := RX7) (T := TX7) (N := 8) hx hb hts in_X7 hown hX.K (zrd_P hX hS hH (zob_o hf19)) 0 rfl rfl 0 (by decide) (hts _ q532) (fun _ hq => hq) (zvl_o hx20) dX6_pairFault_63 ?_
      refine lv_lconst (v := 1) hx hb dX6_pairFault_66 rfl ?_
      refine lv_ladd hx hb dX6_pairFault_67 ?_
      refine lv_aload_n hx hb dX6_pairFault_68 rfl (lv_at hl 0 rfl) ?_
      obtain ⟨f21, hf21, hf⟩ := dz_bo hf
      obtain ⟨x22, hx22, hf⟩ := dz_bo hf
      refine va_get (C := RX7) (T := TX7) (N := 8) hx hb hts in_X7 hown hX.K (zrd_P hX hS hH (zob_o hf21)) 0 rfl rfl 0 (by decide) (hts _ q532) (fun _ hq => hq) (zvl_o hx22) dX6_pairFault_69 ?_
      obtain ⟨x23, s24, hx23, hle, hck, hf⟩ := zcl_o hf
      have hc1 : cells + (s24.1 - τ.1) ≤ M := by omega
      have hs1 : slots + (s24.2.1 - τ.2.1) ≤ S := by omega
      refine va_calll (va_runSN (As := [.long (Int32.toInt64 x16), .long (Int32.toInt64 x18), .long (x20 + 1), .long x22]) (rest := []) ⟨hx, hb, hml, hown, hts⟩ (mtX0_sequenceOf l D cA ζ τ (Int32.toInt64 x16) (Int32.toInt64 x18) (x20 + 1) x22 K (x23, s24) hx23 (s24.1 - τ.1) (s24.2.1 - τ.2.1) (Nat.add_sub_cancel' hle.1) (Nat.add_sub_cancel' hle.2)) ⟨va_cnB 4 hts (lw_meth q470) rfl rfl rfl (hX.N q468 rfl) (hts _ q84) (by decide +kernel) ⟨Nat.le_of_ble_eq_true rfl, Nat.le_of_ble_eq_true rfl⟩, hts _ q469, trivial⟩ (z_preS hX hS hH) rfl rfl hl.1 rfl (lv_room (Nat.le_of_ble_eq_true rfl)) dX6_pairFault_72 ⟨hc1, hs1⟩) hS (fun q _ hq => hq) (fun q hq => hq) (fun r u t H1 locs ht hvm hw hB hz hk hS => ?_)
      obtain ⟨hw1, hw2⟩ := Prod.mk.inj hw.symm; subst hw1; subst hw2
      have hH : zH D cA ζ s24 H1 := z_at ht.symm hB
      have hcs : s.heap.size + (cells + (s24.1 - τ.1)) = s24.1 := by omega
      have hss : sl0 + (slots + (s24.2.1 - τ.2.1)) = s24.2.1 := by omega
      replace hcM := And.intro hc1 hs1
      generalize cells + (s24.1 - τ.1) = cells at hcs hcM ⊢; generalize slots + (s24.2.1 - τ.2.1) = slots at hss hcM ⊢
      clear hB hk hz hvm ht hle hck hc1 hs1; generalize H1 = H at hH hS ⊢
      refine lv_lconst (v := 0) hx hb dX6_pairFault_75 rfl ?_
      refine W.lcmp hx hb dX6_pairFault_76 ?_
      refine lv_if_eq (tgt := 83) hx hb dX6_pairFault_77 (by decide) (fun c77 => ?_) (fun c77 => ?_)
      · have c77 : x23 = (0 : Int64) := (lg_cmp_eq _ _).mp c77
        have hf := dz_t c77 hf
        refine lv_aload_n hx hb dX6_pairFault_83 rfl (lv_at hl 0 rfl) ?_
        obtain ⟨f25, hf25, hf⟩ := dz_bo hf
        obtain ⟨x26, hx26, hf⟩ := dz_bo hf
        refine va_get (C := RX7) (T := TX7) (N := 8) hx hb hts in_X7 hown hX.K (zrd_P hX hS hH (zob_o hf25)) 0 rfl rfl 5 (by decide) (hts _ q559) (fun _ hq => hq) (zvr_o hx26) dX6_pairFault_84 ?_
        obtain ⟨f29, hf29, hf⟩ := dz_bo hf
        obtain ⟨x27, s28, hx27, hle, hck, hf⟩ := zcl_o hf
        have hc1 : cells + (s28.1 - s24.1) ≤ M := by omega
        have hs1 : slots + (s28.2.1 - s24.2.1) ≤ S := by omega
        refine va_callr (va_runV (As := []) (rest := []) ⟨hx, hb, hml, hown, hts⟩ (mtX8_iterator l D cA ζ s24 x26 K (x27, s28) hx27 (s28.1 - s24.1) (s28.2.1 - s24.2.1) (Nat.add_sub_cancel' hle.1) (Nat.add_sub_cancel' hle.2)) (cwV 0 hts (lw_V q245 q246 q247 q98 q248) rfl rfl rfl (by decide +kernel) ⟨Nat.le_of_ble_eq_true rfl, Nat.le_of_ble_eq_true rfl⟩) (z_preV hX hS hH (zob_o hf29) rfl) rfl rfl hl.1 rfl (lv_room (Nat.le_of_ble_eq_true rfl)) dX6_pairFault_87 ⟨hc1, hs1⟩) hS (fun q _ hq => hq) (fun q hq => hq) (fun u r t H1 locs ht hvm hw hB hz hk hS => ?_)
        obtain ⟨hw, hB⟩ := hB
        obtain ⟨hw1, hw2⟩ := Prod.mk.inj hw.symm; subst hw1; subst hw2
        have hH : zH D cA ζ s28 H1 := z_at ht.symm hB
        have hcs : s.heap.size + (cells + (s28.1 - s24.1)) = s28.1 := by omega
        have hss : sl0 + (slots + (s28.2.1 - s24.2.1)) = s28.2.1 := by omega
        replace hcM := And.intro hc1 hs1
        generalize cells + (s28.1 - s24.1) = cells at hcs hcM ⊢; generalize slots + (s28.2.1 - s24.2.1) = slots at hss hcM ⊢
        clear hB hk hz hvm ht hle hck hc1 hs1; generalize H1 = H at hH hS ⊢
        refine lv_astore_n (lv' := [(1, .ref x27), (0, .ref h)]) hx hb dX6_pairFault_90 rfl hl (by decide) rfl (fun ls hl => ?_)
        exact ih h x27 s28 H locs cells slots hH hS hcs hss hcM ls (lv_sub hl [1, 0] rfl) hf
      · have c77 : ¬ x23 = (0 : Int64) := fun hq => c77 ((lg_cmp_eq _ _).mpr hq)
        have hf := dz_f c77 hf
        refine lv_bipush (v := 8) hx hb dX6_pairFault_80 (by decide) ?_
        obtain ⟨hM1, hS1⟩ : cells = M ∧ slots = S := by have hq := congrArg Prod.snd (Option.some.inj hf); rw [← hq] at hM hS0; have hM : s.heap.size + M = s24.1 := hM; have hS0 : sl0 + S = s24.2.1 := hS0; omega
        refine W.widen (k := M) (n := S) (Nat.le_of_eq hM1) (Nat.le_of_eq hS1) ?_
        exact W.iret (v := 8) hx hb hr (fun t ht hW => ⟨⟨8, s24, rfl, Option.some.inj hf, z_at ht hH⟩, hS.F ht⟩) hS.2.2 dX6_pairFault_82
    · have c46 : ¬ x14 = (1 : Int64) := fun hq => c46 ((lg_cmp_eq _ _).mpr hq)
      have hf := dz_f c46 hf
      refine lv_bipush (v := 7) hx hb dX6_pairFault_49 (by decide) ?_
      obtain ⟨hM1, hS1⟩ : cells = M ∧ slots = S := by have hq := congrArg Prod.snd (Option.some.inj hf); rw [← hq] at hM hS0; have hM : s.heap.size + M = τ.1 := hM; have hS0 : sl0 + S = τ.2.1 := hS0; omega
      refine W.widen (k := M) (n := S) (Nat.le_of_eq hM1) (Nat.le_of_eq hS1) ?_
      exact W.iret (v := 7) hx hb hr (fun t ht hW => ⟨⟨7, τ, rfl, Option.some.inj hf, z_at ht hH⟩, hS.F ht⟩) hS.2.2 dX6_pairFault_51

noncomputable def fnX6_isFar_5 (K : Nat) (ζ : pZ) (h : Nat) (a0 : Nat) (τ : pH) : Option (Int32 × pH) := dz_b (zob ζ τ a0 11) fun f1 => dz_b (zvi (f1[2]?)) fun x2 => dz_b (zob ζ τ h 5) fun f3 => dz_b (zvl (f3[0]?)) fun x4 => dz_b (zob ζ τ a0 11) fun f5 => dz_b (zvl (f5[0]?)) fun x6 => if ¬ x6 = 0 then (dz_l ((x4 - 1) / x6) fun x8 => dz_b (zob ζ τ h 5) fun f9 => dz_b (zvl (f9[0]?)) fun x10 => zcl τ (fnX0_powerOf K ζ (Int32.toInt64 x2) x8 x10 τ) fun x11 s12 => dz_b (zob ζ s12 h 5) fun f13 => dz_b (zvl (f13[0]?)) fun x14 => dz_b (fnJ5_floorMod K (x11 - 1) x14) fun x15 => dz_b (zob ζ s12 h 5) fun f16 => dz_b (zvl (f16[0]?)) fun x17 => dz_b (fnX0_common 100 x15 x17) fun x18 => if x18 = (1 : Int64) then (some (1, s12)) else (some (0, s12))) else none
set_option maxHeartbeats 4000000 in
set_option maxRecDepth 100000 in
theorem mtX6_isFar_5 (l : Launch) (D : va_G) (cA : Nat → ClassId) (ζ : pZ) (τ : pH) (h : Nat) (a0 : Nat) (K : Nat) (res : (Int32 × pH)) (hf : fnX6_isFar_5 K ζ h a0 τ = some res) (M S : Nat) (hM : τ.1 + M = res.2.1) (hS0 : τ.2.1 + S = res.2.2.1) : Met l yX6_isFar (ws_ yX6_isFar cX6_isFar 2 (some .boolean)) ({ frames := 101, cells := M, slots := S, locals := 2323 }) (zPc D cA ζ τ [.ref h, .ref a0]) (zQi D cA ζ res) M S (zA ζ) := by
  refine Met.ofW (cc := cX6_isFar) (maxL := 2) (ret := some .boolean) (by decide +kernel) rfl ?_
  intro p e s m args below meth c s₁ B hml hv
  obtain ⟨rfl, hX, hH⟩ := hv
  have hx := B.exec
  have hb := B.bytes
  have hr := B.returns
  have hts := atoms_spec (ws := ws_ yX6_isFar cX6_isFar 2 (some .boolean)) B.pre
  have hts : ∀ w ∈ lw_all, w.before _ s = true := fun w h => hts w (List.mem_cons_of_mem _ h)
  have hown : s.vm.findClass RX6 = some m.cls := findClass_of_methodNamed B.named
  have hlocks := B.notSynchronized
  have hM : s.heap.size + M = res.2.1 := by rw [hH.1]; exact hM
  have hcs : s.heap.size + 0 = τ.1 := hH.1
  have hss : τ.2.1 + 0 = τ.2.1 := rfl
  generalize hsl0 : τ.2.1 = sl0 at hS0 hss
  have hss : sl0 + 0 = τ.2.1 := by rw [hsl0]; rfl
  have hS : va_S (zA ζ) s.heap s.heap [] := va_S.rf
  generalize hHe : s.heap = H at hH hS ⊢
  have hS : va_S (zA ζ) s.heap H [] := by rw [hHe]; exact hS
  generalize ([] : List Loc) = locs at hS ⊢
  have hl := lv_entry ([.ref h, .ref a0]) (n := 2) (Nat.le_of_ble_eq_true rfl)
  rw [lg_entry_eq]
  generalize (lg_sl ([.ref h, .ref a0]) ++ List.replicate (2 - (lg_sl ([.ref h, .ref a0])).length) Slot.unset).toArray = ls at hl ⊢
  have hl : lv_has ls 2 [(0, .ref h), (1, .ref a0)] := hl
  have hf : (dz_b (zob ζ τ a0 11) fun f1 => dz_b (zvi (f1[2]?)) fun x2 => dz_b (zob ζ τ h 5) fun f3 => dz_b (zvl (f3[0]?)) fun x4 => dz_b (zob ζ τ a0 11) fun f5 => dz_b (zvl (f5[0]?)) fun x6 => if ¬ x6 = 0 then (dz_l ((x4 - 1) / x6) fun x8 => dz_b (zob ζ τ h 5) fun f9 => dz_b (zvl (f9[0]?)) fun x10 => zcl τ (fnX0_powerOf K ζ (Int32.toInt64 x2) x8 x10 τ) fun x11 s12 => dz_b (zob ζ s12 h 5) fun f13 => dz_b (zvl (f13[0]?)) fun x14 => dz_b (fnJ5_floorMod K (x11 - 1) x14) fun x15 => dz_b (zob ζ s12 h 5) fun f16 => dz_b (zvl (f16[0]?)) fun x17 => dz_b (fnX0_common 100 x15 x17) fun x18 => if x18 = (1 : Int64) then (some (1, s12)) else (some (0, s12))) else none : Option (Int32 × pH)) = some res := hf
  refine z_gen (fun cells slots hc0 hs0 => ?_)
  have hcs : s.heap.size + cells = τ.1 := by rw [hc0]; exact hcs
  have hss : sl0 + slots = τ.2.1 := by rw [hs0]; exact hss
  have hcM : cells ≤ M ∧ slots ≤ S := by rw [hc0, hs0]; exact ⟨Nat.zero_le _, Nat.zero_le _⟩
  clear hc0 hs0
  refine lv_aload_n hx hb dX6_isFar_0 rfl (lv_at hl 1 rfl) ?_
  obtain ⟨f1, hf1, hf⟩ := dz_bo hf
  obtain ⟨x2, hx2, hf⟩ := dz_bo hf
  refine va_get (C := RX13) (T := TX13) (N := 3) hx hb hts in_X13 hown hX.K (zrd_P hX hS hH (zob_o hf1)) 0 rfl rfl 2 (by decide) (hts _ q692) (fun _ hq => hq) (zvi_o hx2) dX6_isFar_1 ?_
  refine lv_i2l hx hb dX6_isFar_4 (rfl : _ = Int32.toInt64 x2) ?_
  refine lv_aload_n hx hb dX6_isFar_5 rfl (lv_at hl 0 rfl) ?_
  obtain ⟨f3, hf3, hf⟩ := dz_bo hf
  obtain ⟨x4, hx4, hf⟩ := dz_bo hf
  refine va_get (C := RX7) (T := TX7) (N := 8) hx hb hts in_X7 hown hX.K (zrd_P hX hS hH (zob_o hf3)) 0 rfl rfl 0 (by decide) (hts _ q532) (fun _ hq => hq) (zvl_o hx4) dX6_isFar_6 ?_
  refine lv_lconst (v := 1) hx hb dX6_isFar_9 rfl ?_
  refine lv_lsub hx hb dX6_isFar_10 ?_
  refine lv_aload_n hx hb dX6_isFar_11 rfl (lv_at hl 1 rfl) ?_
  obtain ⟨f5, hf5, hf⟩ := dz_bo hf
  obtain ⟨x6, hx6, hf⟩ := dz_bo hf
  refine va_get (C := RX13) (T := TX13) (N := 3) hx hb hts in_X13 hown hX.K (zrd_P hX hS hH (zob_o hf5)) 0 rfl rfl 0 (by decide) (hts _ q684) (fun _ hq => hq) (zvl_o hx6) dX6_isFar_12 ?_
  obtain ⟨g7, hf⟩ := dz_go hf
  refine lv_ldiv hx hb dX6_isFar_15 g7 ?_
  refine lv_topl (fun x8 e_x8 => ?_)
  have hf := dz_ls e_x8 hf
  refine lv_aload_n hx hb dX6_isFar_16 rfl (lv_at hl 0 rfl) ?_
  obtain ⟨f9, hf9, hf⟩ := dz_bo hf
  obtain ⟨x10, hx10, hf⟩ := dz_bo hf
  refine va_get (C := RX7) (T := TX7) (N := 8) hx hb hts in_X7 hown hX.K (zrd_P hX hS hH (zob_o hf9)) 0 rfl rfl 0 (by decide) (hts _ q532) (fun _ hq => hq) (zvl_o hx10) dX6_isFar_17 ?_
  obtain ⟨x11, s12, hx11, hle, hck, hf⟩ := zcl_o hf
  have hc1 : cells + (s12.1 - τ.1) ≤ M := by omega
  have hs1 : slots + (s12.2.1 - τ.2.1) ≤ S := by omega
  refine va_calll (va_runSN (As := [.long (Int32.toInt64 x2), .long x8, .long x10]) (rest := []) ⟨hx, hb, hml, hown, hts⟩ (mtX0_powerOf l D cA ζ τ (Int32.toInt64 x2) x8 x10 K (x11, s12) hx11 (s12.1 - τ.1) (s12.2.1 - τ.2.1) (Nat.add_sub_cancel' hle.1) (Nat.add_sub_cancel' hle.2)) ⟨va_cnB 3 hts (lw_meth q369) rfl rfl rfl (hX.N q367 rfl) (hts _ q84) (by decide +kernel) ⟨Nat.le_of_ble_eq_true rfl, Nat.le_of_ble_eq_true rfl⟩, hts _ q368, trivial⟩ (z_preS hX hS hH) rfl rfl hl.1 rfl (lv_room (Nat.le_of_ble_eq_true rfl)) dX6_isFar_20 ⟨hc1, hs1⟩) hS (fun q _ hq => hq) (fun q hq => hq) (fun r u t H1 locs ht hvm hw hB hz hk hS => ?_)
  obtain ⟨hw1, hw2⟩ := Prod.mk.inj hw.symm; subst hw1; subst hw2
  have hH : zH D cA ζ s12 H1 := z_at ht.symm hB
  have hcs : s.heap.size + (cells + (s12.1 - τ.1)) = s12.1 := by omega
  have hss : sl0 + (slots + (s12.2.1 - τ.2.1)) = s12.2.1 := by omega
  replace hcM := And.intro hc1 hs1
  generalize cells + (s12.1 - τ.1) = cells at hcs hcM ⊢; generalize slots + (s12.2.1 - τ.2.1) = slots at hss hcM ⊢
  clear hB hk hz hvm ht hle hck hc1 hs1; generalize H1 = H at hH hS ⊢
  refine lv_lconst (v := 1) hx hb dX6_isFar_23 rfl ?_
  refine lv_lsub hx hb dX6_isFar_24 ?_
  refine lv_aload_n hx hb dX6_isFar_25 rfl (lv_at hl 0 rfl) ?_
  obtain ⟨f13, hf13, hf⟩ := dz_bo hf
  obtain ⟨x14, hx14, hf⟩ := dz_bo hf
  refine va_get (C := RX7) (T := TX7) (N := 8) hx hb hts in_X7 hown hX.K (zrd_P hX hS hH (zob_o hf13)) 0 rfl rfl 0 (by decide) (hts _ q532) (fun _ hq => hq) (zvl_o hx14) dX6_isFar_26 ?_
  obtain ⟨x15, hx15, hf⟩ := dz_bo hf
  refine va_calll (va_runS (As := [.long (x11 - 1), .long x14]) (rest := []) ⟨hx, hb, hml, hown, hts⟩ (mtJ5_floorMod l (x11 - 1) x14 K x15 hx15) (va_cwS 2 hts (lw_S q440 q411 q92 q412) rfl rfl rfl (by decide +kernel) ⟨Nat.le_of_ble_eq_true rfl, Nat.le_of_ble_eq_true rfl⟩) ⟨fun a U g mk q => q, fun U hU hW => ⟨rfl, trivial⟩⟩ rfl rfl hl.1 rfl (lv_room (Nat.le_of_ble_eq_true rfl)) dX6_isFar_29 ⟨hcM.1, hcM.2⟩) hS (fun q _ hq => hq.elim) (fun q hq => hq.elim) (fun r u t H1 locs ht hvm hw hB hz hk hS => dz_size (fun hz9 => ?_))
  replace hw := hw.symm; subst hw
  replace hH := zH_keep hH hcs hz hk hz9
  clear hB hk hz hvm ht hz9; generalize H1 = H at hH hS ⊢
  refine W.widen (k := cells) (n := slots) (Nat.le_refl _) (Nat.le_refl _) ?_
  refine lv_aload_n hx hb dX6_isFar_32 rfl (lv_at hl 0 rfl) ?_
  obtain ⟨f16, hf16, hf⟩ := dz_bo hf
  obtain ⟨x17, hx17, hf⟩ := dz_bo hf
  refine va_get (C := RX7) (T := TX7) (N := 8) hx hb hts in_X7 hown hX.K (zrd_P hX hS hH (zob_o hf16)) 0 rfl rfl 0 (by decide) (hts _ q532) (fun _ hq => hq) (zvl_o hx17) dX6_isFar_33 ?_
  obtain ⟨x18, hx18, hf⟩ := dz_bo hf
  refine va_calll (va_runSN (As := [.long x15, .long x17]) (rest := []) ⟨hx, hb, hml, hown, hts⟩ (mtX0_common l x15 x17 100 x18 hx18) ⟨va_cnB 2 hts (lw_meth q348) rfl rfl rfl (hX.N q441 rfl) (hts _ q84) (by decide +kernel) ⟨Nat.le_of_ble_eq_true rfl, Nat.le_of_ble_eq_true rfl⟩, hts _ q347, trivial⟩ ⟨fun a U g mk q => q, fun U hU hW => ⟨rfl, trivial⟩⟩ rfl rfl hl.1 rfl (lv_room (Nat.le_of_ble_eq_true rfl)) dX6_isFar_36 ⟨hcM.1, hcM.2⟩) hS (fun q _ hq => hq.elim) (fun q hq => hq.elim) (fun r u t H1 locs ht hvm hw hB hz hk hS => dz_size (fun hz9 => ?_))
  replace hw := hw.symm; subst hw
  replace hH := zH_keep hH hcs hz hk hz9
  clear hB hk hz hvm ht hz9; generalize H1 = H at hH hS ⊢
  refine W.widen (k := cells) (n := slots) (Nat.le_refl _) (Nat.le_refl _) ?_
  refine lv_lconst (v := 1) hx hb dX6_isFar_39 rfl ?_
  refine W.lcmp hx hb dX6_isFar_40 ?_
  refine lv_if_ne (tgt := 48) hx hb dX6_isFar_41 (by decide) (fun c41 => ?_) (fun c41 => ?_)
  · have c41 : ¬ x18 = (1 : Int64) := fun hq => c41 ((lg_cmp_eq _ _).mpr hq)
    have hf := dz_f c41 hf
    refine lv_iconst (v := 0) hx hb dX6_isFar_48 (by decide) ?_
    obtain ⟨hM1, hS1⟩ : cells = M ∧ slots = S := by have hq := congrArg Prod.snd (Option.some.inj hf); rw [← hq] at hM hS0; have hM : s.heap.size + M = s12.1 := hM; have hS0 : sl0 + S = s12.2.1 := hS0; omega
    refine W.widen (k := M) (n := S) (Nat.le_of_eq hM1) (Nat.le_of_eq hS1) ?_
    exact W.zret (v := 0) hx hb hr rfl (fun t ht hW => ⟨⟨0, s12, rfl, Option.some.inj hf, z_at ht hH⟩, hS.F ht⟩) hS.2.2 dX6_isFar_49
  · have c41 : x18 = (1 : Int64) := (lg_cmp_eq _ _).mp c41
    have hf := dz_t c41 hf
    refine lv_iconst (v := 1) hx hb dX6_isFar_44 (by decide) ?_
    refine lv_goto (tgt := 49) hx hb dX6_isFar_45 (by decide) ?_
    obtain ⟨hM1, hS1⟩ : cells = M ∧ slots = S := by have hq := congrArg Prod.snd (Option.some.inj hf); rw [← hq] at hM hS0; have hM : s.heap.size + M = s12.1 := hM; have hS0 : sl0 + S = s12.2.1 := hS0; omega
    refine W.widen (k := M) (n := S) (Nat.le_of_eq hM1) (Nat.le_of_eq hS1) ?_
    exact W.zret (v := 1) hx hb hr rfl (fun t ht hW => ⟨⟨1, s12, rfl, Option.some.inj hf, z_at ht hH⟩, hS.F ht⟩) hS.2.2 dX6_isFar_49

noncomputable def fnX0_isRight__0 (K : Nat) (ζ : pZ) (h : Nat) (a0 : Int32) (τ : pH) : Option (Int32 × pH) := dz_b (zob ζ τ h 0) fun f1 => dz_b (zvi (f1[2]?)) fun x2 => if a0 < x2 then (dz_b (zob ζ τ h 0) fun f3 => dz_b (zvr (f3[1]?)) fun x4 => dz_c (zai ζ τ x4 3) fun n5 f6 => if ¬ (a0 < 0 ∨ n5 ≤ Int32.toNatClampNeg a0) then (dz_l (f6 (Int32.toNatClampNeg a0)) fun x8 => if x8 = (0 : Int32) then (some (1, τ)) else (some (0, τ))) else none) else (dz_b (zob ζ τ h 0) fun f9 => dz_b (zvr (f9[1]?)) fun x10 => dz_b (zob ζ τ h 0) fun f11 => dz_b (zvi (f11[2]?)) fun x12 => dz_b (zob ζ τ h 0) fun f13 => dz_b (zvr (f13[0]?)) fun x14 => dz_b (zob ζ τ h 0) fun f15 => dz_b (zvi (f15[2]?)) fun x16 => dz_b (zob ζ τ x14 14) fun f19 => zcl τ (fnJ2_get K ζ x14 x16 τ) fun x17 s18 => dz_c (zoL ζ s18 x17) fun cf20 f20 => dz_b (zob ζ s18 h 0) fun f21 => dz_b (zvi (f21[2]?)) fun x22 => none)
set_option maxHeartbeats 4000000 in
set_option maxRecDepth 100000 in
theorem mtX0_isRight__0 (l : Launch) (D : va_G) (cA : Nat → ClassId) (ζ : pZ) (τ : pH) (h : Nat) (a0 : Int32) (K : Nat) (res : (Int32 × pH)) (hf : fnX0_isRight__0 K ζ h a0 τ = some res) (M S : Nat) (hM : τ.1 + M = res.2.1) (hS0 : τ.2.1 + S = res.2.2.1) : Met l yX0_isRight (ws_ yX0_isRight cX0_isRight 2 (some .boolean)) ({ frames := 3, cells := M, slots := S, locals := 64 }) (zPc D cA ζ τ [.ref h, .int a0]) (zQi D cA ζ res) M S (zA ζ) := by
  refine Met.ofW (cc := cX0_isRight) (maxL := 2) (ret := some .boolean) (by decide +kernel) rfl ?_
  intro p e s m args below meth c s₁ B hml hv
  obtain ⟨rfl, hX, hH⟩ := hv
  have hx := B.exec
  have hb := B.bytes
  have hr := B.returns
  have hts := atoms_spec (ws := ws_ yX0_isRight cX0_isRight 2 (some .boolean)) B.pre
  have hts : ∀ w ∈ lw_all, w.before _ s = true := fun w h => hts w (List.mem_cons_of_mem _ h)
  have hown : s.vm.findClass RX0 = some m.cls := findClass_of_methodNamed B.named
  have hlocks := B.notSynchronized
  have hM : s.heap.size + M = res.2.1 := by rw [hH.1]; exact hM
  have hcs : s.heap.size + 0 = τ.1 := hH.1
  have hss : τ.2.1 + 0 = τ.2.1 := rfl
  generalize hsl0 : τ.2.1 = sl0 at hS0 hss
  have hss : sl0 + 0 = τ.2.1 := by rw [hsl0]; rfl
  have hS : va_S (zA ζ) s.heap s.heap [] := va_S.rf
  generalize hHe : s.heap = H at hH hS ⊢
  have hS : va_S (zA ζ) s.heap H [] := by rw [hHe]; exact hS
  generalize ([] : List Loc) = locs at hS ⊢
  have hl := lv_entry ([.ref h, .int a0]) (n := 2) (Nat.le_of_ble_eq_true rfl)
  rw [lg_entry_eq]
  generalize (lg_sl ([.ref h, .int a0]) ++ List.replicate (2 - (lg_sl ([.ref h, .int a0])).length) Slot.unset).toArray = ls at hl ⊢
  have hl : lv_has ls 2 [(0, .ref h), (1, .int a0)] := hl
  have hf : (dz_b (zob ζ τ h 0) fun f1 => dz_b (zvi (f1[2]?)) fun x2 => if a0 < x2 then (dz_b (zob ζ τ h 0) fun f3 => dz_b (zvr (f3[1]?)) fun x4 => dz_c (zai ζ τ x4 3) fun n5 f6 => if ¬ (a0 < 0 ∨ n5 ≤ Int32.toNatClampNeg a0) then (dz_l (f6 (Int32.toNatClampNeg a0)) fun x8 => if x8 = (0 : Int32) then (some (1, τ)) else (some (0, τ))) else none) else (dz_b (zob ζ τ h 0) fun f9 => dz_b (zvr (f9[1]?)) fun x10 => dz_b (zob ζ τ h 0) fun f11 => dz_b (zvi (f11[2]?)) fun x12 => dz_b (zob ζ τ h 0) fun f13 => dz_b (zvr (f13[0]?)) fun x14 => dz_b (zob ζ τ h 0) fun f15 => dz_b (zvi (f15[2]?)) fun x16 => dz_b (zob ζ τ x14 14) fun f19 => zcl τ (fnJ2_get K ζ x14 x16 τ) fun x17 s18 => dz_c (zoL ζ s18 x17) fun cf20 f20 => dz_b (zob ζ s18 h 0) fun f21 => dz_b (zvi (f21[2]?)) fun x22 => none) : Option (Int32 × pH)) = some res := hf
  refine z_gen (fun cells slots hc0 hs0 => ?_)
  have hcs : s.heap.size + cells = τ.1 := by rw [hc0]; exact hcs
  have hss : sl0 + slots = τ.2.1 := by rw [hs0]; exact hss
  have hcM : cells ≤ M ∧ slots ≤ S := by rw [hc0, hs0]; exact ⟨Nat.zero_le _, Nat.zero_le _⟩
  clear hc0 hs0
  refine lv_aload_n hx hb dX0_isRight_0 rfl (lv_at hl 0 rfl) ?_
  obtain ⟨f1, hf1, hf⟩ := dz_bo hf
  obtain ⟨x2, hx2, hf⟩ := dz_bo hf
  refine va_get (C := RX0) (T := TX0) (N := 7) hx hb hts in_X0 hown hX.K (zrd_P hX hS hH (zob_o hf1)) 0 rfl rfl 2 (by decide) (hts _ q158) (fun _ hq => hq) (zvi_o hx2) dX0_isRight_1 ?_
  refine lv_iload_n hx hb dX0_isRight_4 rfl (lv_at hl 1 rfl) ?_
  refine lv_icmp_gt (tgt := 52) hx hb dX0_isRight_5 (by decide) (fun c5 => ?_) (fun c5 => ?_)
  · have hf := dz_t c5 hf
    refine lv_aload_n hx hb dX0_isRight_52 rfl (lv_at hl 0 rfl) ?_
    obtain ⟨f3, hf3, hf⟩ := dz_bo hf
    obtain ⟨x4, hx4, hf⟩ := dz_bo hf
    refine va_get (C := RX0) (T := TX0) (N := 7) hx hb hts in_X0 hown hX.K (zrd_P hX hS hH (zob_o hf3)) 0 rfl rfl 1 (by decide) (hts _ q157) (fun _ hq => hq) (zvr_o hx4) dX0_isRight_53 ?_
    refine lv_iload_n hx hb dX0_isRight_56 rfl (lv_at hl 1 rfl) ?_
    obtain ⟨n5, f6, hn5, hf⟩ := dz_co hf
    obtain ⟨g7, hf⟩ := dz_go hf
    refine va_bald hx hb hX.K (zrd_P hX hS hH (zai_o hn5)) 0 3 rfl rfl g7 dX0_isRight_57 ?_
    refine lv_topi (fun x8 e_x8 => ?_)
    have hf := dz_ls e_x8 hf
    refine lv_if_ne (tgt := 65) hx hb dX0_isRight_58 (by decide) (fun c58 => ?_) (fun c58 => ?_)
    · have hf := dz_f c58 hf
      refine lv_iconst (v := 0) hx hb dX0_isRight_65 (by decide) ?_
      obtain ⟨hM1, hS1⟩ : cells = M ∧ slots = S := by have hq := congrArg Prod.snd (Option.some.inj hf); rw [← hq] at hM hS0; have hM : s.heap.size + M = τ.1 := hM; have hS0 : sl0 + S = τ.2.1 := hS0; omega
      refine W.widen (k := M) (n := S) (Nat.le_of_eq hM1) (Nat.le_of_eq hS1) ?_
      exact W.zret (v := 0) hx hb hr rfl (fun t ht hW => ⟨⟨0, τ, rfl, Option.some.inj hf, z_at ht hH⟩, hS.F ht⟩) hS.2.2 dX0_isRight_66
    · have hf := dz_t c58 hf
      refine lv_iconst (v := 1) hx hb dX0_isRight_61 (by decide) ?_
      refine lv_goto (tgt := 66) hx hb dX0_isRight_62 (by decide) ?_
      obtain ⟨hM1, hS1⟩ : cells = M ∧ slots = S := by have hq := congrArg Prod.snd (Option.some.inj hf); rw [← hq] at hM hS0; have hM : s.heap.size + M = τ.1 := hM; have hS0 : sl0 + S = τ.2.1 := hS0; omega
      refine W.widen (k := M) (n := S) (Nat.le_of_eq hM1) (Nat.le_of_eq hS1) ?_
      exact W.zret (v := 1) hx hb hr rfl (fun t ht hW => ⟨⟨1, τ, rfl, Option.some.inj hf, z_at ht hH⟩, hS.F ht⟩) hS.2.2 dX0_isRight_66
  · have hf := dz_f c5 hf
    refine lv_aload_n hx hb dX0_isRight_8 rfl (lv_at hl 0 rfl) ?_
    obtain ⟨f9, hf9, hf⟩ := dz_bo hf
    obtain ⟨x10, hx10, hf⟩ := dz_bo hf
    refine va_get (C := RX0) (T := TX0) (N := 7) hx hb hts in_X0 hown hX.K (zrd_P hX hS hH (zob_o hf9)) 0 rfl rfl 1 (by decide) (hts _ q157) (fun _ hq => hq) (zvr_o hx10) dX0_isRight_9 ?_
    refine lv_aload_n hx hb dX0_isRight_12 rfl (lv_at hl 0 rfl) ?_
    obtain ⟨f11, hf11, hf⟩ := dz_bo hf
    obtain ⟨x12, hx12, hf⟩ := dz_bo hf
    refine va_get (C := RX0) (T := TX0) (N := 7) hx hb hts in_X0 hown hX.K (zrd_P hX hS hH (zob_o hf11)) 0 rfl rfl 2 (by decide) (hts _ q158) (fun _ hq => hq) (zvi_o hx12) dX0_isRight_13 ?_
    refine lv_aload_n hx hb dX0_isRight_16 rfl (lv_at hl 0 rfl) ?_
    obtain ⟨f13, hf13, hf⟩ := dz_bo hf
    obtain ⟨x14, hx14, hf⟩ := dz_bo hf
    refine va_get (C := RX0) (T := TX0) (N := 7) hx hb hts in_X0 hown hX.K (zrd_P hX hS hH (zob_o hf13)) 0 rfl rfl 0 (by decide) (hts _ q156) (fun _ hq => hq) (zvr_o hx14) dX0_isRight_17 ?_
    refine lv_aload_n hx hb dX0_isRight_20 rfl (lv_at hl 0 rfl) ?_
    obtain ⟨f15, hf15, hf⟩ := dz_bo hf
    obtain ⟨x16, hx16, hf⟩ := dz_bo hf
    refine va_get (C := RX0) (T := TX0) (N := 7) hx hb hts in_X0 hown hX.K (zrd_P hX hS hH (zob_o hf15)) 0 rfl rfl 2 (by decide) (hts _ q158) (fun _ hq => hq) (zvi_o hx16) dX0_isRight_21 ?_
    obtain ⟨f19, hf19, hf⟩ := dz_bo hf
    obtain ⟨x17, s18, hx17, hle, hck, hf⟩ := zcl_o hf
    have hc1 : cells + (s18.1 - τ.1) ≤ M := by omega
    have hs1 : slots + (s18.2.1 - τ.2.1) ≤ S := by omega
    refine va_callr (va_runV (As := [.int x16]) (rest := [.int x12, .ref x10]) ⟨hx, hb, hml, hown, hts⟩ (mtJ2_get l D cA ζ τ x14 x16 K (x17, s18) hx17 (s18.1 - τ.1) (s18.2.1 - τ.2.1) (Nat.add_sub_cancel' hle.1) (Nat.add_sub_cancel' hle.2)) (cwV 1 hts (lw_V q204 q205 q206 q87 q207) rfl rfl rfl (by decide +kernel) ⟨Nat.le_of_ble_eq_true rfl, Nat.le_of_ble_eq_true rfl⟩) (z_preV hX hS hH (zob_o hf19) rfl) rfl rfl hl.1 rfl (lv_room (Nat.le_of_ble_eq_true rfl)) dX0_isRight_24 ⟨hc1, hs1⟩) hS (fun q _ hq => hq) (fun q hq => hq) (fun u r t H1 locs ht hvm hw hB hz hk hS => ?_)
    obtain ⟨hw, hB⟩ := hB
    obtain ⟨hw1, hw2⟩ := Prod.mk.inj hw.symm; subst hw1; subst hw2
    have hH : zH D cA ζ s18 H1 := z_at ht.symm hB
    have hcs : s.heap.size + (cells + (s18.1 - τ.1)) = s18.1 := by omega
    have hss : sl0 + (slots + (s18.2.1 - τ.2.1)) = s18.2.1 := by omega
    replace hcM := And.intro hc1 hs1
    generalize cells + (s18.1 - τ.1) = cells at hcs hcM ⊢; generalize slots + (s18.2.1 - τ.2.1) = slots at hss hcM ⊢
    clear hB hk hz hvm ht hle hck hc1 hs1; generalize H1 = H at hH hS ⊢
    obtain ⟨cf20, f20, hcf20, hf⟩ := dz_co hf
    obtain ⟨hr_f20, hc_f20⟩ := zoL_o hcf20
    refine zL_cast hx hb hown (hts _ q218) hX hS hH hr_f20 hc_f20 dX0_isRight_27 ?_
    refine lv_aload_n hx hb dX0_isRight_30 rfl (lv_at hl 0 rfl) ?_
    obtain ⟨f21, hf21, hf⟩ := dz_bo hf
    obtain ⟨x22, hx22, hf⟩ := dz_bo hf
    refine va_get (C := RX0) (T := TX0) (N := 7) hx hb hts in_X0 hown hX.K (zrd_P hX hS hH (zob_o hf21)) 0 rfl rfl 2 (by decide) (hts _ q158) (fun _ hq => hq) (zvi_o hx22) dX0_isRight_31 ?_
    cases hf

