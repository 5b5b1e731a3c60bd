noncomputable def lfX0_laysRests (K : Nat) (ζ : pZ) : Nat → (Nat → Int32 → Int32 → pH → Option (Unit × pH)) × (Nat → Int32 → Int32 → pH → Option (Unit × pH)) := Nat.rec (motive := fun _ => (Nat → Int32 → Int32 → pH → Option (Unit × pH)) × (Nat → Int32 → Int32 → pH → Option (Unit × pH))) ((fun _ _ _ _ => none), (fun _ _ _ _ => none)) (fun _ G => ((fun v0 v1 v2 τ => if v1 < v2 then (some ((), τ)) else (dz_b (zob ζ τ v0 0) fun f1 => dz_b (zvr (f1[5]?)) fun x2 => dz_l ((1 : Int64) <<< (Int32.toInt64 v2 &&& 63)) fun x3 => if ζ.1 ≤ x2 ∧ x2 < τ.1 then (dz_c (zal ζ τ x2 1) fun n4 f5 => if ¬ (v2 < 0 ∨ n4 ≤ Int32.toNatClampNeg v2) then (dz_l (zst τ x2 (.inl (1, n4, .inr (.inl (vp_updL f5 (Int32.toNatClampNeg v2) x3))))) fun s6 => dz_b (zob ζ s6 v0 0) fun f9 => dz_b (zvr (f9[6]?)) fun x10 => if ζ.1 ≤ x10 ∧ x10 < s6.1 then (dz_c (zai ζ s6 x10 0) fun n11 f12 => if ¬ (v2 < 0 ∨ n11 ≤ Int32.toNatClampNeg v2) then (dz_l (zst s6 x10 (.inl (0, n11, .inl (upd f12 (Int32.toNatClampNeg v2) 0)))) fun s13 => dz_b (zob ζ s13 v0 0) fun f18 => zcl s13 (fnX0_isRight K ζ v0 v2 s13) fun x16 s17 => if x16 = (0 : Int32) then (G.2 v0 v1 v2 s17) else (dz_b (zob ζ s17 v0 0) fun f19 => dz_b (zvr (f19[0]?)) fun x20 => dz_b (zob ζ s17 x20 14) fun f23 => zcl s17 (fnJ2_get K ζ x20 v2 s17) fun x21 s22 => dz_c (zoL ζ s22 x21) fun cf24 f24 => dz_c (zoL ζ s22 x21) fun cf25 f25 => dz_b (zvr (f25[4]?)) fun x26 => dz_b (zob ζ s22 v0 0) fun f29 => zcl s22 (fnX0_addsRests K ζ v0 v2 x26 s22) fun _ s28 => dz_b (zob ζ s28 v0 0) fun f30 => dz_b (zvr (f30[0]?)) fun x31 => dz_b (zob ζ s28 x31 14) fun f34 => zcl s28 (fnJ2_get K ζ x31 v2 s28) fun x32 s33 => dz_c (zoL ζ s33 x32) fun cf35 f35 => dz_c (zoL ζ s33 x32) fun cf36 f36 => dz_b (zvr (f36[5]?)) fun x37 => dz_b (zob ζ s33 v0 0) fun f40 => zcl s33 (fnX0_addsRests K ζ v0 v2 x37 s33) fun _ s39 => G.2 v0 v1 v2 s39)) else none) else none) else none) else none)), (fun v0 v1 v2 τ => dz_l (v2 + 1) fun x1 => G.1 v0 v1 x1 τ)))
noncomputable def fnX0_laysRests (K : Nat) (ζ : pZ) (h : Nat) (a0 : Int32) (τ : pH) : Option (Unit × pH) := (lfX0_laysRests K ζ K).1 h a0 0 τ
set_option maxHeartbeats 4000000 in
set_option maxRecDepth 100000 in
theorem wlX0_laysRests {p : Program} {l : Launch} {e : Env} {s : State} {m : MethodId} {below : List Frame} {meth : Method} {c : Code} {D : va_G} {cA : Nat → ClassId} {ζ : pZ} (hX : zX D cA ζ s) (K : Nat) (res : (Unit × pH)) (M S sl0 : Nat) (hM : s.heap.size + M = res.2.1) (hS0 : sl0 + S = res.2.2.1) (h : Nat) (a0 : Int32) (hx : p.tables.exec = Jvm.exec) (hb : c.code = cX0_laysRests) (hr : meth.sig.returnType = none) (hlocks : meth.locks = false) (hml : c.maxLocals = 3) (hown : s.vm.findClass RX0 = some m.cls) (hts : ∀ w ∈ lw_all, w.before ([.ref h, .int a0] : List Value).toArray s = true) : ∀ k : Nat, (∀ (v0 : Nat) (v1 : Int32) (v2 : Int32) (τ : pH) (H : Heap) (locs : List Loc) (cells slots : Nat), zH D cA ζ τ H → va_S (zA ζ) s.heap H locs → s.heap.size + cells = τ.1 → sl0 + slots = τ.2.1 → cells ≤ M ∧ slots ≤ S → ∀ (ls : Array Slot), lv_has ls 3 [(0, .ref v0), (1, .int v1), (2, .int v2)] → (lfX0_laysRests K ζ k).1 v0 v1 v2 τ = some res → W p l e (headSpec (ws_ yX0_laysRests cX0_laysRests 3 (none)) ({ frames := 106, cells := M, slots := S, locals := 2444 })).room s m ([.ref h, .int a0] : List Value).toArray below meth c H locs cells slots (MQ below (zQv D cA ζ res) ([.ref h, .int a0] : List Value).toArray s M S (zA ζ)) (F0 m 2 ls [])) ∧ (∀ (v0 : Nat) (v1 : Int32) (v2 : Int32) (τ : pH) (H : Heap) (locs : List Loc) (cells slots : Nat), zH D cA ζ τ H → va_S (zA ζ) s.heap H locs → s.heap.size + cells = τ.1 → sl0 + slots = τ.2.1 → cells ≤ M ∧ slots ≤ S → ∀ (ls : Array Slot), lv_has ls 3 [(0, .ref v0), (1, .int v1), (2, .int v2)] → (lfX0_laysRests K ζ k).2 v0 v1 v2 τ = some res → W p l e (headSpec (ws_ yX0_laysRests cX0_laysRests 3 (none)) ({ frames := 106, cells := M, slots := S, locals := 2444 })).room s m ([.ref h, .int a0] : List Value).toArray below meth c H locs cells slots (MQ below (zQv D cA ζ res) ([.ref h, .int a0] : List Value).toArray s M S (zA ζ)) (F0 m 72 ls [])) := by
  intro k
  induction k with
  | zero =>
    exact ⟨fun _ _ _ _ _ _ _ _ _ _ _ _ _ _ _ hf => (by cases hf), fun _ _ _ _ _ _ _ _ _ _ _ _ _ _ _ hf => (by cases hf)⟩
  | succ k ih =>
    refine ⟨?_, ?_⟩
    · intro v0 v1 v2 τ H locs cells slots hH hS hcs hss hcM ls hl hf
      have hf : (if v1 < v2 then (some ((), τ)) else (dz_b (zob ζ τ v0 0) fun f1 => dz_b (zvr (f1[5]?)) fun x2 => dz_l ((1 : Int64) <<< (Int32.toInt64 v2 &&& 63)) fun x3 => if ζ.1 ≤ x2 ∧ x2 < τ.1 then (dz_c (zal ζ τ x2 1) fun n4 f5 => if ¬ (v2 < 0 ∨ n4 ≤ Int32.toNatClampNeg v2) then (dz_l (zst τ x2 (.inl (1, n4, .inr (.inl (vp_updL f5 (Int32.toNatClampNeg v2) x3))))) fun s6 => dz_b (zob ζ s6 v0 0) fun f9 => dz_b (zvr (f9[6]?)) fun x10 => if ζ.1 ≤ x10 ∧ x10 < s6.1 then (dz_c (zai ζ s6 x10 0) fun n11 f12 => if ¬ (v2 < 0 ∨ n11 ≤ Int32.toNatClampNeg v2) then (dz_l (zst s6 x10 (.inl (0, n11, .inl (upd f12 (Int32.toNatClampNeg v2) 0)))) fun s13 => dz_b (zob ζ s13 v0 0) fun f18 => zcl s13 (fnX0_isRight K ζ v0 v2 s13) fun x16 s17 => if x16 = (0 : Int32) then ((lfX0_laysRests K ζ k).2 v0 v1 v2 s17) else (dz_b (zob ζ s17 v0 0) fun f19 => dz_b (zvr (f19[0]?)) fun x20 => dz_b (zob ζ s17 x20 14) fun f23 => zcl s17 (fnJ2_get K ζ x20 v2 s17) fun x21 s22 => dz_c (zoL ζ s22 x21) fun cf24 f24 => dz_c (zoL ζ s22 x21) fun cf25 f25 => dz_b (zvr (f25[4]?)) fun x26 => dz_b (zob ζ s22 v0 0) fun f29 => zcl s22 (fnX0_addsRests K ζ v0 v2 x26 s22) fun _ s28 => dz_b (zob ζ s28 v0 0) fun f30 => dz_b (zvr (f30[0]?)) fun x31 => dz_b (zob ζ s28 x31 14) fun f34 => zcl s28 (fnJ2_get K ζ x31 v2 s28) fun x32 s33 => dz_c (zoL ζ s33 x32) fun cf35 f35 => dz_c (zoL ζ s33 x32) fun cf36 f36 => dz_b (zvr (f36[5]?)) fun x37 => dz_b (zob ζ s33 v0 0) fun f40 => zcl s33 (fnX0_addsRests K ζ v0 v2 x37 s33) fun _ s39 => (lfX0_laysRests K ζ k).2 v0 v1 v2 s39)) else none) else none) else none) else none) : Option (Unit × pH)) = some res := hf
      refine lv_iload_n hx hb dX0_laysRests_2 rfl (lv_at hl 2 rfl) ?_
      refine lv_iload_n hx hb dX0_laysRests_3 rfl (lv_at hl 1 rfl) ?_
      refine lv_icmp_gt (tgt := 78) hx hb dX0_laysRests_4 (by decide) (fun c4 => ?_) (fun c4 => ?_)
      · have hf := dz_t c4 hf
        obtain ⟨hM1, hS1⟩ : cells = M ∧ slots = S := by have hq := congrArg Prod.snd (Option.some.inj hf); rw [← hq] at hM hS0; have hM : s.heap.size + M = τ.1 := hM; have hS0 : sl0 + S = τ.2.1 := hS0; omega
        refine W.widen (k := M) (n := S) (Nat.le_of_eq hM1) (Nat.le_of_eq hS1) ?_
        exact W.vret hx hb hr (fun t ht hW => ⟨⟨τ, rfl, Option.some.inj hf, z_at ht hH⟩, hS.F ht⟩) hS.2.2 dX0_laysRests_78
      · have hf := dz_f c4 hf
        refine lv_aload_n hx hb dX0_laysRests_7 rfl (lv_at hl 0 rfl) ?_
        obtain ⟨f1, hf1, hf⟩ := dz_bo hf
        obtain ⟨x2, hx2, hf⟩ := dz_bo hf
        refine va_get (C := RX0) (T := TX0) (N := 7) hx hb hts in_X0 hown hX.K (zrd_P hX hS hH (zob_o hf1)) 0 rfl rfl 5 (by decide) (hts _ q163) (fun _ hq => hq) (zvr_o hx2) dX0_laysRests_8 ?_
        refine lv_iload_n hx hb dX0_laysRests_11 rfl (lv_at hl 2 rfl) ?_
        refine lv_lconst (v := 1) hx hb dX0_laysRests_12 rfl ?_
        refine lv_iload_n hx hb dX0_laysRests_13 rfl (lv_at hl 2 rfl) ?_
        refine lv_lshl hx hb dX0_laysRests_14 (rfl : _ = (1 : Int64) <<< (Int32.toInt64 v2 &&& 63)) ?_
        refine lv_topl (fun x3 e_x3 => ?_)
        have hf := dz_ls e_x3 hf
        obtain ⟨g7, hf⟩ := dz_go hf
        obtain ⟨n4, f5, hn4, hf⟩ := dz_co hf
        obtain ⟨g8, hf⟩ := dz_go hf
        refine va_last hx hb hX.K hH.2.2 zw_D hS _ 1 (zw_a g7 (zrd_w (zal_o hn4) g7)) rfl g8 dX0_laysRests_15 (fun H1 locs hP1 _ hS => dz_size (fun hz => ?_))
        obtain ⟨s6, e_s6, hf⟩ := dz_lo hf
        have hH := zH_put (x := (.inl (1, n4, .inr (.inl (vp_updL f5 (Int32.toNatClampNeg v2) x3))))) hH hcs g7 hP1 hz
        rw [← e_s6] at hH
        have hcs : s.heap.size + cells = s6.1 := by rw [e_s6]; exact hcs
        have hss : sl0 + slots = s6.2.1 := by rw [e_s6]; exact hss
        clear hP1 hz; generalize H1 = H at hH hS ⊢
        refine lv_aload_n hx hb dX0_laysRests_16 rfl (lv_at hl 0 rfl) ?_
        obtain ⟨f9, hf9, hf⟩ := dz_bo hf
        obtain ⟨x10, hx10, hf⟩ := dz_bo hf
        refine va_get (C := RX0) (T := TX0) (N := 7) hx hb hts in_X0 hown hX.K (zrd_P hX hS hH (zob_o hf9)) 0 rfl rfl 6 (by decide) (hts _ q164) (fun _ hq => hq) (zvr_o hx10) dX0_laysRests_17 ?_
        refine lv_iload_n hx hb dX0_laysRests_20 rfl (lv_at hl 2 rfl) ?_
        refine lv_iconst (v := 0) hx hb dX0_laysRests_21 (by decide) ?_
        obtain ⟨g14, hf⟩ := dz_go hf
        obtain ⟨n11, f12, hn11, hf⟩ := dz_co hf
        obtain ⟨g15, hf⟩ := dz_go hf
        refine va_iast hx hb hX.K hH.2.2 zw_D hS _ 0 (zw_a g14 (zrd_w (zai_o hn11) g14)) rfl g15 dX0_laysRests_22 (fun H1 locs hP1 _ hS => dz_size (fun hz => ?_))
        obtain ⟨s13, e_s13, hf⟩ := dz_lo hf
        have hH := zH_put (x := (.inl (0, n11, .inl (upd f12 (Int32.toNatClampNeg v2) 0)))) hH hcs g14 hP1 hz
        rw [← e_s13] at hH
        have hcs : s.heap.size + cells = s13.1 := by rw [e_s13]; exact hcs
        have hss : sl0 + slots = s13.2.1 := by rw [e_s13]; exact hss
        clear hP1 hz; generalize H1 = H at hH hS ⊢
        refine lv_aload_n hx hb dX0_laysRests_23 rfl (lv_at hl 0 rfl) ?_
        refine lv_iload_n hx hb dX0_laysRests_24 rfl (lv_at hl 2 rfl) ?_
        obtain ⟨f18, hf18, hf⟩ := dz_bo hf
        obtain ⟨x16, s17, hx16, hle, hck, hf⟩ := zcl_o hf
        have hc1 : cells + (s17.1 - s13.1) ≤ M := by omega
        have hs1 : slots + (s17.2.1 - s13.2.1) ≤ S := by omega
        refine va_calli (va_runV (As := [.int v2]) (rest := []) ⟨hx, hb, hml, hown, hts⟩ (mtX0_isRight l D cA ζ s13 v0 v2 K (x16, s17) hx16 (s17.1 - s13.1) (s17.2.1 - s13.2.1) (Nat.add_sub_cancel' hle.1) (Nat.add_sub_cancel' hle.2)) (cwV 1 hts (lw_V q219 q221 qs1 q84 q222) rfl rfl rfl (by decide +kernel) ⟨Nat.le_of_ble_eq_true rfl, Nat.le_of_ble_eq_true rfl⟩) (z_preV hX hS hH (zob_o hf18) rfl) rfl rfl hl.1 rfl (lv_room (Nat.le_of_ble_eq_true rfl)) dX0_laysRests_25 ⟨hc1, hs1⟩) hS (fun q _ hq => hq) (fun q hq => hq) (fun r u t H1 locs ht hvm hw hB hz hk hS => ?_)
        obtain ⟨hw1, hw2⟩ := Prod.mk.inj hw.symm; subst hw1; subst hw2
        have hH : zH D cA ζ s17 H1 := z_at ht.symm hB
        have hcs : s.heap.size + (cells + (s17.1 - s13.1)) = s17.1 := by omega
        have hss : sl0 + (slots + (s17.2.1 - s13.2.1)) = s17.2.1 := by omega
        replace hcM := And.intro hc1 hs1
        generalize cells + (s17.1 - s13.1) = cells at hcs hcM ⊢; generalize slots + (s17.2.1 - s13.2.1) = slots at hss hcM ⊢
        clear hB hk hz hvm ht hle hck hc1 hs1; generalize H1 = H at hH hS ⊢
        refine lv_if_ne (tgt := 34) hx hb dX0_laysRests_28 (by decide) (fun c28 => ?_) (fun c28 => ?_)
        · have hf := dz_f c28 hf
          refine lv_aload_n hx hb dX0_laysRests_34 rfl (lv_at hl 0 rfl) ?_
          refine lv_iload_n hx hb dX0_laysRests_35 rfl (lv_at hl 2 rfl) ?_
          refine lv_aload_n hx hb dX0_laysRests_36 rfl (lv_at hl 0 rfl) ?_
          obtain ⟨f19, hf19, hf⟩ := dz_bo hf
          obtain ⟨x20, hx20, hf⟩ := dz_bo hf
          refine va_get (C := RX0) (T := TX0) (N := 7) hx hb hts in_X0 hown hX.K (zrd_P hX hS hH (zob_o hf19)) 0 rfl rfl 0 (by decide) (hts _ q156) (fun _ hq => hq) (zvr_o hx20) dX0_laysRests_37 ?_
          refine lv_iload_n hx hb dX0_laysRests_40 rfl (lv_at hl 2 rfl) ?_
          obtain ⟨f23, hf23, hf⟩ := dz_bo hf
          obtain ⟨x21, s22, hx21, hle, hck, hf⟩ := zcl_o hf
          have hc1 : cells + (s22.1 - s17.1) ≤ M := by omega
          have hs1 : slots + (s22.2.1 - s17.2.1) ≤ S := by omega
          refine va_callr (va_runV (As := [.int v2]) (rest := [.int v2, .ref v0]) ⟨hx, hb, hml, hown, hts⟩ (mtJ2_get l D cA ζ s17 x20 v2 K (x21, s22) hx21 (s22.1 - s17.1) (s22.2.1 - s17.2.1) (Nat.add_sub_cancel' hle.1) (Nat.add_sub_cancel' hle.2)) (cwV 1 hts (lw_V q204 q205 q206 q87 q207) rfl rfl rfl (by decide +kernel) ⟨Nat.le_of_ble_eq_true rfl, Nat.le_of_ble_eq_true rfl⟩) (z_preV hX hS hH (zob_o hf23) rfl) rfl rfl hl.1 rfl (lv_room (Nat.le_of_ble_eq_true rfl)) dX0_laysRests_41 ⟨hc1, hs1⟩) hS (fun q _ hq => hq) (fun q hq => hq) (fun u r t H1 locs ht hvm hw hB hz hk hS => ?_)
          obtain ⟨hw, hB⟩ := hB
          obtain ⟨hw1, hw2⟩ := Prod.mk.inj hw.symm; subst hw1; subst hw2
          have hH : zH D cA ζ s22 H1 := z_at ht.symm hB
          have hcs : s.heap.size + (cells + (s22.1 - s17.1)) = s22.1 := by omega
          have hss : sl0 + (slots + (s22.2.1 - s17.2.1)) = s22.2.1 := by omega
          replace hcM := And.intro hc1 hs1
          generalize cells + (s22.1 - s17.1) = cells at hcs hcM ⊢; generalize slots + (s22.2.1 - s17.2.1) = slots at hss hcM ⊢
          clear hB hk hz hvm ht hle hck hc1 hs1; generalize H1 = H at hH hS ⊢
          obtain ⟨cf24, f24, hcf24, hf⟩ := dz_co hf
          obtain ⟨hr_f24, hc_f24⟩ := zoL_o hcf24
          refine zL_cast hx hb hown (hts _ q218) hX hS hH hr_f24 hc_f24 dX0_laysRests_44 ?_
          obtain ⟨cf25, f25, hcf25, hf⟩ := dz_co hf
          obtain ⟨x26, hx26, hf⟩ := dz_bo hf
          obtain ⟨hr_f25, hc_f25⟩ := zoL_o hcf25
          refine zL_get4 hx hb hts hown hX hS hH hr_f25 hc_f25 (hts _ q558) (zvr_o hx26) dX0_laysRests_47 ?_
          obtain ⟨f29, hf29, hf⟩ := dz_bo hf
          obtain ⟨x27, s28, hx27, hle, hck, hf⟩ := zcl_o hf
          have hc1 : cells + (s28.1 - s22.1) ≤ M := by omega
          have hs1 : slots + (s28.2.1 - s22.2.1) ≤ S := by omega
          refine va_callv (va_runV (As := [.int v2, .ref x26]) (rest := []) ⟨hx, hb, hml, hown, hts⟩ (mtX0_addsRests l D cA ζ s22 v0 v2 x26 K (x27, s28) hx27 (s28.1 - s22.1) (s28.2.1 - s22.2.1) (Nat.add_sub_cancel' hle.1) (Nat.add_sub_cancel' hle.2)) (cwV 2 hts (lw_V q1405 q1407 qs33 q84 q1408) rfl rfl rfl (by decide +kernel) ⟨Nat.le_of_ble_eq_true rfl, Nat.le_of_ble_eq_true rfl⟩) (z_preV hX hS hH (zob_o hf29) rfl) rfl rfl hl.1 rfl (lv_room (Nat.le_of_ble_eq_true rfl)) dX0_laysRests_50 ⟨hc1, hs1⟩) hS (fun q _ hq => hq) (fun q hq => hq) (fun u t H1 locs ht hvm hw hB hz hk hS => ?_)
          obtain ⟨-, hw2⟩ := Prod.mk.inj hw.symm; subst hw2
          have hH : zH D cA ζ s28 H1 := z_at ht.symm hB
          have hcs : s.heap.size + (cells + (s28.1 - s22.1)) = s28.1 := by omega
          have hss : sl0 + (slots + (s28.2.1 - s22.2.1)) = s28.2.1 := by omega
          replace hcM := And.intro hc1 hs1
          generalize cells + (s28.1 - s22.1) = cells at hcs hcM ⊢; generalize slots + (s28.2.1 - s22.2.1) = slots at hss hcM ⊢
          clear hB hk hz hvm ht hle hck hc1 hs1; generalize H1 = H at hH hS ⊢
          refine lv_aload_n hx hb dX0_laysRests_53 rfl (lv_at hl 0 rfl) ?_
          refine lv_iload_n hx hb dX0_laysRests_54 rfl (lv_at hl 2 rfl) ?_
          refine lv_aload_n hx hb dX0_laysRests_55 rfl (lv_at hl 0 rfl) ?_
          obtain ⟨f30, hf30, hf⟩ := dz_bo hf
          obtain ⟨x31, hx31, hf⟩ := dz_bo hf
          refine va_get (C := RX0) (T := TX0) (N := 7) hx hb hts in_X0 hown hX.K (zrd_P hX hS hH (zob_o hf30)) 0 rfl rfl 0 (by decide) (hts _ q156) (fun _ hq => hq) (zvr_o hx31) dX0_laysRests_56 ?_
          refine lv_iload_n hx hb dX0_laysRests_59 rfl (lv_at hl 2 rfl) ?_
          obtain ⟨f34, hf34, hf⟩ := dz_bo hf
          obtain ⟨x32, s33, hx32, hle, hck, hf⟩ := zcl_o hf
          have hc1 : cells + (s33.1 - s28.1) ≤ M := by omega
          have hs1 : slots + (s33.2.1 - s28.2.1) ≤ S := by omega
          refine va_callr (va_runV (As := [.int v2]) (rest := [.int v2, .ref v0]) ⟨hx, hb, hml, hown, hts⟩ (mtJ2_get l D cA ζ s28 x31 v2 K (x32, s33) hx32 (s33.1 - s28.1) (s33.2.1 - s28.2.1) (Nat.add_sub_cancel' hle.1) (Nat.add_sub_cancel' hle.2)) (cwV 1 hts (lw_V q204 q205 q206 q87 q207) rfl rfl rfl (by decide +kernel) ⟨Nat.le_of_ble_eq_true rfl, Nat.le_of_ble_eq_true rfl⟩) (z_preV hX hS hH (zob_o hf34) rfl) rfl rfl hl.1 rfl (lv_room (Nat.le_of_ble_eq_true rfl)) dX0_laysRests_60 ⟨hc1, hs1⟩) hS (fun q _ hq => hq) (fun q hq => hq) (fun u r t H1 locs ht hvm hw hB hz hk hS => ?_)
          obtain ⟨hw, hB⟩ := hB
          obtain ⟨hw1, hw2⟩ := Prod.mk.inj hw.symm; subst hw1; subst hw2
          have hH : zH D cA ζ s33 H1 := z_at ht.symm hB
          have hcs : s.heap.size + (cells + (s33.1 - s28.1)) = s33.1 := by omega
          have hss : sl0 + (slots + (s33.2.1 - s28.2.1)) = s33.2.1 := by omega
          replace hcM := And.intro hc1 hs1
          generalize cells + (s33.1 - s28.1) = cells at hcs hcM ⊢; generalize slots + (s33.2.1 - s28.2.1) = slots at hss hcM ⊢
          clear hB hk hz hvm ht hle hck hc1 hs1; generalize H1 = H at hH hS ⊢
          obtain ⟨cf35, f35, hcf35, hf⟩ := dz_co hf
          obtain ⟨hr_f35, hc_f35⟩ := zoL_o hcf35
          refine zL_cast hx hb hown (hts _ q218) hX hS hH hr_f35 hc_f35 dX0_laysRests_63 ?_
          obtain ⟨cf36, f36, hcf36, hf⟩ := dz_co hf
          obtain ⟨x37, hx37, hf⟩ := dz_bo hf
          obtain ⟨hr_f36, hc_f36⟩ := zoL_o hcf36
          refine zL_get5 hx hb hts hown hX hS hH hr_f36 hc_f36 (hts _ q565) (zvr_o hx37) dX0_laysRests_66 ?_
          obtain ⟨f40, hf40, hf⟩ := dz_bo hf
          obtain ⟨x38, s39, hx38, hle, hck, hf⟩ := zcl_o hf
          have hc1 : cells + (s39.1 - s33.1) ≤ M := by omega
          have hs1 : slots + (s39.2.1 - s33.2.1) ≤ S := by omega
          refine va_callv (va_runV (As := [.int v2, .ref x37]) (rest := []) ⟨hx, hb, hml, hown, hts⟩ (mtX0_addsRests l D cA ζ s33 v0 v2 x37 K (x38, s39) hx38 (s39.1 - s33.1) (s39.2.1 - s33.2.1) (Nat.add_sub_cancel' hle.1) (Nat.add_sub_cancel' hle.2)) (cwV 2 hts (lw_V q1405 q1407 qs33 q84 q1408) rfl rfl rfl (by decide +kernel) ⟨Nat.le_of_ble_eq_true rfl, Nat.le_of_ble_eq_true rfl⟩) (z_preV hX hS hH (zob_o hf40) rfl) rfl rfl hl.1 rfl (lv_room (Nat.le_of_ble_eq_true rfl)) dX0_laysRests_69 ⟨hc1, hs1⟩) hS (fun q _ hq => hq) (fun q hq => hq) (fun u t H1 locs ht hvm hw hB hz hk hS => ?_)
          obtain ⟨-, hw2⟩ := Prod.mk.inj hw.symm; subst hw2
          have hH : zH D cA ζ s39 H1 := z_at ht.symm hB
          have hcs : s.heap.size + (cells + (s39.1 - s33.1)) = s39.1 := by omega
          have hss : sl0 + (slots + (s39.2.1 - s33.2.1)) = s39.2.1 := by omega
          replace hcM := And.intro hc1 hs1
          generalize cells + (s39.1 - s33.1) = cells at hcs hcM ⊢; generalize slots + (s39.2.1 - s33.2.1) = slots at hss hcM ⊢
          clear hB hk hz hvm ht hle hck hc1 hs1; generalize H1 = H at hH hS ⊢
          exact ih.2 v0 v1 v2 s39 H locs cells slots hH hS hcs hss hcM ls (lv_sub hl [0, 1, 2] rfl) hf
        · have hf := dz_t c28 hf
          refine lv_goto (tgt := 72) hx hb dX0_laysRests_31 (by decide) ?_
          exact ih.2 v0 v1 v2 s17 H locs cells slots hH hS hcs hss hcM ls (lv_sub hl [0, 1, 2] rfl) hf
    · intro v0 v1 v2 τ H locs cells slots hH hS hcs hss hcM ls hl hf
      have hf : (dz_l (v2 + 1) fun x1 => (lfX0_laysRests K ζ k).1 v0 v1 x1 τ : Option (Unit × pH)) = some res := hf
      obtain ⟨x1, e_x1, hf⟩ := dz_lo hf
      refine lv_iinc (v := x1) (lv' := [(2, .int x1), (0, .ref v0), (1, .int v1)]) hx hb dX0_laysRests_72 hl (k := 2) rfl (by rw [e_x1]; rfl) (by decide) rfl (fun ls hl => ?_)
      refine lv_goto (tgt := 2) hx hb dX0_laysRests_75 (by decide) ?_
      exact ih.1 v0 v1 x1 τ H locs cells slots hH hS hcs hss hcM ls (lv_sub hl [1, 2, 0] rfl) hf
set_option maxHeartbeats 4000000 in
set_option maxRecDepth 100000 in
theorem mtX0_laysRests (l : Launch) (D : va_G) (cA : Nat → ClassId) (ζ : pZ) (τ : pH) (h : Nat) (a0 : Int32) (K : Nat) (res : (Unit × pH)) (hf : fnX0_laysRests K ζ h a0 τ = some res) (M S : Nat) (hM : τ.1 + M = res.2.1) (hS0 : τ.2.1 + S = res.2.2.1) : Met l yX0_laysRests (ws_ yX0_laysRests cX0_laysRests 3 (none)) ({ frames := 106, cells := M, slots := S, locals := 2444 }) (zPc D cA ζ τ [.ref h, .int a0]) (zQv D cA ζ res) M S (zA ζ) := by
  refine Met.ofW (cc := cX0_laysRests) (maxL := 3) (ret := none) (by decide +kernel) rfl ?_
  intro p e s m args below meth c s₁ B hml hv
  obtain ⟨rfl, hX, hH⟩ := hv
  have hx := B.exec
  have hb := B.bytes
  have hr := B.returns
  have hts := atoms_spec (ws := ws_ yX0_laysRests cX0_laysRests 3 (none)) B.pre
  have hts : ∀ w ∈ lw_all, w.before _ s = true := fun w h => hts w (List.mem_cons_of_mem _ h)
  have hown : s.vm.findClass RX0 = some m.cls := findClass_of_methodNamed B.named
  have hlocks := B.notSynchronized
  have hM : s.heap.size + M = res.2.1 := by rw [hH.1]; exact hM
  have hcs : s.heap.size + 0 = τ.1 := hH.1
  have hss : τ.2.1 + 0 = τ.2.1 := rfl
  generalize hsl0 : τ.2.1 = sl0 at hS0 hss
  have hss : sl0 + 0 = τ.2.1 := by rw [hsl0]; rfl
  have hS : va_S (zA ζ) s.heap s.heap [] := va_S.rf
  generalize hHe : s.heap = H at hH hS ⊢
  have hS : va_S (zA ζ) s.heap H [] := by rw [hHe]; exact hS
  generalize ([] : List Loc) = locs at hS ⊢
  have hl := lv_entry ([.ref h, .int a0]) (n := 3) (Nat.le_of_ble_eq_true rfl)
  rw [lg_entry_eq]
  generalize (lg_sl ([.ref h, .int a0]) ++ List.replicate (3 - (lg_sl ([.ref h, .int a0])).length) Slot.unset).toArray = ls at hl ⊢
  have hl : lv_has ls 3 [(0, .ref h), (1, .int a0)] := hl
  have hf : ((lfX0_laysRests K ζ K).1 h a0 0 τ : Option (Unit × pH)) = some res := hf
  refine z_gen (fun cells slots hc0 hs0 => ?_)
  have hcs : s.heap.size + cells = τ.1 := by rw [hc0]; exact hcs
  have hss : sl0 + slots = τ.2.1 := by rw [hs0]; exact hss
  have hcM : cells ≤ M ∧ slots ≤ S := by rw [hc0, hs0]; exact ⟨Nat.zero_le _, Nat.zero_le _⟩
  clear hc0 hs0
  have ih := wlX0_laysRests (l := l) (e := e) (below := below) (D := D) (cA := cA) hX K res M S sl0 hM hS0 h a0 hx hb hr hlocks hml hown hts K
  refine lv_iconst (v := 0) hx hb dX0_laysRests_0 (by decide) ?_
  refine lv_istore_n (lv' := [(2, .int 0), (0, .ref h), (1, .int a0)]) hx hb dX0_laysRests_1 rfl hl (by decide) rfl (fun ls hl => ?_)
  exact ih.1 h a0 0 τ H locs cells slots hH hS hcs hss hcM ls (lv_sub hl [1, 2, 0] rfl) hf

noncomputable def fnX0_restsOf (K : Nat) (ζ : pZ) (h : Nat) (a0 : Int32) (τ : pH) : Option (Int64 × pH) := dz_b (zob ζ τ h 0) fun f3 => zcl τ (fnX0_laysRests K ζ h a0 τ) fun _ s2 => dz_b (zob ζ s2 h 0) fun f4 => dz_b (zvr (f4[5]?)) fun x5 => dz_c (zal ζ s2 x5 1) fun n6 f7 => if ¬ (a0 < 0 ∨ n6 ≤ Int32.toNatClampNeg a0) then (dz_l (f7 (Int32.toNatClampNeg a0)) fun x9 => some (x9, s2)) else none
set_option maxHeartbeats 4000000 in
set_option maxRecDepth 100000 in
theorem mtX0_restsOf (l : Launch) (D : va_G) (cA : Nat → ClassId) (ζ : pZ) (τ : pH) (h : Nat) (a0 : Int32) (K : Nat) (res : (Int64 × pH)) (hf : fnX0_restsOf K ζ h a0 τ = some res) (M S : Nat) (hM : τ.1 + M = res.2.1) (hS0 : τ.2.1 + S = res.2.2.1) : Met l yX0_restsOf (ws_ yX0_restsOf cX0_restsOf 2 (some .long)) ({ frames := 107, cells := M, slots := S, locals := 2466 }) (zPc D cA ζ τ [.ref h, .int a0]) (zQl D cA ζ res) M S (zA ζ) := by
  refine Met.ofW (cc := cX0_restsOf) (maxL := 2) (ret := some .long) (by decide +kernel) rfl ?_
  intro p e s m args below meth c s₁ B hml hv
  obtain ⟨rfl, hX, hH⟩ := hv
  have hx := B.exec
  have hb := B.bytes
  have hr := B.returns
  have hts := atoms_spec (ws := ws_ yX0_restsOf cX0_restsOf 2 (some .long)) B.pre
  have hts : ∀ w ∈ lw_all, w.before _ s = true := fun w h => hts w (List.mem_cons_of_mem _ h)
  have hown : s.vm.findClass RX0 = some m.cls := findClass_of_methodNamed B.named
  have hlocks := B.notSynchronized
  have hM : s.heap.size + M = res.2.1 := by rw [hH.1]; exact hM
  have hcs : s.heap.size + 0 = τ.1 := hH.1
  have hss : τ.2.1 + 0 = τ.2.1 := rfl
  generalize hsl0 : τ.2.1 = sl0 at hS0 hss
  have hss : sl0 + 0 = τ.2.1 := by rw [hsl0]; rfl
  have hS : va_S (zA ζ) s.heap s.heap [] := va_S.rf
  generalize hHe : s.heap = H at hH hS ⊢
  have hS : va_S (zA ζ) s.heap H [] := by rw [hHe]; exact hS
  generalize ([] : List Loc) = locs at hS ⊢
  have hl := lv_entry ([.ref h, .int a0]) (n := 2) (Nat.le_of_ble_eq_true rfl)
  rw [lg_entry_eq]
  generalize (lg_sl ([.ref h, .int a0]) ++ List.replicate (2 - (lg_sl ([.ref h, .int a0])).length) Slot.unset).toArray = ls at hl ⊢
  have hl : lv_has ls 2 [(0, .ref h), (1, .int a0)] := hl
  have hf : (dz_b (zob ζ τ h 0) fun f3 => zcl τ (fnX0_laysRests K ζ h a0 τ) fun _ s2 => dz_b (zob ζ s2 h 0) fun f4 => dz_b (zvr (f4[5]?)) fun x5 => dz_c (zal ζ s2 x5 1) fun n6 f7 => if ¬ (a0 < 0 ∨ n6 ≤ Int32.toNatClampNeg a0) then (dz_l (f7 (Int32.toNatClampNeg a0)) fun x9 => some (x9, s2)) else none : Option (Int64 × pH)) = some res := hf
  refine z_gen (fun cells slots hc0 hs0 => ?_)
  have hcs : s.heap.size + cells = τ.1 := by rw [hc0]; exact hcs
  have hss : sl0 + slots = τ.2.1 := by rw [hs0]; exact hss
  have hcM : cells ≤ M ∧ slots ≤ S := by rw [hc0, hs0]; exact ⟨Nat.zero_le _, Nat.zero_le _⟩
  clear hc0 hs0
  refine lv_aload_n hx hb dX0_restsOf_0 rfl (lv_at hl 0 rfl) ?_
  refine lv_iload_n hx hb dX0_restsOf_1 rfl (lv_at hl 1 rfl) ?_
  obtain ⟨f3, hf3, hf⟩ := dz_bo hf
  obtain ⟨x1, s2, hx1, hle, hck, hf⟩ := zcl_o hf
  have hc1 : cells + (s2.1 - τ.1) ≤ M := by omega
  have hs1 : slots + (s2.2.1 - τ.2.1) ≤ S := by omega
  refine va_callv (va_runV (As := [.int a0]) (rest := []) ⟨hx, hb, hml, hown, hts⟩ (mtX0_laysRests l D cA ζ τ h a0 K (x1, s2) hx1 (s2.1 - τ.1) (s2.2.1 - τ.2.1) (Nat.add_sub_cancel' hle.1) (Nat.add_sub_cancel' hle.2)) (cwV 1 hts (lw_V q1401 q1403 qs32 q84 q1404) rfl rfl rfl (by decide +kernel) ⟨Nat.le_of_ble_eq_true rfl, Nat.le_of_ble_eq_true rfl⟩) (z_preV hX hS hH (zob_o hf3) rfl) rfl rfl hl.1 rfl (lv_room (Nat.le_of_ble_eq_true rfl)) dX0_restsOf_2 ⟨hc1, hs1⟩) hS (fun q _ hq => hq) (fun q hq => hq) (fun u t H1 locs ht hvm hw hB hz hk hS => ?_)
  obtain ⟨-, hw2⟩ := Prod.mk.inj hw.symm; subst hw2
  have hH : zH D cA ζ s2 H1 := z_at ht.symm hB
  have hcs : s.heap.size + (cells + (s2.1 - τ.1)) = s2.1 := by omega
  have hss : sl0 + (slots + (s2.2.1 - τ.2.1)) = s2.2.1 := by omega
  replace hcM := And.intro hc1 hs1
  generalize cells + (s2.1 - τ.1) = cells at hcs hcM ⊢; generalize slots + (s2.2.1 - τ.2.1) = slots at hss hcM ⊢
  clear hB hk hz hvm ht hle hck hc1 hs1; generalize H1 = H at hH hS ⊢
  refine lv_aload_n hx hb dX0_restsOf_5 rfl (lv_at hl 0 rfl) ?_
  obtain ⟨f4, hf4, hf⟩ := dz_bo hf
  obtain ⟨x5, hx5, hf⟩ := dz_bo hf
  refine va_get (C := RX0) (T := TX0) (N := 7) hx hb hts in_X0 hown hX.K (zrd_P hX hS hH (zob_o hf4)) 0 rfl rfl 5 (by decide) (hts _ q163) (fun _ hq => hq) (zvr_o hx5) dX0_restsOf_6 ?_
  refine lv_iload_n hx hb dX0_restsOf_9 rfl (lv_at hl 1 rfl) ?_
  obtain ⟨n6, f7, hn6, hf⟩ := dz_co hf
  obtain ⟨g8, hf⟩ := dz_go hf
  refine va_lald hx hb hX.K (zrd_P hX hS hH (zal_o hn6)) 0 1 rfl rfl g8 dX0_restsOf_10 ?_
  refine lv_topl (fun x9 e_x9 => ?_)
  have hf := dz_ls e_x9 hf
  obtain ⟨hM1, hS1⟩ : cells = M ∧ slots = S := by have hq := congrArg Prod.snd (Option.some.inj hf); rw [← hq] at hM hS0; have hM : s.heap.size + M = s2.1 := hM; have hS0 : sl0 + S = s2.2.1 := hS0; omega
  refine W.widen (k := M) (n := S) (Nat.le_of_eq hM1) (Nat.le_of_eq hS1) ?_
  exact W.lret (v := x9) hx hb hr (fun t ht hW => ⟨⟨x9, s2, rfl, Option.some.inj hf, z_at ht hH⟩, hS.F ht⟩) hS.2.2 dX0_restsOf_11

noncomputable def lfX0_prune (K : Nat) (ζ : pZ) : Nat → (Nat → Int64 → Nat → Int32 → pH → Option (Int32 × pH)) × (Nat → Int64 → Nat → Int32 → pH → Option (Int32 × pH)) × (Nat → Nat → pH → Option (Int32 × pH)) := Nat.rec (motive := fun _ => (Nat → Int64 → Nat → Int32 → pH → Option (Int32 × pH)) × (Nat → Int64 → Nat → Int32 → pH → Option (Int32 × pH)) × (Nat → Nat → pH → Option (Int32 × pH))) ((fun _ _ _ _ _ => none), (fun _ _ _ _ _ => none), (fun _ _ _ => none)) (fun _ G => ((fun v0 v2 v4 v5 τ => dz_b (zob ζ τ v0 0) fun f1 => dz_b (zvr (f1[0]?)) fun x2 => dz_b (zob ζ τ x2 14) fun f5 => zcl τ (fnJ2_size K ζ x2 τ) fun x3 s4 => if x3 ≤ v5 then (dz_b (zob ζ s4 v0 0) fun f8 => zcl s4 (fnX0_goesBack K ζ v0 0 s4) fun _ s7 => dz_b (zob ζ s7 v4 14) fun f11 => zcl s7 (fnJ2_iterator K ζ v4 s7) fun x9 s10 => G.2.2 v0 x9 s10) else (if ((v2 >>> (Int32.toInt64 v5 &&& 63)) &&& 1) = (1 : Int64) then (dz_b (zob ζ s4 v0 0) fun f12 => dz_b (zvr (f12[0]?)) fun x13 => dz_b (zob ζ s4 x13 14) fun f16 => zcl s4 (fnJ2_get K ζ x13 v5 s4) fun x14 s15 => dz_c (zoL ζ s15 x14) fun cf17 f17 => dz_b (zob ζ s15 v4 14) fun f20 => zcl s15 (fnJ2_add K ζ v4 x14 s15) fun x18 s19 => G.2.1 v0 v2 v4 v5 s19) else (G.2.1 v0 v2 v4 v5 s4))), (fun v0 v2 v4 v5 τ => dz_l (v5 + 1) fun x1 => G.1 v0 v2 v4 x1 τ), (fun v0 v5 τ => dz_b (zob ζ τ v5 15) fun f3 => zcl τ (fnJ15_hasNext K ζ v5 τ) fun x1 s2 => if x1 = (0 : Int32) then (dz_b (zob ζ s2 v0 0) fun f4 => dz_b (zvr (f4[0]?)) fun x5 => dz_b (zob ζ s2 x5 14) fun f8 => zcl s2 (fnJ2_size K ζ x5 s2) fun x6 s7 => some (x6, s7)) else (dz_b (zob ζ s2 v5 15) fun f11 => zcl s2 (fnJ15_next K ζ v5 s2) fun x9 s10 => dz_c (zoL ζ s10 x9) fun cf12 f12 => dz_b (zob ζ s10 v0 0) fun f15 => zcl s10 (fnX0_comes K ζ v0 x9 s10) fun _ s14 => G.2.2 v0 v5 s14))))
noncomputable def fnX0_prune (K : Nat) (ζ : pZ) (h : Nat) (a0 : Int32) (τ : pH) : Option (Int32 × pH) := dz_b (zob ζ τ h 0) fun f3 => zcl τ (fnX0_isLine K ζ h a0 τ) fun x1 s2 => if x1 = (0 : Int32) then (some ((-1), s2)) else (dz_b (zob ζ s2 h 0) fun f6 => zcl s2 (fnX0_isRight K ζ h a0 s2) fun x4 s5 => if x4 = (0 : Int32) then (some ((-2), s5)) else (dz_b (zob ζ s5 h 0) fun f9 => zcl s5 (fnX0_restsOf K ζ h a0 s5) fun x7 s8 => dz_l s8.1 fun r10 => dz_l (znw s8 3 (.inr (14, [.int 0, .null, .int 0]))) fun s11 => zck s11 (zcl s11 (fnJ2_init K ζ r10 s11) fun _ s13 => (lfX0_prune K ζ K).1 h x7 r10 0 s13)))
set_option maxHeartbeats 4000000 in
set_option maxRecDepth 100000 in
theorem wlX0_prune {p : Program} {l : Launch} {e : Env} {s : State} {m : MethodId} {below : List Frame} {meth : Method} {c : Code} {D : va_G} {cA : Nat → ClassId} {ζ : pZ} (hX : zX D cA ζ s) (K : Nat) (res : (Int32 × pH)) (M S sl0 : Nat) (hM : s.heap.size + M = res.2.1) (hS0 : sl0 + S = res.2.2.1) (h : Nat) (a0 : Int32) (hx : p.tables.exec = Jvm.exec) (hb : c.code = cX0_prune) (hr : meth.sig.returnType = some .int) (hlocks : meth.locks = false) (hml : c.maxLocals = 7) (hown : s.vm.findClass RX0 = some m.cls) (hts : ∀ w ∈ lw_all, w.before ([.ref h, .int a0] : List Value).toArray s = true) : ∀ k : Nat, (∀ (v0 : Nat) (v2 : Int64) (v4 : Nat) (v5 : Int32) (τ : pH) (H : Heap) (locs : List Loc) (cells slots : Nat), zH D cA ζ τ H → va_S (zA ζ) s.heap H locs → s.heap.size + cells = τ.1 → sl0 + slots = τ.2.1 → cells ≤ M ∧ slots ≤ S → ∀ (ls : Array Slot), lv_has ls 7 [(0, .ref v0), (2, .long v2), (4, .ref v4), (5, .int v5)] → (lfX0_prune K ζ k).1 v0 v2 v4 v5 τ = some res → W p l e (headSpec (ws_ yX0_prune cX0_prune 7 (some .int)) ({ frames := 108, cells := M, slots := S, locals := 2487 })).room s m ([.ref h, .int a0] : List Value).toArray below meth c H locs cells slots (MQ below (zQi D cA ζ res) ([.ref h, .int a0] : List Value).toArray s M S (zA ζ)) (F0 m 39 ls [])) ∧ (∀ (v0 : Nat) (v2 : Int64) (v4 : Nat) (v5 : Int32) (τ : pH) (H : Heap) (locs : List Loc) (cells slots : Nat), zH D cA ζ τ H → va_S (zA ζ) s.heap H locs → s.heap.size + cells = τ.1 → sl0 + slots = τ.2.1 → cells ≤ M ∧ slots ≤ S → ∀ (ls : Array Slot), lv_has ls 7 [(0, .ref v0), (2, .long v2), (4, .ref v4), (5, .int v5)] → (lfX0_prune K ζ k).2.1 v0 v2 v4 v5 τ = some res → W p l e (headSpec (ws_ yX0_prune cX0_prune 7 (some .int)) ({ frames := 108, cells := M, slots := S, locals := 2487 })).room s m ([.ref h, .int a0] : List Value).toArray below meth c H locs cells slots (MQ below (zQi D cA ζ res) ([.ref h, .int a0] : List Value).toArray s M S (zA ζ)) (F0 m 80 ls [])) ∧ (∀ (v0 : Nat) (v5 : Nat) (τ : pH) (H : Heap) (locs : List Loc) (cells slots : Nat), zH D cA ζ τ H → va_S (zA ζ) s.heap H locs → s.heap.size + cells = τ.1 → sl0 + slots = τ.2.1 → cells ≤ M ∧ slots ≤ S → ∀ (ls : Array Slot), lv_has ls 7 [(0, .ref v0), (5, .ref v5)] → (lfX0_prune K ζ k).2.2 v0 v5 τ = some res → W p l e (headSpec (ws_ yX0_prune cX0_prune 7 (some .int)) ({ frames := 108, cells := M, slots := S, locals := 2487 })).room s m ([.ref h, .int a0] : List Value).toArray below meth c H locs cells slots (MQ below (zQi D cA ζ res) ([.ref h, .int a0] : List Value).toArray s M S (zA ζ)) (F0 m 98 ls [])) := by
  intro k
  induction k with
  | zero =>
    exact ⟨fun _ _ _ _ _ _ _ _ _ _ _ _ _ _ _ _ hf => (by cases hf), fun _ _ _ _ _ _ _ _ _ _ _ _ _ _ _ _ hf => (by cases hf), fun _ _ _ _ _ _ _ _ _ _ _ _ _ _ hf => (by cases hf)⟩
  | succ k ih =>
    refine ⟨?_, ?_, ?_⟩
    · intro v0 v2 v4 v5 τ H locs cells slots hH hS hcs hss hcM ls hl hf
      have hf : (dz_b (zob ζ τ v0 0) fun f1 => dz_b (zvr (f1[0]?)) fun x2 => dz_b (zob ζ τ x2 14) fun f5 => zcl τ (fnJ2_size K ζ x2 τ) fun x3 s4 => if x3 ≤ v5 then (dz_b (zob ζ s4 v0 0) fun f8 => zcl s4 (fnX0_goesBack K ζ v0 0 s4) fun _ s7 => dz_b (zob ζ s7 v4 14) fun f11 => zcl s7 (fnJ2_iterator K ζ v4 s7) fun x9 s10 => (lfX0_prune K ζ k).2.2 v0 x9 s10) else (if ((v2 >>> (Int32.toInt64 v5 &&& 63)) &&& 1) = (1 : Int64) then (dz_b (zob ζ s4 v0 0) fun f12 => dz_b (zvr (f12[0]?)) fun x13 => dz_b (zob ζ s4 x13 14) fun f16 => zcl s4 (fnJ2_get K ζ x13 v5 s4) fun x14 s15 => dz_c (zoL ζ s15 x14) fun cf17 f17 => dz_b (zob ζ s15 v4 14) fun f20 => zcl s15 (fnJ2_add K ζ v4 x14 s15) fun x18 s19 => (lfX0_prune K ζ k).2.1 v0 v2 v4 v5 s19) else ((lfX0_prune K ζ k).2.1 v0 v2 v4 v5 s4)) : Option (Int32 × pH)) = some res := hf
      refine lv_iload hx hb dX0_prune_39 (lv_at hl 3 rfl) ?_
      refine lv_aload_n hx hb dX0_prune_41 rfl (lv_at hl 0 rfl) ?_
      obtain ⟨f1, hf1, hf⟩ := dz_bo hf
      obtain ⟨x2, hx2, hf⟩ := dz_bo hf
      refine va_get (C := RX0) (T := TX0) (N := 7) hx hb hts in_X0 hown hX.K (zrd_P hX hS hH (zob_o hf1)) 0 rfl rfl 0 (by decide) (hts _ q156) (fun _ hq => hq) (zvr_o hx2) dX0_prune_42 ?_
      obtain ⟨f5, hf5, hf⟩ := dz_bo hf
      obtain ⟨x3, s4, hx3, hle, hck, hf⟩ := zcl_o hf
      have hc1 : cells + (s4.1 - τ.1) ≤ M := by omega
      have hs1 : slots + (s4.2.1 - τ.2.1) ≤ S := by omega
      refine va_calli (va_runV (As := []) (rest := [.int v5]) ⟨hx, hb, hml, hown, hts⟩ (mtJ2_size l D cA ζ τ x2 K (x3, s4) hx3 (s4.1 - τ.1) (s4.2.1 - τ.2.1) (Nat.add_sub_cancel' hle.1) (Nat.add_sub_cancel' hle.2)) (cwV 0 hts (lw_V q200 q201 q202 q87 q203) rfl rfl rfl (by decide +kernel) ⟨Nat.le_of_ble_eq_true rfl, Nat.le_of_ble_eq_true rfl⟩) (z_preV hX hS hH (zob_o hf5) rfl) rfl rfl hl.1 rfl (lv_room (Nat.le_of_ble_eq_true rfl)) dX0_prune_45 ⟨hc1, hs1⟩) hS (fun q _ hq => hq) (fun q hq => hq) (fun r u t H1 locs ht hvm hw hB hz hk hS => ?_)
      obtain ⟨hw1, hw2⟩ := Prod.mk.inj hw.symm; subst hw1; subst hw2
      have hH : zH D cA ζ s4 H1 := z_at ht.symm hB
      have hcs : s.heap.size + (cells + (s4.1 - τ.1)) = s4.1 := by omega
      have hss : sl0 + (slots + (s4.2.1 - τ.2.1)) = s4.2.1 := by omega
      replace hcM := And.intro hc1 hs1
      generalize cells + (s4.1 - τ.1) = cells at hcs hcM ⊢; generalize slots + (s4.2.1 - τ.2.1) = slots at hss hcM ⊢
      clear hB hk hz hvm ht hle hck hc1 hs1; generalize H1 = H at hH hS ⊢
      refine lv_icmp_ge (tgt := 86) hx hb dX0_prune_48 (by decide) (fun c48 => ?_) (fun c48 => ?_)
      · have hf := dz_t c48 hf
        refine lv_aload_n hx hb dX0_prune_86 rfl (lv_at hl 0 rfl) ?_
        refine lv_iconst (v := 0) hx hb dX0_prune_87 (by decide) ?_
        obtain ⟨f8, hf8, hf⟩ := dz_bo hf
        obtain ⟨x6, s7, hx6, hle, hck, hf⟩ := zcl_o hf
        have hc1 : cells + (s7.1 - s4.1) ≤ M := by omega
        have hs1 : slots + (s7.2.1 - s4.2.1) ≤ S := by omega
        refine va_callv (va_runV (As := [.int 0]) (rest := []) ⟨hx, hb, hml, hown, hts⟩ (mtX0_goesBack l D cA ζ s4 v0 0 K (x6, s7) hx6 (s7.1 - s4.1) (s7.2.1 - s4.2.1) (Nat.add_sub_cancel' hle.1) (Nat.add_sub_cancel' hle.2)) (cwV 1 hts (lw_V q859 q861 qs11 q84 q862) rfl rfl rfl (by decide +kernel) ⟨Nat.le_of_ble_eq_true rfl, Nat.le_of_ble_eq_true rfl⟩) (z_preV hX hS hH (zob_o hf8) rfl) rfl rfl hl.1 rfl (lv_room (Nat.le_of_ble_eq_true rfl)) dX0_prune_88 ⟨hc1, hs1⟩) hS (fun q _ hq => hq) (fun q hq => hq) (fun u t H1 locs ht hvm hw hB hz hk hS => ?_)
        obtain ⟨-, hw2⟩ := Prod.mk.inj hw.symm; subst hw2
        have hH : zH D cA ζ s7 H1 := z_at ht.symm hB
        have hcs : s.heap.size + (cells + (s7.1 - s4.1)) = s7.1 := by omega
        have hss : sl0 + (slots + (s7.2.1 - s4.2.1)) = s7.2.1 := by omega
        replace hcM := And.intro hc1 hs1
        generalize cells + (s7.1 - s4.1) = cells at hcs hcM ⊢; generalize slots + (s7.2.1 - s4.2.1) = slots at hss hcM ⊢
        clear hB hk hz hvm ht hle hck hc1 hs1; generalize H1 = H at hH hS ⊢
        refine lv_aload hx hb dX0_prune_91 (lv_at hl 2 rfl) ?_
        obtain ⟨f11, hf11, hf⟩ := dz_bo hf
        obtain ⟨x9, s10, hx9, hle, hck, hf⟩ := zcl_o hf
        have hc1 : cells + (s10.1 - s7.1) ≤ M := by omega
        have hs1 : slots + (s10.2.1 - s7.2.1) ≤ S := by omega
        refine va_callr (va_runV (As := []) (rest := []) ⟨hx, hb, hml, hown, hts⟩ (mtJ2_iterator l D cA ζ s7 v4 K (x9, s10) hx9 (s10.1 - s7.1) (s10.2.1 - s7.2.1) (Nat.add_sub_cancel' hle.1) (Nat.add_sub_cancel' hle.2)) (cwV 0 hts (lw_V q1322 q1323 q1324 q87 q1325) rfl rfl rfl (by decide +kernel) ⟨Nat.le_of_ble_eq_true rfl, Nat.le_of_ble_eq_true rfl⟩) (z_preV hX hS hH (zob_o hf11) rfl) rfl rfl hl.1 rfl (lv_room (Nat.le_of_ble_eq_true rfl)) dX0_prune_93 ⟨hc1, hs1⟩) hS (fun q _ hq => hq) (fun q hq => hq) (fun u r t H1 locs ht hvm hw hB hz hk hS => ?_)
        obtain ⟨hw, hB⟩ := hB
        obtain ⟨hw1, hw2⟩ := Prod.mk.inj hw.symm; subst hw1; subst hw2
        have hH : zH D cA ζ s10 H1 := z_at ht.symm hB
        have hcs : s.heap.size + (cells + (s10.1 - s7.1)) = s10.1 := by omega
        have hss : sl0 + (slots + (s10.2.1 - s7.2.1)) = s10.2.1 := by omega
        replace hcM := And.intro hc1 hs1
        generalize cells + (s10.1 - s7.1) = cells at hcs hcM ⊢; generalize slots + (s10.2.1 - s7.2.1) = slots at hss hcM ⊢
        clear hB hk hz hvm ht hle hck hc1 hs1; generalize H1 = H at hH hS ⊢
        refine lv_astore (lv' := [(5, .ref x9), (0, .ref v0), (2, .long v2), (4, .ref v4)]) hx hb dX0_prune_96 hl (by decide) rfl (fun ls hl => ?_)
        exact ih.2.2 v0 x9 s10 H locs cells slots hH hS hcs hss hcM ls (lv_sub hl [1, 0] rfl) hf
      · have hf := dz_f c48 hf
        refine lv_lload_n hx hb dX0_prune_51 rfl (lv_at hl 1 rfl) ?_
        refine lv_iload hx hb dX0_prune_52 (lv_at hl 3 rfl) ?_
        refine lv_lshr hx hb dX0_prune_54 (rfl : _ = v2 >>> (Int32.toInt64 v5 &&& 63)) ?_
        refine lv_lconst (v := 1) hx hb dX0_prune_55 rfl ?_
        refine lv_land hx hb dX0_prune_56 ?_
        refine lv_lconst (v := 1) hx hb dX0_prune_57 rfl ?_
        refine W.lcmp hx hb dX0_prune_58 ?_
        refine lv_if_ne (tgt := 80) hx hb dX0_prune_59 (by decide) (fun c59 => ?_) (fun c59 => ?_)
        · have c59 : ¬ ((v2 >>> (Int32.toInt64 v5 &&& 63)) &&& 1) = (1 : Int64) := fun hq => c59 ((lg_cmp_eq _ _).mpr hq)
          have hf := dz_f c59 hf
          exact ih.2.1 v0 v2 v4 v5 s4 H locs cells slots hH hS hcs hss hcM ls (lv_sub hl [0, 1, 2, 3] rfl) hf
        · have c59 : ((v2 >>> (Int32.toInt64 v5 &&& 63)) &&& 1) = (1 : Int64) := (lg_cmp_eq _ _).mp c59
          have hf := dz_t c59 hf
          refine lv_aload hx hb dX0_prune_62 (lv_at hl 2 rfl) ?_
          refine lv_aload_n hx hb dX0_prune_64 rfl (lv_at hl 0 rfl) ?_
          obtain ⟨f12, hf12, hf⟩ := dz_bo hf
          obtain ⟨x13, hx13, hf⟩ := dz_bo hf
          refine va_get (C := RX0) (T := TX0) (N := 7) hx hb hts in_X0 hown hX.K (zrd_P hX hS hH (zob_o hf12)) 0 rfl rfl 0 (by decide) (hts _ q156) (fun _ hq => hq) (zvr_o hx13) dX0_prune_65 ?_
          refine lv_iload hx hb dX0_prune_68 (lv_at hl 3 rfl) ?_
          obtain ⟨f16, hf16, hf⟩ := dz_bo hf
          obtain ⟨x14, s15, hx14, hle, hck, hf⟩ := zcl_o hf
          have hc1 : cells + (s15.1 - s4.1) ≤ M := by omega
          have hs1 : slots + (s15.2.1 - s4.2.1) ≤ S := by omega
          refine va_callr (va_runV (As := [.int v5]) (rest := [.ref v4]) ⟨hx, hb, hml, hown, hts⟩ (mtJ2_get l D cA ζ s4 x13 v5 K (x14, s15) hx14 (s15.1 - s4.1) (s15.2.1 - s4.2.1) (Nat.add_sub_cancel' hle.1) (Nat.add_sub_cancel' hle.2)) (cwV 1 hts (lw_V q204 q205 q206 q87 q207) rfl rfl rfl (by decide +kernel) ⟨Nat.le_of_ble_eq_true rfl, Nat.le_of_ble_eq_true rfl⟩) (z_preV hX hS hH (zob_o hf16) rfl) rfl rfl hl.1 rfl (lv_room (Nat.le_of_ble_eq_true rfl)) dX0_prune_70 ⟨hc1, hs1⟩) hS (fun q _ hq => hq) (fun q hq => hq) (fun u r t H1 locs ht hvm hw hB hz hk hS => ?_)
          obtain ⟨hw, hB⟩ := hB
          obtain ⟨hw1, hw2⟩ := Prod.mk.inj hw.symm; subst hw1; subst hw2
          have hH : zH D cA ζ s15 H1 := z_at ht.symm hB
          have hcs : s.heap.size + (cells + (s15.1 - s4.1)) = s15.1 := by omega
          have hss : sl0 + (slots + (s15.2.1 - s4.2.1)) = s15.2.1 := by omega
          replace hcM := And.intro hc1 hs1
          generalize cells + (s15.1 - s4.1) = cells at hcs hcM ⊢; generalize slots + (s15.2.1 - s4.2.1) = slots at hss hcM ⊢
          clear hB hk hz hvm ht hle hck hc1 hs1; generalize H1 = H at hH hS ⊢
          obtain ⟨cf17, f17, hcf17, hf⟩ := dz_co hf
          obtain ⟨hr_f17, hc_f17⟩ := zoL_o hcf17
          refine zL_cast hx hb hown (hts _ q218) hX hS hH hr_f17 hc_f17 dX0_prune_73 ?_
          obtain ⟨f20, hf20, hf⟩ := dz_bo hf
          obtain ⟨x18, s19, hx18, hle, hck, hf⟩ := zcl_o hf
          have hc1 : cells + (s19.1 - s15.1) ≤ M := by omega
          have hs1 : slots + (s19.2.1 - s15.2.1) ≤ S := by omega
          refine va_calli (va_runV (As := [.ref x14]) (rest := []) ⟨hx, hb, hml, hown, hts⟩ (mtJ2_add l D cA ζ s15 v4 x14 K (x18, s19) hx18 (s19.1 - s15.1) (s19.2.1 - s15.2.1) (Nat.add_sub_cancel' hle.1) (Nat.add_sub_cancel' hle.2)) (cwV 1 hts (lw_V q794 q795 q796 q87 q797) rfl rfl rfl (by decide +kernel) ⟨Nat.le_of_ble_eq_true rfl, Nat.le_of_ble_eq_true rfl⟩) (z_preV hX hS hH (zob_o hf20) rfl) rfl rfl hl.1 rfl (lv_room (Nat.le_of_ble_eq_true rfl)) dX0_prune_76 ⟨hc1, hs1⟩) hS (fun q _ hq => hq) (fun q hq => hq) (fun r u t H1 locs ht hvm hw hB hz hk hS => ?_)
          obtain ⟨hw1, hw2⟩ := Prod.mk.inj hw.symm; subst hw1; subst hw2
          have hH : zH D cA ζ s19 H1 := z_at ht.symm hB
          have hcs : s.heap.size + (cells + (s19.1 - s15.1)) = s19.1 := by omega
          have hss : sl0 + (slots + (s19.2.1 - s15.2.1)) = s19.2.1 := by omega
          replace hcM := And.intro hc1 hs1
          generalize cells + (s19.1 - s15.1) = cells at hcs hcM ⊢; generalize slots + (s19.2.1 - s15.2.1) = slots at hss hcM ⊢
          clear hB hk hz hvm ht hle hck hc1 hs1; generalize H1 = H at hH hS ⊢
          refine lv_pop hx hb dX0_prune_79 rfl ?_
          exact ih.2.1 v0 v2 v4 v5 s19 H locs cells slots hH hS hcs hss hcM ls (lv_sub hl [0, 1, 2, 3] rfl) hf
    · intro v0 v2 v4 v5 τ H locs cells slots hH hS hcs hss hcM ls hl hf
      have hf : (dz_l (v5 + 1) fun x1 => (lfX0_prune K ζ k).1 v0 v2 v4 x1 τ : Option (Int32 × pH)) = some res := hf
      obtain ⟨x1, e_x1, hf⟩ := dz_lo hf
      refine lv_iinc (v := x1) (lv' := [(5, .int x1), (0, .ref v0), (2, .long v2), (4, .ref v4)]) hx hb dX0_prune_80 hl (k := 3) rfl (by rw [e_x1]; rfl) (by decide) rfl (fun ls hl => ?_)
      refine lv_goto (tgt := 39) hx hb dX0_prune_83 (by decide) ?_
      exact ih.1 v0 v2 v4 x1 τ H locs cells slots hH hS hcs hss hcM ls (lv_sub hl [1, 2, 3, 0] rfl) hf
    · intro v0 v5 τ H locs cells slots hH hS hcs hss hcM ls hl hf
      have hf : (dz_b (zob ζ τ v5 15) fun f3 => zcl τ (fnJ15_hasNext K ζ v5 τ) fun x1 s2 => if x1 = (0 : Int32) then (dz_b (zob ζ s2 v0 0) fun f4 => dz_b (zvr (f4[0]?)) fun x5 => dz_b (zob ζ s2 x5 14) fun f8 => zcl s2 (fnJ2_size K ζ x5 s2) fun x6 s7 => some (x6, s7)) else (dz_b (zob ζ s2 v5 15) fun f11 => zcl s2 (fnJ15_next K ζ v5 s2) fun x9 s10 => dz_c (zoL ζ s10 x9) fun cf12 f12 => dz_b (zob ζ s10 v0 0) fun f15 => zcl s10 (fnX0_comes K ζ v0 x9 s10) fun _ s14 => (lfX0_prune K ζ k).2.2 v0 v5 s14) : Option (Int32 × pH)) = some res := hf
      refine lv_aload hx hb dX0_prune_98 (lv_at hl 1 rfl) ?_
      obtain ⟨f3, hf3, hf⟩ := dz_bo hf
      obtain ⟨x1, s2, hx1, hle, hck, hf⟩ := zcl_o hf
      have hc1 : cells + (s2.1 - τ.1) ≤ M := by omega
      have hs1 : slots + (s2.2.1 - τ.2.1) ≤ S := by omega
      refine va_callFi (va_runF (hX.K.1 15 _ rfl).2 (As := []) (rest := []) ⟨hx, hb, hml, hown, hts⟩ (mtJ15_hasNext l D cA ζ τ v5 K (x1, s2) hx1 (s2.1 - τ.1) (s2.2.1 - τ.2.1) (Nat.add_sub_cancel' hle.1) (Nat.add_sub_cancel' hle.2)) (va_cwF 0 hts (zF_in q782 q273 q275 q116 q277) rfl rfl rfl (hX.F 2 rfl) (by decide +kernel) ⟨Nat.le_of_ble_eq_true rfl, Nat.le_of_ble_eq_true rfl⟩) (z_preV hX hS hH (zob_o hf3) rfl) rfl rfl hl.1 rfl (lv_room (Nat.le_of_ble_eq_true rfl)) dX0_prune_100 ⟨hc1, hs1⟩) hS (fun q _ hq => hq) (fun q hq => hq) (fun r u t H1 locs ht hvm hw hB hz hk hS => ?_)
      obtain ⟨hw1, hw2⟩ := Prod.mk.inj hw.symm; subst hw1; subst hw2
      have hH : zH D cA ζ s2 H1 := z_at ht.symm hB
      have hcs : s.heap.size + (cells + (s2.1 - τ.1)) = s2.1 := by omega
      have hss : sl0 + (slots + (s2.2.1 - τ.2.1)) = s2.2.1 := by omega
      replace hcM := And.intro hc1 hs1
      generalize cells + (s2.1 - τ.1) = cells at hcs hcM ⊢; generalize slots + (s2.2.1 - τ.2.1) = slots at hss hcM ⊢
      clear hB hk hz hvm ht hle hck hc1 hs1; generalize H1 = H at hH hS ⊢
      refine lv_if_eq (tgt := 129) hx hb dX0_prune_105 (by decide) (fun c105 => ?_) (fun c105 => ?_)
      · have hf := dz_t c105 hf
        refine lv_aload_n hx hb dX0_prune_129 rfl (lv_at hl 0 rfl) ?_
        obtain ⟨f4, hf4, hf⟩ := dz_bo hf
        obtain ⟨x5, hx5, hf⟩ := dz_bo hf
        refine va_get (C := RX0) (T := TX0) (N := 7) hx hb hts in_X0 hown hX.K (zrd_P hX hS hH (zob_o hf4)) 0 rfl rfl 0 (by decide) (hts _ q156) (fun _ hq => hq) (zvr_o hx5) dX0_prune_130 ?_
        obtain ⟨f8, hf8, hf⟩ := dz_bo hf
        obtain ⟨x6, s7, hx6, hle, hck, hf⟩ := zcl_o hf
        have hc1 : cells + (s7.1 - s2.1) ≤ M := by omega
        have hs1 : slots + (s7.2.1 - s2.2.1) ≤ S := by omega
        refine va_calli (va_runV (As := []) (rest := []) ⟨hx, hb, hml, hown, hts⟩ (mtJ2_size l D cA ζ s2 x5 K (x6, s7) hx6 (s7.1 - s2.1) (s7.2.1 - s2.2.1) (Nat.add_sub_cancel' hle.1) (Nat.add_sub_cancel' hle.2)) (cwV 0 hts (lw_V q200 q201 q202 q87 q203) rfl rfl rfl (by decide +kernel) ⟨Nat.le_of_ble_eq_true rfl, Nat.le_of_ble_eq_true rfl⟩) (z_preV hX hS hH (zob_o hf8) rfl) rfl rfl hl.1 rfl (lv_room (Nat.le_of_ble_eq_true rfl)) dX0_prune_133 ⟨hc1, hs1⟩) hS (fun q _ hq => hq) (fun q hq => hq) (fun r u t H1 locs ht hvm hw hB hz hk hS => ?_)
        obtain ⟨hw1, hw2⟩ := Prod.mk.inj hw.symm; subst hw1; subst hw2
        have hH : zH D cA ζ s7 H1 := z_at ht.symm hB
        have hcs : s.heap.size + (cells + (s7.1 - s2.1)) = s7.1 := by omega
        have hss : sl0 + (slots + (s7.2.1 - s2.2.1)) = s7.2.1 := by omega
        replace hcM := And.intro hc1 hs1
        generalize cells + (s7.1 - s2.1) = cells at hcs hcM ⊢; generalize slots + (s7.2.1 - s2.2.1) = slots at hss hcM ⊢
        clear hB hk hz hvm ht hle hck hc1 hs1; generalize H1 = H at hH hS ⊢
        obtain ⟨hM1, hS1⟩ : cells = M ∧ slots = S := by have hq := congrArg Prod.snd (Option.some.inj hf); rw [← hq] at hM hS0; have hM : s.heap.size + M = s7.1 := hM; have hS0 : sl0 + S = s7.2.1 := hS0; omega
        refine W.widen (k := M) (n := S) (Nat.le_of_eq hM1) (Nat.le_of_eq hS1) ?_
        exact W.iret (v := x6) hx hb hr (fun t ht hW => ⟨⟨x6, s7, rfl, Option.some.inj hf, z_at ht hH⟩, hS.F ht⟩) hS.2.2 dX0_prune_136
      · have hf := dz_f c105 hf
        refine lv_aload hx hb dX0_prune_108 (lv_at hl 1 rfl) ?_
        obtain ⟨f11, hf11, hf⟩ := dz_bo hf
        obtain ⟨x9, s10, hx9, hle, hck, hf⟩ := zcl_o hf
        have hc1 : cells + (s10.1 - s2.1) ≤ M := by omega
        have hs1 : slots + (s10.2.1 - s2.2.1) ≤ S := by omega
        refine va_callFr (va_runF (hX.K.1 15 _ rfl).2 (As := []) (rest := []) ⟨hx, hb, hml, hown, hts⟩ (mtJ15_next l D cA ζ s2 v5 K (x9, s10) hx9 (s10.1 - s2.1) (s10.2.1 - s2.2.1) (Nat.add_sub_cancel' hle.1) (Nat.add_sub_cancel' hle.2)) (va_cwF 0 hts (zF_in q784 q291 q293 q116 q295) rfl rfl rfl (hX.F 3 rfl) (by decide +kernel) ⟨Nat.le_of_ble_eq_true rfl, Nat.le_of_ble_eq_true rfl⟩) (z_preV hX hS hH (zob_o hf11) rfl) rfl rfl hl.1 rfl (lv_room (Nat.le_of_ble_eq_true rfl)) dX0_prune_110 ⟨hc1, hs1⟩) hS (fun q _ hq => hq) (fun q hq => hq) (fun u r t H1 locs ht hvm hw hB hz hk hS => ?_)
        obtain ⟨hw, hB⟩ := hB
        obtain ⟨hw1, hw2⟩ := Prod.mk.inj hw.symm; subst hw1; subst hw2
        have hH : zH D cA ζ s10 H1 := z_at ht.symm hB
        have hcs : s.heap.size + (cells + (s10.1 - s2.1)) = s10.1 := by omega
        have hss : sl0 + (slots + (s10.2.1 - s2.2.1)) = s10.2.1 := by omega
        replace hcM := And.intro hc1 hs1
        generalize cells + (s10.1 - s2.1) = cells at hcs hcM ⊢; generalize slots + (s10.2.1 - s2.2.1) = slots at hss hcM ⊢
        clear hB hk hz hvm ht hle hck hc1 hs1; generalize H1 = H at hH hS ⊢
        obtain ⟨cf12, f12, hcf12, hf⟩ := dz_co hf
        obtain ⟨hr_f12, hc_f12⟩ := zoL_o hcf12
        refine zL_cast hx hb hown (hts _ q218) hX hS hH hr_f12 hc_f12 dX0_prune_115 ?_
        refine lv_astore (lv' := [(6, .ref x9), (0, .ref v0), (5, .ref v5)]) hx hb dX0_prune_118 hl (by decide) rfl (fun ls hl => ?_)
        refine lv_aload_n hx hb dX0_prune_120 rfl (lv_at hl 1 rfl) ?_
        refine lv_aload hx hb dX0_prune_121 (lv_at hl 0 rfl) ?_
        obtain ⟨f15, hf15, hf⟩ := dz_bo hf
        obtain ⟨x13, s14, hx13, hle, hck, hf⟩ := zcl_o hf
        have hc1 : cells + (s14.1 - s10.1) ≤ M := by omega
        have hs1 : slots + (s14.2.1 - s10.2.1) ≤ S := by omega
        refine va_callv (va_runV (As := [.ref x9]) (rest := []) ⟨hx, hb, hml, hown, hts⟩ (mtX0_comes l D cA ζ s10 v0 x9 K (x13, s14) hx13 (s14.1 - s10.1) (s14.2.1 - s10.2.1) (Nat.add_sub_cancel' hle.1) (Nat.add_sub_cancel' hle.2)) (cwV 1 hts (lw_V q790 q792 qs7 q84 q793) rfl rfl rfl (by decide +kernel) ⟨Nat.le_of_ble_eq_true rfl, Nat.le_of_ble_eq_true rfl⟩) (z_preV hX hS hH (zob_o hf15) rfl) rfl rfl hl.1 rfl (lv_room (Nat.le_of_ble_eq_true rfl)) dX0_prune_123 ⟨hc1, hs1⟩) hS (fun q _ hq => hq) (fun q hq => hq) (fun u t H1 locs ht hvm hw hB hz hk hS => ?_)
        obtain ⟨-, hw2⟩ := Prod.mk.inj hw.symm; subst hw2
        have hH : zH D cA ζ s14 H1 := z_at ht.symm hB
        have hcs : s.heap.size + (cells + (s14.1 - s10.1)) = s14.1 := by omega
        have hss : sl0 + (slots + (s14.2.1 - s10.2.1)) = s14.2.1 := by omega
        replace hcM := And.intro hc1 hs1
        generalize cells + (s14.1 - s10.1) = cells at hcs hcM ⊢; generalize slots + (s14.2.1 - s10.2.1) = slots at hss hcM ⊢
        clear hB hk hz hvm ht hle hck hc1 hs1; generalize H1 = H at hH hS ⊢
        refine lv_goto (tgt := 98) hx hb dX0_prune_126 (by decide) ?_
        exact ih.2.2 v0 v5 s14 H locs cells slots hH hS hcs hss hcM ls (lv_sub hl [1, 2] rfl) hf
set_option maxHeartbeats 4000000 in
set_option maxRecDepth 100000 in
theorem mtX0_prune (l : Launch) (D : va_G) (cA : Nat → ClassId) (ζ : pZ) (τ : pH) (h : Nat) (a0 : Int32) (K : Nat) (res : (Int32 × pH)) (hf : fnX0_prune K ζ h a0 τ = some res) (M S : Nat) (hM : τ.1 + M = res.2.1) (hS0 : τ.2.1 + S = res.2.2.1) : Met l yX0_prune (ws_ yX0_prune cX0_prune 7 (some .int)) ({ frames := 108, cells := M, slots := S, locals := 2487 }) (zPc D cA ζ τ [.ref h, .int a0]) (zQi D cA ζ res) M S (zA ζ) := by
  refine Met.ofW (cc := cX0_prune) (maxL := 7) (ret := some .int) (by decide +kernel) rfl ?_
  intro p e s m args below meth c s₁ B hml hv
  obtain ⟨rfl, hX, hH⟩ := hv
  have hx := B.exec
  have hb := B.bytes
  have hr := B.returns
  have hts := atoms_spec (ws := ws_ yX0_prune cX0_prune 7 (some .int)) B.pre
  have hts : ∀ w ∈ lw_all, w.before _ s = true := fun w h => hts w (List.mem_cons_of_mem _ h)
  have hown : s.vm.findClass RX0 = some m.cls := findClass_of_methodNamed B.named
  have hlocks := B.notSynchronized
  have hM : s.heap.size + M = res.2.1 := by rw [hH.1]; exact hM
  have hcs : s.heap.size + 0 = τ.1 := hH.1
  have hss : τ.2.1 + 0 = τ.2.1 := rfl
  generalize hsl0 : τ.2.1 = sl0 at hS0 hss
  have hss : sl0 + 0 = τ.2.1 := by rw [hsl0]; rfl
  have hS : va_S (zA ζ) s.heap s.heap [] := va_S.rf
  generalize hHe : s.heap = H at hH hS ⊢
  have hS : va_S (zA ζ) s.heap H [] := by rw [hHe]; exact hS
  generalize ([] : List Loc) = locs at hS ⊢
  have hl := lv_entry ([.ref h, .int a0]) (n := 7) (Nat.le_of_ble_eq_true rfl)
  rw [lg_entry_eq]
  generalize (lg_sl ([.ref h, .int a0]) ++ List.replicate (7 - (lg_sl ([.ref h, .int a0])).length) Slot.unset).toArray = ls at hl ⊢
  have hl : lv_has ls 7 [(0, .ref h), (1, .int a0)] := hl
  have hf : (dz_b (zob ζ τ h 0) fun f3 => zcl τ (fnX0_isLine K ζ h a0 τ) fun x1 s2 => if x1 = (0 : Int32) then (some ((-1), s2)) else (dz_b (zob ζ s2 h 0) fun f6 => zcl s2 (fnX0_isRight K ζ h a0 s2) fun x4 s5 => if x4 = (0 : Int32) then (some ((-2), s5)) else (dz_b (zob ζ s5 h 0) fun f9 => zcl s5 (fnX0_restsOf K ζ h a0 s5) fun x7 s8 => dz_l s8.1 fun r10 => dz_l (znw s8 3 (.inr (14, [.int 0, .null, .int 0]))) fun s11 => zck s11 (zcl s11 (fnJ2_init K ζ r10 s11) fun _ s13 => (lfX0_prune K ζ K).1 h x7 r10 0 s13))) : Option (Int32 × pH)) = some res := hf
  refine z_gen (fun cells slots hc0 hs0 => ?_)
  have hcs : s.heap.size + cells = τ.1 := by rw [hc0]; exact hcs
  have hss : sl0 + slots = τ.2.1 := by rw [hs0]; exact hss
  have hcM : cells ≤ M ∧ slots ≤ S := by rw [hc0, hs0]; exact ⟨Nat.zero_le _, Nat.zero_le _⟩
  clear hc0 hs0
  have ih := wlX0_prune (l := l) (e := e) (below := below) (D := D) (cA := cA) hX K res M S sl0 hM hS0 h a0 hx hb hr hlocks hml hown hts K
  refine lv_aload_n hx hb dX0_prune_0 rfl (lv_at hl 0 rfl) ?_
  refine lv_iload_n hx hb dX0_prune_1 rfl (lv_at hl 1 rfl) ?_
  obtain ⟨f3, hf3, hf⟩ := dz_bo hf
  obtain ⟨x1, s2, hx1, hle, hck, hf⟩ := zcl_o hf
  have hc1 : cells + (s2.1 - τ.1) ≤ M := by omega
  have hs1 : slots + (s2.2.1 - τ.2.1) ≤ S := by omega
  refine va_calli (va_runV (As := [.int a0]) (rest := []) ⟨hx, hb, hml, hown, hts⟩ (mtX0_isLine l D cA ζ τ h a0 K (x1, s2) hx1 (s2.1 - τ.1) (s2.2.1 - τ.2.1) (Nat.add_sub_cancel' hle.1) (Nat.add_sub_cancel' hle.2)) (cwV 1 hts (lw_V q1349 q1351 qs28 q84 q1352) rfl rfl rfl (by decide +kernel) ⟨Nat.le_of_ble_eq_true rfl, Nat.le_of_ble_eq_true rfl⟩) (z_preV hX hS hH (zob_o hf3) rfl) rfl rfl hl.1 rfl (lv_room (Nat.le_of_ble_eq_true rfl)) dX0_prune_2 ⟨hc1, hs1⟩) hS (fun q _ hq => hq) (fun q hq => hq) (fun r u t H1 locs ht hvm hw hB hz hk hS => ?_)
  obtain ⟨hw1, hw2⟩ := Prod.mk.inj hw.symm; subst hw1; subst hw2
  have hH : zH D cA ζ s2 H1 := z_at ht.symm hB
  have hcs : s.heap.size + (cells + (s2.1 - τ.1)) = s2.1 := by omega
  have hss : sl0 + (slots + (s2.2.1 - τ.2.1)) = s2.2.1 := by omega
  replace hcM := And.intro hc1 hs1
  generalize cells + (s2.1 - τ.1) = cells at hcs hcM ⊢; generalize slots + (s2.2.1 - τ.2.1) = slots at hss hcM ⊢
  clear hB hk hz hvm ht hle hck hc1 hs1; generalize H1 = H at hH hS ⊢
  refine lv_if_ne (tgt := 10) hx hb dX0_prune_5 (by decide) (fun c5 => ?_) (fun c5 => ?_)
  · have hf := dz_f c5 hf
    refine lv_aload_n hx hb dX0_prune_10 rfl (lv_at hl 0 rfl) ?_
    refine lv_iload_n hx hb dX0_prune_11 rfl (lv_at hl 1 rfl) ?_
    obtain ⟨f6, hf6, hf⟩ := dz_bo hf
    obtain ⟨x4, s5, hx4, hle, hck, hf⟩ := zcl_o hf
    have hc1 : cells + (s5.1 - s2.1) ≤ M := by omega
    have hs1 : slots + (s5.2.1 - s2.2.1) ≤ S := by omega
    refine va_calli (va_runV (As := [.int a0]) (rest := []) ⟨hx, hb, hml, hown, hts⟩ (mtX0_isRight l D cA ζ s2 h a0 K (x4, s5) hx4 (s5.1 - s2.1) (s5.2.1 - s2.2.1) (Nat.add_sub_cancel' hle.1) (Nat.add_sub_cancel' hle.2)) (cwV 1 hts (lw_V q219 q221 qs1 q84 q222) rfl rfl rfl (by decide +kernel) ⟨Nat.le_of_ble_eq_true rfl, Nat.le_of_ble_eq_true rfl⟩) (z_preV hX hS hH (zob_o hf6) rfl) rfl rfl hl.1 rfl (lv_room (Nat.le_of_ble_eq_true rfl)) dX0_prune_12 ⟨hc1, hs1⟩) hS (fun q _ hq => hq) (fun q hq => hq) (fun r u t H1 locs ht hvm hw hB hz hk hS => ?_)
    obtain ⟨hw1, hw2⟩ := Prod.mk.inj hw.symm; subst hw1; subst hw2
    have hH : zH D cA ζ s5 H1 := z_at ht.symm hB
    have hcs : s.heap.size + (cells + (s5.1 - s2.1)) = s5.1 := by omega
    have hss : sl0 + (slots + (s5.2.1 - s2.2.1)) = s5.2.1 := by omega
    replace hcM := And.intro hc1 hs1
    generalize cells + (s5.1 - s2.1) = cells at hcs hcM ⊢; generalize slots + (s5.2.1 - s2.2.1) = slots at hss hcM ⊢
    clear hB hk hz hvm ht hle hck hc1 hs1; generalize H1 = H at hH hS ⊢
    refine lv_if_ne (tgt := 21) hx hb dX0_prune_15 (by decide) (fun c15 => ?_) (fun c15 => ?_)
    · have hf := dz_f c15 hf
      refine lv_aload_n hx hb dX0_prune_21 rfl (lv_at hl 0 rfl) ?_
      refine lv_iload_n hx hb dX0_prune_22 rfl (lv_at hl 1 rfl) ?_
      obtain ⟨f9, hf9, hf⟩ := dz_bo hf
      obtain ⟨x7, s8, hx7, hle, hck, hf⟩ := zcl_o hf
      have hc1 : cells + (s8.1 - s5.1) ≤ M := by omega
      have hs1 : slots + (s8.2.1 - s5.2.1) ≤ S := by omega
      refine va_calll (va_runV (As := [.int a0]) (rest := []) ⟨hx, hb, hml, hown, hts⟩ (mtX0_restsOf l D cA ζ s5 h a0 K (x7, s8) hx7 (s8.1 - s5.1) (s8.2.1 - s5.2.1) (Nat.add_sub_cancel' hle.1) (Nat.add_sub_cancel' hle.2)) (cwV 1 hts (lw_V q1397 q1399 qs31 q84 q1400) rfl rfl rfl (by decide +kernel) ⟨Nat.le_of_ble_eq_true rfl, Nat.le_of_ble_eq_true rfl⟩) (z_preV hX hS hH (zob_o hf9) rfl) rfl rfl hl.1 rfl (lv_room (Nat.le_of_ble_eq_true rfl)) dX0_prune_23 ⟨hc1, hs1⟩) hS (fun q _ hq => hq) (fun q hq => hq) (fun r u t H1 locs ht hvm hw hB hz hk hS => ?_)
      obtain ⟨hw1, hw2⟩ := Prod.mk.inj hw.symm; subst hw1; subst hw2
      have hH : zH D cA ζ s8 H1 := z_at ht.symm hB
      have hcs : s.heap.size + (cells + (s8.1 - s5.1)) = s8.1 := by omega
      have hss : sl0 + (slots + (s8.2.1 - s5.2.1)) = s8.2.1 := by omega
      replace hcM := And.intro hc1 hs1
      generalize cells + (s8.1 - s5.1) = cells at hcs hcM ⊢; generalize slots + (s8.2.1 - s5.2.1) = slots at hss hcM ⊢
      clear hB hk hz hvm ht hle hck hc1 hs1; generalize H1 = H at hH hS ⊢
      refine lv_lstore_n (lv' := [(2, .long x7), (0, .ref h), (1, .int a0)]) hx hb dX0_prune_26 rfl hl (by decide) rfl (fun ls hl => ?_)
      obtain ⟨r10, e_r10, hf⟩ := dz_lo hf
      obtain ⟨s11, e_s11, hf⟩ := dz_lo hf
      obtain ⟨hck, hf⟩ := zck_o hf
      have hc1 : cells + 1 ≤ M := by have hq := hck.1; rw [e_s11] at hq; have hq : s8.1 + 1 ≤ res.2.1 := hq; omega
      have hs1 : slots + 3 ≤ S := by have hq := hck.2; rw [e_s11] at hq; have hq : s8.2.1 + 3 ≤ res.2.2.1 := hq; omega
      refine va_new (ci := 14) (fs := [.int 0, .null, .int 0]) (C := RJ2) (T := TJ2) (N := 3) hx hb hts in_J2 tyJ2 tyJ2_ok hown (hts _ q127) (hts _ q128) (hts _ q87) hX.K hH.2.2 zw_D hS hX.hA rfl zdf_J2 hc1 hs1 dX0_prune_27 (fun q H1 hP1 hD1 hS => dz_size (fun hz => ?_))
      obtain ⟨hq, hH⟩ := zH_new (n := 3) (x := (.inr (14, [.int 0, .null, .int 0]))) hH hcs hP1 hD1 hz
      rw [← e_s11] at hH; obtain rfl : r10 = q := e_r10.trans hq.symm
      have hcs : s.heap.size + (cells + 1) = s11.1 := by rw [e_s11]; show _ = s8.1 + 1; omega
      have hss : sl0 + (slots + 3) = s11.2.1 := by rw [e_s11]; show _ = s8.2.1 + 3; omega
      replace hcM := And.intro hc1 hs1
      generalize cells + 1 = cells at hcs hcM ⊢; generalize slots + 3 = slots at hss hcM ⊢
      clear hP1 hD1 hz hq hck hc1 hs1; generalize H1 = H at hH hS ⊢
      refine lv_dup hx hb dX0_prune_30 rfl ?_
      obtain ⟨x12, s13, hx12, hle, hck, hf⟩ := zcl_o hf
      have hc1 : cells + (s13.1 - s11.1) ≤ M := by omega
      have hs1 : slots + (s13.2.1 - s11.2.1) ≤ S := by omega
      refine va_callv (va_runI (As := []) (rest := [.ref r10]) ⟨hx, hb, hml, hown, hts⟩ (mtJ2_init l D cA ζ s11 r10 K (x12, s13) hx12 (s13.1 - s11.1) (s13.2.1 - s11.2.1) (Nat.add_sub_cancel' hle.1) (Nat.add_sub_cancel' hle.2)) (cwI 0 hts (lw_meth q131) rfl rfl rfl (hts _ q87) (hts _ q129) (hts _ q130) rfl (by decide +kernel) ⟨Nat.le_of_ble_eq_true rfl, Nat.le_of_ble_eq_true rfl⟩) (z_preS hX hS hH) rfl rfl hl.1 rfl (lv_room (Nat.le_of_ble_eq_true rfl)) dX0_prune_31 ⟨hc1, hs1⟩) hS (fun q _ hq => hq) (fun q hq => hq) (fun u t H1 locs ht hvm hw hB hz hk hS => ?_)
      obtain ⟨-, hw2⟩ := Prod.mk.inj hw.symm; subst hw2
      have hH : zH D cA ζ s13 H1 := z_at ht.symm hB
      have hcs : s.heap.size + (cells + (s13.1 - s11.1)) = s13.1 := by omega
      have hss : sl0 + (slots + (s13.2.1 - s11.2.1)) = s13.2.1 := by omega
      replace hcM := And.intro hc1 hs1
      generalize cells + (s13.1 - s11.1) = cells at hcs hcM ⊢; generalize slots + (s13.2.1 - s11.2.1) = slots at hss hcM ⊢
      clear hB hk hz hvm ht hle hck hc1 hs1; generalize H1 = H at hH hS ⊢
      refine lv_astore (lv' := [(4, .ref r10), (2, .long x7), (0, .ref h), (1, .int a0)]) hx hb dX0_prune_34 hl (by decide) rfl (fun ls hl => ?_)
      refine lv_iconst (v := 0) hx hb dX0_prune_36 (by decide) ?_
      refine lv_istore (lv' := [(5, .int 0), (4, .ref r10), (2, .long x7), (0, .ref h), (1, .int a0)]) hx hb dX0_prune_37 hl (by decide) rfl (fun ls hl => ?_)
      exact ih.1 h x7 r10 0 s13 H locs cells slots hH hS hcs hss hcM ls (lv_sub hl [3, 2, 1, 0] rfl) hf
    · have hf := dz_t c15 hf
      refine lv_bipush (v := (-2)) hx hb dX0_prune_18 (by decide) ?_
      obtain ⟨hM1, hS1⟩ : cells = M ∧ slots = S := by have hq := congrArg Prod.snd (Option.some.inj hf); rw [← hq] at hM hS0; have hM : s.heap.size + M = s5.1 := hM; have hS0 : sl0 + S = s5.2.1 := hS0; omega
      refine W.widen (k := M) (n := S) (Nat.le_of_eq hM1) (Nat.le_of_eq hS1) ?_
      exact W.iret (v := (-2)) hx hb hr (fun t ht hW => ⟨⟨(-2), s5, rfl, Option.some.inj hf, z_at ht hH⟩, hS.F ht⟩) hS.2.2 dX0_prune_20
  · have hf := dz_t c5 hf
    refine lv_iconst (v := (-1)) hx hb dX0_prune_8 (by decide) ?_
    obtain ⟨hM1, hS1⟩ : cells = M ∧ slots = S := by have hq := congrArg Prod.snd (Option.some.inj hf); rw [← hq] at hM hS0; have hM : s.heap.size + M = s2.1 := hM; have hS0 : sl0 + S = s2.2.1 := hS0; omega
    refine W.widen (k := M) (n := S) (Nat.le_of_eq hM1) (Nat.le_of_eq hS1) ?_
    exact W.iret (v := (-1)) hx hb hr (fun t ht hW => ⟨⟨(-1), s2, rfl, Option.some.inj hf, z_at ht hH⟩, hS.F ht⟩) hS.2.2 dX0_prune_9

noncomputable def fnJ2_isEmpty (K : Nat) (ζ : pZ) (h : Nat) (τ : pH) : Option (Int32 × pH) := dz_b (zob ζ τ h 14) fun f1 => dz_b (zvi (f1[2]?)) fun x2 => if x2 = (0 : Int32) then (some (1, τ)) else (some (0, τ))
set_option maxHeartbeats 4000000 in
set_option maxRecDepth 100000 in
theorem mtJ2_isEmpty (l : Launch) (D : va_G) (cA : Nat → ClassId) (ζ : pZ) (τ : pH) (h : Nat) (K : Nat) (res : (Int32 × pH)) (hf : fnJ2_isEmpty K ζ h τ = some res) (M S : Nat) (hM : τ.1 + M = res.2.1) (hS0 : τ.2.1 + S = res.2.2.1) : Met l yJ2_isEmpty (ws_ yJ2_isEmpty cJ2_isEmpty 1 (some .boolean)) ({ frames := 0, cells := M, slots := S, locals := 0 }) (zPc D cA ζ τ [.ref h]) (zQi D cA ζ res) M S (zA ζ) := by
  refine Met.ofW (cc := cJ2_isEmpty) (maxL := 1) (ret := some .boolean) (by decide +kernel) rfl ?_
  intro p e s m args below meth c s₁ B hml hv
  obtain ⟨rfl, hX, hH⟩ := hv
  have hx := B.exec
  have hb := B.bytes
  have hr := B.returns
  have hts := atoms_spec (ws := ws_ yJ2_isEmpty cJ2_isEmpty 1 (some .boolean)) B.pre
  have hts : ∀ w ∈ lw_all, w.before _ s = true := fun w h => hts w (List.mem_cons_of_mem _ h)
  have hown : s.vm.findClass RJ2 = some m.cls := findClass_of_methodNamed B.named
  have hlocks := B.notSynchronized
  have hM : s.heap.size + M = res.2.1 := by rw [hH.1]; exact hM
  have hcs : s.heap.size + 0 = τ.1 := hH.1
  have hss : τ.2.1 + 0 = τ.2.1 := rfl
  generalize hsl0 : τ.2.1 = sl0 at hS0 hss
  have hss : sl0 + 0 = τ.2.1 := by rw [hsl0]; rfl
  have hS : va_S (zA ζ) s.heap s.heap [] := va_S.rf
  generalize hHe : s.heap = H at hH hS ⊢
  have hS : va_S (zA ζ) s.heap H [] := by rw [hHe]; exact hS
  generalize ([] : List Loc) = locs at hS ⊢
  have hl := lv_entry ([.ref h]) (n := 1) (Nat.le_of_ble_eq_true rfl)
  rw [lg_entry_eq]
  generalize (lg_sl ([.ref h]) ++ List.replicate (1 - (lg_sl ([.ref h])).length) Slot.unset).toArray = ls at hl ⊢
  have hl : lv_has ls 1 [(0, .ref h)] := hl
  have hf : (dz_b (zob ζ τ h 14) fun f1 => dz_b (zvi (f1[2]?)) fun x2 => if x2 = (0 : Int32) then (some (1, τ)) else (some (0, τ)) : Option (Int32 × pH)) = some res := hf
  refine z_gen (fun cells slots hc0 hs0 => ?_)
  have hcs : s.heap.size + cells = τ.1 := by rw [hc0]; exact hcs
  have hss : sl0 + slots = τ.2.1 := by rw [hs0]; exact hss
  have hcM : cells ≤ M ∧ slots ≤ S := by rw [hc0, hs0]; exact ⟨Nat.zero_le _, Nat.zero_le _⟩
  clear hc0 hs0
  refine lv_aload_n hx hb dJ2_isEmpty_0 rfl (lv_at hl 0 rfl) ?_
  obtain ⟨f1, hf1, hf⟩ := dz_bo hf
  obtain ⟨x2, hx2, hf⟩ := dz_bo hf
  refine va_get (C := RJ2) (T := TJ2) (N := 3) hx hb hts in_J2 hown hX.K (zrd_P hX hS hH (zob_o hf1)) 0 rfl rfl 2 (by decide) (hts _ q144) (fun _ hq => hq) (zvi_o hx2) dJ2_isEmpty_1 ?_
  refine lv_if_ne (tgt := 11) hx hb dJ2_isEmpty_4 (by decide) (fun c4 => ?_) (fun c4 => ?_)
  · have hf := dz_f c4 hf
    refine lv_iconst (v := 0) hx hb dJ2_isEmpty_11 (by decide) ?_
    obtain ⟨hM1, hS1⟩ : cells = M ∧ slots = S := by have hq := congrArg Prod.snd (Option.some.inj hf); rw [← hq] at hM hS0; have hM : s.heap.size + M = τ.1 := hM; have hS0 : sl0 + S = τ.2.1 := hS0; omega
    refine W.widen (k := M) (n := S) (Nat.le_of_eq hM1) (Nat.le_of_eq hS1) ?_
    exact W.zret (v := 0) hx hb hr rfl (fun t ht hW => ⟨⟨0, τ, rfl, Option.some.inj hf, z_at ht hH⟩, hS.F ht⟩) hS.2.2 dJ2_isEmpty_12
  · have hf := dz_t c4 hf
    refine lv_iconst (v := 1) hx hb dJ2_isEmpty_7 (by decide) ?_
    refine lv_goto (tgt := 12) hx hb dJ2_isEmpty_8 (by decide) ?_
    obtain ⟨hM1, hS1⟩ : cells = M ∧ slots = S := by have hq := congrArg Prod.snd (Option.some.inj hf); rw [← hq] at hM hS0; have hM : s.heap.size + M = τ.1 := hM; have hS0 : sl0 + S = τ.2.1 := hS0; omega
    refine W.widen (k := M) (n := S) (Nat.le_of_eq hM1) (Nat.le_of_eq hS1) ?_
    exact W.zret (v := 1) hx hb hr rfl (fun t ht hW => ⟨⟨1, τ, rfl, Option.some.inj hf, z_at ht hH⟩, hS.F ht⟩) hS.2.2 dJ2_isEmpty_12

noncomputable def fnX0_drop (K : Nat) (ζ : pZ) (h : Nat) (τ : pH) : Option (Int32 × pH) := dz_b (zob ζ τ h 0) fun f1 => dz_b (zvr (f1[0]?)) fun x2 => dz_b (zob ζ τ x2 14) fun f5 => zcl τ (fnJ2_isEmpty K ζ x2 τ) fun x3 s4 => if x3 = (0 : Int32) then (dz_b (zob ζ s4 h 0) fun f6 => dz_b (zvr (f6[0]?)) fun x7 => dz_b (zob ζ s4 x7 14) fun f10 => zcl s4 (fnJ2_size K ζ x7 s4) fun x8 s9 => dz_b (zob ζ s9 h 0) fun f13 => zcl s9 (fnX0_goesBack K ζ h (x8 - 1) s9) fun _ s12 => dz_b (zob ζ s12 h 0) fun f14 => dz_b (zvr (f14[0]?)) fun x15 => dz_b (zob ζ s12 x15 14) fun f18 => zcl s12 (fnJ2_size K ζ x15 s12) fun x16 s17 => some (x16, s17)) else (some ((-1), s4))
set_option maxHeartbeats 4000000 in
set_option maxRecDepth 100000 in
theorem mtX0_drop (l : Launch) (D : va_G) (cA : Nat → ClassId) (ζ : pZ) (τ : pH) (h : Nat) (K : Nat) (res : (Int32 × pH)) (hf : fnX0_drop K ζ h τ = some res) (M S : Nat) (hM : τ.1 + M = res.2.1) (hS0 : τ.2.1 + S = res.2.2.1) : Met l yX0_drop (ws_ yX0_drop cX0_drop 1 (some .int)) ({ frames := 4, cells := M, slots := S, locals := 127 }) (zPc D cA ζ τ [.ref h]) (zQi D cA ζ res) M S (zA ζ) := by
  refine Met.ofW (cc := cX0_drop) (maxL := 1) (ret := some .int) (by decide +kernel) rfl ?_
  intro p e s m args below meth c s₁ B hml hv
  obtain ⟨rfl, hX, hH⟩ := hv
  have hx := B.exec
  have hb := B.bytes
  have hr := B.returns
  have hts := atoms_spec (ws := ws_ yX0_drop cX0_drop 1 (some .int)) B.pre
  have hts : ∀ w ∈ lw_all, w.before _ s = true := fun w h => hts w (List.mem_cons_of_mem _ h)
  have hown : s.vm.findClass RX0 = some m.cls := findClass_of_methodNamed B.named
  have hlocks := B.notSynchronized
  have hM : s.heap.size + M = res.2.1 := by rw [hH.1]; exact hM
  have hcs : s.heap.size + 0 = τ.1 := hH.1
  have hss : τ.2.1 + 0 = τ.2.1 := rfl
  generalize hsl0 : τ.2.1 = sl0 at hS0 hss
  have hss : sl0 + 0 = τ.2.1 := by rw [hsl0]; rfl
  have hS : va_S (zA ζ) s.heap s.heap [] := va_S.rf
  generalize hHe : s.heap = H at hH hS ⊢
  have hS : va_S (zA ζ) s.heap H [] := by rw [hHe]; exact hS
  generalize ([] : List Loc) = locs at hS ⊢
  have hl := lv_entry ([.ref h]) (n := 1) (Nat.le_of_ble_eq_true rfl)
  rw [lg_entry_eq]
  generalize (lg_sl ([.ref h]) ++ List.replicate (1 - (lg_sl ([.ref h])).length) Slot.unset).toArray = ls at hl ⊢
  have hl : lv_has ls 1 [(0, .ref h)] := hl
  have hf : (dz_b (zob ζ τ h 0) fun f1 => dz_b (zvr (f1[0]?)) fun x2 => dz_b (zob ζ τ x2 14) fun f5 => zcl τ (fnJ2_isEmpty K ζ x2 τ) fun x3 s4 => if x3 = (0 : Int32) then (dz_b (zob ζ s4 h 0) fun f6 => dz_b (zvr (f6[0]?)) fun x7 => dz_b (zob ζ s4 x7 14) fun f10 => zcl s4 (fnJ2_size K ζ x7 s4) fun x8 s9 => dz_b (zob ζ s9 h 0) fun f13 => zcl s9 (fnX0_goesBack K ζ h (x8 - 1) s9) fun _ s12 => dz_b (zob ζ s12 h 0) fun f14 => dz_b (zvr (f14[0]?)) fun x15 => dz_b (zob ζ s12 x15 14) fun f18 => zcl s12 (fnJ2_size K ζ x15 s12) fun x16 s17 => some (x16, s17)) else (some ((-1), s4)) : Option (Int32 × pH)) = some res := hf
  refine z_gen (fun cells slots hc0 hs0 => ?_)
  have hcs : s.heap.size + cells = τ.1 := by rw [hc0]; exact hcs
  have hss : sl0 + slots = τ.2.1 := by rw [hs0]; exact hss
  have hcM : cells ≤ M ∧ slots ≤ S := by rw [hc0, hs0]; exact ⟨Nat.zero_le _, Nat.zero_le _⟩
  clear hc0 hs0
  refine lv_aload_n hx hb dX0_drop_0 rfl (lv_at hl 0 rfl) ?_
  obtain ⟨f1, hf1, hf⟩ := dz_bo hf
  obtain ⟨x2, hx2, hf⟩ := dz_bo hf
  refine va_get (C := RX0) (T := TX0) (N := 7) hx hb hts in_X0 hown hX.K (zrd_P hX hS hH (zob_o hf1)) 0 rfl rfl 0 (by decide) (hts _ q156) (fun _ hq => hq) (zvr_o hx2) dX0_drop_1 ?_
  obtain ⟨f5, hf5, hf⟩ := dz_bo hf
  obtain ⟨x3, s4, hx3, hle, hck, hf⟩ := zcl_o hf
  have hc1 : cells + (s4.1 - τ.1) ≤ M := by omega
  have hs1 : slots + (s4.2.1 - τ.2.1) ≤ S := by omega
  refine va_calli (va_runV (As := []) (rest := []) ⟨hx, hb, hml, hown, hts⟩ (mtJ2_isEmpty l D cA ζ τ x2 K (x3, s4) hx3 (s4.1 - τ.1) (s4.2.1 - τ.2.1) (Nat.add_sub_cancel' hle.1) (Nat.add_sub_cancel' hle.2)) (cwV 0 hts (lw_V q1414 q1415 q1416 q87 q1417) rfl rfl rfl (by decide +kernel) ⟨Nat.le_of_ble_eq_true rfl, Nat.le_of_ble_eq_true rfl⟩) (z_preV hX hS hH (zob_o hf5) rfl) rfl rfl hl.1 rfl (lv_room (Nat.le_of_ble_eq_true rfl)) dX0_drop_4 ⟨hc1, hs1⟩) hS (fun q _ hq => hq) (fun q hq => hq) (fun r u t H1 locs ht hvm hw hB hz hk hS => ?_)
  obtain ⟨hw1, hw2⟩ := Prod.mk.inj hw.symm; subst hw1; subst hw2
  have hH : zH D cA ζ s4 H1 := z_at ht.symm hB
  have hcs : s.heap.size + (cells + (s4.1 - τ.1)) = s4.1 := by omega
  have hss : sl0 + (slots + (s4.2.1 - τ.2.1)) = s4.2.1 := by omega
  replace hcM := And.intro hc1 hs1
  generalize cells + (s4.1 - τ.1) = cells at hcs hcM ⊢; generalize slots + (s4.2.1 - τ.2.1) = slots at hss hcM ⊢
  clear hB hk hz hvm ht hle hck hc1 hs1; generalize H1 = H at hH hS ⊢
  refine lv_if_eq (tgt := 12) hx hb dX0_drop_7 (by decide) (fun c7 => ?_) (fun c7 => ?_)
  · have hf := dz_t c7 hf
    refine lv_aload_n hx hb dX0_drop_12 rfl (lv_at hl 0 rfl) ?_
    refine lv_aload_n hx hb dX0_drop_13 rfl (lv_at hl 0 rfl) ?_
    obtain ⟨f6, hf6, hf⟩ := dz_bo hf
    obtain ⟨x7, hx7, hf⟩ := dz_bo hf
    refine va_get (C := RX0) (T := TX0) (N := 7) hx hb hts in_X0 hown hX.K (zrd_P hX hS hH (zob_o hf6)) 0 rfl rfl 0 (by decide) (hts _ q156) (fun _ hq => hq) (zvr_o hx7) dX0_drop_14 ?_
    obtain ⟨f10, hf10, hf⟩ := dz_bo hf
    obtain ⟨x8, s9, hx8, hle, hck, hf⟩ := zcl_o hf
    have hc1 : cells + (s9.1 - s4.1) ≤ M := by omega
    have hs1 : slots + (s9.2.1 - s4.2.1) ≤ S := by omega
    refine va_calli (va_runV (As := []) (rest := [.ref h]) ⟨hx, hb, hml, hown, hts⟩ (mtJ2_size l D cA ζ s4 x7 K (x8, s9) hx8 (s9.1 - s4.1) (s9.2.1 - s4.2.1) (Nat.add_sub_cancel' hle.1) (Nat.add_sub_cancel' hle.2)) (cwV 0 hts (lw_V q200 q201 q202 q87 q203) rfl rfl rfl (by decide +kernel) ⟨Nat.le_of_ble_eq_true rfl, Nat.le_of_ble_eq_true rfl⟩) (z_preV hX hS hH (zob_o hf10) rfl) rfl rfl hl.1 rfl (lv_room (Nat.le_of_ble_eq_true rfl)) dX0_drop_17 ⟨hc1, hs1⟩) hS (fun q _ hq => hq) (fun q hq => hq) (fun r u t H1 locs ht hvm hw hB hz hk hS => ?_)
    obtain ⟨hw1, hw2⟩ := Prod.mk.inj hw.symm; subst hw1; subst hw2
    have hH : zH D cA ζ s9 H1 := z_at ht.symm hB
    have hcs : s.heap.size + (cells + (s9.1 - s4.1)) = s9.1 := by omega
    have hss : sl0 + (slots + (s9.2.1 - s4.2.1)) = s9.2.1 := by omega
    replace hcM := And.intro hc1 hs1
    generalize cells + (s9.1 - s4.1) = cells at hcs hcM ⊢; generalize slots + (s9.2.1 - s4.2.1) = slots at hss hcM ⊢
    clear hB hk hz hvm ht hle hck hc1 hs1; generalize H1 = H at hH hS ⊢
    refine lv_iconst (v := 1) hx hb dX0_drop_20 (by decide) ?_
    refine lv_isub hx hb dX0_drop_21 ?_
    obtain ⟨f13, hf13, hf⟩ := dz_bo hf
    obtain ⟨x11, s12, hx11, hle, hck, hf⟩ := zcl_o hf
    have hc1 : cells + (s12.1 - s9.1) ≤ M := by omega
    have hs1 : slots + (s12.2.1 - s9.2.1) ≤ S := by omega
    refine va_callv (va_runV (As := [.int (x8 - 1)]) (rest := []) ⟨hx, hb, hml, hown, hts⟩ (mtX0_goesBack l D cA ζ s9 h (x8 - 1) K (x11, s12) hx11 (s12.1 - s9.1) (s12.2.1 - s9.2.1) (Nat.add_sub_cancel' hle.1) (Nat.add_sub_cancel' hle.2)) (cwV 1 hts (lw_V q859 q861 qs11 q84 q862) rfl rfl rfl (by decide +kernel) ⟨Nat.le_of_ble_eq_true rfl, Nat.le_of_ble_eq_true rfl⟩) (z_preV hX hS hH (zob_o hf13) rfl) rfl rfl hl.1 rfl (lv_room (Nat.le_of_ble_eq_true rfl)) dX0_drop_22 ⟨hc1, hs1⟩) hS (fun q _ hq => hq) (fun q hq => hq) (fun u t H1 locs ht hvm hw hB hz hk hS => ?_)
    obtain ⟨-, hw2⟩ := Prod.mk.inj hw.symm; subst hw2
    have hH : zH D cA ζ s12 H1 := z_at ht.symm hB
    have hcs : s.heap.size + (cells + (s12.1 - s9.1)) = s12.1 := by omega
    have hss : sl0 + (slots + (s12.2.1 - s9.2.1)) = s12.2.1 := by omega
    replace hcM := And.intro hc1 hs1
    generalize cells + (s12.1 - s9.1) = cells at hcs hcM ⊢; generalize slots + (s12.2.1 - s9.2.1) = slots at hss hcM ⊢
    clear hB hk hz hvm ht hle hck hc1 hs1; generalize H1 = H at hH hS ⊢
    refine lv_aload_n hx hb dX0_drop_25 rfl (lv_at hl 0 rfl) ?_
    obtain ⟨f14, hf14, hf⟩ := dz_bo hf
    obtain ⟨x15, hx15, hf⟩ := dz_bo hf
    refine va_get (C := RX0) (T := TX0) (N := 7) hx hb hts in_X0 hown hX.K (zrd_P hX hS hH (zob_o hf14)) 0 rfl rfl 0 (by decide) (hts _ q156) (fun _ hq => hq) (zvr_o hx15) dX0_drop_26 ?_
    obtain ⟨f18, hf18, hf⟩ := dz_bo hf
    obtain ⟨x16, s17, hx16, hle, hck, hf⟩ := zcl_o hf
    have hc1 : cells + (s17.1 - s12.1) ≤ M := by omega
    have hs1 : slots + (s17.2.1 - s12.2.1) ≤ S := by omega
    refine va_calli (va_runV (As := []) (rest := []) ⟨hx, hb, hml, hown, hts⟩ (mtJ2_size l D cA ζ s12 x15 K (x16, s17) hx16 (s17.1 - s12.1) (s17.2.1 - s12.2.1) (Nat.add_sub_cancel' hle.1) (Nat.add_sub_cancel' hle.2)) (cwV 0 hts (lw_V q200 q201 q202 q87 q203) rfl rfl rfl (by decide +kernel) ⟨Nat.le_of_ble_eq_true rfl, Nat.le_of_ble_eq_true rfl⟩) (z_preV hX hS hH (zob_o hf18) rfl) rfl rfl hl.1 rfl (lv_room (Nat.le_of_ble_eq_true rfl)) dX0_drop_29 ⟨hc1, hs1⟩) hS (fun q _ hq => hq) (fun q hq => hq) (fun r u t H1 locs ht hvm hw hB hz hk hS => ?_)
    obtain ⟨hw1, hw2⟩ := Prod.mk.inj hw.symm; subst hw1; subst hw2
    have hH : zH D cA ζ s17 H1 := z_at ht.symm hB
    have hcs : s.heap.size + (cells + (s17.1 - s12.1)) = s17.1 := by omega
    have hss : sl0 + (slots + (s17.2.1 - s12.2.1)) = s17.2.1 := by omega
    replace hcM := And.intro hc1 hs1
    generalize cells + (s17.1 - s12.1) = cells at hcs hcM ⊢; generalize slots + (s17.2.1 - s12.2.1) = slots at hss hcM ⊢
    clear hB hk hz hvm ht hle hck hc1 hs1; generalize H1 = H at hH hS ⊢
    obtain ⟨hM1, hS1⟩ : cells = M ∧ slots = S := by have hq := congrArg Prod.snd (Option.some.inj hf); rw [← hq] at hM hS0; have hM : s.heap.size + M = s17.1 := hM; have hS0 : sl0 + S = s17.2.1 := hS0; omega
    refine W.widen (k := M) (n := S) (Nat.le_of_eq hM1) (Nat.le_of_eq hS1) ?_
    exact W.iret (v := x16) hx hb hr (fun t ht hW => ⟨⟨x16, s17, rfl, Option.some.inj hf, z_at ht hH⟩, hS.F ht⟩) hS.2.2 dX0_drop_32
  · have hf := dz_f c7 hf
    refine lv_iconst (v := (-1)) hx hb dX0_drop_10 (by decide) ?_
    obtain ⟨hM1, hS1⟩ : cells = M ∧ slots = S := by have hq := congrArg Prod.snd (Option.some.inj hf); rw [← hq] at hM hS0; have hM : s.heap.size + M = s4.1 := hM; have hS0 : sl0 + S = s4.2.1 := hS0; omega
    refine W.widen (k := M) (n := S) (Nat.le_of_eq hM1) (Nat.le_of_eq hS1) ?_
    exact W.iret (v := (-1)) hx hb hr (fun t ht hW => ⟨⟨(-1), s4, rfl, Option.some.inj hf, z_at ht hH⟩, hS.F ht⟩) hS.2.2 dX0_drop_11

noncomputable def fnX0_clear (K : Nat) (ζ : pZ) (h : Nat) (τ : pH) : Option (Int32 × pH) := dz_b (zob ζ τ h 0) fun f1 => dz_b (zvr (f1[0]?)) fun x2 => dz_b (zob ζ τ x2 14) fun f5 => zcl τ (fnJ2_size K ζ x2 τ) fun x3 s4 => dz_b (zob ζ s4 h 0) fun f8 => zcl s4 (fnX0_goesBack K ζ h 0 s4) fun _ s7 => some (x3, s7)
set_option maxHeartbeats 4000000 in
set_option maxRecDepth 100000 in
theorem mtX0_clear (l : Launch) (D : va_G) (cA : Nat → ClassId) (ζ : pZ) (τ : pH) (h : Nat) (K : Nat) (res : (Int32 × pH)) (hf : fnX0_clear K ζ h τ = some res) (M S : Nat) (hM : τ.1 + M = res.2.1) (hS0 : τ.2.1 + S = res.2.2.1) : Met l yX0_clear (ws_ yX0_clear cX0_clear 2 (some .int)) ({ frames := 4, cells := M, slots := S, locals := 127 }) (zPc D cA ζ τ [.ref h]) (zQi D cA ζ res) M S (zA ζ) := by
  refine Met.ofW (cc := cX0_clear) (maxL := 2) (ret := some .int) (by decide +kernel) rfl ?_
  intro p e s m args below meth c s₁ B hml hv
  obtain ⟨rfl, hX, hH⟩ := hv
  have hx := B.exec
  have hb := B.bytes
  have hr := B.returns
  have hts := atoms_spec (ws := ws_ yX0_clear cX0_clear 2 (some .int)) B.pre
  have hts : ∀ w ∈ lw_all, w.before _ s = true := fun w h => hts w (List.mem_cons_of_mem _ h)
  have hown : s.vm.findClass RX0 = some m.cls := findClass_of_methodNamed B.named
  have hlocks := B.notSynchronized
  have hM : s.heap.size + M = res.2.1 := by rw [hH.1]; exact hM
  have hcs : s.heap.size + 0 = τ.1 := hH.1
  have hss : τ.2.1 + 0 = τ.2.1 := rfl
  generalize hsl0 : τ.2.1 = sl0 at hS0 hss
  have hss : sl0 + 0 = τ.2.1 := by rw [hsl0]; rfl
  have hS : va_S (zA ζ) s.heap s.heap [] := va_S.rf
  generalize hHe : s.heap = H at hH hS ⊢
  have hS : va_S (zA ζ) s.heap H [] := by rw [hHe]; exact hS
  generalize ([] : List Loc) = locs at hS ⊢
  have hl := lv_entry ([.ref h]) (n := 2) (Nat.le_of_ble_eq_true rfl)
  rw [lg_entry_eq]
  generalize (lg_sl ([.ref h]) ++ List.replicate (2 - (lg_sl ([.ref h])).length) Slot.unset).toArray = ls at hl ⊢
  have hl : lv_has ls 2 [(0, .ref h)] := hl
  have hf : (dz_b (zob ζ τ h 0) fun f1 => dz_b (zvr (f1[0]?)) fun x2 => dz_b (zob ζ τ x2 14) fun f5 => zcl τ (fnJ2_size K ζ x2 τ) fun x3 s4 => dz_b (zob ζ s4 h 0) fun f8 => zcl s4 (fnX0_goesBack K ζ h 0 s4) fun _ s7 => some (x3, s7) : Option (Int32 × pH)) = some res := hf
  refine z_gen (fun cells slots hc0 hs0 => ?_)
  have hcs : s.heap.size + cells = τ.1 := by rw [hc0]; exact hcs
  have hss : sl0 + slots = τ.2.1 := by rw [hs0]; exact hss
  have hcM : cells ≤ M ∧ slots ≤ S := by rw [hc0, hs0]; exact ⟨Nat.zero_le _, Nat.zero_le _⟩
  clear hc0 hs0
  refine lv_aload_n hx hb dX0_clear_0 rfl (lv_at hl 0 rfl) ?_
  obtain ⟨f1, hf1, hf⟩ := dz_bo hf
  obtain ⟨x2, hx2, hf⟩ := dz_bo hf
  refine va_get (C := RX0) (T := TX0) (N := 7) hx hb hts in_X0 hown hX.K (zrd_P hX hS hH (zob_o hf1)) 0 rfl rfl 0 (by decide) (hts _ q156) (fun _ hq => hq) (zvr_o hx2) dX0_clear_1 ?_
  obtain ⟨f5, hf5, hf⟩ := dz_bo hf
  obtain ⟨x3, s4, hx3, hle, hck, hf⟩ := zcl_o hf
  have hc1 : cells + (s4.1 - τ.1) ≤ M := by omega
  have hs1 : slots + (s4.2.1 - τ.2.1) ≤ S := by omega
  refine va_calli (va_runV (As := []) (rest := []) ⟨hx, hb, hml, hown, hts⟩ (mtJ2_size l D cA ζ τ x2 K (x3, s4) hx3 (s4.1 - τ.1) (s4.2.1 - τ.2.1) (Nat.add_sub_cancel' hle.1) (Nat.add_sub_cancel' hle.2)) (cwV 0 hts (lw_V q200 q201 q202 q87 q203) rfl rfl rfl (by decide +kernel) ⟨Nat.le_of_ble_eq_true rfl, Nat.le_of_ble_eq_true rfl⟩) (z_preV hX hS hH (zob_o hf5) rfl) rfl rfl hl.1 rfl (lv_room (Nat.le_of_ble_eq_true rfl)) dX0_clear_4 ⟨hc1, hs1⟩) hS (fun q _ hq => hq) (fun q hq => hq) (fun r u t H1 locs ht hvm hw hB hz hk hS => ?_)
  obtain ⟨hw1, hw2⟩ := Prod.mk.inj hw.symm; subst hw1; subst hw2
  have hH : zH D cA ζ s4 H1 := z_at ht.symm hB
  have hcs : s.heap.size + (cells + (s4.1 - τ.1)) = s4.1 := by omega
  have hss : sl0 + (slots + (s4.2.1 - τ.2.1)) = s4.2.1 := by omega
  replace hcM := And.intro hc1 hs1
  generalize cells + (s4.1 - τ.1) = cells at hcs hcM ⊢; generalize slots + (s4.2.1 - τ.2.1) = slots at hss hcM ⊢
  clear hB hk hz hvm ht hle hck hc1 hs1; generalize H1 = H at hH hS ⊢
  refine lv_istore_n (lv' := [(1, .int x3), (0, .ref h)]) hx hb dX0_clear_7 rfl hl (by decide) rfl (fun ls hl => ?_)
  refine lv_aload_n hx hb dX0_clear_8 rfl (lv_at hl 1 rfl) ?_
  refine lv_iconst (v := 0) hx hb dX0_clear_9 (by decide) ?_
  obtain ⟨f8, hf8, hf⟩ := dz_bo hf
  obtain ⟨x6, s7, hx6, hle, hck, hf⟩ := zcl_o hf
  have hc1 : cells + (s7.1 - s4.1) ≤ M := by omega
  have hs1 : slots + (s7.2.1 - s4.2.1) ≤ S := by omega
  refine va_callv (va_runV (As := [.int 0]) (rest := []) ⟨hx, hb, hml, hown, hts⟩ (mtX0_goesBack l D cA ζ s4 h 0 K (x6, s7) hx6 (s7.1 - s4.1) (s7.2.1 - s4.2.1) (Nat.add_sub_cancel' hle.1) (Nat.add_sub_cancel' hle.2)) (cwV 1 hts (lw_V q859 q861 qs11 q84 q862) rfl rfl rfl (by decide +kernel) ⟨Nat.le_of_ble_eq_true rfl, Nat.le_of_ble_eq_true rfl⟩) (z_preV hX hS hH (zob_o hf8) rfl) rfl rfl hl.1 rfl (lv_room (Nat.le_of_ble_eq_true rfl)) dX0_clear_10 ⟨hc1, hs1⟩) hS (fun q _ hq => hq) (fun q hq => hq) (fun u t H1 locs ht hvm hw hB hz hk hS => ?_)
  obtain ⟨-, hw2⟩ := Prod.mk.inj hw.symm; subst hw2
  have hH : zH D cA ζ s7 H1 := z_at ht.symm hB
  have hcs : s.heap.size + (cells + (s7.1 - s4.1)) = s7.1 := by omega
  have hss : sl0 + (slots + (s7.2.1 - s4.2.1)) = s7.2.1 := by omega
  replace hcM := And.intro hc1 hs1
  generalize cells + (s7.1 - s4.1) = cells at hcs hcM ⊢; generalize slots + (s7.2.1 - s4.2.1) = slots at hss hcM ⊢
  clear hB hk hz hvm ht hle hck hc1 hs1; generalize H1 = H at hH hS ⊢
  refine lv_iload_n hx hb dX0_clear_13 rfl (lv_at hl 0 rfl) ?_
  obtain ⟨hM1, hS1⟩ : cells = M ∧ slots = S := by have hq := congrArg Prod.snd (Option.some.inj hf); rw [← hq] at hM hS0; have hM : s.heap.size + M = s7.1 := hM; have hS0 : sl0 + S = s7.2.1 := hS0; omega
  refine W.widen (k := M) (n := S) (Nat.le_of_eq hM1) (Nat.le_of_eq hS1) ?_
  exact W.iret (v := x3) hx hb hr (fun t ht hW => ⟨⟨x3, s7, rfl, Option.some.inj hf, z_at ht hH⟩, hS.F ht⟩) hS.2.2 dX0_clear_14

noncomputable def fnX0_line (K : Nat) (ζ : pZ) (h : Nat) (a0 : Int32) (a1 : Int32) (τ : pH) : Option (Int32 × pH) := dz_b (zob ζ τ h 0) fun f3 => zcl τ (fnX0_isLine K ζ h a0 τ) fun x1 s2 => if x1 = (0 : Int32) then (some ((-1), s2)) else (dz_b (zob ζ s2 h 0) fun f4 => dz_b (zvr (f4[0]?)) fun x5 => dz_b (zob ζ s2 x5 14) fun f8 => zcl s2 (fnJ2_get K ζ x5 a0 s2) fun x6 s7 => dz_c (zoL ζ s7 x6) fun cf9 f9 => if a1 = (0 : Int32) then (dz_c (zoL ζ s7 x6) fun cf10 f10 => dz_b (zvl (f10[0]?)) fun x11 => dz_l (Int64.toInt32 x11) fun x12 => some (x12, s7)) else (if a1 = (1 : Int32) then (dz_c (zoL ζ s7 x6) fun cf13 f13 => dz_b (zvi (f13[1]?)) fun x14 => some (x14, s7)) else (if a1 = (2 : Int32) then (dz_c (zoL ζ s7 x6) fun cf15 f15 => dz_b (zvi (f15[2]?)) fun x16 => some (x16, s7)) else (if a1 = (3 : Int32) then (dz_c (zoL ζ s7 x6) fun cf17 f17 => dz_b (zvi (f17[3]?)) fun x18 => some (x18, s7)) else (if a1 = (4 : Int32) then (dz_c (zoL ζ s7 x6) fun cf19 f19 => dz_b (zvr (f19[4]?)) fun x20 => dz_b (zob ζ s7 x20 10) fun f21 => dz_b (zvi (f21[1]?)) fun x22 => some (x22, s7)) else (if a1 = (5 : Int32) then (dz_c (zoL ζ s7 x6) fun cf23 f23 => dz_b (zvr (f23[5]?)) fun x24 => dz_b (zob ζ s7 x24 10) fun f25 => dz_b (zvi (f25[1]?)) fun x26 => some (x26, s7)) else (if a1 = (6 : Int32) then (dz_b (zob ζ s7 h 0) fun f29 => zcl s7 (fnX0_isRight K ζ h a0 s7) fun x27 s28 => if x27 = (0 : Int32) then (dz_b (zob ζ s28 h 0) fun f30 => dz_b (zvr (f30[1]?)) fun x31 => dz_c (zai ζ s28 x31 3) fun n32 f33 => if ¬ (a0 < 0 ∨ n32 ≤ Int32.toNatClampNeg a0) then (dz_l (f33 (Int32.toNatClampNeg a0)) fun x35 => some (x35, s28)) else none) else (some (0, s28))) else (some ((-1), s7)))))))))
set_option maxHeartbeats 4000000 in
set_option maxRecDepth 100000 in
theorem mtX0_line (l : Launch) (D : va_G) (cA : Nat → ClassId) (ζ : pZ) (τ : pH) (h : Nat) (a0 : Int32) (a1 : Int32) (K : Nat) (res : (Int32 × pH)) (hf : fnX0_line K ζ h a0 a1 τ = some res) (M S : Nat) (hM : τ.1 + M = res.2.1) (hS0 : τ.2.1 + S = res.2.2.1) : Met l yX0_line (ws_ yX0_line cX0_line 4 (some .int)) ({ frames := 104, cells := M, slots := S, locals := 2395 }) (zPc D cA ζ τ [.ref h, .int a0, .int a1]) (zQi D cA ζ res) M S (zA ζ) := by
  refine Met.ofW (cc := cX0_line) (maxL := 4) (ret := some .int) (by decide +kernel) rfl ?_
  intro p e s m args below meth c s₁ B hml hv
  obtain ⟨rfl, hX, hH⟩ := hv
  have hx := B.exec
  have hb := B.bytes
  have hr := B.returns
  have hts := atoms_spec (ws := ws_ yX0_line cX0_line 4 (some .int)) B.pre
  have hts : ∀ w ∈ lw_all, w.before _ s = true := fun w h => hts w (List.mem_cons_of_mem _ h)
  have hown : s.vm.findClass RX0 = some m.cls := findClass_of_methodNamed B.named
  have hlocks := B.notSynchronized
  have hM : s.heap.size + M = res.2.1 := by rw [hH.1]; exact hM
  have hcs : s.heap.size + 0 = τ.1 := hH.1
  have hss : τ.2.1 + 0 = τ.2.1 := rfl
  generalize hsl0 : τ.2.1 = sl0 at hS0 hss
  have hss : sl0 + 0 = τ.2.1 := by rw [hsl0]; rfl
  have hS : va_S (zA ζ) s.heap s.heap [] := va_S.rf
  generalize hHe : s.heap = H at hH hS ⊢
  have hS : va_S (zA ζ) s.heap H [] := by rw [hHe]; exact hS
  generalize ([] : List Loc) = locs at hS ⊢
  have hl := lv_entry ([.ref h, .int a0, .int a1]) (n := 4) (Nat.le_of_ble_eq_true rfl)
  rw [lg_entry_eq]
  generalize (lg_sl ([.ref h, .int a0, .int a1]) ++ List.replicate (4 - (lg_sl ([.ref h, .int a0, .int a1])).length) Slot.unset).toArray = ls at hl ⊢
  have hl : lv_has ls 4 [(0, .ref h), (1, .int a0), (2, .int a1)] := hl
  have hf : (dz_b (zob ζ τ h 0) fun f3 => zcl τ (fnX0_isLine K ζ h a0 τ) fun x1 s2 => if x1 = (0 : Int32) then (some ((-1), s2)) else (dz_b (zob ζ s2 h 0) fun f4 => dz_b (zvr (f4[0]?)) fun x5 => dz_b (zob ζ s2 x5 14) fun f8 => zcl s2 (fnJ2_get K ζ x5 a0 s2) fun x6 s7 => dz_c (zoL ζ s7 x6) fun cf9 f9 => if a1 = (0 : Int32) then (dz_c (zoL ζ s7 x6) fun cf10 f10 => dz_b (zvl (f10[0]?)) fun x11 => dz_l (Int64.toInt32 x11) fun x12 => some (x12, s7)) else (if a1 = (1 : Int32) then (dz_c (zoL ζ s7 x6) fun cf13 f13 => dz_b (zvi (f13[1]?)) fun x14 => some (x14, s7)) else (if a1 = (2 : Int32) then (dz_c (zoL ζ s7 x6) fun cf15 f15 => dz_b (zvi (f15[2]?)) fun x16 => some (x16, s7)) else (if a1 = (3 : Int32) then (dz_c (zoL ζ s7 x6) fun cf17 f17 => dz_b (zvi (f17[3]?)) fun x18 => some (x18, s7)) else (if a1 = (4 : Int32) then (dz_c (zoL ζ s7 x6) fun cf19 f19 => dz_b (zvr (f19[4]?)) fun x20 => dz_b (zob ζ s7 x20 10) fun f21 => dz_b (zvi (f21[1]?)) fun x22 => some (x22, s7)) else (if a1 = (5 : Int32) then (dz_c (zoL ζ s7 x6) fun cf23 f23 => dz_b (zvr (f23[5]?)) fun x24 => dz_b (zob ζ s7 x24 10) fun f25 => dz_b (zvi (f25[1]?)) fun x26 => some (x26, s7)) else (if a1 = (6 : Int32) then (dz_b (zob ζ s7 h 0) fun f29 => zcl s7 (fnX0_isRight K ζ h a0 s7) fun x27 s28 => if x27 = (0 : Int32) then (dz_b (zob ζ s28 h 0) fun f30 => dz_b (zvr (f30[1]?)) fun x31 => dz_c (zai ζ s28 x31 3) fun n32 f33 => if ¬ (a0 < 0 ∨ n32 ≤ Int32.toNatClampNeg a0) then (dz_l (f33 (Int32.toNatClampNeg a0)) fun x35 => some (x35, s28)) else none) else (some (0, s28))) else (some ((-1), s7))))))))) : Option (Int32 × pH)) = some res := hf
  refine z_gen (fun cells slots hc0 hs0 => ?_)
  have hcs : s.heap.size + cells = τ.1 := by rw [hc0]; exact hcs
  have hss : sl0 + slots = τ.2.1 := by rw [hs0]; exact hss
  have hcM : cells ≤ M ∧ slots ≤ S := by rw [hc0, hs0]; exact ⟨Nat.zero_le _, Nat.zero_le _⟩
  clear hc0 hs0
  refine lv_aload_n hx hb dX0_line_0 rfl (lv_at hl 0 rfl) ?_
  refine lv_iload_n hx hb dX0_line_1 rfl (lv_at hl 1 rfl) ?_
  obtain ⟨f3, hf3, hf⟩ := dz_bo hf
  obtain ⟨x1, s2, hx1, hle, hck, hf⟩ := zcl_o hf
  have hc1 : cells + (s2.1 - τ.1) ≤ M := by omega
  have hs1 : slots + (s2.2.1 - τ.2.1) ≤ S := by omega
  refine va_calli (va_runV (As := [.int a0]) (rest := []) ⟨hx, hb, hml, hown, hts⟩ (mtX0_isLine l D cA ζ τ h a0 K (x1, s2) hx1 (s2.1 - τ.1) (s2.2.1 - τ.2.1) (Nat.add_sub_cancel' hle.1) (Nat.add_sub_cancel' hle.2)) (cwV 1 hts (lw_V q1349 q1351 qs28 q84 q1352) rfl rfl rfl (by decide +kernel) ⟨Nat.le_of_ble_eq_true rfl, Nat.le_of_ble_eq_true rfl⟩) (z_preV hX hS hH (zob_o hf3) rfl) rfl rfl hl.1 rfl (lv_room (Nat.le_of_ble_eq_true rfl)) dX0_line_2 ⟨hc1, hs1⟩) hS (fun q _ hq => hq) (fun q hq => hq) (fun r u t H1 locs ht hvm hw hB hz hk hS => ?_)
  obtain ⟨hw1, hw2⟩ := Prod.mk.inj hw.symm; subst hw1; subst hw2
  have hH : zH D cA ζ s2 H1 := z_at ht.symm hB
  have hcs : s.heap.size + (cells + (s2.1 - τ.1)) = s2.1 := by omega
  have hss : sl0 + (slots + (s2.2.1 - τ.2.1)) = s2.2.1 := by omega
  replace hcM := And.intro hc1 hs1
  generalize cells + (s2.1 - τ.1) = cells at hcs hcM ⊢; generalize slots + (s2.2.1 - τ.2.1) = slots at hss hcM ⊢
  clear hB hk hz hvm ht hle hck hc1 hs1; generalize H1 = H at hH hS ⊢
  refine lv_if_ne (tgt := 10) hx hb dX0_line_5 (by decide) (fun c5 => ?_) (fun c5 => ?_)
  · have hf := dz_f c5 hf
    refine lv_aload_n hx hb dX0_line_10 rfl (lv_at hl 0 rfl) ?_
    obtain ⟨f4, hf4, hf⟩ := dz_bo hf
    obtain ⟨x5, hx5, hf⟩ := dz_bo hf
    refine va_get (C := RX0) (T := TX0) (N := 7) hx hb hts in_X0 hown hX.K (zrd_P hX hS hH (zob_o hf4)) 0 rfl rfl 0 (by decide) (hts _ q156) (fun _ hq => hq) (zvr_o hx5) dX0_line_11 ?_
    refine lv_iload_n hx hb dX0_line_14 rfl (lv_at hl 1 rfl) ?_
    obtain ⟨f8, hf8, hf⟩ := dz_bo hf
    obtain ⟨x6, s7, hx6, hle, hck, hf⟩ := zcl_o hf
    have hc1 : cells + (s7.1 - s2.1) ≤ M := by omega
    have hs1 : slots + (s7.2.1 - s2.2.1) ≤ S := by omega
    refine va_callr (va_runV (As := [.int a0]) (rest := []) ⟨hx, hb, hml, hown, hts⟩ (mtJ2_get l D cA ζ s2 x5 a0 K (x6, s7) hx6 (s7.1 - s2.1) (s7.2.1 - s2.2.1) (Nat.add_sub_cancel' hle.1) (Nat.add_sub_cancel' hle.2)) (cwV 1 hts (lw_V q204 q205 q206 q87 q207) rfl rfl rfl (by decide +kernel) ⟨Nat.le_of_ble_eq_true rfl, Nat.le_of_ble_eq_true rfl⟩) (z_preV hX hS hH (zob_o hf8) rfl) rfl rfl hl.1 rfl (lv_room (Nat.le_of_ble_eq_true rfl)) dX0_line_15 ⟨hc1, hs1⟩) hS (fun q _ hq => hq) (fun q hq => hq) (fun u r t H1 locs ht hvm hw hB hz hk hS => ?_)
    obtain ⟨hw, hB⟩ := hB
    obtain ⟨hw1, hw2⟩ := Prod.mk.inj hw.symm; subst hw1; subst hw2
    have hH : zH D cA ζ s7 H1 := z_at ht.symm hB
    have hcs : s.heap.size + (cells + (s7.1 - s2.1)) = s7.1 := by omega
    have hss : sl0 + (slots + (s7.2.1 - s2.2.1)) = s7.2.1 := by omega
    replace hcM := And.intro hc1 hs1
    generalize cells + (s7.1 - s2.1) = cells at hcs hcM ⊢; generalize slots + (s7.2.1 - s2.2.1) = slots at hss hcM ⊢
    clear hB hk hz hvm ht hle hck hc1 hs1; generalize H1 = H at hH hS ⊢
    obtain ⟨cf9, f9, hcf9, hf⟩ := dz_co hf
    obtain ⟨hr_f9, hc_f9⟩ := zoL_o hcf9
    refine zL_cast hx hb hown (hts _ q218) hX hS hH hr_f9 hc_f9 dX0_line_18 ?_
    refine lv_astore_n (lv' := [(3, .ref x6), (0, .ref h), (1, .int a0), (2, .int a1)]) hx hb dX0_line_21 rfl hl (by decide) rfl (fun ls hl => ?_)
    refine lv_iload_n hx hb dX0_line_22 rfl (lv_at hl 3 rfl) ?_
    refine dz_case hf (fun t23_0 hf => ?_) (fun t23_0 hf => ?_)
    · refine lv_tableIn (off := 41) (tgt := 64) hx hb dX0_line_23 (by rw [t23_0]; decide) (by rw [t23_0]; decide) (by rw [t23_0]; rfl) (by decide) ?_
      refine lv_aload_n hx hb dX0_line_64 rfl (lv_at hl 0 rfl) ?_
      obtain ⟨cf10, f10, hcf10, hf⟩ := dz_co hf
      obtain ⟨x11, hx11, hf⟩ := dz_bo hf
      obtain ⟨hr_f10, hc_f10⟩ := zoL_o hcf10
      refine zL_get0 hx hb hts hown hX hS hH hr_f10 hc_f10 (hts _ q541) (zvl_o hx11) dX0_line_65 ?_
      refine lv_l2i hx hb dX0_line_68 (rfl : _ = Int64.toInt32 x11) ?_
      refine lv_topi (fun x12 e_x12 => ?_)
      have hf := dz_ls e_x12 hf
      obtain ⟨hM1, hS1⟩ : cells = M ∧ slots = S := by have hq := congrArg Prod.snd (Option.some.inj hf); rw [← hq] at hM hS0; have hM : s.heap.size + M = s7.1 := hM; have hS0 : sl0 + S = s7.2.1 := hS0; omega
      refine W.widen (k := M) (n := S) (Nat.le_of_eq hM1) (Nat.le_of_eq hS1) ?_
      exact W.iret (v := x12) hx hb hr (fun t ht hW => ⟨⟨x12, s7, rfl, Option.some.inj hf, z_at ht hH⟩, hS.F ht⟩) hS.2.2 dX0_line_69
    · skip
      refine dz_case hf (fun t23_1 hf => ?_) (fun t23_1 hf => ?_)
      · refine lv_tableIn (off := 47) (tgt := 70) hx hb dX0_line_23 (by rw [t23_1]; decide) (by rw [t23_1]; decide) (by rw [t23_1]; rfl) (by decide) ?_
        refine lv_aload_n hx hb dX0_line_70 rfl (lv_at hl 0 rfl) ?_
        obtain ⟨cf13, f13, hcf13, hf⟩ := dz_co hf
        obtain ⟨x14, hx14, hf⟩ := dz_bo hf
        obtain ⟨hr_f13, hc_f13⟩ := zoL_o hcf13
        refine zL_get1 hx hb hts hown hX hS hH hr_f13 hc_f13 (hts _ q543) (zvi_o hx14) dX0_line_71 ?_
        obtain ⟨hM1, hS1⟩ : cells = M ∧ slots = S := by have hq := congrArg Prod.snd (Option.some.inj hf); rw [← hq] at hM hS0; have hM : s.heap.size + M = s7.1 := hM; have hS0 : sl0 + S = s7.2.1 := hS0; omega
        refine W.widen (k := M) (n := S) (Nat.le_of_eq hM1) (Nat.le_of_eq hS1) ?_
        exact W.iret (v := x14) hx hb hr (fun t ht hW => ⟨⟨x14, s7, rfl, Option.some.inj hf, z_at ht hH⟩, hS.F ht⟩) hS.2.2 dX0_line_74
      · skip
        refine dz_case hf (fun t23_2 hf => ?_) (fun t23_2 hf => ?_)
        · refine lv_tableIn (off := 52) (tgt := 75) hx hb dX0_line_23 (by rw [t23_2]; decide) (by rw [t23_2]; decide) (by rw [t23_2]; rfl) (by decide) ?_
          refine lv_aload_n hx hb dX0_line_75 rfl (lv_at hl 0 rfl) ?_
          obtain ⟨cf15, f15, hcf15, hf⟩ := dz_co hf
          obtain ⟨x16, hx16, hf⟩ := dz_bo hf
          obtain ⟨hr_f15, hc_f15⟩ := zoL_o hcf15
          refine zL_get2 hx hb hts hown hX hS hH hr_f15 hc_f15 (hts _ q546) (zvi_o hx16) dX0_line_76 ?_
          obtain ⟨hM1, hS1⟩ : cells = M ∧ slots = S := by have hq := congrArg Prod.snd (Option.some.inj hf); rw [← hq] at hM hS0; have hM : s.heap.size + M = s7.1 := hM; have hS0 : sl0 + S = s7.2.1 := hS0; omega
          refine W.widen (k := M) (n := S) (Nat.le_of_eq hM1) (Nat.le_of_eq hS1) ?_
          exact W.iret (v := x16) hx hb hr (fun t ht hW => ⟨⟨x16, s7, rfl, Option.some.inj hf, z_at ht hH⟩, hS.F ht⟩) hS.2.2 dX0_line_79
        · skip
          refine dz_case hf (fun t23_3 hf => ?_) (fun t23_3 hf => ?_)
          · refine lv_tableIn (off := 57) (tgt := 80) hx hb dX0_line_23 (by rw [t23_3]; decide) (by rw [t23_3]; decide) (by rw [t23_3]; rfl) (by decide) ?_
            refine lv_aload_n hx hb dX0_line_80 rfl (lv_at hl 0 rfl) ?_
            obtain ⟨cf17, f17, hcf17, hf⟩ := dz_co hf
            obtain ⟨x18, hx18, hf⟩ := dz_bo hf
            obtain ⟨hr_f17, hc_f17⟩ := zoL_o hcf17
            refine zL_get3 hx hb hts hown hX hS hH hr_f17 hc_f17 (hts _ q549) (zvi_o hx18) dX0_line_81 ?_
            obtain ⟨hM1, hS1⟩ : cells = M ∧ slots = S := by have hq := congrArg Prod.snd (Option.some.inj hf); rw [← hq] at hM hS0; have hM : s.heap.size + M = s7.1 := hM; have hS0 : sl0 + S = s7.2.1 := hS0; omega
            refine W.widen (k := M) (n := S) (Nat.le_of_eq hM1) (Nat.le_of_eq hS1) ?_
            exact W.iret (v := x18) hx hb hr (fun t ht hW => ⟨⟨x18, s7, rfl, Option.some.inj hf, z_at ht hH⟩, hS.F ht⟩) hS.2.2 dX0_line_84
          · skip
            refine dz_case hf (fun t23_4 hf => ?_) (fun t23_4 hf => ?_)
            · refine lv_tableIn (off := 62) (tgt := 85) hx hb dX0_line_23 (by rw [t23_4]; decide) (by rw [t23_4]; decide) (by rw [t23_4]; rfl) (by decide) ?_
              refine lv_aload_n hx hb dX0_line_85 rfl (lv_at hl 0 rfl) ?_
              obtain ⟨cf19, f19, hcf19, hf⟩ := dz_co hf
              obtain ⟨x20, hx20, hf⟩ := dz_bo hf
              obtain ⟨hr_f19, hc_f19⟩ := zoL_o hcf19
              refine zL_get4 hx hb hts hown hX hS hH hr_f19 hc_f19 (hts _ q558) (zvr_o hx20) dX0_line_86 ?_
              obtain ⟨f21, hf21, hf⟩ := dz_bo hf
              obtain ⟨x22, hx22, hf⟩ := dz_bo hf
              refine va_getN (C := RX8) (T := TX8) (N := 2) hx hb hts in_X8 hown hX.K (zrd_P hX hS hH (zob_o hf21)) 0 rfl rfl 1 (by decide) ((hX.N q525 rfl).use rfl) (fun _ hq => hq) (zvi_o hx22) dX0_line_89 ?_
              obtain ⟨hM1, hS1⟩ : cells = M ∧ slots = S := by have hq := congrArg Prod.snd (Option.some.inj hf); rw [← hq] at hM hS0; have hM : s.heap.size + M = s7.1 := hM; have hS0 : sl0 + S = s7.2.1 := hS0; omega
              refine W.widen (k := M) (n := S) (Nat.le_of_eq hM1) (Nat.le_of_eq hS1) ?_
              exact W.iret (v := x22) hx hb hr (fun t ht hW => ⟨⟨x22, s7, rfl, Option.some.inj hf, z_at ht hH⟩, hS.F ht⟩) hS.2.2 dX0_line_92
            · skip
              refine dz_case hf (fun t23_5 hf => ?_) (fun t23_5 hf => ?_)
              · refine lv_tableIn (off := 70) (tgt := 93) hx hb dX0_line_23 (by rw [t23_5]; decide) (by rw [t23_5]; decide) (by rw [t23_5]; rfl) (by decide) ?_
                refine lv_aload_n hx hb dX0_line_93 rfl (lv_at hl 0 rfl) ?_
                obtain ⟨cf23, f23, hcf23, hf⟩ := dz_co hf
                obtain ⟨x24, hx24, hf⟩ := dz_bo hf
                obtain ⟨hr_f23, hc_f23⟩ := zoL_o hcf23
                refine zL_get5 hx hb hts hown hX hS hH hr_f23 hc_f23 (hts _ q565) (zvr_o hx24) dX0_line_94 ?_
                obtain ⟨f25, hf25, hf⟩ := dz_bo hf
                obtain ⟨x26, hx26, hf⟩ := dz_bo hf
                refine va_getN (C := RX8) (T := TX8) (N := 2) hx hb hts in_X8 hown hX.K (zrd_P hX hS hH (zob_o hf25)) 0 rfl rfl 1 (by decide) ((hX.N q525 rfl).use rfl) (fun _ hq => hq) (zvi_o hx26) dX0_line_97 ?_
                obtain ⟨hM1, hS1⟩ : cells = M ∧ slots = S := by have hq := congrArg Prod.snd (Option.some.inj hf); rw [← hq] at hM hS0; have hM : s.heap.size + M = s7.1 := hM; have hS0 : sl0 + S = s7.2.1 := hS0; omega
                refine W.widen (k := M) (n := S) (Nat.le_of_eq hM1) (Nat.le_of_eq hS1) ?_
                exact W.iret (v := x26) hx hb hr (fun t ht hW => ⟨⟨x26, s7, rfl, Option.some.inj hf, z_at ht hH⟩, hS.F ht⟩) hS.2.2 dX0_line_100
              · skip
                refine dz_case hf (fun t23_6 hf => ?_) (fun t23_6 hf => ?_)
                · refine lv_tableIn (off := 78) (tgt := 101) hx hb dX0_line_23 (by rw [t23_6]; decide) (by rw [t23_6]; decide) (by rw [t23_6]; rfl) (by decide) ?_
                  refine lv_aload_n hx hb dX0_line_101 rfl (lv_at hl 1 rfl) ?_
                  refine lv_iload_n hx hb dX0_line_102 rfl (lv_at hl 2 rfl) ?_
                  obtain ⟨f29, hf29, hf⟩ := dz_bo hf
                  obtain ⟨x27, s28, hx27, hle, hck, hf⟩ := zcl_o hf
                  have hc1 : cells + (s28.1 - s7.1) ≤ M := by omega
                  have hs1 : slots + (s28.2.1 - s7.2.1) ≤ S := by omega
                  refine va_calli (va_runV (As := [.int a0]) (rest := []) ⟨hx, hb, hml, hown, hts⟩ (mtX0_isRight l D cA ζ s7 h a0 K (x27, s28) hx27 (s28.1 - s7.1) (s28.2.1 - s7.2.1) (Nat.add_sub_cancel' hle.1) (Nat.add_sub_cancel' hle.2)) (cwV 1 hts (lw_V q219 q221 qs1 q84 q222) rfl rfl rfl (by decide +kernel) ⟨Nat.le_of_ble_eq_true rfl, Nat.le_of_ble_eq_true rfl⟩) (z_preV hX hS hH (zob_o hf29) rfl) rfl rfl hl.1 rfl (lv_room (Nat.le_of_ble_eq_true rfl)) dX0_line_103 ⟨hc1, hs1⟩) hS (fun q _ hq => hq) (fun q hq => hq) (fun r u t H1 locs ht hvm hw hB hz hk hS => ?_)
                  obtain ⟨hw1, hw2⟩ := Prod.mk.inj hw.symm; subst hw1; subst hw2
                  have hH : zH D cA ζ s28 H1 := z_at ht.symm hB
                  have hcs : s.heap.size + (cells + (s28.1 - s7.1)) = s28.1 := by omega
                  have hss : sl0 + (slots + (s28.2.1 - s7.2.1)) = s28.2.1 := by omega
                  replace hcM := And.intro hc1 hs1
                  generalize cells + (s28.1 - s7.1) = cells at hcs hcM ⊢; generalize slots + (s28.2.1 - s7.2.1) = slots at hss hcM ⊢
                  clear hB hk hz hvm ht hle hck hc1 hs1; generalize H1 = H at hH hS ⊢
                  refine lv_if_eq (tgt := 113) hx hb dX0_line_106 (by decide) (fun c106 => ?_) (fun c106 => ?_)
                  · have hf := dz_t c106 hf
                    refine lv_aload_n hx hb dX0_line_113 rfl (lv_at hl 1 rfl) ?_
                    obtain ⟨f30, hf30, hf⟩ := dz_bo hf
                    obtain ⟨x31, hx31, hf⟩ := dz_bo hf
                    refine va_get (C := RX0) (T := TX0) (N := 7) hx hb hts in_X0 hown hX.K (zrd_P hX hS hH (zob_o hf30)) 0 rfl rfl 1 (by decide) (hts _ q157) (fun _ hq => hq) (zvr_o hx31) dX0_line_114 ?_
                    refine lv_iload_n hx hb dX0_line_117 rfl (lv_at hl 2 rfl) ?_
                    obtain ⟨n32, f33, hn32, hf⟩ := dz_co hf
                    obtain ⟨g34, hf⟩ := dz_go hf
                    refine va_bald hx hb hX.K (zrd_P hX hS hH (zai_o hn32)) 0 3 rfl rfl g34 dX0_line_118 ?_
                    refine lv_topi (fun x35 e_x35 => ?_)
                    have hf := dz_ls e_x35 hf
                    obtain ⟨hM1, hS1⟩ : cells = M ∧ slots = S := by have hq := congrArg Prod.snd (Option.some.inj hf); rw [← hq] at hM hS0; have hM : s.heap.size + M = s28.1 := hM; have hS0 : sl0 + S = s28.2.1 := hS0; omega
                    refine W.widen (k := M) (n := S) (Nat.le_of_eq hM1) (Nat.le_of_eq hS1) ?_
                    exact W.iret (v := x35) hx hb hr (fun t ht hW => ⟨⟨x35, s28, rfl, Option.some.inj hf, z_at ht hH⟩, hS.F ht⟩) hS.2.2 dX0_line_119
                  · have hf := dz_f c106 hf
                    refine lv_iconst (v := 0) hx hb dX0_line_109 (by decide) ?_
                    refine lv_goto (tgt := 119) hx hb dX0_line_110 (by decide) ?_
                    obtain ⟨hM1, hS1⟩ : cells = M ∧ slots = S := by have hq := congrArg Prod.snd (Option.some.inj hf); rw [← hq] at hM hS0; have hM : s.heap.size + M = s28.1 := hM; have hS0 : sl0 + S = s28.2.1 := hS0; omega
                    refine W.widen (k := M) (n := S) (Nat.le_of_eq hM1) (Nat.le_of_eq hS1) ?_
                    exact W.iret (v := 0) hx hb hr (fun t ht hW => ⟨⟨0, s28, rfl, Option.some.inj hf, z_at ht hH⟩, hS.F ht⟩) hS.2.2 dX0_line_119
                · skip
                  have u23_0 := dz_ne (z := 0) t23_0 (by decide)
                  have u23_1 := dz_ne (z := 1) t23_1 (by decide)
                  have u23_2 := dz_ne (z := 2) t23_2 (by decide)
                  have u23_3 := dz_ne (z := 3) t23_3 (by decide)
                  have u23_4 := dz_ne (z := 4) t23_4 (by decide)
                  have u23_5 := dz_ne (z := 5) t23_5 (by decide)
                  have u23_6 := dz_ne (z := 6) t23_6 (by decide)
                  refine lv_tableOut (tgt := 120) hx hb dX0_line_23 (by omega) (by decide) ?_
                  refine lv_iconst (v := (-1)) hx hb dX0_line_120 (by decide) ?_
                  obtain ⟨hM1, hS1⟩ : cells = M ∧ slots = S := by have hq := congrArg Prod.snd (Option.some.inj hf); rw [← hq] at hM hS0; have hM : s.heap.size + M = s7.1 := hM; have hS0 : sl0 + S = s7.2.1 := hS0; omega
                  refine W.widen (k := M) (n := S) (Nat.le_of_eq hM1) (Nat.le_of_eq hS1) ?_
                  exact W.iret (v := (-1)) hx hb hr (fun t ht hW => ⟨⟨(-1), s7, rfl, Option.some.inj hf, z_at ht hH⟩, hS.F ht⟩) hS.2.2 dX0_line_121
  · have hf := dz_t c5 hf
    refine lv_iconst (v := (-1)) hx hb dX0_line_8 (by decide) ?_
    obtain ⟨hM1, hS1⟩ : cells = M ∧ slots = S := by have hq := congrArg Prod.snd (Option.some.inj hf); rw [← hq] at hM hS0; have hM : s.heap.size + M = s2.1 := hM; have hS0 : sl0 + S = s2.2.1 := hS0; omega
    refine W.widen (k := M) (n := S) (Nat.le_of_eq hM1) (Nat.le_of_eq hS1) ?_
    exact W.iret (v := (-1)) hx hb hr (fun t ht hW => ⟨⟨(-1), s2, rfl, Option.some.inj hf, z_at ht hH⟩, hS.F ht⟩) hS.2.2 dX0_line_9

