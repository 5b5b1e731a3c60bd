noncomputable def lfX0_isRight (K : Nat) (ζ : pZ) : Nat → (Nat → Int32 → pH → Option (Int32 × pH)) := Nat.rec (motive := fun _ => (Nat → Int32 → pH → Option (Int32 × pH))) (fun _ _ _ => none) (fun _ G => (fun v0 v1 τ => dz_b (zob ζ τ v0 0) fun f1 => dz_b (zvi (f1[2]?)) fun x2 => if v1 < x2 then (dz_b (zob ζ τ v0 0) fun f3 => dz_b (zvr (f3[1]?)) fun x4 => dz_c (zai ζ τ x4 3) fun n5 f6 => if ¬ (v1 < 0 ∨ n5 ≤ Int32.toNatClampNeg v1) then (dz_l (f6 (Int32.toNatClampNeg v1)) fun x8 => if x8 = (0 : Int32) then (some (1, τ)) else (some (0, τ))) else none) else (dz_b (zob ζ τ v0 0) fun f9 => dz_b (zvr (f9[1]?)) fun x10 => dz_b (zob ζ τ v0 0) fun f11 => dz_b (zvi (f11[2]?)) fun x12 => dz_b (zob ζ τ v0 0) fun f13 => dz_b (zvr (f13[0]?)) fun x14 => dz_b (zob ζ τ v0 0) fun f15 => dz_b (zvi (f15[2]?)) fun x16 => dz_b (zob ζ τ x14 14) fun f19 => zcl τ (fnJ2_get K ζ x14 x16 τ) fun x17 s18 => dz_c (zoL ζ s18 x17) fun cf20 f20 => dz_b (zob ζ s18 v0 0) fun f21 => dz_b (zvi (f21[2]?)) fun x22 => zcl s18 (fnL_fault K ζ x17 x22 s18) fun x23 s24 => dz_l (Int8.toInt32 (Int32.toInt8 x23)) fun x25 => if ζ.1 ≤ x10 ∧ x10 < s24.1 then (dz_c (zai ζ s24 x10 3) fun n26 f27 => if ¬ (x12 < 0 ∨ n26 ≤ Int32.toNatClampNeg x12) then (dz_l (zst s24 x10 (.inl (3, n26, .inl (upd f27 (Int32.toNatClampNeg x12) (vp_nar .byte x25))))) fun s28 => dz_b (zob ζ s28 v0 0) fun f31 => dz_b (zvi (f31[2]?)) fun x32 => dz_l (x32 + 1) fun x33 => dz_b (zwo ζ s28 v0 0 2) fun f34 => dz_l (zst s28 v0 (.inr (0, f34.set 2 (.int x33)))) fun s35 => G v0 v1 s35) else none) else none)))
noncomputable def fnX0_isRight (K : Nat) (ζ : pZ) (h : Nat) (a0 : Int32) (τ : pH) : Option (Int32 × pH) := (lfX0_isRight K ζ K) h a0 τ
set_option maxHeartbeats 4000000 in
set_option maxRecDepth 100000 in
theorem wlX0_isRight {p : Program} {l : Launch} {e : Env} {s : State} {m : MethodId} {below : List Frame} {meth : Method} {c : Code} {D : va_G} {cA : Nat → ClassId} {ζ : pZ} (hX : zX D cA ζ s) (K : Nat) (res : (Int32 × pH)) (M S sl0 : Nat) (hM : s.heap.size + M = res.2.1) (hS0 : sl0 + S = res.2.2.1) (h : Nat) (a0 : Int32) (hx : p.tables.exec = Jvm.exec) (hb : c.code = cX0_isRight) (hr : meth.sig.returnType = some .boolean) (hlocks : meth.locks = false) (hml : c.maxLocals = 2) (hown : s.vm.findClass RX0 = some m.cls) (hts : ∀ w ∈ lw_all, w.before ([.ref h, .int a0] : List Value).toArray s = true) : ∀ k : Nat, (∀ (v0 : Nat) (v1 : Int32) (τ : pH) (H : Heap) (locs : List Loc) (cells slots : Nat), zH D cA ζ τ H → va_S (zA ζ) s.heap H locs → s.heap.size + cells = τ.1 → sl0 + slots = τ.2.1 → cells ≤ M ∧ slots ≤ S → ∀ (ls : Array Slot), lv_has ls 2 [(0, .ref v0), (1, .int v1)] → (lfX0_isRight K ζ k) v0 v1 τ = some res → W p l e (headSpec (ws_ yX0_isRight cX0_isRight 2 (some .boolean)) ({ frames := 103, cells := M, slots := S, locals := 2374 })).room s m ([.ref h, .int a0] : List Value).toArray below meth c H locs cells slots (MQ below (zQi D cA ζ res) ([.ref h, .int a0] : List Value).toArray s M S (zA ζ)) (F0 m 0 ls [])) := by
  intro k
  induction k with
  | zero =>
    exact fun _ _ _ _ _ _ _ _ _ _ _ _ _ _ hf => (by cases hf)
  | succ k ih =>
    · intro v0 v1 τ H locs cells slots hH hS hcs hss hcM ls hl hf
      have hf : (dz_b (zob ζ τ v0 0) fun f1 => dz_b (zvi (f1[2]?)) fun x2 => if v1 < x2 then (dz_b (zob ζ τ v0 0) fun f3 => dz_b (zvr (f3[1]?)) fun x4 => dz_c (zai ζ τ x4 3) fun n5 f6 => if ¬ (v1 < 0 ∨ n5 ≤ Int32.toNatClampNeg v1) then (dz_l (f6 (Int32.toNatClampNeg v1)) fun x8 => if x8 = (0 : Int32) then (some (1, τ)) else (some (0, τ))) else none) else (dz_b (zob ζ τ v0 0) fun f9 => dz_b (zvr (f9[1]?)) fun x10 => dz_b (zob ζ τ v0 0) fun f11 => dz_b (zvi (f11[2]?)) fun x12 => dz_b (zob ζ τ v0 0) fun f13 => dz_b (zvr (f13[0]?)) fun x14 => dz_b (zob ζ τ v0 0) fun f15 => dz_b (zvi (f15[2]?)) fun x16 => dz_b (zob ζ τ x14 14) fun f19 => zcl τ (fnJ2_get K ζ x14 x16 τ) fun x17 s18 => dz_c (zoL ζ s18 x17) fun cf20 f20 => dz_b (zob ζ s18 v0 0) fun f21 => dz_b (zvi (f21[2]?)) fun x22 => zcl s18 (fnL_fault K ζ x17 x22 s18) fun x23 s24 => dz_l (Int8.toInt32 (Int32.toInt8 x23)) fun x25 => if ζ.1 ≤ x10 ∧ x10 < s24.1 then (dz_c (zai ζ s24 x10 3) fun n26 f27 => if ¬ (x12 < 0 ∨ n26 ≤ Int32.toNatClampNeg x12) then (dz_l (zst s24 x10 (.inl (3, n26, .inl (upd f27 (Int32.toNatClampNeg x12) (vp_nar .byte x25))))) fun s28 => dz_b (zob ζ s28 v0 0) fun f31 => dz_b (zvi (f31[2]?)) fun x32 => dz_l (x32 + 1) fun x33 => dz_b (zwo ζ s28 v0 0 2) fun f34 => dz_l (zst s28 v0 (.inr (0, f34.set 2 (.int x33)))) fun s35 => (lfX0_isRight K ζ k) v0 v1 s35) else none) else none) : Option (Int32 × pH)) = some res := hf
      refine lv_aload_n hx hb dX0_isRight_0 rfl (lv_at hl 0 rfl) ?_
      obtain ⟨f1, hf1, hf⟩ := dz_bo hf
      obtain ⟨x2, hx2, hf⟩ := dz_bo hf
      refine va_get (C := RX0) (T := TX0) (N := 7) hx hb hts in_X0 hown hX.K (zrd_P hX hS hH (zob_o hf1)) 0 rfl rfl 2 (by decide) (hts _ q158) (fun _ hq => hq) (zvi_o hx2) dX0_isRight_1 ?_
      refine lv_iload_n hx hb dX0_isRight_4 rfl (lv_at hl 1 rfl) ?_
      refine lv_icmp_gt (tgt := 52) hx hb dX0_isRight_5 (by decide) (fun c5 => ?_) (fun c5 => ?_)
      · have hf := dz_t c5 hf
        refine lv_aload_n hx hb dX0_isRight_52 rfl (lv_at hl 0 rfl) ?_
        obtain ⟨f3, hf3, hf⟩ := dz_bo hf
        obtain ⟨x4, hx4, hf⟩ := dz_bo hf
        refine va_get (C := RX0) (T := TX0) (N := 7) hx hb hts in_X0 hown hX.K (zrd_P hX hS hH (zob_o hf3)) 0 rfl rfl 1 (by decide) (hts _ q157) (fun _ hq => hq) (zvr_o hx4) dX0_isRight_53 ?_
        refine lv_iload_n hx hb dX0_isRight_56 rfl (lv_at hl 1 rfl) ?_
        obtain ⟨n5, f6, hn5, hf⟩ := dz_co hf
        obtain ⟨g7, hf⟩ := dz_go hf
        refine va_bald hx hb hX.K (zrd_P hX hS hH (zai_o hn5)) 0 3 rfl rfl g7 dX0_isRight_57 ?_
        refine lv_topi (fun x8 e_x8 => ?_)
        have hf := dz_ls e_x8 hf
        refine lv_if_ne (tgt := 65) hx hb dX0_isRight_58 (by decide) (fun c58 => ?_) (fun c58 => ?_)
        · have hf := dz_f c58 hf
          refine lv_iconst (v := 0) hx hb dX0_isRight_65 (by decide) ?_
          obtain ⟨hM1, hS1⟩ : cells = M ∧ slots = S := by have hq := congrArg Prod.snd (Option.some.inj hf); rw [← hq] at hM hS0; have hM : s.heap.size + M = τ.1 := hM; have hS0 : sl0 + S = τ.2.1 := hS0; omega
          refine W.widen (k := M) (n := S) (Nat.le_of_eq hM1) (Nat.le_of_eq hS1) ?_
          exact W.zret (v := 0) hx hb hr rfl (fun t ht hW => ⟨⟨0, τ, rfl, Option.some.inj hf, z_at ht hH⟩, hS.F ht⟩) hS.2.2 dX0_isRight_66
        · have hf := dz_t c58 hf
          refine lv_iconst (v := 1) hx hb dX0_isRight_61 (by decide) ?_
          refine lv_goto (tgt := 66) hx hb dX0_isRight_62 (by decide) ?_
          obtain ⟨hM1, hS1⟩ : cells = M ∧ slots = S := by have hq := congrArg Prod.snd (Option.some.inj hf); rw [← hq] at hM hS0; have hM : s.heap.size + M = τ.1 := hM; have hS0 : sl0 + S = τ.2.1 := hS0; omega
          refine W.widen (k := M) (n := S) (Nat.le_of_eq hM1) (Nat.le_of_eq hS1) ?_
          exact W.zret (v := 1) hx hb hr rfl (fun t ht hW => ⟨⟨1, τ, rfl, Option.some.inj hf, z_at ht hH⟩, hS.F ht⟩) hS.2.2 dX0_isRight_66
      · have hf := dz_f c5 hf
        refine lv_aload_n hx hb dX0_isRight_8 rfl (lv_at hl 0 rfl) ?_
        obtain ⟨f9, hf9, hf⟩ := dz_bo hf
        obtain ⟨x10, hx10, hf⟩ := dz_bo hf
        refine va_get (C := RX0) (T := TX0) (N := 7) hx hb hts in_X0 hown hX.K (zrd_P hX hS hH (zob_o hf9)) 0 rfl rfl 1 (by decide) (hts _ q157) (fun _ hq => hq) (zvr_o hx10) dX0_isRight_9 ?_
        refine lv_aload_n hx hb dX0_isRight_12 rfl (lv_at hl 0 rfl) ?_
        obtain ⟨f11, hf11, hf⟩ := dz_bo hf
        obtain ⟨x12, hx12, hf⟩ := dz_bo hf
        refine va_get (C := RX0) (T := TX0) (N := 7) hx hb hts in_X0 hown hX.K (zrd_P hX hS hH (zob_o hf11)) 0 rfl rfl 2 (by decide) (hts _ q158) (fun _ hq => hq) (zvi_o hx12) dX0_isRight_13 ?_
        refine lv_aload_n hx hb dX0_isRight_16 rfl (lv_at hl 0 rfl) ?_
        obtain ⟨f13, hf13, hf⟩ := dz_bo hf
        obtain ⟨x14, hx14, hf⟩ := dz_bo hf
        refine va_get (C := RX0) (T := TX0) (N := 7) hx hb hts in_X0 hown hX.K (zrd_P hX hS hH (zob_o hf13)) 0 rfl rfl 0 (by decide) (hts _ q156) (fun _ hq => hq) (zvr_o hx14) dX0_isRight_17 ?_
        refine lv_aload_n hx hb dX0_isRight_20 rfl (lv_at hl 0 rfl) ?_
        obtain ⟨f15, hf15, hf⟩ := dz_bo hf
        obtain ⟨x16, hx16, hf⟩ := dz_bo hf
        refine va_get (C := RX0) (T := TX0) (N := 7) hx hb hts in_X0 hown hX.K (zrd_P hX hS hH (zob_o hf15)) 0 rfl rfl 2 (by decide) (hts _ q158) (fun _ hq => hq) (zvi_o hx16) dX0_isRight_21 ?_
        obtain ⟨f19, hf19, hf⟩ := dz_bo hf
        obtain ⟨x17, s18, hx17, hle, hck, hf⟩ := zcl_o hf
        have hc1 : cells + (s18.1 - τ.1) ≤ M := by omega
        have hs1 : slots + (s18.2.1 - τ.2.1) ≤ S := by omega
        refine va_callr (va_runV (As := [.int x16]) (rest := [.int x12, .ref x10]) ⟨hx, hb, hml, hown, hts⟩ (mtJ2_get l D cA ζ τ x14 x16 K (x17, s18) hx17 (s18.1 - τ.1) (s18.2.1 - τ.2.1) (Nat.add_sub_cancel' hle.1) (Nat.add_sub_cancel' hle.2)) (cwV 1 hts (lw_V q204 q205 q206 q87 q207) rfl rfl rfl (by decide +kernel) ⟨Nat.le_of_ble_eq_true rfl, Nat.le_of_ble_eq_true rfl⟩) (z_preV hX hS hH (zob_o hf19) rfl) rfl rfl hl.1 rfl (lv_room (Nat.le_of_ble_eq_true rfl)) dX0_isRight_24 ⟨hc1, hs1⟩) hS (fun q _ hq => hq) (fun q hq => hq) (fun u r t H1 locs ht hvm hw hB hz hk hS => ?_)
        obtain ⟨hw, hB⟩ := hB
        obtain ⟨hw1, hw2⟩ := Prod.mk.inj hw.symm; subst hw1; subst hw2
        have hH : zH D cA ζ s18 H1 := z_at ht.symm hB
        have hcs : s.heap.size + (cells + (s18.1 - τ.1)) = s18.1 := by omega
        have hss : sl0 + (slots + (s18.2.1 - τ.2.1)) = s18.2.1 := by omega
        replace hcM := And.intro hc1 hs1
        generalize cells + (s18.1 - τ.1) = cells at hcs hcM ⊢; generalize slots + (s18.2.1 - τ.2.1) = slots at hss hcM ⊢
        clear hB hk hz hvm ht hle hck hc1 hs1; generalize H1 = H at hH hS ⊢
        obtain ⟨cf20, f20, hcf20, hf⟩ := dz_co hf
        obtain ⟨hr_f20, hc_f20⟩ := zoL_o hcf20
        refine zL_cast hx hb hown (hts _ q218) hX hS hH hr_f20 hc_f20 dX0_isRight_27 ?_
        refine lv_aload_n hx hb dX0_isRight_30 rfl (lv_at hl 0 rfl) ?_
        obtain ⟨f21, hf21, hf⟩ := dz_bo hf
        obtain ⟨x22, hx22, hf⟩ := dz_bo hf
        refine va_get (C := RX0) (T := TX0) (N := 7) hx hb hts in_X0 hown hX.K (zrd_P hX hS hH (zob_o hf21)) 0 rfl rfl 2 (by decide) (hts _ q158) (fun _ hq => hq) (zvi_o hx22) dX0_isRight_31 ?_
        obtain ⟨x23, s24, hx23, hle, hck, hf⟩ := zcl_o hf
        have hc1 : cells + (s24.1 - s18.1) ≤ M := by omega
        have hs1 : slots + (s24.2.1 - s18.2.1) ≤ S := by omega
        refine va_calli (post := fun (r : Int32) (u : pH) => (r, u) = (x23, s24)) (B := fun u t => zH D cA ζ u t.heap) (A1 := zA ζ) (a := (Value.ref x17 :: [.int x22] : List Value).toArray) (mc := s24.1 - s18.1) (ms := s24.2.1 - s18.2.1) (rest := [.int x12, .ref x10]) (free := zA ζ) ?_ hS (fun q _ hq => hq) (fun q hq => hq) (fun r u t H1 locs ht hvm hw hB hz hk hS => ?_)
        · rcases L_fault_o hx23 with ⟨fs_, hr_, hg_⟩ | ⟨fs_, hr_, hg_⟩ | ⟨fs_, hr_, hg_⟩ | ⟨fs_, hr_, hg_⟩ | ⟨fs_, hr_, hg_⟩
          · exact va_runU (x := ⟨"PrimeProofs$Line", "fault", "(I)I"⟩) (owner := "PrimeProofs$Line") (As := [.int x22]) (rest := [.int x12, .ref x10]) ⟨hx, hb, hml, hown, hts⟩ (mtX6_fault_5__0 l D cA ζ s18 x17 x22 K (x23, s24) hg_ (s24.1 - s18.1) (s24.2.1 - s18.2.1) (Nat.add_sub_cancel' hle.1) (Nat.add_sub_cancel' hle.2)) (va_cwU 1 hts (zU_in q223 q225 q230 q224 q96 q231) rfl rfl rfl rfl (by decide +kernel) ⟨Nat.le_of_ble_eq_true rfl, Nat.le_of_ble_eq_true rfl⟩) (z_preV hX hS hH hr_ rfl) rfl rfl hl.1 rfl (lv_room (Nat.le_of_ble_eq_true rfl)) dX0_isRight_34 ⟨hc1, hs1⟩
          · exact va_runU (x := ⟨"PrimeProofs$Line", "fault", "(I)I"⟩) (owner := "PrimeProofs$Line") (As := [.int x22]) (rest := [.int x12, .ref x10]) ⟨hx, hb, hml, hown, hts⟩ (mtX6_fault_6__0 l D cA ζ s18 x17 x22 K (x23, s24) hg_ (s24.1 - s18.1) (s24.2.1 - s18.2.1) (Nat.add_sub_cancel' hle.1) (Nat.add_sub_cancel' hle.2)) (va_cwU 1 hts (zU_in q223 q225 q229 q224 q96 q231) rfl rfl rfl rfl (by decide +kernel) ⟨Nat.le_of_ble_eq_true rfl, Nat.le_of_ble_eq_true rfl⟩) (z_preV hX hS hH hr_ rfl) rfl rfl hl.1 rfl (lv_room (Nat.le_of_ble_eq_true rfl)) dX0_isRight_34 ⟨hc1, hs1⟩
          · exact va_runU (x := ⟨"PrimeProofs$Line", "fault", "(I)I"⟩) (owner := "PrimeProofs$Line") (As := [.int x22]) (rest := [.int x12, .ref x10]) ⟨hx, hb, hml, hown, hts⟩ (mtX6_fault_7__0 l D cA ζ s18 x17 x22 K (x23, s24) hg_ (s24.1 - s18.1) (s24.2.1 - s18.2.1) (Nat.add_sub_cancel' hle.1) (Nat.add_sub_cancel' hle.2)) (va_cwU 1 hts (zU_in q223 q225 q228 q224 q96 q231) rfl rfl rfl rfl (by decide +kernel) ⟨Nat.le_of_ble_eq_true rfl, Nat.le_of_ble_eq_true rfl⟩) (z_preV hX hS hH hr_ rfl) rfl rfl hl.1 rfl (lv_room (Nat.le_of_ble_eq_true rfl)) dX0_isRight_34 ⟨hc1, hs1⟩
          · exact va_runU (x := ⟨"PrimeProofs$Line", "fault", "(I)I"⟩) (owner := "PrimeProofs$Line") (As := [.int x22]) (rest := [.int x12, .ref x10]) ⟨hx, hb, hml, hown, hts⟩ (mtX6_fault_8__0 l D cA ζ s18 x17 x22 K (x23, s24) hg_ (s24.1 - s18.1) (s24.2.1 - s18.2.1) (Nat.add_sub_cancel' hle.1) (Nat.add_sub_cancel' hle.2)) (va_cwU 1 hts (zU_in q223 q225 q227 q224 q96 q231) rfl rfl rfl rfl (by decide +kernel) ⟨Nat.le_of_ble_eq_true rfl, Nat.le_of_ble_eq_true rfl⟩) (z_preV hX hS hH hr_ rfl) rfl rfl hl.1 rfl (lv_room (Nat.le_of_ble_eq_true rfl)) dX0_isRight_34 ⟨hc1, hs1⟩
          · exact va_runU (x := ⟨"PrimeProofs$Line", "fault", "(I)I"⟩) (owner := "PrimeProofs$Line") (As := [.int x22]) (rest := [.int x12, .ref x10]) ⟨hx, hb, hml, hown, hts⟩ (mtX6_fault_9__0 l D cA ζ s18 x17 x22 K (x23, s24) hg_ (s24.1 - s18.1) (s24.2.1 - s18.2.1) (Nat.add_sub_cancel' hle.1) (Nat.add_sub_cancel' hle.2)) (va_cwU 1 hts (zU_in q223 q225 q226 q224 q96 q231) rfl rfl rfl rfl (by decide +kernel) ⟨Nat.le_of_ble_eq_true rfl, Nat.le_of_ble_eq_true rfl⟩) (z_preV hX hS hH hr_ rfl) rfl rfl hl.1 rfl (lv_room (Nat.le_of_ble_eq_true rfl)) dX0_isRight_34 ⟨hc1, hs1⟩
        obtain ⟨hw1, hw2⟩ := Prod.mk.inj hw.symm; subst hw1; subst hw2
        have hH : zH D cA ζ s24 H1 := z_at ht.symm hB
        have hcs : s.heap.size + (cells + (s24.1 - s18.1)) = s24.1 := by omega
        have hss : sl0 + (slots + (s24.2.1 - s18.2.1)) = s24.2.1 := by omega
        replace hcM := And.intro hc1 hs1
        generalize cells + (s24.1 - s18.1) = cells at hcs hcM ⊢; generalize slots + (s24.2.1 - s18.2.1) = slots at hss hcM ⊢
        clear hB hk hz hvm ht hle hck hc1 hs1; generalize H1 = H at hH hS ⊢
        refine lv_i2b hx hb dX0_isRight_37 (rfl : _ = Int8.toInt32 (Int32.toInt8 x23)) ?_
        refine lv_topi (fun x25 e_x25 => ?_)
        have hf := dz_ls e_x25 hf
        obtain ⟨g29, hf⟩ := dz_go hf
        obtain ⟨n26, f27, hn26, hf⟩ := dz_co hf
        obtain ⟨g30, hf⟩ := dz_go hf
        refine va_bast hx hb hX.K hH.2.2 zw_D hS _ 3 (zw_a g29 (zrd_w (zai_o hn26) g29)) rfl g30 dX0_isRight_38 (fun H1 locs hP1 _ hS => dz_size (fun hz => ?_))
        obtain ⟨s28, e_s28, hf⟩ := dz_lo hf
        have hH := zH_put (x := (.inl (3, n26, .inl (upd f27 (Int32.toNatClampNeg x12) (vp_nar .byte x25))))) hH hcs g29 hP1 hz
        rw [← e_s28] at hH
        have hcs : s.heap.size + cells = s28.1 := by rw [e_s28]; exact hcs
        have hss : sl0 + slots = s28.2.1 := by rw [e_s28]; exact hss
        clear hP1 hz; generalize H1 = H at hH hS ⊢
        refine lv_aload_n hx hb dX0_isRight_39 rfl (lv_at hl 0 rfl) ?_
        refine lv_dup hx hb dX0_isRight_40 rfl ?_
        obtain ⟨f31, hf31, hf⟩ := dz_bo hf
        obtain ⟨x32, hx32, hf⟩ := dz_bo hf
        refine va_get (C := RX0) (T := TX0) (N := 7) hx hb hts in_X0 hown hX.K (zrd_P hX hS hH (zob_o hf31)) 0 rfl rfl 2 (by decide) (hts _ q158) (fun _ hq => hq) (zvi_o hx32) dX0_isRight_41 ?_
        refine lv_iconst (v := 1) hx hb dX0_isRight_44 (by decide) ?_
        refine lv_iadd hx hb dX0_isRight_45 ?_
        refine lv_topi (fun x33 e_x33 => ?_)
        have hf := dz_ls e_x33 hf
        obtain ⟨f34, hf34, hf⟩ := dz_bo hf
        obtain ⟨ha_f34, he_f34, hk_f34⟩ := zwo_o hf34
        refine va_put (C := RX0) (T := TX0) (N := 7) hx hb hts in_X0 tyX0 tyX0_ok nmX0 hown hX.K hH.2.2 zw_D hS _ (zw_o ha_f34 he_f34) rfl 2 (by decide) (hts _ q158) (fun _ hq => hq) rfl rfl rfl rfl hk_f34 dX0_isRight_46 (fun H1 locs hP1 _ hS => dz_size (fun hz => ?_))
        obtain ⟨s35, e_s35, hf⟩ := dz_lo hf
        have hH := zH_put (x := .inr (0, f34.set 2 (.int x33))) hH hcs ha_f34 hP1 hz
        rw [← e_s35] at hH
        have hcs : s.heap.size + cells = s35.1 := by rw [e_s35]; exact hcs
        have hss : sl0 + slots = s35.2.1 := by rw [e_s35]; exact hss
        clear hP1 hz; generalize H1 = H at hH hS ⊢
        refine lv_goto (tgt := 0) hx hb dX0_isRight_49 (by decide) ?_
        exact ih v0 v1 s35 H locs cells slots hH hS hcs hss hcM ls (lv_sub hl [0, 1] rfl) hf
set_option maxHeartbeats 4000000 in
set_option maxRecDepth 100000 in
theorem mtX0_isRight (l : Launch) (D : va_G) (cA : Nat → ClassId) (ζ : pZ) (τ : pH) (h : Nat) (a0 : Int32) (K : Nat) (res : (Int32 × pH)) (hf : fnX0_isRight K ζ h a0 τ = some res) (M S : Nat) (hM : τ.1 + M = res.2.1) (hS0 : τ.2.1 + S = res.2.2.1) : Met l yX0_isRight (ws_ yX0_isRight cX0_isRight 2 (some .boolean)) ({ frames := 103, cells := M, slots := S, locals := 2374 }) (zPc D cA ζ τ [.ref h, .int a0]) (zQi D cA ζ res) M S (zA ζ) := by
  refine Met.ofW (cc := cX0_isRight) (maxL := 2) (ret := some .boolean) (by decide +kernel) rfl ?_
  intro p e s m args below meth c s₁ B hml hv
  obtain ⟨rfl, hX, hH⟩ := hv
  have hx := B.exec
  have hb := B.bytes
  have hr := B.returns
  have hts := atoms_spec (ws := ws_ yX0_isRight cX0_isRight 2 (some .boolean)) B.pre
  have hts : ∀ w ∈ lw_all, w.before _ s = true := fun w h => hts w (List.mem_cons_of_mem _ h)
  have hown : s.vm.findClass RX0 = some m.cls := findClass_of_methodNamed B.named
  have hlocks := B.notSynchronized
  have hM : s.heap.size + M = res.2.1 := by rw [hH.1]; exact hM
  have hcs : s.heap.size + 0 = τ.1 := hH.1
  have hss : τ.2.1 + 0 = τ.2.1 := rfl
  generalize hsl0 : τ.2.1 = sl0 at hS0 hss
  have hss : sl0 + 0 = τ.2.1 := by rw [hsl0]; rfl
  have hS : va_S (zA ζ) s.heap s.heap [] := va_S.rf
  generalize hHe : s.heap = H at hH hS ⊢
  have hS : va_S (zA ζ) s.heap H [] := by rw [hHe]; exact hS
  generalize ([] : List Loc) = locs at hS ⊢
  have hl := lv_entry ([.ref h, .int a0]) (n := 2) (Nat.le_of_ble_eq_true rfl)
  rw [lg_entry_eq]
  generalize (lg_sl ([.ref h, .int a0]) ++ List.replicate (2 - (lg_sl ([.ref h, .int a0])).length) Slot.unset).toArray = ls at hl ⊢
  have hl : lv_has ls 2 [(0, .ref h), (1, .int a0)] := hl
  have hf : ((lfX0_isRight K ζ K) h a0 τ : Option (Int32 × pH)) = some res := hf
  refine z_gen (fun cells slots hc0 hs0 => ?_)
  have hcs : s.heap.size + cells = τ.1 := by rw [hc0]; exact hcs
  have hss : sl0 + slots = τ.2.1 := by rw [hs0]; exact hss
  have hcM : cells ≤ M ∧ slots ≤ S := by rw [hc0, hs0]; exact ⟨Nat.zero_le _, Nat.zero_le _⟩
  clear hc0 hs0
  have ih := wlX0_isRight (l := l) (e := e) (below := below) (D := D) (cA := cA) hX K res M S sl0 hM hS0 h a0 hx hb hr hlocks hml hown hts K
  exact ih h a0 τ H locs cells slots hH hS hcs hss hcM ls (lv_sub hl [0, 1] rfl) hf

noncomputable def lfX0_findRight (K : Nat) (ζ : pZ) : Nat → (Nat → Int64 → Int32 → Int32 → pH → Option (Int32 × pH)) × (Nat → Int64 → Int32 → Int32 → pH → Option (Int32 × pH)) := Nat.rec (motive := fun _ => (Nat → Int64 → Int32 → Int32 → pH → Option (Int32 × pH)) × (Nat → Int64 → Int32 → Int32 → pH → Option (Int32 × pH))) ((fun _ _ _ _ _ => none), (fun _ _ _ _ _ => none)) (fun _ G => ((fun v0 v1 v3 v4 τ => dz_b (zob ζ τ v0 0) fun f1 => dz_b (zvr (f1[0]?)) fun x2 => dz_b (zob ζ τ x2 14) fun f5 => zcl τ (fnJ2_size K ζ x2 τ) fun x3 s4 => if x3 ≤ v4 then (some ((-1), s4)) else (dz_b (zob ζ s4 v0 0) fun f6 => dz_b (zvr (f6[0]?)) fun x7 => dz_b (zob ζ s4 x7 14) fun f10 => zcl s4 (fnJ2_get K ζ x7 v4 s4) fun x8 s9 => dz_c (zoL ζ s9 x8) fun cf11 f11 => dz_c (zoL ζ s9 x8) fun cf12 f12 => dz_b (zvl (f12[0]?)) fun x13 => if x13 = v1 then (dz_b (zob ζ s9 v0 0) fun f14 => dz_b (zvr (f14[0]?)) fun x15 => dz_b (zob ζ s9 x15 14) fun f18 => zcl s9 (fnJ2_get K ζ x15 v4 s9) fun x16 s17 => dz_c (zoL ζ s17 x16) fun cf19 f19 => dz_c (zoL ζ s17 x16) fun cf20 f20 => dz_b (zvi (f20[1]?)) fun x21 => if x21 = v3 then (dz_b (zob ζ s17 v0 0) fun f24 => zcl s17 (fnX0_isRight K ζ v0 v4 s17) fun x22 s23 => if x22 = (0 : Int32) then (G.2 v0 v1 v3 v4 s23) else (some (v4, s23))) else (G.2 v0 v1 v3 v4 s17)) else (G.2 v0 v1 v3 v4 s9))), (fun v0 v1 v3 v4 τ => dz_l (v4 + 1) fun x1 => G.1 v0 v1 v3 x1 τ)))
noncomputable def fnX0_findRight (K : Nat) (ζ : pZ) (h : Nat) (a0 : Int64) (a1 : Int32) (τ : pH) : Option (Int32 × pH) := (lfX0_findRight K ζ K).1 h a0 a1 0 τ
set_option maxHeartbeats 4000000 in
set_option maxRecDepth 100000 in
theorem wlX0_findRight {p : Program} {l : Launch} {e : Env} {s : State} {m : MethodId} {below : List Frame} {meth : Method} {c : Code} {D : va_G} {cA : Nat → ClassId} {ζ : pZ} (hX : zX D cA ζ s) (K : Nat) (res : (Int32 × pH)) (M S sl0 : Nat) (hM : s.heap.size + M = res.2.1) (hS0 : sl0 + S = res.2.2.1) (h : Nat) (a0 : Int64) (a1 : Int32) (hx : p.tables.exec = Jvm.exec) (hb : c.code = cX0_findRight) (hr : meth.sig.returnType = some .int) (hlocks : meth.locks = false) (hml : c.maxLocals = 5) (hown : s.vm.findClass RX0 = some m.cls) (hts : ∀ w ∈ lw_all, w.before ([.ref h, .long a0, .int a1] : List Value).toArray s = true) : ∀ k : Nat, (∀ (v0 : Nat) (v1 : Int64) (v3 : Int32) (v4 : Int32) (τ : pH) (H : Heap) (locs : List Loc) (cells slots : Nat), zH D cA ζ τ H → va_S (zA ζ) s.heap H locs → s.heap.size + cells = τ.1 → sl0 + slots = τ.2.1 → cells ≤ M ∧ slots ≤ S → ∀ (ls : Array Slot), lv_has ls 5 [(0, .ref v0), (1, .long v1), (3, .int v3), (4, .int v4)] → (lfX0_findRight K ζ k).1 v0 v1 v3 v4 τ = some res → W p l e (headSpec (ws_ yX0_findRight cX0_findRight 5 (some .int)) ({ frames := 104, cells := M, slots := S, locals := 2395 })).room s m ([.ref h, .long a0, .int a1] : List Value).toArray below meth c H locs cells slots (MQ below (zQi D cA ζ res) ([.ref h, .long a0, .int a1] : List Value).toArray s M S (zA ζ)) (F0 m 3 ls [])) ∧ (∀ (v0 : Nat) (v1 : Int64) (v3 : Int32) (v4 : Int32) (τ : pH) (H : Heap) (locs : List Loc) (cells slots : Nat), zH D cA ζ τ H → va_S (zA ζ) s.heap H locs → s.heap.size + cells = τ.1 → sl0 + slots = τ.2.1 → cells ≤ M ∧ slots ≤ S → ∀ (ls : Array Slot), lv_has ls 5 [(0, .ref v0), (1, .long v1), (3, .int v3), (4, .int v4)] → (lfX0_findRight K ζ k).2 v0 v1 v3 v4 τ = some res → W p l e (headSpec (ws_ yX0_findRight cX0_findRight 5 (some .int)) ({ frames := 104, cells := M, slots := S, locals := 2395 })).room s m ([.ref h, .long a0, .int a1] : List Value).toArray below meth c H locs cells slots (MQ below (zQi D cA ζ res) ([.ref h, .long a0, .int a1] : List Value).toArray s M S (zA ζ)) (F0 m 66 ls [])) := by
  intro k
  induction k with
  | zero =>
    exact ⟨fun _ _ _ _ _ _ _ _ _ _ _ _ _ _ _ _ hf => (by cases hf), fun _ _ _ _ _ _ _ _ _ _ _ _ _ _ _ _ hf => (by cases hf)⟩
  | succ k ih =>
    refine ⟨?_, ?_⟩
    · intro v0 v1 v3 v4 τ H locs cells slots hH hS hcs hss hcM ls hl hf
      have hf : (dz_b (zob ζ τ v0 0) fun f1 => dz_b (zvr (f1[0]?)) fun x2 => dz_b (zob ζ τ x2 14) fun f5 => zcl τ (fnJ2_size K ζ x2 τ) fun x3 s4 => if x3 ≤ v4 then (some ((-1), s4)) else (dz_b (zob ζ s4 v0 0) fun f6 => dz_b (zvr (f6[0]?)) fun x7 => dz_b (zob ζ s4 x7 14) fun f10 => zcl s4 (fnJ2_get K ζ x7 v4 s4) fun x8 s9 => dz_c (zoL ζ s9 x8) fun cf11 f11 => dz_c (zoL ζ s9 x8) fun cf12 f12 => dz_b (zvl (f12[0]?)) fun x13 => if x13 = v1 then (dz_b (zob ζ s9 v0 0) fun f14 => dz_b (zvr (f14[0]?)) fun x15 => dz_b (zob ζ s9 x15 14) fun f18 => zcl s9 (fnJ2_get K ζ x15 v4 s9) fun x16 s17 => dz_c (zoL ζ s17 x16) fun cf19 f19 => dz_c (zoL ζ s17 x16) fun cf20 f20 => dz_b (zvi (f20[1]?)) fun x21 => if x21 = v3 then (dz_b (zob ζ s17 v0 0) fun f24 => zcl s17 (fnX0_isRight K ζ v0 v4 s17) fun x22 s23 => if x22 = (0 : Int32) then ((lfX0_findRight K ζ k).2 v0 v1 v3 v4 s23) else (some (v4, s23))) else ((lfX0_findRight K ζ k).2 v0 v1 v3 v4 s17)) else ((lfX0_findRight K ζ k).2 v0 v1 v3 v4 s9)) : Option (Int32 × pH)) = some res := hf
      refine lv_iload hx hb dX0_findRight_3 (lv_at hl 3 rfl) ?_
      refine lv_aload_n hx hb dX0_findRight_5 rfl (lv_at hl 0 rfl) ?_
      obtain ⟨f1, hf1, hf⟩ := dz_bo hf
      obtain ⟨x2, hx2, hf⟩ := dz_bo hf
      refine va_get (C := RX0) (T := TX0) (N := 7) hx hb hts in_X0 hown hX.K (zrd_P hX hS hH (zob_o hf1)) 0 rfl rfl 0 (by decide) (hts _ q156) (fun _ hq => hq) (zvr_o hx2) dX0_findRight_6 ?_
      obtain ⟨f5, hf5, hf⟩ := dz_bo hf
      obtain ⟨x3, s4, hx3, hle, hck, hf⟩ := zcl_o hf
      have hc1 : cells + (s4.1 - τ.1) ≤ M := by omega
      have hs1 : slots + (s4.2.1 - τ.2.1) ≤ S := by omega
      refine va_calli (va_runV (As := []) (rest := [.int v4]) ⟨hx, hb, hml, hown, hts⟩ (mtJ2_size l D cA ζ τ x2 K (x3, s4) hx3 (s4.1 - τ.1) (s4.2.1 - τ.2.1) (Nat.add_sub_cancel' hle.1) (Nat.add_sub_cancel' hle.2)) (cwV 0 hts (lw_V q200 q201 q202 q87 q203) rfl rfl rfl (by decide +kernel) ⟨Nat.le_of_ble_eq_true rfl, Nat.le_of_ble_eq_true rfl⟩) (z_preV hX hS hH (zob_o hf5) rfl) rfl rfl hl.1 rfl (lv_room (Nat.le_of_ble_eq_true rfl)) dX0_findRight_9 ⟨hc1, hs1⟩) hS (fun q _ hq => hq) (fun q hq => hq) (fun r u t H1 locs ht hvm hw hB hz hk hS => ?_)
      obtain ⟨hw1, hw2⟩ := Prod.mk.inj hw.symm; subst hw1; subst hw2
      have hH : zH D cA ζ s4 H1 := z_at ht.symm hB
      have hcs : s.heap.size + (cells + (s4.1 - τ.1)) = s4.1 := by omega
      have hss : sl0 + (slots + (s4.2.1 - τ.2.1)) = s4.2.1 := by omega
      replace hcM := And.intro hc1 hs1
      generalize cells + (s4.1 - τ.1) = cells at hcs hcM ⊢; generalize slots + (s4.2.1 - τ.2.1) = slots at hss hcM ⊢
      clear hB hk hz hvm ht hle hck hc1 hs1; generalize H1 = H at hH hS ⊢
      refine lv_icmp_ge (tgt := 72) hx hb dX0_findRight_12 (by decide) (fun c12 => ?_) (fun c12 => ?_)
      · have hf := dz_t c12 hf
        refine lv_iconst (v := (-1)) hx hb dX0_findRight_72 (by decide) ?_
        obtain ⟨hM1, hS1⟩ : cells = M ∧ slots = S := by have hq := congrArg Prod.snd (Option.some.inj hf); rw [← hq] at hM hS0; have hM : s.heap.size + M = s4.1 := hM; have hS0 : sl0 + S = s4.2.1 := hS0; omega
        refine W.widen (k := M) (n := S) (Nat.le_of_eq hM1) (Nat.le_of_eq hS1) ?_
        exact W.iret (v := (-1)) hx hb hr (fun t ht hW => ⟨⟨(-1), s4, rfl, Option.some.inj hf, z_at ht hH⟩, hS.F ht⟩) hS.2.2 dX0_findRight_73
      · have hf := dz_f c12 hf
        refine lv_aload_n hx hb dX0_findRight_15 rfl (lv_at hl 0 rfl) ?_
        obtain ⟨f6, hf6, hf⟩ := dz_bo hf
        obtain ⟨x7, hx7, hf⟩ := dz_bo hf
        refine va_get (C := RX0) (T := TX0) (N := 7) hx hb hts in_X0 hown hX.K (zrd_P hX hS hH (zob_o hf6)) 0 rfl rfl 0 (by decide) (hts _ q156) (fun _ hq => hq) (zvr_o hx7) dX0_findRight_16 ?_
        refine lv_iload hx hb dX0_findRight_19 (lv_at hl 3 rfl) ?_
        obtain ⟨f10, hf10, hf⟩ := dz_bo hf
        obtain ⟨x8, s9, hx8, hle, hck, hf⟩ := zcl_o hf
        have hc1 : cells + (s9.1 - s4.1) ≤ M := by omega
        have hs1 : slots + (s9.2.1 - s4.2.1) ≤ S := by omega
        refine va_callr (va_runV (As := [.int v4]) (rest := []) ⟨hx, hb, hml, hown, hts⟩ (mtJ2_get l D cA ζ s4 x7 v4 K (x8, s9) hx8 (s9.1 - s4.1) (s9.2.1 - s4.2.1) (Nat.add_sub_cancel' hle.1) (Nat.add_sub_cancel' hle.2)) (cwV 1 hts (lw_V q204 q205 q206 q87 q207) rfl rfl rfl (by decide +kernel) ⟨Nat.le_of_ble_eq_true rfl, Nat.le_of_ble_eq_true rfl⟩) (z_preV hX hS hH (zob_o hf10) rfl) rfl rfl hl.1 rfl (lv_room (Nat.le_of_ble_eq_true rfl)) dX0_findRight_21 ⟨hc1, hs1⟩) hS (fun q _ hq => hq) (fun q hq => hq) (fun u r t H1 locs ht hvm hw hB hz hk hS => ?_)
        obtain ⟨hw, hB⟩ := hB
        obtain ⟨hw1, hw2⟩ := Prod.mk.inj hw.symm; subst hw1; subst hw2
        have hH : zH D cA ζ s9 H1 := z_at ht.symm hB
        have hcs : s.heap.size + (cells + (s9.1 - s4.1)) = s9.1 := by omega
        have hss : sl0 + (slots + (s9.2.1 - s4.2.1)) = s9.2.1 := by omega
        replace hcM := And.intro hc1 hs1
        generalize cells + (s9.1 - s4.1) = cells at hcs hcM ⊢; generalize slots + (s9.2.1 - s4.2.1) = slots at hss hcM ⊢
        clear hB hk hz hvm ht hle hck hc1 hs1; generalize H1 = H at hH hS ⊢
        obtain ⟨cf11, f11, hcf11, hf⟩ := dz_co hf
        obtain ⟨hr_f11, hc_f11⟩ := zoL_o hcf11
        refine zL_cast hx hb hown (hts _ q218) hX hS hH hr_f11 hc_f11 dX0_findRight_24 ?_
        obtain ⟨cf12, f12, hcf12, hf⟩ := dz_co hf
        obtain ⟨x13, hx13, hf⟩ := dz_bo hf
        obtain ⟨hr_f12, hc_f12⟩ := zoL_o hcf12
        refine zL_get0 hx hb hts hown hX hS hH hr_f12 hc_f12 (hts _ q541) (zvl_o hx13) dX0_findRight_27 ?_
        refine lv_lload_n hx hb dX0_findRight_30 rfl (lv_at hl 1 rfl) ?_
        refine W.lcmp hx hb dX0_findRight_31 ?_
        refine lv_if_ne (tgt := 66) hx hb dX0_findRight_32 (by decide) (fun c32 => ?_) (fun c32 => ?_)
        · have c32 : ¬ x13 = v1 := fun hq => c32 ((lg_cmp_eq _ _).mpr hq)
          have hf := dz_f c32 hf
          exact ih.2 v0 v1 v3 v4 s9 H locs cells slots hH hS hcs hss hcM ls (lv_sub hl [0, 1, 2, 3] rfl) hf
        · have c32 : x13 = v1 := (lg_cmp_eq _ _).mp c32
          have hf := dz_t c32 hf
          refine lv_aload_n hx hb dX0_findRight_35 rfl (lv_at hl 0 rfl) ?_
          obtain ⟨f14, hf14, hf⟩ := dz_bo hf
          obtain ⟨x15, hx15, hf⟩ := dz_bo hf
          refine va_get (C := RX0) (T := TX0) (N := 7) hx hb hts in_X0 hown hX.K (zrd_P hX hS hH (zob_o hf14)) 0 rfl rfl 0 (by decide) (hts _ q156) (fun _ hq => hq) (zvr_o hx15) dX0_findRight_36 ?_
          refine lv_iload hx hb dX0_findRight_39 (lv_at hl 3 rfl) ?_
          obtain ⟨f18, hf18, hf⟩ := dz_bo hf
          obtain ⟨x16, s17, hx16, hle, hck, hf⟩ := zcl_o hf
          have hc1 : cells + (s17.1 - s9.1) ≤ M := by omega
          have hs1 : slots + (s17.2.1 - s9.2.1) ≤ S := by omega
          refine va_callr (va_runV (As := [.int v4]) (rest := []) ⟨hx, hb, hml, hown, hts⟩ (mtJ2_get l D cA ζ s9 x15 v4 K (x16, s17) hx16 (s17.1 - s9.1) (s17.2.1 - s9.2.1) (Nat.add_sub_cancel' hle.1) (Nat.add_sub_cancel' hle.2)) (cwV 1 hts (lw_V q204 q205 q206 q87 q207) rfl rfl rfl (by decide +kernel) ⟨Nat.le_of_ble_eq_true rfl, Nat.le_of_ble_eq_true rfl⟩) (z_preV hX hS hH (zob_o hf18) rfl) rfl rfl hl.1 rfl (lv_room (Nat.le_of_ble_eq_true rfl)) dX0_findRight_41 ⟨hc1, hs1⟩) hS (fun q _ hq => hq) (fun q hq => hq) (fun u r t H1 locs ht hvm hw hB hz hk hS => ?_)
          obtain ⟨hw, hB⟩ := hB
          obtain ⟨hw1, hw2⟩ := Prod.mk.inj hw.symm; subst hw1; subst hw2
          have hH : zH D cA ζ s17 H1 := z_at ht.symm hB
          have hcs : s.heap.size + (cells + (s17.1 - s9.1)) = s17.1 := by omega
          have hss : sl0 + (slots + (s17.2.1 - s9.2.1)) = s17.2.1 := by omega
          replace hcM := And.intro hc1 hs1
          generalize cells + (s17.1 - s9.1) = cells at hcs hcM ⊢; generalize slots + (s17.2.1 - s9.2.1) = slots at hss hcM ⊢
          clear hB hk hz hvm ht hle hck hc1 hs1; generalize H1 = H at hH hS ⊢
          obtain ⟨cf19, f19, hcf19, hf⟩ := dz_co hf
          obtain ⟨hr_f19, hc_f19⟩ := zoL_o hcf19
          refine zL_cast hx hb hown (hts _ q218) hX hS hH hr_f19 hc_f19 dX0_findRight_44 ?_
          obtain ⟨cf20, f20, hcf20, hf⟩ := dz_co hf
          obtain ⟨x21, hx21, hf⟩ := dz_bo hf
          obtain ⟨hr_f20, hc_f20⟩ := zoL_o hcf20
          refine zL_get1 hx hb hts hown hX hS hH hr_f20 hc_f20 (hts _ q543) (zvi_o hx21) dX0_findRight_47 ?_
          refine lv_iload_n hx hb dX0_findRight_50 rfl (lv_at hl 2 rfl) ?_
          refine lv_icmp_ne (tgt := 66) hx hb dX0_findRight_51 (by decide) (fun c51 => ?_) (fun c51 => ?_)
          · have hf := dz_f c51 hf
            exact ih.2 v0 v1 v3 v4 s17 H locs cells slots hH hS hcs hss hcM ls (lv_sub hl [0, 1, 2, 3] rfl) hf
          · have hf := dz_t c51 hf
            refine lv_aload_n hx hb dX0_findRight_54 rfl (lv_at hl 0 rfl) ?_
            refine lv_iload hx hb dX0_findRight_55 (lv_at hl 3 rfl) ?_
            obtain ⟨f24, hf24, hf⟩ := dz_bo hf
            obtain ⟨x22, s23, hx22, hle, hck, hf⟩ := zcl_o hf
            have hc1 : cells + (s23.1 - s17.1) ≤ M := by omega
            have hs1 : slots + (s23.2.1 - s17.2.1) ≤ S := by omega
            refine va_calli (va_runV (As := [.int v4]) (rest := []) ⟨hx, hb, hml, hown, hts⟩ (mtX0_isRight l D cA ζ s17 v0 v4 K (x22, s23) hx22 (s23.1 - s17.1) (s23.2.1 - s17.2.1) (Nat.add_sub_cancel' hle.1) (Nat.add_sub_cancel' hle.2)) (cwV 1 hts (lw_V q219 q221 qs1 q84 q222) rfl rfl rfl (by decide +kernel) ⟨Nat.le_of_ble_eq_true rfl, Nat.le_of_ble_eq_true rfl⟩) (z_preV hX hS hH (zob_o hf24) rfl) rfl rfl hl.1 rfl (lv_room (Nat.le_of_ble_eq_true rfl)) dX0_findRight_57 ⟨hc1, hs1⟩) hS (fun q _ hq => hq) (fun q hq => hq) (fun r u t H1 locs ht hvm hw hB hz hk hS => ?_)
            obtain ⟨hw1, hw2⟩ := Prod.mk.inj hw.symm; subst hw1; subst hw2
            have hH : zH D cA ζ s23 H1 := z_at ht.symm hB
            have hcs : s.heap.size + (cells + (s23.1 - s17.1)) = s23.1 := by omega
            have hss : sl0 + (slots + (s23.2.1 - s17.2.1)) = s23.2.1 := by omega
            replace hcM := And.intro hc1 hs1
            generalize cells + (s23.1 - s17.1) = cells at hcs hcM ⊢; generalize slots + (s23.2.1 - s17.2.1) = slots at hss hcM ⊢
            clear hB hk hz hvm ht hle hck hc1 hs1; generalize H1 = H at hH hS ⊢
            refine lv_if_eq (tgt := 66) hx hb dX0_findRight_60 (by decide) (fun c60 => ?_) (fun c60 => ?_)
            · have hf := dz_t c60 hf
              exact ih.2 v0 v1 v3 v4 s23 H locs cells slots hH hS hcs hss hcM ls (lv_sub hl [0, 1, 2, 3] rfl) hf
            · have hf := dz_f c60 hf
              refine lv_iload hx hb dX0_findRight_63 (lv_at hl 3 rfl) ?_
              obtain ⟨hM1, hS1⟩ : cells = M ∧ slots = S := by have hq := congrArg Prod.snd (Option.some.inj hf); rw [← hq] at hM hS0; have hM : s.heap.size + M = s23.1 := hM; have hS0 : sl0 + S = s23.2.1 := hS0; omega
              refine W.widen (k := M) (n := S) (Nat.le_of_eq hM1) (Nat.le_of_eq hS1) ?_
              exact W.iret (v := v4) hx hb hr (fun t ht hW => ⟨⟨v4, s23, rfl, Option.some.inj hf, z_at ht hH⟩, hS.F ht⟩) hS.2.2 dX0_findRight_65
    · intro v0 v1 v3 v4 τ H locs cells slots hH hS hcs hss hcM ls hl hf
      have hf : (dz_l (v4 + 1) fun x1 => (lfX0_findRight K ζ k).1 v0 v1 v3 x1 τ : Option (Int32 × pH)) = some res := hf
      obtain ⟨x1, e_x1, hf⟩ := dz_lo hf
      refine lv_iinc (v := x1) (lv' := [(4, .int x1), (0, .ref v0), (1, .long v1), (3, .int v3)]) hx hb dX0_findRight_66 hl (k := 3) rfl (by rw [e_x1]; rfl) (by decide) rfl (fun ls hl => ?_)
      refine lv_goto (tgt := 3) hx hb dX0_findRight_69 (by decide) ?_
      exact ih.1 v0 v1 v3 x1 τ H locs cells slots hH hS hcs hss hcM ls (lv_sub hl [1, 2, 3, 0] rfl) hf
set_option maxHeartbeats 4000000 in
set_option maxRecDepth 100000 in
theorem mtX0_findRight (l : Launch) (D : va_G) (cA : Nat → ClassId) (ζ : pZ) (τ : pH) (h : Nat) (a0 : Int64) (a1 : Int32) (K : Nat) (res : (Int32 × pH)) (hf : fnX0_findRight K ζ h a0 a1 τ = some res) (M S : Nat) (hM : τ.1 + M = res.2.1) (hS0 : τ.2.1 + S = res.2.2.1) : Met l yX0_findRight (ws_ yX0_findRight cX0_findRight 5 (some .int)) ({ frames := 104, cells := M, slots := S, locals := 2395 }) (zPc D cA ζ τ [.ref h, .long a0, .int a1]) (zQi D cA ζ res) M S (zA ζ) := by
  refine Met.ofW (cc := cX0_findRight) (maxL := 5) (ret := some .int) (by decide +kernel) rfl ?_
  intro p e s m args below meth c s₁ B hml hv
  obtain ⟨rfl, hX, hH⟩ := hv
  have hx := B.exec
  have hb := B.bytes
  have hr := B.returns
  have hts := atoms_spec (ws := ws_ yX0_findRight cX0_findRight 5 (some .int)) B.pre
  have hts : ∀ w ∈ lw_all, w.before _ s = true := fun w h => hts w (List.mem_cons_of_mem _ h)
  have hown : s.vm.findClass RX0 = some m.cls := findClass_of_methodNamed B.named
  have hlocks := B.notSynchronized
  have hM : s.heap.size + M = res.2.1 := by rw [hH.1]; exact hM
  have hcs : s.heap.size + 0 = τ.1 := hH.1
  have hss : τ.2.1 + 0 = τ.2.1 := rfl
  generalize hsl0 : τ.2.1 = sl0 at hS0 hss
  have hss : sl0 + 0 = τ.2.1 := by rw [hsl0]; rfl
  have hS : va_S (zA ζ) s.heap s.heap [] := va_S.rf
  generalize hHe : s.heap = H at hH hS ⊢
  have hS : va_S (zA ζ) s.heap H [] := by rw [hHe]; exact hS
  generalize ([] : List Loc) = locs at hS ⊢
  have hl := lv_entry ([.ref h, .long a0, .int a1]) (n := 5) (Nat.le_of_ble_eq_true rfl)
  rw [lg_entry_eq]
  generalize (lg_sl ([.ref h, .long a0, .int a1]) ++ List.replicate (5 - (lg_sl ([.ref h, .long a0, .int a1])).length) Slot.unset).toArray = ls at hl ⊢
  have hl : lv_has ls 5 [(0, .ref h), (1, .long a0), (3, .int a1)] := hl
  have hf : ((lfX0_findRight K ζ K).1 h a0 a1 0 τ : Option (Int32 × pH)) = some res := hf
  refine z_gen (fun cells slots hc0 hs0 => ?_)
  have hcs : s.heap.size + cells = τ.1 := by rw [hc0]; exact hcs
  have hss : sl0 + slots = τ.2.1 := by rw [hs0]; exact hss
  have hcM : cells ≤ M ∧ slots ≤ S := by rw [hc0, hs0]; exact ⟨Nat.zero_le _, Nat.zero_le _⟩
  clear hc0 hs0
  have ih := wlX0_findRight (l := l) (e := e) (below := below) (D := D) (cA := cA) hX K res M S sl0 hM hS0 h a0 a1 hx hb hr hlocks hml hown hts K
  refine lv_iconst (v := 0) hx hb dX0_findRight_0 (by decide) ?_
  refine lv_istore (lv' := [(4, .int 0), (0, .ref h), (1, .long a0), (3, .int a1)]) hx hb dX0_findRight_1 hl (by decide) rfl (fun ls hl => ?_)
  exact ih.1 h a0 a1 0 τ H locs cells slots hH hS hcs hss hcM ls (lv_sub hl [1, 2, 3, 0] rfl) hf

noncomputable def lfX0_restOn (K : Nat) (ζ : pZ) : Nat → (Nat → Int64 → Int32 → Int32 → pH → Option (Int32 × pH)) × (Nat → Int64 → Int32 → Int32 → pH → Option (Int32 × pH)) := Nat.rec (motive := fun _ => (Nat → Int64 → Int32 → Int32 → pH → Option (Int32 × pH)) × (Nat → Int64 → Int32 → Int32 → pH → Option (Int32 × pH))) ((fun _ _ _ _ _ => none), (fun _ _ _ _ _ => none)) (fun _ G => ((fun v0 v1 v3 v4 τ => if v3 ≤ v4 then (some ((-2), τ)) else (dz_b (zob ζ τ v0 0) fun f1 => dz_b (zvr (f1[0]?)) fun x2 => dz_b (zob ζ τ x2 14) fun f5 => zcl τ (fnJ2_get K ζ x2 v4 τ) fun x3 s4 => dz_c (zoL ζ s4 x3) fun cf6 f6 => dz_c (zoL ζ s4 x3) fun cf7 f7 => dz_b (zvl (f7[0]?)) fun x8 => if x8 = v1 then (dz_b (zob ζ s4 v0 0) fun f11 => zcl s4 (fnX0_isRight K ζ v0 v4 s4) fun x9 s10 => if x9 = (0 : Int32) then (G.2 v0 v1 v3 v4 s10) else (some (v4, s10))) else (G.2 v0 v1 v3 v4 s4))), (fun v0 v1 v3 v4 τ => dz_l (v4 + 1) fun x1 => G.1 v0 v1 v3 x1 τ)))
noncomputable def fnX0_restOn (K : Nat) (ζ : pZ) (h : Nat) (a0 : Int64) (a1 : Int32) (τ : pH) : Option (Int32 × pH) := (lfX0_restOn K ζ K).1 h a0 a1 0 τ
set_option maxHeartbeats 4000000 in
set_option maxRecDepth 100000 in
theorem wlX0_restOn {p : Program} {l : Launch} {e : Env} {s : State} {m : MethodId} {below : List Frame} {meth : Method} {c : Code} {D : va_G} {cA : Nat → ClassId} {ζ : pZ} (hX : zX D cA ζ s) (K : Nat) (res : (Int32 × pH)) (M S sl0 : Nat) (hM : s.heap.size + M = res.2.1) (hS0 : sl0 + S = res.2.2.1) (h : Nat) (a0 : Int64) (a1 : Int32) (hx : p.tables.exec = Jvm.exec) (hb : c.code = cX0_restOn) (hr : meth.sig.returnType = some .int) (hlocks : meth.locks = false) (hml : c.maxLocals = 5) (hown : s.vm.findClass RX0 = some m.cls) (hts : ∀ w ∈ lw_all, w.before ([.ref h, .long a0, .int a1] : List Value).toArray s = true) : ∀ k : Nat, (∀ (v0 : Nat) (v1 : Int64) (v3 : Int32) (v4 : Int32) (τ : pH) (H : Heap) (locs : List Loc) (cells slots : Nat), zH D cA ζ τ H → va_S (zA ζ) s.heap H locs → s.heap.size + cells = τ.1 → sl0 + slots = τ.2.1 → cells ≤ M ∧ slots ≤ S → ∀ (ls : Array Slot), lv_has ls 5 [(0, .ref v0), (1, .long v1), (3, .int v3), (4, .int v4)] → (lfX0_restOn K ζ k).1 v0 v1 v3 v4 τ = some res → W p l e (headSpec (ws_ yX0_restOn cX0_restOn 5 (some .int)) ({ frames := 104, cells := M, slots := S, locals := 2395 })).room s m ([.ref h, .long a0, .int a1] : List Value).toArray below meth c H locs cells slots (MQ below (zQi D cA ζ res) ([.ref h, .long a0, .int a1] : List Value).toArray s M S (zA ζ)) (F0 m 3 ls [])) ∧ (∀ (v0 : Nat) (v1 : Int64) (v3 : Int32) (v4 : Int32) (τ : pH) (H : Heap) (locs : List Loc) (cells slots : Nat), zH D cA ζ τ H → va_S (zA ζ) s.heap H locs → s.heap.size + cells = τ.1 → sl0 + slots = τ.2.1 → cells ≤ M ∧ slots ≤ S → ∀ (ls : Array Slot), lv_has ls 5 [(0, .ref v0), (1, .long v1), (3, .int v3), (4, .int v4)] → (lfX0_restOn K ζ k).2 v0 v1 v3 v4 τ = some res → W p l e (headSpec (ws_ yX0_restOn cX0_restOn 5 (some .int)) ({ frames := 104, cells := M, slots := S, locals := 2395 })).room s m ([.ref h, .long a0, .int a1] : List Value).toArray below meth c H locs cells slots (MQ below (zQi D cA ζ res) ([.ref h, .long a0, .int a1] : List Value).toArray s M S (zA ζ)) (F0 m 41 ls [])) := by
  intro k
  induction k with
  | zero =>
    exact ⟨fun _ _ _ _ _ _ _ _ _ _ _ _ _ _ _ _ hf => (by cases hf), fun _ _ _ _ _ _ _ _ _ _ _ _ _ _ _ _ hf => (by cases hf)⟩
  | succ k ih =>
    refine ⟨?_, ?_⟩
    · intro v0 v1 v3 v4 τ H locs cells slots hH hS hcs hss hcM ls hl hf
      have hf : (if v3 ≤ v4 then (some ((-2), τ)) else (dz_b (zob ζ τ v0 0) fun f1 => dz_b (zvr (f1[0]?)) fun x2 => dz_b (zob ζ τ x2 14) fun f5 => zcl τ (fnJ2_get K ζ x2 v4 τ) fun x3 s4 => dz_c (zoL ζ s4 x3) fun cf6 f6 => dz_c (zoL ζ s4 x3) fun cf7 f7 => dz_b (zvl (f7[0]?)) fun x8 => if x8 = v1 then (dz_b (zob ζ s4 v0 0) fun f11 => zcl s4 (fnX0_isRight K ζ v0 v4 s4) fun x9 s10 => if x9 = (0 : Int32) then ((lfX0_restOn K ζ k).2 v0 v1 v3 v4 s10) else (some (v4, s10))) else ((lfX0_restOn K ζ k).2 v0 v1 v3 v4 s4)) : Option (Int32 × pH)) = some res := hf
      refine lv_iload hx hb dX0_restOn_3 (lv_at hl 3 rfl) ?_
      refine lv_iload_n hx hb dX0_restOn_5 rfl (lv_at hl 2 rfl) ?_
      refine lv_icmp_ge (tgt := 47) hx hb dX0_restOn_6 (by decide) (fun c6 => ?_) (fun c6 => ?_)
      · have hf := dz_t c6 hf
        refine lv_bipush (v := (-2)) hx hb dX0_restOn_47 (by decide) ?_
        obtain ⟨hM1, hS1⟩ : cells = M ∧ slots = S := by have hq := congrArg Prod.snd (Option.some.inj hf); rw [← hq] at hM hS0; have hM : s.heap.size + M = τ.1 := hM; have hS0 : sl0 + S = τ.2.1 := hS0; omega
        refine W.widen (k := M) (n := S) (Nat.le_of_eq hM1) (Nat.le_of_eq hS1) ?_
        exact W.iret (v := (-2)) hx hb hr (fun t ht hW => ⟨⟨(-2), τ, rfl, Option.some.inj hf, z_at ht hH⟩, hS.F ht⟩) hS.2.2 dX0_restOn_49
      · have hf := dz_f c6 hf
        refine lv_aload_n hx hb dX0_restOn_9 rfl (lv_at hl 0 rfl) ?_
        obtain ⟨f1, hf1, hf⟩ := dz_bo hf
        obtain ⟨x2, hx2, hf⟩ := dz_bo hf
        refine va_get (C := RX0) (T := TX0) (N := 7) hx hb hts in_X0 hown hX.K (zrd_P hX hS hH (zob_o hf1)) 0 rfl rfl 0 (by decide) (hts _ q156) (fun _ hq => hq) (zvr_o hx2) dX0_restOn_10 ?_
        refine lv_iload hx hb dX0_restOn_13 (lv_at hl 3 rfl) ?_
        obtain ⟨f5, hf5, hf⟩ := dz_bo hf
        obtain ⟨x3, s4, hx3, hle, hck, hf⟩ := zcl_o hf
        have hc1 : cells + (s4.1 - τ.1) ≤ M := by omega
        have hs1 : slots + (s4.2.1 - τ.2.1) ≤ S := by omega
        refine va_callr (va_runV (As := [.int v4]) (rest := []) ⟨hx, hb, hml, hown, hts⟩ (mtJ2_get l D cA ζ τ x2 v4 K (x3, s4) hx3 (s4.1 - τ.1) (s4.2.1 - τ.2.1) (Nat.add_sub_cancel' hle.1) (Nat.add_sub_cancel' hle.2)) (cwV 1 hts (lw_V q204 q205 q206 q87 q207) rfl rfl rfl (by decide +kernel) ⟨Nat.le_of_ble_eq_true rfl, Nat.le_of_ble_eq_true rfl⟩) (z_preV hX hS hH (zob_o hf5) rfl) rfl rfl hl.1 rfl (lv_room (Nat.le_of_ble_eq_true rfl)) dX0_restOn_15 ⟨hc1, hs1⟩) hS (fun q _ hq => hq) (fun q hq => hq) (fun u r t H1 locs ht hvm hw hB hz hk hS => ?_)
        obtain ⟨hw, hB⟩ := hB
        obtain ⟨hw1, hw2⟩ := Prod.mk.inj hw.symm; subst hw1; subst hw2
        have hH : zH D cA ζ s4 H1 := z_at ht.symm hB
        have hcs : s.heap.size + (cells + (s4.1 - τ.1)) = s4.1 := by omega
        have hss : sl0 + (slots + (s4.2.1 - τ.2.1)) = s4.2.1 := by omega
        replace hcM := And.intro hc1 hs1
        generalize cells + (s4.1 - τ.1) = cells at hcs hcM ⊢; generalize slots + (s4.2.1 - τ.2.1) = slots at hss hcM ⊢
        clear hB hk hz hvm ht hle hck hc1 hs1; generalize H1 = H at hH hS ⊢
        obtain ⟨cf6, f6, hcf6, hf⟩ := dz_co hf
        obtain ⟨hr_f6, hc_f6⟩ := zoL_o hcf6
        refine zL_cast hx hb hown (hts _ q218) hX hS hH hr_f6 hc_f6 dX0_restOn_18 ?_
        obtain ⟨cf7, f7, hcf7, hf⟩ := dz_co hf
        obtain ⟨x8, hx8, hf⟩ := dz_bo hf
        obtain ⟨hr_f7, hc_f7⟩ := zoL_o hcf7
        refine zL_get0 hx hb hts hown hX hS hH hr_f7 hc_f7 (hts _ q541) (zvl_o hx8) dX0_restOn_21 ?_
        refine lv_lload_n hx hb dX0_restOn_24 rfl (lv_at hl 1 rfl) ?_
        refine W.lcmp hx hb dX0_restOn_25 ?_
        refine lv_if_ne (tgt := 41) hx hb dX0_restOn_26 (by decide) (fun c26 => ?_) (fun c26 => ?_)
        · have c26 : ¬ x8 = v1 := fun hq => c26 ((lg_cmp_eq _ _).mpr hq)
          have hf := dz_f c26 hf
          exact ih.2 v0 v1 v3 v4 s4 H locs cells slots hH hS hcs hss hcM ls (lv_sub hl [0, 1, 2, 3] rfl) hf
        · have c26 : x8 = v1 := (lg_cmp_eq _ _).mp c26
          have hf := dz_t c26 hf
          refine lv_aload_n hx hb dX0_restOn_29 rfl (lv_at hl 0 rfl) ?_
          refine lv_iload hx hb dX0_restOn_30 (lv_at hl 3 rfl) ?_
          obtain ⟨f11, hf11, hf⟩ := dz_bo hf
          obtain ⟨x9, s10, hx9, hle, hck, hf⟩ := zcl_o hf
          have hc1 : cells + (s10.1 - s4.1) ≤ M := by omega
          have hs1 : slots + (s10.2.1 - s4.2.1) ≤ S := by omega
          refine va_calli (va_runV (As := [.int v4]) (rest := []) ⟨hx, hb, hml, hown, hts⟩ (mtX0_isRight l D cA ζ s4 v0 v4 K (x9, s10) hx9 (s10.1 - s4.1) (s10.2.1 - s4.2.1) (Nat.add_sub_cancel' hle.1) (Nat.add_sub_cancel' hle.2)) (cwV 1 hts (lw_V q219 q221 qs1 q84 q222) rfl rfl rfl (by decide +kernel) ⟨Nat.le_of_ble_eq_true rfl, Nat.le_of_ble_eq_true rfl⟩) (z_preV hX hS hH (zob_o hf11) rfl) rfl rfl hl.1 rfl (lv_room (Nat.le_of_ble_eq_true rfl)) dX0_restOn_32 ⟨hc1, hs1⟩) hS (fun q _ hq => hq) (fun q hq => hq) (fun r u t H1 locs ht hvm hw hB hz hk hS => ?_)
          obtain ⟨hw1, hw2⟩ := Prod.mk.inj hw.symm; subst hw1; subst hw2
          have hH : zH D cA ζ s10 H1 := z_at ht.symm hB
          have hcs : s.heap.size + (cells + (s10.1 - s4.1)) = s10.1 := by omega
          have hss : sl0 + (slots + (s10.2.1 - s4.2.1)) = s10.2.1 := by omega
          replace hcM := And.intro hc1 hs1
          generalize cells + (s10.1 - s4.1) = cells at hcs hcM ⊢; generalize slots + (s10.2.1 - s4.2.1) = slots at hss hcM ⊢
          clear hB hk hz hvm ht hle hck hc1 hs1; generalize H1 = H at hH hS ⊢
          refine lv_if_eq (tgt := 41) hx hb dX0_restOn_35 (by decide) (fun c35 => ?_) (fun c35 => ?_)
          · have hf := dz_t c35 hf
            exact ih.2 v0 v1 v3 v4 s10 H locs cells slots hH hS hcs hss hcM ls (lv_sub hl [0, 1, 2, 3] rfl) hf
          · have hf := dz_f c35 hf
            refine lv_iload hx hb dX0_restOn_38 (lv_at hl 3 rfl) ?_
            obtain ⟨hM1, hS1⟩ : cells = M ∧ slots = S := by have hq := congrArg Prod.snd (Option.some.inj hf); rw [← hq] at hM hS0; have hM : s.heap.size + M = s10.1 := hM; have hS0 : sl0 + S = s10.2.1 := hS0; omega
            refine W.widen (k := M) (n := S) (Nat.le_of_eq hM1) (Nat.le_of_eq hS1) ?_
            exact W.iret (v := v4) hx hb hr (fun t ht hW => ⟨⟨v4, s10, rfl, Option.some.inj hf, z_at ht hH⟩, hS.F ht⟩) hS.2.2 dX0_restOn_40
    · intro v0 v1 v3 v4 τ H locs cells slots hH hS hcs hss hcM ls hl hf
      have hf : (dz_l (v4 + 1) fun x1 => (lfX0_restOn K ζ k).1 v0 v1 v3 x1 τ : Option (Int32 × pH)) = some res := hf
      obtain ⟨x1, e_x1, hf⟩ := dz_lo hf
      refine lv_iinc (v := x1) (lv' := [(4, .int x1), (0, .ref v0), (1, .long v1), (3, .int v3)]) hx hb dX0_restOn_41 hl (k := 3) rfl (by rw [e_x1]; rfl) (by decide) rfl (fun ls hl => ?_)
      refine lv_goto (tgt := 3) hx hb dX0_restOn_44 (by decide) ?_
      exact ih.1 v0 v1 v3 x1 τ H locs cells slots hH hS hcs hss hcM ls (lv_sub hl [1, 2, 3, 0] rfl) hf
set_option maxHeartbeats 4000000 in
set_option maxRecDepth 100000 in
theorem mtX0_restOn (l : Launch) (D : va_G) (cA : Nat → ClassId) (ζ : pZ) (τ : pH) (h : Nat) (a0 : Int64) (a1 : Int32) (K : Nat) (res : (Int32 × pH)) (hf : fnX0_restOn K ζ h a0 a1 τ = some res) (M S : Nat) (hM : τ.1 + M = res.2.1) (hS0 : τ.2.1 + S = res.2.2.1) : Met l yX0_restOn (ws_ yX0_restOn cX0_restOn 5 (some .int)) ({ frames := 104, cells := M, slots := S, locals := 2395 }) (zPc D cA ζ τ [.ref h, .long a0, .int a1]) (zQi D cA ζ res) M S (zA ζ) := by
  refine Met.ofW (cc := cX0_restOn) (maxL := 5) (ret := some .int) (by decide +kernel) rfl ?_
  intro p e s m args below meth c s₁ B hml hv
  obtain ⟨rfl, hX, hH⟩ := hv
  have hx := B.exec
  have hb := B.bytes
  have hr := B.returns
  have hts := atoms_spec (ws := ws_ yX0_restOn cX0_restOn 5 (some .int)) B.pre
  have hts : ∀ w ∈ lw_all, w.before _ s = true := fun w h => hts w (List.mem_cons_of_mem _ h)
  have hown : s.vm.findClass RX0 = some m.cls := findClass_of_methodNamed B.named
  have hlocks := B.notSynchronized
  have hM : s.heap.size + M = res.2.1 := by rw [hH.1]; exact hM
  have hcs : s.heap.size + 0 = τ.1 := hH.1
  have hss : τ.2.1 + 0 = τ.2.1 := rfl
  generalize hsl0 : τ.2.1 = sl0 at hS0 hss
  have hss : sl0 + 0 = τ.2.1 := by rw [hsl0]; rfl
  have hS : va_S (zA ζ) s.heap s.heap [] := va_S.rf
  generalize hHe : s.heap = H at hH hS ⊢
  have hS : va_S (zA ζ) s.heap H [] := by rw [hHe]; exact hS
  generalize ([] : List Loc) = locs at hS ⊢
  have hl := lv_entry ([.ref h, .long a0, .int a1]) (n := 5) (Nat.le_of_ble_eq_true rfl)
  rw [lg_entry_eq]
  generalize (lg_sl ([.ref h, .long a0, .int a1]) ++ List.replicate (5 - (lg_sl ([.ref h, .long a0, .int a1])).length) Slot.unset).toArray = ls at hl ⊢
  have hl : lv_has ls 5 [(0, .ref h), (1, .long a0), (3, .int a1)] := hl
  have hf : ((lfX0_restOn K ζ K).1 h a0 a1 0 τ : Option (Int32 × pH)) = some res := hf
  refine z_gen (fun cells slots hc0 hs0 => ?_)
  have hcs : s.heap.size + cells = τ.1 := by rw [hc0]; exact hcs
  have hss : sl0 + slots = τ.2.1 := by rw [hs0]; exact hss
  have hcM : cells ≤ M ∧ slots ≤ S := by rw [hc0, hs0]; exact ⟨Nat.zero_le _, Nat.zero_le _⟩
  clear hc0 hs0
  have ih := wlX0_restOn (l := l) (e := e) (below := below) (D := D) (cA := cA) hX K res M S sl0 hM hS0 h a0 a1 hx hb hr hlocks hml hown hts K
  refine lv_iconst (v := 0) hx hb dX0_restOn_0 (by decide) ?_
  refine lv_istore (lv' := [(4, .int 0), (0, .ref h), (1, .long a0), (3, .int a1)]) hx hb dX0_restOn_1 hl (by decide) rfl (fun ls hl => ?_)
  exact ih.1 h a0 a1 0 τ H locs cells slots hH hS hcs hss hcM ls (lv_sub hl [1, 2, 3, 0] rfl) hf

noncomputable def fnX8_init (K : Nat) (ζ : pZ) (h : Nat) (τ : pH) : Option (Unit × pH) := dz_l τ.1 fun r1 => dz_l (znw τ 9 (.inl (5, (9, .inr (.inr (.inr (.inr (fun _ => none)))))))) fun s2 => zck s2 (dz_b (zwo ζ s2 h 10 0) fun f3 => dz_l (zst s2 h (.inr (10, f3.set 0 (.ref r1)))) fun s4 => some ((), s4))
set_option maxHeartbeats 4000000 in
set_option maxRecDepth 100000 in
theorem mtX8_init (l : Launch) (D : va_G) (cA : Nat → ClassId) (ζ : pZ) (τ : pH) (h : Nat) (K : Nat) (res : (Unit × pH)) (hf : fnX8_init K ζ h τ = some res) (M S : Nat) (hM : τ.1 + M = res.2.1) (hS0 : τ.2.1 + S = res.2.2.1) : Met l yX8_init (ws_ yX8_init cX8_init 1 (none)) ({ frames := 1, cells := M, slots := S, locals := 20 }) (zPc D cA ζ τ [.ref h]) (zQv D cA ζ res) M S (zA ζ) := by
  refine Met.ofW (cc := cX8_init) (maxL := 1) (ret := none) (by decide +kernel) rfl ?_
  intro p e s m args below meth c s₁ B hml hv
  obtain ⟨rfl, hX, hH⟩ := hv
  have hx := B.exec
  have hb := B.bytes
  have hr := B.returns
  have hts := atoms_spec (ws := ws_ yX8_init cX8_init 1 (none)) B.pre
  have hts : ∀ w ∈ lw_all, w.before _ s = true := fun w h => hts w (List.mem_cons_of_mem _ h)
  have hown : s.vm.findClass RX8 = some m.cls := findClass_of_methodNamed B.named
  have hlocks := B.notSynchronized
  have hin : meth.name = "<init>" := (name_of_methodNamed B.named B.method).1
  have hM : s.heap.size + M = res.2.1 := by rw [hH.1]; exact hM
  have hcs : s.heap.size + 0 = τ.1 := hH.1
  have hss : τ.2.1 + 0 = τ.2.1 := rfl
  generalize hsl0 : τ.2.1 = sl0 at hS0 hss
  have hss : sl0 + 0 = τ.2.1 := by rw [hsl0]; rfl
  have hS : va_S (zA ζ) s.heap s.heap [] := va_S.rf
  generalize hHe : s.heap = H at hH hS ⊢
  have hS : va_S (zA ζ) s.heap H [] := by rw [hHe]; exact hS
  generalize ([] : List Loc) = locs at hS ⊢
  have hl := lv_entry ([.ref h]) (n := 1) (Nat.le_of_ble_eq_true rfl)
  rw [lg_entry_eq]
  generalize (lg_sl ([.ref h]) ++ List.replicate (1 - (lg_sl ([.ref h])).length) Slot.unset).toArray = ls at hl ⊢
  have hl : lv_has ls 1 [(0, .ref h)] := hl
  have hf : (dz_l τ.1 fun r1 => dz_l (znw τ 9 (.inl (5, (9, .inr (.inr (.inr (.inr (fun _ => none)))))))) fun s2 => zck s2 (dz_b (zwo ζ s2 h 10 0) fun f3 => dz_l (zst s2 h (.inr (10, f3.set 0 (.ref r1)))) fun s4 => some ((), s4)) : Option (Unit × pH)) = some res := hf
  refine z_gen (fun cells slots hc0 hs0 => ?_)
  have hcs : s.heap.size + cells = τ.1 := by rw [hc0]; exact hcs
  have hss : sl0 + slots = τ.2.1 := by rw [hs0]; exact hss
  have hcM : cells ≤ M ∧ slots ≤ S := by rw [hc0, hs0]; exact ⟨Nat.zero_le _, Nat.zero_le _⟩
  clear hc0 hs0
  refine lv_aload_n hx hb dX8_init_0 rfl (lv_at hl 0 rfl) ?_
  refine W.objInit hx hb hown (hts _ q513) (hts _ q125) (hts _ q126) rfl (by rw [hml]; exact hl.1) rfl dX8_init_1 (Nat.le_of_ble_eq_true rfl) (Nat.le_of_ble_eq_true rfl) ?_
  refine W.eq (g2 := F0 m 4 ls []) rfl ?_
  refine lv_aload_n hx hb dX8_init_4 rfl (lv_at hl 0 rfl) ?_
  refine lv_bipush (v := 9) hx hb dX8_init_5 (by decide) ?_
  obtain ⟨r1, e_r1, hf⟩ := dz_lo hf
  obtain ⟨s2, e_s2, hf⟩ := dz_lo hf
  obtain ⟨hck, hf⟩ := zck_o hf
  have hc1 : cells + 1 ≤ M := by have hq := hck.1; rw [e_s2] at hq; have hq : τ.1 + 1 ≤ res.2.1 := hq; omega
  have hs1 : slots + 9 ≤ S := by have hq := hck.2; rw [e_s2] at hq; have hq : τ.2.1 + 9 ≤ res.2.2.1 := hq; omega
  refine va_newq (C := "PrimeProofs$Row") (N' := 9) hx hb hown (hts _ q320) (hX.AO 1 rfl) hX.K hH.2.2 zw_D hS hX.hA (by decide) rfl (by decide) hc1 hs1 dX8_init_7 (fun q cQ H1 hK1 hP1 hD1 hS => dz_size (fun hz => ?_))
  obtain rfl : cQ = cA 5 := zK_arr hX.K hK1 5 rfl
  obtain ⟨hq, hH⟩ := zH_new (n := 9) (x := (.inl (5, (9, .inr (.inr (.inr (.inr (fun _ => none)))))))) hH hcs hP1 hD1 hz
  rw [← e_s2] at hH; obtain rfl : r1 = q := e_r1.trans hq.symm
  have hcs : s.heap.size + (cells + 1) = s2.1 := by rw [e_s2]; show _ = τ.1 + 1; omega
  have hss : sl0 + (slots + 9) = s2.2.1 := by rw [e_s2]; show _ = τ.2.1 + 9; omega
  replace hcM := And.intro hc1 hs1
  generalize cells + 1 = cells at hcs hcM ⊢; generalize slots + 9 = slots at hss hcM ⊢
  clear hP1 hD1 hz hq hck hc1 hs1; generalize H1 = H at hH hS ⊢
  obtain ⟨f3, hf3, hf⟩ := dz_bo hf
  obtain ⟨ha_f3, he_f3, hk_f3⟩ := zwo_o hf3
  refine va_putF (C := RX8) (T := TX8) (N := 2) hx hb hts in_X8 tyX8 tyX8_ok nmX8 hown hX.K hH.2.2 zw_D hS _ (zw_o ha_f3 he_f3) rfl 0 (by decide) (hts _ q515) (fun _ hq => hq) rfl hin rfl rfl rfl rfl hk_f3 dX8_init_10 (fun H1 locs hP1 _ hS => dz_size (fun hz => ?_))
  obtain ⟨s4, e_s4, hf⟩ := dz_lo hf
  have hH := zH_put (x := .inr (10, f3.set 0 (.ref r1))) hH hcs ha_f3 hP1 hz
  rw [← e_s4] at hH
  have hcs : s.heap.size + cells = s4.1 := by rw [e_s4]; exact hcs
  have hss : sl0 + slots = s4.2.1 := by rw [e_s4]; exact hss
  clear hP1 hz; generalize H1 = H at hH hS ⊢
  obtain ⟨hM1, hS1⟩ : cells = M ∧ slots = S := by have hq := congrArg Prod.snd (Option.some.inj hf); rw [← hq] at hM hS0; have hM : s.heap.size + M = s4.1 := hM; have hS0 : sl0 + S = s4.2.1 := hS0; omega
  refine W.widen (k := M) (n := S) (Nat.le_of_eq hM1) (Nat.le_of_eq hS1) ?_
  exact W.vret hx hb hr (fun t ht hW => ⟨⟨s4, rfl, Option.some.inj hf, z_at ht hH⟩, hS.F ht⟩) hS.2.2 dX8_init_13

noncomputable def fnX6_init_5 (K : Nat) (ζ : pZ) (h : Nat) (a0 : Nat) (a1 : Int64) (a2 : Int32) (τ : pH) : Option (Unit × pH) := dz_b (zwo ζ τ h 5 6) fun f1 => dz_l (zst τ h (.inr (5, f1.set 6 (.ref a0)))) fun s2 => dz_l s2.1 fun r3 => dz_l (znw s2 2 (.inr (10, [.null, .int 0]))) fun s4 => zck s4 (zcl s4 (fnX8_init K ζ r3 s4) fun _ s6 => dz_b (zwo ζ s6 h 5 4) fun f7 => dz_l (zst s6 h (.inr (5, f7.set 4 (.ref r3)))) fun s8 => dz_l s8.1 fun r9 => dz_l (znw s8 2 (.inr (10, [.null, .int 0]))) fun s10 => zck s10 (zcl s10 (fnX8_init K ζ r9 s10) fun _ s12 => dz_b (zwo ζ s12 h 5 5) fun f13 => dz_l (zst s12 h (.inr (5, f13.set 5 (.ref r9)))) fun s14 => dz_b (zwo ζ s14 h 5 0) fun f15 => dz_l (zst s14 h (.inr (5, f15.set 0 (.long a1)))) fun s16 => dz_b (zwo ζ s16 h 5 1) fun f17 => dz_l (zst s16 h (.inr (5, f17.set 1 (.int a2)))) fun s18 => some ((), s18)))
set_option maxHeartbeats 4000000 in
set_option maxRecDepth 100000 in
theorem mtX6_init_5 (l : Launch) (D : va_G) (cA : Nat → ClassId) (ζ : pZ) (τ : pH) (h : Nat) (a0 : Nat) (a1 : Int64) (a2 : Int32) (K : Nat) (res : (Unit × pH)) (hf : fnX6_init_5 K ζ h a0 a1 a2 τ = some res) (M S : Nat) (hM : τ.1 + M = res.2.1) (hS0 : τ.2.1 + S = res.2.2.1) : Met l yX6_init (ws_ yX6_init cX6_init 5 (none)) ({ frames := 2, cells := M, slots := S, locals := 40 }) (zPc D cA ζ τ [.ref h, .ref a0, .long a1, .int a2]) (zQv D cA ζ res) M S (zA ζ) := by
  refine Met.ofW (cc := cX6_init) (maxL := 5) (ret := none) (by decide +kernel) rfl ?_
  intro p e s m args below meth c s₁ B hml hv
  obtain ⟨rfl, hX, hH⟩ := hv
  have hx := B.exec
  have hb := B.bytes
  have hr := B.returns
  have hts := atoms_spec (ws := ws_ yX6_init cX6_init 5 (none)) B.pre
  have hts : ∀ w ∈ lw_all, w.before _ s = true := fun w h => hts w (List.mem_cons_of_mem _ h)
  have hown : s.vm.findClass RX6 = some m.cls := findClass_of_methodNamed B.named
  have hlocks := B.notSynchronized
  have hin : meth.name = "<init>" := (name_of_methodNamed B.named B.method).1
  have hM : s.heap.size + M = res.2.1 := by rw [hH.1]; exact hM
  have hcs : s.heap.size + 0 = τ.1 := hH.1
  have hss : τ.2.1 + 0 = τ.2.1 := rfl
  generalize hsl0 : τ.2.1 = sl0 at hS0 hss
  have hss : sl0 + 0 = τ.2.1 := by rw [hsl0]; rfl
  have hS : va_S (zA ζ) s.heap s.heap [] := va_S.rf
  generalize hHe : s.heap = H at hH hS ⊢
  have hS : va_S (zA ζ) s.heap H [] := by rw [hHe]; exact hS
  generalize ([] : List Loc) = locs at hS ⊢
  have hl := lv_entry ([.ref h, .ref a0, .long a1, .int a2]) (n := 5) (Nat.le_of_ble_eq_true rfl)
  rw [lg_entry_eq]
  generalize (lg_sl ([.ref h, .ref a0, .long a1, .int a2]) ++ List.replicate (5 - (lg_sl ([.ref h, .ref a0, .long a1, .int a2])).length) Slot.unset).toArray = ls at hl ⊢
  have hl : lv_has ls 5 [(0, .ref h), (1, .ref a0), (2, .long a1), (4, .int a2)] := hl
  have hf : (dz_b (zwo ζ τ h 5 6) fun f1 => dz_l (zst τ h (.inr (5, f1.set 6 (.ref a0)))) fun s2 => dz_l s2.1 fun r3 => dz_l (znw s2 2 (.inr (10, [.null, .int 0]))) fun s4 => zck s4 (zcl s4 (fnX8_init K ζ r3 s4) fun _ s6 => dz_b (zwo ζ s6 h 5 4) fun f7 => dz_l (zst s6 h (.inr (5, f7.set 4 (.ref r3)))) fun s8 => dz_l s8.1 fun r9 => dz_l (znw s8 2 (.inr (10, [.null, .int 0]))) fun s10 => zck s10 (zcl s10 (fnX8_init K ζ r9 s10) fun _ s12 => dz_b (zwo ζ s12 h 5 5) fun f13 => dz_l (zst s12 h (.inr (5, f13.set 5 (.ref r9)))) fun s14 => dz_b (zwo ζ s14 h 5 0) fun f15 => dz_l (zst s14 h (.inr (5, f15.set 0 (.long a1)))) fun s16 => dz_b (zwo ζ s16 h 5 1) fun f17 => dz_l (zst s16 h (.inr (5, f17.set 1 (.int a2)))) fun s18 => some ((), s18))) : Option (Unit × pH)) = some res := hf
  refine z_gen (fun cells slots hc0 hs0 => ?_)
  have hcs : s.heap.size + cells = τ.1 := by rw [hc0]; exact hcs
  have hss : sl0 + slots = τ.2.1 := by rw [hs0]; exact hss
  have hcM : cells ≤ M ∧ slots ≤ S := by rw [hc0, hs0]; exact ⟨Nat.zero_le _, Nat.zero_le _⟩
  clear hc0 hs0
  refine lv_aload_n hx hb dX6_init_0 rfl (lv_at hl 0 rfl) ?_
  refine lv_aload_n hx hb dX6_init_1 rfl (lv_at hl 1 rfl) ?_
  obtain ⟨f1, hf1, hf⟩ := dz_bo hf
  obtain ⟨ha_f1, he_f1, hk_f1⟩ := zwo_o hf1
  refine zq_putF (C := RX7) (T := TX7) (N := 8) hx hb hts in_X7 tyX7 tyX7_ok nmX7 hown hX.K hH.2.2 zw_D hS _ (zw_o ha_f1 he_f1) rfl 6 (by decide) (hts _ q566) (fun _ hq => hq) rfl hin rfl rfl rfl rfl hk_f1 dX6_init_2 (fun H1 locs hP1 _ hS => dz_size (fun hz => ?_))
  obtain ⟨s2, e_s2, hf⟩ := dz_lo hf
  have hH := zH_put (x := .inr (5, f1.set 6 (.ref a0))) hH hcs ha_f1 hP1 hz
  rw [← e_s2] at hH
  have hcs : s.heap.size + cells = s2.1 := by rw [e_s2]; exact hcs
  have hss : sl0 + slots = s2.2.1 := by rw [e_s2]; exact hss
  clear hP1 hz; generalize H1 = H at hH hS ⊢
  refine lv_aload_n hx hb dX6_init_5 rfl (lv_at hl 0 rfl) ?_
  refine W.objInit hx hb hown (hts _ q507) (hts _ q125) (hts _ q126) rfl (by rw [hml]; exact hl.1) rfl dX6_init_6 (Nat.le_of_ble_eq_true rfl) (Nat.le_of_ble_eq_true rfl) ?_
  refine W.eq (g2 := F0 m 9 ls []) rfl ?_
  refine lv_aload_n hx hb dX6_init_9 rfl (lv_at hl 0 rfl) ?_
  obtain ⟨r3, e_r3, hf⟩ := dz_lo hf
  obtain ⟨s4, e_s4, hf⟩ := dz_lo hf
  obtain ⟨hck, hf⟩ := zck_o hf
  have hc1 : cells + 1 ≤ M := by have hq := hck.1; rw [e_s4] at hq; have hq : s2.1 + 1 ≤ res.2.1 := hq; omega
  have hs1 : slots + 2 ≤ S := by have hq := hck.2; rw [e_s4] at hq; have hq : s2.2.1 + 2 ≤ res.2.2.1 := hq; omega
  refine va_new (ci := 10) (fs := [.null, .int 0]) (C := RX8) (T := TX8) (N := 2) hx hb hts in_X8 tyX8 tyX8_ok hown (hts _ q508) (hts _ q509) (hts _ q98) hX.K hH.2.2 zw_D hS hX.hA rfl zdf_X8 hc1 hs1 dX6_init_10 (fun q H1 hP1 hD1 hS => dz_size (fun hz => ?_))
  obtain ⟨hq, hH⟩ := zH_new (n := 2) (x := (.inr (10, [.null, .int 0]))) hH hcs hP1 hD1 hz
  rw [← e_s4] at hH; obtain rfl : r3 = q := e_r3.trans hq.symm
  have hcs : s.heap.size + (cells + 1) = s4.1 := by rw [e_s4]; show _ = s2.1 + 1; omega
  have hss : sl0 + (slots + 2) = s4.2.1 := by rw [e_s4]; show _ = s2.2.1 + 2; omega
  replace hcM := And.intro hc1 hs1
  generalize cells + 1 = cells at hcs hcM ⊢; generalize slots + 2 = slots at hss hcM ⊢
  clear hP1 hD1 hz hq hck hc1 hs1; generalize H1 = H at hH hS ⊢
  refine lv_dup hx hb dX6_init_13 rfl ?_
  obtain ⟨x5, s6, hx5, hle, hck, hf⟩ := zcl_o hf
  have hc1 : cells + (s6.1 - s4.1) ≤ M := by omega
  have hs1 : slots + (s6.2.1 - s4.2.1) ≤ S := by omega
  refine va_callv (va_runIN (As := []) (rest := [.ref r3, .ref h]) ⟨hx, hb, hml, hown, hts⟩ (mtX8_init l D cA ζ s4 r3 K (x5, s6) hx5 (s6.1 - s4.1) (s6.2.1 - s4.2.1) (Nat.add_sub_cancel' hle.1) (Nat.add_sub_cancel' hle.2)) ⟨va_cnB 0 hts (lw_meth q512) rfl rfl rfl (hX.N q510 rfl) (hts _ q98) (by decide +kernel) ⟨Nat.le_of_ble_eq_true rfl, Nat.le_of_ble_eq_true rfl⟩, rfl, hts _ q511⟩ (z_preS hX hS hH) rfl rfl hl.1 rfl (lv_room (Nat.le_of_ble_eq_true rfl)) dX6_init_14 ⟨hc1, hs1⟩) hS (fun q _ hq => hq) (fun q hq => hq) (fun u t H1 locs ht hvm hw hB hz hk hS => ?_)
  obtain ⟨-, hw2⟩ := Prod.mk.inj hw.symm; subst hw2
  have hH : zH D cA ζ s6 H1 := z_at ht.symm hB
  have hcs : s.heap.size + (cells + (s6.1 - s4.1)) = s6.1 := by omega
  have hss : sl0 + (slots + (s6.2.1 - s4.2.1)) = s6.2.1 := by omega
  replace hcM := And.intro hc1 hs1
  generalize cells + (s6.1 - s4.1) = cells at hcs hcM ⊢; generalize slots + (s6.2.1 - s4.2.1) = slots at hss hcM ⊢
  clear hB hk hz hvm ht hle hck hc1 hs1; generalize H1 = H at hH hS ⊢
  obtain ⟨f7, hf7, hf⟩ := dz_bo hf
  obtain ⟨ha_f7, he_f7, hk_f7⟩ := zwo_o hf7
  refine zq_putF (C := RX7) (T := TX7) (N := 8) hx hb hts in_X7 tyX7 tyX7_ok nmX7 hown hX.K hH.2.2 zw_D hS _ (zw_o ha_f7 he_f7) rfl 4 (by decide) (hts _ q550) (fun _ hq => hq) rfl hin rfl rfl rfl rfl hk_f7 dX6_init_17 (fun H1 locs hP1 _ hS => dz_size (fun hz => ?_))
  obtain ⟨s8, e_s8, hf⟩ := dz_lo hf
  have hH := zH_put (x := .inr (5, f7.set 4 (.ref r3))) hH hcs ha_f7 hP1 hz
  rw [← e_s8] at hH
  have hcs : s.heap.size + cells = s8.1 := by rw [e_s8]; exact hcs
  have hss : sl0 + slots = s8.2.1 := by rw [e_s8]; exact hss
  clear hP1 hz; generalize H1 = H at hH hS ⊢
  refine lv_aload_n hx hb dX6_init_20 rfl (lv_at hl 0 rfl) ?_
  obtain ⟨r9, e_r9, hf⟩ := dz_lo hf
  obtain ⟨s10, e_s10, hf⟩ := dz_lo hf
  obtain ⟨hck, hf⟩ := zck_o hf
  have hc1 : cells + 1 ≤ M := by have hq := hck.1; rw [e_s10] at hq; have hq : s8.1 + 1 ≤ res.2.1 := hq; omega
  have hs1 : slots + 2 ≤ S := by have hq := hck.2; rw [e_s10] at hq; have hq : s8.2.1 + 2 ≤ res.2.2.1 := hq; omega
  refine va_new (ci := 10) (fs := [.null, .int 0]) (C := RX8) (T := TX8) (N := 2) hx hb hts in_X8 tyX8 tyX8_ok hown (hts _ q508) (hts _ q509) (hts _ q98) hX.K hH.2.2 zw_D hS hX.hA rfl zdf_X8 hc1 hs1 dX6_init_21 (fun q H1 hP1 hD1 hS => dz_size (fun hz => ?_))
  obtain ⟨hq, hH⟩ := zH_new (n := 2) (x := (.inr (10, [.null, .int 0]))) hH hcs hP1 hD1 hz
  rw [← e_s10] at hH; obtain rfl : r9 = q := e_r9.trans hq.symm
  have hcs : s.heap.size + (cells + 1) = s10.1 := by rw [e_s10]; show _ = s8.1 + 1; omega
  have hss : sl0 + (slots + 2) = s10.2.1 := by rw [e_s10]; show _ = s8.2.1 + 2; omega
  replace hcM := And.intro hc1 hs1
  generalize cells + 1 = cells at hcs hcM ⊢; generalize slots + 2 = slots at hss hcM ⊢
  clear hP1 hD1 hz hq hck hc1 hs1; generalize H1 = H at hH hS ⊢
  refine lv_dup hx hb dX6_init_24 rfl ?_
  obtain ⟨x11, s12, hx11, hle, hck, hf⟩ := zcl_o hf
  have hc1 : cells + (s12.1 - s10.1) ≤ M := by omega
  have hs1 : slots + (s12.2.1 - s10.2.1) ≤ S := by omega
  refine va_callv (va_runIN (As := []) (rest := [.ref r9, .ref h]) ⟨hx, hb, hml, hown, hts⟩ (mtX8_init l D cA ζ s10 r9 K (x11, s12) hx11 (s12.1 - s10.1) (s12.2.1 - s10.2.1) (Nat.add_sub_cancel' hle.1) (Nat.add_sub_cancel' hle.2)) ⟨va_cnB 0 hts (lw_meth q512) rfl rfl rfl (hX.N q510 rfl) (hts _ q98) (by decide +kernel) ⟨Nat.le_of_ble_eq_true rfl, Nat.le_of_ble_eq_true rfl⟩, rfl, hts _ q511⟩ (z_preS hX hS hH) rfl rfl hl.1 rfl (lv_room (Nat.le_of_ble_eq_true rfl)) dX6_init_25 ⟨hc1, hs1⟩) hS (fun q _ hq => hq) (fun q hq => hq) (fun u t H1 locs ht hvm hw hB hz hk hS => ?_)
  obtain ⟨-, hw2⟩ := Prod.mk.inj hw.symm; subst hw2
  have hH : zH D cA ζ s12 H1 := z_at ht.symm hB
  have hcs : s.heap.size + (cells + (s12.1 - s10.1)) = s12.1 := by omega
  have hss : sl0 + (slots + (s12.2.1 - s10.2.1)) = s12.2.1 := by omega
  replace hcM := And.intro hc1 hs1
  generalize cells + (s12.1 - s10.1) = cells at hcs hcM ⊢; generalize slots + (s12.2.1 - s10.2.1) = slots at hss hcM ⊢
  clear hB hk hz hvm ht hle hck hc1 hs1; generalize H1 = H at hH hS ⊢
  obtain ⟨f13, hf13, hf⟩ := dz_bo hf
  obtain ⟨ha_f13, he_f13, hk_f13⟩ := zwo_o hf13
  refine zq_putF (C := RX7) (T := TX7) (N := 8) hx hb hts in_X7 tyX7 tyX7_ok nmX7 hown hX.K hH.2.2 zw_D hS _ (zw_o ha_f13 he_f13) rfl 5 (by decide) (hts _ q559) (fun _ hq => hq) rfl hin rfl rfl rfl rfl hk_f13 dX6_init_28 (fun H1 locs hP1 _ hS => dz_size (fun hz => ?_))
  obtain ⟨s14, e_s14, hf⟩ := dz_lo hf
  have hH := zH_put (x := .inr (5, f13.set 5 (.ref r9))) hH hcs ha_f13 hP1 hz
  rw [← e_s14] at hH
  have hcs : s.heap.size + cells = s14.1 := by rw [e_s14]; exact hcs
  have hss : sl0 + slots = s14.2.1 := by rw [e_s14]; exact hss
  clear hP1 hz; generalize H1 = H at hH hS ⊢
  refine lv_aload_n hx hb dX6_init_31 rfl (lv_at hl 0 rfl) ?_
  refine lv_lload_n hx hb dX6_init_32 rfl (lv_at hl 2 rfl) ?_
  obtain ⟨f15, hf15, hf⟩ := dz_bo hf
  obtain ⟨ha_f15, he_f15, hk_f15⟩ := zwo_o hf15
  refine zq_put (C := RX7) (T := TX7) (N := 8) hx hb hts in_X7 tyX7 tyX7_ok nmX7 hown hX.K hH.2.2 zw_D hS _ (zw_o ha_f15 he_f15) rfl 0 (by decide) (hts _ q532) (fun _ hq => hq) rfl rfl rfl rfl hk_f15 dX6_init_33 (fun H1 locs hP1 _ hS => dz_size (fun hz => ?_))
  obtain ⟨s16, e_s16, hf⟩ := dz_lo hf
  have hH := zH_put (x := .inr (5, f15.set 0 (.long a1))) hH hcs ha_f15 hP1 hz
  rw [← e_s16] at hH
  have hcs : s.heap.size + cells = s16.1 := by rw [e_s16]; exact hcs
  have hss : sl0 + slots = s16.2.1 := by rw [e_s16]; exact hss
  clear hP1 hz; generalize H1 = H at hH hS ⊢
  refine lv_aload_n hx hb dX6_init_36 rfl (lv_at hl 0 rfl) ?_
  refine lv_iload hx hb dX6_init_37 (lv_at hl 3 rfl) ?_
  obtain ⟨f17, hf17, hf⟩ := dz_bo hf
  obtain ⟨ha_f17, he_f17, hk_f17⟩ := zwo_o hf17
  refine zq_putF (C := RX7) (T := TX7) (N := 8) hx hb hts in_X7 tyX7 tyX7_ok nmX7 hown hX.K hH.2.2 zw_D hS _ (zw_o ha_f17 he_f17) rfl 1 (by decide) (hts _ q542) (fun _ hq => hq) rfl hin rfl rfl rfl rfl hk_f17 dX6_init_39 (fun H1 locs hP1 _ hS => dz_size (fun hz => ?_))
  obtain ⟨s18, e_s18, hf⟩ := dz_lo hf
  have hH := zH_put (x := .inr (5, f17.set 1 (.int a2))) hH hcs ha_f17 hP1 hz
  rw [← e_s18] at hH
  have hcs : s.heap.size + cells = s18.1 := by rw [e_s18]; exact hcs
  have hss : sl0 + slots = s18.2.1 := by rw [e_s18]; exact hss
  clear hP1 hz; generalize H1 = H at hH hS ⊢
  obtain ⟨hM1, hS1⟩ : cells = M ∧ slots = S := by have hq := congrArg Prod.snd (Option.some.inj hf); rw [← hq] at hM hS0; have hM : s.heap.size + M = s18.1 := hM; have hS0 : sl0 + S = s18.2.1 := hS0; omega
  refine W.widen (k := M) (n := S) (Nat.le_of_eq hM1) (Nat.le_of_eq hS1) ?_
  exact W.vret hx hb hr (fun t ht hW => ⟨⟨s18, rfl, Option.some.inj hf, z_at ht hH⟩, hS.F ht⟩) hS.2.2 dX6_init_42

noncomputable def fnX7_init (K : Nat) (ζ : pZ) (h : Nat) (a0 : Nat) (a1 : Int64) (τ : pH) : Option (Unit × pH) := dz_b (zwo ζ τ h 5 7) fun f1 => dz_l (zst τ h (.inr (5, f1.set 7 (.ref a0)))) fun s2 => zcl s2 (fnX6_init_5 K ζ h a0 a1 0 s2) fun _ s4 => some ((), s4)
set_option maxHeartbeats 4000000 in
set_option maxRecDepth 100000 in
theorem mtX7_init (l : Launch) (D : va_G) (cA : Nat → ClassId) (ζ : pZ) (τ : pH) (h : Nat) (a0 : Nat) (a1 : Int64) (K : Nat) (res : (Unit × pH)) (hf : fnX7_init K ζ h a0 a1 τ = some res) (M S : Nat) (hM : τ.1 + M = res.2.1) (hS0 : τ.2.1 + S = res.2.2.1) : Met l yX7_init (ws_ yX7_init cX7_init 4 (none)) ({ frames := 3, cells := M, slots := S, locals := 64 }) (zPc D cA ζ τ [.ref h, .ref a0, .long a1]) (zQv D cA ζ res) M S (zA ζ) := by
  refine Met.ofW (cc := cX7_init) (maxL := 4) (ret := none) (by decide +kernel) rfl ?_
  intro p e s m args below meth c s₁ B hml hv
  obtain ⟨rfl, hX, hH⟩ := hv
  have hx := B.exec
  have hb := B.bytes
  have hr := B.returns
  have hts := atoms_spec (ws := ws_ yX7_init cX7_init 4 (none)) B.pre
  have hts : ∀ w ∈ lw_all, w.before _ s = true := fun w h => hts w (List.mem_cons_of_mem _ h)
  have hown : s.vm.findClass RX7 = some m.cls := findClass_of_methodNamed B.named
  have hlocks := B.notSynchronized
  have hin : meth.name = "<init>" := (name_of_methodNamed B.named B.method).1
  have hM : s.heap.size + M = res.2.1 := by rw [hH.1]; exact hM
  have hcs : s.heap.size + 0 = τ.1 := hH.1
  have hss : τ.2.1 + 0 = τ.2.1 := rfl
  generalize hsl0 : τ.2.1 = sl0 at hS0 hss
  have hss : sl0 + 0 = τ.2.1 := by rw [hsl0]; rfl
  have hS : va_S (zA ζ) s.heap s.heap [] := va_S.rf
  generalize hHe : s.heap = H at hH hS ⊢
  have hS : va_S (zA ζ) s.heap H [] := by rw [hHe]; exact hS
  generalize ([] : List Loc) = locs at hS ⊢
  have hl := lv_entry ([.ref h, .ref a0, .long a1]) (n := 4) (Nat.le_of_ble_eq_true rfl)
  rw [lg_entry_eq]
  generalize (lg_sl ([.ref h, .ref a0, .long a1]) ++ List.replicate (4 - (lg_sl ([.ref h, .ref a0, .long a1])).length) Slot.unset).toArray = ls at hl ⊢
  have hl : lv_has ls 4 [(0, .ref h), (1, .ref a0), (2, .long a1)] := hl
  have hf : (dz_b (zwo ζ τ h 5 7) fun f1 => dz_l (zst τ h (.inr (5, f1.set 7 (.ref a0)))) fun s2 => zcl s2 (fnX6_init_5 K ζ h a0 a1 0 s2) fun _ s4 => some ((), s4) : Option (Unit × pH)) = some res := hf
  refine z_gen (fun cells slots hc0 hs0 => ?_)
  have hcs : s.heap.size + cells = τ.1 := by rw [hc0]; exact hcs
  have hss : sl0 + slots = τ.2.1 := by rw [hs0]; exact hss
  have hcM : cells ≤ M ∧ slots ≤ S := by rw [hc0, hs0]; exact ⟨Nat.zero_le _, Nat.zero_le _⟩
  clear hc0 hs0
  refine lv_aload_n hx hb dX7_init_0 rfl (lv_at hl 0 rfl) ?_
  refine lv_aload_n hx hb dX7_init_1 rfl (lv_at hl 1 rfl) ?_
  obtain ⟨f1, hf1, hf⟩ := dz_bo hf
  obtain ⟨ha_f1, he_f1, hk_f1⟩ := zwo_o hf1
  refine zq_putF (C := RX7) (T := TX7) (N := 8) hx hb hts in_X7 tyX7 tyX7_ok nmX7 hown hX.K hH.2.2 zw_D hS _ (zw_o ha_f1 he_f1) rfl 7 (by decide) (hts _ q531) (fun _ hq => hq) rfl hin rfl rfl rfl rfl hk_f1 dX7_init_2 (fun H1 locs hP1 _ hS => dz_size (fun hz => ?_))
  obtain ⟨s2, e_s2, hf⟩ := dz_lo hf
  have hH := zH_put (x := .inr (5, f1.set 7 (.ref a0))) hH hcs ha_f1 hP1 hz
  rw [← e_s2] at hH
  have hcs : s.heap.size + cells = s2.1 := by rw [e_s2]; exact hcs
  have hss : sl0 + slots = s2.2.1 := by rw [e_s2]; exact hss
  clear hP1 hz; generalize H1 = H at hH hS ⊢
  refine lv_aload_n hx hb dX7_init_5 rfl (lv_at hl 0 rfl) ?_
  refine lv_aload_n hx hb dX7_init_6 rfl (lv_at hl 1 rfl) ?_
  refine lv_lload_n hx hb dX7_init_7 rfl (lv_at hl 2 rfl) ?_
  refine lv_iconst (v := 0) hx hb dX7_init_8 (by decide) ?_
  obtain ⟨x3, s4, hx3, hle, hck, hf⟩ := zcl_o hf
  have hc1 : cells + (s4.1 - s2.1) ≤ M := by omega
  have hs1 : slots + (s4.2.1 - s2.2.1) ≤ S := by omega
  refine va_callv (va_runI (As := [.ref a0, .long a1, .int 0]) (rest := []) ⟨hx, hb, hml, hown, hts⟩ (mtX6_init_5 l D cA ζ s2 h a0 a1 0 K (x3, s4) hx3 (s4.1 - s2.1) (s4.2.1 - s2.2.1) (Nat.add_sub_cancel' hle.1) (Nat.add_sub_cancel' hle.2)) (cwI 3 hts (lw_meth q506) rfl rfl rfl (hts _ q96) (hts _ q504) (hts _ q505) rfl (by decide +kernel) ⟨Nat.le_of_ble_eq_true rfl, Nat.le_of_ble_eq_true rfl⟩) (z_preS hX hS hH) rfl rfl hl.1 rfl (lv_room (Nat.le_of_ble_eq_true rfl)) dX7_init_9 ⟨hc1, hs1⟩) hS (fun q _ hq => hq) (fun q hq => hq) (fun u t H1 locs ht hvm hw hB hz hk hS => ?_)
  obtain ⟨-, hw2⟩ := Prod.mk.inj hw.symm; subst hw2
  have hH : zH D cA ζ s4 H1 := z_at ht.symm hB
  have hcs : s.heap.size + (cells + (s4.1 - s2.1)) = s4.1 := by omega
  have hss : sl0 + (slots + (s4.2.1 - s2.2.1)) = s4.2.1 := by omega
  replace hcM := And.intro hc1 hs1
  generalize cells + (s4.1 - s2.1) = cells at hcs hcM ⊢; generalize slots + (s4.2.1 - s2.2.1) = slots at hss hcM ⊢
  clear hB hk hz hvm ht hle hck hc1 hs1; generalize H1 = H at hH hS ⊢
  obtain ⟨hM1, hS1⟩ : cells = M ∧ slots = S := by have hq := congrArg Prod.snd (Option.some.inj hf); rw [← hq] at hM hS0; have hM : s.heap.size + M = s4.1 := hM; have hS0 : sl0 + S = s4.2.1 := hS0; omega
  refine W.widen (k := M) (n := S) (Nat.le_of_eq hM1) (Nat.le_of_eq hS1) ?_
  exact W.vret hx hb hr (fun t ht hW => ⟨⟨s4, rfl, Option.some.inj hf, z_at ht hH⟩, hS.F ht⟩) hS.2.2 dX7_init_12

noncomputable def fnX6_init_6 (K : Nat) (ζ : pZ) (h : Nat) (a0 : Nat) (a1 : Int64) (a2 : Int32) (τ : pH) : Option (Unit × pH) := dz_b (zwo ζ τ h 6 6) fun f1 => dz_l (zst τ h (.inr (6, f1.set 6 (.ref a0)))) fun s2 => dz_l s2.1 fun r3 => dz_l (znw s2 2 (.inr (10, [.null, .int 0]))) fun s4 => zck s4 (zcl s4 (fnX8_init K ζ r3 s4) fun _ s6 => dz_b (zwo ζ s6 h 6 4) fun f7 => dz_l (zst s6 h (.inr (6, f7.set 4 (.ref r3)))) fun s8 => dz_l s8.1 fun r9 => dz_l (znw s8 2 (.inr (10, [.null, .int 0]))) fun s10 => zck s10 (zcl s10 (fnX8_init K ζ r9 s10) fun _ s12 => dz_b (zwo ζ s12 h 6 5) fun f13 => dz_l (zst s12 h (.inr (6, f13.set 5 (.ref r9)))) fun s14 => dz_b (zwo ζ s14 h 6 0) fun f15 => dz_l (zst s14 h (.inr (6, f15.set 0 (.long a1)))) fun s16 => dz_b (zwo ζ s16 h 6 1) fun f17 => dz_l (zst s16 h (.inr (6, f17.set 1 (.int a2)))) fun s18 => some ((), s18)))
set_option maxHeartbeats 4000000 in
set_option maxRecDepth 100000 in
theorem mtX6_init_6 (l : Launch) (D : va_G) (cA : Nat → ClassId) (ζ : pZ) (τ : pH) (h : Nat) (a0 : Nat) (a1 : Int64) (a2 : Int32) (K : Nat) (res : (Unit × pH)) (hf : fnX6_init_6 K ζ h a0 a1 a2 τ = some res) (M S : Nat) (hM : τ.1 + M = res.2.1) (hS0 : τ.2.1 + S = res.2.2.1) : Met l yX6_init (ws_ yX6_init cX6_init 5 (none)) ({ frames := 2, cells := M, slots := S, locals := 40 }) (zPc D cA ζ τ [.ref h, .ref a0, .long a1, .int a2]) (zQv D cA ζ res) M S (zA ζ) := by
  refine Met.ofW (cc := cX6_init) (maxL := 5) (ret := none) (by decide +kernel) rfl ?_
  intro p e s m args below meth c s₁ B hml hv
  obtain ⟨rfl, hX, hH⟩ := hv
  have hx := B.exec
  have hb := B.bytes
  have hr := B.returns
  have hts := atoms_spec (ws := ws_ yX6_init cX6_init 5 (none)) B.pre
  have hts : ∀ w ∈ lw_all, w.before _ s = true := fun w h => hts w (List.mem_cons_of_mem _ h)
  have hown : s.vm.findClass RX6 = some m.cls := findClass_of_methodNamed B.named
  have hlocks := B.notSynchronized
  have hin : meth.name = "<init>" := (name_of_methodNamed B.named B.method).1
  have hM : s.heap.size + M = res.2.1 := by rw [hH.1]; exact hM
  have hcs : s.heap.size + 0 = τ.1 := hH.1
  have hss : τ.2.1 + 0 = τ.2.1 := rfl
  generalize hsl0 : τ.2.1 = sl0 at hS0 hss
  have hss : sl0 + 0 = τ.2.1 := by rw [hsl0]; rfl
  have hS : va_S (zA ζ) s.heap s.heap [] := va_S.rf
  generalize hHe : s.heap = H at hH hS ⊢
  have hS : va_S (zA ζ) s.heap H [] := by rw [hHe]; exact hS
  generalize ([] : List Loc) = locs at hS ⊢
  have hl := lv_entry ([.ref h, .ref a0, .long a1, .int a2]) (n := 5) (Nat.le_of_ble_eq_true rfl)
  rw [lg_entry_eq]
  generalize (lg_sl ([.ref h, .ref a0, .long a1, .int a2]) ++ List.replicate (5 - (lg_sl ([.ref h, .ref a0, .long a1, .int a2])).length) Slot.unset).toArray = ls at hl ⊢
  have hl : lv_has ls 5 [(0, .ref h), (1, .ref a0), (2, .long a1), (4, .int a2)] := hl
  have hf : (dz_b (zwo ζ τ h 6 6) fun f1 => dz_l (zst τ h (.inr (6, f1.set 6 (.ref a0)))) fun s2 => dz_l s2.1 fun r3 => dz_l (znw s2 2 (.inr (10, [.null, .int 0]))) fun s4 => zck s4 (zcl s4 (fnX8_init K ζ r3 s4) fun _ s6 => dz_b (zwo ζ s6 h 6 4) fun f7 => dz_l (zst s6 h (.inr (6, f7.set 4 (.ref r3)))) fun s8 => dz_l s8.1 fun r9 => dz_l (znw s8 2 (.inr (10, [.null, .int 0]))) fun s10 => zck s10 (zcl s10 (fnX8_init K ζ r9 s10) fun _ s12 => dz_b (zwo ζ s12 h 6 5) fun f13 => dz_l (zst s12 h (.inr (6, f13.set 5 (.ref r9)))) fun s14 => dz_b (zwo ζ s14 h 6 0) fun f15 => dz_l (zst s14 h (.inr (6, f15.set 0 (.long a1)))) fun s16 => dz_b (zwo ζ s16 h 6 1) fun f17 => dz_l (zst s16 h (.inr (6, f17.set 1 (.int a2)))) fun s18 => some ((), s18))) : Option (Unit × pH)) = some res := hf
  refine z_gen (fun cells slots hc0 hs0 => ?_)
  have hcs : s.heap.size + cells = τ.1 := by rw [hc0]; exact hcs
  have hss : sl0 + slots = τ.2.1 := by rw [hs0]; exact hss
  have hcM : cells ≤ M ∧ slots ≤ S := by rw [hc0, hs0]; exact ⟨Nat.zero_le _, Nat.zero_le _⟩
  clear hc0 hs0
  refine lv_aload_n hx hb dX6_init_0 rfl (lv_at hl 0 rfl) ?_
  refine lv_aload_n hx hb dX6_init_1 rfl (lv_at hl 1 rfl) ?_
  obtain ⟨f1, hf1, hf⟩ := dz_bo hf
  obtain ⟨ha_f1, he_f1, hk_f1⟩ := zwo_o hf1
  refine zq_putF (C := RX9) (T := TX9) (N := 8) hx hb hts in_X9 tyX9 tyX9_ok nmX9 hown hX.K hH.2.2 zw_D hS _ (zw_o ha_f1 he_f1) rfl 6 (by decide) (hts _ q566) (fun _ hq => hq) rfl hin rfl rfl rfl rfl hk_f1 dX6_init_2 (fun H1 locs hP1 _ hS => dz_size (fun hz => ?_))
  obtain ⟨s2, e_s2, hf⟩ := dz_lo hf
  have hH := zH_put (x := .inr (6, f1.set 6 (.ref a0))) hH hcs ha_f1 hP1 hz
  rw [← e_s2] at hH
  have hcs : s.heap.size + cells = s2.1 := by rw [e_s2]; exact hcs
  have hss : sl0 + slots = s2.2.1 := by rw [e_s2]; exact hss
  clear hP1 hz; generalize H1 = H at hH hS ⊢
  refine lv_aload_n hx hb dX6_init_5 rfl (lv_at hl 0 rfl) ?_
  refine W.objInit hx hb hown (hts _ q507) (hts _ q125) (hts _ q126) rfl (by rw [hml]; exact hl.1) rfl dX6_init_6 (Nat.le_of_ble_eq_true rfl) (Nat.le_of_ble_eq_true rfl) ?_
  refine W.eq (g2 := F0 m 9 ls []) rfl ?_
  refine lv_aload_n hx hb dX6_init_9 rfl (lv_at hl 0 rfl) ?_
  obtain ⟨r3, e_r3, hf⟩ := dz_lo hf
  obtain ⟨s4, e_s4, hf⟩ := dz_lo hf
  obtain ⟨hck, hf⟩ := zck_o hf
  have hc1 : cells + 1 ≤ M := by have hq := hck.1; rw [e_s4] at hq; have hq : s2.1 + 1 ≤ res.2.1 := hq; omega
  have hs1 : slots + 2 ≤ S := by have hq := hck.2; rw [e_s4] at hq; have hq : s2.2.1 + 2 ≤ res.2.2.1 := hq; omega
  refine va_new (ci := 10) (fs := [.null, .int 0]) (C := RX8) (T := TX8) (N := 2) hx hb hts in_X8 tyX8 tyX8_ok hown (hts _ q508) (hts _ q509) (hts _ q98) hX.K hH.2.2 zw_D hS hX.hA rfl zdf_X8 hc1 hs1 dX6_init_10 (fun q H1 hP1 hD1 hS => dz_size (fun hz => ?_))
  obtain ⟨hq, hH⟩ := zH_new (n := 2) (x := (.inr (10, [.null, .int 0]))) hH hcs hP1 hD1 hz
  rw [← e_s4] at hH; obtain rfl : r3 = q := e_r3.trans hq.symm
  have hcs : s.heap.size + (cells + 1) = s4.1 := by rw [e_s4]; show _ = s2.1 + 1; omega
  have hss : sl0 + (slots + 2) = s4.2.1 := by rw [e_s4]; show _ = s2.2.1 + 2; omega
  replace hcM := And.intro hc1 hs1
  generalize cells + 1 = cells at hcs hcM ⊢; generalize slots + 2 = slots at hss hcM ⊢
  clear hP1 hD1 hz hq hck hc1 hs1; generalize H1 = H at hH hS ⊢
  refine lv_dup hx hb dX6_init_13 rfl ?_
  obtain ⟨x5, s6, hx5, hle, hck, hf⟩ := zcl_o hf
  have hc1 : cells + (s6.1 - s4.1) ≤ M := by omega
  have hs1 : slots + (s6.2.1 - s4.2.1) ≤ S := by omega
  refine va_callv (va_runIN (As := []) (rest := [.ref r3, .ref h]) ⟨hx, hb, hml, hown, hts⟩ (mtX8_init l D cA ζ s4 r3 K (x5, s6) hx5 (s6.1 - s4.1) (s6.2.1 - s4.2.1) (Nat.add_sub_cancel' hle.1) (Nat.add_sub_cancel' hle.2)) ⟨va_cnB 0 hts (lw_meth q512) rfl rfl rfl (hX.N q510 rfl) (hts _ q98) (by decide +kernel) ⟨Nat.le_of_ble_eq_true rfl, Nat.le_of_ble_eq_true rfl⟩, rfl, hts _ q511⟩ (z_preS hX hS hH) rfl rfl hl.1 rfl (lv_room (Nat.le_of_ble_eq_true rfl)) dX6_init_14 ⟨hc1, hs1⟩) hS (fun q _ hq => hq) (fun q hq => hq) (fun u t H1 locs ht hvm hw hB hz hk hS => ?_)
  obtain ⟨-, hw2⟩ := Prod.mk.inj hw.symm; subst hw2
  have hH : zH D cA ζ s6 H1 := z_at ht.symm hB
  have hcs : s.heap.size + (cells + (s6.1 - s4.1)) = s6.1 := by omega
  have hss : sl0 + (slots + (s6.2.1 - s4.2.1)) = s6.2.1 := by omega
  replace hcM := And.intro hc1 hs1
  generalize cells + (s6.1 - s4.1) = cells at hcs hcM ⊢; generalize slots + (s6.2.1 - s4.2.1) = slots at hss hcM ⊢
  clear hB hk hz hvm ht hle hck hc1 hs1; generalize H1 = H at hH hS ⊢
  obtain ⟨f7, hf7, hf⟩ := dz_bo hf
  obtain ⟨ha_f7, he_f7, hk_f7⟩ := zwo_o hf7
  refine zq_putF (C := RX9) (T := TX9) (N := 8) hx hb hts in_X9 tyX9 tyX9_ok nmX9 hown hX.K hH.2.2 zw_D hS _ (zw_o ha_f7 he_f7) rfl 4 (by decide) (hts _ q550) (fun _ hq => hq) rfl hin rfl rfl rfl rfl hk_f7 dX6_init_17 (fun H1 locs hP1 _ hS => dz_size (fun hz => ?_))
  obtain ⟨s8, e_s8, hf⟩ := dz_lo hf
  have hH := zH_put (x := .inr (6, f7.set 4 (.ref r3))) hH hcs ha_f7 hP1 hz
  rw [← e_s8] at hH
  have hcs : s.heap.size + cells = s8.1 := by rw [e_s8]; exact hcs
  have hss : sl0 + slots = s8.2.1 := by rw [e_s8]; exact hss
  clear hP1 hz; generalize H1 = H at hH hS ⊢
  refine lv_aload_n hx hb dX6_init_20 rfl (lv_at hl 0 rfl) ?_
  obtain ⟨r9, e_r9, hf⟩ := dz_lo hf
  obtain ⟨s10, e_s10, hf⟩ := dz_lo hf
  obtain ⟨hck, hf⟩ := zck_o hf
  have hc1 : cells + 1 ≤ M := by have hq := hck.1; rw [e_s10] at hq; have hq : s8.1 + 1 ≤ res.2.1 := hq; omega
  have hs1 : slots + 2 ≤ S := by have hq := hck.2; rw [e_s10] at hq; have hq : s8.2.1 + 2 ≤ res.2.2.1 := hq; omega
  refine va_new (ci := 10) (fs := [.null, .int 0]) (C := RX8) (T := TX8) (N := 2) hx hb hts in_X8 tyX8 tyX8_ok hown (hts _ q508) (hts _ q509) (hts _ q98) hX.K hH.2.2 zw_D hS hX.hA rfl zdf_X8 hc1 hs1 dX6_init_21 (fun q H1 hP1 hD1 hS => dz_size (fun hz => ?_))
  obtain ⟨hq, hH⟩ := zH_new (n := 2) (x := (.inr (10, [.null, .int 0]))) hH hcs hP1 hD1 hz
  rw [← e_s10] at hH; obtain rfl : r9 = q := e_r9.trans hq.symm
  have hcs : s.heap.size + (cells + 1) = s10.1 := by rw [e_s10]; show _ = s8.1 + 1; omega
  have hss : sl0 + (slots + 2) = s10.2.1 := by rw [e_s10]; show _ = s8.2.1 + 2; omega
  replace hcM := And.intro hc1 hs1
  generalize cells + 1 = cells at hcs hcM ⊢; generalize slots + 2 = slots at hss hcM ⊢
  clear hP1 hD1 hz hq hck hc1 hs1; generalize H1 = H at hH hS ⊢
  refine lv_dup hx hb dX6_init_24 rfl ?_
  obtain ⟨x11, s12, hx11, hle, hck, hf⟩ := zcl_o hf
  have hc1 : cells + (s12.1 - s10.1) ≤ M := by omega
  have hs1 : slots + (s12.2.1 - s10.2.1) ≤ S := by omega
  refine va_callv (va_runIN (As := []) (rest := [.ref r9, .ref h]) ⟨hx, hb, hml, hown, hts⟩ (mtX8_init l D cA ζ s10 r9 K (x11, s12) hx11 (s12.1 - s10.1) (s12.2.1 - s10.2.1) (Nat.add_sub_cancel' hle.1) (Nat.add_sub_cancel' hle.2)) ⟨va_cnB 0 hts (lw_meth q512) rfl rfl rfl (hX.N q510 rfl) (hts _ q98) (by decide +kernel) ⟨Nat.le_of_ble_eq_true rfl, Nat.le_of_ble_eq_true rfl⟩, rfl, hts _ q511⟩ (z_preS hX hS hH) rfl rfl hl.1 rfl (lv_room (Nat.le_of_ble_eq_true rfl)) dX6_init_25 ⟨hc1, hs1⟩) hS (fun q _ hq => hq) (fun q hq => hq) (fun u t H1 locs ht hvm hw hB hz hk hS => ?_)
  obtain ⟨-, hw2⟩ := Prod.mk.inj hw.symm; subst hw2
  have hH : zH D cA ζ s12 H1 := z_at ht.symm hB
  have hcs : s.heap.size + (cells + (s12.1 - s10.1)) = s12.1 := by omega
  have hss : sl0 + (slots + (s12.2.1 - s10.2.1)) = s12.2.1 := by omega
  replace hcM := And.intro hc1 hs1
  generalize cells + (s12.1 - s10.1) = cells at hcs hcM ⊢; generalize slots + (s12.2.1 - s10.2.1) = slots at hss hcM ⊢
  clear hB hk hz hvm ht hle hck hc1 hs1; generalize H1 = H at hH hS ⊢
  obtain ⟨f13, hf13, hf⟩ := dz_bo hf
  obtain ⟨ha_f13, he_f13, hk_f13⟩ := zwo_o hf13
  refine zq_putF (C := RX9) (T := TX9) (N := 8) hx hb hts in_X9 tyX9 tyX9_ok nmX9 hown hX.K hH.2.2 zw_D hS _ (zw_o ha_f13 he_f13) rfl 5 (by decide) (hts _ q559) (fun _ hq => hq) rfl hin rfl rfl rfl rfl hk_f13 dX6_init_28 (fun H1 locs hP1 _ hS => dz_size (fun hz => ?_))
  obtain ⟨s14, e_s14, hf⟩ := dz_lo hf
  have hH := zH_put (x := .inr (6, f13.set 5 (.ref r9))) hH hcs ha_f13 hP1 hz
  rw [← e_s14] at hH
  have hcs : s.heap.size + cells = s14.1 := by rw [e_s14]; exact hcs
  have hss : sl0 + slots = s14.2.1 := by rw [e_s14]; exact hss
  clear hP1 hz; generalize H1 = H at hH hS ⊢
  refine lv_aload_n hx hb dX6_init_31 rfl (lv_at hl 0 rfl) ?_
  refine lv_lload_n hx hb dX6_init_32 rfl (lv_at hl 2 rfl) ?_
  obtain ⟨f15, hf15, hf⟩ := dz_bo hf
  obtain ⟨ha_f15, he_f15, hk_f15⟩ := zwo_o hf15
  refine zq_put (C := RX9) (T := TX9) (N := 8) hx hb hts in_X9 tyX9 tyX9_ok nmX9 hown hX.K hH.2.2 zw_D hS _ (zw_o ha_f15 he_f15) rfl 0 (by decide) (hts _ q532) (fun _ hq => hq) rfl rfl rfl rfl hk_f15 dX6_init_33 (fun H1 locs hP1 _ hS => dz_size (fun hz => ?_))
  obtain ⟨s16, e_s16, hf⟩ := dz_lo hf
  have hH := zH_put (x := .inr (6, f15.set 0 (.long a1))) hH hcs ha_f15 hP1 hz
  rw [← e_s16] at hH
  have hcs : s.heap.size + cells = s16.1 := by rw [e_s16]; exact hcs
  have hss : sl0 + slots = s16.2.1 := by rw [e_s16]; exact hss
  clear hP1 hz; generalize H1 = H at hH hS ⊢
  refine lv_aload_n hx hb dX6_init_36 rfl (lv_at hl 0 rfl) ?_
  refine lv_iload hx hb dX6_init_37 (lv_at hl 3 rfl) ?_
  obtain ⟨f17, hf17, hf⟩ := dz_bo hf
  obtain ⟨ha_f17, he_f17, hk_f17⟩ := zwo_o hf17
  refine zq_putF (C := RX9) (T := TX9) (N := 8) hx hb hts in_X9 tyX9 tyX9_ok nmX9 hown hX.K hH.2.2 zw_D hS _ (zw_o ha_f17 he_f17) rfl 1 (by decide) (hts _ q542) (fun _ hq => hq) rfl hin rfl rfl rfl rfl hk_f17 dX6_init_39 (fun H1 locs hP1 _ hS => dz_size (fun hz => ?_))
  obtain ⟨s18, e_s18, hf⟩ := dz_lo hf
  have hH := zH_put (x := .inr (6, f17.set 1 (.int a2))) hH hcs ha_f17 hP1 hz
  rw [← e_s18] at hH
  have hcs : s.heap.size + cells = s18.1 := by rw [e_s18]; exact hcs
  have hss : sl0 + slots = s18.2.1 := by rw [e_s18]; exact hss
  clear hP1 hz; generalize H1 = H at hH hS ⊢
  obtain ⟨hM1, hS1⟩ : cells = M ∧ slots = S := by have hq := congrArg Prod.snd (Option.some.inj hf); rw [← hq] at hM hS0; have hM : s.heap.size + M = s18.1 := hM; have hS0 : sl0 + S = s18.2.1 := hS0; omega
  refine W.widen (k := M) (n := S) (Nat.le_of_eq hM1) (Nat.le_of_eq hS1) ?_
  exact W.vret hx hb hr (fun t ht hW => ⟨⟨s18, rfl, Option.some.inj hf, z_at ht hH⟩, hS.F ht⟩) hS.2.2 dX6_init_42

noncomputable def fnX9_init (K : Nat) (ζ : pZ) (h : Nat) (a0 : Nat) (a1 : Int64) (τ : pH) : Option (Unit × pH) := dz_b (zwo ζ τ h 6 7) fun f1 => dz_l (zst τ h (.inr (6, f1.set 7 (.ref a0)))) fun s2 => zcl s2 (fnX6_init_6 K ζ h a0 a1 1 s2) fun _ s4 => some ((), s4)
set_option maxHeartbeats 4000000 in
set_option maxRecDepth 100000 in
theorem mtX9_init (l : Launch) (D : va_G) (cA : Nat → ClassId) (ζ : pZ) (τ : pH) (h : Nat) (a0 : Nat) (a1 : Int64) (K : Nat) (res : (Unit × pH)) (hf : fnX9_init K ζ h a0 a1 τ = some res) (M S : Nat) (hM : τ.1 + M = res.2.1) (hS0 : τ.2.1 + S = res.2.2.1) : Met l yX9_init (ws_ yX9_init cX9_init 4 (none)) ({ frames := 3, cells := M, slots := S, locals := 64 }) (zPc D cA ζ τ [.ref h, .ref a0, .long a1]) (zQv D cA ζ res) M S (zA ζ) := by
  refine Met.ofW (cc := cX9_init) (maxL := 4) (ret := none) (by decide +kernel) rfl ?_
  intro p e s m args below meth c s₁ B hml hv
  obtain ⟨rfl, hX, hH⟩ := hv
  have hx := B.exec
  have hb := B.bytes
  have hr := B.returns
  have hts := atoms_spec (ws := ws_ yX9_init cX9_init 4 (none)) B.pre
  have hts : ∀ w ∈ lw_all, w.before _ s = true := fun w h => hts w (List.mem_cons_of_mem _ h)
  have hown : s.vm.findClass RX9 = some m.cls := findClass_of_methodNamed B.named
  have hlocks := B.notSynchronized
  have hin : meth.name = "<init>" := (name_of_methodNamed B.named B.method).1
  have hM : s.heap.size + M = res.2.1 := by rw [hH.1]; exact hM
  have hcs : s.heap.size + 0 = τ.1 := hH.1
  have hss : τ.2.1 + 0 = τ.2.1 := rfl
  generalize hsl0 : τ.2.1 = sl0 at hS0 hss
  have hss : sl0 + 0 = τ.2.1 := by rw [hsl0]; rfl
  have hS : va_S (zA ζ) s.heap s.heap [] := va_S.rf
  generalize hHe : s.heap = H at hH hS ⊢
  have hS : va_S (zA ζ) s.heap H [] := by rw [hHe]; exact hS
  generalize ([] : List Loc) = locs at hS ⊢
  have hl := lv_entry ([.ref h, .ref a0, .long a1]) (n := 4) (Nat.le_of_ble_eq_true rfl)
  rw [lg_entry_eq]
  generalize (lg_sl ([.ref h, .ref a0, .long a1]) ++ List.replicate (4 - (lg_sl ([.ref h, .ref a0, .long a1])).length) Slot.unset).toArray = ls at hl ⊢
  have hl : lv_has ls 4 [(0, .ref h), (1, .ref a0), (2, .long a1)] := hl
  have hf : (dz_b (zwo ζ τ h 6 7) fun f1 => dz_l (zst τ h (.inr (6, f1.set 7 (.ref a0)))) fun s2 => zcl s2 (fnX6_init_6 K ζ h a0 a1 1 s2) fun _ s4 => some ((), s4) : Option (Unit × pH)) = some res := hf
  refine z_gen (fun cells slots hc0 hs0 => ?_)
  have hcs : s.heap.size + cells = τ.1 := by rw [hc0]; exact hcs
  have hss : sl0 + slots = τ.2.1 := by rw [hs0]; exact hss
  have hcM : cells ≤ M ∧ slots ≤ S := by rw [hc0, hs0]; exact ⟨Nat.zero_le _, Nat.zero_le _⟩
  clear hc0 hs0
  refine lv_aload_n hx hb dX9_init_0 rfl (lv_at hl 0 rfl) ?_
  refine lv_aload_n hx hb dX9_init_1 rfl (lv_at hl 1 rfl) ?_
  obtain ⟨f1, hf1, hf⟩ := dz_bo hf
  obtain ⟨ha_f1, he_f1, hk_f1⟩ := zwo_o hf1
  refine zq_putF (C := RX9) (T := TX9) (N := 8) hx hb hts in_X9 tyX9 tyX9_ok nmX9 hown hX.K hH.2.2 zw_D hS _ (zw_o ha_f1 he_f1) rfl 7 (by decide) (hts _ q590) (fun _ hq => hq) rfl hin rfl rfl rfl rfl hk_f1 dX9_init_2 (fun H1 locs hP1 _ hS => dz_size (fun hz => ?_))
  obtain ⟨s2, e_s2, hf⟩ := dz_lo hf
  have hH := zH_put (x := .inr (6, f1.set 7 (.ref a0))) hH hcs ha_f1 hP1 hz
  rw [← e_s2] at hH
  have hcs : s.heap.size + cells = s2.1 := by rw [e_s2]; exact hcs
  have hss : sl0 + slots = s2.2.1 := by rw [e_s2]; exact hss
  clear hP1 hz; generalize H1 = H at hH hS ⊢
  refine lv_aload_n hx hb dX9_init_5 rfl (lv_at hl 0 rfl) ?_
  refine lv_aload_n hx hb dX9_init_6 rfl (lv_at hl 1 rfl) ?_
  refine lv_lload_n hx hb dX9_init_7 rfl (lv_at hl 2 rfl) ?_
  refine lv_iconst (v := 1) hx hb dX9_init_8 (by decide) ?_
  obtain ⟨x3, s4, hx3, hle, hck, hf⟩ := zcl_o hf
  have hc1 : cells + (s4.1 - s2.1) ≤ M := by omega
  have hs1 : slots + (s4.2.1 - s2.2.1) ≤ S := by omega
  refine va_callv (va_runI (As := [.ref a0, .long a1, .int 1]) (rest := []) ⟨hx, hb, hml, hown, hts⟩ (mtX6_init_6 l D cA ζ s2 h a0 a1 1 K (x3, s4) hx3 (s4.1 - s2.1) (s4.2.1 - s2.2.1) (Nat.add_sub_cancel' hle.1) (Nat.add_sub_cancel' hle.2)) (cwI 3 hts (lw_meth q506) rfl rfl rfl (hts _ q96) (hts _ q589) (hts _ q505) rfl (by decide +kernel) ⟨Nat.le_of_ble_eq_true rfl, Nat.le_of_ble_eq_true rfl⟩) (z_preS hX hS hH) rfl rfl hl.1 rfl (lv_room (Nat.le_of_ble_eq_true rfl)) dX9_init_9 ⟨hc1, hs1⟩) hS (fun q _ hq => hq) (fun q hq => hq) (fun u t H1 locs ht hvm hw hB hz hk hS => ?_)
  obtain ⟨-, hw2⟩ := Prod.mk.inj hw.symm; subst hw2
  have hH : zH D cA ζ s4 H1 := z_at ht.symm hB
  have hcs : s.heap.size + (cells + (s4.1 - s2.1)) = s4.1 := by omega
  have hss : sl0 + (slots + (s4.2.1 - s2.2.1)) = s4.2.1 := by omega
  replace hcM := And.intro hc1 hs1
  generalize cells + (s4.1 - s2.1) = cells at hcs hcM ⊢; generalize slots + (s4.2.1 - s2.2.1) = slots at hss hcM ⊢
  clear hB hk hz hvm ht hle hck hc1 hs1; generalize H1 = H at hH hS ⊢
  obtain ⟨hM1, hS1⟩ : cells = M ∧ slots = S := by have hq := congrArg Prod.snd (Option.some.inj hf); rw [← hq] at hM hS0; have hM : s.heap.size + M = s4.1 := hM; have hS0 : sl0 + S = s4.2.1 := hS0; omega
  refine W.widen (k := M) (n := S) (Nat.le_of_eq hM1) (Nat.le_of_eq hS1) ?_
  exact W.vret hx hb hr (fun t ht hW => ⟨⟨s4, rfl, Option.some.inj hf, z_at ht hH⟩, hS.F ht⟩) hS.2.2 dX9_init_12

noncomputable def fnX6_init_7 (K : Nat) (ζ : pZ) (h : Nat) (a0 : Nat) (a1 : Int64) (a2 : Int32) (τ : pH) : Option (Unit × pH) := dz_b (zwo ζ τ h 7 6) fun f1 => dz_l (zst τ h (.inr (7, f1.set 6 (.ref a0)))) fun s2 => dz_l s2.1 fun r3 => dz_l (znw s2 2 (.inr (10, [.null, .int 0]))) fun s4 => zck s4 (zcl s4 (fnX8_init K ζ r3 s4) fun _ s6 => dz_b (zwo ζ s6 h 7 4) fun f7 => dz_l (zst s6 h (.inr (7, f7.set 4 (.ref r3)))) fun s8 => dz_l s8.1 fun r9 => dz_l (znw s8 2 (.inr (10, [.null, .int 0]))) fun s10 => zck s10 (zcl s10 (fnX8_init K ζ r9 s10) fun _ s12 => dz_b (zwo ζ s12 h 7 5) fun f13 => dz_l (zst s12 h (.inr (7, f13.set 5 (.ref r9)))) fun s14 => dz_b (zwo ζ s14 h 7 0) fun f15 => dz_l (zst s14 h (.inr (7, f15.set 0 (.long a1)))) fun s16 => dz_b (zwo ζ s16 h 7 1) fun f17 => dz_l (zst s16 h (.inr (7, f17.set 1 (.int a2)))) fun s18 => some ((), s18)))
set_option maxHeartbeats 4000000 in
set_option maxRecDepth 100000 in
theorem mtX6_init_7 (l : Launch) (D : va_G) (cA : Nat → ClassId) (ζ : pZ) (τ : pH) (h : Nat) (a0 : Nat) (a1 : Int64) (a2 : Int32) (K : Nat) (res : (Unit × pH)) (hf : fnX6_init_7 K ζ h a0 a1 a2 τ = some res) (M S : Nat) (hM : τ.1 + M = res.2.1) (hS0 : τ.2.1 + S = res.2.2.1) : Met l yX6_init (ws_ yX6_init cX6_init 5 (none)) ({ frames := 2, cells := M, slots := S, locals := 40 }) (zPc D cA ζ τ [.ref h, .ref a0, .long a1, .int a2]) (zQv D cA ζ res) M S (zA ζ) := by
  refine Met.ofW (cc := cX6_init) (maxL := 5) (ret := none) (by decide +kernel) rfl ?_
  intro p e s m args below meth c s₁ B hml hv
  obtain ⟨rfl, hX, hH⟩ := hv
  have hx := B.exec
  have hb := B.bytes
  have hr := B.returns
  have hts := atoms_spec (ws := ws_ yX6_init cX6_init 5 (none)) B.pre
  have hts : ∀ w ∈ lw_all, w.before _ s = true := fun w h => hts w (List.mem_cons_of_mem _ h)
  have hown : s.vm.findClass RX6 = some m.cls := findClass_of_methodNamed B.named
  have hlocks := B.notSynchronized
  have hin : meth.name = "<init>" := (name_of_methodNamed B.named B.method).1
  have hM : s.heap.size + M = res.2.1 := by rw [hH.1]; exact hM
  have hcs : s.heap.size + 0 = τ.1 := hH.1
  have hss : τ.2.1 + 0 = τ.2.1 := rfl
  generalize hsl0 : τ.2.1 = sl0 at hS0 hss
  have hss : sl0 + 0 = τ.2.1 := by rw [hsl0]; rfl
  have hS : va_S (zA ζ) s.heap s.heap [] := va_S.rf
  generalize hHe : s.heap = H at hH hS ⊢
  have hS : va_S (zA ζ) s.heap H [] := by rw [hHe]; exact hS
  generalize ([] : List Loc) = locs at hS ⊢
  have hl := lv_entry ([.ref h, .ref a0, .long a1, .int a2]) (n := 5) (Nat.le_of_ble_eq_true rfl)
  rw [lg_entry_eq]
  generalize (lg_sl ([.ref h, .ref a0, .long a1, .int a2]) ++ List.replicate (5 - (lg_sl ([.ref h, .ref a0, .long a1, .int a2])).length) Slot.unset).toArray = ls at hl ⊢
  have hl : lv_has ls 5 [(0, .ref h), (1, .ref a0), (2, .long a1), (4, .int a2)] := hl
  have hf : (dz_b (zwo ζ τ h 7 6) fun f1 => dz_l (zst τ h (.inr (7, f1.set 6 (.ref a0)))) fun s2 => dz_l s2.1 fun r3 => dz_l (znw s2 2 (.inr (10, [.null, .int 0]))) fun s4 => zck s4 (zcl s4 (fnX8_init K ζ r3 s4) fun _ s6 => dz_b (zwo ζ s6 h 7 4) fun f7 => dz_l (zst s6 h (.inr (7, f7.set 4 (.ref r3)))) fun s8 => dz_l s8.1 fun r9 => dz_l (znw s8 2 (.inr (10, [.null, .int 0]))) fun s10 => zck s10 (zcl s10 (fnX8_init K ζ r9 s10) fun _ s12 => dz_b (zwo ζ s12 h 7 5) fun f13 => dz_l (zst s12 h (.inr (7, f13.set 5 (.ref r9)))) fun s14 => dz_b (zwo ζ s14 h 7 0) fun f15 => dz_l (zst s14 h (.inr (7, f15.set 0 (.long a1)))) fun s16 => dz_b (zwo ζ s16 h 7 1) fun f17 => dz_l (zst s16 h (.inr (7, f17.set 1 (.int a2)))) fun s18 => some ((), s18))) : Option (Unit × pH)) = some res := hf
  refine z_gen (fun cells slots hc0 hs0 => ?_)
  have hcs : s.heap.size + cells = τ.1 := by rw [hc0]; exact hcs
  have hss : sl0 + slots = τ.2.1 := by rw [hs0]; exact hss
  have hcM : cells ≤ M ∧ slots ≤ S := by rw [hc0, hs0]; exact ⟨Nat.zero_le _, Nat.zero_le _⟩
  clear hc0 hs0
  refine lv_aload_n hx hb dX6_init_0 rfl (lv_at hl 0 rfl) ?_
  refine lv_aload_n hx hb dX6_init_1 rfl (lv_at hl 1 rfl) ?_
  obtain ⟨f1, hf1, hf⟩ := dz_bo hf
  obtain ⟨ha_f1, he_f1, hk_f1⟩ := zwo_o hf1
  refine zq_putF (C := RX10) (T := TX10) (N := 8) hx hb hts in_X10 tyX10 tyX10_ok nmX10 hown hX.K hH.2.2 zw_D hS _ (zw_o ha_f1 he_f1) rfl 6 (by decide) (hts _ q566) (fun _ hq => hq) rfl hin rfl rfl rfl rfl hk_f1 dX6_init_2 (fun H1 locs hP1 _ hS => dz_size (fun hz => ?_))
  obtain ⟨s2, e_s2, hf⟩ := dz_lo hf
  have hH := zH_put (x := .inr (7, f1.set 6 (.ref a0))) hH hcs ha_f1 hP1 hz
  rw [← e_s2] at hH
  have hcs : s.heap.size + cells = s2.1 := by rw [e_s2]; exact hcs
  have hss : sl0 + slots = s2.2.1 := by rw [e_s2]; exact hss
  clear hP1 hz; generalize H1 = H at hH hS ⊢
  refine lv_aload_n hx hb dX6_init_5 rfl (lv_at hl 0 rfl) ?_
  refine W.objInit hx hb hown (hts _ q507) (hts _ q125) (hts _ q126) rfl (by rw [hml]; exact hl.1) rfl dX6_init_6 (Nat.le_of_ble_eq_true rfl) (Nat.le_of_ble_eq_true rfl) ?_
  refine W.eq (g2 := F0 m 9 ls []) rfl ?_
  refine lv_aload_n hx hb dX6_init_9 rfl (lv_at hl 0 rfl) ?_
  obtain ⟨r3, e_r3, hf⟩ := dz_lo hf
  obtain ⟨s4, e_s4, hf⟩ := dz_lo hf
  obtain ⟨hck, hf⟩ := zck_o hf
  have hc1 : cells + 1 ≤ M := by have hq := hck.1; rw [e_s4] at hq; have hq : s2.1 + 1 ≤ res.2.1 := hq; omega
  have hs1 : slots + 2 ≤ S := by have hq := hck.2; rw [e_s4] at hq; have hq : s2.2.1 + 2 ≤ res.2.2.1 := hq; omega
  refine va_new (ci := 10) (fs := [.null, .int 0]) (C := RX8) (T := TX8) (N := 2) hx hb hts in_X8 tyX8 tyX8_ok hown (hts _ q508) (hts _ q509) (hts _ q98) hX.K hH.2.2 zw_D hS hX.hA rfl zdf_X8 hc1 hs1 dX6_init_10 (fun q H1 hP1 hD1 hS => dz_size (fun hz => ?_))
  obtain ⟨hq, hH⟩ := zH_new (n := 2) (x := (.inr (10, [.null, .int 0]))) hH hcs hP1 hD1 hz
  rw [← e_s4] at hH; obtain rfl : r3 = q := e_r3.trans hq.symm
  have hcs : s.heap.size + (cells + 1) = s4.1 := by rw [e_s4]; show _ = s2.1 + 1; omega
  have hss : sl0 + (slots + 2) = s4.2.1 := by rw [e_s4]; show _ = s2.2.1 + 2; omega
  replace hcM := And.intro hc1 hs1
  generalize cells + 1 = cells at hcs hcM ⊢; generalize slots + 2 = slots at hss hcM ⊢
  clear hP1 hD1 hz hq hck hc1 hs1; generalize H1 = H at hH hS ⊢
  refine lv_dup hx hb dX6_init_13 rfl ?_
  obtain ⟨x5, s6, hx5, hle, hck, hf⟩ := zcl_o hf
  have hc1 : cells + (s6.1 - s4.1) ≤ M := by omega
  have hs1 : slots + (s6.2.1 - s4.2.1) ≤ S := by omega
  refine va_callv (va_runIN (As := []) (rest := [.ref r3, .ref h]) ⟨hx, hb, hml, hown, hts⟩ (mtX8_init l D cA ζ s4 r3 K (x5, s6) hx5 (s6.1 - s4.1) (s6.2.1 - s4.2.1) (Nat.add_sub_cancel' hle.1) (Nat.add_sub_cancel' hle.2)) ⟨va_cnB 0 hts (lw_meth q512) rfl rfl rfl (hX.N q510 rfl) (hts _ q98) (by decide +kernel) ⟨Nat.le_of_ble_eq_true rfl, Nat.le_of_ble_eq_true rfl⟩, rfl, hts _ q511⟩ (z_preS hX hS hH) rfl rfl hl.1 rfl (lv_room (Nat.le_of_ble_eq_true rfl)) dX6_init_14 ⟨hc1, hs1⟩) hS (fun q _ hq => hq) (fun q hq => hq) (fun u t H1 locs ht hvm hw hB hz hk hS => ?_)
  obtain ⟨-, hw2⟩ := Prod.mk.inj hw.symm; subst hw2
  have hH : zH D cA ζ s6 H1 := z_at ht.symm hB
  have hcs : s.heap.size + (cells + (s6.1 - s4.1)) = s6.1 := by omega
  have hss : sl0 + (slots + (s6.2.1 - s4.2.1)) = s6.2.1 := by omega
  replace hcM := And.intro hc1 hs1
  generalize cells + (s6.1 - s4.1) = cells at hcs hcM ⊢; generalize slots + (s6.2.1 - s4.2.1) = slots at hss hcM ⊢
  clear hB hk hz hvm ht hle hck hc1 hs1; generalize H1 = H at hH hS ⊢
  obtain ⟨f7, hf7, hf⟩ := dz_bo hf
  obtain ⟨ha_f7, he_f7, hk_f7⟩ := zwo_o hf7
  refine zq_putF (C := RX10) (T := TX10) (N := 8) hx hb hts in_X10 tyX10 tyX10_ok nmX10 hown hX.K hH.2.2 zw_D hS _ (zw_o ha_f7 he_f7) rfl 4 (by decide) (hts _ q550) (fun _ hq => hq) rfl hin rfl rfl rfl rfl hk_f7 dX6_init_17 (fun H1 locs hP1 _ hS => dz_size (fun hz => ?_))
  obtain ⟨s8, e_s8, hf⟩ := dz_lo hf
  have hH := zH_put (x := .inr (7, f7.set 4 (.ref r3))) hH hcs ha_f7 hP1 hz
  rw [← e_s8] at hH
  have hcs : s.heap.size + cells = s8.1 := by rw [e_s8]; exact hcs
  have hss : sl0 + slots = s8.2.1 := by rw [e_s8]; exact hss
  clear hP1 hz; generalize H1 = H at hH hS ⊢
  refine lv_aload_n hx hb dX6_init_20 rfl (lv_at hl 0 rfl) ?_
  obtain ⟨r9, e_r9, hf⟩ := dz_lo hf
  obtain ⟨s10, e_s10, hf⟩ := dz_lo hf
  obtain ⟨hck, hf⟩ := zck_o hf
  have hc1 : cells + 1 ≤ M := by have hq := hck.1; rw [e_s10] at hq; have hq : s8.1 + 1 ≤ res.2.1 := hq; omega
  have hs1 : slots + 2 ≤ S := by have hq := hck.2; rw [e_s10] at hq; have hq : s8.2.1 + 2 ≤ res.2.2.1 := hq; omega
  refine va_new (ci := 10) (fs := [.null, .int 0]) (C := RX8) (T := TX8) (N := 2) hx hb hts in_X8 tyX8 tyX8_ok hown (hts _ q508) (hts _ q509) (hts _ q98) hX.K hH.2.2 zw_D hS hX.hA rfl zdf_X8 hc1 hs1 dX6_init_21 (fun q H1 hP1 hD1 hS => dz_size (fun hz => ?_))
  obtain ⟨hq, hH⟩ := zH_new (n := 2) (x := (.inr (10, [.null, .int 0]))) hH hcs hP1 hD1 hz
  rw [← e_s10] at hH; obtain rfl : r9 = q := e_r9.trans hq.symm
  have hcs : s.heap.size + (cells + 1) = s10.1 := by rw [e_s10]; show _ = s8.1 + 1; omega
  have hss : sl0 + (slots + 2) = s10.2.1 := by rw [e_s10]; show _ = s8.2.1 + 2; omega
  replace hcM := And.intro hc1 hs1
  generalize cells + 1 = cells at hcs hcM ⊢; generalize slots + 2 = slots at hss hcM ⊢
  clear hP1 hD1 hz hq hck hc1 hs1; generalize H1 = H at hH hS ⊢
  refine lv_dup hx hb dX6_init_24 rfl ?_
  obtain ⟨x11, s12, hx11, hle, hck, hf⟩ := zcl_o hf
  have hc1 : cells + (s12.1 - s10.1) ≤ M := by omega
  have hs1 : slots + (s12.2.1 - s10.2.1) ≤ S := by omega
  refine va_callv (va_runIN (As := []) (rest := [.ref r9, .ref h]) ⟨hx, hb, hml, hown, hts⟩ (mtX8_init l D cA ζ s10 r9 K (x11, s12) hx11 (s12.1 - s10.1) (s12.2.1 - s10.2.1) (Nat.add_sub_cancel' hle.1) (Nat.add_sub_cancel' hle.2)) ⟨va_cnB 0 hts (lw_meth q512) rfl rfl rfl (hX.N q510 rfl) (hts _ q98) (by decide +kernel) ⟨Nat.le_of_ble_eq_true rfl, Nat.le_of_ble_eq_true rfl⟩, rfl, hts _ q511⟩ (z_preS hX hS hH) rfl rfl hl.1 rfl (lv_room (Nat.le_of_ble_eq_true rfl)) dX6_init_25 ⟨hc1, hs1⟩) hS (fun q _ hq => hq) (fun q hq => hq) (fun u t H1 locs ht hvm hw hB hz hk hS => ?_)
  obtain ⟨-, hw2⟩ := Prod.mk.inj hw.symm; subst hw2
  have hH : zH D cA ζ s12 H1 := z_at ht.symm hB
  have hcs : s.heap.size + (cells + (s12.1 - s10.1)) = s12.1 := by omega
  have hss : sl0 + (slots + (s12.2.1 - s10.2.1)) = s12.2.1 := by omega
  replace hcM := And.intro hc1 hs1
  generalize cells + (s12.1 - s10.1) = cells at hcs hcM ⊢; generalize slots + (s12.2.1 - s10.2.1) = slots at hss hcM ⊢
  clear hB hk hz hvm ht hle hck hc1 hs1; generalize H1 = H at hH hS ⊢
  obtain ⟨f13, hf13, hf⟩ := dz_bo hf
  obtain ⟨ha_f13, he_f13, hk_f13⟩ := zwo_o hf13
  refine zq_putF (C := RX10) (T := TX10) (N := 8) hx hb hts in_X10 tyX10 tyX10_ok nmX10 hown hX.K hH.2.2 zw_D hS _ (zw_o ha_f13 he_f13) rfl 5 (by decide) (hts _ q559) (fun _ hq => hq) rfl hin rfl rfl rfl rfl hk_f13 dX6_init_28 (fun H1 locs hP1 _ hS => dz_size (fun hz => ?_))
  obtain ⟨s14, e_s14, hf⟩ := dz_lo hf
  have hH := zH_put (x := .inr (7, f13.set 5 (.ref r9))) hH hcs ha_f13 hP1 hz
  rw [← e_s14] at hH
  have hcs : s.heap.size + cells = s14.1 := by rw [e_s14]; exact hcs
  have hss : sl0 + slots = s14.2.1 := by rw [e_s14]; exact hss
  clear hP1 hz; generalize H1 = H at hH hS ⊢
  refine lv_aload_n hx hb dX6_init_31 rfl (lv_at hl 0 rfl) ?_
  refine lv_lload_n hx hb dX6_init_32 rfl (lv_at hl 2 rfl) ?_
  obtain ⟨f15, hf15, hf⟩ := dz_bo hf
  obtain ⟨ha_f15, he_f15, hk_f15⟩ := zwo_o hf15
  refine zq_put (C := RX10) (T := TX10) (N := 8) hx hb hts in_X10 tyX10 tyX10_ok nmX10 hown hX.K hH.2.2 zw_D hS _ (zw_o ha_f15 he_f15) rfl 0 (by decide) (hts _ q532) (fun _ hq => hq) rfl rfl rfl rfl hk_f15 dX6_init_33 (fun H1 locs hP1 _ hS => dz_size (fun hz => ?_))
  obtain ⟨s16, e_s16, hf⟩ := dz_lo hf
  have hH := zH_put (x := .inr (7, f15.set 0 (.long a1))) hH hcs ha_f15 hP1 hz
  rw [← e_s16] at hH
  have hcs : s.heap.size + cells = s16.1 := by rw [e_s16]; exact hcs
  have hss : sl0 + slots = s16.2.1 := by rw [e_s16]; exact hss
  clear hP1 hz; generalize H1 = H at hH hS ⊢
  refine lv_aload_n hx hb dX6_init_36 rfl (lv_at hl 0 rfl) ?_
  refine lv_iload hx hb dX6_init_37 (lv_at hl 3 rfl) ?_
  obtain ⟨f17, hf17, hf⟩ := dz_bo hf
  obtain ⟨ha_f17, he_f17, hk_f17⟩ := zwo_o hf17
  refine zq_putF (C := RX10) (T := TX10) (N := 8) hx hb hts in_X10 tyX10 tyX10_ok nmX10 hown hX.K hH.2.2 zw_D hS _ (zw_o ha_f17 he_f17) rfl 1 (by decide) (hts _ q542) (fun _ hq => hq) rfl hin rfl rfl rfl rfl hk_f17 dX6_init_39 (fun H1 locs hP1 _ hS => dz_size (fun hz => ?_))
  obtain ⟨s18, e_s18, hf⟩ := dz_lo hf
  have hH := zH_put (x := .inr (7, f17.set 1 (.int a2))) hH hcs ha_f17 hP1 hz
  rw [← e_s18] at hH
  have hcs : s.heap.size + cells = s18.1 := by rw [e_s18]; exact hcs
  have hss : sl0 + slots = s18.2.1 := by rw [e_s18]; exact hss
  clear hP1 hz; generalize H1 = H at hH hS ⊢
  obtain ⟨hM1, hS1⟩ : cells = M ∧ slots = S := by have hq := congrArg Prod.snd (Option.some.inj hf); rw [← hq] at hM hS0; have hM : s.heap.size + M = s18.1 := hM; have hS0 : sl0 + S = s18.2.1 := hS0; omega
  refine W.widen (k := M) (n := S) (Nat.le_of_eq hM1) (Nat.le_of_eq hS1) ?_
  exact W.vret hx hb hr (fun t ht hW => ⟨⟨s18, rfl, Option.some.inj hf, z_at ht hH⟩, hS.F ht⟩) hS.2.2 dX6_init_42

