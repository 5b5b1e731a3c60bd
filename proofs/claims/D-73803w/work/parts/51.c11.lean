noncomputable def lfX0_factors (K : Nat) (ζ : pZ) : Nat → (Nat → Int64 → Int64 → pH → Option (Nat × pH)) × (Nat → Int64 → Int64 → Int32 → pH → Option (Nat × pH)) × (Nat → Int64 → Int64 → pH → Option (Nat × pH)) := Nat.rec (motive := fun _ => (Nat → Int64 → Int64 → pH → Option (Nat × pH)) × (Nat → Int64 → Int64 → Int32 → pH → Option (Nat × pH)) × (Nat → Int64 → Int64 → pH → Option (Nat × pH))) ((fun _ _ _ _ => none), (fun _ _ _ _ _ => none), (fun _ _ _ _ => none)) (fun _ G => ((fun v2 v3 v5 τ => if v3 < (v5 * v5) then (if v3 ≤ (1 : Int64) then (some (v2, τ)) else (dz_l τ.1 fun r1 => dz_l (znw τ 3 (.inr (11, [.long 0, .int 0, .int 0]))) fun s2 => zck s2 (zcl s2 (fnX13_init K ζ r1 v3 1 0 s2) fun _ s4 => dz_b (zob ζ s4 v2 10) fun f7 => zcl s4 (fnX8_adds K ζ v2 r1 s4) fun x5 s6 => some (x5, s6)))) else (G.2.1 v2 v3 v5 0 τ)), (fun v2 v3 v5 v7 τ => if ¬ v5 = 0 then (dz_l (v3 - v3 / v5 * v5) fun x2 => if x2 = (0 : Int64) then (dz_l (v7 + 1) fun x10 => if ¬ v5 = 0 then (dz_l (v3 / v5) fun x12 => G.2.1 v2 x12 v5 x10 τ) else none) else (if v7 ≤ (0 : Int32) then (G.2.2 v2 v3 v5 τ) else (dz_l τ.1 fun r3 => dz_l (znw τ 3 (.inr (11, [.long 0, .int 0, .int 0]))) fun s4 => zck s4 (zcl s4 (fnX13_init K ζ r3 v5 v7 0 s4) fun _ s6 => dz_b (zob ζ s6 v2 10) fun f9 => zcl s6 (fnX8_adds K ζ v2 r3 s6) fun x7 s8 => G.2.2 v2 v3 v5 s8)))) else none), (fun v2 v3 v5 τ => dz_l (v5 + 1) fun x1 => G.1 v2 v3 x1 τ)))
noncomputable def fnX0_factors (K : Nat) (ζ : pZ) (a0 : Int64) (τ : pH) : Option (Nat × pH) := dz_l τ.1 fun r1 => dz_l (znw τ 2 (.inr (10, [.null, .int 0]))) fun s2 => zck s2 (zcl s2 (fnX8_init K ζ r1 s2) fun _ s4 => (lfX0_factors K ζ K).1 r1 a0 2 s4)
set_option maxHeartbeats 4000000 in
set_option maxRecDepth 100000 in
theorem wlX0_factors {p : Program} {l : Launch} {e : Env} {s : State} {m : MethodId} {below : List Frame} {meth : Method} {c : Code} {D : va_G} {cA : Nat → ClassId} {ζ : pZ} (hX : zX D cA ζ s) (K : Nat) (res : (Nat × pH)) (M S sl0 : Nat) (hM : s.heap.size + M = res.2.1) (hS0 : sl0 + S = res.2.2.1) (a0 : Int64) (hx : p.tables.exec = Jvm.exec) (hb : c.code = cX0_factors) (hr : meth.sig.returnType = some (.object "PrimeProofs$Rows")) (hlocks : meth.locks = false) (hml : c.maxLocals = 8) (hown : s.vm.findClass RX0 = some m.cls) (hts : ∀ w ∈ lw_all, w.before ([.long a0] : List Value).toArray s = true) : ∀ k : Nat, (∀ (v2 : Nat) (v3 : Int64) (v5 : Int64) (τ : pH) (H : Heap) (locs : List Loc) (cells slots : Nat), zH D cA ζ τ H → va_S (zA ζ) s.heap H locs → s.heap.size + cells = τ.1 → sl0 + slots = τ.2.1 → cells ≤ M ∧ slots ≤ S → ∀ (ls : Array Slot), lv_has ls 8 [(2, .ref v2), (3, .long v3), (5, .long v5)] → (lfX0_factors K ζ k).1 v2 v3 v5 τ = some res → W p l e (headSpec (ws_ yX0_factors cX0_factors 8 (some (.object "PrimeProofs$Rows"))) ({ frames := 2, cells := M, slots := S, locals := 44 })).room s m ([.long a0] : List Value).toArray below meth c H locs cells slots (MQ below (zQr D cA ζ res) ([.long a0] : List Value).toArray s M S (zA ζ)) (F0 m 15 ls [])) ∧ (∀ (v2 : Nat) (v3 : Int64) (v5 : Int64) (v7 : Int32) (τ : pH) (H : Heap) (locs : List Loc) (cells slots : Nat), zH D cA ζ τ H → va_S (zA ζ) s.heap H locs → s.heap.size + cells = τ.1 → sl0 + slots = τ.2.1 → cells ≤ M ∧ slots ≤ S → ∀ (ls : Array Slot), lv_has ls 8 [(2, .ref v2), (3, .long v3), (5, .long v5), (7, .int v7)] → (lfX0_factors K ζ k).2.1 v2 v3 v5 v7 τ = some res → W p l e (headSpec (ws_ yX0_factors cX0_factors 8 (some (.object "PrimeProofs$Rows"))) ({ frames := 2, cells := M, slots := S, locals := 44 })).room s m ([.long a0] : List Value).toArray below meth c H locs cells slots (MQ below (zQr D cA ζ res) ([.long a0] : List Value).toArray s M S (zA ζ)) (F0 m 28 ls [])) ∧ (∀ (v2 : Nat) (v3 : Int64) (v5 : Int64) (τ : pH) (H : Heap) (locs : List Loc) (cells slots : Nat), zH D cA ζ τ H → va_S (zA ζ) s.heap H locs → s.heap.size + cells = τ.1 → sl0 + slots = τ.2.1 → cells ≤ M ∧ slots ≤ S → ∀ (ls : Array Slot), lv_has ls 8 [(2, .ref v2), (3, .long v3), (5, .long v5)] → (lfX0_factors K ζ k).2.2 v2 v3 v5 τ = some res → W p l e (headSpec (ws_ yX0_factors cX0_factors 8 (some (.object "PrimeProofs$Rows"))) ({ frames := 2, cells := M, slots := S, locals := 44 })).room s m ([.long a0] : List Value).toArray below meth c H locs cells slots (MQ below (zQr D cA ζ res) ([.long a0] : List Value).toArray s M S (zA ζ)) (F0 m 70 ls [])) := by
  intro k
  induction k with
  | zero =>
    exact ⟨fun _ _ _ _ _ _ _ _ _ _ _ _ _ _ _ hf => (by cases hf), fun _ _ _ _ _ _ _ _ _ _ _ _ _ _ _ _ hf => (by cases hf), fun _ _ _ _ _ _ _ _ _ _ _ _ _ _ _ hf => (by cases hf)⟩
  | succ k ih =>
    refine ⟨?_, ?_, ?_⟩
    · intro v2 v3 v5 τ H locs cells slots hH hS hcs hss hcM ls hl hf
      have hf : (if v3 < (v5 * v5) then (if v3 ≤ (1 : Int64) then (some (v2, τ)) else (dz_l τ.1 fun r1 => dz_l (znw τ 3 (.inr (11, [.long 0, .int 0, .int 0]))) fun s2 => zck s2 (zcl s2 (fnX13_init K ζ r1 v3 1 0 s2) fun _ s4 => dz_b (zob ζ s4 v2 10) fun f7 => zcl s4 (fnX8_adds K ζ v2 r1 s4) fun x5 s6 => some (x5, s6)))) else ((lfX0_factors K ζ k).2.1 v2 v3 v5 0 τ) : Option (Nat × pH)) = some res := hf
      refine lv_lload hx hb dX0_factors_15 (lv_at hl 2 rfl) ?_
      refine lv_lload hx hb dX0_factors_17 (lv_at hl 2 rfl) ?_
      refine lv_lmul hx hb dX0_factors_19 ?_
      refine lv_lload_n hx hb dX0_factors_20 rfl (lv_at hl 1 rfl) ?_
      refine W.lcmp hx hb dX0_factors_21 ?_
      refine lv_if_gt (tgt := 79) hx hb dX0_factors_22 (by decide) (fun c22 => ?_) (fun c22 => ?_)
      · have c22 : v3 < (v5 * v5) := (lg_cmp_gt _ _).mp c22
        have hf := dz_t c22 hf
        refine lv_lload_n hx hb dX0_factors_79 rfl (lv_at hl 1 rfl) ?_
        refine lv_lconst (v := 1) hx hb dX0_factors_80 rfl ?_
        refine W.lcmp hx hb dX0_factors_81 ?_
        refine lv_if_le (tgt := 102) hx hb dX0_factors_82 (by decide) (fun c82 => ?_) (fun c82 => ?_)
        · have c82 : v3 ≤ (1 : Int64) := (lg_cmp_le _ _).mp c82
          have hf := dz_t c82 hf
          refine lv_aload_n hx hb dX0_factors_102 rfl (lv_at hl 0 rfl) ?_
          obtain ⟨hM1, hS1⟩ : cells = M ∧ slots = S := by have hq := congrArg Prod.snd (Option.some.inj hf); rw [← hq] at hM hS0; have hM : s.heap.size + M = τ.1 := hM; have hS0 : sl0 + S = τ.2.1 := hS0; omega
          refine W.widen (k := M) (n := S) (Nat.le_of_eq hM1) (Nat.le_of_eq hS1) ?_
          exact W.aret (v := .ref v2) hx hb hr (Or.inl ⟨_, rfl⟩) (Or.inr ⟨_, rfl⟩) (fun t ht hW => ⟨⟨τ, v2, rfl, trivial, Option.some.inj hf, z_at ht hH⟩, hS.F ht⟩) hS.2.2 dX0_factors_103
        · have c82 : ¬ v3 ≤ (1 : Int64) := fun hq => c82 ((lg_cmp_le _ _).mpr hq)
          have hf := dz_f c82 hf
          refine lv_aload_n hx hb dX0_factors_85 rfl (lv_at hl 0 rfl) ?_
          obtain ⟨r1, e_r1, hf⟩ := dz_lo hf
          obtain ⟨s2, e_s2, hf⟩ := dz_lo hf
          obtain ⟨hck, hf⟩ := zck_o hf
          have hc1 : cells + 1 ≤ M := by have hq := hck.1; rw [e_s2] at hq; have hq : τ.1 + 1 ≤ res.2.1 := hq; omega
          have hs1 : slots + 3 ≤ S := by have hq := hck.2; rw [e_s2] at hq; have hq : τ.2.1 + 3 ≤ res.2.2.1 := hq; omega
          refine va_new (ci := 11) (fs := [.long 0, .int 0, .int 0]) (C := RX13) (T := TX13) (N := 3) hx hb hts in_X13 tyX13 tyX13_ok hown (hts _ q677) (hts _ q678) (hts _ q103) hX.K hH.2.2 zw_D hS hX.hA rfl zdf_X13 hc1 hs1 dX0_factors_86 (fun q H1 hP1 hD1 hS => dz_size (fun hz => ?_))
          obtain ⟨hq, hH⟩ := zH_new (n := 3) (x := (.inr (11, [.long 0, .int 0, .int 0]))) hH hcs hP1 hD1 hz
          rw [← e_s2] at hH; obtain rfl : r1 = q := e_r1.trans hq.symm
          have hcs : s.heap.size + (cells + 1) = s2.1 := by rw [e_s2]; show _ = τ.1 + 1; omega
          have hss : sl0 + (slots + 3) = s2.2.1 := by rw [e_s2]; show _ = τ.2.1 + 3; omega
          replace hcM := And.intro hc1 hs1
          generalize cells + 1 = cells at hcs hcM ⊢; generalize slots + 3 = slots at hss hcM ⊢
          clear hP1 hD1 hz hq hck hc1 hs1; generalize H1 = H at hH hS ⊢
          refine lv_dup hx hb dX0_factors_89 rfl ?_
          refine lv_lload_n hx hb dX0_factors_90 rfl (lv_at hl 1 rfl) ?_
          refine lv_iconst (v := 1) hx hb dX0_factors_91 (by decide) ?_
          refine lv_iconst (v := 0) hx hb dX0_factors_92 (by decide) ?_
          obtain ⟨x3, s4, hx3, hle, hck, hf⟩ := zcl_o hf
          have hc1 : cells + (s4.1 - s2.1) ≤ M := by omega
          have hs1 : slots + (s4.2.1 - s2.2.1) ≤ S := by omega
          refine va_callv (va_runI (As := [.long v3, .int 1, .int 0]) (rest := [.ref r1, .ref v2]) ⟨hx, hb, hml, hown, hts⟩ (mtX13_init l D cA ζ s2 r1 v3 1 0 K (x3, s4) hx3 (s4.1 - s2.1) (s4.2.1 - s2.2.1) (Nat.add_sub_cancel' hle.1) (Nat.add_sub_cancel' hle.2)) (cwI 3 hts (lw_meth q681) rfl rfl rfl (hts _ q103) (hts _ q679) (hts _ q680) rfl (by decide +kernel) ⟨Nat.le_of_ble_eq_true rfl, Nat.le_of_ble_eq_true rfl⟩) (z_preS hX hS hH) rfl rfl hl.1 rfl (lv_room (Nat.le_of_ble_eq_true rfl)) dX0_factors_93 ⟨hc1, hs1⟩) hS (fun q _ hq => hq) (fun q hq => hq) (fun u t H1 locs ht hvm hw hB hz hk hS => ?_)
          obtain ⟨-, hw2⟩ := Prod.mk.inj hw.symm; subst hw2
          have hH : zH D cA ζ s4 H1 := z_at ht.symm hB
          have hcs : s.heap.size + (cells + (s4.1 - s2.1)) = s4.1 := by omega
          have hss : sl0 + (slots + (s4.2.1 - s2.2.1)) = s4.2.1 := by omega
          replace hcM := And.intro hc1 hs1
          generalize cells + (s4.1 - s2.1) = cells at hcs hcM ⊢; generalize slots + (s4.2.1 - s2.2.1) = slots at hss hcM ⊢
          clear hB hk hz hvm ht hle hck hc1 hs1; generalize H1 = H at hH hS ⊢
          obtain ⟨f7, hf7, hf⟩ := dz_bo hf
          obtain ⟨x5, s6, hx5, hle, hck, hf⟩ := zcl_o hf
          have hc1 : cells + (s6.1 - s4.1) ≤ M := by omega
          have hs1 : slots + (s6.2.1 - s4.2.1) ≤ S := by omega
          refine va_callr (va_runV (As := [.ref r1]) (rest := []) ⟨hx, hb, hml, hown, hts⟩ (mtX8_adds l D cA ζ s4 v2 r1 K (x5, s6) hx5 (s6.1 - s4.1) (s6.2.1 - s4.2.1) (Nat.add_sub_cancel' hle.1) (Nat.add_sub_cancel' hle.2)) (cwV 1 hts (lw_V q701 q702 q703 q98 q704) rfl rfl rfl (by decide +kernel) ⟨Nat.le_of_ble_eq_true rfl, Nat.le_of_ble_eq_true rfl⟩) (z_preV hX hS hH (zob_o hf7) rfl) rfl rfl hl.1 rfl (lv_room (Nat.le_of_ble_eq_true rfl)) dX0_factors_96 ⟨hc1, hs1⟩) hS (fun q _ hq => hq) (fun q hq => hq) (fun u r t H1 locs ht hvm hw hB hz hk hS => ?_)
          obtain ⟨hw, hB⟩ := hB
          obtain ⟨hw1, hw2⟩ := Prod.mk.inj hw.symm; subst hw1; subst hw2
          have hH : zH D cA ζ s6 H1 := z_at ht.symm hB
          have hcs : s.heap.size + (cells + (s6.1 - s4.1)) = s6.1 := by omega
          have hss : sl0 + (slots + (s6.2.1 - s4.2.1)) = s6.2.1 := by omega
          replace hcM := And.intro hc1 hs1
          generalize cells + (s6.1 - s4.1) = cells at hcs hcM ⊢; generalize slots + (s6.2.1 - s4.2.1) = slots at hss hcM ⊢
          clear hB hk hz hvm ht hle hck hc1 hs1; generalize H1 = H at hH hS ⊢
          refine lv_goto (tgt := 103) hx hb dX0_factors_99 (by decide) ?_
          obtain ⟨hM1, hS1⟩ : cells = M ∧ slots = S := by have hq := congrArg Prod.snd (Option.some.inj hf); rw [← hq] at hM hS0; have hM : s.heap.size + M = s6.1 := hM; have hS0 : sl0 + S = s6.2.1 := hS0; omega
          refine W.widen (k := M) (n := S) (Nat.le_of_eq hM1) (Nat.le_of_eq hS1) ?_
          exact W.aret (v := .ref x5) hx hb hr (Or.inl ⟨_, rfl⟩) (Or.inr ⟨_, rfl⟩) (fun t ht hW => ⟨⟨s6, x5, rfl, trivial, Option.some.inj hf, z_at ht hH⟩, hS.F ht⟩) hS.2.2 dX0_factors_103
      · have c22 : ¬ v3 < (v5 * v5) := fun hq => c22 ((lg_cmp_gt _ _).mpr hq)
        have hf := dz_f c22 hf
        refine lv_iconst (v := 0) hx hb dX0_factors_25 (by decide) ?_
        refine lv_istore (lv' := [(7, .int 0), (2, .ref v2), (3, .long v3), (5, .long v5)]) hx hb dX0_factors_26 hl (by decide) rfl (fun ls hl => ?_)
        exact ih.2.1 v2 v3 v5 0 τ H locs cells slots hH hS hcs hss hcM ls (lv_sub hl [1, 2, 3, 0] rfl) hf
    · intro v2 v3 v5 v7 τ H locs cells slots hH hS hcs hss hcM ls hl hf
      have hf : (if ¬ v5 = 0 then (dz_l (v3 - v3 / v5 * v5) fun x2 => if x2 = (0 : Int64) then (dz_l (v7 + 1) fun x10 => if ¬ v5 = 0 then (dz_l (v3 / v5) fun x12 => (lfX0_factors K ζ k).2.1 v2 x12 v5 x10 τ) else none) else (if v7 ≤ (0 : Int32) then ((lfX0_factors K ζ k).2.2 v2 v3 v5 τ) else (dz_l τ.1 fun r3 => dz_l (znw τ 3 (.inr (11, [.long 0, .int 0, .int 0]))) fun s4 => zck s4 (zcl s4 (fnX13_init K ζ r3 v5 v7 0 s4) fun _ s6 => dz_b (zob ζ s6 v2 10) fun f9 => zcl s6 (fnX8_adds K ζ v2 r3 s6) fun x7 s8 => (lfX0_factors K ζ k).2.2 v2 v3 v5 s8)))) else none : Option (Nat × pH)) = some res := hf
      refine lv_lload_n hx hb dX0_factors_28 rfl (lv_at hl 1 rfl) ?_
      refine lv_lload hx hb dX0_factors_29 (lv_at hl 2 rfl) ?_
      obtain ⟨g1, hf⟩ := dz_go hf
      refine lv_lrem hx hb dX0_factors_31 g1 ?_
      refine lv_topl (fun x2 e_x2 => ?_)
      have hf := dz_ls e_x2 hf
      refine lv_lconst (v := 0) hx hb dX0_factors_32 rfl ?_
      refine W.lcmp hx hb dX0_factors_33 ?_
      refine lv_if_ne (tgt := 48) hx hb dX0_factors_34 (by decide) (fun c34 => ?_) (fun c34 => ?_)
      · have c34 : ¬ x2 = (0 : Int64) := fun hq => c34 ((lg_cmp_eq _ _).mpr hq)
        have hf := dz_f c34 hf
        refine lv_iload hx hb dX0_factors_48 (lv_at hl 3 rfl) ?_
        refine lv_if_le (tgt := 70) hx hb dX0_factors_50 (by decide) (fun c50 => ?_) (fun c50 => ?_)
        · have hf := dz_t c50 hf
          exact ih.2.2 v2 v3 v5 τ H locs cells slots hH hS hcs hss hcM ls (lv_sub hl [0, 1, 2] rfl) hf
        · have hf := dz_f c50 hf
          refine lv_aload_n hx hb dX0_factors_53 rfl (lv_at hl 0 rfl) ?_
          obtain ⟨r3, e_r3, hf⟩ := dz_lo hf
          obtain ⟨s4, e_s4, hf⟩ := dz_lo hf
          obtain ⟨hck, hf⟩ := zck_o hf
          have hc1 : cells + 1 ≤ M := by have hq := hck.1; rw [e_s4] at hq; have hq : τ.1 + 1 ≤ res.2.1 := hq; omega
          have hs1 : slots + 3 ≤ S := by have hq := hck.2; rw [e_s4] at hq; have hq : τ.2.1 + 3 ≤ res.2.2.1 := hq; omega
          refine va_new (ci := 11) (fs := [.long 0, .int 0, .int 0]) (C := RX13) (T := TX13) (N := 3) hx hb hts in_X13 tyX13 tyX13_ok hown (hts _ q677) (hts _ q678) (hts _ q103) hX.K hH.2.2 zw_D hS hX.hA rfl zdf_X13 hc1 hs1 dX0_factors_54 (fun q H1 hP1 hD1 hS => dz_size (fun hz => ?_))
          obtain ⟨hq, hH⟩ := zH_new (n := 3) (x := (.inr (11, [.long 0, .int 0, .int 0]))) hH hcs hP1 hD1 hz
          rw [← e_s4] at hH; obtain rfl : r3 = q := e_r3.trans hq.symm
          have hcs : s.heap.size + (cells + 1) = s4.1 := by rw [e_s4]; show _ = τ.1 + 1; omega
          have hss : sl0 + (slots + 3) = s4.2.1 := by rw [e_s4]; show _ = τ.2.1 + 3; omega
          replace hcM := And.intro hc1 hs1
          generalize cells + 1 = cells at hcs hcM ⊢; generalize slots + 3 = slots at hss hcM ⊢
          clear hP1 hD1 hz hq hck hc1 hs1; generalize H1 = H at hH hS ⊢
          refine lv_dup hx hb dX0_factors_57 rfl ?_
          refine lv_lload hx hb dX0_factors_58 (lv_at hl 2 rfl) ?_
          refine lv_iload hx hb dX0_factors_60 (lv_at hl 3 rfl) ?_
          refine lv_iconst (v := 0) hx hb dX0_factors_62 (by decide) ?_
          obtain ⟨x5, s6, hx5, hle, hck, hf⟩ := zcl_o hf
          have hc1 : cells + (s6.1 - s4.1) ≤ M := by omega
          have hs1 : slots + (s6.2.1 - s4.2.1) ≤ S := by omega
          refine va_callv (va_runI (As := [.long v5, .int v7, .int 0]) (rest := [.ref r3, .ref v2]) ⟨hx, hb, hml, hown, hts⟩ (mtX13_init l D cA ζ s4 r3 v5 v7 0 K (x5, s6) hx5 (s6.1 - s4.1) (s6.2.1 - s4.2.1) (Nat.add_sub_cancel' hle.1) (Nat.add_sub_cancel' hle.2)) (cwI 3 hts (lw_meth q681) rfl rfl rfl (hts _ q103) (hts _ q679) (hts _ q680) rfl (by decide +kernel) ⟨Nat.le_of_ble_eq_true rfl, Nat.le_of_ble_eq_true rfl⟩) (z_preS hX hS hH) rfl rfl hl.1 rfl (lv_room (Nat.le_of_ble_eq_true rfl)) dX0_factors_63 ⟨hc1, hs1⟩) hS (fun q _ hq => hq) (fun q hq => hq) (fun u t H1 locs ht hvm hw hB hz hk hS => ?_)
          obtain ⟨-, hw2⟩ := Prod.mk.inj hw.symm; subst hw2
          have hH : zH D cA ζ s6 H1 := z_at ht.symm hB
          have hcs : s.heap.size + (cells + (s6.1 - s4.1)) = s6.1 := by omega
          have hss : sl0 + (slots + (s6.2.1 - s4.2.1)) = s6.2.1 := by omega
          replace hcM := And.intro hc1 hs1
          generalize cells + (s6.1 - s4.1) = cells at hcs hcM ⊢; generalize slots + (s6.2.1 - s4.2.1) = slots at hss hcM ⊢
          clear hB hk hz hvm ht hle hck hc1 hs1; generalize H1 = H at hH hS ⊢
          obtain ⟨f9, hf9, hf⟩ := dz_bo hf
          obtain ⟨x7, s8, hx7, hle, hck, hf⟩ := zcl_o hf
          have hc1 : cells + (s8.1 - s6.1) ≤ M := by omega
          have hs1 : slots + (s8.2.1 - s6.2.1) ≤ S := by omega
          refine va_callr (va_runV (As := [.ref r3]) (rest := []) ⟨hx, hb, hml, hown, hts⟩ (mtX8_adds l D cA ζ s6 v2 r3 K (x7, s8) hx7 (s8.1 - s6.1) (s8.2.1 - s6.2.1) (Nat.add_sub_cancel' hle.1) (Nat.add_sub_cancel' hle.2)) (cwV 1 hts (lw_V q701 q702 q703 q98 q704) rfl rfl rfl (by decide +kernel) ⟨Nat.le_of_ble_eq_true rfl, Nat.le_of_ble_eq_true rfl⟩) (z_preV hX hS hH (zob_o hf9) rfl) rfl rfl hl.1 rfl (lv_room (Nat.le_of_ble_eq_true rfl)) dX0_factors_66 ⟨hc1, hs1⟩) hS (fun q _ hq => hq) (fun q hq => hq) (fun u r t H1 locs ht hvm hw hB hz hk hS => ?_)
          obtain ⟨hw, hB⟩ := hB
          obtain ⟨hw1, hw2⟩ := Prod.mk.inj hw.symm; subst hw1; subst hw2
          have hH : zH D cA ζ s8 H1 := z_at ht.symm hB
          have hcs : s.heap.size + (cells + (s8.1 - s6.1)) = s8.1 := by omega
          have hss : sl0 + (slots + (s8.2.1 - s6.2.1)) = s8.2.1 := by omega
          replace hcM := And.intro hc1 hs1
          generalize cells + (s8.1 - s6.1) = cells at hcs hcM ⊢; generalize slots + (s8.2.1 - s6.2.1) = slots at hss hcM ⊢
          clear hB hk hz hvm ht hle hck hc1 hs1; generalize H1 = H at hH hS ⊢
          refine lv_pop hx hb dX0_factors_69 rfl ?_
          exact ih.2.2 v2 v3 v5 s8 H locs cells slots hH hS hcs hss hcM ls (lv_sub hl [0, 1, 2] rfl) hf
      · have c34 : x2 = (0 : Int64) := (lg_cmp_eq _ _).mp c34
        have hf := dz_t c34 hf
        obtain ⟨x10, e_x10, hf⟩ := dz_lo hf
        refine lv_iinc (v := x10) (lv' := [(7, .int x10), (2, .ref v2), (3, .long v3), (5, .long v5)]) hx hb dX0_factors_37 hl (k := 3) rfl (by rw [e_x10]; rfl) (by decide) rfl (fun ls hl => ?_)
        refine lv_lload_n hx hb dX0_factors_40 rfl (lv_at hl 2 rfl) ?_
        refine lv_lload hx hb dX0_factors_41 (lv_at hl 3 rfl) ?_
        obtain ⟨g11, hf⟩ := dz_go hf
        refine lv_ldiv hx hb dX0_factors_43 g11 ?_
        refine lv_topl (fun x12 e_x12 => ?_)
        have hf := dz_ls e_x12 hf
        refine lv_lstore_n (lv' := [(3, .long x12), (7, .int x10), (2, .ref v2), (5, .long v5)]) hx hb dX0_factors_44 rfl hl (by decide) rfl (fun ls hl => ?_)
        refine lv_goto (tgt := 28) hx hb dX0_factors_45 (by decide) ?_
        exact ih.2.1 v2 x12 v5 x10 τ H locs cells slots hH hS hcs hss hcM ls (lv_sub hl [2, 0, 3, 1] rfl) hf
    · intro v2 v3 v5 τ H locs cells slots hH hS hcs hss hcM ls hl hf
      have hf : (dz_l (v5 + 1) fun x1 => (lfX0_factors K ζ k).1 v2 v3 x1 τ : Option (Nat × pH)) = some res := hf
      refine lv_lload hx hb dX0_factors_70 (lv_at hl 2 rfl) ?_
      refine lv_lconst (v := 1) hx hb dX0_factors_72 rfl ?_
      refine lv_ladd hx hb dX0_factors_73 ?_
      refine lv_topl (fun x1 e_x1 => ?_)
      have hf := dz_ls e_x1 hf
      refine lv_lstore (lv' := [(5, .long x1), (2, .ref v2), (3, .long v3)]) hx hb dX0_factors_74 hl (by decide) rfl (fun ls hl => ?_)
      refine lv_goto (tgt := 15) hx hb dX0_factors_76 (by decide) ?_
      exact ih.1 v2 v3 x1 τ H locs cells slots hH hS hcs hss hcM ls (lv_sub hl [1, 2, 0] rfl) hf
set_option maxHeartbeats 4000000 in
set_option maxRecDepth 100000 in
theorem mtX0_factors (l : Launch) (D : va_G) (cA : Nat → ClassId) (ζ : pZ) (τ : pH) (a0 : Int64) (K : Nat) (res : (Nat × pH)) (hf : fnX0_factors K ζ a0 τ = some res) (M S : Nat) (hM : τ.1 + M = res.2.1) (hS0 : τ.2.1 + S = res.2.2.1) : Met l yX0_factors (ws_ yX0_factors cX0_factors 8 (some (.object "PrimeProofs$Rows"))) ({ frames := 2, cells := M, slots := S, locals := 44 }) (zPc D cA ζ τ [.long a0]) (zQr D cA ζ res) M S (zA ζ) := by
  refine Met.ofW (cc := cX0_factors) (maxL := 8) (ret := some (.object "PrimeProofs$Rows")) (by decide +kernel) rfl ?_
  intro p e s m args below meth c s₁ B hml hv
  obtain ⟨rfl, hX, hH⟩ := hv
  have hx := B.exec
  have hb := B.bytes
  have hr := B.returns
  have hts := atoms_spec (ws := ws_ yX0_factors cX0_factors 8 (some (.object "PrimeProofs$Rows"))) B.pre
  have hts : ∀ w ∈ lw_all, w.before _ s = true := fun w h => hts w (List.mem_cons_of_mem _ h)
  have hown : s.vm.findClass RX0 = some m.cls := findClass_of_methodNamed B.named
  have hlocks := B.notSynchronized
  have hM : s.heap.size + M = res.2.1 := by rw [hH.1]; exact hM
  have hcs : s.heap.size + 0 = τ.1 := hH.1
  have hss : τ.2.1 + 0 = τ.2.1 := rfl
  generalize hsl0 : τ.2.1 = sl0 at hS0 hss
  have hss : sl0 + 0 = τ.2.1 := by rw [hsl0]; rfl
  have hS : va_S (zA ζ) s.heap s.heap [] := va_S.rf
  generalize hHe : s.heap = H at hH hS ⊢
  have hS : va_S (zA ζ) s.heap H [] := by rw [hHe]; exact hS
  generalize ([] : List Loc) = locs at hS ⊢
  have hl := lv_entry ([.long a0]) (n := 8) (Nat.le_of_ble_eq_true rfl)
  rw [lg_entry_eq]
  generalize (lg_sl ([.long a0]) ++ List.replicate (8 - (lg_sl ([.long a0])).length) Slot.unset).toArray = ls at hl ⊢
  have hl : lv_has ls 8 [(0, .long a0)] := hl
  have hf : (dz_l τ.1 fun r1 => dz_l (znw τ 2 (.inr (10, [.null, .int 0]))) fun s2 => zck s2 (zcl s2 (fnX8_init K ζ r1 s2) fun _ s4 => (lfX0_factors K ζ K).1 r1 a0 2 s4) : Option (Nat × pH)) = some res := hf
  refine z_gen (fun cells slots hc0 hs0 => ?_)
  have hcs : s.heap.size + cells = τ.1 := by rw [hc0]; exact hcs
  have hss : sl0 + slots = τ.2.1 := by rw [hs0]; exact hss
  have hcM : cells ≤ M ∧ slots ≤ S := by rw [hc0, hs0]; exact ⟨Nat.zero_le _, Nat.zero_le _⟩
  clear hc0 hs0
  have ih := wlX0_factors (l := l) (e := e) (below := below) (D := D) (cA := cA) hX K res M S sl0 hM hS0 a0 hx hb hr hlocks hml hown hts K
  obtain ⟨r1, e_r1, hf⟩ := dz_lo hf
  obtain ⟨s2, e_s2, hf⟩ := dz_lo hf
  obtain ⟨hck, hf⟩ := zck_o hf
  have hc1 : cells + 1 ≤ M := by have hq := hck.1; rw [e_s2] at hq; have hq : τ.1 + 1 ≤ res.2.1 := hq; omega
  have hs1 : slots + 2 ≤ S := by have hq := hck.2; rw [e_s2] at hq; have hq : τ.2.1 + 2 ≤ res.2.2.1 := hq; omega
  refine va_new (ci := 10) (fs := [.null, .int 0]) (C := RX8) (T := TX8) (N := 2) hx hb hts in_X8 tyX8 tyX8_ok hown (hts _ q675) (hts _ q509) (hts _ q98) hX.K hH.2.2 zw_D hS hX.hA rfl zdf_X8 hc1 hs1 dX0_factors_0 (fun q H1 hP1 hD1 hS => dz_size (fun hz => ?_))
  obtain ⟨hq, hH⟩ := zH_new (n := 2) (x := (.inr (10, [.null, .int 0]))) hH hcs hP1 hD1 hz
  rw [← e_s2] at hH; obtain rfl : r1 = q := e_r1.trans hq.symm
  have hcs : s.heap.size + (cells + 1) = s2.1 := by rw [e_s2]; show _ = τ.1 + 1; omega
  have hss : sl0 + (slots + 2) = s2.2.1 := by rw [e_s2]; show _ = τ.2.1 + 2; omega
  replace hcM := And.intro hc1 hs1
  generalize cells + 1 = cells at hcs hcM ⊢; generalize slots + 2 = slots at hss hcM ⊢
  clear hP1 hD1 hz hq hck hc1 hs1; generalize H1 = H at hH hS ⊢
  refine lv_dup hx hb dX0_factors_3 rfl ?_
  obtain ⟨x3, s4, hx3, hle, hck, hf⟩ := zcl_o hf
  have hc1 : cells + (s4.1 - s2.1) ≤ M := by omega
  have hs1 : slots + (s4.2.1 - s2.2.1) ≤ S := by omega
  refine va_callv (va_runIN (As := []) (rest := [.ref r1]) ⟨hx, hb, hml, hown, hts⟩ (mtX8_init l D cA ζ s2 r1 K (x3, s4) hx3 (s4.1 - s2.1) (s4.2.1 - s2.2.1) (Nat.add_sub_cancel' hle.1) (Nat.add_sub_cancel' hle.2)) ⟨va_cnB 0 hts (lw_meth q512) rfl rfl rfl (hX.N q676 rfl) (hts _ q98) (by decide +kernel) ⟨Nat.le_of_ble_eq_true rfl, Nat.le_of_ble_eq_true rfl⟩, rfl, hts _ q511⟩ (z_preS hX hS hH) rfl rfl hl.1 rfl (lv_room (Nat.le_of_ble_eq_true rfl)) dX0_factors_4 ⟨hc1, hs1⟩) hS (fun q _ hq => hq) (fun q hq => hq) (fun u t H1 locs ht hvm hw hB hz hk hS => ?_)
  obtain ⟨-, hw2⟩ := Prod.mk.inj hw.symm; subst hw2
  have hH : zH D cA ζ s4 H1 := z_at ht.symm hB
  have hcs : s.heap.size + (cells + (s4.1 - s2.1)) = s4.1 := by omega
  have hss : sl0 + (slots + (s4.2.1 - s2.2.1)) = s4.2.1 := by omega
  replace hcM := And.intro hc1 hs1
  generalize cells + (s4.1 - s2.1) = cells at hcs hcM ⊢; generalize slots + (s4.2.1 - s2.2.1) = slots at hss hcM ⊢
  clear hB hk hz hvm ht hle hck hc1 hs1; generalize H1 = H at hH hS ⊢
  refine lv_astore_n (lv' := [(2, .ref r1), (0, .long a0)]) hx hb dX0_factors_7 rfl hl (by decide) rfl (fun ls hl => ?_)
  refine lv_lload_n hx hb dX0_factors_8 rfl (lv_at hl 1 rfl) ?_
  refine lv_lstore_n (lv' := [(3, .long a0), (2, .ref r1), (0, .long a0)]) hx hb dX0_factors_9 rfl hl (by decide) rfl (fun ls hl => ?_)
  refine lv_ldc2 (v := 2) hx hb hown (hts _ q194) dX0_factors_10 ?_
  refine lv_lstore (lv' := [(5, .long 2), (3, .long a0), (2, .ref r1), (0, .long a0)]) hx hb dX0_factors_13 hl (by decide) rfl (fun ls hl => ?_)
  exact ih.1 r1 a0 2 s4 H locs cells slots hH hS hcs hss hcM ls (lv_sub hl [2, 1, 0] rfl) hf

noncomputable def fnJ6_hugeLength (K : Nat) (ζ : pZ) (a0 : Int32) (a1 : Int32) (τ : pH) : Option (Int32 × pH) := dz_l (a0 + a1) fun x1 => if (0 : Int32) ≤ x1 then (if (2147483639 : Int32) < x1 then (some (x1, τ)) else (some (2147483639, τ))) else (none)
set_option maxHeartbeats 4000000 in
set_option maxRecDepth 100000 in
theorem mtJ6_hugeLength (l : Launch) (D : va_G) (cA : Nat → ClassId) (ζ : pZ) (τ : pH) (a0 : Int32) (a1 : Int32) (K : Nat) (res : (Int32 × pH)) (hf : fnJ6_hugeLength K ζ a0 a1 τ = some res) (M S : Nat) (hM : τ.1 + M = res.2.1) (hS0 : τ.2.1 + S = res.2.2.1) : Met l yJ6_hugeLength (ws_ yJ6_hugeLength cJ6_hugeLength 3 (some .int)) ({ frames := 0, cells := M, slots := S, locals := 0 }) (zPc D cA ζ τ [.int a0, .int a1]) (zQi D cA ζ res) M S (zA ζ) := by
  refine Met.ofW (cc := cJ6_hugeLength) (maxL := 3) (ret := some .int) (by decide +kernel) rfl ?_
  intro p e s m args below meth c s₁ B hml hv
  obtain ⟨rfl, hX, hH⟩ := hv
  have hx := B.exec
  have hb := B.bytes
  have hr := B.returns
  have hts := atoms_spec (ws := ws_ yJ6_hugeLength cJ6_hugeLength 3 (some .int)) B.pre
  have hts : ∀ w ∈ lw_all, w.before _ s = true := fun w h => hts w (List.mem_cons_of_mem _ h)
  have hown : s.vm.findClass RJ6 = some m.cls := findClass_of_methodNamed B.named
  have hlocks := B.notSynchronized
  have hM : s.heap.size + M = res.2.1 := by rw [hH.1]; exact hM
  have hcs : s.heap.size + 0 = τ.1 := hH.1
  have hss : τ.2.1 + 0 = τ.2.1 := rfl
  generalize hsl0 : τ.2.1 = sl0 at hS0 hss
  have hss : sl0 + 0 = τ.2.1 := by rw [hsl0]; rfl
  have hS : va_S (zA ζ) s.heap s.heap [] := va_S.rf
  generalize hHe : s.heap = H at hH hS ⊢
  have hS : va_S (zA ζ) s.heap H [] := by rw [hHe]; exact hS
  generalize ([] : List Loc) = locs at hS ⊢
  have hl := lv_entry ([.int a0, .int a1]) (n := 3) (Nat.le_of_ble_eq_true rfl)
  rw [lg_entry_eq]
  generalize (lg_sl ([.int a0, .int a1]) ++ List.replicate (3 - (lg_sl ([.int a0, .int a1])).length) Slot.unset).toArray = ls at hl ⊢
  have hl : lv_has ls 3 [(0, .int a0), (1, .int a1)] := hl
  have hf : (dz_l (a0 + a1) fun x1 => if (0 : Int32) ≤ x1 then (if (2147483639 : Int32) < x1 then (some (x1, τ)) else (some (2147483639, τ))) else (none) : Option (Int32 × pH)) = some res := hf
  refine z_gen (fun cells slots hc0 hs0 => ?_)
  have hcs : s.heap.size + cells = τ.1 := by rw [hc0]; exact hcs
  have hss : sl0 + slots = τ.2.1 := by rw [hs0]; exact hss
  have hcM : cells ≤ M ∧ slots ≤ S := by rw [hc0, hs0]; exact ⟨Nat.zero_le _, Nat.zero_le _⟩
  clear hc0 hs0
  refine lv_iload_n hx hb dJ6_hugeLength_0 rfl (lv_at hl 0 rfl) ?_
  refine lv_iload_n hx hb dJ6_hugeLength_1 rfl (lv_at hl 1 rfl) ?_
  refine lv_iadd hx hb dJ6_hugeLength_2 ?_
  refine lv_topi (fun x1 e_x1 => ?_)
  have hf := dz_ls e_x1 hf
  refine lv_istore_n (lv' := [(2, .int x1), (0, .int a0), (1, .int a1)]) hx hb dJ6_hugeLength_3 rfl hl (by decide) rfl (fun ls hl => ?_)
  refine lv_iload_n hx hb dJ6_hugeLength_4 rfl (lv_at hl 0 rfl) ?_
  refine lv_if_ge (tgt := 49) hx hb dJ6_hugeLength_5 (by decide) (fun c5 => ?_) (fun c5 => ?_)
  · have hf := dz_t c5 hf
    refine lv_iload_n hx hb dJ6_hugeLength_49 rfl (lv_at hl 0 rfl) ?_
    refine lv_ldc (v := 2147483639) hx hb hown (hts _ q816) dJ6_hugeLength_50 ?_
    refine lv_icmp_gt (tgt := 58) hx hb dJ6_hugeLength_52 (by decide) (fun c52 => ?_) (fun c52 => ?_)
    · have hf := dz_t c52 hf
      refine lv_iload_n hx hb dJ6_hugeLength_58 rfl (lv_at hl 0 rfl) ?_
      obtain ⟨hM1, hS1⟩ : cells = M ∧ slots = S := by have hq := congrArg Prod.snd (Option.some.inj hf); rw [← hq] at hM hS0; have hM : s.heap.size + M = τ.1 := hM; have hS0 : sl0 + S = τ.2.1 := hS0; omega
      refine W.widen (k := M) (n := S) (Nat.le_of_eq hM1) (Nat.le_of_eq hS1) ?_
      exact W.iret (v := x1) hx hb hr (fun t ht hW => ⟨⟨x1, τ, rfl, Option.some.inj hf, z_at ht hH⟩, hS.F ht⟩) hS.2.2 dJ6_hugeLength_59
    · have hf := dz_f c52 hf
      refine lv_ldc (v := 2147483639) hx hb hown (hts _ q816) dJ6_hugeLength_55 ?_
      obtain ⟨hM1, hS1⟩ : cells = M ∧ slots = S := by have hq := congrArg Prod.snd (Option.some.inj hf); rw [← hq] at hM hS0; have hM : s.heap.size + M = τ.1 := hM; have hS0 : sl0 + S = τ.2.1 := hS0; omega
      refine W.widen (k := M) (n := S) (Nat.le_of_eq hM1) (Nat.le_of_eq hS1) ?_
      exact W.iret (v := 2147483639) hx hb hr (fun t ht hW => ⟨⟨2147483639, τ, rfl, Option.some.inj hf, z_at ht hH⟩, hS.F ht⟩) hS.2.2 dJ6_hugeLength_57
  · have hf := dz_f c5 hf
    cases hf

noncomputable def fnJ5_max (K : Nat) (a0 : Int32) (a1 : Int32) : Option Int32 := if a0 < a1 then (some a1) else (some a0)
set_option maxHeartbeats 4000000 in
set_option maxRecDepth 100000 in
theorem mtJ5_max (l : Launch) (a0 : Int32) (a1 : Int32) (K : Nat) (res : Int32) (hf : fnJ5_max K a0 a1 = some res) : Met l yJ5_max (ws_ yJ5_max cJ5_max 2 (some .int)) ({ frames := 0, cells := 0, slots := 0, locals := 0 }) (dz_P [.int a0, .int a1]) (dz_Qi res) 0 0 (fun _ => False) := by
  refine dz_ofW (cc := cJ5_max) (maxL := 2) (ret := some .int) (by decide +kernel) rfl ?_
  intro p e s m args below meth c s₁ B hml hv
  obtain ⟨rfl, -⟩ := hv
  have hx := B.exec
  have hb := B.bytes
  have hr := B.returns
  have hts := atoms_spec (ws := ws_ yJ5_max cJ5_max 2 (some .int)) B.pre
  have hts : ∀ w ∈ lw_all, w.before _ s = true := fun w h => hts w (List.mem_cons_of_mem _ h)
  have hown : s.vm.findClass RJ5 = some m.cls := findClass_of_methodNamed B.named
  have hlocks := B.notSynchronized
  have hS : va_S (fun _ => False) s.heap s.heap [] := va_S.rf
  generalize hHe : s.heap = H at hS ⊢
  have hS : va_S (fun _ => False) s.heap H [] := by rw [hHe]; exact hS
  generalize ([] : List Loc) = locs at hS ⊢
  have hl := lv_entry ([.int a0, .int a1]) (n := 2) (Nat.le_of_ble_eq_true rfl)
  rw [lg_entry_eq]
  generalize (lg_sl ([.int a0, .int a1]) ++ List.replicate (2 - (lg_sl ([.int a0, .int a1])).length) Slot.unset).toArray = ls at hl ⊢
  have hl : lv_has ls 2 [(0, .int a0), (1, .int a1)] := hl
  have hf : (if a0 < a1 then (some a1) else (some a0) : Option Int32) = some res := hf
  refine lv_iload_n hx hb dJ5_max_0 rfl (lv_at hl 0 rfl) ?_
  refine lv_iload_n hx hb dJ5_max_1 rfl (lv_at hl 1 rfl) ?_
  refine lv_icmp_lt (tgt := 9) hx hb dJ5_max_2 (by decide) (fun c2 => ?_) (fun c2 => ?_)
  · have hf := dz_t c2 hf
    refine lv_iload_n hx hb dJ5_max_9 rfl (lv_at hl 1 rfl) ?_
    exact W.iret (v := a1) hx hb hr (fun t ht hW => ⟨⟨a1, (), rfl, Option.some.inj hf, trivial⟩, hS.F ht⟩) hS.2.2 dJ5_max_10
  · have hf := dz_f c2 hf
    refine lv_iload_n hx hb dJ5_max_5 rfl (lv_at hl 0 rfl) ?_
    refine lv_goto (tgt := 10) hx hb dJ5_max_6 (by decide) ?_
    exact W.iret (v := a0) hx hb hr (fun t ht hW => ⟨⟨a0, (), rfl, Option.some.inj hf, trivial⟩, hS.F ht⟩) hS.2.2 dJ5_max_10

noncomputable def lfJ6_newLength (K : Nat) (ζ : pZ) : Nat → (Int32 → Int32 → pH → Option (Int32 × pH)) := Nat.rec (motive := fun _ => (Int32 → Int32 → pH → Option (Int32 × pH))) (fun _ _ _ => none) (fun _ G => (fun v0 v1 τ => zcl τ (fnJ6_hugeLength K ζ v0 v1 τ) fun x1 s2 => some (x1, s2)))
noncomputable def fnJ6_newLength (K : Nat) (ζ : pZ) (a0 : Int32) (a1 : Int32) (a2 : Int32) (τ : pH) : Option (Int32 × pH) := dz_b (fnJ5_max K a1 a2) fun x1 => dz_l (a0 + x1) fun x2 => if x2 ≤ (0 : Int32) then ((lfJ6_newLength K ζ K) a0 a1 τ) else (if (2147483639 : Int32) < x2 then ((lfJ6_newLength K ζ K) a0 a1 τ) else (some (x2, τ)))
set_option maxHeartbeats 4000000 in
set_option maxRecDepth 100000 in
theorem wlJ6_newLength {p : Program} {l : Launch} {e : Env} {s : State} {m : MethodId} {below : List Frame} {meth : Method} {c : Code} {D : va_G} {cA : Nat → ClassId} {ζ : pZ} (hX : zX D cA ζ s) (K : Nat) (res : (Int32 × pH)) (M S sl0 : Nat) (hM : s.heap.size + M = res.2.1) (hS0 : sl0 + S = res.2.2.1) (a0 : Int32) (a1 : Int32) (a2 : Int32) (hx : p.tables.exec = Jvm.exec) (hb : c.code = cJ6_newLength) (hr : meth.sig.returnType = some .int) (hlocks : meth.locks = false) (hml : c.maxLocals = 4) (hown : s.vm.findClass RJ6 = some m.cls) (hts : ∀ w ∈ lw_all, w.before ([.int a0, .int a1, .int a2] : List Value).toArray s = true) : ∀ k : Nat, (∀ (v0 : Int32) (v1 : Int32) (τ : pH) (H : Heap) (locs : List Loc) (cells slots : Nat), zH D cA ζ τ H → va_S (zA ζ) s.heap H locs → s.heap.size + cells = τ.1 → sl0 + slots = τ.2.1 → cells ≤ M ∧ slots ≤ S → ∀ (ls : Array Slot), lv_has ls 4 [(0, .int v0), (1, .int v1)] → (lfJ6_newLength K ζ k) v0 v1 τ = some res → W p l e (headSpec (ws_ yJ6_newLength cJ6_newLength 4 (some .int)) ({ frames := 1, cells := M, slots := S, locals := 22 })).room s m ([.int a0, .int a1, .int a2] : List Value).toArray below meth c H locs cells slots (MQ below (zQi D cA ζ res) ([.int a0, .int a1, .int a2] : List Value).toArray s M S (zA ζ)) (F0 m 21 ls [])) := by
  intro k
  induction k with
  | zero =>
    exact fun _ _ _ _ _ _ _ _ _ _ _ _ _ _ hf => (by cases hf)
  | succ k ih =>
    · intro v0 v1 τ H locs cells slots hH hS hcs hss hcM ls hl hf
      have hf : (zcl τ (fnJ6_hugeLength K ζ v0 v1 τ) fun x1 s2 => some (x1, s2) : Option (Int32 × pH)) = some res := hf
      refine lv_iload_n hx hb dJ6_newLength_21 rfl (lv_at hl 0 rfl) ?_
      refine lv_iload_n hx hb dJ6_newLength_22 rfl (lv_at hl 1 rfl) ?_
      obtain ⟨x1, s2, hx1, hle, hck, hf⟩ := zcl_o hf
      have hc1 : cells + (s2.1 - τ.1) ≤ M := by omega
      have hs1 : slots + (s2.2.1 - τ.2.1) ≤ S := by omega
      refine va_calli (va_runS (As := [.int v0, .int v1]) (rest := []) ⟨hx, hb, hml, hown, hts⟩ (mtJ6_hugeLength l D cA ζ τ v0 v1 K (x1, s2) hx1 (s2.1 - τ.1) (s2.2.1 - τ.2.1) (Nat.add_sub_cancel' hle.1) (Nat.add_sub_cancel' hle.2)) (va_cwS 2 hts (lw_S q817 q818 q104 q819) rfl rfl rfl (by decide +kernel) ⟨Nat.le_of_ble_eq_true rfl, Nat.le_of_ble_eq_true rfl⟩) (z_preS hX hS hH) rfl rfl hl.1 rfl (lv_room (Nat.le_of_ble_eq_true rfl)) dJ6_newLength_23 ⟨hc1, hs1⟩) hS (fun q _ hq => hq) (fun q hq => hq) (fun r u t H1 locs ht hvm hw hB hz hk hS => ?_)
      obtain ⟨hw1, hw2⟩ := Prod.mk.inj hw.symm; subst hw1; subst hw2
      have hH : zH D cA ζ s2 H1 := z_at ht.symm hB
      have hcs : s.heap.size + (cells + (s2.1 - τ.1)) = s2.1 := by omega
      have hss : sl0 + (slots + (s2.2.1 - τ.2.1)) = s2.2.1 := by omega
      replace hcM := And.intro hc1 hs1
      generalize cells + (s2.1 - τ.1) = cells at hcs hcM ⊢; generalize slots + (s2.2.1 - τ.2.1) = slots at hss hcM ⊢
      clear hB hk hz hvm ht hle hck hc1 hs1; generalize H1 = H at hH hS ⊢
      obtain ⟨hM1, hS1⟩ : cells = M ∧ slots = S := by have hq := congrArg Prod.snd (Option.some.inj hf); rw [← hq] at hM hS0; have hM : s.heap.size + M = s2.1 := hM; have hS0 : sl0 + S = s2.2.1 := hS0; omega
      refine W.widen (k := M) (n := S) (Nat.le_of_eq hM1) (Nat.le_of_eq hS1) ?_
      exact W.iret (v := x1) hx hb hr (fun t ht hW => ⟨⟨x1, s2, rfl, Option.some.inj hf, z_at ht hH⟩, hS.F ht⟩) hS.2.2 dJ6_newLength_26
set_option maxHeartbeats 4000000 in
set_option maxRecDepth 100000 in
theorem mtJ6_newLength (l : Launch) (D : va_G) (cA : Nat → ClassId) (ζ : pZ) (τ : pH) (a0 : Int32) (a1 : Int32) (a2 : Int32) (K : Nat) (res : (Int32 × pH)) (hf : fnJ6_newLength K ζ a0 a1 a2 τ = some res) (M S : Nat) (hM : τ.1 + M = res.2.1) (hS0 : τ.2.1 + S = res.2.2.1) : Met l yJ6_newLength (ws_ yJ6_newLength cJ6_newLength 4 (some .int)) ({ frames := 1, cells := M, slots := S, locals := 22 }) (zPc D cA ζ τ [.int a0, .int a1, .int a2]) (zQi D cA ζ res) M S (zA ζ) := by
  refine Met.ofW (cc := cJ6_newLength) (maxL := 4) (ret := some .int) (by decide +kernel) rfl ?_
  intro p e s m args below meth c s₁ B hml hv
  obtain ⟨rfl, hX, hH⟩ := hv
  have hx := B.exec
  have hb := B.bytes
  have hr := B.returns
  have hts := atoms_spec (ws := ws_ yJ6_newLength cJ6_newLength 4 (some .int)) B.pre
  have hts : ∀ w ∈ lw_all, w.before _ s = true := fun w h => hts w (List.mem_cons_of_mem _ h)
  have hown : s.vm.findClass RJ6 = some m.cls := findClass_of_methodNamed B.named
  have hlocks := B.notSynchronized
  have hM : s.heap.size + M = res.2.1 := by rw [hH.1]; exact hM
  have hcs : s.heap.size + 0 = τ.1 := hH.1
  have hss : τ.2.1 + 0 = τ.2.1 := rfl
  generalize hsl0 : τ.2.1 = sl0 at hS0 hss
  have hss : sl0 + 0 = τ.2.1 := by rw [hsl0]; rfl
  have hS : va_S (zA ζ) s.heap s.heap [] := va_S.rf
  generalize hHe : s.heap = H at hH hS ⊢
  have hS : va_S (zA ζ) s.heap H [] := by rw [hHe]; exact hS
  generalize ([] : List Loc) = locs at hS ⊢
  have hl := lv_entry ([.int a0, .int a1, .int a2]) (n := 4) (Nat.le_of_ble_eq_true rfl)
  rw [lg_entry_eq]
  generalize (lg_sl ([.int a0, .int a1, .int a2]) ++ List.replicate (4 - (lg_sl ([.int a0, .int a1, .int a2])).length) Slot.unset).toArray = ls at hl ⊢
  have hl : lv_has ls 4 [(0, .int a0), (1, .int a1), (2, .int a2)] := hl
  have hf : (dz_b (fnJ5_max K a1 a2) fun x1 => dz_l (a0 + x1) fun x2 => if x2 ≤ (0 : Int32) then ((lfJ6_newLength K ζ K) a0 a1 τ) else (if (2147483639 : Int32) < x2 then ((lfJ6_newLength K ζ K) a0 a1 τ) else (some (x2, τ))) : Option (Int32 × pH)) = some res := hf
  refine z_gen (fun cells slots hc0 hs0 => ?_)
  have hcs : s.heap.size + cells = τ.1 := by rw [hc0]; exact hcs
  have hss : sl0 + slots = τ.2.1 := by rw [hs0]; exact hss
  have hcM : cells ≤ M ∧ slots ≤ S := by rw [hc0, hs0]; exact ⟨Nat.zero_le _, Nat.zero_le _⟩
  clear hc0 hs0
  have ih := wlJ6_newLength (l := l) (e := e) (below := below) (D := D) (cA := cA) hX K res M S sl0 hM hS0 a0 a1 a2 hx hb hr hlocks hml hown hts K
  refine lv_iload_n hx hb dJ6_newLength_0 rfl (lv_at hl 0 rfl) ?_
  refine lv_iload_n hx hb dJ6_newLength_1 rfl (lv_at hl 1 rfl) ?_
  refine lv_iload_n hx hb dJ6_newLength_2 rfl (lv_at hl 2 rfl) ?_
  obtain ⟨x1, hx1, hf⟩ := dz_bo hf
  refine va_calli (va_runS (As := [.int a1, .int a2]) (rest := [.int a0]) ⟨hx, hb, hml, hown, hts⟩ (mtJ5_max l a1 a2 K x1 hx1) (va_cwS 2 hts (lw_S q813 q814 q92 q815) rfl rfl rfl (by decide +kernel) ⟨Nat.le_of_ble_eq_true rfl, Nat.le_of_ble_eq_true rfl⟩) ⟨fun a U g mk q => q, fun U hU hW => ⟨rfl, trivial⟩⟩ rfl rfl hl.1 rfl (lv_room (Nat.le_of_ble_eq_true rfl)) dJ6_newLength_3 ⟨hcM.1, hcM.2⟩) hS (fun q _ hq => hq.elim) (fun q hq => hq.elim) (fun r u t H1 locs ht hvm hw hB hz hk hS => dz_size (fun hz9 => ?_))
  replace hw := hw.symm; subst hw
  replace hH := zH_keep hH hcs hz hk hz9
  clear hB hk hz hvm ht hz9; generalize H1 = H at hH hS ⊢
  refine W.widen (k := cells) (n := slots) (Nat.le_refl _) (Nat.le_refl _) ?_
  refine lv_iadd hx hb dJ6_newLength_6 ?_
  refine lv_topi (fun x2 e_x2 => ?_)
  have hf := dz_ls e_x2 hf
  refine lv_istore_n (lv' := [(3, .int x2), (0, .int a0), (1, .int a1), (2, .int a2)]) hx hb dJ6_newLength_7 rfl hl (by decide) rfl (fun ls hl => ?_)
  refine lv_iconst (v := 0) hx hb dJ6_newLength_8 (by decide) ?_
  refine lv_iload_n hx hb dJ6_newLength_9 rfl (lv_at hl 0 rfl) ?_
  refine lv_icmp_ge (tgt := 21) hx hb dJ6_newLength_10 (by decide) (fun c10 => ?_) (fun c10 => ?_)
  · have hf := dz_t c10 hf
    exact ih a0 a1 τ H locs cells slots hH hS hcs hss hcM ls (lv_sub hl [1, 2] rfl) hf
  · have hf := dz_f c10 hf
    refine lv_iload_n hx hb dJ6_newLength_13 rfl (lv_at hl 0 rfl) ?_
    refine lv_ldc (v := 2147483639) hx hb hown (hts _ q816) dJ6_newLength_14 ?_
    refine lv_icmp_gt (tgt := 21) hx hb dJ6_newLength_16 (by decide) (fun c16 => ?_) (fun c16 => ?_)
    · have hf := dz_t c16 hf
      exact ih a0 a1 τ H locs cells slots hH hS hcs hss hcM ls (lv_sub hl [1, 2] rfl) hf
    · have hf := dz_f c16 hf
      refine lv_iload_n hx hb dJ6_newLength_19 rfl (lv_at hl 0 rfl) ?_
      obtain ⟨hM1, hS1⟩ : cells = M ∧ slots = S := by have hq := congrArg Prod.snd (Option.some.inj hf); rw [← hq] at hM hS0; have hM : s.heap.size + M = τ.1 := hM; have hS0 : sl0 + S = τ.2.1 := hS0; omega
      refine W.widen (k := M) (n := S) (Nat.le_of_eq hM1) (Nat.le_of_eq hS1) ?_
      exact W.iret (v := x2) hx hb hr (fun t ht hW => ⟨⟨x2, τ, rfl, Option.some.inj hf, z_at ht hH⟩, hS.F ht⟩) hS.2.2 dJ6_newLength_20

noncomputable def fnJ5_min_2 (K : Nat) (a0 : Int32) (a1 : Int32) : Option Int32 := if a1 < a0 then (some a1) else (some a0)
set_option maxHeartbeats 4000000 in
set_option maxRecDepth 100000 in
theorem mtJ5_min_2 (l : Launch) (a0 : Int32) (a1 : Int32) (K : Nat) (res : Int32) (hf : fnJ5_min_2 K a0 a1 = some res) : Met l yJ5_min_2 (ws_ yJ5_min_2 cJ5_min_2 2 (some .int)) ({ frames := 0, cells := 0, slots := 0, locals := 0 }) (dz_P [.int a0, .int a1]) (dz_Qi res) 0 0 (fun _ => False) := by
  refine dz_ofW (cc := cJ5_min_2) (maxL := 2) (ret := some .int) (by decide +kernel) rfl ?_
  intro p e s m args below meth c s₁ B hml hv
  obtain ⟨rfl, -⟩ := hv
  have hx := B.exec
  have hb := B.bytes
  have hr := B.returns
  have hts := atoms_spec (ws := ws_ yJ5_min_2 cJ5_min_2 2 (some .int)) B.pre
  have hts : ∀ w ∈ lw_all, w.before _ s = true := fun w h => hts w (List.mem_cons_of_mem _ h)
  have hown : s.vm.findClass RJ5 = some m.cls := findClass_of_methodNamed B.named
  have hlocks := B.notSynchronized
  have hS : va_S (fun _ => False) s.heap s.heap [] := va_S.rf
  generalize hHe : s.heap = H at hS ⊢
  have hS : va_S (fun _ => False) s.heap H [] := by rw [hHe]; exact hS
  generalize ([] : List Loc) = locs at hS ⊢
  have hl := lv_entry ([.int a0, .int a1]) (n := 2) (Nat.le_of_ble_eq_true rfl)
  rw [lg_entry_eq]
  generalize (lg_sl ([.int a0, .int a1]) ++ List.replicate (2 - (lg_sl ([.int a0, .int a1])).length) Slot.unset).toArray = ls at hl ⊢
  have hl : lv_has ls 2 [(0, .int a0), (1, .int a1)] := hl
  have hf : (if a1 < a0 then (some a1) else (some a0) : Option Int32) = some res := hf
  refine lv_iload_n hx hb dJ5_min_2_0 rfl (lv_at hl 0 rfl) ?_
  refine lv_iload_n hx hb dJ5_min_2_1 rfl (lv_at hl 1 rfl) ?_
  refine lv_icmp_gt (tgt := 9) hx hb dJ5_min_2_2 (by decide) (fun c2 => ?_) (fun c2 => ?_)
  · have hf := dz_t c2 hf
    refine lv_iload_n hx hb dJ5_min_2_9 rfl (lv_at hl 1 rfl) ?_
    exact W.iret (v := a1) hx hb hr (fun t ht hW => ⟨⟨a1, (), rfl, Option.some.inj hf, trivial⟩, hS.F ht⟩) hS.2.2 dJ5_min_2_10
  · have hf := dz_f c2 hf
    refine lv_iload_n hx hb dJ5_min_2_5 rfl (lv_at hl 0 rfl) ?_
    refine lv_goto (tgt := 10) hx hb dJ5_min_2_6 (by decide) ?_
    exact W.iret (v := a0) hx hb hr (fun t ht hW => ⟨⟨a0, (), rfl, Option.some.inj hf, trivial⟩, hS.F ht⟩) hS.2.2 dJ5_min_2_10

noncomputable def fnJ7_copyOf_2 (K : Nat) (ζ : pZ) (a0 : Nat) (a1 : Int32) (a2 : Nat) (τ : pH) : Option (Nat × pH) := if (some a2 : Option Nat) = some (ζ.2.2.2 1) then (if ¬ a1 < 0 then (if (Int32.toNatClampNeg a1) * 4 ≤ 536870912 then (dz_l τ.1 fun r3 => dz_l (znw τ (Int32.toNatClampNeg a1) (.inl (4, ((Int32.toNatClampNeg a1), .inr (.inr (.inr (.inr (fun _ => none)))))))) fun s4 => zck s4 (dz_b (zlenq ζ s4 a0) fun n5 => dz_l (Int32.ofNat n5) fun x6 => dz_b (fnJ5_min_2 K x6 a1) fun x7 => if ζ.1 ≤ a0 ∧ a0 < s4.1 then (if ζ.1 ≤ r3 ∧ r3 < s4.1 then (dz_c (zaq ζ s4 a0 4) fun n8 f9 => dz_c (zaq ζ s4 r3 4) fun n10 f11 => if ¬ (0 : Int32) < 0 then (if ¬ (0 : Int32) < 0 then (if ¬ x7 < 0 then (if (Int32.toNatClampNeg 0) + (Int32.toNatClampNeg x7) ≤ n8 then (if (Int32.toNatClampNeg 0) + (Int32.toNatClampNeg x7) ≤ n10 then (if zels ζ s4 f9 (Int32.toNatClampNeg 0) (Int32.toNatClampNeg x7) = true then (dz_l (zst s4 r3 (.inl (4, n10, .inr (.inr (.inr (.inr (va_cpy f9 f11 (Int32.toNatClampNeg 0) (Int32.toNatClampNeg 0) (Int32.toNatClampNeg x7)))))))) fun s12 => some (r3, s12)) else none) else none) else none) else none) else none) else none) else none) else none)) else none) else none) else (none)
set_option maxHeartbeats 4000000 in
set_option maxRecDepth 100000 in
theorem mtJ7_copyOf_2 (l : Launch) (D : va_G) (cA : Nat → ClassId) (ζ : pZ) (τ : pH) (a0 : Nat) (a1 : Int32) (a2 : Nat) (K : Nat) (res : (Nat × pH)) (hf : fnJ7_copyOf_2 K ζ a0 a1 a2 τ = some res) (M S : Nat) (hM : τ.1 + M = res.2.1) (hS0 : τ.2.1 + S = res.2.2.1) : Met l yJ7_copyOf_2 (ws_ yJ7_copyOf_2 cJ7_copyOf_2 4 ((Option.some (Jvm.ClassFile.FieldType.array (Jvm.ClassFile.FieldType.object "java/lang/Object"))))) ({ frames := 1, cells := M, slots := S, locals := 60 }) (zPc D cA ζ τ [.ref a0, .int a1, .ref a2]) (zQr D cA ζ res) M S (zA ζ) := by
  refine Met.ofW (cc := cJ7_copyOf_2) (maxL := 4) (ret := (Option.some (Jvm.ClassFile.FieldType.array (Jvm.ClassFile.FieldType.object "java/lang/Object")))) (by decide +kernel) rfl ?_
  intro p e s m args below meth c s₁ B hml hv
  obtain ⟨rfl, hX, hH⟩ := hv
  have hx := B.exec
  have hb := B.bytes
  have hr := B.returns
  have hts := atoms_spec (ws := ws_ yJ7_copyOf_2 cJ7_copyOf_2 4 ((Option.some (Jvm.ClassFile.FieldType.array (Jvm.ClassFile.FieldType.object "java/lang/Object"))))) B.pre
  have hts : ∀ w ∈ lw_all, w.before _ s = true := fun w h => hts w (List.mem_cons_of_mem _ h)
  have hown : s.vm.findClass RJ7 = some m.cls := findClass_of_methodNamed B.named
  have hlocks := B.notSynchronized
  have hM : s.heap.size + M = res.2.1 := by rw [hH.1]; exact hM
  have hcs : s.heap.size + 0 = τ.1 := hH.1
  have hss : τ.2.1 + 0 = τ.2.1 := rfl
  generalize hsl0 : τ.2.1 = sl0 at hS0 hss
  have hss : sl0 + 0 = τ.2.1 := by rw [hsl0]; rfl
  have hS : va_S (zA ζ) s.heap s.heap [] := va_S.rf
  generalize hHe : s.heap = H at hH hS ⊢
  have hS : va_S (zA ζ) s.heap H [] := by rw [hHe]; exact hS
  generalize ([] : List Loc) = locs at hS ⊢
  have hl := lv_entry ([.ref a0, .int a1, .ref a2]) (n := 4) (Nat.le_of_ble_eq_true rfl)
  rw [lg_entry_eq]
  generalize (lg_sl ([.ref a0, .int a1, .ref a2]) ++ List.replicate (4 - (lg_sl ([.ref a0, .int a1, .ref a2])).length) Slot.unset).toArray = ls at hl ⊢
  have hl : lv_has ls 4 [(0, .ref a0), (1, .int a1), (2, .ref a2)] := hl
  have hf : (if (some a2 : Option Nat) = some (ζ.2.2.2 1) then (if ¬ a1 < 0 then (if (Int32.toNatClampNeg a1) * 4 ≤ 536870912 then (dz_l τ.1 fun r3 => dz_l (znw τ (Int32.toNatClampNeg a1) (.inl (4, ((Int32.toNatClampNeg a1), .inr (.inr (.inr (.inr (fun _ => none)))))))) fun s4 => zck s4 (dz_b (zlenq ζ s4 a0) fun n5 => dz_l (Int32.ofNat n5) fun x6 => dz_b (fnJ5_min_2 K x6 a1) fun x7 => if ζ.1 ≤ a0 ∧ a0 < s4.1 then (if ζ.1 ≤ r3 ∧ r3 < s4.1 then (dz_c (zaq ζ s4 a0 4) fun n8 f9 => dz_c (zaq ζ s4 r3 4) fun n10 f11 => if ¬ (0 : Int32) < 0 then (if ¬ (0 : Int32) < 0 then (if ¬ x7 < 0 then (if (Int32.toNatClampNeg 0) + (Int32.toNatClampNeg x7) ≤ n8 then (if (Int32.toNatClampNeg 0) + (Int32.toNatClampNeg x7) ≤ n10 then (if zels ζ s4 f9 (Int32.toNatClampNeg 0) (Int32.toNatClampNeg x7) = true then (dz_l (zst s4 r3 (.inl (4, n10, .inr (.inr (.inr (.inr (va_cpy f9 f11 (Int32.toNatClampNeg 0) (Int32.toNatClampNeg 0) (Int32.toNatClampNeg x7)))))))) fun s12 => some (r3, s12)) else none) else none) else none) else none) else none) else none) else none) else none)) else none) else none) else (none) : Option (Nat × pH)) = some res := hf
  refine z_gen (fun cells slots hc0 hs0 => ?_)
  have hcs : s.heap.size + cells = τ.1 := by rw [hc0]; exact hcs
  have hss : sl0 + slots = τ.2.1 := by rw [hs0]; exact hss
  have hcM : cells ≤ M ∧ slots ≤ S := by rw [hc0, hs0]; exact ⟨Nat.zero_le _, Nat.zero_le _⟩
  clear hc0 hs0
  refine lv_aload_n hx hb dJ7_copyOf_2_0 rfl (lv_at hl 2 rfl) ?_
  refine va_ldcM hx hb hown (hts _ q848) hX.st.2.1.1 dJ7_copyOf_2_1 ?_
  refine lv_acmp_ne (rx := some a2) (ry := some (ζ.2.2.2 1)) (tgt := 13) hx hb dJ7_copyOf_2_3 (by decide) (fun c3 => ?_) (fun c3 => ?_)
  · have hf := dz_f c3 hf
    refine lv_aload_n hx hb dJ7_copyOf_2_13 rfl (lv_at hl 2 rfl) ?_
    cases hf
  · have hf := dz_t c3 hf
    refine lv_iload_n hx hb dJ7_copyOf_2_6 rfl (lv_at hl 1 rfl) ?_
    obtain ⟨g1, hf⟩ := dz_go hf
    obtain ⟨g2, hf⟩ := dz_go hf
    obtain ⟨r3, e_r3, hf⟩ := dz_lo hf
    obtain ⟨s4, e_s4, hf⟩ := dz_lo hf
    obtain ⟨hck, hf⟩ := zck_o hf
    have hc1 : cells + 1 ≤ M := by have hq := hck.1; rw [e_s4] at hq; have hq : τ.1 + 1 ≤ res.2.1 := hq; omega
    have hs1 : slots + (Int32.toNatClampNeg a1) ≤ S := by have hq := hck.2; rw [e_s4] at hq; have hq : τ.2.1 + (Int32.toNatClampNeg a1) ≤ res.2.2.1 := hq; omega
    refine va_newq (C := "java/lang/Object") (N' := (Int32.toNatClampNeg a1)) hx hb hown (hts _ q850) (hX.AO 0 rfl) hX.K hH.2.2 zw_D hS hX.hA g1 rfl g2 hc1 hs1 dJ7_copyOf_2_7 (fun q cQ H1 hK1 hP1 hD1 hS => dz_size (fun hz => ?_))
    obtain rfl : cQ = cA 4 := zK_arr hX.K hK1 4 rfl
    obtain ⟨hq, hH⟩ := zH_new (n := (Int32.toNatClampNeg a1)) (x := (.inl (4, ((Int32.toNatClampNeg a1), .inr (.inr (.inr (.inr (fun _ => none)))))))) hH hcs hP1 hD1 hz
    rw [← e_s4] at hH; obtain rfl : r3 = q := e_r3.trans hq.symm
    have hcs : s.heap.size + (cells + 1) = s4.1 := by rw [e_s4]; show _ = τ.1 + 1; omega
    have hss : sl0 + (slots + (Int32.toNatClampNeg a1)) = s4.2.1 := by rw [e_s4]; show _ = τ.2.1 + (Int32.toNatClampNeg a1); omega
    replace hcM := And.intro hc1 hs1
    generalize cells + 1 = cells at hcs hcM ⊢; generalize slots + (Int32.toNatClampNeg a1) = slots at hss hcM ⊢
    clear hP1 hD1 hz hq hck hc1 hs1; generalize H1 = H at hH hS ⊢
    refine lv_goto (tgt := 24) hx hb dJ7_copyOf_2_10 (by decide) ?_
    refine lv_astore_n (lv' := [(3, .ref r3), (0, .ref a0), (1, .int a1), (2, .ref a2)]) hx hb dJ7_copyOf_2_24 rfl hl (by decide) rfl (fun ls hl => ?_)
    refine lv_aload_n hx hb dJ7_copyOf_2_25 rfl (lv_at hl 1 rfl) ?_
    refine lv_iconst (v := 0) hx hb dJ7_copyOf_2_26 (by decide) ?_
    refine lv_aload_n hx hb dJ7_copyOf_2_27 rfl (lv_at hl 0 rfl) ?_
    refine lv_iconst (v := 0) hx hb dJ7_copyOf_2_28 (by decide) ?_
    refine lv_aload_n hx hb dJ7_copyOf_2_29 rfl (lv_at hl 1 rfl) ?_
    obtain ⟨n5, hn5, hf⟩ := dz_bo hf
    refine zq_alen hx hb hX hS hH hn5 dJ7_copyOf_2_30 ?_
    refine lv_topi (fun x6 e_x6 => ?_)
    have hf := dz_ls e_x6 hf
    refine lv_iload_n hx hb dJ7_copyOf_2_31 rfl (lv_at hl 2 rfl) ?_
    obtain ⟨x7, hx7, hf⟩ := dz_bo hf
    refine va_calli (va_runS (As := [.int x6, .int a1]) (rest := [.int 0, .ref r3, .int 0, .ref a0]) ⟨hx, hb, hml, hown, hts⟩ (mtJ5_min_2 l x6 a1 K x7 hx7) (va_cwS 2 hts (lw_S q851 q852 q92 q853) rfl rfl rfl (by decide +kernel) ⟨Nat.le_of_ble_eq_true rfl, Nat.le_of_ble_eq_true rfl⟩) ⟨fun a U g mk q => q, fun U hU hW => ⟨rfl, trivial⟩⟩ rfl rfl hl.1 rfl (lv_room (Nat.le_of_ble_eq_true rfl)) dJ7_copyOf_2_32 ⟨hcM.1, hcM.2⟩) hS (fun q _ hq => hq.elim) (fun q hq => hq.elim) (fun r u t H1 locs ht hvm hw hB hz hk hS => dz_size (fun hz9 => ?_))
    replace hw := hw.symm; subst hw
    replace hH := zH_keep hH hcs hz hk hz9
    clear hB hk hz hvm ht hz9; generalize H1 = H at hH hS ⊢
    refine W.widen (k := cells) (n := slots) (Nat.le_refl _) (Nat.le_refl _) ?_
    obtain ⟨g13, hf⟩ := dz_go hf
    obtain ⟨g14, hf⟩ := dz_go hf
    obtain ⟨n8, f9, hn8, hf⟩ := dz_co hf
    obtain ⟨n10, f11, hn10, hf⟩ := dz_co hf
    obtain ⟨g15, hf⟩ := dz_go hf
    obtain ⟨g16, hf⟩ := dz_go hf
    obtain ⟨g17, hf⟩ := dz_go hf
    obtain ⟨g18, hf⟩ := dz_go hf
    obtain ⟨g19, hf⟩ := dz_go hf
    obtain ⟨g20, hf⟩ := dz_go hf
    refine va_copyM hx hb (hml.trans hl.1.symm) hown (hts _ q854) (hts _ q856) (hts _ q855) (hts _ q106) hX.K hH.2.2 zw_D hS _ _ 4 4 (zw_a g13 (zrd_w (zaq_o hn8) g13)) (zw_a g14 (zrd_w (zaq_o hn10) g14)) rfl rfl g15 g16 g17 g18 g19 (fun i hi y hy => by obtain ⟨_, _, hq⟩ := zels_o g20 i hi y hy; exact z_anyL hX hS hH hq) (Nat.le_of_ble_eq_true rfl) (Nat.le_of_ble_eq_true rfl) dJ7_copyOf_2_35 (fun H1 locs hP1 _ hS => dz_size (fun hz => ?_))
    obtain ⟨s12, e_s12, hf⟩ := dz_lo hf
    have hH := zH_put (x := (.inl (4, n10, .inr (.inr (.inr (.inr (va_cpy f9 f11 (Int32.toNatClampNeg 0) (Int32.toNatClampNeg 0) (Int32.toNatClampNeg x7)))))))) hH hcs g14 hP1 hz
    rw [← e_s12] at hH
    have hcs : s.heap.size + cells = s12.1 := by rw [e_s12]; exact hcs
    have hss : sl0 + slots = s12.2.1 := by rw [e_s12]; exact hss
    clear hP1 hz; generalize H1 = H at hH hS ⊢
    refine lv_aload_n hx hb dJ7_copyOf_2_38 rfl (lv_at hl 0 rfl) ?_
    obtain ⟨hM1, hS1⟩ : cells = M ∧ slots = S := by have hq := congrArg Prod.snd (Option.some.inj hf); rw [← hq] at hM hS0; have hM : s.heap.size + M = s12.1 := hM; have hS0 : sl0 + S = s12.2.1 := hS0; omega
    refine W.widen (k := M) (n := S) (Nat.le_of_eq hM1) (Nat.le_of_eq hS1) ?_
    exact W.aret (v := .ref r3) hx hb hr (Or.inr ⟨_, rfl⟩) (Or.inr ⟨_, rfl⟩) (fun t ht hW => ⟨⟨s12, r3, rfl, trivial, Option.some.inj hf, z_at ht hH⟩, hS.F ht⟩) hS.2.2 dJ7_copyOf_2_39

noncomputable def fnJ7_copyOf (K : Nat) (ζ : pZ) (a0 : Nat) (a1 : Int32) (τ : pH) : Option (Nat × pH) := dz_c (zaq ζ τ a0 4) fun n1 f2 => zcl τ (fnJ7_copyOf_2 K ζ a0 a1 (ζ.2.2.2 1) τ) fun x3 s4 => some (x3, s4)
set_option maxHeartbeats 4000000 in
set_option maxRecDepth 100000 in
theorem mtJ7_copyOf (l : Launch) (D : va_G) (cA : Nat → ClassId) (ζ : pZ) (τ : pH) (a0 : Nat) (a1 : Int32) (K : Nat) (res : (Nat × pH)) (hf : fnJ7_copyOf K ζ a0 a1 τ = some res) (M S : Nat) (hM : τ.1 + M = res.2.1) (hS0 : τ.2.1 + S = res.2.2.1) : Met l yJ7_copyOf (ws_ yJ7_copyOf cJ7_copyOf 2 ((Option.some (Jvm.ClassFile.FieldType.array (Jvm.ClassFile.FieldType.object "java/lang/Object"))))) ({ frames := 2, cells := M, slots := S, locals := 83 }) (zPc D cA ζ τ [.ref a0, .int a1]) (zQr D cA ζ res) M S (zA ζ) := by
  refine Met.ofW (cc := cJ7_copyOf) (maxL := 2) (ret := (Option.some (Jvm.ClassFile.FieldType.array (Jvm.ClassFile.FieldType.object "java/lang/Object")))) (by decide +kernel) rfl ?_
  intro p e s m args below meth c s₁ B hml hv
  obtain ⟨rfl, hX, hH⟩ := hv
  have hx := B.exec
  have hb := B.bytes
  have hr := B.returns
  have hts := atoms_spec (ws := ws_ yJ7_copyOf cJ7_copyOf 2 ((Option.some (Jvm.ClassFile.FieldType.array (Jvm.ClassFile.FieldType.object "java/lang/Object"))))) B.pre
  have hts : ∀ w ∈ lw_all, w.before _ s = true := fun w h => hts w (List.mem_cons_of_mem _ h)
  have hown : s.vm.findClass RJ7 = some m.cls := findClass_of_methodNamed B.named
  have hlocks := B.notSynchronized
  have hM : s.heap.size + M = res.2.1 := by rw [hH.1]; exact hM
  have hcs : s.heap.size + 0 = τ.1 := hH.1
  have hss : τ.2.1 + 0 = τ.2.1 := rfl
  generalize hsl0 : τ.2.1 = sl0 at hS0 hss
  have hss : sl0 + 0 = τ.2.1 := by rw [hsl0]; rfl
  have hS : va_S (zA ζ) s.heap s.heap [] := va_S.rf
  generalize hHe : s.heap = H at hH hS ⊢
  have hS : va_S (zA ζ) s.heap H [] := by rw [hHe]; exact hS
  generalize ([] : List Loc) = locs at hS ⊢
  have hl := lv_entry ([.ref a0, .int a1]) (n := 2) (Nat.le_of_ble_eq_true rfl)
  rw [lg_entry_eq]
  generalize (lg_sl ([.ref a0, .int a1]) ++ List.replicate (2 - (lg_sl ([.ref a0, .int a1])).length) Slot.unset).toArray = ls at hl ⊢
  have hl : lv_has ls 2 [(0, .ref a0), (1, .int a1)] := hl
  have hf : (dz_c (zaq ζ τ a0 4) fun n1 f2 => zcl τ (fnJ7_copyOf_2 K ζ a0 a1 (ζ.2.2.2 1) τ) fun x3 s4 => some (x3, s4) : Option (Nat × pH)) = some res := hf
  refine z_gen (fun cells slots hc0 hs0 => ?_)
  have hcs : s.heap.size + cells = τ.1 := by rw [hc0]; exact hcs
  have hss : sl0 + slots = τ.2.1 := by rw [hs0]; exact hss
  have hcM : cells ≤ M ∧ slots ≤ S := by rw [hc0, hs0]; exact ⟨Nat.zero_le _, Nat.zero_le _⟩
  clear hc0 hs0
  refine lv_aload_n hx hb dJ7_copyOf_0 rfl (lv_at hl 0 rfl) ?_
  refine lv_iload_n hx hb dJ7_copyOf_1 rfl (lv_at hl 1 rfl) ?_
  refine lv_aload_n hx hb dJ7_copyOf_2 rfl (lv_at hl 0 rfl) ?_
  obtain ⟨n1, f2, hn1, hf⟩ := dz_co hf
  refine va_getC (C := "[Ljava/lang/Object;") hx hb (hml.trans hl.1.symm) hown (hts _ q823) hX.st.2.1.2.use (hts _ q2239) (hts _ q824) (hts _ q844) hX.st.2.1.1 (z_arrC hX hS hH (zaq_o hn1)) (Nat.le_of_ble_eq_true rfl) (Nat.le_of_ble_eq_true rfl) dJ7_copyOf_3 ?_
  obtain ⟨x3, s4, hx3, hle, hck, hf⟩ := zcl_o hf
  have hc1 : cells + (s4.1 - τ.1) ≤ M := by omega
  have hs1 : slots + (s4.2.1 - τ.2.1) ≤ S := by omega
  refine va_callr (va_runS (As := [.ref a0, .int a1, .ref (ζ.2.2.2 1)]) (rest := []) ⟨hx, hb, hml, hown, hts⟩ (mtJ7_copyOf_2 l D cA ζ τ a0 a1 (ζ.2.2.2 1) K (x3, s4) hx3 (s4.1 - τ.1) (s4.2.1 - τ.2.1) (Nat.add_sub_cancel' hle.1) (Nat.add_sub_cancel' hle.2)) (va_cwS 3 hts (lw_S q845 q846 q105 q847) rfl rfl rfl (by decide +kernel) ⟨Nat.le_of_ble_eq_true rfl, Nat.le_of_ble_eq_true rfl⟩) (z_preS hX hS hH) rfl rfl hl.1 rfl (lv_room (Nat.le_of_ble_eq_true rfl)) dJ7_copyOf_6 ⟨hc1, hs1⟩) hS (fun q _ hq => hq) (fun q hq => hq) (fun u r t H1 locs ht hvm hw hB hz hk hS => ?_)
  obtain ⟨hw, hB⟩ := hB
  obtain ⟨hw1, hw2⟩ := Prod.mk.inj hw.symm; subst hw1; subst hw2
  have hH : zH D cA ζ s4 H1 := z_at ht.symm hB
  have hcs : s.heap.size + (cells + (s4.1 - τ.1)) = s4.1 := by omega
  have hss : sl0 + (slots + (s4.2.1 - τ.2.1)) = s4.2.1 := by omega
  replace hcM := And.intro hc1 hs1
  generalize cells + (s4.1 - τ.1) = cells at hcs hcM ⊢; generalize slots + (s4.2.1 - τ.2.1) = slots at hss hcM ⊢
  clear hB hk hz hvm ht hle hck hc1 hs1; generalize H1 = H at hH hS ⊢
  obtain ⟨hM1, hS1⟩ : cells = M ∧ slots = S := by have hq := congrArg Prod.snd (Option.some.inj hf); rw [← hq] at hM hS0; have hM : s.heap.size + M = s4.1 := hM; have hS0 : sl0 + S = s4.2.1 := hS0; omega
  refine W.widen (k := M) (n := S) (Nat.le_of_eq hM1) (Nat.le_of_eq hS1) ?_
  exact W.aret (v := .ref x3) hx hb hr (Or.inr ⟨_, rfl⟩) (Or.inr ⟨_, rfl⟩) (fun t ht hW => ⟨⟨s4, x3, rfl, trivial, Option.some.inj hf, z_at ht hH⟩, hS.F ht⟩) hS.2.2 dJ7_copyOf_9

noncomputable def lfJ2_grow_2 (K : Nat) (ζ : pZ) : Nat → (Nat → Int32 → Int32 → pH → Option (Nat × pH)) := Nat.rec (motive := fun _ => (Nat → Int32 → Int32 → pH → Option (Nat × pH))) (fun _ _ _ _ => none) (fun _ G => (fun v0 v1 v2 τ => zcl τ (fnJ6_newLength K ζ v2 (v1 - v2) (v2 >>> (1 &&& 31)) τ) fun x1 s2 => dz_b (zob ζ s2 v0 14) fun f3 => dz_b (zvr (f3[1]?)) fun x4 => zcl s2 (fnJ7_copyOf K ζ x4 x1 s2) fun x5 s6 => dz_b (zwo ζ s6 v0 14 1) fun f7 => dz_l (zst s6 v0 (.inr (14, f7.set 1 (.ref x5)))) fun s8 => some (x5, s8)))
noncomputable def fnJ2_grow_2 (K : Nat) (ζ : pZ) (h : Nat) (a0 : Int32) (τ : pH) : Option (Nat × pH) := dz_b (zob ζ τ h 14) fun f1 => dz_b (zvr (f1[1]?)) fun x2 => dz_b (zlenq ζ τ x2) fun n3 => dz_l (Int32.ofNat n3) fun x4 => if (0 : Int32) < x4 then ((lfJ2_grow_2 K ζ K) h a0 x4 τ) else (dz_b (zob ζ τ h 14) fun f5 => dz_b (zvr (f5[1]?)) fun x6 => if (some x6 : Option Nat) = some (ζ.2.2.2 0) then (dz_b (fnJ5_max K 10 a0) fun x7 => if ¬ x7 < 0 then (if (Int32.toNatClampNeg x7) * 4 ≤ 536870912 then (dz_l τ.1 fun r10 => dz_l (znw τ (Int32.toNatClampNeg x7) (.inl (4, ((Int32.toNatClampNeg x7), .inr (.inr (.inr (.inr (fun _ => none)))))))) fun s11 => zck s11 (dz_b (zwo ζ s11 h 14 1) fun f12 => dz_l (zst s11 h (.inr (14, f12.set 1 (.ref r10)))) fun s13 => some (r10, s13))) else none) else none) else ((lfJ2_grow_2 K ζ K) h a0 x4 τ))
set_option maxHeartbeats 4000000 in
set_option maxRecDepth 100000 in
theorem wlJ2_grow_2 {p : Program} {l : Launch} {e : Env} {s : State} {m : MethodId} {below : List Frame} {meth : Method} {c : Code} {D : va_G} {cA : Nat → ClassId} {ζ : pZ} (hX : zX D cA ζ s) (K : Nat) (res : (Nat × pH)) (M S sl0 : Nat) (hM : s.heap.size + M = res.2.1) (hS0 : sl0 + S = res.2.2.1) (h : Nat) (a0 : Int32) (hx : p.tables.exec = Jvm.exec) (hb : c.code = cJ2_grow_2) (hr : meth.sig.returnType = (Option.some (Jvm.ClassFile.FieldType.array (Jvm.ClassFile.FieldType.object "java/lang/Object")))) (hlocks : meth.locks = false) (hml : c.maxLocals = 4) (hown : s.vm.findClass RJ2 = some m.cls) (hts : ∀ w ∈ lw_all, w.before ([.ref h, .int a0] : List Value).toArray s = true) : ∀ k : Nat, (∀ (v0 : Nat) (v1 : Int32) (v2 : Int32) (τ : pH) (H : Heap) (locs : List Loc) (cells slots : Nat), zH D cA ζ τ H → va_S (zA ζ) s.heap H locs → s.heap.size + cells = τ.1 → sl0 + slots = τ.2.1 → cells ≤ M ∧ slots ≤ S → ∀ (ls : Array Slot), lv_has ls 4 [(0, .ref v0), (1, .int v1), (2, .int v2)] → (lfJ2_grow_2 K ζ k) v0 v1 v2 τ = some res → W p l e (headSpec (ws_ yJ2_grow_2 cJ2_grow_2 4 ((Option.some (Jvm.ClassFile.FieldType.array (Jvm.ClassFile.FieldType.object "java/lang/Object"))))) ({ frames := 3, cells := M, slots := S, locals := 104 })).room s m ([.ref h, .int a0] : List Value).toArray below meth c H locs cells slots (MQ below (zQr D cA ζ res) ([.ref h, .int a0] : List Value).toArray s M S (zA ζ)) (F0 m 20 ls [])) := by
  intro k
  induction k with
  | zero =>
    exact fun _ _ _ _ _ _ _ _ _ _ _ _ _ _ _ hf => (by cases hf)
  | succ k ih =>
    · intro v0 v1 v2 τ H locs cells slots hH hS hcs hss hcM ls hl hf
      have hf : (zcl τ (fnJ6_newLength K ζ v2 (v1 - v2) (v2 >>> (1 &&& 31)) τ) fun x1 s2 => dz_b (zob ζ s2 v0 14) fun f3 => dz_b (zvr (f3[1]?)) fun x4 => zcl s2 (fnJ7_copyOf K ζ x4 x1 s2) fun x5 s6 => dz_b (zwo ζ s6 v0 14 1) fun f7 => dz_l (zst s6 v0 (.inr (14, f7.set 1 (.ref x5)))) fun s8 => some (x5, s8) : Option (Nat × pH)) = some res := hf
      refine lv_iload_n hx hb dJ2_grow_2_20 rfl (lv_at hl 2 rfl) ?_
      refine lv_iload_n hx hb dJ2_grow_2_21 rfl (lv_at hl 1 rfl) ?_
      refine lv_iload_n hx hb dJ2_grow_2_22 rfl (lv_at hl 2 rfl) ?_
      refine lv_isub hx hb dJ2_grow_2_23 ?_
      refine lv_iload_n hx hb dJ2_grow_2_24 rfl (lv_at hl 2 rfl) ?_
      refine lv_iconst (v := 1) hx hb dJ2_grow_2_25 (by decide) ?_
      refine lv_ishr hx hb dJ2_grow_2_26 ?_
      obtain ⟨x1, s2, hx1, hle, hck, hf⟩ := zcl_o hf
      have hc1 : cells + (s2.1 - τ.1) ≤ M := by omega
      have hs1 : slots + (s2.2.1 - τ.2.1) ≤ S := by omega
      refine va_calli (va_runS (As := [.int v2, .int (v1 - v2), .int (v2 >>> (1 &&& 31))]) (rest := []) ⟨hx, hb, hml, hown, hts⟩ (mtJ6_newLength l D cA ζ τ v2 (v1 - v2) (v2 >>> (1 &&& 31)) K (x1, s2) hx1 (s2.1 - τ.1) (s2.2.1 - τ.2.1) (Nat.add_sub_cancel' hle.1) (Nat.add_sub_cancel' hle.2)) (va_cwS 3 hts (lw_S q810 q811 q104 q812) rfl rfl rfl (by decide +kernel) ⟨Nat.le_of_ble_eq_true rfl, Nat.le_of_ble_eq_true rfl⟩) (z_preS hX hS hH) rfl rfl hl.1 rfl (lv_room (Nat.le_of_ble_eq_true rfl)) dJ2_grow_2_27 ⟨hc1, hs1⟩) hS (fun q _ hq => hq) (fun q hq => hq) (fun r u t H1 locs ht hvm hw hB hz hk hS => ?_)
      obtain ⟨hw1, hw2⟩ := Prod.mk.inj hw.symm; subst hw1; subst hw2
      have hH : zH D cA ζ s2 H1 := z_at ht.symm hB
      have hcs : s.heap.size + (cells + (s2.1 - τ.1)) = s2.1 := by omega
      have hss : sl0 + (slots + (s2.2.1 - τ.2.1)) = s2.2.1 := by omega
      replace hcM := And.intro hc1 hs1
      generalize cells + (s2.1 - τ.1) = cells at hcs hcM ⊢; generalize slots + (s2.2.1 - τ.2.1) = slots at hss hcM ⊢
      clear hB hk hz hvm ht hle hck hc1 hs1; generalize H1 = H at hH hS ⊢
      refine lv_istore_n (lv' := [(3, .int x1), (0, .ref v0), (1, .int v1), (2, .int v2)]) hx hb dJ2_grow_2_30 rfl hl (by decide) rfl (fun ls hl => ?_)
      refine lv_aload_n hx hb dJ2_grow_2_31 rfl (lv_at hl 1 rfl) ?_
      refine lv_aload_n hx hb dJ2_grow_2_32 rfl (lv_at hl 1 rfl) ?_
      obtain ⟨f3, hf3, hf⟩ := dz_bo hf
      obtain ⟨x4, hx4, hf⟩ := dz_bo hf
      refine va_get (C := RJ2) (T := TJ2) (N := 3) hx hb hts in_J2 hown hX.K (zrd_P hX hS hH (zob_o hf3)) 0 rfl rfl 1 (by decide) (hts _ q141) (fun _ hq => hq) (zvr_o hx4) dJ2_grow_2_33 ?_
      refine lv_iload_n hx hb dJ2_grow_2_36 rfl (lv_at hl 0 rfl) ?_
      obtain ⟨x5, s6, hx5, hle, hck, hf⟩ := zcl_o hf
      have hc1 : cells + (s6.1 - s2.1) ≤ M := by omega
      have hs1 : slots + (s6.2.1 - s2.2.1) ≤ S := by omega
      refine va_callr (va_runS (As := [.ref x4, .int x1]) (rest := [.ref v0]) ⟨hx, hb, hml, hown, hts⟩ (mtJ7_copyOf l D cA ζ s2 x4 x1 K (x5, s6) hx5 (s6.1 - s2.1) (s6.2.1 - s2.2.1) (Nat.add_sub_cancel' hle.1) (Nat.add_sub_cancel' hle.2)) (va_cwS 2 hts (lw_S q820 q821 q105 q822) rfl rfl rfl (by decide +kernel) ⟨Nat.le_of_ble_eq_true rfl, Nat.le_of_ble_eq_true rfl⟩) (z_preS hX hS hH) rfl rfl hl.1 rfl (lv_room (Nat.le_of_ble_eq_true rfl)) dJ2_grow_2_37 ⟨hc1, hs1⟩) hS (fun q _ hq => hq) (fun q hq => hq) (fun u r t H1 locs ht hvm hw hB hz hk hS => ?_)
      obtain ⟨hw, hB⟩ := hB
      obtain ⟨hw1, hw2⟩ := Prod.mk.inj hw.symm; subst hw1; subst hw2
      have hH : zH D cA ζ s6 H1 := z_at ht.symm hB
      have hcs : s.heap.size + (cells + (s6.1 - s2.1)) = s6.1 := by omega
      have hss : sl0 + (slots + (s6.2.1 - s2.2.1)) = s6.2.1 := by omega
      replace hcM := And.intro hc1 hs1
      generalize cells + (s6.1 - s2.1) = cells at hcs hcM ⊢; generalize slots + (s6.2.1 - s2.2.1) = slots at hss hcM ⊢
      clear hB hk hz hvm ht hle hck hc1 hs1; generalize H1 = H at hH hS ⊢
      refine lv_dup_x1 hx hb dJ2_grow_2_40 rfl rfl ?_
      obtain ⟨f7, hf7, hf⟩ := dz_bo hf
      obtain ⟨ha_f7, he_f7, hk_f7⟩ := zwo_o hf7
      refine va_put (C := RJ2) (T := TJ2) (N := 3) hx hb hts in_J2 tyJ2 tyJ2_ok nmJ2 hown hX.K hH.2.2 zw_D hS _ (zw_o ha_f7 he_f7) rfl 1 (by decide) (hts _ q141) (fun _ hq => hq) rfl rfl rfl rfl hk_f7 dJ2_grow_2_41 (fun H1 locs hP1 _ hS => dz_size (fun hz => ?_))
      obtain ⟨s8, e_s8, hf⟩ := dz_lo hf
      have hH := zH_put (x := .inr (14, f7.set 1 (.ref x5))) hH hcs ha_f7 hP1 hz
      rw [← e_s8] at hH
      have hcs : s.heap.size + cells = s8.1 := by rw [e_s8]; exact hcs
      have hss : sl0 + slots = s8.2.1 := by rw [e_s8]; exact hss
      clear hP1 hz; generalize H1 = H at hH hS ⊢
      obtain ⟨hM1, hS1⟩ : cells = M ∧ slots = S := by have hq := congrArg Prod.snd (Option.some.inj hf); rw [← hq] at hM hS0; have hM : s.heap.size + M = s8.1 := hM; have hS0 : sl0 + S = s8.2.1 := hS0; omega
      refine W.widen (k := M) (n := S) (Nat.le_of_eq hM1) (Nat.le_of_eq hS1) ?_
      exact W.aret (v := .ref x5) hx hb hr (Or.inr ⟨_, rfl⟩) (Or.inr ⟨_, rfl⟩) (fun t ht hW => ⟨⟨s8, x5, rfl, trivial, Option.some.inj hf, z_at ht hH⟩, hS.F ht⟩) hS.2.2 dJ2_grow_2_44
set_option maxHeartbeats 4000000 in
set_option maxRecDepth 100000 in
theorem mtJ2_grow_2 (l : Launch) (D : va_G) (cA : Nat → ClassId) (ζ : pZ) (τ : pH) (h : Nat) (a0 : Int32) (K : Nat) (res : (Nat × pH)) (hf : fnJ2_grow_2 K ζ h a0 τ = some res) (M S : Nat) (hM : τ.1 + M = res.2.1) (hS0 : τ.2.1 + S = res.2.2.1) : Met l yJ2_grow_2 (ws_ yJ2_grow_2 cJ2_grow_2 4 ((Option.some (Jvm.ClassFile.FieldType.array (Jvm.ClassFile.FieldType.object "java/lang/Object"))))) ({ frames := 3, cells := M, slots := S, locals := 104 }) (zPc D cA ζ τ [.ref h, .int a0]) (zQr D cA ζ res) M S (zA ζ) := by
  refine Met.ofW (cc := cJ2_grow_2) (maxL := 4) (ret := (Option.some (Jvm.ClassFile.FieldType.array (Jvm.ClassFile.FieldType.object "java/lang/Object")))) (by decide +kernel) rfl ?_
  intro p e s m args below meth c s₁ B hml hv
  obtain ⟨rfl, hX, hH⟩ := hv
  have hx := B.exec
  have hb := B.bytes
  have hr := B.returns
  have hts := atoms_spec (ws := ws_ yJ2_grow_2 cJ2_grow_2 4 ((Option.some (Jvm.ClassFile.FieldType.array (Jvm.ClassFile.FieldType.object "java/lang/Object"))))) B.pre
  have hts : ∀ w ∈ lw_all, w.before _ s = true := fun w h => hts w (List.mem_cons_of_mem _ h)
  have hown : s.vm.findClass RJ2 = some m.cls := findClass_of_methodNamed B.named
  have hlocks := B.notSynchronized
  have hM : s.heap.size + M = res.2.1 := by rw [hH.1]; exact hM
  have hcs : s.heap.size + 0 = τ.1 := hH.1
  have hss : τ.2.1 + 0 = τ.2.1 := rfl
  generalize hsl0 : τ.2.1 = sl0 at hS0 hss
  have hss : sl0 + 0 = τ.2.1 := by rw [hsl0]; rfl
  have hS : va_S (zA ζ) s.heap s.heap [] := va_S.rf
  generalize hHe : s.heap = H at hH hS ⊢
  have hS : va_S (zA ζ) s.heap H [] := by rw [hHe]; exact hS
  generalize ([] : List Loc) = locs at hS ⊢
  have hl := lv_entry ([.ref h, .int a0]) (n := 4) (Nat.le_of_ble_eq_true rfl)
  rw [lg_entry_eq]
  generalize (lg_sl ([.ref h, .int a0]) ++ List.replicate (4 - (lg_sl ([.ref h, .int a0])).length) Slot.unset).toArray = ls at hl ⊢
  have hl : lv_has ls 4 [(0, .ref h), (1, .int a0)] := hl
  have hf : (dz_b (zob ζ τ h 14) fun f1 => dz_b (zvr (f1[1]?)) fun x2 => dz_b (zlenq ζ τ x2) fun n3 => dz_l (Int32.ofNat n3) fun x4 => if (0 : Int32) < x4 then ((lfJ2_grow_2 K ζ K) h a0 x4 τ) else (dz_b (zob ζ τ h 14) fun f5 => dz_b (zvr (f5[1]?)) fun x6 => if (some x6 : Option Nat) = some (ζ.2.2.2 0) then (dz_b (fnJ5_max K 10 a0) fun x7 => if ¬ x7 < 0 then (if (Int32.toNatClampNeg x7) * 4 ≤ 536870912 then (dz_l τ.1 fun r10 => dz_l (znw τ (Int32.toNatClampNeg x7) (.inl (4, ((Int32.toNatClampNeg x7), .inr (.inr (.inr (.inr (fun _ => none)))))))) fun s11 => zck s11 (dz_b (zwo ζ s11 h 14 1) fun f12 => dz_l (zst s11 h (.inr (14, f12.set 1 (.ref r10)))) fun s13 => some (r10, s13))) else none) else none) else ((lfJ2_grow_2 K ζ K) h a0 x4 τ)) : Option (Nat × pH)) = some res := hf
  refine z_gen (fun cells slots hc0 hs0 => ?_)
  have hcs : s.heap.size + cells = τ.1 := by rw [hc0]; exact hcs
  have hss : sl0 + slots = τ.2.1 := by rw [hs0]; exact hss
  have hcM : cells ≤ M ∧ slots ≤ S := by rw [hc0, hs0]; exact ⟨Nat.zero_le _, Nat.zero_le _⟩
  clear hc0 hs0
  have ih := wlJ2_grow_2 (l := l) (e := e) (below := below) (D := D) (cA := cA) hX K res M S sl0 hM hS0 h a0 hx hb hr hlocks hml hown hts K
  refine lv_aload_n hx hb dJ2_grow_2_0 rfl (lv_at hl 0 rfl) ?_
  obtain ⟨f1, hf1, hf⟩ := dz_bo hf
  obtain ⟨x2, hx2, hf⟩ := dz_bo hf
  refine va_get (C := RJ2) (T := TJ2) (N := 3) hx hb hts in_J2 hown hX.K (zrd_P hX hS hH (zob_o hf1)) 0 rfl rfl 1 (by decide) (hts _ q141) (fun _ hq => hq) (zvr_o hx2) dJ2_grow_2_1 ?_
  obtain ⟨n3, hn3, hf⟩ := dz_bo hf
  refine zq_alen hx hb hX hS hH hn3 dJ2_grow_2_4 ?_
  refine lv_topi (fun x4 e_x4 => ?_)
  have hf := dz_ls e_x4 hf
  refine lv_istore_n (lv' := [(2, .int x4), (0, .ref h), (1, .int a0)]) hx hb dJ2_grow_2_5 rfl hl (by decide) rfl (fun ls hl => ?_)
  refine lv_iload_n hx hb dJ2_grow_2_6 rfl (lv_at hl 0 rfl) ?_
  refine lv_if_gt (tgt := 20) hx hb dJ2_grow_2_7 (by decide) (fun c7 => ?_) (fun c7 => ?_)
  · have hf := dz_t c7 hf
    exact ih h a0 x4 τ H locs cells slots hH hS hcs hss hcM ls (lv_sub hl [1, 2, 0] rfl) hf
  · have hf := dz_f c7 hf
    refine lv_aload_n hx hb dJ2_grow_2_10 rfl (lv_at hl 1 rfl) ?_
    obtain ⟨f5, hf5, hf⟩ := dz_bo hf
    obtain ⟨x6, hx6, hf⟩ := dz_bo hf
    refine va_get (C := RJ2) (T := TJ2) (N := 3) hx hb hts in_J2 hown hX.K (zrd_P hX hS hH (zob_o hf5)) 0 rfl rfl 1 (by decide) (hts _ q141) (fun _ hq => hq) (zvr_o hx6) dJ2_grow_2_11 ?_
    refine va_gets (v := .ref (ζ.2.2.2 0)) hx hb hX.st.1.1 hS hown (hts _ q139) (fun _ hq => hq) dJ2_grow_2_14 ?_
    refine lv_acmp_eq (rx := some x6) (ry := some (ζ.2.2.2 0)) (tgt := 45) hx hb dJ2_grow_2_17 (by decide) (fun c17 => ?_) (fun c17 => ?_)
    · have hf := dz_t c17 hf
      refine lv_aload_n hx hb dJ2_grow_2_45 rfl (lv_at hl 1 rfl) ?_
      refine lv_bipush (v := 10) hx hb dJ2_grow_2_46 (by decide) ?_
      refine lv_iload_n hx hb dJ2_grow_2_48 rfl (lv_at hl 2 rfl) ?_
      obtain ⟨x7, hx7, hf⟩ := dz_bo hf
      refine va_calli (va_runS (As := [.int 10, .int a0]) (rest := [.ref h]) ⟨hx, hb, hml, hown, hts⟩ (mtJ5_max l 10 a0 K x7 hx7) (va_cwS 2 hts (lw_S q857 q814 q92 q815) rfl rfl rfl (by decide +kernel) ⟨Nat.le_of_ble_eq_true rfl, Nat.le_of_ble_eq_true rfl⟩) ⟨fun a U g mk q => q, fun U hU hW => ⟨rfl, trivial⟩⟩ rfl rfl hl.1 rfl (lv_room (Nat.le_of_ble_eq_true rfl)) dJ2_grow_2_49 ⟨hcM.1, hcM.2⟩) hS (fun q _ hq => hq.elim) (fun q hq => hq.elim) (fun r u t H1 locs ht hvm hw hB hz hk hS => dz_size (fun hz9 => ?_))
      replace hw := hw.symm; subst hw
      replace hH := zH_keep hH hcs hz hk hz9
      clear hB hk hz hvm ht hz9; generalize H1 = H at hH hS ⊢
      refine W.widen (k := cells) (n := slots) (Nat.le_refl _) (Nat.le_refl _) ?_
      obtain ⟨g8, hf⟩ := dz_go hf
      obtain ⟨g9, hf⟩ := dz_go hf
      obtain ⟨r10, e_r10, hf⟩ := dz_lo hf
      obtain ⟨s11, e_s11, hf⟩ := dz_lo hf
      obtain ⟨hck, hf⟩ := zck_o hf
      have hc1 : cells + 1 ≤ M := by have hq := hck.1; rw [e_s11] at hq; have hq : τ.1 + 1 ≤ res.2.1 := hq; omega
      have hs1 : slots + (Int32.toNatClampNeg x7) ≤ S := by have hq := hck.2; rw [e_s11] at hq; have hq : τ.2.1 + (Int32.toNatClampNeg x7) ≤ res.2.2.1 := hq; omega
      refine va_newq (C := "java/lang/Object") (N' := (Int32.toNatClampNeg x7)) hx hb hown (hts _ q858) (hX.AO 0 rfl) hX.K hH.2.2 zw_D hS hX.hA g8 rfl g9 hc1 hs1 dJ2_grow_2_52 (fun q cQ H1 hK1 hP1 hD1 hS => dz_size (fun hz => ?_))
      obtain rfl : cQ = cA 4 := zK_arr hX.K hK1 4 rfl
      obtain ⟨hq, hH⟩ := zH_new (n := (Int32.toNatClampNeg x7)) (x := (.inl (4, ((Int32.toNatClampNeg x7), .inr (.inr (.inr (.inr (fun _ => none)))))))) hH hcs hP1 hD1 hz
      rw [← e_s11] at hH; obtain rfl : r10 = q := e_r10.trans hq.symm
      have hcs : s.heap.size + (cells + 1) = s11.1 := by rw [e_s11]; show _ = τ.1 + 1; omega
      have hss : sl0 + (slots + (Int32.toNatClampNeg x7)) = s11.2.1 := by rw [e_s11]; show _ = τ.2.1 + (Int32.toNatClampNeg x7); omega
      replace hcM := And.intro hc1 hs1
      generalize cells + 1 = cells at hcs hcM ⊢; generalize slots + (Int32.toNatClampNeg x7) = slots at hss hcM ⊢
      clear hP1 hD1 hz hq hck hc1 hs1; generalize H1 = H at hH hS ⊢
      refine lv_dup_x1 hx hb dJ2_grow_2_55 rfl rfl ?_
      obtain ⟨f12, hf12, hf⟩ := dz_bo hf
      obtain ⟨ha_f12, he_f12, hk_f12⟩ := zwo_o hf12
      refine va_put (C := RJ2) (T := TJ2) (N := 3) hx hb hts in_J2 tyJ2 tyJ2_ok nmJ2 hown hX.K hH.2.2 zw_D hS _ (zw_o ha_f12 he_f12) rfl 1 (by decide) (hts _ q141) (fun _ hq => hq) rfl rfl rfl rfl hk_f12 dJ2_grow_2_56 (fun H1 locs hP1 _ hS => dz_size (fun hz => ?_))
      obtain ⟨s13, e_s13, hf⟩ := dz_lo hf
      have hH := zH_put (x := .inr (14, f12.set 1 (.ref r10))) hH hcs ha_f12 hP1 hz
      rw [← e_s13] at hH
      have hcs : s.heap.size + cells = s13.1 := by rw [e_s13]; exact hcs
      have hss : sl0 + slots = s13.2.1 := by rw [e_s13]; exact hss
      clear hP1 hz; generalize H1 = H at hH hS ⊢
      obtain ⟨hM1, hS1⟩ : cells = M ∧ slots = S := by have hq := congrArg Prod.snd (Option.some.inj hf); rw [← hq] at hM hS0; have hM : s.heap.size + M = s13.1 := hM; have hS0 : sl0 + S = s13.2.1 := hS0; omega
      refine W.widen (k := M) (n := S) (Nat.le_of_eq hM1) (Nat.le_of_eq hS1) ?_
      exact W.aret (v := .ref r10) hx hb hr (Or.inr ⟨_, rfl⟩) (Or.inr ⟨_, rfl⟩) (fun t ht hW => ⟨⟨s13, r10, rfl, trivial, Option.some.inj hf, z_at ht hH⟩, hS.F ht⟩) hS.2.2 dJ2_grow_2_59
    · have hf := dz_f c17 hf
      exact ih h a0 x4 τ H locs cells slots hH hS hcs hss hcM ls (lv_sub hl [1, 2, 0] rfl) hf

noncomputable def fnJ2_grow (K : Nat) (ζ : pZ) (h : Nat) (τ : pH) : Option (Nat × pH) := dz_b (zob ζ τ h 14) fun f1 => dz_b (zvi (f1[2]?)) fun x2 => dz_b (zob ζ τ h 14) fun f5 => zcl τ (fnJ2_grow_2 K ζ h (x2 + 1) τ) fun x3 s4 => some (x3, s4)
set_option maxHeartbeats 4000000 in
set_option maxRecDepth 100000 in
theorem mtJ2_grow (l : Launch) (D : va_G) (cA : Nat → ClassId) (ζ : pZ) (τ : pH) (h : Nat) (K : Nat) (res : (Nat × pH)) (hf : fnJ2_grow K ζ h τ = some res) (M S : Nat) (hM : τ.1 + M = res.2.1) (hS0 : τ.2.1 + S = res.2.2.1) : Met l yJ2_grow (ws_ yJ2_grow cJ2_grow 1 ((Option.some (Jvm.ClassFile.FieldType.array (Jvm.ClassFile.FieldType.object "java/lang/Object"))))) ({ frames := 4, cells := M, slots := S, locals := 127 }) (zPc D cA ζ τ [.ref h]) (zQr D cA ζ res) M S (zA ζ) := by
  refine Met.ofW (cc := cJ2_grow) (maxL := 1) (ret := (Option.some (Jvm.ClassFile.FieldType.array (Jvm.ClassFile.FieldType.object "java/lang/Object")))) (by decide +kernel) rfl ?_
  intro p e s m args below meth c s₁ B hml hv
  obtain ⟨rfl, hX, hH⟩ := hv
  have hx := B.exec
  have hb := B.bytes
  have hr := B.returns
  have hts := atoms_spec (ws := ws_ yJ2_grow cJ2_grow 1 ((Option.some (Jvm.ClassFile.FieldType.array (Jvm.ClassFile.FieldType.object "java/lang/Object"))))) B.pre
  have hts : ∀ w ∈ lw_all, w.before _ s = true := fun w h => hts w (List.mem_cons_of_mem _ h)
  have hown : s.vm.findClass RJ2 = some m.cls := findClass_of_methodNamed B.named
  have hlocks := B.notSynchronized
  have hM : s.heap.size + M = res.2.1 := by rw [hH.1]; exact hM
  have hcs : s.heap.size + 0 = τ.1 := hH.1
  have hss : τ.2.1 + 0 = τ.2.1 := rfl
  generalize hsl0 : τ.2.1 = sl0 at hS0 hss
  have hss : sl0 + 0 = τ.2.1 := by rw [hsl0]; rfl
  have hS : va_S (zA ζ) s.heap s.heap [] := va_S.rf
  generalize hHe : s.heap = H at hH hS ⊢
  have hS : va_S (zA ζ) s.heap H [] := by rw [hHe]; exact hS
  generalize ([] : List Loc) = locs at hS ⊢
  have hl := lv_entry ([.ref h]) (n := 1) (Nat.le_of_ble_eq_true rfl)
  rw [lg_entry_eq]
  generalize (lg_sl ([.ref h]) ++ List.replicate (1 - (lg_sl ([.ref h])).length) Slot.unset).toArray = ls at hl ⊢
  have hl : lv_has ls 1 [(0, .ref h)] := hl
  have hf : (dz_b (zob ζ τ h 14) fun f1 => dz_b (zvi (f1[2]?)) fun x2 => dz_b (zob ζ τ h 14) fun f5 => zcl τ (fnJ2_grow_2 K ζ h (x2 + 1) τ) fun x3 s4 => some (x3, s4) : Option (Nat × pH)) = some res := hf
  refine z_gen (fun cells slots hc0 hs0 => ?_)
  have hcs : s.heap.size + cells = τ.1 := by rw [hc0]; exact hcs
  have hss : sl0 + slots = τ.2.1 := by rw [hs0]; exact hss
  have hcM : cells ≤ M ∧ slots ≤ S := by rw [hc0, hs0]; exact ⟨Nat.zero_le _, Nat.zero_le _⟩
  clear hc0 hs0
  refine lv_aload_n hx hb dJ2_grow_0 rfl (lv_at hl 0 rfl) ?_
  refine lv_aload_n hx hb dJ2_grow_1 rfl (lv_at hl 0 rfl) ?_
  obtain ⟨f1, hf1, hf⟩ := dz_bo hf
  obtain ⟨x2, hx2, hf⟩ := dz_bo hf
  refine va_get (C := RJ2) (T := TJ2) (N := 3) hx hb hts in_J2 hown hX.K (zrd_P hX hS hH (zob_o hf1)) 0 rfl rfl 2 (by decide) (hts _ q144) (fun _ hq => hq) (zvi_o hx2) dJ2_grow_2 ?_
  refine lv_iconst (v := 1) hx hb dJ2_grow_5 (by decide) ?_
  refine lv_iadd hx hb dJ2_grow_6 ?_
  obtain ⟨f5, hf5, hf⟩ := dz_bo hf
  obtain ⟨x3, s4, hx3, hle, hck, hf⟩ := zcl_o hf
  have hc1 : cells + (s4.1 - τ.1) ≤ M := by omega
  have hs1 : slots + (s4.2.1 - τ.2.1) ≤ S := by omega
  refine va_callr (va_runV (As := [.int (x2 + 1)]) (rest := []) ⟨hx, hb, hml, hown, hts⟩ (mtJ2_grow_2 l D cA ζ τ h (x2 + 1) K (x3, s4) hx3 (s4.1 - τ.1) (s4.2.1 - τ.2.1) (Nat.add_sub_cancel' hle.1) (Nat.add_sub_cancel' hle.2)) (cwV 1 hts (lw_V q806 q808 qs10 q87 q809) rfl rfl rfl (by decide +kernel) ⟨Nat.le_of_ble_eq_true rfl, Nat.le_of_ble_eq_true rfl⟩) (z_preV hX hS hH (zob_o hf5) rfl) rfl rfl hl.1 rfl (lv_room (Nat.le_of_ble_eq_true rfl)) dJ2_grow_7 ⟨hc1, hs1⟩) hS (fun q _ hq => hq) (fun q hq => hq) (fun u r t H1 locs ht hvm hw hB hz hk hS => ?_)
  obtain ⟨hw, hB⟩ := hB
  obtain ⟨hw1, hw2⟩ := Prod.mk.inj hw.symm; subst hw1; subst hw2
  have hH : zH D cA ζ s4 H1 := z_at ht.symm hB
  have hcs : s.heap.size + (cells + (s4.1 - τ.1)) = s4.1 := by omega
  have hss : sl0 + (slots + (s4.2.1 - τ.2.1)) = s4.2.1 := by omega
  replace hcM := And.intro hc1 hs1
  generalize cells + (s4.1 - τ.1) = cells at hcs hcM ⊢; generalize slots + (s4.2.1 - τ.2.1) = slots at hss hcM ⊢
  clear hB hk hz hvm ht hle hck hc1 hs1; generalize H1 = H at hH hS ⊢
  obtain ⟨hM1, hS1⟩ : cells = M ∧ slots = S := by have hq := congrArg Prod.snd (Option.some.inj hf); rw [← hq] at hM hS0; have hM : s.heap.size + M = s4.1 := hM; have hS0 : sl0 + S = s4.2.1 := hS0; omega
  refine W.widen (k := M) (n := S) (Nat.le_of_eq hM1) (Nat.le_of_eq hS1) ?_
  exact W.aret (v := .ref x3) hx hb hr (Or.inr ⟨_, rfl⟩) (Or.inr ⟨_, rfl⟩) (fun t ht hW => ⟨⟨s4, x3, rfl, trivial, Option.some.inj hf, z_at ht hH⟩, hS.F ht⟩) hS.2.2 dJ2_grow_10

noncomputable def lfJ2_add_2 (K : Nat) (ζ : pZ) : Nat → (Nat → Nat → Nat → Int32 → pH → Option (Unit × pH)) := Nat.rec (motive := fun _ => (Nat → Nat → Nat → Int32 → pH → Option (Unit × pH))) (fun _ _ _ _ _ => none) (fun _ G => (fun v0 v1 v2 v3 τ => if ζ.1 ≤ v2 ∧ v2 < τ.1 then (dz_c (zaq ζ τ v2 4) fun n1 f2 => if ¬ (v3 < 0 ∨ n1 ≤ Int32.toNatClampNeg v3) then (if ζ.1 ≤ v1 ∧ v1 < τ.1 then (dz_c (zoL ζ τ v1) fun cf7 f7 => dz_l (zst τ v2 (.inl (4, n1, .inr (.inr (.inr (.inr (va_up f2 (Int32.toNatClampNeg v3) (some v1)))))))) fun s3 => dz_l (v3 + 1) fun x8 => dz_b (zwo ζ s3 v0 14 2) fun f9 => dz_l (zst s3 v0 (.inr (14, f9.set 2 (.int x8)))) fun s10 => some ((), s10)) else none) else none) else none))
noncomputable def fnJ2_add_2 (K : Nat) (ζ : pZ) (h : Nat) (a0 : Nat) (a1 : Nat) (a2 : Int32) (τ : pH) : Option (Unit × pH) := dz_b (zlenq ζ τ a1) fun n1 => dz_l (Int32.ofNat n1) fun x2 => if a2 = x2 then (dz_b (zob ζ τ h 14) fun f5 => zcl τ (fnJ2_grow K ζ h τ) fun x3 s4 => (lfJ2_add_2 K ζ K) h a0 x3 a2 s4) else ((lfJ2_add_2 K ζ K) h a0 a1 a2 τ)
set_option maxHeartbeats 4000000 in
set_option maxRecDepth 100000 in
theorem wlJ2_add_2 {p : Program} {l : Launch} {e : Env} {s : State} {m : MethodId} {below : List Frame} {meth : Method} {c : Code} {D : va_G} {cA : Nat → ClassId} {ζ : pZ} (hX : zX D cA ζ s) (K : Nat) (res : (Unit × pH)) (M S sl0 : Nat) (hM : s.heap.size + M = res.2.1) (hS0 : sl0 + S = res.2.2.1) (h : Nat) (a0 : Nat) (a1 : Nat) (a2 : Int32) (hx : p.tables.exec = Jvm.exec) (hb : c.code = cJ2_add_2) (hr : meth.sig.returnType = none) (hlocks : meth.locks = false) (hml : c.maxLocals = 4) (hown : s.vm.findClass RJ2 = some m.cls) (hts : ∀ w ∈ lw_all, w.before ([.ref h, .ref a0, .ref a1, .int a2] : List Value).toArray s = true) : ∀ k : Nat, (∀ (v0 : Nat) (v1 : Nat) (v2 : Nat) (v3 : Int32) (τ : pH) (H : Heap) (locs : List Loc) (cells slots : Nat), zH D cA ζ τ H → va_S (zA ζ) s.heap H locs → s.heap.size + cells = τ.1 → sl0 + slots = τ.2.1 → cells ≤ M ∧ slots ≤ S → ∀ (ls : Array Slot), lv_has ls 4 [(0, .ref v0), (1, .ref v1), (2, .ref v2), (3, .int v3)] → (lfJ2_add_2 K ζ k) v0 v1 v2 v3 τ = some res → W p l e (headSpec (ws_ yJ2_add_2 cJ2_add_2 4 (none)) ({ frames := 5, cells := M, slots := S, locals := 147 })).room s m ([.ref h, .ref a0, .ref a1, .int a2] : List Value).toArray below meth c H locs cells slots (MQ below (zQv D cA ζ res) ([.ref h, .ref a0, .ref a1, .int a2] : List Value).toArray s M S (zA ζ)) (F0 m 11 ls [])) := by
  intro k
  induction k with
  | zero =>
    exact fun _ _ _ _ _ _ _ _ _ _ _ _ _ _ _ _ hf => (by cases hf)
  | succ k ih =>
    · intro v0 v1 v2 v3 τ H locs cells slots hH hS hcs hss hcM ls hl hf
      have hf : (if ζ.1 ≤ v2 ∧ v2 < τ.1 then (dz_c (zaq ζ τ v2 4) fun n1 f2 => if ¬ (v3 < 0 ∨ n1 ≤ Int32.toNatClampNeg v3) then (if ζ.1 ≤ v1 ∧ v1 < τ.1 then (dz_c (zoL ζ τ v1) fun cf7 f7 => dz_l (zst τ v2 (.inl (4, n1, .inr (.inr (.inr (.inr (va_up f2 (Int32.toNatClampNeg v3) (some v1)))))))) fun s3 => dz_l (v3 + 1) fun x8 => dz_b (zwo ζ s3 v0 14 2) fun f9 => dz_l (zst s3 v0 (.inr (14, f9.set 2 (.int x8)))) fun s10 => some ((), s10)) else none) else none) else none : Option (Unit × pH)) = some res := hf
      refine lv_aload_n hx hb dJ2_add_2_11 rfl (lv_at hl 2 rfl) ?_
      refine lv_iload_n hx hb dJ2_add_2_12 rfl (lv_at hl 3 rfl) ?_
      refine lv_aload_n hx hb dJ2_add_2_13 rfl (lv_at hl 1 rfl) ?_
      obtain ⟨g4, hf⟩ := dz_go hf
      obtain ⟨n1, f2, hn1, hf⟩ := dz_co hf
      obtain ⟨g5, hf⟩ := dz_go hf
      obtain ⟨g6, hf⟩ := dz_go hf
      obtain ⟨cf7, f7, hcf7, hf⟩ := dz_co hf
      obtain ⟨hr_f7, hc_f7⟩ := zoL_o hcf7
      refine zL_ast hx hb hX hH hS (zw_a g4 (zrd_w (zaq_o hn1) g4)) g6 (zrd_w hr_f7 g6) hc_f7 g5 dJ2_add_2_14 (fun H1 locs hP1 hS => dz_size (fun hz => ?_))
      obtain ⟨s3, e_s3, hf⟩ := dz_lo hf
      have hH := zH_put (x := (.inl (4, n1, .inr (.inr (.inr (.inr (va_up f2 (Int32.toNatClampNeg v3) (some v1)))))))) hH hcs g4 hP1 hz
      rw [← e_s3] at hH
      have hcs : s.heap.size + cells = s3.1 := by rw [e_s3]; exact hcs
      have hss : sl0 + slots = s3.2.1 := by rw [e_s3]; exact hss
      clear hP1 hz; generalize H1 = H at hH hS ⊢
      refine lv_aload_n hx hb dJ2_add_2_15 rfl (lv_at hl 0 rfl) ?_
      refine lv_iload_n hx hb dJ2_add_2_16 rfl (lv_at hl 3 rfl) ?_
      refine lv_iconst (v := 1) hx hb dJ2_add_2_17 (by decide) ?_
      refine lv_iadd hx hb dJ2_add_2_18 ?_
      refine lv_topi (fun x8 e_x8 => ?_)
      have hf := dz_ls e_x8 hf
      obtain ⟨f9, hf9, hf⟩ := dz_bo hf
      obtain ⟨ha_f9, he_f9, hk_f9⟩ := zwo_o hf9
      refine va_put (C := RJ2) (T := TJ2) (N := 3) hx hb hts in_J2 tyJ2 tyJ2_ok nmJ2 hown hX.K hH.2.2 zw_D hS _ (zw_o ha_f9 he_f9) rfl 2 (by decide) (hts _ q144) (fun _ hq => hq) rfl rfl rfl rfl hk_f9 dJ2_add_2_19 (fun H1 locs hP1 _ hS => dz_size (fun hz => ?_))
      obtain ⟨s10, e_s10, hf⟩ := dz_lo hf
      have hH := zH_put (x := .inr (14, f9.set 2 (.int x8))) hH hcs ha_f9 hP1 hz
      rw [← e_s10] at hH
      have hcs : s.heap.size + cells = s10.1 := by rw [e_s10]; exact hcs
      have hss : sl0 + slots = s10.2.1 := by rw [e_s10]; exact hss
      clear hP1 hz; generalize H1 = H at hH hS ⊢
      obtain ⟨hM1, hS1⟩ : cells = M ∧ slots = S := by have hq := congrArg Prod.snd (Option.some.inj hf); rw [← hq] at hM hS0; have hM : s.heap.size + M = s10.1 := hM; have hS0 : sl0 + S = s10.2.1 := hS0; omega
      refine W.widen (k := M) (n := S) (Nat.le_of_eq hM1) (Nat.le_of_eq hS1) ?_
      exact W.vret hx hb hr (fun t ht hW => ⟨⟨s10, rfl, Option.some.inj hf, z_at ht hH⟩, hS.F ht⟩) hS.2.2 dJ2_add_2_22
set_option maxHeartbeats 4000000 in
set_option maxRecDepth 100000 in
theorem mtJ2_add_2 (l : Launch) (D : va_G) (cA : Nat → ClassId) (ζ : pZ) (τ : pH) (h : Nat) (a0 : Nat) (a1 : Nat) (a2 : Int32) (K : Nat) (res : (Unit × pH)) (hf : fnJ2_add_2 K ζ h a0 a1 a2 τ = some res) (M S : Nat) (hM : τ.1 + M = res.2.1) (hS0 : τ.2.1 + S = res.2.2.1) : Met l yJ2_add_2 (ws_ yJ2_add_2 cJ2_add_2 4 (none)) ({ frames := 5, cells := M, slots := S, locals := 147 }) (zPc D cA ζ τ [.ref h, .ref a0, .ref a1, .int a2]) (zQv D cA ζ res) M S (zA ζ) := by
  refine Met.ofW (cc := cJ2_add_2) (maxL := 4) (ret := none) (by decide +kernel) rfl ?_
  intro p e s m args below meth c s₁ B hml hv
  obtain ⟨rfl, hX, hH⟩ := hv
  have hx := B.exec
  have hb := B.bytes
  have hr := B.returns
  have hts := atoms_spec (ws := ws_ yJ2_add_2 cJ2_add_2 4 (none)) B.pre
  have hts : ∀ w ∈ lw_all, w.before _ s = true := fun w h => hts w (List.mem_cons_of_mem _ h)
  have hown : s.vm.findClass RJ2 = some m.cls := findClass_of_methodNamed B.named
  have hlocks := B.notSynchronized
  have hM : s.heap.size + M = res.2.1 := by rw [hH.1]; exact hM
  have hcs : s.heap.size + 0 = τ.1 := hH.1
  have hss : τ.2.1 + 0 = τ.2.1 := rfl
  generalize hsl0 : τ.2.1 = sl0 at hS0 hss
  have hss : sl0 + 0 = τ.2.1 := by rw [hsl0]; rfl
  have hS : va_S (zA ζ) s.heap s.heap [] := va_S.rf
  generalize hHe : s.heap = H at hH hS ⊢
  have hS : va_S (zA ζ) s.heap H [] := by rw [hHe]; exact hS
  generalize ([] : List Loc) = locs at hS ⊢
  have hl := lv_entry ([.ref h, .ref a0, .ref a1, .int a2]) (n := 4) (Nat.le_of_ble_eq_true rfl)
  rw [lg_entry_eq]
  generalize (lg_sl ([.ref h, .ref a0, .ref a1, .int a2]) ++ List.replicate (4 - (lg_sl ([.ref h, .ref a0, .ref a1, .int a2])).length) Slot.unset).toArray = ls at hl ⊢
  have hl : lv_has ls 4 [(0, .ref h), (1, .ref a0), (2, .ref a1), (3, .int a2)] := hl
  have hf : (dz_b (zlenq ζ τ a1) fun n1 => dz_l (Int32.ofNat n1) fun x2 => if a2 = x2 then (dz_b (zob ζ τ h 14) fun f5 => zcl τ (fnJ2_grow K ζ h τ) fun x3 s4 => (lfJ2_add_2 K ζ K) h a0 x3 a2 s4) else ((lfJ2_add_2 K ζ K) h a0 a1 a2 τ) : Option (Unit × pH)) = some res := hf
  refine z_gen (fun cells slots hc0 hs0 => ?_)
  have hcs : s.heap.size + cells = τ.1 := by rw [hc0]; exact hcs
  have hss : sl0 + slots = τ.2.1 := by rw [hs0]; exact hss
  have hcM : cells ≤ M ∧ slots ≤ S := by rw [hc0, hs0]; exact ⟨Nat.zero_le _, Nat.zero_le _⟩
  clear hc0 hs0
  have ih := wlJ2_add_2 (l := l) (e := e) (below := below) (D := D) (cA := cA) hX K res M S sl0 hM hS0 h a0 a1 a2 hx hb hr hlocks hml hown hts K
  refine lv_iload_n hx hb dJ2_add_2_0 rfl (lv_at hl 3 rfl) ?_
  refine lv_aload_n hx hb dJ2_add_2_1 rfl (lv_at hl 2 rfl) ?_
  obtain ⟨n1, hn1, hf⟩ := dz_bo hf
  refine zq_alen hx hb hX hS hH hn1 dJ2_add_2_2 ?_
  refine lv_topi (fun x2 e_x2 => ?_)
  have hf := dz_ls e_x2 hf
  refine lv_icmp_ne (tgt := 11) hx hb dJ2_add_2_3 (by decide) (fun c3 => ?_) (fun c3 => ?_)
  · have hf := dz_f c3 hf
    exact ih h a0 a1 a2 τ H locs cells slots hH hS hcs hss hcM ls (lv_sub hl [0, 1, 2, 3] rfl) hf
  · have hf := dz_t c3 hf
    refine lv_aload_n hx hb dJ2_add_2_6 rfl (lv_at hl 0 rfl) ?_
    obtain ⟨f5, hf5, hf⟩ := dz_bo hf
    obtain ⟨x3, s4, hx3, hle, hck, hf⟩ := zcl_o hf
    have hc1 : cells + (s4.1 - τ.1) ≤ M := by omega
    have hs1 : slots + (s4.2.1 - τ.2.1) ≤ S := by omega
    refine va_callr (va_runV (As := []) (rest := []) ⟨hx, hb, hml, hown, hts⟩ (mtJ2_grow l D cA ζ τ h K (x3, s4) hx3 (s4.1 - τ.1) (s4.2.1 - τ.2.1) (Nat.add_sub_cancel' hle.1) (Nat.add_sub_cancel' hle.2)) (cwV 0 hts (lw_V q802 q804 qs9 q87 q805) rfl rfl rfl (by decide +kernel) ⟨Nat.le_of_ble_eq_true rfl, Nat.le_of_ble_eq_true rfl⟩) (z_preV hX hS hH (zob_o hf5) rfl) rfl rfl hl.1 rfl (lv_room (Nat.le_of_ble_eq_true rfl)) dJ2_add_2_7 ⟨hc1, hs1⟩) hS (fun q _ hq => hq) (fun q hq => hq) (fun u r t H1 locs ht hvm hw hB hz hk hS => ?_)
    obtain ⟨hw, hB⟩ := hB
    obtain ⟨hw1, hw2⟩ := Prod.mk.inj hw.symm; subst hw1; subst hw2
    have hH : zH D cA ζ s4 H1 := z_at ht.symm hB
    have hcs : s.heap.size + (cells + (s4.1 - τ.1)) = s4.1 := by omega
    have hss : sl0 + (slots + (s4.2.1 - τ.2.1)) = s4.2.1 := by omega
    replace hcM := And.intro hc1 hs1
    generalize cells + (s4.1 - τ.1) = cells at hcs hcM ⊢; generalize slots + (s4.2.1 - τ.2.1) = slots at hss hcM ⊢
    clear hB hk hz hvm ht hle hck hc1 hs1; generalize H1 = H at hH hS ⊢
    refine lv_astore_n (lv' := [(2, .ref x3), (0, .ref h), (1, .ref a0), (3, .int a2)]) hx hb dJ2_add_2_10 rfl hl (by decide) rfl (fun ls hl => ?_)
    exact ih h a0 x3 a2 s4 H locs cells slots hH hS hcs hss hcM ls (lv_sub hl [1, 2, 0, 3] rfl) hf

noncomputable def fnJ2_add (K : Nat) (ζ : pZ) (h : Nat) (a0 : Nat) (τ : pH) : Option (Int32 × pH) := dz_b (zob ζ τ h 14) fun f1 => dz_b (zvi (f1[0]?)) fun x2 => dz_l (x2 + 1) fun x3 => dz_b (zwo ζ τ h 14 0) fun f4 => dz_l (zst τ h (.inr (14, f4.set 0 (.int x3)))) fun s5 => dz_b (zob ζ s5 h 14) fun f6 => dz_b (zvr (f6[1]?)) fun x7 => dz_b (zob ζ s5 h 14) fun f8 => dz_b (zvi (f8[2]?)) fun x9 => dz_b (zob ζ s5 h 14) fun f12 => zcl s5 (fnJ2_add_2 K ζ h a0 x7 x9 s5) fun _ s11 => some (1, s11)
set_option maxHeartbeats 4000000 in
set_option maxRecDepth 100000 in
theorem mtJ2_add (l : Launch) (D : va_G) (cA : Nat → ClassId) (ζ : pZ) (τ : pH) (h : Nat) (a0 : Nat) (K : Nat) (res : (Int32 × pH)) (hf : fnJ2_add K ζ h a0 τ = some res) (M S : Nat) (hM : τ.1 + M = res.2.1) (hS0 : τ.2.1 + S = res.2.2.1) : Met l yJ2_add (ws_ yJ2_add cJ2_add 2 (some .boolean)) ({ frames := 6, cells := M, slots := S, locals := 170 }) (zPc D cA ζ τ [.ref h, .ref a0]) (zQi D cA ζ res) M S (zA ζ) := by
  refine Met.ofW (cc := cJ2_add) (maxL := 2) (ret := some .boolean) (by decide +kernel) rfl ?_
  intro p e s m args below meth c s₁ B hml hv
  obtain ⟨rfl, hX, hH⟩ := hv
  have hx := B.exec
  have hb := B.bytes
  have hr := B.returns
  have hts := atoms_spec (ws := ws_ yJ2_add cJ2_add 2 (some .boolean)) B.pre
  have hts : ∀ w ∈ lw_all, w.before _ s = true := fun w h => hts w (List.mem_cons_of_mem _ h)
  have hown : s.vm.findClass RJ2 = some m.cls := findClass_of_methodNamed B.named
  have hlocks := B.notSynchronized
  have hM : s.heap.size + M = res.2.1 := by rw [hH.1]; exact hM
  have hcs : s.heap.size + 0 = τ.1 := hH.1
  have hss : τ.2.1 + 0 = τ.2.1 := rfl
  generalize hsl0 : τ.2.1 = sl0 at hS0 hss
  have hss : sl0 + 0 = τ.2.1 := by rw [hsl0]; rfl
  have hS : va_S (zA ζ) s.heap s.heap [] := va_S.rf
  generalize hHe : s.heap = H at hH hS ⊢
  have hS : va_S (zA ζ) s.heap H [] := by rw [hHe]; exact hS
  generalize ([] : List Loc) = locs at hS ⊢
  have hl := lv_entry ([.ref h, .ref a0]) (n := 2) (Nat.le_of_ble_eq_true rfl)
  rw [lg_entry_eq]
  generalize (lg_sl ([.ref h, .ref a0]) ++ List.replicate (2 - (lg_sl ([.ref h, .ref a0])).length) Slot.unset).toArray = ls at hl ⊢
  have hl : lv_has ls 2 [(0, .ref h), (1, .ref a0)] := hl
  have hf : (dz_b (zob ζ τ h 14) fun f1 => dz_b (zvi (f1[0]?)) fun x2 => dz_l (x2 + 1) fun x3 => dz_b (zwo ζ τ h 14 0) fun f4 => dz_l (zst τ h (.inr (14, f4.set 0 (.int x3)))) fun s5 => dz_b (zob ζ s5 h 14) fun f6 => dz_b (zvr (f6[1]?)) fun x7 => dz_b (zob ζ s5 h 14) fun f8 => dz_b (zvi (f8[2]?)) fun x9 => dz_b (zob ζ s5 h 14) fun f12 => zcl s5 (fnJ2_add_2 K ζ h a0 x7 x9 s5) fun _ s11 => some (1, s11) : Option (Int32 × pH)) = some res := hf
  refine z_gen (fun cells slots hc0 hs0 => ?_)
  have hcs : s.heap.size + cells = τ.1 := by rw [hc0]; exact hcs
  have hss : sl0 + slots = τ.2.1 := by rw [hs0]; exact hss
  have hcM : cells ≤ M ∧ slots ≤ S := by rw [hc0, hs0]; exact ⟨Nat.zero_le _, Nat.zero_le _⟩
  clear hc0 hs0
  refine lv_aload_n hx hb dJ2_add_0 rfl (lv_at hl 0 rfl) ?_
  refine lv_dup hx hb dJ2_add_1 rfl ?_
  obtain ⟨f1, hf1, hf⟩ := dz_bo hf
  obtain ⟨x2, hx2, hf⟩ := dz_bo hf
  refine va_get (C := RJ2) (T := TJ2) (N := 3) hx hb hts in_J2 hown hX.K (zrd_P hX hS hH (zob_o hf1)) 0 rfl rfl 0 (by decide) (hts _ q148) (fun x hq => u_same (hts _ q147) x hq) (zvi_o hx2) dJ2_add_2 ?_
  refine lv_iconst (v := 1) hx hb dJ2_add_5 (by decide) ?_
  refine lv_iadd hx hb dJ2_add_6 ?_
  refine lv_topi (fun x3 e_x3 => ?_)
  have hf := dz_ls e_x3 hf
  obtain ⟨f4, hf4, hf⟩ := dz_bo hf
  obtain ⟨ha_f4, he_f4, hk_f4⟩ := zwo_o hf4
  refine va_put (C := RJ2) (T := TJ2) (N := 3) hx hb hts in_J2 tyJ2 tyJ2_ok nmJ2 hown hX.K hH.2.2 zw_D hS _ (zw_o ha_f4 he_f4) rfl 0 (by decide) (hts _ q148) (fun x hq => u_same (hts _ q147) x hq) rfl rfl rfl rfl hk_f4 dJ2_add_7 (fun H1 locs hP1 _ hS => dz_size (fun hz => ?_))
  obtain ⟨s5, e_s5, hf⟩ := dz_lo hf
  have hH := zH_put (x := .inr (14, f4.set 0 (.int x3))) hH hcs ha_f4 hP1 hz
  rw [← e_s5] at hH
  have hcs : s.heap.size + cells = s5.1 := by rw [e_s5]; exact hcs
  have hss : sl0 + slots = s5.2.1 := by rw [e_s5]; exact hss
  clear hP1 hz; generalize H1 = H at hH hS ⊢
  refine lv_aload_n hx hb dJ2_add_10 rfl (lv_at hl 0 rfl) ?_
  refine lv_aload_n hx hb dJ2_add_11 rfl (lv_at hl 1 rfl) ?_
  refine lv_aload_n hx hb dJ2_add_12 rfl (lv_at hl 0 rfl) ?_
  obtain ⟨f6, hf6, hf⟩ := dz_bo hf
  obtain ⟨x7, hx7, hf⟩ := dz_bo hf
  refine va_get (C := RJ2) (T := TJ2) (N := 3) hx hb hts in_J2 hown hX.K (zrd_P hX hS hH (zob_o hf6)) 0 rfl rfl 1 (by decide) (hts _ q141) (fun _ hq => hq) (zvr_o hx7) dJ2_add_13 ?_
  refine lv_aload_n hx hb dJ2_add_16 rfl (lv_at hl 0 rfl) ?_
  obtain ⟨f8, hf8, hf⟩ := dz_bo hf
  obtain ⟨x9, hx9, hf⟩ := dz_bo hf
  refine va_get (C := RJ2) (T := TJ2) (N := 3) hx hb hts in_J2 hown hX.K (zrd_P hX hS hH (zob_o hf8)) 0 rfl rfl 2 (by decide) (hts _ q144) (fun _ hq => hq) (zvi_o hx9) dJ2_add_17 ?_
  obtain ⟨f12, hf12, hf⟩ := dz_bo hf
  obtain ⟨x10, s11, hx10, hle, hck, hf⟩ := zcl_o hf
  have hc1 : cells + (s11.1 - s5.1) ≤ M := by omega
  have hs1 : slots + (s11.2.1 - s5.2.1) ≤ S := by omega
  refine va_callv (va_runV (As := [.ref a0, .ref x7, .int x9]) (rest := []) ⟨hx, hb, hml, hown, hts⟩ (mtJ2_add_2 l D cA ζ s5 h a0 x7 x9 K (x10, s11) hx10 (s11.1 - s5.1) (s11.2.1 - s5.2.1) (Nat.add_sub_cancel' hle.1) (Nat.add_sub_cancel' hle.2)) (cwV 3 hts (lw_V q798 q800 qs8 q87 q801) rfl rfl rfl (by decide +kernel) ⟨Nat.le_of_ble_eq_true rfl, Nat.le_of_ble_eq_true rfl⟩) (z_preV hX hS hH (zob_o hf12) rfl) rfl rfl hl.1 rfl (lv_room (Nat.le_of_ble_eq_true rfl)) dJ2_add_20 ⟨hc1, hs1⟩) hS (fun q _ hq => hq) (fun q hq => hq) (fun u t H1 locs ht hvm hw hB hz hk hS => ?_)
  obtain ⟨-, hw2⟩ := Prod.mk.inj hw.symm; subst hw2
  have hH : zH D cA ζ s11 H1 := z_at ht.symm hB
  have hcs : s.heap.size + (cells + (s11.1 - s5.1)) = s11.1 := by omega
  have hss : sl0 + (slots + (s11.2.1 - s5.2.1)) = s11.2.1 := by omega
  replace hcM := And.intro hc1 hs1
  generalize cells + (s11.1 - s5.1) = cells at hcs hcM ⊢; generalize slots + (s11.2.1 - s5.2.1) = slots at hss hcM ⊢
  clear hB hk hz hvm ht hle hck hc1 hs1; generalize H1 = H at hH hS ⊢
  refine lv_iconst (v := 1) hx hb dJ2_add_23 (by decide) ?_
  obtain ⟨hM1, hS1⟩ : cells = M ∧ slots = S := by have hq := congrArg Prod.snd (Option.some.inj hf); rw [← hq] at hM hS0; have hM : s.heap.size + M = s11.1 := hM; have hS0 : sl0 + S = s11.2.1 := hS0; omega
  refine W.widen (k := M) (n := S) (Nat.le_of_eq hM1) (Nat.le_of_eq hS1) ?_
  exact W.zret (v := 1) hx hb hr rfl (fun t ht hW => ⟨⟨1, s11, rfl, Option.some.inj hf, z_at ht hH⟩, hS.F ht⟩) hS.2.2 dJ2_add_24

noncomputable def fnX0_comes (K : Nat) (ζ : pZ) (h : Nat) (a0 : Nat) (τ : pH) : Option (Unit × pH) := dz_b (zob ζ τ h 0) fun f1 => dz_b (zvr (f1[0]?)) fun x2 => dz_b (zob ζ τ x2 14) fun f5 => zcl τ (fnJ2_add K ζ x2 a0 τ) fun x3 s4 => some ((), s4)
set_option maxHeartbeats 4000000 in
set_option maxRecDepth 100000 in
theorem mtX0_comes (l : Launch) (D : va_G) (cA : Nat → ClassId) (ζ : pZ) (τ : pH) (h : Nat) (a0 : Nat) (K : Nat) (res : (Unit × pH)) (hf : fnX0_comes K ζ h a0 τ = some res) (M S : Nat) (hM : τ.1 + M = res.2.1) (hS0 : τ.2.1 + S = res.2.2.1) : Met l yX0_comes (ws_ yX0_comes cX0_comes 2 (none)) ({ frames := 7, cells := M, slots := S, locals := 191 }) (zPc D cA ζ τ [.ref h, .ref a0]) (zQv D cA ζ res) M S (zA ζ) := by
  refine Met.ofW (cc := cX0_comes) (maxL := 2) (ret := none) (by decide +kernel) rfl ?_
  intro p e s m args below meth c s₁ B hml hv
  obtain ⟨rfl, hX, hH⟩ := hv
  have hx := B.exec
  have hb := B.bytes
  have hr := B.returns
  have hts := atoms_spec (ws := ws_ yX0_comes cX0_comes 2 (none)) B.pre
  have hts : ∀ w ∈ lw_all, w.before _ s = true := fun w h => hts w (List.mem_cons_of_mem _ h)
  have hown : s.vm.findClass RX0 = some m.cls := findClass_of_methodNamed B.named
  have hlocks := B.notSynchronized
  have hM : s.heap.size + M = res.2.1 := by rw [hH.1]; exact hM
  have hcs : s.heap.size + 0 = τ.1 := hH.1
  have hss : τ.2.1 + 0 = τ.2.1 := rfl
  generalize hsl0 : τ.2.1 = sl0 at hS0 hss
  have hss : sl0 + 0 = τ.2.1 := by rw [hsl0]; rfl
  have hS : va_S (zA ζ) s.heap s.heap [] := va_S.rf
  generalize hHe : s.heap = H at hH hS ⊢
  have hS : va_S (zA ζ) s.heap H [] := by rw [hHe]; exact hS
  generalize ([] : List Loc) = locs at hS ⊢
  have hl := lv_entry ([.ref h, .ref a0]) (n := 2) (Nat.le_of_ble_eq_true rfl)
  rw [lg_entry_eq]
  generalize (lg_sl ([.ref h, .ref a0]) ++ List.replicate (2 - (lg_sl ([.ref h, .ref a0])).length) Slot.unset).toArray = ls at hl ⊢
  have hl : lv_has ls 2 [(0, .ref h), (1, .ref a0)] := hl
  have hf : (dz_b (zob ζ τ h 0) fun f1 => dz_b (zvr (f1[0]?)) fun x2 => dz_b (zob ζ τ x2 14) fun f5 => zcl τ (fnJ2_add K ζ x2 a0 τ) fun x3 s4 => some ((), s4) : Option (Unit × pH)) = some res := hf
  refine z_gen (fun cells slots hc0 hs0 => ?_)
  have hcs : s.heap.size + cells = τ.1 := by rw [hc0]; exact hcs
  have hss : sl0 + slots = τ.2.1 := by rw [hs0]; exact hss
  have hcM : cells ≤ M ∧ slots ≤ S := by rw [hc0, hs0]; exact ⟨Nat.zero_le _, Nat.zero_le _⟩
  clear hc0 hs0
  refine lv_aload_n hx hb dX0_comes_0 rfl (lv_at hl 0 rfl) ?_
  obtain ⟨f1, hf1, hf⟩ := dz_bo hf
  obtain ⟨x2, hx2, hf⟩ := dz_bo hf
  refine va_get (C := RX0) (T := TX0) (N := 7) hx hb hts in_X0 hown hX.K (zrd_P hX hS hH (zob_o hf1)) 0 rfl rfl 0 (by decide) (hts _ q156) (fun _ hq => hq) (zvr_o hx2) dX0_comes_1 ?_
  refine lv_aload_n hx hb dX0_comes_4 rfl (lv_at hl 1 rfl) ?_
  obtain ⟨f5, hf5, hf⟩ := dz_bo hf
  obtain ⟨x3, s4, hx3, hle, hck, hf⟩ := zcl_o hf
  have hc1 : cells + (s4.1 - τ.1) ≤ M := by omega
  have hs1 : slots + (s4.2.1 - τ.2.1) ≤ S := by omega
  refine va_calli (va_runV (As := [.ref a0]) (rest := []) ⟨hx, hb, hml, hown, hts⟩ (mtJ2_add l D cA ζ τ x2 a0 K (x3, s4) hx3 (s4.1 - τ.1) (s4.2.1 - τ.2.1) (Nat.add_sub_cancel' hle.1) (Nat.add_sub_cancel' hle.2)) (cwV 1 hts (lw_V q794 q795 q796 q87 q797) rfl rfl rfl (by decide +kernel) ⟨Nat.le_of_ble_eq_true rfl, Nat.le_of_ble_eq_true rfl⟩) (z_preV hX hS hH (zob_o hf5) rfl) rfl rfl hl.1 rfl (lv_room (Nat.le_of_ble_eq_true rfl)) dX0_comes_5 ⟨hc1, hs1⟩) hS (fun q _ hq => hq) (fun q hq => hq) (fun r u t H1 locs ht hvm hw hB hz hk hS => ?_)
  obtain ⟨hw1, hw2⟩ := Prod.mk.inj hw.symm; subst hw1; subst hw2
  have hH : zH D cA ζ s4 H1 := z_at ht.symm hB
  have hcs : s.heap.size + (cells + (s4.1 - τ.1)) = s4.1 := by omega
  have hss : sl0 + (slots + (s4.2.1 - τ.2.1)) = s4.2.1 := by omega
  replace hcM := And.intro hc1 hs1
  generalize cells + (s4.1 - τ.1) = cells at hcs hcM ⊢; generalize slots + (s4.2.1 - τ.2.1) = slots at hss hcM ⊢
  clear hB hk hz hvm ht hle hck hc1 hs1; generalize H1 = H at hH hS ⊢
  refine lv_pop hx hb dX0_comes_8 rfl ?_
  obtain ⟨hM1, hS1⟩ : cells = M ∧ slots = S := by have hq := congrArg Prod.snd (Option.some.inj hf); rw [← hq] at hM hS0; have hM : s.heap.size + M = s4.1 := hM; have hS0 : sl0 + S = s4.2.1 := hS0; omega
  refine W.widen (k := M) (n := S) (Nat.le_of_eq hM1) (Nat.le_of_eq hS1) ?_
  exact W.vret hx hb hr (fun t ht hW => ⟨⟨s4, rfl, Option.some.inj hf, z_at ht hH⟩, hS.F ht⟩) hS.2.2 dX0_comes_9

