noncomputable def lfX0_set (K : Nat) (ζ : pZ) : Nat → (Nat → Int32 → Int32 → Int32 → pH → Option (Int32 × pH)) × (Nat → Int32 → Int32 → Int32 → Nat → pH → Option (Int32 × pH)) × (Nat → Int32 → Int64 → pH → Option (Int32 × pH)) := Nat.rec (motive := fun _ => (Nat → Int32 → Int32 → Int32 → pH → Option (Int32 × pH)) × (Nat → Int32 → Int32 → Int32 → Nat → pH → Option (Int32 × pH)) × (Nat → Int32 → Int64 → pH → Option (Int32 × pH))) ((fun _ _ _ _ _ => none), (fun _ _ _ _ _ _ => none), (fun _ _ _ _ => none)) (fun _ G => ((fun v0 v1 v2 v3 τ => dz_b (zob ζ τ v0 0) fun f1 => dz_b (zvr (f1[0]?)) fun x2 => dz_b (zob ζ τ x2 14) fun f5 => zcl τ (fnJ2_get K ζ x2 v1 τ) fun x3 s4 => dz_c (zoL ζ s4 x3) fun cf6 f6 => if v2 ≤ (0 : Int32) then (G.2.1 v0 v1 v2 v3 x3 s4) else (zcl s4 (fnL_hasPair K ζ x3 s4) fun x7 s8 => if x7 = (0 : Int32) then (some ((-1), s8)) else (G.2.1 v0 v1 v2 v3 x3 s8))), (fun v0 v1 v2 v3 v4 τ => if v2 = (0 : Int32) then (dz_c (zoL ζ τ v4) fun cf33 f33 => dz_b (zvl (f33[0]?)) fun x34 => if v2 = (0 : Int32) then (dz_l (Int32.toInt64 v3) fun x43 => if ζ.1 ≤ v4 ∧ v4 < τ.1 then (dz_c (zoL ζ τ v4) fun cf44 f44 => if 0 < f44.length then (dz_l (zst τ v4 (.inr (cf44, f44.set 0 (.long x43)))) fun s45 => G.2.2 v0 v1 x34 s45) else none) else none) else (if v2 = (1 : Int32) then (if ζ.1 ≤ v4 ∧ v4 < τ.1 then (dz_c (zoL ζ τ v4) fun cf39 f39 => if 2 < f39.length then (dz_l (zst τ v4 (.inr (cf39, f39.set 2 (.int v3)))) fun s40 => G.2.2 v0 v1 x34 s40) else none) else none) else (if ζ.1 ≤ v4 ∧ v4 < τ.1 then (dz_c (zoL ζ τ v4) fun cf35 f35 => if 3 < f35.length then (dz_l (zst τ v4 (.inr (cf35, f35.set 3 (.int v3)))) fun s36 => G.2.2 v0 v1 x34 s36) else none) else none))) else (if v2 = (1 : Int32) then (dz_c (zoL ζ τ v4) fun cf17 f17 => dz_b (zvi (f17[2]?)) fun x18 => dz_l (Int32.toInt64 x18) fun x19 => if v2 = (0 : Int32) then (dz_l (Int32.toInt64 v3) fun x28 => if ζ.1 ≤ v4 ∧ v4 < τ.1 then (dz_c (zoL ζ τ v4) fun cf29 f29 => if 0 < f29.length then (dz_l (zst τ v4 (.inr (cf29, f29.set 0 (.long x28)))) fun s30 => G.2.2 v0 v1 x19 s30) else none) else none) else (if v2 = (1 : Int32) then (if ζ.1 ≤ v4 ∧ v4 < τ.1 then (dz_c (zoL ζ τ v4) fun cf24 f24 => if 2 < f24.length then (dz_l (zst τ v4 (.inr (cf24, f24.set 2 (.int v3)))) fun s25 => G.2.2 v0 v1 x19 s25) else none) else none) else (if ζ.1 ≤ v4 ∧ v4 < τ.1 then (dz_c (zoL ζ τ v4) fun cf20 f20 => if 3 < f20.length then (dz_l (zst τ v4 (.inr (cf20, f20.set 3 (.int v3)))) fun s21 => G.2.2 v0 v1 x19 s21) else none) else none))) else (dz_c (zoL ζ τ v4) fun cf1 f1 => dz_b (zvi (f1[3]?)) fun x2 => dz_l (Int32.toInt64 x2) fun x3 => if v2 = (0 : Int32) then (dz_l (Int32.toInt64 v3) fun x12 => if ζ.1 ≤ v4 ∧ v4 < τ.1 then (dz_c (zoL ζ τ v4) fun cf13 f13 => if 0 < f13.length then (dz_l (zst τ v4 (.inr (cf13, f13.set 0 (.long x12)))) fun s14 => G.2.2 v0 v1 x3 s14) else none) else none) else (if v2 = (1 : Int32) then (if ζ.1 ≤ v4 ∧ v4 < τ.1 then (dz_c (zoL ζ τ v4) fun cf8 f8 => if 2 < f8.length then (dz_l (zst τ v4 (.inr (cf8, f8.set 2 (.int v3)))) fun s9 => G.2.2 v0 v1 x3 s9) else none) else none) else (if ζ.1 ≤ v4 ∧ v4 < τ.1 then (dz_c (zoL ζ τ v4) fun cf4 f4 => if 3 < f4.length then (dz_l (zst τ v4 (.inr (cf4, f4.set 3 (.int v3)))) fun s5 => G.2.2 v0 v1 x3 s5) else none) else none))))), (fun v0 v1 v5 τ => dz_b (zob ζ τ v0 0) fun f3 => zcl τ (fnX0_changes K ζ v0 v1 τ) fun _ s2 => dz_l (Int64.toInt32 v5) fun x4 => some (x4, s2))))
noncomputable def fnX0_set (K : Nat) (ζ : pZ) (h : Nat) (a0 : Int32) (a1 : Int32) (a2 : Int32) (τ : pH) : Option (Int32 × pH) := dz_b (zob ζ τ h 0) fun f3 => zcl τ (fnX0_isLine K ζ h a0 τ) fun x1 s2 => if x1 = (0 : Int32) then (some ((-1), s2)) else (dz_b (fnX0_isIn K (Int32.toInt64 a1) 0 2) fun x4 => if x4 = (0 : Int32) then (some ((-1), s2)) else (if a1 = (0 : Int32) then (dz_b (fnX0_isNumber K (Int32.toInt64 a2)) fun x6 => if x6 = (0 : Int32) then (some ((-1), s2)) else ((lfX0_set K ζ K).1 h a0 a1 a2 s2)) else (dz_b (fnX0_isIn K (Int32.toInt64 a2) 1 99) fun x5 => if x5 = (0 : Int32) then (some ((-1), s2)) else ((lfX0_set K ζ K).1 h a0 a1 a2 s2))))
set_option maxHeartbeats 4000000 in
set_option maxRecDepth 100000 in
theorem wlX0_set {p : Program} {l : Launch} {e : Env} {s : State} {m : MethodId} {below : List Frame} {meth : Method} {c : Code} {D : va_G} {cA : Nat → ClassId} {ζ : pZ} (hX : zX D cA ζ s) (K : Nat) (res : (Int32 × pH)) (M S sl0 : Nat) (hM : s.heap.size + M = res.2.1) (hS0 : sl0 + S = res.2.2.1) (h : Nat) (a0 : Int32) (a1 : Int32) (a2 : Int32) (hx : p.tables.exec = Jvm.exec) (hb : c.code = cX0_set) (hr : meth.sig.returnType = some .int) (hlocks : meth.locks = false) (hml : c.maxLocals = 7) (hown : s.vm.findClass RX0 = some m.cls) (hts : ∀ w ∈ lw_all, w.before ([.ref h, .int a0, .int a1, .int a2] : List Value).toArray s = true) : ∀ k : Nat, (∀ (v0 : Nat) (v1 : Int32) (v2 : Int32) (v3 : Int32) (τ : pH) (H : Heap) (locs : List Loc) (cells slots : Nat), zH D cA ζ τ H → va_S (zA ζ) s.heap H locs → s.heap.size + cells = τ.1 → sl0 + slots = τ.2.1 → cells ≤ M ∧ slots ≤ S → ∀ (ls : Array Slot), lv_has ls 7 [(0, .ref v0), (1, .int v1), (2, .int v2), (3, .int v3)] → (lfX0_set K ζ k).1 v0 v1 v2 v3 τ = some res → W p l e (headSpec (ws_ yX0_set cX0_set 7 (some .int)) ({ frames := 3, cells := M, slots := S, locals := 64 })).room s m ([.ref h, .int a0, .int a1, .int a2] : List Value).toArray below meth c H locs cells slots (MQ below (zQi D cA ζ res) ([.ref h, .int a0, .int a1, .int a2] : List Value).toArray s M S (zA ζ)) (F0 m 49 ls [])) ∧ (∀ (v0 : Nat) (v1 : Int32) (v2 : Int32) (v3 : Int32) (v4 : Nat) (τ : pH) (H : Heap) (locs : List Loc) (cells slots : Nat), zH D cA ζ τ H → va_S (zA ζ) s.heap H locs → s.heap.size + cells = τ.1 → sl0 + slots = τ.2.1 → cells ≤ M ∧ slots ≤ S → ∀ (ls : Array Slot), lv_has ls 7 [(0, .ref v0), (1, .int v1), (2, .int v2), (3, .int v3), (4, .ref v4)] → (lfX0_set K ζ k).2.1 v0 v1 v2 v3 v4 τ = some res → W p l e (headSpec (ws_ yX0_set cX0_set 7 (some .int)) ({ frames := 3, cells := M, slots := S, locals := 64 })).room s m ([.ref h, .int a0, .int a1, .int a2] : List Value).toArray below meth c H locs cells slots (MQ below (zQi D cA ζ res) ([.ref h, .int a0, .int a1, .int a2] : List Value).toArray s M S (zA ζ)) (F0 m 76 ls [])) ∧ (∀ (v0 : Nat) (v1 : Int32) (v5 : Int64) (τ : pH) (H : Heap) (locs : List Loc) (cells slots : Nat), zH D cA ζ τ H → va_S (zA ζ) s.heap H locs → s.heap.size + cells = τ.1 → sl0 + slots = τ.2.1 → cells ≤ M ∧ slots ≤ S → ∀ (ls : Array Slot), lv_has ls 7 [(0, .ref v0), (1, .int v1), (5, .long v5)] → (lfX0_set K ζ k).2.2 v0 v1 v5 τ = some res → W p l e (headSpec (ws_ yX0_set cX0_set 7 (some .int)) ({ frames := 3, cells := M, slots := S, locals := 64 })).room s m ([.ref h, .int a0, .int a1, .int a2] : List Value).toArray below meth c H locs cells slots (MQ below (zQi D cA ζ res) ([.ref h, .int a0, .int a1, .int a2] : List Value).toArray s M S (zA ζ)) (F0 m 144 ls [])) := by
  intro k
  induction k with
  | zero =>
    exact ⟨fun _ _ _ _ _ _ _ _ _ _ _ _ _ _ _ _ hf => (by cases hf), fun _ _ _ _ _ _ _ _ _ _ _ _ _ _ _ _ _ hf => (by cases hf), fun _ _ _ _ _ _ _ _ _ _ _ _ _ _ _ hf => (by cases hf)⟩
  | succ k ih =>
    refine ⟨?_, ?_, ?_⟩
    · intro v0 v1 v2 v3 τ H locs cells slots hH hS hcs hss hcM ls hl hf
      have hf : (dz_b (zob ζ τ v0 0) fun f1 => dz_b (zvr (f1[0]?)) fun x2 => dz_b (zob ζ τ x2 14) fun f5 => zcl τ (fnJ2_get K ζ x2 v1 τ) fun x3 s4 => dz_c (zoL ζ s4 x3) fun cf6 f6 => if v2 ≤ (0 : Int32) then ((lfX0_set K ζ k).2.1 v0 v1 v2 v3 x3 s4) else (zcl s4 (fnL_hasPair K ζ x3 s4) fun x7 s8 => if x7 = (0 : Int32) then (some ((-1), s8)) else ((lfX0_set K ζ k).2.1 v0 v1 v2 v3 x3 s8)) : Option (Int32 × pH)) = some res := hf
      refine lv_aload_n hx hb dX0_set_49 rfl (lv_at hl 0 rfl) ?_
      obtain ⟨f1, hf1, hf⟩ := dz_bo hf
      obtain ⟨x2, hx2, hf⟩ := dz_bo hf
      refine va_get (C := RX0) (T := TX0) (N := 7) hx hb hts in_X0 hown hX.K (zrd_P hX hS hH (zob_o hf1)) 0 rfl rfl 0 (by decide) (hts _ q156) (fun _ hq => hq) (zvr_o hx2) dX0_set_50 ?_
      refine lv_iload_n hx hb dX0_set_53 rfl (lv_at hl 1 rfl) ?_
      obtain ⟨f5, hf5, hf⟩ := dz_bo hf
      obtain ⟨x3, s4, hx3, hle, hck, hf⟩ := zcl_o hf
      have hc1 : cells + (s4.1 - τ.1) ≤ M := by omega
      have hs1 : slots + (s4.2.1 - τ.2.1) ≤ S := by omega
      refine va_callr (va_runV (As := [.int v1]) (rest := []) ⟨hx, hb, hml, hown, hts⟩ (mtJ2_get l D cA ζ τ x2 v1 K (x3, s4) hx3 (s4.1 - τ.1) (s4.2.1 - τ.2.1) (Nat.add_sub_cancel' hle.1) (Nat.add_sub_cancel' hle.2)) (cwV 1 hts (lw_V q204 q205 q206 q87 q207) rfl rfl rfl (by decide +kernel) ⟨Nat.le_of_ble_eq_true rfl, Nat.le_of_ble_eq_true rfl⟩) (z_preV hX hS hH (zob_o hf5) rfl) rfl rfl hl.1 rfl (lv_room (Nat.le_of_ble_eq_true rfl)) dX0_set_54 ⟨hc1, hs1⟩) hS (fun q _ hq => hq) (fun q hq => hq) (fun u r t H1 locs ht hvm hw hB hz hk hS => ?_)
      obtain ⟨hw, hB⟩ := hB
      obtain ⟨hw1, hw2⟩ := Prod.mk.inj hw.symm; subst hw1; subst hw2
      have hH : zH D cA ζ s4 H1 := z_at ht.symm hB
      have hcs : s.heap.size + (cells + (s4.1 - τ.1)) = s4.1 := by omega
      have hss : sl0 + (slots + (s4.2.1 - τ.2.1)) = s4.2.1 := by omega
      replace hcM := And.intro hc1 hs1
      generalize cells + (s4.1 - τ.1) = cells at hcs hcM ⊢; generalize slots + (s4.2.1 - τ.2.1) = slots at hss hcM ⊢
      clear hB hk hz hvm ht hle hck hc1 hs1; generalize H1 = H at hH hS ⊢
      obtain ⟨cf6, f6, hcf6, hf⟩ := dz_co hf
      obtain ⟨hr_f6, hc_f6⟩ := zoL_o hcf6
      refine zL_cast hx hb hown (hts _ q218) hX hS hH hr_f6 hc_f6 dX0_set_57 ?_
      refine lv_astore (lv' := [(4, .ref x3), (0, .ref v0), (1, .int v1), (2, .int v2), (3, .int v3)]) hx hb dX0_set_60 hl (by decide) rfl (fun ls hl => ?_)
      refine lv_iload_n hx hb dX0_set_62 rfl (lv_at hl 3 rfl) ?_
      refine lv_if_le (tgt := 76) hx hb dX0_set_63 (by decide) (fun c63 => ?_) (fun c63 => ?_)
      · have hf := dz_t c63 hf
        exact ih.2.1 v0 v1 v2 v3 x3 s4 H locs cells slots hH hS hcs hss hcM ls (lv_sub hl [1, 2, 3, 4, 0] rfl) hf
      · have hf := dz_f c63 hf
        refine lv_aload hx hb dX0_set_66 (lv_at hl 0 rfl) ?_
        obtain ⟨x7, s8, hx7, hle, hck, hf⟩ := zcl_o hf
        have hc1 : cells + (s8.1 - s4.1) ≤ M := by omega
        have hs1 : slots + (s8.2.1 - s4.2.1) ≤ S := by omega
        refine va_calli (post := fun (r : Int32) (u : pH) => (r, u) = (x7, s8)) (B := fun u t => zH D cA ζ u t.heap) (A1 := zA ζ) (a := (Value.ref x3 :: [] : List Value).toArray) (mc := s8.1 - s4.1) (ms := s8.2.1 - s4.2.1) (rest := []) (free := zA ζ) ?_ hS (fun q _ hq => hq) (fun q hq => hq) (fun r u t H1 locs ht hvm hw hB hz hk hS => ?_)
        · rcases L_hasPair_o hx7 with ⟨fs_, hr_, hg_⟩ | ⟨fs_, hr_, hg_⟩ | ⟨fs_, hr_, hg_⟩ | ⟨fs_, hr_, hg_⟩ | ⟨fs_, hr_, hg_⟩
          · exact va_runU (x := ⟨"PrimeProofs$Line", "hasPair", "()Z"⟩) (owner := "PrimeProofs$Line") (As := []) (rest := []) ⟨hx, hb, hml, hown, hts⟩ (mtX6_hasPair_5 l D cA ζ s4 x3 K (x7, s8) hg_ (s8.1 - s4.1) (s8.2.1 - s4.2.1) (Nat.add_sub_cancel' hle.1) (Nat.add_sub_cancel' hle.2)) (va_cwU 0 hts (zU_in q1354 q444 q449 q443 q96 q450) rfl rfl rfl rfl (by decide +kernel) ⟨Nat.le_of_ble_eq_true rfl, Nat.le_of_ble_eq_true rfl⟩) (z_preV hX hS hH hr_ rfl) rfl rfl hl.1 rfl (lv_room (Nat.le_of_ble_eq_true rfl)) dX0_set_68 ⟨hc1, hs1⟩
          · exact va_runU (x := ⟨"PrimeProofs$Line", "hasPair", "()Z"⟩) (owner := "PrimeProofs$Line") (As := []) (rest := []) ⟨hx, hb, hml, hown, hts⟩ (mtX6_hasPair_6 l D cA ζ s4 x3 K (x7, s8) hg_ (s8.1 - s4.1) (s8.2.1 - s4.2.1) (Nat.add_sub_cancel' hle.1) (Nat.add_sub_cancel' hle.2)) (va_cwU 0 hts (zU_in q1354 q444 q448 q443 q96 q450) rfl rfl rfl rfl (by decide +kernel) ⟨Nat.le_of_ble_eq_true rfl, Nat.le_of_ble_eq_true rfl⟩) (z_preV hX hS hH hr_ rfl) rfl rfl hl.1 rfl (lv_room (Nat.le_of_ble_eq_true rfl)) dX0_set_68 ⟨hc1, hs1⟩
          · exact va_runU (x := ⟨"PrimeProofs$Line", "hasPair", "()Z"⟩) (owner := "PrimeProofs$Line") (As := []) (rest := []) ⟨hx, hb, hml, hown, hts⟩ (mtX6_hasPair_7 l D cA ζ s4 x3 K (x7, s8) hg_ (s8.1 - s4.1) (s8.2.1 - s4.2.1) (Nat.add_sub_cancel' hle.1) (Nat.add_sub_cancel' hle.2)) (va_cwU 0 hts (zU_in q1354 q444 q447 q443 q96 q450) rfl rfl rfl rfl (by decide +kernel) ⟨Nat.le_of_ble_eq_true rfl, Nat.le_of_ble_eq_true rfl⟩) (z_preV hX hS hH hr_ rfl) rfl rfl hl.1 rfl (lv_room (Nat.le_of_ble_eq_true rfl)) dX0_set_68 ⟨hc1, hs1⟩
          · exact va_runU (x := ⟨"PrimeProofs$Line", "hasPair", "()Z"⟩) (owner := "PrimeProofs$Line") (As := []) (rest := []) ⟨hx, hb, hml, hown, hts⟩ (mtX6_hasPair_8 l D cA ζ s4 x3 K (x7, s8) hg_ (s8.1 - s4.1) (s8.2.1 - s4.2.1) (Nat.add_sub_cancel' hle.1) (Nat.add_sub_cancel' hle.2)) (va_cwU 0 hts (zU_in q1354 q444 q446 q443 q96 q450) rfl rfl rfl rfl (by decide +kernel) ⟨Nat.le_of_ble_eq_true rfl, Nat.le_of_ble_eq_true rfl⟩) (z_preV hX hS hH hr_ rfl) rfl rfl hl.1 rfl (lv_room (Nat.le_of_ble_eq_true rfl)) dX0_set_68 ⟨hc1, hs1⟩
          · exact va_runU (x := ⟨"PrimeProofs$Line", "hasPair", "()Z"⟩) (owner := "PrimeProofs$Line") (As := []) (rest := []) ⟨hx, hb, hml, hown, hts⟩ (mtX6_hasPair_9 l D cA ζ s4 x3 K (x7, s8) hg_ (s8.1 - s4.1) (s8.2.1 - s4.2.1) (Nat.add_sub_cancel' hle.1) (Nat.add_sub_cancel' hle.2)) (va_cwU 0 hts (zU_in q1354 q444 q445 q443 q96 q450) rfl rfl rfl rfl (by decide +kernel) ⟨Nat.le_of_ble_eq_true rfl, Nat.le_of_ble_eq_true rfl⟩) (z_preV hX hS hH hr_ rfl) rfl rfl hl.1 rfl (lv_room (Nat.le_of_ble_eq_true rfl)) dX0_set_68 ⟨hc1, hs1⟩
        obtain ⟨hw1, hw2⟩ := Prod.mk.inj hw.symm; subst hw1; subst hw2
        have hH : zH D cA ζ s8 H1 := z_at ht.symm hB
        have hcs : s.heap.size + (cells + (s8.1 - s4.1)) = s8.1 := by omega
        have hss : sl0 + (slots + (s8.2.1 - s4.2.1)) = s8.2.1 := by omega
        replace hcM := And.intro hc1 hs1
        generalize cells + (s8.1 - s4.1) = cells at hcs hcM ⊢; generalize slots + (s8.2.1 - s4.2.1) = slots at hss hcM ⊢
        clear hB hk hz hvm ht hle hck hc1 hs1; generalize H1 = H at hH hS ⊢
        refine lv_if_ne (tgt := 76) hx hb dX0_set_71 (by decide) (fun c71 => ?_) (fun c71 => ?_)
        · have hf := dz_f c71 hf
          exact ih.2.1 v0 v1 v2 v3 x3 s8 H locs cells slots hH hS hcs hss hcM ls (lv_sub hl [1, 2, 3, 4, 0] rfl) hf
        · have hf := dz_t c71 hf
          refine lv_iconst (v := (-1)) hx hb dX0_set_74 (by decide) ?_
          obtain ⟨hM1, hS1⟩ : cells = M ∧ slots = S := by have hq := congrArg Prod.snd (Option.some.inj hf); rw [← hq] at hM hS0; have hM : s.heap.size + M = s8.1 := hM; have hS0 : sl0 + S = s8.2.1 := hS0; omega
          refine W.widen (k := M) (n := S) (Nat.le_of_eq hM1) (Nat.le_of_eq hS1) ?_
          exact W.iret (v := (-1)) hx hb hr (fun t ht hW => ⟨⟨(-1), s8, rfl, Option.some.inj hf, z_at ht hH⟩, hS.F ht⟩) hS.2.2 dX0_set_75
    · intro v0 v1 v2 v3 v4 τ H locs cells slots hH hS hcs hss hcM ls hl hf
      have hf : (if v2 = (0 : Int32) then (dz_c (zoL ζ τ v4) fun cf33 f33 => dz_b (zvl (f33[0]?)) fun x34 => if v2 = (0 : Int32) then (dz_l (Int32.toInt64 v3) fun x43 => if ζ.1 ≤ v4 ∧ v4 < τ.1 then (dz_c (zoL ζ τ v4) fun cf44 f44 => if 0 < f44.length then (dz_l (zst τ v4 (.inr (cf44, f44.set 0 (.long x43)))) fun s45 => (lfX0_set K ζ k).2.2 v0 v1 x34 s45) else none) else none) else (if v2 = (1 : Int32) then (if ζ.1 ≤ v4 ∧ v4 < τ.1 then (dz_c (zoL ζ τ v4) fun cf39 f39 => if 2 < f39.length then (dz_l (zst τ v4 (.inr (cf39, f39.set 2 (.int v3)))) fun s40 => (lfX0_set K ζ k).2.2 v0 v1 x34 s40) else none) else none) else (if ζ.1 ≤ v4 ∧ v4 < τ.1 then (dz_c (zoL ζ τ v4) fun cf35 f35 => if 3 < f35.length then (dz_l (zst τ v4 (.inr (cf35, f35.set 3 (.int v3)))) fun s36 => (lfX0_set K ζ k).2.2 v0 v1 x34 s36) else none) else none))) else (if v2 = (1 : Int32) then (dz_c (zoL ζ τ v4) fun cf17 f17 => dz_b (zvi (f17[2]?)) fun x18 => dz_l (Int32.toInt64 x18) fun x19 => if v2 = (0 : Int32) then (dz_l (Int32.toInt64 v3) fun x28 => if ζ.1 ≤ v4 ∧ v4 < τ.1 then (dz_c (zoL ζ τ v4) fun cf29 f29 => if 0 < f29.length then (dz_l (zst τ v4 (.inr (cf29, f29.set 0 (.long x28)))) fun s30 => (lfX0_set K ζ k).2.2 v0 v1 x19 s30) else none) else none) else (if v2 = (1 : Int32) then (if ζ.1 ≤ v4 ∧ v4 < τ.1 then (dz_c (zoL ζ τ v4) fun cf24 f24 => if 2 < f24.length then (dz_l (zst τ v4 (.inr (cf24, f24.set 2 (.int v3)))) fun s25 => (lfX0_set K ζ k).2.2 v0 v1 x19 s25) else none) else none) else (if ζ.1 ≤ v4 ∧ v4 < τ.1 then (dz_c (zoL ζ τ v4) fun cf20 f20 => if 3 < f20.length then (dz_l (zst τ v4 (.inr (cf20, f20.set 3 (.int v3)))) fun s21 => (lfX0_set K ζ k).2.2 v0 v1 x19 s21) else none) else none))) else (dz_c (zoL ζ τ v4) fun cf1 f1 => dz_b (zvi (f1[3]?)) fun x2 => dz_l (Int32.toInt64 x2) fun x3 => if v2 = (0 : Int32) then (dz_l (Int32.toInt64 v3) fun x12 => if ζ.1 ≤ v4 ∧ v4 < τ.1 then (dz_c (zoL ζ τ v4) fun cf13 f13 => if 0 < f13.length then (dz_l (zst τ v4 (.inr (cf13, f13.set 0 (.long x12)))) fun s14 => (lfX0_set K ζ k).2.2 v0 v1 x3 s14) else none) else none) else (if v2 = (1 : Int32) then (if ζ.1 ≤ v4 ∧ v4 < τ.1 then (dz_c (zoL ζ τ v4) fun cf8 f8 => if 2 < f8.length then (dz_l (zst τ v4 (.inr (cf8, f8.set 2 (.int v3)))) fun s9 => (lfX0_set K ζ k).2.2 v0 v1 x3 s9) else none) else none) else (if ζ.1 ≤ v4 ∧ v4 < τ.1 then (dz_c (zoL ζ τ v4) fun cf4 f4 => if 3 < f4.length then (dz_l (zst τ v4 (.inr (cf4, f4.set 3 (.int v3)))) fun s5 => (lfX0_set K ζ k).2.2 v0 v1 x3 s5) else none) else none)))) : Option (Int32 × pH)) = some res := hf
      refine lv_iload_n hx hb dX0_set_76 rfl (lv_at hl 2 rfl) ?_
      refine lv_if_ne (tgt := 88) hx hb dX0_set_77 (by decide) (fun c77 => ?_) (fun c77 => ?_)
      · have hf := dz_f c77 hf
        refine lv_iload_n hx hb dX0_set_88 rfl (lv_at hl 2 rfl) ?_
        refine lv_iconst (v := 1) hx hb dX0_set_89 (by decide) ?_
        refine lv_icmp_ne (tgt := 102) hx hb dX0_set_90 (by decide) (fun c90 => ?_) (fun c90 => ?_)
        · have hf := dz_f c90 hf
          refine lv_aload hx hb dX0_set_102 (lv_at hl 4 rfl) ?_
          obtain ⟨cf1, f1, hcf1, hf⟩ := dz_co hf
          obtain ⟨x2, hx2, hf⟩ := dz_bo hf
          obtain ⟨hr_f1, hc_f1⟩ := zoL_o hcf1
          refine zL_get3 hx hb hts hown hX hS hH hr_f1 hc_f1 (hts _ q549) (zvi_o hx2) dX0_set_104 ?_
          refine lv_i2l hx hb dX0_set_107 (rfl : _ = Int32.toInt64 x2) ?_
          refine lv_topl (fun x3 e_x3 => ?_)
          have hf := dz_ls e_x3 hf
          refine lv_lstore (lv' := [(5, .long x3), (0, .ref v0), (1, .int v1), (2, .int v2), (3, .int v3), (4, .ref v4)]) hx hb dX0_set_108 hl (by decide) rfl (fun ls hl => ?_)
          refine lv_iload_n hx hb dX0_set_110 rfl (lv_at hl 3 rfl) ?_
          refine lv_if_ne (tgt := 124) hx hb dX0_set_111 (by decide) (fun c111 => ?_) (fun c111 => ?_)
          · have hf := dz_f c111 hf
            refine lv_iload_n hx hb dX0_set_124 rfl (lv_at hl 3 rfl) ?_
            refine lv_iconst (v := 1) hx hb dX0_set_125 (by decide) ?_
            refine lv_icmp_ne (tgt := 138) hx hb dX0_set_126 (by decide) (fun c126 => ?_) (fun c126 => ?_)
            · have hf := dz_f c126 hf
              refine lv_aload hx hb dX0_set_138 (lv_at hl 5 rfl) ?_
              refine lv_iload_n hx hb dX0_set_140 rfl (lv_at hl 4 rfl) ?_
              obtain ⟨g6, hf⟩ := dz_go hf
              obtain ⟨cf4, f4, hcf4, hf⟩ := dz_co hf
              obtain ⟨hr_f4, hc_f4⟩ := zoL_o hcf4
              obtain ⟨g7, hf⟩ := dz_go hf
              refine zL_put3 hx hb hts hown hX hH hS g6 (zrd_w hr_f4 g6) hc_f4 (hts _ q549) g7 dX0_set_141 (fun H1 locs hP1 hS => dz_size (fun hz => ?_))
              obtain ⟨s5, e_s5, hf⟩ := dz_lo hf
              have hH := zH_put (x := (.inr (cf4, f4.set 3 (.int v3)))) hH hcs g6 hP1 hz
              rw [← e_s5] at hH
              have hcs : s.heap.size + cells = s5.1 := by rw [e_s5]; exact hcs
              have hss : sl0 + slots = s5.2.1 := by rw [e_s5]; exact hss
              clear hP1 hz; generalize H1 = H at hH hS ⊢
              exact ih.2.2 v0 v1 x3 s5 H locs cells slots hH hS hcs hss hcM ls (lv_sub hl [1, 2, 0] rfl) hf
            · have hf := dz_t c126 hf
              refine lv_aload hx hb dX0_set_129 (lv_at hl 5 rfl) ?_
              refine lv_iload_n hx hb dX0_set_131 rfl (lv_at hl 4 rfl) ?_
              obtain ⟨g10, hf⟩ := dz_go hf
              obtain ⟨cf8, f8, hcf8, hf⟩ := dz_co hf
              obtain ⟨hr_f8, hc_f8⟩ := zoL_o hcf8
              obtain ⟨g11, hf⟩ := dz_go hf
              refine zL_put2 hx hb hts hown hX hH hS g10 (zrd_w hr_f8 g10) hc_f8 (hts _ q546) g11 dX0_set_132 (fun H1 locs hP1 hS => dz_size (fun hz => ?_))
              obtain ⟨s9, e_s9, hf⟩ := dz_lo hf
              have hH := zH_put (x := (.inr (cf8, f8.set 2 (.int v3)))) hH hcs g10 hP1 hz
              rw [← e_s9] at hH
              have hcs : s.heap.size + cells = s9.1 := by rw [e_s9]; exact hcs
              have hss : sl0 + slots = s9.2.1 := by rw [e_s9]; exact hss
              clear hP1 hz; generalize H1 = H at hH hS ⊢
              refine lv_goto (tgt := 144) hx hb dX0_set_135 (by decide) ?_
              exact ih.2.2 v0 v1 x3 s9 H locs cells slots hH hS hcs hss hcM ls (lv_sub hl [1, 2, 0] rfl) hf
          · have hf := dz_t c111 hf
            refine lv_aload hx hb dX0_set_114 (lv_at hl 5 rfl) ?_
            refine lv_iload_n hx hb dX0_set_116 rfl (lv_at hl 4 rfl) ?_
            refine lv_i2l hx hb dX0_set_117 (rfl : _ = Int32.toInt64 v3) ?_
            refine lv_topl (fun x12 e_x12 => ?_)
            have hf := dz_ls e_x12 hf
            obtain ⟨g15, hf⟩ := dz_go hf
            obtain ⟨cf13, f13, hcf13, hf⟩ := dz_co hf
            obtain ⟨hr_f13, hc_f13⟩ := zoL_o hcf13
            obtain ⟨g16, hf⟩ := dz_go hf
            refine zL_put0 hx hb hts hown hX hH hS g15 (zrd_w hr_f13 g15) hc_f13 (hts _ q541) g16 dX0_set_118 (fun H1 locs hP1 hS => dz_size (fun hz => ?_))
            obtain ⟨s14, e_s14, hf⟩ := dz_lo hf
            have hH := zH_put (x := (.inr (cf13, f13.set 0 (.long x12)))) hH hcs g15 hP1 hz
            rw [← e_s14] at hH
            have hcs : s.heap.size + cells = s14.1 := by rw [e_s14]; exact hcs
            have hss : sl0 + slots = s14.2.1 := by rw [e_s14]; exact hss
            clear hP1 hz; generalize H1 = H at hH hS ⊢
            refine lv_goto (tgt := 144) hx hb dX0_set_121 (by decide) ?_
            exact ih.2.2 v0 v1 x3 s14 H locs cells slots hH hS hcs hss hcM ls (lv_sub hl [1, 2, 0] rfl) hf
        · have hf := dz_t c90 hf
          refine lv_aload hx hb dX0_set_93 (lv_at hl 4 rfl) ?_
          obtain ⟨cf17, f17, hcf17, hf⟩ := dz_co hf
          obtain ⟨x18, hx18, hf⟩ := dz_bo hf
          obtain ⟨hr_f17, hc_f17⟩ := zoL_o hcf17
          refine zL_get2 hx hb hts hown hX hS hH hr_f17 hc_f17 (hts _ q546) (zvi_o hx18) dX0_set_95 ?_
          refine lv_i2l hx hb dX0_set_98 (rfl : _ = Int32.toInt64 x18) ?_
          refine lv_goto (tgt := 108) hx hb dX0_set_99 (by decide) ?_
          refine lv_topl (fun x19 e_x19 => ?_)
          have hf := dz_ls e_x19 hf
          refine lv_lstore (lv' := [(5, .long x19), (0, .ref v0), (1, .int v1), (2, .int v2), (3, .int v3), (4, .ref v4)]) hx hb dX0_set_108 hl (by decide) rfl (fun ls hl => ?_)
          refine lv_iload_n hx hb dX0_set_110 rfl (lv_at hl 3 rfl) ?_
          refine lv_if_ne (tgt := 124) hx hb dX0_set_111 (by decide) (fun c111 => ?_) (fun c111 => ?_)
          · have hf := dz_f c111 hf
            refine lv_iload_n hx hb dX0_set_124 rfl (lv_at hl 3 rfl) ?_
            refine lv_iconst (v := 1) hx hb dX0_set_125 (by decide) ?_
            refine lv_icmp_ne (tgt := 138) hx hb dX0_set_126 (by decide) (fun c126 => ?_) (fun c126 => ?_)
            · have hf := dz_f c126 hf
              refine lv_aload hx hb dX0_set_138 (lv_at hl 5 rfl) ?_
              refine lv_iload_n hx hb dX0_set_140 rfl (lv_at hl 4 rfl) ?_
              obtain ⟨g22, hf⟩ := dz_go hf
              obtain ⟨cf20, f20, hcf20, hf⟩ := dz_co hf
              obtain ⟨hr_f20, hc_f20⟩ := zoL_o hcf20
              obtain ⟨g23, hf⟩ := dz_go hf
              refine zL_put3 hx hb hts hown hX hH hS g22 (zrd_w hr_f20 g22) hc_f20 (hts _ q549) g23 dX0_set_141 (fun H1 locs hP1 hS => dz_size (fun hz => ?_))
              obtain ⟨s21, e_s21, hf⟩ := dz_lo hf
              have hH := zH_put (x := (.inr (cf20, f20.set 3 (.int v3)))) hH hcs g22 hP1 hz
              rw [← e_s21] at hH
              have hcs : s.heap.size + cells = s21.1 := by rw [e_s21]; exact hcs
              have hss : sl0 + slots = s21.2.1 := by rw [e_s21]; exact hss
              clear hP1 hz; generalize H1 = H at hH hS ⊢
              exact ih.2.2 v0 v1 x19 s21 H locs cells slots hH hS hcs hss hcM ls (lv_sub hl [1, 2, 0] rfl) hf
            · have hf := dz_t c126 hf
              refine lv_aload hx hb dX0_set_129 (lv_at hl 5 rfl) ?_
              refine lv_iload_n hx hb dX0_set_131 rfl (lv_at hl 4 rfl) ?_
              obtain ⟨g26, hf⟩ := dz_go hf
              obtain ⟨cf24, f24, hcf24, hf⟩ := dz_co hf
              obtain ⟨hr_f24, hc_f24⟩ := zoL_o hcf24
              obtain ⟨g27, hf⟩ := dz_go hf
              refine zL_put2 hx hb hts hown hX hH hS g26 (zrd_w hr_f24 g26) hc_f24 (hts _ q546) g27 dX0_set_132 (fun H1 locs hP1 hS => dz_size (fun hz => ?_))
              obtain ⟨s25, e_s25, hf⟩ := dz_lo hf
              have hH := zH_put (x := (.inr (cf24, f24.set 2 (.int v3)))) hH hcs g26 hP1 hz
              rw [← e_s25] at hH
              have hcs : s.heap.size + cells = s25.1 := by rw [e_s25]; exact hcs
              have hss : sl0 + slots = s25.2.1 := by rw [e_s25]; exact hss
              clear hP1 hz; generalize H1 = H at hH hS ⊢
              refine lv_goto (tgt := 144) hx hb dX0_set_135 (by decide) ?_
              exact ih.2.2 v0 v1 x19 s25 H locs cells slots hH hS hcs hss hcM ls (lv_sub hl [1, 2, 0] rfl) hf
          · have hf := dz_t c111 hf
            refine lv_aload hx hb dX0_set_114 (lv_at hl 5 rfl) ?_
            refine lv_iload_n hx hb dX0_set_116 rfl (lv_at hl 4 rfl) ?_
            refine lv_i2l hx hb dX0_set_117 (rfl : _ = Int32.toInt64 v3) ?_
            refine lv_topl (fun x28 e_x28 => ?_)
            have hf := dz_ls e_x28 hf
            obtain ⟨g31, hf⟩ := dz_go hf
            obtain ⟨cf29, f29, hcf29, hf⟩ := dz_co hf
            obtain ⟨hr_f29, hc_f29⟩ := zoL_o hcf29
            obtain ⟨g32, hf⟩ := dz_go hf
            refine zL_put0 hx hb hts hown hX hH hS g31 (zrd_w hr_f29 g31) hc_f29 (hts _ q541) g32 dX0_set_118 (fun H1 locs hP1 hS => dz_size (fun hz => ?_))
            obtain ⟨s30, e_s30, hf⟩ := dz_lo hf
            have hH := zH_put (x := (.inr (cf29, f29.set 0 (.long x28)))) hH hcs g31 hP1 hz
            rw [← e_s30] at hH
            have hcs : s.heap.size + cells = s30.1 := by rw [e_s30]; exact hcs
            have hss : sl0 + slots = s30.2.1 := by rw [e_s30]; exact hss
            clear hP1 hz; generalize H1 = H at hH hS ⊢
            refine lv_goto (tgt := 144) hx hb dX0_set_121 (by decide) ?_
            exact ih.2.2 v0 v1 x19 s30 H locs cells slots hH hS hcs hss hcM ls (lv_sub hl [1, 2, 0] rfl) hf
      · have hf := dz_t c77 hf
        refine lv_aload hx hb dX0_set_80 (lv_at hl 4 rfl) ?_
        obtain ⟨cf33, f33, hcf33, hf⟩ := dz_co hf
        obtain ⟨x34, hx34, hf⟩ := dz_bo hf
        obtain ⟨hr_f33, hc_f33⟩ := zoL_o hcf33
        refine zL_get0 hx hb hts hown hX hS hH hr_f33 hc_f33 (hts _ q541) (zvl_o hx34) dX0_set_82 ?_
        refine lv_goto (tgt := 108) hx hb dX0_set_85 (by decide) ?_
        refine lv_lstore (lv' := [(5, .long x34), (0, .ref v0), (1, .int v1), (2, .int v2), (3, .int v3), (4, .ref v4)]) hx hb dX0_set_108 hl (by decide) rfl (fun ls hl => ?_)
        refine lv_iload_n hx hb dX0_set_110 rfl (lv_at hl 3 rfl) ?_
        refine lv_if_ne (tgt := 124) hx hb dX0_set_111 (by decide) (fun c111 => ?_) (fun c111 => ?_)
        · have hf := dz_f c111 hf
          refine lv_iload_n hx hb dX0_set_124 rfl (lv_at hl 3 rfl) ?_
          refine lv_iconst (v := 1) hx hb dX0_set_125 (by decide) ?_
          refine lv_icmp_ne (tgt := 138) hx hb dX0_set_126 (by decide) (fun c126 => ?_) (fun c126 => ?_)
          · have hf := dz_f c126 hf
            refine lv_aload hx hb dX0_set_138 (lv_at hl 5 rfl) ?_
            refine lv_iload_n hx hb dX0_set_140 rfl (lv_at hl 4 rfl) ?_
            obtain ⟨g37, hf⟩ := dz_go hf
            obtain ⟨cf35, f35, hcf35, hf⟩ := dz_co hf
            obtain ⟨hr_f35, hc_f35⟩ := zoL_o hcf35
            obtain ⟨g38, hf⟩ := dz_go hf
            refine zL_put3 hx hb hts hown hX hH hS g37 (zrd_w hr_f35 g37) hc_f35 (hts _ q549) g38 dX0_set_141 (fun H1 locs hP1 hS => dz_size (fun hz => ?_))
            obtain ⟨s36, e_s36, hf⟩ := dz_lo hf
            have hH := zH_put (x := (.inr (cf35, f35.set 3 (.int v3)))) hH hcs g37 hP1 hz
            rw [← e_s36] at hH
            have hcs : s.heap.size + cells = s36.1 := by rw [e_s36]; exact hcs
            have hss : sl0 + slots = s36.2.1 := by rw [e_s36]; exact hss
            clear hP1 hz; generalize H1 = H at hH hS ⊢
            exact ih.2.2 v0 v1 x34 s36 H locs cells slots hH hS hcs hss hcM ls (lv_sub hl [1, 2, 0] rfl) hf
          · have hf := dz_t c126 hf
            refine lv_aload hx hb dX0_set_129 (lv_at hl 5 rfl) ?_
            refine lv_iload_n hx hb dX0_set_131 rfl (lv_at hl 4 rfl) ?_
            obtain ⟨g41, hf⟩ := dz_go hf
            obtain ⟨cf39, f39, hcf39, hf⟩ := dz_co hf
            obtain ⟨hr_f39, hc_f39⟩ := zoL_o hcf39
            obtain ⟨g42, hf⟩ := dz_go hf
            refine zL_put2 hx hb hts hown hX hH hS g41 (zrd_w hr_f39 g41) hc_f39 (hts _ q546) g42 dX0_set_132 (fun H1 locs hP1 hS => dz_size (fun hz => ?_))
            obtain ⟨s40, e_s40, hf⟩ := dz_lo hf
            have hH := zH_put (x := (.inr (cf39, f39.set 2 (.int v3)))) hH hcs g41 hP1 hz
            rw [← e_s40] at hH
            have hcs : s.heap.size + cells = s40.1 := by rw [e_s40]; exact hcs
            have hss : sl0 + slots = s40.2.1 := by rw [e_s40]; exact hss
            clear hP1 hz; generalize H1 = H at hH hS ⊢
            refine lv_goto (tgt := 144) hx hb dX0_set_135 (by decide) ?_
            exact ih.2.2 v0 v1 x34 s40 H locs cells slots hH hS hcs hss hcM ls (lv_sub hl [1, 2, 0] rfl) hf
        · have hf := dz_t c111 hf
          refine lv_aload hx hb dX0_set_114 (lv_at hl 5 rfl) ?_
          refine lv_iload_n hx hb dX0_set_116 rfl (lv_at hl 4 rfl) ?_
          refine lv_i2l hx hb dX0_set_117 (rfl : _ = Int32.toInt64 v3) ?_
          refine lv_topl (fun x43 e_x43 => ?_)
          have hf := dz_ls e_x43 hf
          obtain ⟨g46, hf⟩ := dz_go hf
          obtain ⟨cf44, f44, hcf44, hf⟩ := dz_co hf
          obtain ⟨hr_f44, hc_f44⟩ := zoL_o hcf44
          obtain ⟨g47, hf⟩ := dz_go hf
          refine zL_put0 hx hb hts hown hX hH hS g46 (zrd_w hr_f44 g46) hc_f44 (hts _ q541) g47 dX0_set_118 (fun H1 locs hP1 hS => dz_size (fun hz => ?_))
          obtain ⟨s45, e_s45, hf⟩ := dz_lo hf
          have hH := zH_put (x := (.inr (cf44, f44.set 0 (.long x43)))) hH hcs g46 hP1 hz
          rw [← e_s45] at hH
          have hcs : s.heap.size + cells = s45.1 := by rw [e_s45]; exact hcs
          have hss : sl0 + slots = s45.2.1 := by rw [e_s45]; exact hss
          clear hP1 hz; generalize H1 = H at hH hS ⊢
          refine lv_goto (tgt := 144) hx hb dX0_set_121 (by decide) ?_
          exact ih.2.2 v0 v1 x34 s45 H locs cells slots hH hS hcs hss hcM ls (lv_sub hl [1, 2, 0] rfl) hf
    · intro v0 v1 v5 τ H locs cells slots hH hS hcs hss hcM ls hl hf
      have hf : (dz_b (zob ζ τ v0 0) fun f3 => zcl τ (fnX0_changes K ζ v0 v1 τ) fun _ s2 => dz_l (Int64.toInt32 v5) fun x4 => some (x4, s2) : Option (Int32 × pH)) = some res := hf
      refine lv_aload_n hx hb dX0_set_144 rfl (lv_at hl 0 rfl) ?_
      refine lv_iload_n hx hb dX0_set_145 rfl (lv_at hl 1 rfl) ?_
      obtain ⟨f3, hf3, hf⟩ := dz_bo hf
      obtain ⟨x1, s2, hx1, hle, hck, hf⟩ := zcl_o hf
      have hc1 : cells + (s2.1 - τ.1) ≤ M := by omega
      have hs1 : slots + (s2.2.1 - τ.2.1) ≤ S := by omega
      refine va_callv (va_runV (As := [.int v1]) (rest := []) ⟨hx, hb, hml, hown, hts⟩ (mtX0_changes l D cA ζ τ v0 v1 K (x1, s2) hx1 (s2.1 - τ.1) (s2.2.1 - τ.2.1) (Nat.add_sub_cancel' hle.1) (Nat.add_sub_cancel' hle.2)) (cwV 1 hts (lw_V q872 q874 qs13 q84 q875) rfl rfl rfl (by decide +kernel) ⟨Nat.le_of_ble_eq_true rfl, Nat.le_of_ble_eq_true rfl⟩) (z_preV hX hS hH (zob_o hf3) rfl) rfl rfl hl.1 rfl (lv_room (Nat.le_of_ble_eq_true rfl)) dX0_set_146 ⟨hc1, hs1⟩) hS (fun q _ hq => hq) (fun q hq => hq) (fun u t H1 locs ht hvm hw hB hz hk hS => ?_)
      obtain ⟨-, hw2⟩ := Prod.mk.inj hw.symm; subst hw2
      have hH : zH D cA ζ s2 H1 := z_at ht.symm hB
      have hcs : s.heap.size + (cells + (s2.1 - τ.1)) = s2.1 := by omega
      have hss : sl0 + (slots + (s2.2.1 - τ.2.1)) = s2.2.1 := by omega
      replace hcM := And.intro hc1 hs1
      generalize cells + (s2.1 - τ.1) = cells at hcs hcM ⊢; generalize slots + (s2.2.1 - τ.2.1) = slots at hss hcM ⊢
      clear hB hk hz hvm ht hle hck hc1 hs1; generalize H1 = H at hH hS ⊢
      refine lv_lload hx hb dX0_set_149 (lv_at hl 2 rfl) ?_
      refine lv_l2i hx hb dX0_set_151 (rfl : _ = Int64.toInt32 v5) ?_
      refine lv_topi (fun x4 e_x4 => ?_)
      have hf := dz_ls e_x4 hf
      obtain ⟨hM1, hS1⟩ : cells = M ∧ slots = S := by have hq := congrArg Prod.snd (Option.some.inj hf); rw [← hq] at hM hS0; have hM : s.heap.size + M = s2.1 := hM; have hS0 : sl0 + S = s2.2.1 := hS0; omega
      refine W.widen (k := M) (n := S) (Nat.le_of_eq hM1) (Nat.le_of_eq hS1) ?_
      exact W.iret (v := x4) hx hb hr (fun t ht hW => ⟨⟨x4, s2, rfl, Option.some.inj hf, z_at ht hH⟩, hS.F ht⟩) hS.2.2 dX0_set_152
set_option maxHeartbeats 4000000 in
set_option maxRecDepth 100000 in
theorem mtX0_set (l : Launch) (D : va_G) (cA : Nat → ClassId) (ζ : pZ) (τ : pH) (h : Nat) (a0 : Int32) (a1 : Int32) (a2 : Int32) (K : Nat) (res : (Int32 × pH)) (hf : fnX0_set K ζ h a0 a1 a2 τ = some res) (M S : Nat) (hM : τ.1 + M = res.2.1) (hS0 : τ.2.1 + S = res.2.2.1) : Met l yX0_set (ws_ yX0_set cX0_set 7 (some .int)) ({ frames := 3, cells := M, slots := S, locals := 64 }) (zPc D cA ζ τ [.ref h, .int a0, .int a1, .int a2]) (zQi D cA ζ res) M S (zA ζ) := by
  refine Met.ofW (cc := cX0_set) (maxL := 7) (ret := some .int) (by decide +kernel) rfl ?_
  intro p e s m args below meth c s₁ B hml hv
  obtain ⟨rfl, hX, hH⟩ := hv
  have hx := B.exec
  have hb := B.bytes
  have hr := B.returns
  have hts := atoms_spec (ws := ws_ yX0_set cX0_set 7 (some .int)) B.pre
  have hts : ∀ w ∈ lw_all, w.before _ s = true := fun w h => hts w (List.mem_cons_of_mem _ h)
  have hown : s.vm.findClass RX0 = some m.cls := findClass_of_methodNamed B.named
  have hlocks := B.notSynchronized
  have hM : s.heap.size + M = res.2.1 := by rw [hH.1]; exact hM
  have hcs : s.heap.size + 0 = τ.1 := hH.1
  have hss : τ.2.1 + 0 = τ.2.1 := rfl
  generalize hsl0 : τ.2.1 = sl0 at hS0 hss
  have hss : sl0 + 0 = τ.2.1 := by rw [hsl0]; rfl
  have hS : va_S (zA ζ) s.heap s.heap [] := va_S.rf
  generalize hHe : s.heap = H at hH hS ⊢
  have hS : va_S (zA ζ) s.heap H [] := by rw [hHe]; exact hS
  generalize ([] : List Loc) = locs at hS ⊢
  have hl := lv_entry ([.ref h, .int a0, .int a1, .int a2]) (n := 7) (Nat.le_of_ble_eq_true rfl)
  rw [lg_entry_eq]
  generalize (lg_sl ([.ref h, .int a0, .int a1, .int a2]) ++ List.replicate (7 - (lg_sl ([.ref h, .int a0, .int a1, .int a2])).length) Slot.unset).toArray = ls at hl ⊢
  have hl : lv_has ls 7 [(0, .ref h), (1, .int a0), (2, .int a1), (3, .int a2)] := hl
  have hf : (dz_b (zob ζ τ h 0) fun f3 => zcl τ (fnX0_isLine K ζ h a0 τ) fun x1 s2 => if x1 = (0 : Int32) then (some ((-1), s2)) else (dz_b (fnX0_isIn K (Int32.toInt64 a1) 0 2) fun x4 => if x4 = (0 : Int32) then (some ((-1), s2)) else (if a1 = (0 : Int32) then (dz_b (fnX0_isNumber K (Int32.toInt64 a2)) fun x6 => if x6 = (0 : Int32) then (some ((-1), s2)) else ((lfX0_set K ζ K).1 h a0 a1 a2 s2)) else (dz_b (fnX0_isIn K (Int32.toInt64 a2) 1 99) fun x5 => if x5 = (0 : Int32) then (some ((-1), s2)) else ((lfX0_set K ζ K).1 h a0 a1 a2 s2)))) : Option (Int32 × pH)) = some res := hf
  refine z_gen (fun cells slots hc0 hs0 => ?_)
  have hcs : s.heap.size + cells = τ.1 := by rw [hc0]; exact hcs
  have hss : sl0 + slots = τ.2.1 := by rw [hs0]; exact hss
  have hcM : cells ≤ M ∧ slots ≤ S := by rw [hc0, hs0]; exact ⟨Nat.zero_le _, Nat.zero_le _⟩
  clear hc0 hs0
  have ih := wlX0_set (l := l) (e := e) (below := below) (D := D) (cA := cA) hX K res M S sl0 hM hS0 h a0 a1 a2 hx hb hr hlocks hml hown hts K
  refine lv_aload_n hx hb dX0_set_0 rfl (lv_at hl 0 rfl) ?_
  refine lv_iload_n hx hb dX0_set_1 rfl (lv_at hl 1 rfl) ?_
  obtain ⟨f3, hf3, hf⟩ := dz_bo hf
  obtain ⟨x1, s2, hx1, hle, hck, hf⟩ := zcl_o hf
  have hc1 : cells + (s2.1 - τ.1) ≤ M := by omega
  have hs1 : slots + (s2.2.1 - τ.2.1) ≤ S := by omega
  refine va_calli (va_runV (As := [.int a0]) (rest := []) ⟨hx, hb, hml, hown, hts⟩ (mtX0_isLine l D cA ζ τ h a0 K (x1, s2) hx1 (s2.1 - τ.1) (s2.2.1 - τ.2.1) (Nat.add_sub_cancel' hle.1) (Nat.add_sub_cancel' hle.2)) (cwV 1 hts (lw_V q1349 q1351 qs28 q84 q1352) rfl rfl rfl (by decide +kernel) ⟨Nat.le_of_ble_eq_true rfl, Nat.le_of_ble_eq_true rfl⟩) (z_preV hX hS hH (zob_o hf3) rfl) rfl rfl hl.1 rfl (lv_room (Nat.le_of_ble_eq_true rfl)) dX0_set_2 ⟨hc1, hs1⟩) hS (fun q _ hq => hq) (fun q hq => hq) (fun r u t H1 locs ht hvm hw hB hz hk hS => ?_)
  obtain ⟨hw1, hw2⟩ := Prod.mk.inj hw.symm; subst hw1; subst hw2
  have hH : zH D cA ζ s2 H1 := z_at ht.symm hB
  have hcs : s.heap.size + (cells + (s2.1 - τ.1)) = s2.1 := by omega
  have hss : sl0 + (slots + (s2.2.1 - τ.2.1)) = s2.2.1 := by omega
  replace hcM := And.intro hc1 hs1
  generalize cells + (s2.1 - τ.1) = cells at hcs hcM ⊢; generalize slots + (s2.2.1 - τ.2.1) = slots at hss hcM ⊢
  clear hB hk hz hvm ht hle hck hc1 hs1; generalize H1 = H at hH hS ⊢
  refine lv_if_eq (tgt := 47) hx hb dX0_set_5 (by decide) (fun c5 => ?_) (fun c5 => ?_)
  · have hf := dz_t c5 hf
    refine lv_iconst (v := (-1)) hx hb dX0_set_47 (by decide) ?_
    obtain ⟨hM1, hS1⟩ : cells = M ∧ slots = S := by have hq := congrArg Prod.snd (Option.some.inj hf); rw [← hq] at hM hS0; have hM : s.heap.size + M = s2.1 := hM; have hS0 : sl0 + S = s2.2.1 := hS0; omega
    refine W.widen (k := M) (n := S) (Nat.le_of_eq hM1) (Nat.le_of_eq hS1) ?_
    exact W.iret (v := (-1)) hx hb hr (fun t ht hW => ⟨⟨(-1), s2, rfl, Option.some.inj hf, z_at ht hH⟩, hS.F ht⟩) hS.2.2 dX0_set_48
  · have hf := dz_f c5 hf
    refine lv_iload_n hx hb dX0_set_8 rfl (lv_at hl 2 rfl) ?_
    refine lv_i2l hx hb dX0_set_9 (rfl : _ = Int32.toInt64 a1) ?_
    refine lv_lconst (v := 0) hx hb dX0_set_10 rfl ?_
    refine lv_ldc2 (v := 2) hx hb hown (hts _ q194) dX0_set_11 ?_
    obtain ⟨x4, hx4, hf⟩ := dz_bo hf
    refine va_calli (va_runS (As := [.long (Int32.toInt64 a1), .long 0, .long 2]) (rest := []) ⟨hx, hb, hml, hown, hts⟩ (mtX0_isIn l (Int32.toInt64 a1) 0 2 K x4 hx4) (va_cwS 3 hts (lw_S q188 q189 q84 q190) rfl rfl rfl (by decide +kernel) ⟨Nat.le_of_ble_eq_true rfl, Nat.le_of_ble_eq_true rfl⟩) ⟨fun a U g mk q => q, fun U hU hW => ⟨rfl, trivial⟩⟩ rfl rfl hl.1 rfl (lv_room (Nat.le_of_ble_eq_true rfl)) dX0_set_14 ⟨hcM.1, hcM.2⟩) hS (fun q _ hq => hq.elim) (fun q hq => hq.elim) (fun r u t H1 locs ht hvm hw hB hz hk hS => dz_size (fun hz9 => ?_))
    replace hw := hw.symm; subst hw
    replace hH := zH_keep hH hcs hz hk hz9
    clear hB hk hz hvm ht hz9; generalize H1 = H at hH hS ⊢
    refine W.widen (k := cells) (n := slots) (Nat.le_refl _) (Nat.le_refl _) ?_
    refine lv_if_eq (tgt := 47) hx hb dX0_set_17 (by decide) (fun c17 => ?_) (fun c17 => ?_)
    · have hf := dz_t c17 hf
      refine lv_iconst (v := (-1)) hx hb dX0_set_47 (by decide) ?_
      obtain ⟨hM1, hS1⟩ : cells = M ∧ slots = S := by have hq := congrArg Prod.snd (Option.some.inj hf); rw [← hq] at hM hS0; have hM : s.heap.size + M = s2.1 := hM; have hS0 : sl0 + S = s2.2.1 := hS0; omega
      refine W.widen (k := M) (n := S) (Nat.le_of_eq hM1) (Nat.le_of_eq hS1) ?_
      exact W.iret (v := (-1)) hx hb hr (fun t ht hW => ⟨⟨(-1), s2, rfl, Option.some.inj hf, z_at ht hH⟩, hS.F ht⟩) hS.2.2 dX0_set_48
    · have hf := dz_f c17 hf
      refine lv_iload_n hx hb dX0_set_20 rfl (lv_at hl 2 rfl) ?_
      refine lv_if_ne (tgt := 35) hx hb dX0_set_21 (by decide) (fun c21 => ?_) (fun c21 => ?_)
      · have hf := dz_f c21 hf
        refine lv_iload_n hx hb dX0_set_35 rfl (lv_at hl 3 rfl) ?_
        refine lv_i2l hx hb dX0_set_36 (rfl : _ = Int32.toInt64 a2) ?_
        refine lv_lconst (v := 1) hx hb dX0_set_37 rfl ?_
        refine lv_ldc2 (v := 99) hx hb hown (hts _ q1353) dX0_set_38 ?_
        obtain ⟨x5, hx5, hf⟩ := dz_bo hf
        refine va_calli (va_runS (As := [.long (Int32.toInt64 a2), .long 1, .long 99]) (rest := []) ⟨hx, hb, hml, hown, hts⟩ (mtX0_isIn l (Int32.toInt64 a2) 1 99 K x5 hx5) (va_cwS 3 hts (lw_S q188 q189 q84 q190) rfl rfl rfl (by decide +kernel) ⟨Nat.le_of_ble_eq_true rfl, Nat.le_of_ble_eq_true rfl⟩) ⟨fun a U g mk q => q, fun U hU hW => ⟨rfl, trivial⟩⟩ rfl rfl hl.1 rfl (lv_room (Nat.le_of_ble_eq_true rfl)) dX0_set_41 ⟨hcM.1, hcM.2⟩) hS (fun q _ hq => hq.elim) (fun q hq => hq.elim) (fun r u t H1 locs ht hvm hw hB hz hk hS => dz_size (fun hz9 => ?_))
        replace hw := hw.symm; subst hw
        replace hH := zH_keep hH hcs hz hk hz9
        clear hB hk hz hvm ht hz9; generalize H1 = H at hH hS ⊢
        refine W.widen (k := cells) (n := slots) (Nat.le_refl _) (Nat.le_refl _) ?_
        refine lv_if_ne (tgt := 49) hx hb dX0_set_44 (by decide) (fun c44 => ?_) (fun c44 => ?_)
        · have hf := dz_f c44 hf
          exact ih.1 h a0 a1 a2 s2 H locs cells slots hH hS hcs hss hcM ls (lv_sub hl [0, 1, 2, 3] rfl) hf
        · have hf := dz_t c44 hf
          refine lv_iconst (v := (-1)) hx hb dX0_set_47 (by decide) ?_
          obtain ⟨hM1, hS1⟩ : cells = M ∧ slots = S := by have hq := congrArg Prod.snd (Option.some.inj hf); rw [← hq] at hM hS0; have hM : s.heap.size + M = s2.1 := hM; have hS0 : sl0 + S = s2.2.1 := hS0; omega
          refine W.widen (k := M) (n := S) (Nat.le_of_eq hM1) (Nat.le_of_eq hS1) ?_
          exact W.iret (v := (-1)) hx hb hr (fun t ht hW => ⟨⟨(-1), s2, rfl, Option.some.inj hf, z_at ht hH⟩, hS.F ht⟩) hS.2.2 dX0_set_48
      · have hf := dz_t c21 hf
        refine lv_iload_n hx hb dX0_set_24 rfl (lv_at hl 3 rfl) ?_
        refine lv_i2l hx hb dX0_set_25 (rfl : _ = Int32.toInt64 a2) ?_
        obtain ⟨x6, hx6, hf⟩ := dz_bo hf
        refine va_calli (va_runS (As := [.long (Int32.toInt64 a2)]) (rest := []) ⟨hx, hb, hml, hown, hts⟩ (mtX0_isNumber l (Int32.toInt64 a2) K x6 hx6) (va_cwS 1 hts (lw_S q191 q192 q84 q193) rfl rfl rfl (by decide +kernel) ⟨Nat.le_of_ble_eq_true rfl, Nat.le_of_ble_eq_true rfl⟩) ⟨fun a U g mk q => q, fun U hU hW => ⟨rfl, trivial⟩⟩ rfl rfl hl.1 rfl (lv_room (Nat.le_of_ble_eq_true rfl)) dX0_set_26 ⟨hcM.1, hcM.2⟩) hS (fun q _ hq => hq.elim) (fun q hq => hq.elim) (fun r u t H1 locs ht hvm hw hB hz hk hS => dz_size (fun hz9 => ?_))
        replace hw := hw.symm; subst hw
        replace hH := zH_keep hH hcs hz hk hz9
        clear hB hk hz hvm ht hz9; generalize H1 = H at hH hS ⊢
        refine W.widen (k := cells) (n := slots) (Nat.le_refl _) (Nat.le_refl _) ?_
        refine lv_if_eq (tgt := 47) hx hb dX0_set_29 (by decide) (fun c29 => ?_) (fun c29 => ?_)
        · have hf := dz_t c29 hf
          refine lv_iconst (v := (-1)) hx hb dX0_set_47 (by decide) ?_
          obtain ⟨hM1, hS1⟩ : cells = M ∧ slots = S := by have hq := congrArg Prod.snd (Option.some.inj hf); rw [← hq] at hM hS0; have hM : s.heap.size + M = s2.1 := hM; have hS0 : sl0 + S = s2.2.1 := hS0; omega
          refine W.widen (k := M) (n := S) (Nat.le_of_eq hM1) (Nat.le_of_eq hS1) ?_
          exact W.iret (v := (-1)) hx hb hr (fun t ht hW => ⟨⟨(-1), s2, rfl, Option.some.inj hf, z_at ht hH⟩, hS.F ht⟩) hS.2.2 dX0_set_48
        · have hf := dz_f c29 hf
          refine lv_goto (tgt := 49) hx hb dX0_set_32 (by decide) ?_
          exact ih.1 h a0 a1 a2 s2 H locs cells slots hH hS hcs hss hcM ls (lv_sub hl [0, 1, 2, 3] rfl) hf

noncomputable def fnX0_rowOf (K : Nat) (ζ : pZ) (h : Nat) (a0 : Int32) (a1 : Int32) (a2 : Int32) (τ : pH) : Option (Option Nat × pH) := dz_b (zob ζ τ h 0) fun f3 => zcl τ (fnX0_isLine K ζ h a0 τ) fun x1 s2 => if x1 = (0 : Int32) then (some (none, s2)) else (if a1 = (0 : Int32) then (dz_b (zob ζ s2 h 0) fun f4 => dz_b (zvr (f4[0]?)) fun x5 => dz_b (zob ζ s2 x5 14) fun f8 => zcl s2 (fnJ2_get K ζ x5 a0 s2) fun x6 s7 => dz_c (zoL ζ s7 x6) fun cf9 f9 => dz_c (zoL ζ s7 x6) fun cf10 f10 => dz_b (zvr (f10[4]?)) fun x11 => dz_b (zob ζ s7 x11 10) fun f12 => dz_b (zvi (f12[1]?)) fun x13 => dz_b (fnX0_isIn K (Int32.toInt64 a2) 0 (Int32.toInt64 (x13 - 1))) fun x14 => if x14 = (0 : Int32) then (some (none, s7)) else (dz_b (zob ζ s7 x11 10) fun f15 => dz_b (zvr (f15[0]?)) fun x16 => dz_c (zaq ζ s7 x16 5) fun n17 f18 => if ¬ (a2 < 0 ∨ n17 ≤ Int32.toNatClampNeg a2) then (dz_b (f18 (Int32.toNatClampNeg a2)) fun x20 => some ((some x20), s7)) else none)) else (dz_b (zob ζ s2 h 0) fun f21 => dz_b (zvr (f21[0]?)) fun x22 => dz_b (zob ζ s2 x22 14) fun f25 => zcl s2 (fnJ2_get K ζ x22 a0 s2) fun x23 s24 => dz_c (zoL ζ s24 x23) fun cf26 f26 => dz_c (zoL ζ s24 x23) fun cf27 f27 => dz_b (zvr (f27[5]?)) fun x28 => dz_b (zob ζ s24 x28 10) fun f29 => dz_b (zvi (f29[1]?)) fun x30 => dz_b (fnX0_isIn K (Int32.toInt64 a2) 0 (Int32.toInt64 (x30 - 1))) fun x31 => if x31 = (0 : Int32) then (some (none, s24)) else (dz_b (zob ζ s24 x28 10) fun f32 => dz_b (zvr (f32[0]?)) fun x33 => dz_c (zaq ζ s24 x33 5) fun n34 f35 => if ¬ (a2 < 0 ∨ n34 ≤ Int32.toNatClampNeg a2) then (dz_b (f35 (Int32.toNatClampNeg a2)) fun x37 => some ((some x37), s24)) else none)))
set_option maxHeartbeats 4000000 in
set_option maxRecDepth 100000 in
theorem mtX0_rowOf (l : Launch) (D : va_G) (cA : Nat → ClassId) (ζ : pZ) (τ : pH) (h : Nat) (a0 : Int32) (a1 : Int32) (a2 : Int32) (K : Nat) (res : (Option Nat × pH)) (hf : fnX0_rowOf K ζ h a0 a1 a2 τ = some res) (M S : Nat) (hM : τ.1 + M = res.2.1) (hS0 : τ.2.1 + S = res.2.2.1) : Met l yX0_rowOf (ws_ yX0_rowOf cX0_rowOf 5 (some (.object "PrimeProofs$Row"))) ({ frames := 3, cells := M, slots := S, locals := 64 }) (zPc D cA ζ τ [.ref h, .int a0, .int a1, .int a2]) (zQq D cA ζ res) M S (zA ζ) := by
  refine Met.ofW (cc := cX0_rowOf) (maxL := 5) (ret := some (.object "PrimeProofs$Row")) (by decide +kernel) rfl ?_
  intro p e s m args below meth c s₁ B hml hv
  obtain ⟨rfl, hX, hH⟩ := hv
  have hx := B.exec
  have hb := B.bytes
  have hr := B.returns
  have hts := atoms_spec (ws := ws_ yX0_rowOf cX0_rowOf 5 (some (.object "PrimeProofs$Row"))) B.pre
  have hts : ∀ w ∈ lw_all, w.before _ s = true := fun w h => hts w (List.mem_cons_of_mem _ h)
  have hown : s.vm.findClass RX0 = some m.cls := findClass_of_methodNamed B.named
  have hlocks := B.notSynchronized
  have hM : s.heap.size + M = res.2.1 := by rw [hH.1]; exact hM
  have hcs : s.heap.size + 0 = τ.1 := hH.1
  have hss : τ.2.1 + 0 = τ.2.1 := rfl
  generalize hsl0 : τ.2.1 = sl0 at hS0 hss
  have hss : sl0 + 0 = τ.2.1 := by rw [hsl0]; rfl
  have hS : va_S (zA ζ) s.heap s.heap [] := va_S.rf
  generalize hHe : s.heap = H at hH hS ⊢
  have hS : va_S (zA ζ) s.heap H [] := by rw [hHe]; exact hS
  generalize ([] : List Loc) = locs at hS ⊢
  have hl := lv_entry ([.ref h, .int a0, .int a1, .int a2]) (n := 5) (Nat.le_of_ble_eq_true rfl)
  rw [lg_entry_eq]
  generalize (lg_sl ([.ref h, .int a0, .int a1, .int a2]) ++ List.replicate (5 - (lg_sl ([.ref h, .int a0, .int a1, .int a2])).length) Slot.unset).toArray = ls at hl ⊢
  have hl : lv_has ls 5 [(0, .ref h), (1, .int a0), (2, .int a1), (3, .int a2)] := hl
  have hf : (dz_b (zob ζ τ h 0) fun f3 => zcl τ (fnX0_isLine K ζ h a0 τ) fun x1 s2 => if x1 = (0 : Int32) then (some (none, s2)) else (if a1 = (0 : Int32) then (dz_b (zob ζ s2 h 0) fun f4 => dz_b (zvr (f4[0]?)) fun x5 => dz_b (zob ζ s2 x5 14) fun f8 => zcl s2 (fnJ2_get K ζ x5 a0 s2) fun x6 s7 => dz_c (zoL ζ s7 x6) fun cf9 f9 => dz_c (zoL ζ s7 x6) fun cf10 f10 => dz_b (zvr (f10[4]?)) fun x11 => dz_b (zob ζ s7 x11 10) fun f12 => dz_b (zvi (f12[1]?)) fun x13 => dz_b (fnX0_isIn K (Int32.toInt64 a2) 0 (Int32.toInt64 (x13 - 1))) fun x14 => if x14 = (0 : Int32) then (some (none, s7)) else (dz_b (zob ζ s7 x11 10) fun f15 => dz_b (zvr (f15[0]?)) fun x16 => dz_c (zaq ζ s7 x16 5) fun n17 f18 => if ¬ (a2 < 0 ∨ n17 ≤ Int32.toNatClampNeg a2) then (dz_b (f18 (Int32.toNatClampNeg a2)) fun x20 => some ((some x20), s7)) else none)) else (dz_b (zob ζ s2 h 0) fun f21 => dz_b (zvr (f21[0]?)) fun x22 => dz_b (zob ζ s2 x22 14) fun f25 => zcl s2 (fnJ2_get K ζ x22 a0 s2) fun x23 s24 => dz_c (zoL ζ s24 x23) fun cf26 f26 => dz_c (zoL ζ s24 x23) fun cf27 f27 => dz_b (zvr (f27[5]?)) fun x28 => dz_b (zob ζ s24 x28 10) fun f29 => dz_b (zvi (f29[1]?)) fun x30 => dz_b (fnX0_isIn K (Int32.toInt64 a2) 0 (Int32.toInt64 (x30 - 1))) fun x31 => if x31 = (0 : Int32) then (some (none, s24)) else (dz_b (zob ζ s24 x28 10) fun f32 => dz_b (zvr (f32[0]?)) fun x33 => dz_c (zaq ζ s24 x33 5) fun n34 f35 => if ¬ (a2 < 0 ∨ n34 ≤ Int32.toNatClampNeg a2) then (dz_b (f35 (Int32.toNatClampNeg a2)) fun x37 => some ((some x37), s24)) else none))) : Option (Option Nat × pH)) = some res := hf
  refine z_gen (fun cells slots hc0 hs0 => ?_)
  have hcs : s.heap.size + cells = τ.1 := by rw [hc0]; exact hcs
  have hss : sl0 + slots = τ.2.1 := by rw [hs0]; exact hss
  have hcM : cells ≤ M ∧ slots ≤ S := by rw [hc0, hs0]; exact ⟨Nat.zero_le _, Nat.zero_le _⟩
  clear hc0 hs0
  refine lv_aload_n hx hb dX0_rowOf_0 rfl (lv_at hl 0 rfl) ?_
  refine lv_iload_n hx hb dX0_rowOf_1 rfl (lv_at hl 1 rfl) ?_
  obtain ⟨f3, hf3, hf⟩ := dz_bo hf
  obtain ⟨x1, s2, hx1, hle, hck, hf⟩ := zcl_o hf
  have hc1 : cells + (s2.1 - τ.1) ≤ M := by omega
  have hs1 : slots + (s2.2.1 - τ.2.1) ≤ S := by omega
  refine va_calli (va_runV (As := [.int a0]) (rest := []) ⟨hx, hb, hml, hown, hts⟩ (mtX0_isLine l D cA ζ τ h a0 K (x1, s2) hx1 (s2.1 - τ.1) (s2.2.1 - τ.2.1) (Nat.add_sub_cancel' hle.1) (Nat.add_sub_cancel' hle.2)) (cwV 1 hts (lw_V q1349 q1351 qs28 q84 q1352) rfl rfl rfl (by decide +kernel) ⟨Nat.le_of_ble_eq_true rfl, Nat.le_of_ble_eq_true rfl⟩) (z_preV hX hS hH (zob_o hf3) rfl) rfl rfl hl.1 rfl (lv_room (Nat.le_of_ble_eq_true rfl)) dX0_rowOf_2 ⟨hc1, hs1⟩) hS (fun q _ hq => hq) (fun q hq => hq) (fun r u t H1 locs ht hvm hw hB hz hk hS => ?_)
  obtain ⟨hw1, hw2⟩ := Prod.mk.inj hw.symm; subst hw1; subst hw2
  have hH : zH D cA ζ s2 H1 := z_at ht.symm hB
  have hcs : s.heap.size + (cells + (s2.1 - τ.1)) = s2.1 := by omega
  have hss : sl0 + (slots + (s2.2.1 - τ.2.1)) = s2.2.1 := by omega
  replace hcM := And.intro hc1 hs1
  generalize cells + (s2.1 - τ.1) = cells at hcs hcM ⊢; generalize slots + (s2.2.1 - τ.2.1) = slots at hss hcM ⊢
  clear hB hk hz hvm ht hle hck hc1 hs1; generalize H1 = H at hH hS ⊢
  refine lv_if_ne (tgt := 10) hx hb dX0_rowOf_5 (by decide) (fun c5 => ?_) (fun c5 => ?_)
  · have hf := dz_f c5 hf
    refine lv_iload_n hx hb dX0_rowOf_10 rfl (lv_at hl 2 rfl) ?_
    refine lv_if_eq (tgt := 31) hx hb dX0_rowOf_11 (by decide) (fun c11 => ?_) (fun c11 => ?_)
    · have hf := dz_t c11 hf
      refine lv_aload_n hx hb dX0_rowOf_31 rfl (lv_at hl 0 rfl) ?_
      obtain ⟨f4, hf4, hf⟩ := dz_bo hf
      obtain ⟨x5, hx5, hf⟩ := dz_bo hf
      refine va_get (C := RX0) (T := TX0) (N := 7) hx hb hts in_X0 hown hX.K (zrd_P hX hS hH (zob_o hf4)) 0 rfl rfl 0 (by decide) (hts _ q156) (fun _ hq => hq) (zvr_o hx5) dX0_rowOf_32 ?_
      refine lv_iload_n hx hb dX0_rowOf_35 rfl (lv_at hl 1 rfl) ?_
      obtain ⟨f8, hf8, hf⟩ := dz_bo hf
      obtain ⟨x6, s7, hx6, hle, hck, hf⟩ := zcl_o hf
      have hc1 : cells + (s7.1 - s2.1) ≤ M := by omega
      have hs1 : slots + (s7.2.1 - s2.2.1) ≤ S := by omega
      refine va_callr (va_runV (As := [.int a0]) (rest := []) ⟨hx, hb, hml, hown, hts⟩ (mtJ2_get l D cA ζ s2 x5 a0 K (x6, s7) hx6 (s7.1 - s2.1) (s7.2.1 - s2.2.1) (Nat.add_sub_cancel' hle.1) (Nat.add_sub_cancel' hle.2)) (cwV 1 hts (lw_V q204 q205 q206 q87 q207) rfl rfl rfl (by decide +kernel) ⟨Nat.le_of_ble_eq_true rfl, Nat.le_of_ble_eq_true rfl⟩) (z_preV hX hS hH (zob_o hf8) rfl) rfl rfl hl.1 rfl (lv_room (Nat.le_of_ble_eq_true rfl)) dX0_rowOf_36 ⟨hc1, hs1⟩) hS (fun q _ hq => hq) (fun q hq => hq) (fun u r t H1 locs ht hvm hw hB hz hk hS => ?_)
      obtain ⟨hw, hB⟩ := hB
      obtain ⟨hw1, hw2⟩ := Prod.mk.inj hw.symm; subst hw1; subst hw2
      have hH : zH D cA ζ s7 H1 := z_at ht.symm hB
      have hcs : s.heap.size + (cells + (s7.1 - s2.1)) = s7.1 := by omega
      have hss : sl0 + (slots + (s7.2.1 - s2.2.1)) = s7.2.1 := by omega
      replace hcM := And.intro hc1 hs1
      generalize cells + (s7.1 - s2.1) = cells at hcs hcM ⊢; generalize slots + (s7.2.1 - s2.2.1) = slots at hss hcM ⊢
      clear hB hk hz hvm ht hle hck hc1 hs1; generalize H1 = H at hH hS ⊢
      obtain ⟨cf9, f9, hcf9, hf⟩ := dz_co hf
      obtain ⟨hr_f9, hc_f9⟩ := zoL_o hcf9
      refine zL_cast hx hb hown (hts _ q218) hX hS hH hr_f9 hc_f9 dX0_rowOf_39 ?_
      obtain ⟨cf10, f10, hcf10, hf⟩ := dz_co hf
      obtain ⟨x11, hx11, hf⟩ := dz_bo hf
      obtain ⟨hr_f10, hc_f10⟩ := zoL_o hcf10
      refine zL_get4 hx hb hts hown hX hS hH hr_f10 hc_f10 (hts _ q558) (zvr_o hx11) dX0_rowOf_42 ?_
      refine lv_astore (lv' := [(4, .ref x11), (0, .ref h), (1, .int a0), (2, .int a1), (3, .int a2)]) hx hb dX0_rowOf_45 hl (by decide) rfl (fun ls hl => ?_)
      refine lv_iload_n hx hb dX0_rowOf_47 rfl (lv_at hl 4 rfl) ?_
      refine lv_i2l hx hb dX0_rowOf_48 (rfl : _ = Int32.toInt64 a2) ?_
      refine lv_lconst (v := 0) hx hb dX0_rowOf_49 rfl ?_
      refine lv_aload hx hb dX0_rowOf_50 (lv_at hl 0 rfl) ?_
      obtain ⟨f12, hf12, hf⟩ := dz_bo hf
      obtain ⟨x13, hx13, hf⟩ := dz_bo hf
      refine va_getN (C := RX8) (T := TX8) (N := 2) hx hb hts in_X8 hown hX.K (zrd_P hX hS hH (zob_o hf12)) 0 rfl rfl 1 (by decide) ((hX.N q525 rfl).use rfl) (fun _ hq => hq) (zvi_o hx13) dX0_rowOf_52 ?_
      refine lv_iconst (v := 1) hx hb dX0_rowOf_55 (by decide) ?_
      refine lv_isub hx hb dX0_rowOf_56 ?_
      refine lv_i2l hx hb dX0_rowOf_57 (rfl : _ = Int32.toInt64 (x13 - 1)) ?_
      obtain ⟨x14, hx14, hf⟩ := dz_bo hf
      refine va_calli (va_runS (As := [.long (Int32.toInt64 a2), .long 0, .long (Int32.toInt64 (x13 - 1))]) (rest := []) ⟨hx, hb, hml, hown, hts⟩ (mtX0_isIn l (Int32.toInt64 a2) 0 (Int32.toInt64 (x13 - 1)) K x14 hx14) (va_cwS 3 hts (lw_S q188 q189 q84 q190) rfl rfl rfl (by decide +kernel) ⟨Nat.le_of_ble_eq_true rfl, Nat.le_of_ble_eq_true rfl⟩) ⟨fun a U g mk q => q, fun U hU hW => ⟨rfl, trivial⟩⟩ rfl rfl hl.1 rfl (lv_room (Nat.le_of_ble_eq_true rfl)) dX0_rowOf_58 ⟨hcM.1, hcM.2⟩) hS (fun q _ hq => hq.elim) (fun q hq => hq.elim) (fun r u t H1 locs ht hvm hw hB hz hk hS => dz_size (fun hz9 => ?_))
      replace hw := hw.symm; subst hw
      replace hH := zH_keep hH hcs hz hk hz9
      clear hB hk hz hvm ht hz9; generalize H1 = H at hH hS ⊢
      refine W.widen (k := cells) (n := slots) (Nat.le_refl _) (Nat.le_refl _) ?_
      refine lv_if_eq (tgt := 74) hx hb dX0_rowOf_61 (by decide) (fun c61 => ?_) (fun c61 => ?_)
      · have hf := dz_t c61 hf
        refine lv_null hx hb dX0_rowOf_74 ?_
        obtain ⟨hM1, hS1⟩ : cells = M ∧ slots = S := by have hq := congrArg Prod.snd (Option.some.inj hf); rw [← hq] at hM hS0; have hM : s.heap.size + M = s7.1 := hM; have hS0 : sl0 + S = s7.2.1 := hS0; omega
        refine W.widen (k := M) (n := S) (Nat.le_of_eq hM1) (Nat.le_of_eq hS1) ?_
        exact W.aret (v := va_rf none) hx hb hr (Or.inl ⟨_, rfl⟩) (z_rf _) (fun t ht hW => ⟨⟨none, s7, rfl, Option.some.inj hf, z_at ht hH⟩, hS.F ht⟩) hS.2.2 dX0_rowOf_75
      · have hf := dz_f c61 hf
        refine lv_aload hx hb dX0_rowOf_64 (lv_at hl 0 rfl) ?_
        obtain ⟨f15, hf15, hf⟩ := dz_bo hf
        obtain ⟨x16, hx16, hf⟩ := dz_bo hf
        refine va_getN (C := RX8) (T := TX8) (N := 2) hx hb hts in_X8 hown hX.K (zrd_P hX hS hH (zob_o hf15)) 0 rfl rfl 0 (by decide) ((hX.N q519 rfl).use rfl) (fun _ hq => hq) (zvr_o hx16) dX0_rowOf_66 ?_
        refine lv_iload_n hx hb dX0_rowOf_69 rfl (lv_at hl 4 rfl) ?_
        obtain ⟨n17, f18, hn17, hf⟩ := dz_co hf
        obtain ⟨g19, hf⟩ := dz_go hf
        obtain ⟨x20, hx20, hf⟩ := dz_bo hf
        refine va_aldq hx hb hX.K (zrd_P hX hS hH (zaq_o hn17)) 0 5 rfl rfl g19 dX0_rowOf_70 ?_
        rw [hx20]
        refine W.eq (g2 := F0 m 71 ls (.ref x20 :: [])) rfl ?_
        refine lv_goto (tgt := 75) hx hb dX0_rowOf_71 (by decide) ?_
        obtain ⟨hM1, hS1⟩ : cells = M ∧ slots = S := by have hq := congrArg Prod.snd (Option.some.inj hf); rw [← hq] at hM hS0; have hM : s.heap.size + M = s7.1 := hM; have hS0 : sl0 + S = s7.2.1 := hS0; omega
        refine W.widen (k := M) (n := S) (Nat.le_of_eq hM1) (Nat.le_of_eq hS1) ?_
        exact W.aret (v := va_rf (some x20)) hx hb hr (Or.inl ⟨_, rfl⟩) (z_rf _) (fun t ht hW => ⟨⟨(some x20), s7, rfl, Option.some.inj hf, z_at ht hH⟩, hS.F ht⟩) hS.2.2 dX0_rowOf_75
    · have hf := dz_f c11 hf
      refine lv_aload_n hx hb dX0_rowOf_14 rfl (lv_at hl 0 rfl) ?_
      obtain ⟨f21, hf21, hf⟩ := dz_bo hf
      obtain ⟨x22, hx22, hf⟩ := dz_bo hf
      refine va_get (C := RX0) (T := TX0) (N := 7) hx hb hts in_X0 hown hX.K (zrd_P hX hS hH (zob_o hf21)) 0 rfl rfl 0 (by decide) (hts _ q156) (fun _ hq => hq) (zvr_o hx22) dX0_rowOf_15 ?_
      refine lv_iload_n hx hb dX0_rowOf_18 rfl (lv_at hl 1 rfl) ?_
      obtain ⟨f25, hf25, hf⟩ := dz_bo hf
      obtain ⟨x23, s24, hx23, hle, hck, hf⟩ := zcl_o hf
      have hc1 : cells + (s24.1 - s2.1) ≤ M := by omega
      have hs1 : slots + (s24.2.1 - s2.2.1) ≤ S := by omega
      refine va_callr (va_runV (As := [.int a0]) (rest := []) ⟨hx, hb, hml, hown, hts⟩ (mtJ2_get l D cA ζ s2 x22 a0 K (x23, s24) hx23 (s24.1 - s2.1) (s24.2.1 - s2.2.1) (Nat.add_sub_cancel' hle.1) (Nat.add_sub_cancel' hle.2)) (cwV 1 hts (lw_V q204 q205 q206 q87 q207) rfl rfl rfl (by decide +kernel) ⟨Nat.le_of_ble_eq_true rfl, Nat.le_of_ble_eq_true rfl⟩) (z_preV hX hS hH (zob_o hf25) rfl) rfl rfl hl.1 rfl (lv_room (Nat.le_of_ble_eq_true rfl)) dX0_rowOf_19 ⟨hc1, hs1⟩) hS (fun q _ hq => hq) (fun q hq => hq) (fun u r t H1 locs ht hvm hw hB hz hk hS => ?_)
      obtain ⟨hw, hB⟩ := hB
      obtain ⟨hw1, hw2⟩ := Prod.mk.inj hw.symm; subst hw1; subst hw2
      have hH : zH D cA ζ s24 H1 := z_at ht.symm hB
      have hcs : s.heap.size + (cells + (s24.1 - s2.1)) = s24.1 := by omega
      have hss : sl0 + (slots + (s24.2.1 - s2.2.1)) = s24.2.1 := by omega
      replace hcM := And.intro hc1 hs1
      generalize cells + (s24.1 - s2.1) = cells at hcs hcM ⊢; generalize slots + (s24.2.1 - s2.2.1) = slots at hss hcM ⊢
      clear hB hk hz hvm ht hle hck hc1 hs1; generalize H1 = H at hH hS ⊢
      obtain ⟨cf26, f26, hcf26, hf⟩ := dz_co hf
      obtain ⟨hr_f26, hc_f26⟩ := zoL_o hcf26
      refine zL_cast hx hb hown (hts _ q218) hX hS hH hr_f26 hc_f26 dX0_rowOf_22 ?_
      obtain ⟨cf27, f27, hcf27, hf⟩ := dz_co hf
      obtain ⟨x28, hx28, hf⟩ := dz_bo hf
      obtain ⟨hr_f27, hc_f27⟩ := zoL_o hcf27
      refine zL_get5 hx hb hts hown hX hS hH hr_f27 hc_f27 (hts _ q565) (zvr_o hx28) dX0_rowOf_25 ?_
      refine lv_goto (tgt := 45) hx hb dX0_rowOf_28 (by decide) ?_
      refine lv_astore (lv' := [(4, .ref x28), (0, .ref h), (1, .int a0), (2, .int a1), (3, .int a2)]) hx hb dX0_rowOf_45 hl (by decide) rfl (fun ls hl => ?_)
      refine lv_iload_n hx hb dX0_rowOf_47 rfl (lv_at hl 4 rfl) ?_
      refine lv_i2l hx hb dX0_rowOf_48 (rfl : _ = Int32.toInt64 a2) ?_
      refine lv_lconst (v := 0) hx hb dX0_rowOf_49 rfl ?_
      refine lv_aload hx hb dX0_rowOf_50 (lv_at hl 0 rfl) ?_
      obtain ⟨f29, hf29, hf⟩ := dz_bo hf
      obtain ⟨x30, hx30, hf⟩ := dz_bo hf
      refine va_getN (C := RX8) (T := TX8) (N := 2) hx hb hts in_X8 hown hX.K (zrd_P hX hS hH (zob_o hf29)) 0 rfl rfl 1 (by decide) ((hX.N q525 rfl).use rfl) (fun _ hq => hq) (zvi_o hx30) dX0_rowOf_52 ?_
      refine lv_iconst (v := 1) hx hb dX0_rowOf_55 (by decide) ?_
      refine lv_isub hx hb dX0_rowOf_56 ?_
      refine lv_i2l hx hb dX0_rowOf_57 (rfl : _ = Int32.toInt64 (x30 - 1)) ?_
      obtain ⟨x31, hx31, hf⟩ := dz_bo hf
      refine va_calli (va_runS (As := [.long (Int32.toInt64 a2), .long 0, .long (Int32.toInt64 (x30 - 1))]) (rest := []) ⟨hx, hb, hml, hown, hts⟩ (mtX0_isIn l (Int32.toInt64 a2) 0 (Int32.toInt64 (x30 - 1)) K x31 hx31) (va_cwS 3 hts (lw_S q188 q189 q84 q190) rfl rfl rfl (by decide +kernel) ⟨Nat.le_of_ble_eq_true rfl, Nat.le_of_ble_eq_true rfl⟩) ⟨fun a U g mk q => q, fun U hU hW => ⟨rfl, trivial⟩⟩ rfl rfl hl.1 rfl (lv_room (Nat.le_of_ble_eq_true rfl)) dX0_rowOf_58 ⟨hcM.1, hcM.2⟩) hS (fun q _ hq => hq.elim) (fun q hq => hq.elim) (fun r u t H1 locs ht hvm hw hB hz hk hS => dz_size (fun hz9 => ?_))
      replace hw := hw.symm; subst hw
      replace hH := zH_keep hH hcs hz hk hz9
      clear hB hk hz hvm ht hz9; generalize H1 = H at hH hS ⊢
      refine W.widen (k := cells) (n := slots) (Nat.le_refl _) (Nat.le_refl _) ?_
      refine lv_if_eq (tgt := 74) hx hb dX0_rowOf_61 (by decide) (fun c61 => ?_) (fun c61 => ?_)
      · have hf := dz_t c61 hf
        refine lv_null hx hb dX0_rowOf_74 ?_
        obtain ⟨hM1, hS1⟩ : cells = M ∧ slots = S := by have hq := congrArg Prod.snd (Option.some.inj hf); rw [← hq] at hM hS0; have hM : s.heap.size + M = s24.1 := hM; have hS0 : sl0 + S = s24.2.1 := hS0; omega
        refine W.widen (k := M) (n := S) (Nat.le_of_eq hM1) (Nat.le_of_eq hS1) ?_
        exact W.aret (v := va_rf none) hx hb hr (Or.inl ⟨_, rfl⟩) (z_rf _) (fun t ht hW => ⟨⟨none, s24, rfl, Option.some.inj hf, z_at ht hH⟩, hS.F ht⟩) hS.2.2 dX0_rowOf_75
      · have hf := dz_f c61 hf
        refine lv_aload hx hb dX0_rowOf_64 (lv_at hl 0 rfl) ?_
        obtain ⟨f32, hf32, hf⟩ := dz_bo hf
        obtain ⟨x33, hx33, hf⟩ := dz_bo hf
        refine va_getN (C := RX8) (T := TX8) (N := 2) hx hb hts in_X8 hown hX.K (zrd_P hX hS hH (zob_o hf32)) 0 rfl rfl 0 (by decide) ((hX.N q519 rfl).use rfl) (fun _ hq => hq) (zvr_o hx33) dX0_rowOf_66 ?_
        refine lv_iload_n hx hb dX0_rowOf_69 rfl (lv_at hl 4 rfl) ?_
        obtain ⟨n34, f35, hn34, hf⟩ := dz_co hf
        obtain ⟨g36, hf⟩ := dz_go hf
        obtain ⟨x37, hx37, hf⟩ := dz_bo hf
        refine va_aldq hx hb hX.K (zrd_P hX hS hH (zaq_o hn34)) 0 5 rfl rfl g36 dX0_rowOf_70 ?_
        rw [hx37]
        refine W.eq (g2 := F0 m 71 ls (.ref x37 :: [])) rfl ?_
        refine lv_goto (tgt := 75) hx hb dX0_rowOf_71 (by decide) ?_
        obtain ⟨hM1, hS1⟩ : cells = M ∧ slots = S := by have hq := congrArg Prod.snd (Option.some.inj hf); rw [← hq] at hM hS0; have hM : s.heap.size + M = s24.1 := hM; have hS0 : sl0 + S = s24.2.1 := hS0; omega
        refine W.widen (k := M) (n := S) (Nat.le_of_eq hM1) (Nat.le_of_eq hS1) ?_
        exact W.aret (v := va_rf (some x37)) hx hb hr (Or.inl ⟨_, rfl⟩) (z_rf _) (fun t ht hW => ⟨⟨(some x37), s24, rfl, Option.some.inj hf, z_at ht hH⟩, hS.F ht⟩) hS.2.2 dX0_rowOf_75
  · have hf := dz_t c5 hf
    refine lv_null hx hb dX0_rowOf_8 ?_
    obtain ⟨hM1, hS1⟩ : cells = M ∧ slots = S := by have hq := congrArg Prod.snd (Option.some.inj hf); rw [← hq] at hM hS0; have hM : s.heap.size + M = s2.1 := hM; have hS0 : sl0 + S = s2.2.1 := hS0; omega
    refine W.widen (k := M) (n := S) (Nat.le_of_eq hM1) (Nat.le_of_eq hS1) ?_
    exact W.aret (v := va_rf none) hx hb hr (Or.inl ⟨_, rfl⟩) (z_rf _) (fun t ht hW => ⟨⟨none, s2, rfl, Option.some.inj hf, z_at ht hH⟩, hS.F ht⟩) hS.2.2 dX0_rowOf_9

noncomputable def lfX0_alter (K : Nat) (ζ : pZ) : Nat → (Nat → Int32 → Int32 → Int32 → Nat → pH → Option (Int32 × pH)) × (Nat → Int32 → Int64 → pH → Option (Int32 × pH)) := Nat.rec (motive := fun _ => (Nat → Int32 → Int32 → Int32 → Nat → pH → Option (Int32 × pH)) × (Nat → Int32 → Int64 → pH → Option (Int32 × pH))) ((fun _ _ _ _ _ _ => none), (fun _ _ _ _ => none)) (fun _ G => ((fun v0 v1 v4 v5 v6 τ => if v4 = (0 : Int32) then (dz_b (zob ζ τ v6 11) fun f21 => dz_b (zvl (f21[0]?)) fun x22 => if v4 = (0 : Int32) then (dz_l (Int32.toInt64 v5) fun x27 => dz_b (zwo ζ τ v6 11 0) fun f28 => dz_l (zst τ v6 (.inr (11, f28.set 0 (.long x27)))) fun s29 => G.2 v0 v1 x22 s29) else (if v4 = (1 : Int32) then (dz_b (zwo ζ τ v6 11 1) fun f25 => dz_l (zst τ v6 (.inr (11, f25.set 1 (.int v5)))) fun s26 => G.2 v0 v1 x22 s26) else (dz_b (zwo ζ τ v6 11 2) fun f23 => dz_l (zst τ v6 (.inr (11, f23.set 2 (.int v5)))) fun s24 => G.2 v0 v1 x22 s24))) else (if v4 = (1 : Int32) then (dz_b (zob ζ τ v6 11) fun f11 => dz_b (zvi (f11[1]?)) fun x12 => dz_l (Int32.toInt64 x12) fun x13 => if v4 = (0 : Int32) then (dz_l (Int32.toInt64 v5) fun x18 => dz_b (zwo ζ τ v6 11 0) fun f19 => dz_l (zst τ v6 (.inr (11, f19.set 0 (.long x18)))) fun s20 => G.2 v0 v1 x13 s20) else (if v4 = (1 : Int32) then (dz_b (zwo ζ τ v6 11 1) fun f16 => dz_l (zst τ v6 (.inr (11, f16.set 1 (.int v5)))) fun s17 => G.2 v0 v1 x13 s17) else (dz_b (zwo ζ τ v6 11 2) fun f14 => dz_l (zst τ v6 (.inr (11, f14.set 2 (.int v5)))) fun s15 => G.2 v0 v1 x13 s15))) else (dz_b (zob ζ τ v6 11) fun f1 => dz_b (zvi (f1[2]?)) fun x2 => dz_l (Int32.toInt64 x2) fun x3 => if v4 = (0 : Int32) then (dz_l (Int32.toInt64 v5) fun x8 => dz_b (zwo ζ τ v6 11 0) fun f9 => dz_l (zst τ v6 (.inr (11, f9.set 0 (.long x8)))) fun s10 => G.2 v0 v1 x3 s10) else (if v4 = (1 : Int32) then (dz_b (zwo ζ τ v6 11 1) fun f6 => dz_l (zst τ v6 (.inr (11, f6.set 1 (.int v5)))) fun s7 => G.2 v0 v1 x3 s7) else (dz_b (zwo ζ τ v6 11 2) fun f4 => dz_l (zst τ v6 (.inr (11, f4.set 2 (.int v5)))) fun s5 => G.2 v0 v1 x3 s5))))), (fun v0 v1 v7 τ => dz_b (zob ζ τ v0 0) fun f3 => zcl τ (fnX0_changes K ζ v0 v1 τ) fun _ s2 => dz_l (Int64.toInt32 v7) fun x4 => some (x4, s2))))
noncomputable def fnX0_alter (K : Nat) (ζ : pZ) (h : Nat) (a0 : Int32) (a1 : Int32) (a2 : Int32) (a3 : Int32) (a4 : Int32) (τ : pH) : Option (Int32 × pH) := dz_b (zob ζ τ h 0) fun f3 => zcl τ (fnX0_rowOf K ζ h a0 a1 a2 τ) fun x1 s2 => dz_o x1 (fun y4 => if a1 = (0 : Int32) then (dz_b (fnX0_isIn K (Int32.toInt64 a3) 0 2) fun x5 => if x5 = (0 : Int32) then (some ((-1), s2)) else (if a3 = (0 : Int32) then (dz_b (fnX0_isNumber K (Int32.toInt64 a4)) fun x8 => if x8 = (0 : Int32) then (some ((-1), s2)) else ((lfX0_alter K ζ K).1 h a0 a3 a4 y4 s2)) else (if a3 = (1 : Int32) then (dz_b (fnX0_isIn K (Int32.toInt64 a4) 1 30) fun x7 => if x7 = (0 : Int32) then (some ((-1), s2)) else ((lfX0_alter K ζ K).1 h a0 a3 a4 y4 s2)) else (dz_b (fnX0_isIn K (Int32.toInt64 a4) 2 999) fun x6 => if x6 = (0 : Int32) then (some ((-1), s2)) else ((lfX0_alter K ζ K).1 h a0 a3 a4 y4 s2))))) else (dz_b (fnX0_isIn K (Int32.toInt64 a3) 0 1) fun x9 => if x9 = (0 : Int32) then (some ((-1), s2)) else (if a3 = (0 : Int32) then (dz_b (fnX0_isNumber K (Int32.toInt64 a4)) fun x12 => if x12 = (0 : Int32) then (some ((-1), s2)) else ((lfX0_alter K ζ K).1 h a0 a3 a4 y4 s2)) else (if a3 = (1 : Int32) then (dz_b (fnX0_isIn K (Int32.toInt64 a4) 1 30) fun x11 => if x11 = (0 : Int32) then (some ((-1), s2)) else ((lfX0_alter K ζ K).1 h a0 a3 a4 y4 s2)) else (dz_b (fnX0_isIn K (Int32.toInt64 a4) 2 999) fun x10 => if x10 = (0 : Int32) then (some ((-1), s2)) else ((lfX0_alter K ζ K).1 h a0 a3 a4 y4 s2)))))) (some ((-1), s2))
set_option maxHeartbeats 4000000 in
set_option maxRecDepth 100000 in
theorem wlX0_alter {p : Program} {l : Launch} {e : Env} {s : State} {m : MethodId} {below : List Frame} {meth : Method} {c : Code} {D : va_G} {cA : Nat → ClassId} {ζ : pZ} (hX : zX D cA ζ s) (K : Nat) (res : (Int32 × pH)) (M S sl0 : Nat) (hM : s.heap.size + M = res.2.1) (hS0 : sl0 + S = res.2.2.1) (h : Nat) (a0 : Int32) (a1 : Int32) (a2 : Int32) (a3 : Int32) (a4 : Int32) (hx : p.tables.exec = Jvm.exec) (hb : c.code = cX0_alter) (hr : meth.sig.returnType = some .int) (hlocks : meth.locks = false) (hml : c.maxLocals = 9) (hown : s.vm.findClass RX0 = some m.cls) (hts : ∀ w ∈ lw_all, w.before ([.ref h, .int a0, .int a1, .int a2, .int a3, .int a4] : List Value).toArray s = true) : ∀ k : Nat, (∀ (v0 : Nat) (v1 : Int32) (v4 : Int32) (v5 : Int32) (v6 : Nat) (τ : pH) (H : Heap) (locs : List Loc) (cells slots : Nat), zH D cA ζ τ H → va_S (zA ζ) s.heap H locs → s.heap.size + cells = τ.1 → sl0 + slots = τ.2.1 → cells ≤ M ∧ slots ≤ S → ∀ (ls : Array Slot), lv_has ls 9 [(0, .ref v0), (1, .int v1), (4, .int v4), (5, .int v5), (6, .ref v6)] → (lfX0_alter K ζ k).1 v0 v1 v4 v5 v6 τ = some res → W p l e (headSpec (ws_ yX0_alter cX0_alter 9 (some .int)) ({ frames := 4, cells := M, slots := S, locals := 88 })).room s m ([.ref h, .int a0, .int a1, .int a2, .int a3, .int a4] : List Value).toArray below meth c H locs cells slots (MQ below (zQi D cA ζ res) ([.ref h, .int a0, .int a1, .int a2, .int a3, .int a4] : List Value).toArray s M S (zA ζ)) (F0 m 93 ls [])) ∧ (∀ (v0 : Nat) (v1 : Int32) (v7 : Int64) (τ : pH) (H : Heap) (locs : List Loc) (cells slots : Nat), zH D cA ζ τ H → va_S (zA ζ) s.heap H locs → s.heap.size + cells = τ.1 → sl0 + slots = τ.2.1 → cells ≤ M ∧ slots ≤ S → ∀ (ls : Array Slot), lv_has ls 9 [(0, .ref v0), (1, .int v1), (7, .long v7)] → (lfX0_alter K ζ k).2 v0 v1 v7 τ = some res → W p l e (headSpec (ws_ yX0_alter cX0_alter 9 (some .int)) ({ frames := 4, cells := M, slots := S, locals := 88 })).room s m ([.ref h, .int a0, .int a1, .int a2, .int a3, .int a4] : List Value).toArray below meth c H locs cells slots (MQ below (zQi D cA ζ res) ([.ref h, .int a0, .int a1, .int a2, .int a3, .int a4] : List Value).toArray s M S (zA ζ)) (F0 m 168 ls [])) := by
  intro k
  induction k with
  | zero =>
    exact ⟨fun _ _ _ _ _ _ _ _ _ _ _ _ _ _ _ _ _ hf => (by cases hf), fun _ _ _ _ _ _ _ _ _ _ _ _ _ _ _ hf => (by cases hf)⟩
  | succ k ih =>
    refine ⟨?_, ?_⟩
    · intro v0 v1 v4 v5 v6 τ H locs cells slots hH hS hcs hss hcM ls hl hf
      have hf : (if v4 = (0 : Int32) then (dz_b (zob ζ τ v6 11) fun f21 => dz_b (zvl (f21[0]?)) fun x22 => if v4 = (0 : Int32) then (dz_l (Int32.toInt64 v5) fun x27 => dz_b (zwo ζ τ v6 11 0) fun f28 => dz_l (zst τ v6 (.inr (11, f28.set 0 (.long x27)))) fun s29 => (lfX0_alter K ζ k).2 v0 v1 x22 s29) else (if v4 = (1 : Int32) then (dz_b (zwo ζ τ v6 11 1) fun f25 => dz_l (zst τ v6 (.inr (11, f25.set 1 (.int v5)))) fun s26 => (lfX0_alter K ζ k).2 v0 v1 x22 s26) else (dz_b (zwo ζ τ v6 11 2) fun f23 => dz_l (zst τ v6 (.inr (11, f23.set 2 (.int v5)))) fun s24 => (lfX0_alter K ζ k).2 v0 v1 x22 s24))) else (if v4 = (1 : Int32) then (dz_b (zob ζ τ v6 11) fun f11 => dz_b (zvi (f11[1]?)) fun x12 => dz_l (Int32.toInt64 x12) fun x13 => if v4 = (0 : Int32) then (dz_l (Int32.toInt64 v5) fun x18 => dz_b (zwo ζ τ v6 11 0) fun f19 => dz_l (zst τ v6 (.inr (11, f19.set 0 (.long x18)))) fun s20 => (lfX0_alter K ζ k).2 v0 v1 x13 s20) else (if v4 = (1 : Int32) then (dz_b (zwo ζ τ v6 11 1) fun f16 => dz_l (zst τ v6 (.inr (11, f16.set 1 (.int v5)))) fun s17 => (lfX0_alter K ζ k).2 v0 v1 x13 s17) else (dz_b (zwo ζ τ v6 11 2) fun f14 => dz_l (zst τ v6 (.inr (11, f14.set 2 (.int v5)))) fun s15 => (lfX0_alter K ζ k).2 v0 v1 x13 s15))) else (dz_b (zob ζ τ v6 11) fun f1 => dz_b (zvi (f1[2]?)) fun x2 => dz_l (Int32.toInt64 x2) fun x3 => if v4 = (0 : Int32) then (dz_l (Int32.toInt64 v5) fun x8 => dz_b (zwo ζ τ v6 11 0) fun f9 => dz_l (zst τ v6 (.inr (11, f9.set 0 (.long x8)))) fun s10 => (lfX0_alter K ζ k).2 v0 v1 x3 s10) else (if v4 = (1 : Int32) then (dz_b (zwo ζ τ v6 11 1) fun f6 => dz_l (zst τ v6 (.inr (11, f6.set 1 (.int v5)))) fun s7 => (lfX0_alter K ζ k).2 v0 v1 x3 s7) else (dz_b (zwo ζ τ v6 11 2) fun f4 => dz_l (zst τ v6 (.inr (11, f4.set 2 (.int v5)))) fun s5 => (lfX0_alter K ζ k).2 v0 v1 x3 s5)))) : Option (Int32 × pH)) = some res := hf
      refine lv_iload hx hb dX0_alter_93 (lv_at hl 2 rfl) ?_
      refine lv_if_ne (tgt := 106) hx hb dX0_alter_95 (by decide) (fun c95 => ?_) (fun c95 => ?_)
      · have hf := dz_f c95 hf
        refine lv_iload hx hb dX0_alter_106 (lv_at hl 2 rfl) ?_
        refine lv_iconst (v := 1) hx hb dX0_alter_108 (by decide) ?_
        refine lv_icmp_ne (tgt := 121) hx hb dX0_alter_109 (by decide) (fun c109 => ?_) (fun c109 => ?_)
        · have hf := dz_f c109 hf
          refine lv_aload hx hb dX0_alter_121 (lv_at hl 4 rfl) ?_
          obtain ⟨f1, hf1, hf⟩ := dz_bo hf
          obtain ⟨x2, hx2, hf⟩ := dz_bo hf
          refine va_get (C := RX13) (T := TX13) (N := 3) hx hb hts in_X13 hown hX.K (zrd_P hX hS hH (zob_o hf1)) 0 rfl rfl 2 (by decide) (hts _ q693) (fun _ hq => hq) (zvi_o hx2) dX0_alter_123 ?_
          refine lv_i2l hx hb dX0_alter_126 (rfl : _ = Int32.toInt64 x2) ?_
          refine lv_topl (fun x3 e_x3 => ?_)
          have hf := dz_ls e_x3 hf
          refine lv_lstore (lv' := [(7, .long x3), (0, .ref v0), (1, .int v1), (4, .int v4), (5, .int v5), (6, .ref v6)]) hx hb dX0_alter_127 hl (by decide) rfl (fun ls hl => ?_)
          refine lv_iload hx hb dX0_alter_129 (lv_at hl 3 rfl) ?_
          refine lv_if_ne (tgt := 145) hx hb dX0_alter_131 (by decide) (fun c131 => ?_) (fun c131 => ?_)
          · have hf := dz_f c131 hf
            refine lv_iload hx hb dX0_alter_145 (lv_at hl 3 rfl) ?_
            refine lv_iconst (v := 1) hx hb dX0_alter_147 (by decide) ?_
            refine lv_icmp_ne (tgt := 161) hx hb dX0_alter_148 (by decide) (fun c148 => ?_) (fun c148 => ?_)
            · have hf := dz_f c148 hf
              refine lv_aload hx hb dX0_alter_161 (lv_at hl 5 rfl) ?_
              refine lv_iload hx hb dX0_alter_163 (lv_at hl 4 rfl) ?_
              obtain ⟨f4, hf4, hf⟩ := dz_bo hf
              obtain ⟨ha_f4, he_f4, hk_f4⟩ := zwo_o hf4
              refine va_put (C := RX13) (T := TX13) (N := 3) hx hb hts in_X13 tyX13 tyX13_ok nmX13 hown hX.K hH.2.2 zw_D hS _ (zw_o ha_f4 he_f4) rfl 2 (by decide) (hts _ q693) (fun _ hq => hq) rfl rfl rfl rfl hk_f4 dX0_alter_165 (fun H1 locs hP1 _ hS => dz_size (fun hz => ?_))
              obtain ⟨s5, e_s5, hf⟩ := dz_lo hf
              have hH := zH_put (x := .inr (11, f4.set 2 (.int v5))) hH hcs ha_f4 hP1 hz
              rw [← e_s5] at hH
              have hcs : s.heap.size + cells = s5.1 := by rw [e_s5]; exact hcs
              have hss : sl0 + slots = s5.2.1 := by rw [e_s5]; exact hss
              clear hP1 hz; generalize H1 = H at hH hS ⊢
              exact ih.2 v0 v1 x3 s5 H locs cells slots hH hS hcs hss hcM ls (lv_sub hl [1, 2, 0] rfl) hf
            · have hf := dz_t c148 hf
              refine lv_aload hx hb dX0_alter_151 (lv_at hl 5 rfl) ?_
              refine lv_iload hx hb dX0_alter_153 (lv_at hl 4 rfl) ?_
              obtain ⟨f6, hf6, hf⟩ := dz_bo hf
              obtain ⟨ha_f6, he_f6, hk_f6⟩ := zwo_o hf6
              refine va_put (C := RX13) (T := TX13) (N := 3) hx hb hts in_X13 tyX13 tyX13_ok nmX13 hown hX.K hH.2.2 zw_D hS _ (zw_o ha_f6 he_f6) rfl 1 (by decide) (hts _ q689) (fun _ hq => hq) rfl rfl rfl rfl hk_f6 dX0_alter_155 (fun H1 locs hP1 _ hS => dz_size (fun hz => ?_))
              obtain ⟨s7, e_s7, hf⟩ := dz_lo hf
              have hH := zH_put (x := .inr (11, f6.set 1 (.int v5))) hH hcs ha_f6 hP1 hz
              rw [← e_s7] at hH
              have hcs : s.heap.size + cells = s7.1 := by rw [e_s7]; exact hcs
              have hss : sl0 + slots = s7.2.1 := by rw [e_s7]; exact hss
              clear hP1 hz; generalize H1 = H at hH hS ⊢
              refine lv_goto (tgt := 168) hx hb dX0_alter_158 (by decide) ?_
              exact ih.2 v0 v1 x3 s7 H locs cells slots hH hS hcs hss hcM ls (lv_sub hl [1, 2, 0] rfl) hf
          · have hf := dz_t c131 hf
            refine lv_aload hx hb dX0_alter_134 (lv_at hl 5 rfl) ?_
            refine lv_iload hx hb dX0_alter_136 (lv_at hl 4 rfl) ?_
            refine lv_i2l hx hb dX0_alter_138 (rfl : _ = Int32.toInt64 v5) ?_
            refine lv_topl (fun x8 e_x8 => ?_)
            have hf := dz_ls e_x8 hf
            obtain ⟨f9, hf9, hf⟩ := dz_bo hf
            obtain ⟨ha_f9, he_f9, hk_f9⟩ := zwo_o hf9
            refine va_put (C := RX13) (T := TX13) (N := 3) hx hb hts in_X13 tyX13 tyX13_ok nmX13 hown hX.K hH.2.2 zw_D hS _ (zw_o ha_f9 he_f9) rfl 0 (by decide) (hts _ q686) (fun _ hq => hq) rfl rfl rfl rfl hk_f9 dX0_alter_139 (fun H1 locs hP1 _ hS => dz_size (fun hz => ?_))
            obtain ⟨s10, e_s10, hf⟩ := dz_lo hf
            have hH := zH_put (x := .inr (11, f9.set 0 (.long x8))) hH hcs ha_f9 hP1 hz
            rw [← e_s10] at hH
            have hcs : s.heap.size + cells = s10.1 := by rw [e_s10]; exact hcs
            have hss : sl0 + slots = s10.2.1 := by rw [e_s10]; exact hss
            clear hP1 hz; generalize H1 = H at hH hS ⊢
            refine lv_goto (tgt := 168) hx hb dX0_alter_142 (by decide) ?_
            exact ih.2 v0 v1 x3 s10 H locs cells slots hH hS hcs hss hcM ls (lv_sub hl [1, 2, 0] rfl) hf
        · have hf := dz_t c109 hf
          refine lv_aload hx hb dX0_alter_112 (lv_at hl 4 rfl) ?_
          obtain ⟨f11, hf11, hf⟩ := dz_bo hf
          obtain ⟨x12, hx12, hf⟩ := dz_bo hf
          refine va_get (C := RX13) (T := TX13) (N := 3) hx hb hts in_X13 hown hX.K (zrd_P hX hS hH (zob_o hf11)) 0 rfl rfl 1 (by decide) (hts _ q689) (fun _ hq => hq) (zvi_o hx12) dX0_alter_114 ?_
          refine lv_i2l hx hb dX0_alter_117 (rfl : _ = Int32.toInt64 x12) ?_
          refine lv_goto (tgt := 127) hx hb dX0_alter_118 (by decide) ?_
          refine lv_topl (fun x13 e_x13 => ?_)
          have hf := dz_ls e_x13 hf
          refine lv_lstore (lv' := [(7, .long x13), (0, .ref v0), (1, .int v1), (4, .int v4), (5, .int v5), (6, .ref v6)]) hx hb dX0_alter_127 hl (by decide) rfl (fun ls hl => ?_)
          refine lv_iload hx hb dX0_alter_129 (lv_at hl 3 rfl) ?_
          refine lv_if_ne (tgt := 145) hx hb dX0_alter_131 (by decide) (fun c131 => ?_) (fun c131 => ?_)
          · have hf := dz_f c131 hf
            refine lv_iload hx hb dX0_alter_145 (lv_at hl 3 rfl) ?_
            refine lv_iconst (v := 1) hx hb dX0_alter_147 (by decide) ?_
            refine lv_icmp_ne (tgt := 161) hx hb dX0_alter_148 (by decide) (fun c148 => ?_) (fun c148 => ?_)
            · have hf := dz_f c148 hf
              refine lv_aload hx hb dX0_alter_161 (lv_at hl 5 rfl) ?_
              refine lv_iload hx hb dX0_alter_163 (lv_at hl 4 rfl) ?_
              obtain ⟨f14, hf14, hf⟩ := dz_bo hf
              obtain ⟨ha_f14, he_f14, hk_f14⟩ := zwo_o hf14
              refine va_put (C := RX13) (T := TX13) (N := 3) hx hb hts in_X13 tyX13 tyX13_ok nmX13 hown hX.K hH.2.2 zw_D hS _ (zw_o ha_f14 he_f14) rfl 2 (by decide) (hts _ q693) (fun _ hq => hq) rfl rfl rfl rfl hk_f14 dX0_alter_165 (fun H1 locs hP1 _ hS => dz_size (fun hz => ?_))
              obtain ⟨s15, e_s15, hf⟩ := dz_lo hf
              have hH := zH_put (x := .inr (11, f14.set 2 (.int v5))) hH hcs ha_f14 hP1 hz
              rw [← e_s15] at hH
              have hcs : s.heap.size + cells = s15.1 := by rw [e_s15]; exact hcs
              have hss : sl0 + slots = s15.2.1 := by rw [e_s15]; exact hss
              clear hP1 hz; generalize H1 = H at hH hS ⊢
              exact ih.2 v0 v1 x13 s15 H locs cells slots hH hS hcs hss hcM ls (lv_sub hl [1, 2, 0] rfl) hf
            · have hf := dz_t c148 hf
              refine lv_aload hx hb dX0_alter_151 (lv_at hl 5 rfl) ?_
              refine lv_iload hx hb dX0_alter_153 (lv_at hl 4 rfl) ?_
              obtain ⟨f16, hf16, hf⟩ := dz_bo hf
              obtain ⟨ha_f16, he_f16, hk_f16⟩ := zwo_o hf16
              refine va_put (C := RX13) (T := TX13) (N := 3) hx hb hts in_X13 tyX13 tyX13_ok nmX13 hown hX.K hH.2.2 zw_D hS _ (zw_o ha_f16 he_f16) rfl 1 (by decide) (hts _ q689) (fun _ hq => hq) rfl rfl rfl rfl hk_f16 dX0_alter_155 (fun H1 locs hP1 _ hS => dz_size (fun hz => ?_))
              obtain ⟨s17, e_s17, hf⟩ := dz_lo hf
              have hH := zH_put (x := .inr (11, f16.set 1 (.int v5))) hH hcs ha_f16 hP1 hz
              rw [← e_s17] at hH
              have hcs : s.heap.size + cells = s17.1 := by rw [e_s17]; exact hcs
              have hss : sl0 + slots = s17.2.1 := by rw [e_s17]; exact hss
              clear hP1 hz; generalize H1 = H at hH hS ⊢
              refine lv_goto (tgt := 168) hx hb dX0_alter_158 (by decide) ?_
              exact ih.2 v0 v1 x13 s17 H locs cells slots hH hS hcs hss hcM ls (lv_sub hl [1, 2, 0] rfl) hf
          · have hf := dz_t c131 hf
            refine lv_aload hx hb dX0_alter_134 (lv_at hl 5 rfl) ?_
            refine lv_iload hx hb dX0_alter_136 (lv_at hl 4 rfl) ?_
            refine lv_i2l hx hb dX0_alter_138 (rfl : _ = Int32.toInt64 v5) ?_
            refine lv_topl (fun x18 e_x18 => ?_)
            have hf := dz_ls e_x18 hf
            obtain ⟨f19, hf19, hf⟩ := dz_bo hf
            obtain ⟨ha_f19, he_f19, hk_f19⟩ := zwo_o hf19
            refine va_put (C := RX13) (T := TX13) (N := 3) hx hb hts in_X13 tyX13 tyX13_ok nmX13 hown hX.K hH.2.2 zw_D hS _ (zw_o ha_f19 he_f19) rfl 0 (by decide) (hts _ q686) (fun _ hq => hq) rfl rfl rfl rfl hk_f19 dX0_alter_139 (fun H1 locs hP1 _ hS => dz_size (fun hz => ?_))
            obtain ⟨s20, e_s20, hf⟩ := dz_lo hf
            have hH := zH_put (x := .inr (11, f19.set 0 (.long x18))) hH hcs ha_f19 hP1 hz
            rw [← e_s20] at hH
            have hcs : s.heap.size + cells = s20.1 := by rw [e_s20]; exact hcs
            have hss : sl0 + slots = s20.2.1 := by rw [e_s20]; exact hss
            clear hP1 hz; generalize H1 = H at hH hS ⊢
            refine lv_goto (tgt := 168) hx hb dX0_alter_142 (by decide) ?_
            exact ih.2 v0 v1 x13 s20 H locs cells slots hH hS hcs hss hcM ls (lv_sub hl [1, 2, 0] rfl) hf
      · have hf := dz_t c95 hf
        refine lv_aload hx hb dX0_alter_98 (lv_at hl 4 rfl) ?_
        obtain ⟨f21, hf21, hf⟩ := dz_bo hf
        obtain ⟨x22, hx22, hf⟩ := dz_bo hf
        refine va_get (C := RX13) (T := TX13) (N := 3) hx hb hts in_X13 hown hX.K (zrd_P hX hS hH (zob_o hf21)) 0 rfl rfl 0 (by decide) (hts _ q686) (fun _ hq => hq) (zvl_o hx22) dX0_alter_100 ?_
        refine lv_goto (tgt := 127) hx hb dX0_alter_103 (by decide) ?_
        refine lv_lstore (lv' := [(7, .long x22), (0, .ref v0), (1, .int v1), (4, .int v4), (5, .int v5), (6, .ref v6)]) hx hb dX0_alter_127 hl (by decide) rfl (fun ls hl => ?_)
        refine lv_iload hx hb dX0_alter_129 (lv_at hl 3 rfl) ?_
        refine lv_if_ne (tgt := 145) hx hb dX0_alter_131 (by decide) (fun c131 => ?_) (fun c131 => ?_)
        · have hf := dz_f c131 hf
          refine lv_iload hx hb dX0_alter_145 (lv_at hl 3 rfl) ?_
          refine lv_iconst (v := 1) hx hb dX0_alter_147 (by decide) ?_
          refine lv_icmp_ne (tgt := 161) hx hb dX0_alter_148 (by decide) (fun c148 => ?_) (fun c148 => ?_)
          · have hf := dz_f c148 hf
            refine lv_aload hx hb dX0_alter_161 (lv_at hl 5 rfl) ?_
            refine lv_iload hx hb dX0_alter_163 (lv_at hl 4 rfl) ?_
            obtain ⟨f23, hf23, hf⟩ := dz_bo hf
            obtain ⟨ha_f23, he_f23, hk_f23⟩ := zwo_o hf23
            refine va_put (C := RX13) (T := TX13) (N := 3) hx hb hts in_X13 tyX13 tyX13_ok nmX13 hown hX.K hH.2.2 zw_D hS _ (zw_o ha_f23 he_f23) rfl 2 (by decide) (hts _ q693) (fun _ hq => hq) rfl rfl rfl rfl hk_f23 dX0_alter_165 (fun H1 locs hP1 _ hS => dz_size (fun hz => ?_))
            obtain ⟨s24, e_s24, hf⟩ := dz_lo hf
            have hH := zH_put (x := .inr (11, f23.set 2 (.int v5))) hH hcs ha_f23 hP1 hz
            rw [← e_s24] at hH
            have hcs : s.heap.size + cells = s24.1 := by rw [e_s24]; exact hcs
            have hss : sl0 + slots = s24.2.1 := by rw [e_s24]; exact hss
            clear hP1 hz; generalize H1 = H at hH hS ⊢
            exact ih.2 v0 v1 x22 s24 H locs cells slots hH hS hcs hss hcM ls (lv_sub hl [1, 2, 0] rfl) hf
          · have hf := dz_t c148 hf
            refine lv_aload hx hb dX0_alter_151 (lv_at hl 5 rfl) ?_
            refine lv_iload hx hb dX0_alter_153 (lv_at hl 4 rfl) ?_
            obtain ⟨f25, hf25, hf⟩ := dz_bo hf
            obtain ⟨ha_f25, he_f25, hk_f25⟩ := zwo_o hf25
            refine va_put (C := RX13) (T := TX13) (N := 3) hx hb hts in_X13 tyX13 tyX13_ok nmX13 hown hX.K hH.2.2 zw_D hS _ (zw_o ha_f25 he_f25) rfl 1 (by decide) (hts _ q689) (fun _ hq => hq) rfl rfl rfl rfl hk_f25 dX0_alter_155 (fun H1 locs hP1 _ hS => dz_size (fun hz => ?_))
            obtain ⟨s26, e_s26, hf⟩ := dz_lo hf
            have hH := zH_put (x := .inr (11, f25.set 1 (.int v5))) hH hcs ha_f25 hP1 hz
            rw [← e_s26] at hH
            have hcs : s.heap.size + cells = s26.1 := by rw [e_s26]; exact hcs
            have hss : sl0 + slots = s26.2.1 := by rw [e_s26]; exact hss
            clear hP1 hz; generalize H1 = H at hH hS ⊢
            refine lv_goto (tgt := 168) hx hb dX0_alter_158 (by decide) ?_
            exact ih.2 v0 v1 x22 s26 H locs cells slots hH hS hcs hss hcM ls (lv_sub hl [1, 2, 0] rfl) hf
        · have hf := dz_t c131 hf
          refine lv_aload hx hb dX0_alter_134 (lv_at hl 5 rfl) ?_
          refine lv_iload hx hb dX0_alter_136 (lv_at hl 4 rfl) ?_
          refine lv_i2l hx hb dX0_alter_138 (rfl : _ = Int32.toInt64 v5) ?_
          refine lv_topl (fun x27 e_x27 => ?_)
          have hf := dz_ls e_x27 hf
          obtain ⟨f28, hf28, hf⟩ := dz_bo hf
          obtain ⟨ha_f28, he_f28, hk_f28⟩ := zwo_o hf28
          refine va_put (C := RX13) (T := TX13) (N := 3) hx hb hts in_X13 tyX13 tyX13_ok nmX13 hown hX.K hH.2.2 zw_D hS _ (zw_o ha_f28 he_f28) rfl 0 (by decide) (hts _ q686) (fun _ hq => hq) rfl rfl rfl rfl hk_f28 dX0_alter_139 (fun H1 locs hP1 _ hS => dz_size (fun hz => ?_))
          obtain ⟨s29, e_s29, hf⟩ := dz_lo hf
          have hH := zH_put (x := .inr (11, f28.set 0 (.long x27))) hH hcs ha_f28 hP1 hz
          rw [← e_s29] at hH
          have hcs : s.heap.size + cells = s29.1 := by rw [e_s29]; exact hcs
          have hss : sl0 + slots = s29.2.1 := by rw [e_s29]; exact hss
          clear hP1 hz; generalize H1 = H at hH hS ⊢
          refine lv_goto (tgt := 168) hx hb dX0_alter_142 (by decide) ?_
          exact ih.2 v0 v1 x22 s29 H locs cells slots hH hS hcs hss hcM ls (lv_sub hl [1, 2, 0] rfl) hf
    · intro v0 v1 v7 τ H locs cells slots hH hS hcs hss hcM ls hl hf
      have hf : (dz_b (zob ζ τ v0 0) fun f3 => zcl τ (fnX0_changes K ζ v0 v1 τ) fun _ s2 => dz_l (Int64.toInt32 v7) fun x4 => some (x4, s2) : Option (Int32 × pH)) = some res := hf
      refine lv_aload_n hx hb dX0_alter_168 rfl (lv_at hl 0 rfl) ?_
      refine lv_iload_n hx hb dX0_alter_169 rfl (lv_at hl 1 rfl) ?_
      obtain ⟨f3, hf3, hf⟩ := dz_bo hf
      obtain ⟨x1, s2, hx1, hle, hck, hf⟩ := zcl_o hf
      have hc1 : cells + (s2.1 - τ.1) ≤ M := by omega
      have hs1 : slots + (s2.2.1 - τ.2.1) ≤ S := by omega
      refine va_callv (va_runV (As := [.int v1]) (rest := []) ⟨hx, hb, hml, hown, hts⟩ (mtX0_changes l D cA ζ τ v0 v1 K (x1, s2) hx1 (s2.1 - τ.1) (s2.2.1 - τ.2.1) (Nat.add_sub_cancel' hle.1) (Nat.add_sub_cancel' hle.2)) (cwV 1 hts (lw_V q872 q874 qs13 q84 q875) rfl rfl rfl (by decide +kernel) ⟨Nat.le_of_ble_eq_true rfl, Nat.le_of_ble_eq_true rfl⟩) (z_preV hX hS hH (zob_o hf3) rfl) rfl rfl hl.1 rfl (lv_room (Nat.le_of_ble_eq_true rfl)) dX0_alter_170 ⟨hc1, hs1⟩) hS (fun q _ hq => hq) (fun q hq => hq) (fun u t H1 locs ht hvm hw hB hz hk hS => ?_)
      obtain ⟨-, hw2⟩ := Prod.mk.inj hw.symm; subst hw2
      have hH : zH D cA ζ s2 H1 := z_at ht.symm hB
      have hcs : s.heap.size + (cells + (s2.1 - τ.1)) = s2.1 := by omega
      have hss : sl0 + (slots + (s2.2.1 - τ.2.1)) = s2.2.1 := by omega
      replace hcM := And.intro hc1 hs1
      generalize cells + (s2.1 - τ.1) = cells at hcs hcM ⊢; generalize slots + (s2.2.1 - τ.2.1) = slots at hss hcM ⊢
      clear hB hk hz hvm ht hle hck hc1 hs1; generalize H1 = H at hH hS ⊢
      refine lv_lload hx hb dX0_alter_173 (lv_at hl 2 rfl) ?_
      refine lv_l2i hx hb dX0_alter_175 (rfl : _ = Int64.toInt32 v7) ?_
      refine lv_topi (fun x4 e_x4 => ?_)
      have hf := dz_ls e_x4 hf
      obtain ⟨hM1, hS1⟩ : cells = M ∧ slots = S := by have hq := congrArg Prod.snd (Option.some.inj hf); rw [← hq] at hM hS0; have hM : s.heap.size + M = s2.1 := hM; have hS0 : sl0 + S = s2.2.1 := hS0; omega
      refine W.widen (k := M) (n := S) (Nat.le_of_eq hM1) (Nat.le_of_eq hS1) ?_
      exact W.iret (v := x4) hx hb hr (fun t ht hW => ⟨⟨x4, s2, rfl, Option.some.inj hf, z_at ht hH⟩, hS.F ht⟩) hS.2.2 dX0_alter_176
set_option maxHeartbeats 4000000 in
set_option maxRecDepth 100000 in
theorem mtX0_alter (l : Launch) (D : va_G) (cA : Nat → ClassId) (ζ : pZ) (τ : pH) (h : Nat) (a0 : Int32) (a1 : Int32) (a2 : Int32) (a3 : Int32) (a4 : Int32) (K : Nat) (res : (Int32 × pH)) (hf : fnX0_alter K ζ h a0 a1 a2 a3 a4 τ = some res) (M S : Nat) (hM : τ.1 + M = res.2.1) (hS0 : τ.2.1 + S = res.2.2.1) : Met l yX0_alter (ws_ yX0_alter cX0_alter 9 (some .int)) ({ frames := 4, cells := M, slots := S, locals := 88 }) (zPc D cA ζ τ [.ref h, .int a0, .int a1, .int a2, .int a3, .int a4]) (zQi D cA ζ res) M S (zA ζ) := by
  refine Met.ofW (cc := cX0_alter) (maxL := 9) (ret := some .int) (by decide +kernel) rfl ?_
  intro p e s m args below meth c s₁ B hml hv
  obtain ⟨rfl, hX, hH⟩ := hv
  have hx := B.exec
  have hb := B.bytes
  have hr := B.returns
  have hts := atoms_spec (ws := ws_ yX0_alter cX0_alter 9 (some .int)) B.pre
  have hts : ∀ w ∈ lw_all, w.before _ s = true := fun w h => hts w (List.mem_cons_of_mem _ h)
  have hown : s.vm.findClass RX0 = some m.cls := findClass_of_methodNamed B.named
  have hlocks := B.notSynchronized
  have hM : s.heap.size + M = res.2.1 := by rw [hH.1]; exact hM
  have hcs : s.heap.size + 0 = τ.1 := hH.1
  have hss : τ.2.1 + 0 = τ.2.1 := rfl
  generalize hsl0 : τ.2.1 = sl0 at hS0 hss
  have hss : sl0 + 0 = τ.2.1 := by rw [hsl0]; rfl
  have hS : va_S (zA ζ) s.heap s.heap [] := va_S.rf
  generalize hHe : s.heap = H at hH hS ⊢
  have hS : va_S (zA ζ) s.heap H [] := by rw [hHe]; exact hS
  generalize ([] : List Loc) = locs at hS ⊢
  have hl := lv_entry ([.ref h, .int a0, .int a1, .int a2, .int a3, .int a4]) (n := 9) (Nat.le_of_ble_eq_true rfl)
  rw [lg_entry_eq]
  generalize (lg_sl ([.ref h, .int a0, .int a1, .int a2, .int a3, .int a4]) ++ List.replicate (9 - (lg_sl ([.ref h, .int a0, .int a1, .int a2, .int a3, .int a4])).length) Slot.unset).toArray = ls at hl ⊢
  have hl : lv_has ls 9 [(0, .ref h), (1, .int a0), (2, .int a1), (3, .int a2), (4, .int a3), (5, .int a4)] := hl
  have hf : (dz_b (zob ζ τ h 0) fun f3 => zcl τ (fnX0_rowOf K ζ h a0 a1 a2 τ) fun x1 s2 => dz_o x1 (fun y4 => if a1 = (0 : Int32) then (dz_b (fnX0_isIn K (Int32.toInt64 a3) 0 2) fun x5 => if x5 = (0 : Int32) then (some ((-1), s2)) else (if a3 = (0 : Int32) then (dz_b (fnX0_isNumber K (Int32.toInt64 a4)) fun x8 => if x8 = (0 : Int32) then (some ((-1), s2)) else ((lfX0_alter K ζ K).1 h a0 a3 a4 y4 s2)) else (if a3 = (1 : Int32) then (dz_b (fnX0_isIn K (Int32.toInt64 a4) 1 30) fun x7 => if x7 = (0 : Int32) then (some ((-1), s2)) else ((lfX0_alter K ζ K).1 h a0 a3 a4 y4 s2)) else (dz_b (fnX0_isIn K (Int32.toInt64 a4) 2 999) fun x6 => if x6 = (0 : Int32) then (some ((-1), s2)) else ((lfX0_alter K ζ K).1 h a0 a3 a4 y4 s2))))) else (dz_b (fnX0_isIn K (Int32.toInt64 a3) 0 1) fun x9 => if x9 = (0 : Int32) then (some ((-1), s2)) else (if a3 = (0 : Int32) then (dz_b (fnX0_isNumber K (Int32.toInt64 a4)) fun x12 => if x12 = (0 : Int32) then (some ((-1), s2)) else ((lfX0_alter K ζ K).1 h a0 a3 a4 y4 s2)) else (if a3 = (1 : Int32) then (dz_b (fnX0_isIn K (Int32.toInt64 a4) 1 30) fun x11 => if x11 = (0 : Int32) then (some ((-1), s2)) else ((lfX0_alter K ζ K).1 h a0 a3 a4 y4 s2)) else (dz_b (fnX0_isIn K (Int32.toInt64 a4) 2 999) fun x10 => if x10 = (0 : Int32) then (some ((-1), s2)) else ((lfX0_alter K ζ K).1 h a0 a3 a4 y4 s2)))))) (some ((-1), s2)) : Option (Int32 × pH)) = some res := hf
  refine z_gen (fun cells slots hc0 hs0 => ?_)
  have hcs : s.heap.size + cells = τ.1 := by rw [hc0]; exact hcs
  have hss : sl0 + slots = τ.2.1 := by rw [hs0]; exact hss
  have hcM : cells ≤ M ∧ slots ≤ S := by rw [hc0, hs0]; exact ⟨Nat.zero_le _, Nat.zero_le _⟩
  clear hc0 hs0
  have ih := wlX0_alter (l := l) (e := e) (below := below) (D := D) (cA := cA) hX K res M S sl0 hM hS0 h a0 a1 a2 a3 a4 hx hb hr hlocks hml hown hts K
  refine lv_aload_n hx hb dX0_alter_0 rfl (lv_at hl 0 rfl) ?_
  refine lv_iload_n hx hb dX0_alter_1 rfl (lv_at hl 1 rfl) ?_
  refine lv_iload_n hx hb dX0_alter_2 rfl (lv_at hl 2 rfl) ?_
  refine lv_iload_n hx hb dX0_alter_3 rfl (lv_at hl 3 rfl) ?_
  obtain ⟨f3, hf3, hf⟩ := dz_bo hf
  obtain ⟨x1, s2, hx1, hle, hck, hf⟩ := zcl_o hf
  have hc1 : cells + (s2.1 - τ.1) ≤ M := by omega
  have hs1 : slots + (s2.2.1 - τ.2.1) ≤ S := by omega
  refine va_callq (va_runV (As := [.int a0, .int a1, .int a2]) (rest := []) ⟨hx, hb, hml, hown, hts⟩ (mtX0_rowOf l D cA ζ τ h a0 a1 a2 K (x1, s2) hx1 (s2.1 - τ.1) (s2.2.1 - τ.2.1) (Nat.add_sub_cancel' hle.1) (Nat.add_sub_cancel' hle.2)) (cwV 3 hts (lw_V q1359 q1361 qs29 q84 q1362) rfl rfl rfl (by decide +kernel) ⟨Nat.le_of_ble_eq_true rfl, Nat.le_of_ble_eq_true rfl⟩) (z_preV hX hS hH (zob_o hf3) rfl) rfl rfl hl.1 rfl (lv_room (Nat.le_of_ble_eq_true rfl)) dX0_alter_4 ⟨hc1, hs1⟩) hS (fun q _ hq => hq) (fun q hq => hq) (fun r u t H1 locs ht hvm hw hB hz hk hS => ?_)
  obtain ⟨hw1, hw2⟩ := Prod.mk.inj hw.symm; subst hw1; subst hw2
  have hH : zH D cA ζ s2 H1 := z_at ht.symm hB
  have hcs : s.heap.size + (cells + (s2.1 - τ.1)) = s2.1 := by omega
  have hss : sl0 + (slots + (s2.2.1 - τ.2.1)) = s2.2.1 := by omega
  replace hcM := And.intro hc1 hs1
  generalize cells + (s2.1 - τ.1) = cells at hcs hcM ⊢; generalize slots + (s2.2.1 - τ.2.1) = slots at hss hcM ⊢
  clear hB hk hz hvm ht hle hck hc1 hs1; generalize H1 = H at hH hS ⊢
  refine dz_oc hf (fun y4 hq hf => ?_) (fun hq hf => ?_)
  · subst hq
    refine W.eq (g2 := F0 m 7 ls [.ref y4]) rfl ?_
    refine lv_astore (lv' := [(6, .ref y4), (0, .ref h), (1, .int a0), (2, .int a1), (3, .int a2), (4, .int a3), (5, .int a4)]) hx hb dX0_alter_7 hl (by decide) rfl (fun ls hl => ?_)
    refine lv_aload hx hb dX0_alter_9 (lv_at hl 0 rfl) ?_
    refine lv_ifnull hx hb dX0_alter_11 ?_
    refine lv_iload hx hb dX0_alter_14 (lv_at hl 5 rfl) ?_
    refine lv_i2l hx hb dX0_alter_16 (rfl : _ = Int32.toInt64 a3) ?_
    refine lv_lconst (v := 0) hx hb dX0_alter_17 rfl ?_
    refine lv_iload_n hx hb dX0_alter_18 rfl (lv_at hl 3 rfl) ?_
    refine lv_if_eq (tgt := 26) hx hb dX0_alter_19 (by decide) (fun c19 => ?_) (fun c19 => ?_)
    · have hf := dz_t c19 hf
      refine lv_ldc2 (v := 2) hx hb hown (hts _ q194) dX0_alter_26 ?_
      obtain ⟨x5, hx5, hf⟩ := dz_bo hf
      refine va_calli (va_runS (As := [.long (Int32.toInt64 a3), .long 0, .long 2]) (rest := []) ⟨hx, hb, hml, hown, hts⟩ (mtX0_isIn l (Int32.toInt64 a3) 0 2 K x5 hx5) (va_cwS 3 hts (lw_S q188 q189 q84 q190) rfl rfl rfl (by decide +kernel) ⟨Nat.le_of_ble_eq_true rfl, Nat.le_of_ble_eq_true rfl⟩) ⟨fun a U g mk q => q, fun U hU hW => ⟨rfl, trivial⟩⟩ rfl rfl hl.1 rfl (lv_room (Nat.le_of_ble_eq_true rfl)) dX0_alter_29 ⟨hcM.1, hcM.2⟩) hS (fun q _ hq => hq.elim) (fun q hq => hq.elim) (fun r u t H1 locs ht hvm hw hB hz hk hS => dz_size (fun hz9 => ?_))
      replace hw := hw.symm; subst hw
      replace hH := zH_keep hH hcs hz hk hz9
      clear hB hk hz hvm ht hz9; generalize H1 = H at hH hS ⊢
      refine W.widen (k := cells) (n := slots) (Nat.le_refl _) (Nat.le_refl _) ?_
      refine lv_if_ne (tgt := 37) hx hb dX0_alter_32 (by decide) (fun c32 => ?_) (fun c32 => ?_)
      · have hf := dz_f c32 hf
        refine lv_iload hx hb dX0_alter_37 (lv_at hl 5 rfl) ?_
        refine lv_if_ne (tgt := 54) hx hb dX0_alter_39 (by decide) (fun c39 => ?_) (fun c39 => ?_)
        · have hf := dz_f c39 hf
          refine lv_iload hx hb dX0_alter_54 (lv_at hl 5 rfl) ?_
          refine lv_iconst (v := 1) hx hb dX0_alter_56 (by decide) ?_
          refine lv_icmp_ne (tgt := 76) hx hb dX0_alter_57 (by decide) (fun c57 => ?_) (fun c57 => ?_)
          · have hf := dz_f c57 hf
            refine lv_iload hx hb dX0_alter_76 (lv_at hl 6 rfl) ?_
            refine lv_i2l hx hb dX0_alter_78 (rfl : _ = Int32.toInt64 a4) ?_
            refine lv_ldc2 (v := 2) hx hb hown (hts _ q194) dX0_alter_79 ?_
            refine lv_ldc2 (v := 999) hx hb hown (hts _ q1364) dX0_alter_82 ?_
            obtain ⟨x6, hx6, hf⟩ := dz_bo hf
            refine va_calli (va_runS (As := [.long (Int32.toInt64 a4), .long 2, .long 999]) (rest := []) ⟨hx, hb, hml, hown, hts⟩ (mtX0_isIn l (Int32.toInt64 a4) 2 999 K x6 hx6) (va_cwS 3 hts (lw_S q188 q189 q84 q190) rfl rfl rfl (by decide +kernel) ⟨Nat.le_of_ble_eq_true rfl, Nat.le_of_ble_eq_true rfl⟩) ⟨fun a U g mk q => q, fun U hU hW => ⟨rfl, trivial⟩⟩ rfl rfl hl.1 rfl (lv_room (Nat.le_of_ble_eq_true rfl)) dX0_alter_85 ⟨hcM.1, hcM.2⟩) hS (fun q _ hq => hq.elim) (fun q hq => hq.elim) (fun r u t H1 locs ht hvm hw hB hz hk hS => dz_size (fun hz9 => ?_))
            replace hw := hw.symm; subst hw
            replace hH := zH_keep hH hcs hz hk hz9
            clear hB hk hz hvm ht hz9; generalize H1 = H at hH hS ⊢
            refine W.widen (k := cells) (n := slots) (Nat.le_refl _) (Nat.le_refl _) ?_
            refine lv_if_ne (tgt := 93) hx hb dX0_alter_88 (by decide) (fun c88 => ?_) (fun c88 => ?_)
            · have hf := dz_f c88 hf
              exact ih.1 h a0 a3 a4 y4 s2 H locs cells slots hH hS hcs hss hcM ls (lv_sub hl [1, 2, 5, 6, 0] rfl) hf
            · have hf := dz_t c88 hf
              refine lv_iconst (v := (-1)) hx hb dX0_alter_91 (by decide) ?_
              obtain ⟨hM1, hS1⟩ : cells = M ∧ slots = S := by have hq := congrArg Prod.snd (Option.some.inj hf); rw [← hq] at hM hS0; have hM : s.heap.size + M = s2.1 := hM; have hS0 : sl0 + S = s2.2.1 := hS0; omega
              refine W.widen (k := M) (n := S) (Nat.le_of_eq hM1) (Nat.le_of_eq hS1) ?_
              exact W.iret (v := (-1)) hx hb hr (fun t ht hW => ⟨⟨(-1), s2, rfl, Option.some.inj hf, z_at ht hH⟩, hS.F ht⟩) hS.2.2 dX0_alter_92
          · have hf := dz_t c57 hf
            refine lv_iload hx hb dX0_alter_60 (lv_at hl 6 rfl) ?_
            refine lv_i2l hx hb dX0_alter_62 (rfl : _ = Int32.toInt64 a4) ?_
            refine lv_lconst (v := 1) hx hb dX0_alter_63 rfl ?_
            refine lv_ldc2 (v := 30) hx hb hown (hts _ q1363) dX0_alter_64 ?_
            obtain ⟨x7, hx7, hf⟩ := dz_bo hf
            refine va_calli (va_runS (As := [.long (Int32.toInt64 a4), .long 1, .long 30]) (rest := []) ⟨hx, hb, hml, hown, hts⟩ (mtX0_isIn l (Int32.toInt64 a4) 1 30 K x7 hx7) (va_cwS 3 hts (lw_S q188 q189 q84 q190) rfl rfl rfl (by decide +kernel) ⟨Nat.le_of_ble_eq_true rfl, Nat.le_of_ble_eq_true rfl⟩) ⟨fun a U g mk q => q, fun U hU hW => ⟨rfl, trivial⟩⟩ rfl rfl hl.1 rfl (lv_room (Nat.le_of_ble_eq_true rfl)) dX0_alter_67 ⟨hcM.1, hcM.2⟩) hS (fun q _ hq => hq.elim) (fun q hq => hq.elim) (fun r u t H1 locs ht hvm hw hB hz hk hS => dz_size (fun hz9 => ?_))
            replace hw := hw.symm; subst hw
            replace hH := zH_keep hH hcs hz hk hz9
            clear hB hk hz hvm ht hz9; generalize H1 = H at hH hS ⊢
            refine W.widen (k := cells) (n := slots) (Nat.le_refl _) (Nat.le_refl _) ?_
            refine lv_if_eq (tgt := 91) hx hb dX0_alter_70 (by decide) (fun c70 => ?_) (fun c70 => ?_)
            · have hf := dz_t c70 hf
              refine lv_iconst (v := (-1)) hx hb dX0_alter_91 (by decide) ?_
              obtain ⟨hM1, hS1⟩ : cells = M ∧ slots = S := by have hq := congrArg Prod.snd (Option.some.inj hf); rw [← hq] at hM hS0; have hM : s.heap.size + M = s2.1 := hM; have hS0 : sl0 + S = s2.2.1 := hS0; omega
              refine W.widen (k := M) (n := S) (Nat.le_of_eq hM1) (Nat.le_of_eq hS1) ?_
              exact W.iret (v := (-1)) hx hb hr (fun t ht hW => ⟨⟨(-1), s2, rfl, Option.some.inj hf, z_at ht hH⟩, hS.F ht⟩) hS.2.2 dX0_alter_92
            · have hf := dz_f c70 hf
              refine lv_goto (tgt := 93) hx hb dX0_alter_73 (by decide) ?_
              exact ih.1 h a0 a3 a4 y4 s2 H locs cells slots hH hS hcs hss hcM ls (lv_sub hl [1, 2, 5, 6, 0] rfl) hf
        · have hf := dz_t c39 hf
          refine lv_iload hx hb dX0_alter_42 (lv_at hl 6 rfl) ?_
          refine lv_i2l hx hb dX0_alter_44 (rfl : _ = Int32.toInt64 a4) ?_
          obtain ⟨x8, hx8, hf⟩ := dz_bo hf
          refine va_calli (va_runS (As := [.long (Int32.toInt64 a4)]) (rest := []) ⟨hx, hb, hml, hown, hts⟩ (mtX0_isNumber l (Int32.toInt64 a4) K x8 hx8) (va_cwS 1 hts (lw_S q191 q192 q84 q193) rfl rfl rfl (by decide +kernel) ⟨Nat.le_of_ble_eq_true rfl, Nat.le_of_ble_eq_true rfl⟩) ⟨fun a U g mk q => q, fun U hU hW => ⟨rfl, trivial⟩⟩ rfl rfl hl.1 rfl (lv_room (Nat.le_of_ble_eq_true rfl)) dX0_alter_45 ⟨hcM.1, hcM.2⟩) hS (fun q _ hq => hq.elim) (fun q hq => hq.elim) (fun r u t H1 locs ht hvm hw hB hz hk hS => dz_size (fun hz9 => ?_))
          replace hw := hw.symm; subst hw
          replace hH := zH_keep hH hcs hz hk hz9
          clear hB hk hz hvm ht hz9; generalize H1 = H at hH hS ⊢
          refine W.widen (k := cells) (n := slots) (Nat.le_refl _) (Nat.le_refl _) ?_
          refine lv_if_eq (tgt := 91) hx hb dX0_alter_48 (by decide) (fun c48 => ?_) (fun c48 => ?_)
          · have hf := dz_t c48 hf
            refine lv_iconst (v := (-1)) hx hb dX0_alter_91 (by decide) ?_
            obtain ⟨hM1, hS1⟩ : cells = M ∧ slots = S := by have hq := congrArg Prod.snd (Option.some.inj hf); rw [← hq] at hM hS0; have hM : s.heap.size + M = s2.1 := hM; have hS0 : sl0 + S = s2.2.1 := hS0; omega
            refine W.widen (k := M) (n := S) (Nat.le_of_eq hM1) (Nat.le_of_eq hS1) ?_
            exact W.iret (v := (-1)) hx hb hr (fun t ht hW => ⟨⟨(-1), s2, rfl, Option.some.inj hf, z_at ht hH⟩, hS.F ht⟩) hS.2.2 dX0_alter_92
          · have hf := dz_f c48 hf
            refine lv_goto (tgt := 93) hx hb dX0_alter_51 (by decide) ?_
            exact ih.1 h a0 a3 a4 y4 s2 H locs cells slots hH hS hcs hss hcM ls (lv_sub hl [1, 2, 5, 6, 0] rfl) hf
      · have hf := dz_t c32 hf
        refine lv_iconst (v := (-1)) hx hb dX0_alter_35 (by decide) ?_
        obtain ⟨hM1, hS1⟩ : cells = M ∧ slots = S := by have hq := congrArg Prod.snd (Option.some.inj hf); rw [← hq] at hM hS0; have hM : s.heap.size + M = s2.1 := hM; have hS0 : sl0 + S = s2.2.1 := hS0; omega
        refine W.widen (k := M) (n := S) (Nat.le_of_eq hM1) (Nat.le_of_eq hS1) ?_
        exact W.iret (v := (-1)) hx hb hr (fun t ht hW => ⟨⟨(-1), s2, rfl, Option.some.inj hf, z_at ht hH⟩, hS.F ht⟩) hS.2.2 dX0_alter_36
    · have hf := dz_f c19 hf
      refine lv_lconst (v := 1) hx hb dX0_alter_22 rfl ?_
      refine lv_goto (tgt := 29) hx hb dX0_alter_23 (by decide) ?_
      obtain ⟨x9, hx9, hf⟩ := dz_bo hf
      refine va_calli (va_runS (As := [.long (Int32.toInt64 a3), .long 0, .long 1]) (rest := []) ⟨hx, hb, hml, hown, hts⟩ (mtX0_isIn l (Int32.toInt64 a3) 0 1 K x9 hx9) (va_cwS 3 hts (lw_S q188 q189 q84 q190) rfl rfl rfl (by decide +kernel) ⟨Nat.le_of_ble_eq_true rfl, Nat.le_of_ble_eq_true rfl⟩) ⟨fun a U g mk q => q, fun U hU hW => ⟨rfl, trivial⟩⟩ rfl rfl hl.1 rfl (lv_room (Nat.le_of_ble_eq_true rfl)) dX0_alter_29 ⟨hcM.1, hcM.2⟩) hS (fun q _ hq => hq.elim) (fun q hq => hq.elim) (fun r u t H1 locs ht hvm hw hB hz hk hS => dz_size (fun hz9 => ?_))
      replace hw := hw.symm; subst hw
      replace hH := zH_keep hH hcs hz hk hz9
      clear hB hk hz hvm ht hz9; generalize H1 = H at hH hS ⊢
      refine W.widen (k := cells) (n := slots) (Nat.le_refl _) (Nat.le_refl _) ?_
      refine lv_if_ne (tgt := 37) hx hb dX0_alter_32 (by decide) (fun c32 => ?_) (fun c32 => ?_)
      · have hf := dz_f c32 hf
        refine lv_iload hx hb dX0_alter_37 (lv_at hl 5 rfl) ?_
        refine lv_if_ne (tgt := 54) hx hb dX0_alter_39 (by decide) (fun c39 => ?_) (fun c39 => ?_)
        · have hf := dz_f c39 hf
          refine lv_iload hx hb dX0_alter_54 (lv_at hl 5 rfl) ?_
          refine lv_iconst (v := 1) hx hb dX0_alter_56 (by decide) ?_
          refine lv_icmp_ne (tgt := 76) hx hb dX0_alter_57 (by decide) (fun c57 => ?_) (fun c57 => ?_)
          · have hf := dz_f c57 hf
            refine lv_iload hx hb dX0_alter_76 (lv_at hl 6 rfl) ?_
            refine lv_i2l hx hb dX0_alter_78 (rfl : _ = Int32.toInt64 a4) ?_
            refine lv_ldc2 (v := 2) hx hb hown (hts _ q194) dX0_alter_79 ?_
            refine lv_ldc2 (v := 999) hx hb hown (hts _ q1364) dX0_alter_82 ?_
            obtain ⟨x10, hx10, hf⟩ := dz_bo hf
            refine va_calli (va_runS (As := [.long (Int32.toInt64 a4), .long 2, .long 999]) (rest := []) ⟨hx, hb, hml, hown, hts⟩ (mtX0_isIn l (Int32.toInt64 a4) 2 999 K x10 hx10) (va_cwS 3 hts (lw_S q188 q189 q84 q190) rfl rfl rfl (by decide +kernel) ⟨Nat.le_of_ble_eq_true rfl, Nat.le_of_ble_eq_true rfl⟩) ⟨fun a U g mk q => q, fun U hU hW => ⟨rfl, trivial⟩⟩ rfl rfl hl.1 rfl (lv_room (Nat.le_of_ble_eq_true rfl)) dX0_alter_85 ⟨hcM.1, hcM.2⟩) hS (fun q _ hq => hq.elim) (fun q hq => hq.elim) (fun r u t H1 locs ht hvm hw hB hz hk hS => dz_size (fun hz9 => ?_))
            replace hw := hw.symm; subst hw
            replace hH := zH_keep hH hcs hz hk hz9
            clear hB hk hz hvm ht hz9; generalize H1 = H at hH hS ⊢
            refine W.widen (k := cells) (n := slots) (Nat.le_refl _) (Nat.le_refl _) ?_
            refine lv_if_ne (tgt := 93) hx hb dX0_alter_88 (by decide) (fun c88 => ?_) (fun c88 => ?_)
            · have hf := dz_f c88 hf
              exact ih.1 h a0 a3 a4 y4 s2 H locs cells slots hH hS hcs hss hcM ls (lv_sub hl [1, 2, 5, 6, 0] rfl) hf
            · have hf := dz_t c88 hf
              refine lv_iconst (v := (-1)) hx hb dX0_alter_91 (by decide) ?_
              obtain ⟨hM1, hS1⟩ : cells = M ∧ slots = S := by have hq := congrArg Prod.snd (Option.some.inj hf); rw [← hq] at hM hS0; have hM : s.heap.size + M = s2.1 := hM; have hS0 : sl0 + S = s2.2.1 := hS0; omega
              refine W.widen (k := M) (n := S) (Nat.le_of_eq hM1) (Nat.le_of_eq hS1) ?_
              exact W.iret (v := (-1)) hx hb hr (fun t ht hW => ⟨⟨(-1), s2, rfl, Option.some.inj hf, z_at ht hH⟩, hS.F ht⟩) hS.2.2 dX0_alter_92
          · have hf := dz_t c57 hf
            refine lv_iload hx hb dX0_alter_60 (lv_at hl 6 rfl) ?_
            refine lv_i2l hx hb dX0_alter_62 (rfl : _ = Int32.toInt64 a4) ?_
            refine lv_lconst (v := 1) hx hb dX0_alter_63 rfl ?_
            refine lv_ldc2 (v := 30) hx hb hown (hts _ q1363) dX0_alter_64 ?_
            obtain ⟨x11, hx11, hf⟩ := dz_bo hf
            refine va_calli (va_runS (As := [.long (Int32.toInt64 a4), .long 1, .long 30]) (rest := []) ⟨hx, hb, hml, hown, hts⟩ (mtX0_isIn l (Int32.toInt64 a4) 1 30 K x11 hx11) (va_cwS 3 hts (lw_S q188 q189 q84 q190) rfl rfl rfl (by decide +kernel) ⟨Nat.le_of_ble_eq_true rfl, Nat.le_of_ble_eq_true rfl⟩) ⟨fun a U g mk q => q, fun U hU hW => ⟨rfl, trivial⟩⟩ rfl rfl hl.1 rfl (lv_room (Nat.le_of_ble_eq_true rfl)) dX0_alter_67 ⟨hcM.1, hcM.2⟩) hS (fun q _ hq => hq.elim) (fun q hq => hq.elim) (fun r u t H1 locs ht hvm hw hB hz hk hS => dz_size (fun hz9 => ?_))
            replace hw := hw.symm; subst hw
            replace hH := zH_keep hH hcs hz hk hz9
            clear hB hk hz hvm ht hz9; generalize H1 = H at hH hS ⊢
            refine W.widen (k := cells) (n := slots) (Nat.le_refl _) (Nat.le_refl _) ?_
            refine lv_if_eq (tgt := 91) hx hb dX0_alter_70 (by decide) (fun c70 => ?_) (fun c70 => ?_)
            · have hf := dz_t c70 hf
              refine lv_iconst (v := (-1)) hx hb dX0_alter_91 (by decide) ?_
              obtain ⟨hM1, hS1⟩ : cells = M ∧ slots = S := by have hq := congrArg Prod.snd (Option.some.inj hf); rw [← hq] at hM hS0; have hM : s.heap.size + M = s2.1 := hM; have hS0 : sl0 + S = s2.2.1 := hS0; omega
              refine W.widen (k := M) (n := S) (Nat.le_of_eq hM1) (Nat.le_of_eq hS1) ?_
              exact W.iret (v := (-1)) hx hb hr (fun t ht hW => ⟨⟨(-1), s2, rfl, Option.some.inj hf, z_at ht hH⟩, hS.F ht⟩) hS.2.2 dX0_alter_92
            · have hf := dz_f c70 hf
              refine lv_goto (tgt := 93) hx hb dX0_alter_73 (by decide) ?_
              exact ih.1 h a0 a3 a4 y4 s2 H locs cells slots hH hS hcs hss hcM ls (lv_sub hl [1, 2, 5, 6, 0] rfl) hf
        · have hf := dz_t c39 hf
          refine lv_iload hx hb dX0_alter_42 (lv_at hl 6 rfl) ?_
          refine lv_i2l hx hb dX0_alter_44 (rfl : _ = Int32.toInt64 a4) ?_
          obtain ⟨x12, hx12, hf⟩ := dz_bo hf
          refine va_calli (va_runS (As := [.long (Int32.toInt64 a4)]) (rest := []) ⟨hx, hb, hml, hown, hts⟩ (mtX0_isNumber l (Int32.toInt64 a4) K x12 hx12) (va_cwS 1 hts (lw_S q191 q192 q84 q193) rfl rfl rfl (by decide +kernel) ⟨Nat.le_of_ble_eq_true rfl, Nat.le_of_ble_eq_true rfl⟩) ⟨fun a U g mk q => q, fun U hU hW => ⟨rfl, trivial⟩⟩ rfl rfl hl.1 rfl (lv_room (Nat.le_of_ble_eq_true rfl)) dX0_alter_45 ⟨hcM.1, hcM.2⟩) hS (fun q _ hq => hq.elim) (fun q hq => hq.elim) (fun r u t H1 locs ht hvm hw hB hz hk hS => dz_size (fun hz9 => ?_))
          replace hw := hw.symm; subst hw
          replace hH := zH_keep hH hcs hz hk hz9
          clear hB hk hz hvm ht hz9; generalize H1 = H at hH hS ⊢
          refine W.widen (k := cells) (n := slots) (Nat.le_refl _) (Nat.le_refl _) ?_
          refine lv_if_eq (tgt := 91) hx hb dX0_alter_48 (by decide) (fun c48 => ?_) (fun c48 => ?_)
          · have hf := dz_t c48 hf
            refine lv_iconst (v := (-1)) hx hb dX0_alter_91 (by decide) ?_
            obtain ⟨hM1, hS1⟩ : cells = M ∧ slots = S := by have hq := congrArg Prod.snd (Option.some.inj hf); rw [← hq] at hM hS0; have hM : s.heap.size + M = s2.1 := hM; have hS0 : sl0 + S = s2.2.1 := hS0; omega
            refine W.widen (k := M) (n := S) (Nat.le_of_eq hM1) (Nat.le_of_eq hS1) ?_
            exact W.iret (v := (-1)) hx hb hr (fun t ht hW => ⟨⟨(-1), s2, rfl, Option.some.inj hf, z_at ht hH⟩, hS.F ht⟩) hS.2.2 dX0_alter_92
          · have hf := dz_f c48 hf
            refine lv_goto (tgt := 93) hx hb dX0_alter_51 (by decide) ?_
            exact ih.1 h a0 a3 a4 y4 s2 H locs cells slots hH hS hcs hss hcM ls (lv_sub hl [1, 2, 5, 6, 0] rfl) hf
      · have hf := dz_t c32 hf
        refine lv_iconst (v := (-1)) hx hb dX0_alter_35 (by decide) ?_
        obtain ⟨hM1, hS1⟩ : cells = M ∧ slots = S := by have hq := congrArg Prod.snd (Option.some.inj hf); rw [← hq] at hM hS0; have hM : s.heap.size + M = s2.1 := hM; have hS0 : sl0 + S = s2.2.1 := hS0; omega
        refine W.widen (k := M) (n := S) (Nat.le_of_eq hM1) (Nat.le_of_eq hS1) ?_
        exact W.iret (v := (-1)) hx hb hr (fun t ht hW => ⟨⟨(-1), s2, rfl, Option.some.inj hf, z_at ht hH⟩, hS.F ht⟩) hS.2.2 dX0_alter_36
  · subst hq
    refine W.eq (g2 := F0 m 7 ls [.null]) rfl ?_
    refine lv_astoreN (lv' := [(6, .null), (0, .ref h), (1, .int a0), (2, .int a1), (3, .int a2), (4, .int a3), (5, .int a4)]) hx hb dX0_alter_7 hl (by decide) rfl (fun ls hl => ?_)
    refine lv_aloadN hx hb dX0_alter_9 (lv_at hl 0 rfl) ?_
    refine lv_ifnullN (tgt := 35) hx hb dX0_alter_11 (by decide) ?_
    refine lv_iconst (v := (-1)) hx hb dX0_alter_35 (by decide) ?_
    obtain ⟨hM1, hS1⟩ : cells = M ∧ slots = S := by have hq := congrArg Prod.snd (Option.some.inj hf); rw [← hq] at hM hS0; have hM : s.heap.size + M = s2.1 := hM; have hS0 : sl0 + S = s2.2.1 := hS0; omega
    refine W.widen (k := M) (n := S) (Nat.le_of_eq hM1) (Nat.le_of_eq hS1) ?_
    exact W.iret (v := (-1)) hx hb hr (fun t ht hW => ⟨⟨(-1), s2, rfl, Option.some.inj hf, z_at ht hH⟩, hS.F ht⟩) hS.2.2 dX0_alter_36

