noncomputable def lfX12_lays (K : Nat) (ζ : pZ) : Nat → (Nat → Nat → Nat → Int32 → Int32 → Int32 → pH → Option (Unit × pH)) × (Nat → Nat → Nat → Int32 → Int32 → Int32 → pH → Option (Unit × pH)) × (Nat → Nat → Nat → Int32 → Int32 → Int32 → pH → Option (Unit × pH)) × (Nat → Nat → Nat → Int32 → Int32 → Int32 → pH → Option (Unit × pH)) × (Nat → Nat → Nat → Int32 → Int32 → Int32 → pH → Option (Unit × pH)) := Nat.rec (motive := fun _ => (Nat → Nat → Nat → Int32 → Int32 → Int32 → pH → Option (Unit × pH)) × (Nat → Nat → Nat → Int32 → Int32 → Int32 → pH → Option (Unit × pH)) × (Nat → Nat → Nat → Int32 → Int32 → Int32 → pH → Option (Unit × pH)) × (Nat → Nat → Nat → Int32 → Int32 → Int32 → pH → Option (Unit × pH)) × (Nat → Nat → Nat → Int32 → Int32 → Int32 → pH → Option (Unit × pH))) ((fun _ _ _ _ _ _ _ => none), (fun _ _ _ _ _ _ _ => none), (fun _ _ _ _ _ _ _ => none), (fun _ _ _ _ _ _ _ => none), (fun _ _ _ _ _ _ _ => none)) (fun _ G => ((fun v0 v1 v2 v3 v4 v5 τ => if (0 : Int32) ≤ v3 then (G.2.1 v0 v1 v2 v3 v4 v5 τ) else (if v4 < (0 : Int32) then (some ((), τ)) else (G.2.1 v0 v1 v2 v3 v4 v5 τ))), (fun v0 v1 v2 v3 v4 v5 τ => dz_b (zob ζ τ v0 9) fun f3 => zcl τ (fnX12_isEnough K ζ v0 τ) fun x1 s2 => if x1 = (0 : Int32) then (if v3 < (0 : Int32) then (G.2.2.2.1 v0 v1 v2 v3 v4 v5 s2) else (if v5 = (0 : Int32) then (if (0 : Int32) ≤ v4 then (G.2.2.2.1 v0 v1 v2 v3 v4 v5 s2) else (G.2.2.1 v0 v1 v2 v3 v4 v5 s2)) else (G.2.2.1 v0 v1 v2 v3 v4 v5 s2))) else (some ((), s2))), (fun v0 v1 v2 v3 v4 v5 τ => dz_b (zob ζ τ v0 9) fun f1 => dz_b (zvr (f1[4]?)) fun x2 => dz_b (zob ζ τ v1 10) fun f3 => dz_b (zvr (f3[0]?)) fun x4 => dz_c (zaq ζ τ x4 5) fun n5 f6 => if ¬ (v3 < 0 ∨ n5 ≤ Int32.toNatClampNeg v3) then (dz_b (f6 (Int32.toNatClampNeg v3)) fun x8 => dz_b (zob ζ τ x2 10) fun f11 => zcl τ (fnX8_adds K ζ x2 x8 τ) fun x9 s10 => dz_l (v3 + (-1)) fun x12 => G.2.2.2.2 v0 v1 v2 x12 v4 v5 s10) else none), (fun v0 v1 v2 v3 v4 v5 τ => dz_b (zob ζ τ v0 9) fun f1 => dz_b (zvr (f1[5]?)) fun x2 => dz_b (zob ζ τ v2 10) fun f3 => dz_b (zvr (f3[0]?)) fun x4 => dz_c (zaq ζ τ x4 5) fun n5 f6 => if ¬ (v4 < 0 ∨ n5 ≤ Int32.toNatClampNeg v4) then (dz_b (f6 (Int32.toNatClampNeg v4)) fun x8 => dz_b (zob ζ τ x2 10) fun f11 => zcl τ (fnX8_adds K ζ x2 x8 τ) fun x9 s10 => dz_l (v4 + (-1)) fun x12 => G.2.2.2.2 v0 v1 v2 v3 x12 v5 s10) else none), (fun v0 v1 v2 v3 v4 v5 τ => if v5 = (0 : Int32) then (G.1 v0 v1 v2 v3 v4 1 τ) else (G.1 v0 v1 v2 v3 v4 0 τ))))
noncomputable def fnX12_lays (K : Nat) (ζ : pZ) (h : Nat) (τ : pH) : Option (Unit × pH) := dz_b (zob ζ τ h 9) fun f1 => dz_b (zvl (f1[0]?)) fun x2 => zcl τ (fnX0_factors K ζ (x2 - 1) τ) fun x3 s4 => dz_b (zob ζ s4 h 9) fun f5 => dz_b (zvl (f5[0]?)) fun x6 => zcl s4 (fnX0_factors K ζ (x6 + 1) s4) fun x7 s8 => dz_b (zob ζ s8 x3 10) fun f9 => dz_b (zvi (f9[1]?)) fun x10 => dz_l (x10 - 1) fun x11 => dz_b (zob ζ s8 x7 10) fun f12 => dz_b (zvi (f12[1]?)) fun x13 => dz_l (x13 - 1) fun x14 => (lfX12_lays K ζ K).1 h x3 x7 x11 x14 1 s8
set_option maxHeartbeats 4000000 in
set_option maxRecDepth 100000 in
theorem wlX12_lays {p : Program} {l : Launch} {e : Env} {s : State} {m : MethodId} {below : List Frame} {meth : Method} {c : Code} {D : va_G} {cA : Nat → ClassId} {ζ : pZ} (hX : zX D cA ζ s) (K : Nat) (res : (Unit × pH)) (M S sl0 : Nat) (hM : s.heap.size + M = res.2.1) (hS0 : sl0 + S = res.2.2.1) (h : Nat) (hx : p.tables.exec = Jvm.exec) (hb : c.code = cX12_lays) (hr : meth.sig.returnType = none) (hlocks : meth.locks = false) (hml : c.maxLocals = 6) (hown : s.vm.findClass RX12 = some m.cls) (hts : ∀ w ∈ lw_all, w.before ([.ref h] : List Value).toArray s = true) : ∀ k : Nat, (∀ (v0 : Nat) (v1 : Nat) (v2 : Nat) (v3 : Int32) (v4 : Int32) (v5 : Int32) (τ : pH) (H : Heap) (locs : List Loc) (cells slots : Nat), zH D cA ζ τ H → va_S (zA ζ) s.heap H locs → s.heap.size + cells = τ.1 → sl0 + slots = τ.2.1 → cells ≤ M ∧ slots ≤ S → ∀ (ls : Array Slot), lv_has ls 6 [(0, .ref v0), (1, .ref v1), (2, .ref v2), (3, .int v3), (4, .int v4), (5, .int v5)] → (lfX12_lays K ζ k).1 v0 v1 v2 v3 v4 v5 τ = some res → W p l e (headSpec (ws_ yX12_lays cX12_lays 6 (none)) ({ frames := 102, cells := M, slots := S, locals := 2351 })).room s m ([.ref h] : List Value).toArray below meth c H locs cells slots (MQ below (zQv D cA ζ res) ([.ref h] : List Value).toArray s M S (zA ζ)) (F0 m 38 ls [])) ∧ (∀ (v0 : Nat) (v1 : Nat) (v2 : Nat) (v3 : Int32) (v4 : Int32) (v5 : Int32) (τ : pH) (H : Heap) (locs : List Loc) (cells slots : Nat), zH D cA ζ τ H → va_S (zA ζ) s.heap H locs → s.heap.size + cells = τ.1 → sl0 + slots = τ.2.1 → cells ≤ M ∧ slots ≤ S → ∀ (ls : Array Slot), lv_has ls 6 [(0, .ref v0), (1, .ref v1), (2, .ref v2), (3, .int v3), (4, .int v4), (5, .int v5)] → (lfX12_lays K ζ k).2.1 v0 v1 v2 v3 v4 v5 τ = some res → W p l e (headSpec (ws_ yX12_lays cX12_lays 6 (none)) ({ frames := 102, cells := M, slots := S, locals := 2351 })).room s m ([.ref h] : List Value).toArray below meth c H locs cells slots (MQ below (zQv D cA ζ res) ([.ref h] : List Value).toArray s M S (zA ζ)) (F0 m 47 ls [])) ∧ (∀ (v0 : Nat) (v1 : Nat) (v2 : Nat) (v3 : Int32) (v4 : Int32) (v5 : Int32) (τ : pH) (H : Heap) (locs : List Loc) (cells slots : Nat), zH D cA ζ τ H → va_S (zA ζ) s.heap H locs → s.heap.size + cells = τ.1 → sl0 + slots = τ.2.1 → cells ≤ M ∧ slots ≤ S → ∀ (ls : Array Slot), lv_has ls 6 [(0, .ref v0), (1, .ref v1), (2, .ref v2), (3, .int v3), (4, .int v4), (5, .int v5)] → (lfX12_lays K ζ k).2.2.1 v0 v1 v2 v3 v4 v5 τ = some res → W p l e (headSpec (ws_ yX12_lays cX12_lays 6 (none)) ({ frames := 102, cells := M, slots := S, locals := 2351 })).room s m ([.ref h] : List Value).toArray below meth c H locs cells slots (MQ below (zQv D cA ζ res) ([.ref h] : List Value).toArray s M S (zA ζ)) (F0 m 68 ls [])) ∧ (∀ (v0 : Nat) (v1 : Nat) (v2 : Nat) (v3 : Int32) (v4 : Int32) (v5 : Int32) (τ : pH) (H : Heap) (locs : List Loc) (cells slots : Nat), zH D cA ζ τ H → va_S (zA ζ) s.heap H locs → s.heap.size + cells = τ.1 → sl0 + slots = τ.2.1 → cells ≤ M ∧ slots ≤ S → ∀ (ls : Array Slot), lv_has ls 6 [(0, .ref v0), (1, .ref v1), (2, .ref v2), (3, .int v3), (4, .int v4), (5, .int v5)] → (lfX12_lays K ζ k).2.2.2.1 v0 v1 v2 v3 v4 v5 τ = some res → W p l e (headSpec (ws_ yX12_lays cX12_lays 6 (none)) ({ frames := 102, cells := M, slots := S, locals := 2351 })).room s m ([.ref h] : List Value).toArray below meth c H locs cells slots (MQ below (zQv D cA ζ res) ([.ref h] : List Value).toArray s M S (zA ζ)) (F0 m 88 ls [])) ∧ (∀ (v0 : Nat) (v1 : Nat) (v2 : Nat) (v3 : Int32) (v4 : Int32) (v5 : Int32) (τ : pH) (H : Heap) (locs : List Loc) (cells slots : Nat), zH D cA ζ τ H → va_S (zA ζ) s.heap H locs → s.heap.size + cells = τ.1 → sl0 + slots = τ.2.1 → cells ≤ M ∧ slots ≤ S → ∀ (ls : Array Slot), lv_has ls 6 [(0, .ref v0), (1, .ref v1), (2, .ref v2), (3, .int v3), (4, .int v4), (5, .int v5)] → (lfX12_lays K ζ k).2.2.2.2 v0 v1 v2 v3 v4 v5 τ = some res → W p l e (headSpec (ws_ yX12_lays cX12_lays 6 (none)) ({ frames := 102, cells := M, slots := S, locals := 2351 })).room s m ([.ref h] : List Value).toArray below meth c H locs cells slots (MQ below (zQv D cA ζ res) ([.ref h] : List Value).toArray s M S (zA ζ)) (F0 m 106 ls [])) := by
  intro k
  induction k with
  | zero =>
    exact ⟨fun _ _ _ _ _ _ _ _ _ _ _ _ _ _ _ _ _ _ hf => (by cases hf), fun _ _ _ _ _ _ _ _ _ _ _ _ _ _ _ _ _ _ hf => (by cases hf), fun _ _ _ _ _ _ _ _ _ _ _ _ _ _ _ _ _ _ hf => (by cases hf), fun _ _ _ _ _ _ _ _ _ _ _ _ _ _ _ _ _ _ hf => (by cases hf), fun _ _ _ _ _ _ _ _ _ _ _ _ _ _ _ _ _ _ hf => (by cases hf)⟩
  | succ k ih =>
    refine ⟨?_, ?_, ?_, ?_, ?_⟩
    · intro v0 v1 v2 v3 v4 v5 τ H locs cells slots hH hS hcs hss hcM ls hl hf
      have hf : (if (0 : Int32) ≤ v3 then ((lfX12_lays K ζ k).2.1 v0 v1 v2 v3 v4 v5 τ) else (if v4 < (0 : Int32) then (some ((), τ)) else ((lfX12_lays K ζ k).2.1 v0 v1 v2 v3 v4 v5 τ)) : Option (Unit × pH)) = some res := hf
      refine lv_iload_n hx hb dX12_lays_38 rfl (lv_at hl 3 rfl) ?_
      refine lv_if_ge (tgt := 47) hx hb dX12_lays_39 (by decide) (fun c39 => ?_) (fun c39 => ?_)
      · have hf := dz_t c39 hf
        exact ih.2.1 v0 v1 v2 v3 v4 v5 τ H locs cells slots hH hS hcs hss hcM ls (lv_sub hl [0, 1, 2, 3, 4, 5] rfl) hf
      · have hf := dz_f c39 hf
        refine lv_iload hx hb dX12_lays_42 (lv_at hl 4 rfl) ?_
        refine lv_if_lt (tgt := 121) hx hb dX12_lays_44 (by decide) (fun c44 => ?_) (fun c44 => ?_)
        · have hf := dz_t c44 hf
          obtain ⟨hM1, hS1⟩ : cells = M ∧ slots = S := by have hq := congrArg Prod.snd (Option.some.inj hf); rw [← hq] at hM hS0; have hM : s.heap.size + M = τ.1 := hM; have hS0 : sl0 + S = τ.2.1 := hS0; omega
          refine W.widen (k := M) (n := S) (Nat.le_of_eq hM1) (Nat.le_of_eq hS1) ?_
          exact W.vret hx hb hr (fun t ht hW => ⟨⟨τ, rfl, Option.some.inj hf, z_at ht hH⟩, hS.F ht⟩) hS.2.2 dX12_lays_121
        · have hf := dz_f c44 hf
          exact ih.2.1 v0 v1 v2 v3 v4 v5 τ H locs cells slots hH hS hcs hss hcM ls (lv_sub hl [0, 1, 2, 3, 4, 5] rfl) hf
    · intro v0 v1 v2 v3 v4 v5 τ H locs cells slots hH hS hcs hss hcM ls hl hf
      have hf : (dz_b (zob ζ τ v0 9) fun f3 => zcl τ (fnX12_isEnough K ζ v0 τ) fun x1 s2 => if x1 = (0 : Int32) then (if v3 < (0 : Int32) then ((lfX12_lays K ζ k).2.2.2.1 v0 v1 v2 v3 v4 v5 s2) else (if v5 = (0 : Int32) then (if (0 : Int32) ≤ v4 then ((lfX12_lays K ζ k).2.2.2.1 v0 v1 v2 v3 v4 v5 s2) else ((lfX12_lays K ζ k).2.2.1 v0 v1 v2 v3 v4 v5 s2)) else ((lfX12_lays K ζ k).2.2.1 v0 v1 v2 v3 v4 v5 s2))) else (some ((), s2)) : Option (Unit × pH)) = some res := hf
      refine lv_aload_n hx hb dX12_lays_47 rfl (lv_at hl 0 rfl) ?_
      obtain ⟨f3, hf3, hf⟩ := dz_bo hf
      obtain ⟨x1, s2, hx1, hle, hck, hf⟩ := zcl_o hf
      have hc1 : cells + (s2.1 - τ.1) ≤ M := by omega
      have hs1 : slots + (s2.2.1 - τ.2.1) ≤ S := by omega
      refine va_calli (va_runV (As := []) (rest := []) ⟨hx, hb, hml, hown, hts⟩ (mtX12_isEnough l D cA ζ τ v0 K (x1, s2) hx1 (s2.1 - τ.1) (s2.2.1 - τ.2.1) (Nat.add_sub_cancel' hle.1) (Nat.add_sub_cancel' hle.2)) (cwV 0 hts (lw_V q705 q344 q2200 q102 q345) rfl rfl rfl (by decide +kernel) ⟨Nat.le_of_ble_eq_true rfl, Nat.le_of_ble_eq_true rfl⟩) (z_preV hX hS hH (zob_o hf3) rfl) rfl rfl hl.1 rfl (lv_room (Nat.le_of_ble_eq_true rfl)) dX12_lays_48 ⟨hc1, hs1⟩) hS (fun q _ hq => hq) (fun q hq => hq) (fun r u t H1 locs ht hvm hw hB hz hk hS => ?_)
      obtain ⟨hw1, hw2⟩ := Prod.mk.inj hw.symm; subst hw1; subst hw2
      have hH : zH D cA ζ s2 H1 := z_at ht.symm hB
      have hcs : s.heap.size + (cells + (s2.1 - τ.1)) = s2.1 := by omega
      have hss : sl0 + (slots + (s2.2.1 - τ.2.1)) = s2.2.1 := by omega
      replace hcM := And.intro hc1 hs1
      generalize cells + (s2.1 - τ.1) = cells at hcs hcM ⊢; generalize slots + (s2.2.1 - τ.2.1) = slots at hss hcM ⊢
      clear hB hk hz hvm ht hle hck hc1 hs1; generalize H1 = H at hH hS ⊢
      refine lv_if_ne (tgt := 121) hx hb dX12_lays_51 (by decide) (fun c51 => ?_) (fun c51 => ?_)
      · have hf := dz_f c51 hf
        obtain ⟨hM1, hS1⟩ : cells = M ∧ slots = S := by have hq := congrArg Prod.snd (Option.some.inj hf); rw [← hq] at hM hS0; have hM : s.heap.size + M = s2.1 := hM; have hS0 : sl0 + S = s2.2.1 := hS0; omega
        refine W.widen (k := M) (n := S) (Nat.le_of_eq hM1) (Nat.le_of_eq hS1) ?_
        exact W.vret hx hb hr (fun t ht hW => ⟨⟨s2, rfl, Option.some.inj hf, z_at ht hH⟩, hS.F ht⟩) hS.2.2 dX12_lays_121
      · have hf := dz_t c51 hf
        refine lv_iload_n hx hb dX12_lays_54 rfl (lv_at hl 3 rfl) ?_
        refine lv_if_lt (tgt := 88) hx hb dX12_lays_55 (by decide) (fun c55 => ?_) (fun c55 => ?_)
        · have hf := dz_t c55 hf
          exact ih.2.2.2.1 v0 v1 v2 v3 v4 v5 s2 H locs cells slots hH hS hcs hss hcM ls (lv_sub hl [0, 1, 2, 3, 4, 5] rfl) hf
        · have hf := dz_f c55 hf
          refine lv_iload hx hb dX12_lays_58 (lv_at hl 5 rfl) ?_
          refine lv_if_ne (tgt := 68) hx hb dX12_lays_60 (by decide) (fun c60 => ?_) (fun c60 => ?_)
          · have hf := dz_f c60 hf
            exact ih.2.2.1 v0 v1 v2 v3 v4 v5 s2 H locs cells slots hH hS hcs hss hcM ls (lv_sub hl [0, 1, 2, 3, 4, 5] rfl) hf
          · have hf := dz_t c60 hf
            refine lv_iload hx hb dX12_lays_63 (lv_at hl 4 rfl) ?_
            refine lv_if_ge (tgt := 88) hx hb dX12_lays_65 (by decide) (fun c65 => ?_) (fun c65 => ?_)
            · have hf := dz_t c65 hf
              exact ih.2.2.2.1 v0 v1 v2 v3 v4 v5 s2 H locs cells slots hH hS hcs hss hcM ls (lv_sub hl [0, 1, 2, 3, 4, 5] rfl) hf
            · have hf := dz_f c65 hf
              exact ih.2.2.1 v0 v1 v2 v3 v4 v5 s2 H locs cells slots hH hS hcs hss hcM ls (lv_sub hl [0, 1, 2, 3, 4, 5] rfl) hf
    · intro v0 v1 v2 v3 v4 v5 τ H locs cells slots hH hS hcs hss hcM ls hl hf
      have hf : (dz_b (zob ζ τ v0 9) fun f1 => dz_b (zvr (f1[4]?)) fun x2 => dz_b (zob ζ τ v1 10) fun f3 => dz_b (zvr (f3[0]?)) fun x4 => dz_c (zaq ζ τ x4 5) fun n5 f6 => if ¬ (v3 < 0 ∨ n5 ≤ Int32.toNatClampNeg v3) then (dz_b (f6 (Int32.toNatClampNeg v3)) fun x8 => dz_b (zob ζ τ x2 10) fun f11 => zcl τ (fnX8_adds K ζ x2 x8 τ) fun x9 s10 => dz_l (v3 + (-1)) fun x12 => (lfX12_lays K ζ k).2.2.2.2 v0 v1 v2 x12 v4 v5 s10) else none : Option (Unit × pH)) = some res := hf
      refine lv_aload_n hx hb dX12_lays_68 rfl (lv_at hl 0 rfl) ?_
      obtain ⟨f1, hf1, hf⟩ := dz_bo hf
      obtain ⟨x2, hx2, hf⟩ := dz_bo hf
      refine va_get (C := RX12) (T := TX12) (N := 8) hx hb hts in_X12 hown hX.K (zrd_P hX hS hH (zob_o hf1)) 0 rfl rfl 4 (by decide) (hts _ q553) (fun x hq => u_same (hts _ q554) x hq) (zvr_o hx2) dX12_lays_69 ?_
      refine lv_aload_n hx hb dX12_lays_72 rfl (lv_at hl 1 rfl) ?_
      obtain ⟨f3, hf3, hf⟩ := dz_bo hf
      obtain ⟨x4, hx4, hf⟩ := dz_bo hf
      refine va_getN (C := RX8) (T := TX8) (N := 2) hx hb hts in_X8 hown hX.K (zrd_P hX hS hH (zob_o hf3)) 0 rfl rfl 0 (by decide) ((hX.N q518 rfl).use rfl) (fun _ hq => hq) (zvr_o hx4) dX12_lays_73 ?_
      refine lv_iload_n hx hb dX12_lays_76 rfl (lv_at hl 3 rfl) ?_
      obtain ⟨n5, f6, hn5, hf⟩ := dz_co hf
      obtain ⟨g7, hf⟩ := dz_go hf
      obtain ⟨x8, hx8, hf⟩ := dz_bo hf
      refine va_aldq hx hb hX.K (zrd_P hX hS hH (zaq_o hn5)) 0 5 rfl rfl g7 dX12_lays_77 ?_
      rw [hx8]
      refine W.eq (g2 := F0 m 78 ls (.ref x8 :: [.ref x2])) rfl ?_
      obtain ⟨f11, hf11, hf⟩ := dz_bo hf
      obtain ⟨x9, s10, hx9, hle, hck, hf⟩ := zcl_o hf
      have hc1 : cells + (s10.1 - τ.1) ≤ M := by omega
      have hs1 : slots + (s10.2.1 - τ.2.1) ≤ S := by omega
      refine va_callr (va_runV (As := [.ref x8]) (rest := []) ⟨hx, hb, hml, hown, hts⟩ (mtX8_adds l D cA ζ τ x2 x8 K (x9, s10) hx9 (s10.1 - τ.1) (s10.2.1 - τ.2.1) (Nat.add_sub_cancel' hle.1) (Nat.add_sub_cancel' hle.2)) (cwV 1 hts (lw_V q706 q702 q703 q98 q704) rfl rfl rfl (by decide +kernel) ⟨Nat.le_of_ble_eq_true rfl, Nat.le_of_ble_eq_true rfl⟩) (z_preV hX hS hH (zob_o hf11) rfl) rfl rfl hl.1 rfl (lv_room (Nat.le_of_ble_eq_true rfl)) dX12_lays_78 ⟨hc1, hs1⟩) hS (fun q _ hq => hq) (fun q hq => hq) (fun u r t H1 locs ht hvm hw hB hz hk hS => ?_)
      obtain ⟨hw, hB⟩ := hB
      obtain ⟨hw1, hw2⟩ := Prod.mk.inj hw.symm; subst hw1; subst hw2
      have hH : zH D cA ζ s10 H1 := z_at ht.symm hB
      have hcs : s.heap.size + (cells + (s10.1 - τ.1)) = s10.1 := by omega
      have hss : sl0 + (slots + (s10.2.1 - τ.2.1)) = s10.2.1 := by omega
      replace hcM := And.intro hc1 hs1
      generalize cells + (s10.1 - τ.1) = cells at hcs hcM ⊢; generalize slots + (s10.2.1 - τ.2.1) = slots at hss hcM ⊢
      clear hB hk hz hvm ht hle hck hc1 hs1; generalize H1 = H at hH hS ⊢
      refine lv_pop hx hb dX12_lays_81 rfl ?_
      obtain ⟨x12, e_x12, hf⟩ := dz_lo hf
      refine lv_iinc (v := x12) (lv' := [(3, .int x12), (0, .ref v0), (1, .ref v1), (2, .ref v2), (4, .int v4), (5, .int v5)]) hx hb dX12_lays_82 hl (k := 3) rfl (by rw [e_x12]; rfl) (by decide) rfl (fun ls hl => ?_)
      refine lv_goto (tgt := 106) hx hb dX12_lays_85 (by decide) ?_
      exact ih.2.2.2.2 v0 v1 v2 x12 v4 v5 s10 H locs cells slots hH hS hcs hss hcM ls (lv_sub hl [1, 2, 3, 0, 4, 5] rfl) hf
    · intro v0 v1 v2 v3 v4 v5 τ H locs cells slots hH hS hcs hss hcM ls hl hf
      have hf : (dz_b (zob ζ τ v0 9) fun f1 => dz_b (zvr (f1[5]?)) fun x2 => dz_b (zob ζ τ v2 10) fun f3 => dz_b (zvr (f3[0]?)) fun x4 => dz_c (zaq ζ τ x4 5) fun n5 f6 => if ¬ (v4 < 0 ∨ n5 ≤ Int32.toNatClampNeg v4) then (dz_b (f6 (Int32.toNatClampNeg v4)) fun x8 => dz_b (zob ζ τ x2 10) fun f11 => zcl τ (fnX8_adds K ζ x2 x8 τ) fun x9 s10 => dz_l (v4 + (-1)) fun x12 => (lfX12_lays K ζ k).2.2.2.2 v0 v1 v2 v3 x12 v5 s10) else none : Option (Unit × pH)) = some res := hf
      refine lv_aload_n hx hb dX12_lays_88 rfl (lv_at hl 0 rfl) ?_
      obtain ⟨f1, hf1, hf⟩ := dz_bo hf
      obtain ⟨x2, hx2, hf⟩ := dz_bo hf
      refine va_get (C := RX12) (T := TX12) (N := 8) hx hb hts in_X12 hown hX.K (zrd_P hX hS hH (zob_o hf1)) 0 rfl rfl 5 (by decide) (hts _ q562) (fun x hq => u_same (hts _ q563) x hq) (zvr_o hx2) dX12_lays_89 ?_
      refine lv_aload_n hx hb dX12_lays_92 rfl (lv_at hl 2 rfl) ?_
      obtain ⟨f3, hf3, hf⟩ := dz_bo hf
      obtain ⟨x4, hx4, hf⟩ := dz_bo hf
      refine va_getN (C := RX8) (T := TX8) (N := 2) hx hb hts in_X8 hown hX.K (zrd_P hX hS hH (zob_o hf3)) 0 rfl rfl 0 (by decide) ((hX.N q518 rfl).use rfl) (fun _ hq => hq) (zvr_o hx4) dX12_lays_93 ?_
      refine lv_iload hx hb dX12_lays_96 (lv_at hl 4 rfl) ?_
      obtain ⟨n5, f6, hn5, hf⟩ := dz_co hf
      obtain ⟨g7, hf⟩ := dz_go hf
      obtain ⟨x8, hx8, hf⟩ := dz_bo hf
      refine va_aldq hx hb hX.K (zrd_P hX hS hH (zaq_o hn5)) 0 5 rfl rfl g7 dX12_lays_98 ?_
      rw [hx8]
      refine W.eq (g2 := F0 m 99 ls (.ref x8 :: [.ref x2])) rfl ?_
      obtain ⟨f11, hf11, hf⟩ := dz_bo hf
      obtain ⟨x9, s10, hx9, hle, hck, hf⟩ := zcl_o hf
      have hc1 : cells + (s10.1 - τ.1) ≤ M := by omega
      have hs1 : slots + (s10.2.1 - τ.2.1) ≤ S := by omega
      refine va_callr (va_runV (As := [.ref x8]) (rest := []) ⟨hx, hb, hml, hown, hts⟩ (mtX8_adds l D cA ζ τ x2 x8 K (x9, s10) hx9 (s10.1 - τ.1) (s10.2.1 - τ.2.1) (Nat.add_sub_cancel' hle.1) (Nat.add_sub_cancel' hle.2)) (cwV 1 hts (lw_V q706 q702 q703 q98 q704) rfl rfl rfl (by decide +kernel) ⟨Nat.le_of_ble_eq_true rfl, Nat.le_of_ble_eq_true rfl⟩) (z_preV hX hS hH (zob_o hf11) rfl) rfl rfl hl.1 rfl (lv_room (Nat.le_of_ble_eq_true rfl)) dX12_lays_99 ⟨hc1, hs1⟩) hS (fun q _ hq => hq) (fun q hq => hq) (fun u r t H1 locs ht hvm hw hB hz hk hS => ?_)
      obtain ⟨hw, hB⟩ := hB
      obtain ⟨hw1, hw2⟩ := Prod.mk.inj hw.symm; subst hw1; subst hw2
      have hH : zH D cA ζ s10 H1 := z_at ht.symm hB
      have hcs : s.heap.size + (cells + (s10.1 - τ.1)) = s10.1 := by omega
      have hss : sl0 + (slots + (s10.2.1 - τ.2.1)) = s10.2.1 := by omega
      replace hcM := And.intro hc1 hs1
      generalize cells + (s10.1 - τ.1) = cells at hcs hcM ⊢; generalize slots + (s10.2.1 - τ.2.1) = slots at hss hcM ⊢
      clear hB hk hz hvm ht hle hck hc1 hs1; generalize H1 = H at hH hS ⊢
      refine lv_pop hx hb dX12_lays_102 rfl ?_
      obtain ⟨x12, e_x12, hf⟩ := dz_lo hf
      refine lv_iinc (v := x12) (lv' := [(4, .int x12), (0, .ref v0), (1, .ref v1), (2, .ref v2), (3, .int v3), (5, .int v5)]) hx hb dX12_lays_103 hl (k := 4) rfl (by rw [e_x12]; rfl) (by decide) rfl (fun ls hl => ?_)
      exact ih.2.2.2.2 v0 v1 v2 v3 x12 v5 s10 H locs cells slots hH hS hcs hss hcM ls (lv_sub hl [1, 2, 3, 4, 0, 5] rfl) hf
    · intro v0 v1 v2 v3 v4 v5 τ H locs cells slots hH hS hcs hss hcM ls hl hf
      have hf : (if v5 = (0 : Int32) then ((lfX12_lays K ζ k).1 v0 v1 v2 v3 v4 1 τ) else ((lfX12_lays K ζ k).1 v0 v1 v2 v3 v4 0 τ) : Option (Unit × pH)) = some res := hf
      refine lv_iload hx hb dX12_lays_106 (lv_at hl 5 rfl) ?_
      refine lv_if_ne (tgt := 115) hx hb dX12_lays_108 (by decide) (fun c108 => ?_) (fun c108 => ?_)
      · have hf := dz_f c108 hf
        refine lv_iconst (v := 0) hx hb dX12_lays_115 (by decide) ?_
        refine lv_istore (lv' := [(5, .int 0), (0, .ref v0), (1, .ref v1), (2, .ref v2), (3, .int v3), (4, .int v4)]) hx hb dX12_lays_116 hl (by decide) rfl (fun ls hl => ?_)
        refine lv_goto (tgt := 38) hx hb dX12_lays_118 (by decide) ?_
        exact ih.1 v0 v1 v2 v3 v4 0 τ H locs cells slots hH hS hcs hss hcM ls (lv_sub hl [1, 2, 3, 4, 5, 0] rfl) hf
      · have hf := dz_t c108 hf
        refine lv_iconst (v := 1) hx hb dX12_lays_111 (by decide) ?_
        refine lv_goto (tgt := 116) hx hb dX12_lays_112 (by decide) ?_
        refine lv_istore (lv' := [(5, .int 1), (0, .ref v0), (1, .ref v1), (2, .ref v2), (3, .int v3), (4, .int v4)]) hx hb dX12_lays_116 hl (by decide) rfl (fun ls hl => ?_)
        refine lv_goto (tgt := 38) hx hb dX12_lays_118 (by decide) ?_
        exact ih.1 v0 v1 v2 v3 v4 1 τ H locs cells slots hH hS hcs hss hcM ls (lv_sub hl [1, 2, 3, 4, 5, 0] rfl) hf
set_option maxHeartbeats 4000000 in
set_option maxRecDepth 100000 in
theorem mtX12_lays (l : Launch) (D : va_G) (cA : Nat → ClassId) (ζ : pZ) (τ : pH) (h : Nat) (K : Nat) (res : (Unit × pH)) (hf : fnX12_lays K ζ h τ = some res) (M S : Nat) (hM : τ.1 + M = res.2.1) (hS0 : τ.2.1 + S = res.2.2.1) : Met l yX12_lays (ws_ yX12_lays cX12_lays 6 (none)) ({ frames := 102, cells := M, slots := S, locals := 2351 }) (zPc D cA ζ τ [.ref h]) (zQv D cA ζ res) M S (zA ζ) := by
  refine Met.ofW (cc := cX12_lays) (maxL := 6) (ret := none) (by decide +kernel) rfl ?_
  intro p e s m args below meth c s₁ B hml hv
  obtain ⟨rfl, hX, hH⟩ := hv
  have hx := B.exec
  have hb := B.bytes
  have hr := B.returns
  have hts := atoms_spec (ws := ws_ yX12_lays cX12_lays 6 (none)) B.pre
  have hts : ∀ w ∈ lw_all, w.before _ s = true := fun w h => hts w (List.mem_cons_of_mem _ h)
  have hown : s.vm.findClass RX12 = some m.cls := findClass_of_methodNamed B.named
  have hlocks := B.notSynchronized
  have hM : s.heap.size + M = res.2.1 := by rw [hH.1]; exact hM
  have hcs : s.heap.size + 0 = τ.1 := hH.1
  have hss : τ.2.1 + 0 = τ.2.1 := rfl
  generalize hsl0 : τ.2.1 = sl0 at hS0 hss
  have hss : sl0 + 0 = τ.2.1 := by rw [hsl0]; rfl
  have hS : va_S (zA ζ) s.heap s.heap [] := va_S.rf
  generalize hHe : s.heap = H at hH hS ⊢
  have hS : va_S (zA ζ) s.heap H [] := by rw [hHe]; exact hS
  generalize ([] : List Loc) = locs at hS ⊢
  have hl := lv_entry ([.ref h]) (n := 6) (Nat.le_of_ble_eq_true rfl)
  rw [lg_entry_eq]
  generalize (lg_sl ([.ref h]) ++ List.replicate (6 - (lg_sl ([.ref h])).length) Slot.unset).toArray = ls at hl ⊢
  have hl : lv_has ls 6 [(0, .ref h)] := hl
  have hf : (dz_b (zob ζ τ h 9) fun f1 => dz_b (zvl (f1[0]?)) fun x2 => zcl τ (fnX0_factors K ζ (x2 - 1) τ) fun x3 s4 => dz_b (zob ζ s4 h 9) fun f5 => dz_b (zvl (f5[0]?)) fun x6 => zcl s4 (fnX0_factors K ζ (x6 + 1) s4) fun x7 s8 => dz_b (zob ζ s8 x3 10) fun f9 => dz_b (zvi (f9[1]?)) fun x10 => dz_l (x10 - 1) fun x11 => dz_b (zob ζ s8 x7 10) fun f12 => dz_b (zvi (f12[1]?)) fun x13 => dz_l (x13 - 1) fun x14 => (lfX12_lays K ζ K).1 h x3 x7 x11 x14 1 s8 : Option (Unit × pH)) = some res := hf
  refine z_gen (fun cells slots hc0 hs0 => ?_)
  have hcs : s.heap.size + cells = τ.1 := by rw [hc0]; exact hcs
  have hss : sl0 + slots = τ.2.1 := by rw [hs0]; exact hss
  have hcM : cells ≤ M ∧ slots ≤ S := by rw [hc0, hs0]; exact ⟨Nat.zero_le _, Nat.zero_le _⟩
  clear hc0 hs0
  have ih := wlX12_lays (l := l) (e := e) (below := below) (D := D) (cA := cA) hX K res M S sl0 hM hS0 h hx hb hr hlocks hml hown hts K
  refine lv_aload_n hx hb dX12_lays_0 rfl (lv_at hl 0 rfl) ?_
  obtain ⟨f1, hf1, hf⟩ := dz_bo hf
  obtain ⟨x2, hx2, hf⟩ := dz_bo hf
  refine va_get (C := RX12) (T := TX12) (N := 8) hx hb hts in_X12 hown hX.K (zrd_P hX hS hH (zob_o hf1)) 0 rfl rfl 0 (by decide) (hts _ q533) (fun x hq => u_same (hts _ q534) x hq) (zvl_o hx2) dX12_lays_1 ?_
  refine lv_lconst (v := 1) hx hb dX12_lays_4 rfl ?_
  refine lv_lsub hx hb dX12_lays_5 ?_
  obtain ⟨x3, s4, hx3, hle, hck, hf⟩ := zcl_o hf
  have hc1 : cells + (s4.1 - τ.1) ≤ M := by omega
  have hs1 : slots + (s4.2.1 - τ.2.1) ≤ S := by omega
  refine va_callr (va_runSN (As := [.long (x2 - 1)]) (rest := []) ⟨hx, hb, hml, hown, hts⟩ (mtX0_factors l D cA ζ τ (x2 - 1) K (x3, s4) hx3 (s4.1 - τ.1) (s4.2.1 - τ.2.1) (Nat.add_sub_cancel' hle.1) (Nat.add_sub_cancel' hle.2)) ⟨va_cnB 1 hts (lw_meth q674) rfl rfl rfl (hX.N q672 rfl) (hts _ q84) (by decide +kernel) ⟨Nat.le_of_ble_eq_true rfl, Nat.le_of_ble_eq_true rfl⟩, hts _ q673, trivial⟩ (z_preS hX hS hH) rfl rfl hl.1 rfl (lv_room (Nat.le_of_ble_eq_true rfl)) dX12_lays_6 ⟨hc1, hs1⟩) hS (fun q _ hq => hq) (fun q hq => hq) (fun u r t H1 locs ht hvm hw hB hz hk hS => ?_)
  obtain ⟨hw, hB⟩ := hB
  obtain ⟨hw1, hw2⟩ := Prod.mk.inj hw.symm; subst hw1; subst hw2
  have hH : zH D cA ζ s4 H1 := z_at ht.symm hB
  have hcs : s.heap.size + (cells + (s4.1 - τ.1)) = s4.1 := by omega
  have hss : sl0 + (slots + (s4.2.1 - τ.2.1)) = s4.2.1 := by omega
  replace hcM := And.intro hc1 hs1
  generalize cells + (s4.1 - τ.1) = cells at hcs hcM ⊢; generalize slots + (s4.2.1 - τ.2.1) = slots at hss hcM ⊢
  clear hB hk hz hvm ht hle hck hc1 hs1; generalize H1 = H at hH hS ⊢
  refine lv_astore_n (lv' := [(1, .ref x3), (0, .ref h)]) hx hb dX12_lays_9 rfl hl (by decide) rfl (fun ls hl => ?_)
  refine lv_aload_n hx hb dX12_lays_10 rfl (lv_at hl 1 rfl) ?_
  obtain ⟨f5, hf5, hf⟩ := dz_bo hf
  obtain ⟨x6, hx6, hf⟩ := dz_bo hf
  refine va_get (C := RX12) (T := TX12) (N := 8) hx hb hts in_X12 hown hX.K (zrd_P hX hS hH (zob_o hf5)) 0 rfl rfl 0 (by decide) (hts _ q533) (fun x hq => u_same (hts _ q534) x hq) (zvl_o hx6) dX12_lays_11 ?_
  refine lv_lconst (v := 1) hx hb dX12_lays_14 rfl ?_
  refine lv_ladd hx hb dX12_lays_15 ?_
  obtain ⟨x7, s8, hx7, hle, hck, hf⟩ := zcl_o hf
  have hc1 : cells + (s8.1 - s4.1) ≤ M := by omega
  have hs1 : slots + (s8.2.1 - s4.2.1) ≤ S := by omega
  refine va_callr (va_runSN (As := [.long (x6 + 1)]) (rest := []) ⟨hx, hb, hml, hown, hts⟩ (mtX0_factors l D cA ζ s4 (x6 + 1) K (x7, s8) hx7 (s8.1 - s4.1) (s8.2.1 - s4.2.1) (Nat.add_sub_cancel' hle.1) (Nat.add_sub_cancel' hle.2)) ⟨va_cnB 1 hts (lw_meth q674) rfl rfl rfl (hX.N q672 rfl) (hts _ q84) (by decide +kernel) ⟨Nat.le_of_ble_eq_true rfl, Nat.le_of_ble_eq_true rfl⟩, hts _ q673, trivial⟩ (z_preS hX hS hH) rfl rfl hl.1 rfl (lv_room (Nat.le_of_ble_eq_true rfl)) dX12_lays_16 ⟨hc1, hs1⟩) hS (fun q _ hq => hq) (fun q hq => hq) (fun u r t H1 locs ht hvm hw hB hz hk hS => ?_)
  obtain ⟨hw, hB⟩ := hB
  obtain ⟨hw1, hw2⟩ := Prod.mk.inj hw.symm; subst hw1; subst hw2
  have hH : zH D cA ζ s8 H1 := z_at ht.symm hB
  have hcs : s.heap.size + (cells + (s8.1 - s4.1)) = s8.1 := by omega
  have hss : sl0 + (slots + (s8.2.1 - s4.2.1)) = s8.2.1 := by omega
  replace hcM := And.intro hc1 hs1
  generalize cells + (s8.1 - s4.1) = cells at hcs hcM ⊢; generalize slots + (s8.2.1 - s4.2.1) = slots at hss hcM ⊢
  clear hB hk hz hvm ht hle hck hc1 hs1; generalize H1 = H at hH hS ⊢
  refine lv_astore_n (lv' := [(2, .ref x7), (1, .ref x3), (0, .ref h)]) hx hb dX12_lays_19 rfl hl (by decide) rfl (fun ls hl => ?_)
  refine lv_aload_n hx hb dX12_lays_20 rfl (lv_at hl 1 rfl) ?_
  obtain ⟨f9, hf9, hf⟩ := dz_bo hf
  obtain ⟨x10, hx10, hf⟩ := dz_bo hf
  refine va_getN (C := RX8) (T := TX8) (N := 2) hx hb hts in_X8 hown hX.K (zrd_P hX hS hH (zob_o hf9)) 0 rfl rfl 1 (by decide) ((hX.N q523 rfl).use rfl) (fun _ hq => hq) (zvi_o hx10) dX12_lays_21 ?_
  refine lv_iconst (v := 1) hx hb dX12_lays_24 (by decide) ?_
  refine lv_isub hx hb dX12_lays_25 ?_
  refine lv_topi (fun x11 e_x11 => ?_)
  have hf := dz_ls e_x11 hf
  refine lv_istore_n (lv' := [(3, .int x11), (2, .ref x7), (1, .ref x3), (0, .ref h)]) hx hb dX12_lays_26 rfl hl (by decide) rfl (fun ls hl => ?_)
  refine lv_aload_n hx hb dX12_lays_27 rfl (lv_at hl 1 rfl) ?_
  obtain ⟨f12, hf12, hf⟩ := dz_bo hf
  obtain ⟨x13, hx13, hf⟩ := dz_bo hf
  refine va_getN (C := RX8) (T := TX8) (N := 2) hx hb hts in_X8 hown hX.K (zrd_P hX hS hH (zob_o hf12)) 0 rfl rfl 1 (by decide) ((hX.N q523 rfl).use rfl) (fun _ hq => hq) (zvi_o hx13) dX12_lays_28 ?_
  refine lv_iconst (v := 1) hx hb dX12_lays_31 (by decide) ?_
  refine lv_isub hx hb dX12_lays_32 ?_
  refine lv_topi (fun x14 e_x14 => ?_)
  have hf := dz_ls e_x14 hf
  refine lv_istore (lv' := [(4, .int x14), (3, .int x11), (2, .ref x7), (1, .ref x3), (0, .ref h)]) hx hb dX12_lays_33 hl (by decide) rfl (fun ls hl => ?_)
  refine lv_iconst (v := 1) hx hb dX12_lays_35 (by decide) ?_
  refine lv_istore (lv' := [(5, .int 1), (4, .int x14), (3, .int x11), (2, .ref x7), (1, .ref x3), (0, .ref h)]) hx hb dX12_lays_36 hl (by decide) rfl (fun ls hl => ?_)
  exact ih.1 h x3 x7 x11 x14 1 s8 H locs cells slots hH hS hcs hss hcM ls (lv_sub hl [5, 4, 3, 2, 1, 0] rfl) hf

noncomputable def fnL_lays (K : Nat) (ζ : pZ) (h : Nat)  (τ : pH) : Option (Unit × pH) := dz_b (zoL ζ τ h) fun q => if q.1 = 5 then fnX7_lays K ζ h  τ else (if q.1 = 6 then fnX9_lays K ζ h  τ else (if q.1 = 7 then fnX10_lays K ζ h  τ else (if q.1 = 8 then fnX11_lays K ζ h  τ else (if q.1 = 9 then fnX12_lays K ζ h  τ else (none)))))
theorem L_lays_o {K : Nat} {ζ : pZ} {h : Nat}  {τ : pH} {r : (Unit × pH)} (hf : fnL_lays K ζ h  τ = some r) : (∃ fs, zrd ζ τ h = some (.inr (5, fs)) ∧ fnX7_lays K ζ h  τ = some r) ∨ (∃ fs, zrd ζ τ h = some (.inr (6, fs)) ∧ fnX9_lays K ζ h  τ = some r) ∨ (∃ fs, zrd ζ τ h = some (.inr (7, fs)) ∧ fnX10_lays K ζ h  τ = some r) ∨ (∃ fs, zrd ζ τ h = some (.inr (8, fs)) ∧ fnX11_lays K ζ h  τ = some r) ∨ (∃ fs, zrd ζ τ h = some (.inr (9, fs)) ∧ fnX12_lays K ζ h  τ = some r) := by
  obtain ⟨⟨ci, fs⟩, hq, hf⟩ := dz_bo hf
  obtain ⟨hr, hc⟩ := zoL_o hq
  rcases z5 hc with rfl | rfl | rfl | rfl | rfl
  · exact Or.inl ⟨fs, hr, hf⟩
  · exact Or.inr (Or.inl ⟨fs, hr, hf⟩)
  · exact Or.inr (Or.inr (Or.inl ⟨fs, hr, hf⟩))
  · exact Or.inr (Or.inr (Or.inr (Or.inl ⟨fs, hr, hf⟩)))
  · exact Or.inr (Or.inr (Or.inr (Or.inr ⟨fs, hr, hf⟩)))

noncomputable def fnX0_needs (K : Nat) (ζ : pZ) (h : Nat) (a0 : Int32) (a1 : Int32) (τ : pH) : Option (Int32 × pH) := dz_b (fnX0_isIn K (Int32.toInt64 a1) 1 4) fun x1 => if x1 = (0 : Int32) then (some ((-1), τ)) else (dz_b (fnX0_isNumber K (Int32.toInt64 a0)) fun x2 => if x2 = (0 : Int32) then (some ((-1), τ)) else (dz_b (fnX0_canBe K (Int32.toInt64 a0) a1) fun x3 => if x3 = (0 : Int32) then (some ((-2), τ)) else (dz_b (zob ζ τ h 0) fun f6 => zcl τ (fnX0_made K ζ h (Int32.toInt64 a0) a1 τ) fun x4 s5 => zcl s5 (fnL_lays K ζ x4 s5) fun _ s8 => dz_c (zoL ζ s8 x4) fun cf9 f9 => dz_b (zvr (f9[4]?)) fun x10 => dz_b (zob ζ s8 x10 10) fun f11 => dz_b (zvi (f11[1]?)) fun x12 => dz_c (zoL ζ s8 x4) fun cf13 f13 => dz_b (zvr (f13[5]?)) fun x14 => dz_b (zob ζ s8 x14 10) fun f15 => dz_b (zvi (f15[1]?)) fun x16 => dz_l ((10 * x12) + x16) fun x17 => some (x17, s8))))
set_option maxHeartbeats 4000000 in
set_option maxRecDepth 100000 in
theorem mtX0_needs (l : Launch) (D : va_G) (cA : Nat → ClassId) (ζ : pZ) (τ : pH) (h : Nat) (a0 : Int32) (a1 : Int32) (K : Nat) (res : (Int32 × pH)) (hf : fnX0_needs K ζ h a0 a1 τ = some res) (M S : Nat) (hM : τ.1 + M = res.2.1) (hS0 : τ.2.1 + S = res.2.2.1) : Met l yX0_needs (ws_ yX0_needs cX0_needs 4 (some .int)) ({ frames := 103, cells := M, slots := S, locals := 2376 }) (zPc D cA ζ τ [.ref h, .int a0, .int a1]) (zQi D cA ζ res) M S (zA ζ) := by
  refine Met.ofW (cc := cX0_needs) (maxL := 4) (ret := some .int) (by decide +kernel) rfl ?_
  intro p e s m args below meth c s₁ B hml hv
  obtain ⟨rfl, hX, hH⟩ := hv
  have hx := B.exec
  have hb := B.bytes
  have hr := B.returns
  have hts := atoms_spec (ws := ws_ yX0_needs cX0_needs 4 (some .int)) B.pre
  have hts : ∀ w ∈ lw_all, w.before _ s = true := fun w h => hts w (List.mem_cons_of_mem _ h)
  have hown : s.vm.findClass RX0 = some m.cls := findClass_of_methodNamed B.named
  have hlocks := B.notSynchronized
  have hM : s.heap.size + M = res.2.1 := by rw [hH.1]; exact hM
  have hcs : s.heap.size + 0 = τ.1 := hH.1
  have hss : τ.2.1 + 0 = τ.2.1 := rfl
  generalize hsl0 : τ.2.1 = sl0 at hS0 hss
  have hss : sl0 + 0 = τ.2.1 := by rw [hsl0]; rfl
  have hS : va_S (zA ζ) s.heap s.heap [] := va_S.rf
  generalize hHe : s.heap = H at hH hS ⊢
  have hS : va_S (zA ζ) s.heap H [] := by rw [hHe]; exact hS
  generalize ([] : List Loc) = locs at hS ⊢
  have hl := lv_entry ([.ref h, .int a0, .int a1]) (n := 4) (Nat.le_of_ble_eq_true rfl)
  rw [lg_entry_eq]
  generalize (lg_sl ([.ref h, .int a0, .int a1]) ++ List.replicate (4 - (lg_sl ([.ref h, .int a0, .int a1])).length) Slot.unset).toArray = ls at hl ⊢
  have hl : lv_has ls 4 [(0, .ref h), (1, .int a0), (2, .int a1)] := hl
  have hf : (dz_b (fnX0_isIn K (Int32.toInt64 a1) 1 4) fun x1 => if x1 = (0 : Int32) then (some ((-1), τ)) else (dz_b (fnX0_isNumber K (Int32.toInt64 a0)) fun x2 => if x2 = (0 : Int32) then (some ((-1), τ)) else (dz_b (fnX0_canBe K (Int32.toInt64 a0) a1) fun x3 => if x3 = (0 : Int32) then (some ((-2), τ)) else (dz_b (zob ζ τ h 0) fun f6 => zcl τ (fnX0_made K ζ h (Int32.toInt64 a0) a1 τ) fun x4 s5 => zcl s5 (fnL_lays K ζ x4 s5) fun _ s8 => dz_c (zoL ζ s8 x4) fun cf9 f9 => dz_b (zvr (f9[4]?)) fun x10 => dz_b (zob ζ s8 x10 10) fun f11 => dz_b (zvi (f11[1]?)) fun x12 => dz_c (zoL ζ s8 x4) fun cf13 f13 => dz_b (zvr (f13[5]?)) fun x14 => dz_b (zob ζ s8 x14 10) fun f15 => dz_b (zvi (f15[1]?)) fun x16 => dz_l ((10 * x12) + x16) fun x17 => some (x17, s8)))) : Option (Int32 × pH)) = some res := hf
  refine z_gen (fun cells slots hc0 hs0 => ?_)
  have hcs : s.heap.size + cells = τ.1 := by rw [hc0]; exact hcs
  have hss : sl0 + slots = τ.2.1 := by rw [hs0]; exact hss
  have hcM : cells ≤ M ∧ slots ≤ S := by rw [hc0, hs0]; exact ⟨Nat.zero_le _, Nat.zero_le _⟩
  clear hc0 hs0
  refine lv_iload_n hx hb dX0_needs_0 rfl (lv_at hl 2 rfl) ?_
  refine lv_i2l hx hb dX0_needs_1 (rfl : _ = Int32.toInt64 a1) ?_
  refine lv_lconst (v := 1) hx hb dX0_needs_2 rfl ?_
  refine lv_ldc2 (v := 4) hx hb hown (hts _ q187) dX0_needs_3 ?_
  obtain ⟨x1, hx1, hf⟩ := dz_bo hf
  refine va_calli (va_runS (As := [.long (Int32.toInt64 a1), .long 1, .long 4]) (rest := []) ⟨hx, hb, hml, hown, hts⟩ (mtX0_isIn l (Int32.toInt64 a1) 1 4 K x1 hx1) (va_cwS 3 hts (lw_S q188 q189 q84 q190) rfl rfl rfl (by decide +kernel) ⟨Nat.le_of_ble_eq_true rfl, Nat.le_of_ble_eq_true rfl⟩) ⟨fun a U g mk q => q, fun U hU hW => ⟨rfl, trivial⟩⟩ rfl rfl hl.1 rfl (lv_room (Nat.le_of_ble_eq_true rfl)) dX0_needs_6 ⟨hcM.1, hcM.2⟩) hS (fun q _ hq => hq.elim) (fun q hq => hq.elim) (fun r u t H1 locs ht hvm hw hB hz hk hS => dz_size (fun hz9 => ?_))
  replace hw := hw.symm; subst hw
  replace hH := zH_keep hH hcs hz hk hz9
  clear hB hk hz hvm ht hz9; generalize H1 = H at hH hS ⊢
  refine W.widen (k := cells) (n := slots) (Nat.le_refl _) (Nat.le_refl _) ?_
  refine lv_if_eq (tgt := 20) hx hb dX0_needs_9 (by decide) (fun c9 => ?_) (fun c9 => ?_)
  · have hf := dz_t c9 hf
    refine lv_iconst (v := (-1)) hx hb dX0_needs_20 (by decide) ?_
    obtain ⟨hM1, hS1⟩ : cells = M ∧ slots = S := by have hq := congrArg Prod.snd (Option.some.inj hf); rw [← hq] at hM hS0; have hM : s.heap.size + M = τ.1 := hM; have hS0 : sl0 + S = τ.2.1 := hS0; omega
    refine W.widen (k := M) (n := S) (Nat.le_of_eq hM1) (Nat.le_of_eq hS1) ?_
    exact W.iret (v := (-1)) hx hb hr (fun t ht hW => ⟨⟨(-1), τ, rfl, Option.some.inj hf, z_at ht hH⟩, hS.F ht⟩) hS.2.2 dX0_needs_21
  · have hf := dz_f c9 hf
    refine lv_iload_n hx hb dX0_needs_12 rfl (lv_at hl 1 rfl) ?_
    refine lv_i2l hx hb dX0_needs_13 (rfl : _ = Int32.toInt64 a0) ?_
    obtain ⟨x2, hx2, hf⟩ := dz_bo hf
    refine va_calli (va_runS (As := [.long (Int32.toInt64 a0)]) (rest := []) ⟨hx, hb, hml, hown, hts⟩ (mtX0_isNumber l (Int32.toInt64 a0) K x2 hx2) (va_cwS 1 hts (lw_S q191 q192 q84 q193) rfl rfl rfl (by decide +kernel) ⟨Nat.le_of_ble_eq_true rfl, Nat.le_of_ble_eq_true rfl⟩) ⟨fun a U g mk q => q, fun U hU hW => ⟨rfl, trivial⟩⟩ rfl rfl hl.1 rfl (lv_room (Nat.le_of_ble_eq_true rfl)) dX0_needs_14 ⟨hcM.1, hcM.2⟩) hS (fun q _ hq => hq.elim) (fun q hq => hq.elim) (fun r u t H1 locs ht hvm hw hB hz hk hS => dz_size (fun hz9 => ?_))
    replace hw := hw.symm; subst hw
    replace hH := zH_keep hH hcs hz hk hz9
    clear hB hk hz hvm ht hz9; generalize H1 = H at hH hS ⊢
    refine W.widen (k := cells) (n := slots) (Nat.le_refl _) (Nat.le_refl _) ?_
    refine lv_if_ne (tgt := 22) hx hb dX0_needs_17 (by decide) (fun c17 => ?_) (fun c17 => ?_)
    · have hf := dz_f c17 hf
      refine lv_iload_n hx hb dX0_needs_22 rfl (lv_at hl 1 rfl) ?_
      refine lv_i2l hx hb dX0_needs_23 (rfl : _ = Int32.toInt64 a0) ?_
      refine lv_iload_n hx hb dX0_needs_24 rfl (lv_at hl 2 rfl) ?_
      obtain ⟨x3, hx3, hf⟩ := dz_bo hf
      refine va_calli (va_runS (As := [.long (Int32.toInt64 a0), .int a1]) (rest := []) ⟨hx, hb, hml, hown, hts⟩ (mtX0_canBe l (Int32.toInt64 a0) a1 K x3 hx3) (va_cwS 2 hts (lw_S q652 q653 q84 q654) rfl rfl rfl (by decide +kernel) ⟨Nat.le_of_ble_eq_true rfl, Nat.le_of_ble_eq_true rfl⟩) ⟨fun a U g mk q => q, fun U hU hW => ⟨rfl, trivial⟩⟩ rfl rfl hl.1 rfl (lv_room (Nat.le_of_ble_eq_true rfl)) dX0_needs_25 ⟨hcM.1, hcM.2⟩) hS (fun q _ hq => hq.elim) (fun q hq => hq.elim) (fun r u t H1 locs ht hvm hw hB hz hk hS => dz_size (fun hz9 => ?_))
      replace hw := hw.symm; subst hw
      replace hH := zH_keep hH hcs hz hk hz9
      clear hB hk hz hvm ht hz9; generalize H1 = H at hH hS ⊢
      refine W.widen (k := cells) (n := slots) (Nat.le_refl _) (Nat.le_refl _) ?_
      refine lv_if_ne (tgt := 34) hx hb dX0_needs_28 (by decide) (fun c28 => ?_) (fun c28 => ?_)
      · have hf := dz_f c28 hf
        refine lv_aload_n hx hb dX0_needs_34 rfl (lv_at hl 0 rfl) ?_
        refine lv_iload_n hx hb dX0_needs_35 rfl (lv_at hl 1 rfl) ?_
        refine lv_i2l hx hb dX0_needs_36 (rfl : _ = Int32.toInt64 a0) ?_
        refine lv_iload_n hx hb dX0_needs_37 rfl (lv_at hl 2 rfl) ?_
        obtain ⟨f6, hf6, hf⟩ := dz_bo hf
        obtain ⟨x4, s5, hx4, hle, hck, hf⟩ := zcl_o hf
        have hc1 : cells + (s5.1 - τ.1) ≤ M := by omega
        have hs1 : slots + (s5.2.1 - τ.2.1) ≤ S := by omega
        refine va_callr (va_runV (As := [.long (Int32.toInt64 a0), .int a1]) (rest := []) ⟨hx, hb, hml, hown, hts⟩ (mtX0_made l D cA ζ τ h (Int32.toInt64 a0) a1 K (x4, s5) hx4 (s5.1 - τ.1) (s5.2.1 - τ.2.1) (Nat.add_sub_cancel' hle.1) (Nat.add_sub_cancel' hle.2)) (cwV 2 hts (lw_V q495 q497 qs4 q84 q498) rfl rfl rfl (by decide +kernel) ⟨Nat.le_of_ble_eq_true rfl, Nat.le_of_ble_eq_true rfl⟩) (z_preV hX hS hH (zob_o hf6) rfl) rfl rfl hl.1 rfl (lv_room (Nat.le_of_ble_eq_true rfl)) dX0_needs_38 ⟨hc1, hs1⟩) hS (fun q _ hq => hq) (fun q hq => hq) (fun u r t H1 locs ht hvm hw hB hz hk hS => ?_)
        obtain ⟨hw, hB⟩ := hB
        obtain ⟨hw1, hw2⟩ := Prod.mk.inj hw.symm; subst hw1; subst hw2
        have hH : zH D cA ζ s5 H1 := z_at ht.symm hB
        have hcs : s.heap.size + (cells + (s5.1 - τ.1)) = s5.1 := by omega
        have hss : sl0 + (slots + (s5.2.1 - τ.2.1)) = s5.2.1 := by omega
        replace hcM := And.intro hc1 hs1
        generalize cells + (s5.1 - τ.1) = cells at hcs hcM ⊢; generalize slots + (s5.2.1 - τ.2.1) = slots at hss hcM ⊢
        clear hB hk hz hvm ht hle hck hc1 hs1; generalize H1 = H at hH hS ⊢
        refine lv_astore_n (lv' := [(3, .ref x4), (0, .ref h), (1, .int a0), (2, .int a1)]) hx hb dX0_needs_41 rfl hl (by decide) rfl (fun ls hl => ?_)
        refine lv_aload_n hx hb dX0_needs_42 rfl (lv_at hl 0 rfl) ?_
        obtain ⟨x7, s8, hx7, hle, hck, hf⟩ := zcl_o hf
        have hc1 : cells + (s8.1 - s5.1) ≤ M := by omega
        have hs1 : slots + (s8.2.1 - s5.2.1) ≤ S := by omega
        refine va_callv (post := fun (u : pH) => ((), u) = (x7, s8)) (B := fun u t => zH D cA ζ u t.heap) (A1 := zA ζ) (a := (Value.ref x4 :: [] : List Value).toArray) (mc := s8.1 - s5.1) (ms := s8.2.1 - s5.2.1) (rest := []) (free := zA ζ) ?_ hS (fun q _ hq => hq) (fun q hq => hq) (fun u t H1 locs ht hvm hw hB hz hk hS => ?_)
        · rcases L_lays_o hx7 with ⟨fs_, hr_, hg_⟩ | ⟨fs_, hr_, hg_⟩ | ⟨fs_, hr_, hg_⟩ | ⟨fs_, hr_, hg_⟩ | ⟨fs_, hr_, hg_⟩
          · exact va_runU (x := ⟨"PrimeProofs$Line", "lays", "()V"⟩) (owner := "PrimeProofs$Line") (As := []) (rest := []) ⟨hx, hb, hml, hown, hts⟩ (mtX7_lays l D cA ζ s5 x4 K (x7, s8) hg_ (s8.1 - s5.1) (s8.2.1 - s5.2.1) (Nat.add_sub_cancel' hle.1) (Nat.add_sub_cancel' hle.2)) (va_cwA 0 hts (zU_in q881 q668 q730 q731 q97 q732) rfl rfl rfl (hX.N q667 rfl) (by decide +kernel) ⟨Nat.le_of_ble_eq_true rfl, Nat.le_of_ble_eq_true rfl⟩) (z_preV hX hS hH hr_ rfl) rfl rfl hl.1 rfl (lv_room (Nat.le_of_ble_eq_true rfl)) dX0_needs_43 ⟨hc1, hs1⟩
          · exact va_runU (x := ⟨"PrimeProofs$Line", "lays", "()V"⟩) (owner := "PrimeProofs$Line") (As := []) (rest := []) ⟨hx, hb, hml, hown, hts⟩ (mtX9_lays l D cA ζ s5 x4 K (x7, s8) hg_ (s8.1 - s5.1) (s8.2.1 - s5.2.1) (Nat.add_sub_cancel' hle.1) (Nat.add_sub_cancel' hle.2)) (va_cwA 0 hts (zU_in q881 q668 q724 q725 q99 q726) rfl rfl rfl (hX.N q667 rfl) (by decide +kernel) ⟨Nat.le_of_ble_eq_true rfl, Nat.le_of_ble_eq_true rfl⟩) (z_preV hX hS hH hr_ rfl) rfl rfl hl.1 rfl (lv_room (Nat.le_of_ble_eq_true rfl)) dX0_needs_43 ⟨hc1, hs1⟩
          · exact va_runU (x := ⟨"PrimeProofs$Line", "lays", "()V"⟩) (owner := "PrimeProofs$Line") (As := []) (rest := []) ⟨hx, hb, hml, hown, hts⟩ (mtX10_lays l D cA ζ s5 x4 K (x7, s8) hg_ (s8.1 - s5.1) (s8.2.1 - s5.2.1) (Nat.add_sub_cancel' hle.1) (Nat.add_sub_cancel' hle.2)) (va_cwA 0 hts (zU_in q881 q668 q718 q719 q100 q720) rfl rfl rfl (hX.N q667 rfl) (by decide +kernel) ⟨Nat.le_of_ble_eq_true rfl, Nat.le_of_ble_eq_true rfl⟩) (z_preV hX hS hH hr_ rfl) rfl rfl hl.1 rfl (lv_room (Nat.le_of_ble_eq_true rfl)) dX0_needs_43 ⟨hc1, hs1⟩
          · exact va_runU (x := ⟨"PrimeProofs$Line", "lays", "()V"⟩) (owner := "PrimeProofs$Line") (As := []) (rest := []) ⟨hx, hb, hml, hown, hts⟩ (mtX11_lays l D cA ζ s5 x4 K (x7, s8) hg_ (s8.1 - s5.1) (s8.2.1 - s5.2.1) (Nat.add_sub_cancel' hle.1) (Nat.add_sub_cancel' hle.2)) (va_cwA 0 hts (zU_in q881 q668 q707 q708 q101 q709) rfl rfl rfl (hX.N q667 rfl) (by decide +kernel) ⟨Nat.le_of_ble_eq_true rfl, Nat.le_of_ble_eq_true rfl⟩) (z_preV hX hS hH hr_ rfl) rfl rfl hl.1 rfl (lv_room (Nat.le_of_ble_eq_true rfl)) dX0_needs_43 ⟨hc1, hs1⟩
          · exact va_runU (x := ⟨"PrimeProofs$Line", "lays", "()V"⟩) (owner := "PrimeProofs$Line") (As := []) (rest := []) ⟨hx, hb, hml, hown, hts⟩ (mtX12_lays l D cA ζ s5 x4 K (x7, s8) hg_ (s8.1 - s5.1) (s8.2.1 - s5.2.1) (Nat.add_sub_cancel' hle.1) (Nat.add_sub_cancel' hle.2)) (va_cwA 0 hts (zU_in q881 q668 q669 q670 q102 q671) rfl rfl rfl (hX.N q667 rfl) (by decide +kernel) ⟨Nat.le_of_ble_eq_true rfl, Nat.le_of_ble_eq_true rfl⟩) (z_preV hX hS hH hr_ rfl) rfl rfl hl.1 rfl (lv_room (Nat.le_of_ble_eq_true rfl)) dX0_needs_43 ⟨hc1, hs1⟩
        obtain ⟨-, hw2⟩ := Prod.mk.inj hw.symm; subst hw2
        have hH : zH D cA ζ s8 H1 := z_at ht.symm hB
        have hcs : s.heap.size + (cells + (s8.1 - s5.1)) = s8.1 := by omega
        have hss : sl0 + (slots + (s8.2.1 - s5.2.1)) = s8.2.1 := by omega
        replace hcM := And.intro hc1 hs1
        generalize cells + (s8.1 - s5.1) = cells at hcs hcM ⊢; generalize slots + (s8.2.1 - s5.2.1) = slots at hss hcM ⊢
        clear hB hk hz hvm ht hle hck hc1 hs1; generalize H1 = H at hH hS ⊢
        refine lv_bipush (v := 10) hx hb dX0_needs_46 (by decide) ?_
        refine lv_aload_n hx hb dX0_needs_48 rfl (lv_at hl 0 rfl) ?_
        obtain ⟨cf9, f9, hcf9, hf⟩ := dz_co hf
        obtain ⟨x10, hx10, hf⟩ := dz_bo hf
        obtain ⟨hr_f9, hc_f9⟩ := zoL_o hcf9
        refine zL_get4 hx hb hts hown hX hS hH hr_f9 hc_f9 (hts _ q558) (zvr_o hx10) dX0_needs_49 ?_
        obtain ⟨f11, hf11, hf⟩ := dz_bo hf
        obtain ⟨x12, hx12, hf⟩ := dz_bo hf
        refine va_getN (C := RX8) (T := TX8) (N := 2) hx hb hts in_X8 hown hX.K (zrd_P hX hS hH (zob_o hf11)) 0 rfl rfl 1 (by decide) ((hX.N q525 rfl).use rfl) (fun _ hq => hq) (zvi_o hx12) dX0_needs_52 ?_
        refine lv_imul hx hb dX0_needs_55 ?_
        refine lv_aload_n hx hb dX0_needs_56 rfl (lv_at hl 0 rfl) ?_
        obtain ⟨cf13, f13, hcf13, hf⟩ := dz_co hf
        obtain ⟨x14, hx14, hf⟩ := dz_bo hf
        obtain ⟨hr_f13, hc_f13⟩ := zoL_o hcf13
        refine zL_get5 hx hb hts hown hX hS hH hr_f13 hc_f13 (hts _ q565) (zvr_o hx14) dX0_needs_57 ?_
        obtain ⟨f15, hf15, hf⟩ := dz_bo hf
        obtain ⟨x16, hx16, hf⟩ := dz_bo hf
        refine va_getN (C := RX8) (T := TX8) (N := 2) hx hb hts in_X8 hown hX.K (zrd_P hX hS hH (zob_o hf15)) 0 rfl rfl 1 (by decide) ((hX.N q525 rfl).use rfl) (fun _ hq => hq) (zvi_o hx16) dX0_needs_60 ?_
        refine lv_iadd hx hb dX0_needs_63 ?_
        refine lv_topi (fun x17 e_x17 => ?_)
        have hf := dz_ls e_x17 hf
        obtain ⟨hM1, hS1⟩ : cells = M ∧ slots = S := by have hq := congrArg Prod.snd (Option.some.inj hf); rw [← hq] at hM hS0; have hM : s.heap.size + M = s8.1 := hM; have hS0 : sl0 + S = s8.2.1 := hS0; omega
        refine W.widen (k := M) (n := S) (Nat.le_of_eq hM1) (Nat.le_of_eq hS1) ?_
        exact W.iret (v := x17) hx hb hr (fun t ht hW => ⟨⟨x17, s8, rfl, Option.some.inj hf, z_at ht hH⟩, hS.F ht⟩) hS.2.2 dX0_needs_64
      · have hf := dz_t c28 hf
        refine lv_bipush (v := (-2)) hx hb dX0_needs_31 (by decide) ?_
        obtain ⟨hM1, hS1⟩ : cells = M ∧ slots = S := by have hq := congrArg Prod.snd (Option.some.inj hf); rw [← hq] at hM hS0; have hM : s.heap.size + M = τ.1 := hM; have hS0 : sl0 + S = τ.2.1 := hS0; omega
        refine W.widen (k := M) (n := S) (Nat.le_of_eq hM1) (Nat.le_of_eq hS1) ?_
        exact W.iret (v := (-2)) hx hb hr (fun t ht hW => ⟨⟨(-2), τ, rfl, Option.some.inj hf, z_at ht hH⟩, hS.F ht⟩) hS.2.2 dX0_needs_33
    · have hf := dz_t c17 hf
      refine lv_iconst (v := (-1)) hx hb dX0_needs_20 (by decide) ?_
      obtain ⟨hM1, hS1⟩ : cells = M ∧ slots = S := by have hq := congrArg Prod.snd (Option.some.inj hf); rw [← hq] at hM hS0; have hM : s.heap.size + M = τ.1 := hM; have hS0 : sl0 + S = τ.2.1 := hS0; omega
      refine W.widen (k := M) (n := S) (Nat.le_of_eq hM1) (Nat.le_of_eq hS1) ?_
      exact W.iret (v := (-1)) hx hb hr (fun t ht hW => ⟨⟨(-1), τ, rfl, Option.some.inj hf, z_at ht hH⟩, hS.F ht⟩) hS.2.2 dX0_needs_21

noncomputable def lfX0_tapes (K : Nat) (ζ : pZ) : Nat → (Nat → Int32 → Int32 → pH → Option (Unit × pH)) := Nat.rec (motive := fun _ => (Nat → Int32 → Int32 → pH → Option (Unit × pH))) (fun _ _ _ _ => none) (fun _ G => (fun v0 v1 v2 τ => if v2 < (0 : Int32) then (some ((), τ)) else (dz_b (zob ζ τ v0 0) fun f1 => dz_b (zvr (f1[3]?)) fun x2 => dz_b (zob ζ τ v0 0) fun f3 => dz_b (zvi (f3[4]?)) fun x4 => dz_l (Int8.toInt32 (Int32.toInt8 (v1 >>> (v2 &&& 31)))) fun x5 => if ζ.1 ≤ x2 ∧ x2 < τ.1 then (dz_c (zai ζ τ x2 3) fun n6 f7 => if ¬ (x4 < 0 ∨ n6 ≤ Int32.toNatClampNeg x4) then (dz_l (zst τ x2 (.inl (3, n6, .inl (upd f7 (Int32.toNatClampNeg x4) (vp_nar .byte x5))))) fun s8 => dz_b (zob ζ s8 v0 0) fun f11 => dz_b (zvi (f11[4]?)) fun x12 => dz_l (x12 + 1) fun x13 => dz_b (zwo ζ s8 v0 0 4) fun f14 => dz_l (zst s8 v0 (.inr (0, f14.set 4 (.int x13)))) fun s15 => dz_l (v2 + (-8)) fun x16 => G v0 v1 x16 s15) else none) else none)))
noncomputable def fnX0_tapes (K : Nat) (ζ : pZ) (h : Nat) (a0 : Int32) (τ : pH) : Option (Unit × pH) := (lfX0_tapes K ζ K) h a0 24 τ
set_option maxHeartbeats 4000000 in
set_option maxRecDepth 100000 in
theorem wlX0_tapes {p : Program} {l : Launch} {e : Env} {s : State} {m : MethodId} {below : List Frame} {meth : Method} {c : Code} {D : va_G} {cA : Nat → ClassId} {ζ : pZ} (hX : zX D cA ζ s) (K : Nat) (res : (Unit × pH)) (M S sl0 : Nat) (hM : s.heap.size + M = res.2.1) (hS0 : sl0 + S = res.2.2.1) (h : Nat) (a0 : Int32) (hx : p.tables.exec = Jvm.exec) (hb : c.code = cX0_tapes) (hr : meth.sig.returnType = none) (hlocks : meth.locks = false) (hml : c.maxLocals = 3) (hown : s.vm.findClass RX0 = some m.cls) (hts : ∀ w ∈ lw_all, w.before ([.ref h, .int a0] : List Value).toArray s = true) : ∀ k : Nat, (∀ (v0 : Nat) (v1 : Int32) (v2 : Int32) (τ : pH) (H : Heap) (locs : List Loc) (cells slots : Nat), zH D cA ζ τ H → va_S (zA ζ) s.heap H locs → s.heap.size + cells = τ.1 → sl0 + slots = τ.2.1 → cells ≤ M ∧ slots ≤ S → ∀ (ls : Array Slot), lv_has ls 3 [(0, .ref v0), (1, .int v1), (2, .int v2)] → (lfX0_tapes K ζ k) v0 v1 v2 τ = some res → W p l e (headSpec (ws_ yX0_tapes cX0_tapes 3 (none)) ({ frames := 0, cells := M, slots := S, locals := 0 })).room s m ([.ref h, .int a0] : List Value).toArray below meth c H locs cells slots (MQ below (zQv D cA ζ res) ([.ref h, .int a0] : List Value).toArray s M S (zA ζ)) (F0 m 3 ls [])) := by
  intro k
  induction k with
  | zero =>
    exact fun _ _ _ _ _ _ _ _ _ _ _ _ _ _ _ hf => (by cases hf)
  | succ k ih =>
    · intro v0 v1 v2 τ H locs cells slots hH hS hcs hss hcM ls hl hf
      have hf : (if v2 < (0 : Int32) then (some ((), τ)) else (dz_b (zob ζ τ v0 0) fun f1 => dz_b (zvr (f1[3]?)) fun x2 => dz_b (zob ζ τ v0 0) fun f3 => dz_b (zvi (f3[4]?)) fun x4 => dz_l (Int8.toInt32 (Int32.toInt8 (v1 >>> (v2 &&& 31)))) fun x5 => if ζ.1 ≤ x2 ∧ x2 < τ.1 then (dz_c (zai ζ τ x2 3) fun n6 f7 => if ¬ (x4 < 0 ∨ n6 ≤ Int32.toNatClampNeg x4) then (dz_l (zst τ x2 (.inl (3, n6, .inl (upd f7 (Int32.toNatClampNeg x4) (vp_nar .byte x5))))) fun s8 => dz_b (zob ζ s8 v0 0) fun f11 => dz_b (zvi (f11[4]?)) fun x12 => dz_l (x12 + 1) fun x13 => dz_b (zwo ζ s8 v0 0 4) fun f14 => dz_l (zst s8 v0 (.inr (0, f14.set 4 (.int x13)))) fun s15 => dz_l (v2 + (-8)) fun x16 => (lfX0_tapes K ζ k) v0 v1 x16 s15) else none) else none) : Option (Unit × pH)) = some res := hf
      refine lv_iload_n hx hb dX0_tapes_3 rfl (lv_at hl 2 rfl) ?_
      refine lv_if_lt (tgt := 36) hx hb dX0_tapes_4 (by decide) (fun c4 => ?_) (fun c4 => ?_)
      · have hf := dz_t c4 hf
        obtain ⟨hM1, hS1⟩ : cells = M ∧ slots = S := by have hq := congrArg Prod.snd (Option.some.inj hf); rw [← hq] at hM hS0; have hM : s.heap.size + M = τ.1 := hM; have hS0 : sl0 + S = τ.2.1 := hS0; omega
        refine W.widen (k := M) (n := S) (Nat.le_of_eq hM1) (Nat.le_of_eq hS1) ?_
        exact W.vret hx hb hr (fun t ht hW => ⟨⟨τ, rfl, Option.some.inj hf, z_at ht hH⟩, hS.F ht⟩) hS.2.2 dX0_tapes_36
      · have hf := dz_f c4 hf
        refine lv_aload_n hx hb dX0_tapes_7 rfl (lv_at hl 0 rfl) ?_
        obtain ⟨f1, hf1, hf⟩ := dz_bo hf
        obtain ⟨x2, hx2, hf⟩ := dz_bo hf
        refine va_get (C := RX0) (T := TX0) (N := 7) hx hb hts in_X0 hown hX.K (zrd_P hX hS hH (zob_o hf1)) 0 rfl rfl 3 (by decide) (hts _ q160) (fun _ hq => hq) (zvr_o hx2) dX0_tapes_8 ?_
        refine lv_aload_n hx hb dX0_tapes_11 rfl (lv_at hl 0 rfl) ?_
        obtain ⟨f3, hf3, hf⟩ := dz_bo hf
        obtain ⟨x4, hx4, hf⟩ := dz_bo hf
        refine va_get (C := RX0) (T := TX0) (N := 7) hx hb hts in_X0 hown hX.K (zrd_P hX hS hH (zob_o hf3)) 0 rfl rfl 4 (by decide) (hts _ q162) (fun _ hq => hq) (zvi_o hx4) dX0_tapes_12 ?_
        refine lv_iload_n hx hb dX0_tapes_15 rfl (lv_at hl 1 rfl) ?_
        refine lv_iload_n hx hb dX0_tapes_16 rfl (lv_at hl 2 rfl) ?_
        refine lv_ishr hx hb dX0_tapes_17 ?_
        refine lv_i2b hx hb dX0_tapes_18 (rfl : _ = Int8.toInt32 (Int32.toInt8 (v1 >>> (v2 &&& 31)))) ?_
        refine lv_topi (fun x5 e_x5 => ?_)
        have hf := dz_ls e_x5 hf
        obtain ⟨g9, hf⟩ := dz_go hf
        obtain ⟨n6, f7, hn6, hf⟩ := dz_co hf
        obtain ⟨g10, hf⟩ := dz_go hf
        refine va_bast hx hb hX.K hH.2.2 zw_D hS _ 3 (zw_a g9 (zrd_w (zai_o hn6) g9)) rfl g10 dX0_tapes_19 (fun H1 locs hP1 _ hS => dz_size (fun hz => ?_))
        obtain ⟨s8, e_s8, hf⟩ := dz_lo hf
        have hH := zH_put (x := (.inl (3, n6, .inl (upd f7 (Int32.toNatClampNeg x4) (vp_nar .byte x5))))) hH hcs g9 hP1 hz
        rw [← e_s8] at hH
        have hcs : s.heap.size + cells = s8.1 := by rw [e_s8]; exact hcs
        have hss : sl0 + slots = s8.2.1 := by rw [e_s8]; exact hss
        clear hP1 hz; generalize H1 = H at hH hS ⊢
        refine lv_aload_n hx hb dX0_tapes_20 rfl (lv_at hl 0 rfl) ?_
        refine lv_dup hx hb dX0_tapes_21 rfl ?_
        obtain ⟨f11, hf11, hf⟩ := dz_bo hf
        obtain ⟨x12, hx12, hf⟩ := dz_bo hf
        refine va_get (C := RX0) (T := TX0) (N := 7) hx hb hts in_X0 hown hX.K (zrd_P hX hS hH (zob_o hf11)) 0 rfl rfl 4 (by decide) (hts _ q162) (fun _ hq => hq) (zvi_o hx12) dX0_tapes_22 ?_
        refine lv_iconst (v := 1) hx hb dX0_tapes_25 (by decide) ?_
        refine lv_iadd hx hb dX0_tapes_26 ?_
        refine lv_topi (fun x13 e_x13 => ?_)
        have hf := dz_ls e_x13 hf
        obtain ⟨f14, hf14, hf⟩ := dz_bo hf
        obtain ⟨ha_f14, he_f14, hk_f14⟩ := zwo_o hf14
        refine va_put (C := RX0) (T := TX0) (N := 7) hx hb hts in_X0 tyX0 tyX0_ok nmX0 hown hX.K hH.2.2 zw_D hS _ (zw_o ha_f14 he_f14) rfl 4 (by decide) (hts _ q162) (fun _ hq => hq) rfl rfl rfl rfl hk_f14 dX0_tapes_27 (fun H1 locs hP1 _ hS => dz_size (fun hz => ?_))
        obtain ⟨s15, e_s15, hf⟩ := dz_lo hf
        have hH := zH_put (x := .inr (0, f14.set 4 (.int x13))) hH hcs ha_f14 hP1 hz
        rw [← e_s15] at hH
        have hcs : s.heap.size + cells = s15.1 := by rw [e_s15]; exact hcs
        have hss : sl0 + slots = s15.2.1 := by rw [e_s15]; exact hss
        clear hP1 hz; generalize H1 = H at hH hS ⊢
        obtain ⟨x16, e_x16, hf⟩ := dz_lo hf
        refine lv_iinc (v := x16) (lv' := [(2, .int x16), (0, .ref v0), (1, .int v1)]) hx hb dX0_tapes_30 hl (k := 2) rfl (by rw [e_x16]; rfl) (by decide) rfl (fun ls hl => ?_)
        refine lv_goto (tgt := 3) hx hb dX0_tapes_33 (by decide) ?_
        exact ih v0 v1 x16 s15 H locs cells slots hH hS hcs hss hcM ls (lv_sub hl [1, 2, 0] rfl) hf
set_option maxHeartbeats 4000000 in
set_option maxRecDepth 100000 in
theorem mtX0_tapes (l : Launch) (D : va_G) (cA : Nat → ClassId) (ζ : pZ) (τ : pH) (h : Nat) (a0 : Int32) (K : Nat) (res : (Unit × pH)) (hf : fnX0_tapes K ζ h a0 τ = some res) (M S : Nat) (hM : τ.1 + M = res.2.1) (hS0 : τ.2.1 + S = res.2.2.1) : Met l yX0_tapes (ws_ yX0_tapes cX0_tapes 3 (none)) ({ frames := 0, cells := M, slots := S, locals := 0 }) (zPc D cA ζ τ [.ref h, .int a0]) (zQv D cA ζ res) M S (zA ζ) := by
  refine Met.ofW (cc := cX0_tapes) (maxL := 3) (ret := none) (by decide +kernel) rfl ?_
  intro p e s m args below meth c s₁ B hml hv
  obtain ⟨rfl, hX, hH⟩ := hv
  have hx := B.exec
  have hb := B.bytes
  have hr := B.returns
  have hts := atoms_spec (ws := ws_ yX0_tapes cX0_tapes 3 (none)) B.pre
  have hts : ∀ w ∈ lw_all, w.before _ s = true := fun w h => hts w (List.mem_cons_of_mem _ h)
  have hown : s.vm.findClass RX0 = some m.cls := findClass_of_methodNamed B.named
  have hlocks := B.notSynchronized
  have hM : s.heap.size + M = res.2.1 := by rw [hH.1]; exact hM
  have hcs : s.heap.size + 0 = τ.1 := hH.1
  have hss : τ.2.1 + 0 = τ.2.1 := rfl
  generalize hsl0 : τ.2.1 = sl0 at hS0 hss
  have hss : sl0 + 0 = τ.2.1 := by rw [hsl0]; rfl
  have hS : va_S (zA ζ) s.heap s.heap [] := va_S.rf
  generalize hHe : s.heap = H at hH hS ⊢
  have hS : va_S (zA ζ) s.heap H [] := by rw [hHe]; exact hS
  generalize ([] : List Loc) = locs at hS ⊢
  have hl := lv_entry ([.ref h, .int a0]) (n := 3) (Nat.le_of_ble_eq_true rfl)
  rw [lg_entry_eq]
  generalize (lg_sl ([.ref h, .int a0]) ++ List.replicate (3 - (lg_sl ([.ref h, .int a0])).length) Slot.unset).toArray = ls at hl ⊢
  have hl : lv_has ls 3 [(0, .ref h), (1, .int a0)] := hl
  have hf : ((lfX0_tapes K ζ K) h a0 24 τ : Option (Unit × pH)) = some res := hf
  refine z_gen (fun cells slots hc0 hs0 => ?_)
  have hcs : s.heap.size + cells = τ.1 := by rw [hc0]; exact hcs
  have hss : sl0 + slots = τ.2.1 := by rw [hs0]; exact hss
  have hcM : cells ≤ M ∧ slots ≤ S := by rw [hc0, hs0]; exact ⟨Nat.zero_le _, Nat.zero_le _⟩
  clear hc0 hs0
  have ih := wlX0_tapes (l := l) (e := e) (below := below) (D := D) (cA := cA) hX K res M S sl0 hM hS0 h a0 hx hb hr hlocks hml hown hts K
  refine lv_bipush (v := 24) hx hb dX0_tapes_0 (by decide) ?_
  refine lv_istore_n (lv' := [(2, .int 24), (0, .ref h), (1, .int a0)]) hx hb dX0_tapes_2 rfl hl (by decide) rfl (fun ls hl => ?_)
  exact ih h a0 24 τ H locs cells slots hH hS hcs hss hcM ls (lv_sub hl [1, 2, 0] rfl) hf

noncomputable def fnX0_feed (K : Nat) (ζ : pZ) (h : Nat) (a0 : Int32) (a1 : Int32) (a2 : Int32) (a3 : Int32) (a4 : Int32) (τ : pH) : Option (Int32 × pH) := dz_b (zob ζ τ h 0) fun f1 => dz_b (zvi (f1[4]?)) fun x2 => if (x2 + 20) ≤ (400 : Int32) then (dz_b (zob ζ τ h 0) fun f5 => zcl τ (fnX0_tapes K ζ h a0 τ) fun _ s4 => dz_b (zob ζ s4 h 0) fun f8 => zcl s4 (fnX0_tapes K ζ h a1 s4) fun _ s7 => dz_b (zob ζ s7 h 0) fun f11 => zcl s7 (fnX0_tapes K ζ h a2 s7) fun _ s10 => dz_b (zob ζ s10 h 0) fun f14 => zcl s10 (fnX0_tapes K ζ h a3 s10) fun _ s13 => dz_b (zob ζ s13 h 0) fun f17 => zcl s13 (fnX0_tapes K ζ h a4 s13) fun _ s16 => dz_b (zob ζ s16 h 0) fun f18 => dz_b (zvi (f18[4]?)) fun x19 => some (x19, s16)) else (some ((-1), τ))
set_option maxHeartbeats 4000000 in
set_option maxRecDepth 100000 in
theorem mtX0_feed (l : Launch) (D : va_G) (cA : Nat → ClassId) (ζ : pZ) (τ : pH) (h : Nat) (a0 : Int32) (a1 : Int32) (a2 : Int32) (a3 : Int32) (a4 : Int32) (K : Nat) (res : (Int32 × pH)) (hf : fnX0_feed K ζ h a0 a1 a2 a3 a4 τ = some res) (M S : Nat) (hM : τ.1 + M = res.2.1) (hS0 : τ.2.1 + S = res.2.2.1) : Met l yX0_feed (ws_ yX0_feed cX0_feed 6 (some .int)) ({ frames := 1, cells := M, slots := S, locals := 22 }) (zPc D cA ζ τ [.ref h, .int a0, .int a1, .int a2, .int a3, .int a4]) (zQi D cA ζ res) M S (zA ζ) := by
  refine Met.ofW (cc := cX0_feed) (maxL := 6) (ret := some .int) (by decide +kernel) rfl ?_
  intro p e s m args below meth c s₁ B hml hv
  obtain ⟨rfl, hX, hH⟩ := hv
  have hx := B.exec
  have hb := B.bytes
  have hr := B.returns
  have hts := atoms_spec (ws := ws_ yX0_feed cX0_feed 6 (some .int)) B.pre
  have hts : ∀ w ∈ lw_all, w.before _ s = true := fun w h => hts w (List.mem_cons_of_mem _ h)
  have hown : s.vm.findClass RX0 = some m.cls := findClass_of_methodNamed B.named
  have hlocks := B.notSynchronized
  have hM : s.heap.size + M = res.2.1 := by rw [hH.1]; exact hM
  have hcs : s.heap.size + 0 = τ.1 := hH.1
  have hss : τ.2.1 + 0 = τ.2.1 := rfl
  generalize hsl0 : τ.2.1 = sl0 at hS0 hss
  have hss : sl0 + 0 = τ.2.1 := by rw [hsl0]; rfl
  have hS : va_S (zA ζ) s.heap s.heap [] := va_S.rf
  generalize hHe : s.heap = H at hH hS ⊢
  have hS : va_S (zA ζ) s.heap H [] := by rw [hHe]; exact hS
  generalize ([] : List Loc) = locs at hS ⊢
  have hl := lv_entry ([.ref h, .int a0, .int a1, .int a2, .int a3, .int a4]) (n := 6) (Nat.le_of_ble_eq_true rfl)
  rw [lg_entry_eq]
  generalize (lg_sl ([.ref h, .int a0, .int a1, .int a2, .int a3, .int a4]) ++ List.replicate (6 - (lg_sl ([.ref h, .int a0, .int a1, .int a2, .int a3, .int a4])).length) Slot.unset).toArray = ls at hl ⊢
  have hl : lv_has ls 6 [(0, .ref h), (1, .int a0), (2, .int a1), (3, .int a2), (4, .int a3), (5, .int a4)] := hl
  have hf : (dz_b (zob ζ τ h 0) fun f1 => dz_b (zvi (f1[4]?)) fun x2 => if (x2 + 20) ≤ (400 : Int32) then (dz_b (zob ζ τ h 0) fun f5 => zcl τ (fnX0_tapes K ζ h a0 τ) fun _ s4 => dz_b (zob ζ s4 h 0) fun f8 => zcl s4 (fnX0_tapes K ζ h a1 s4) fun _ s7 => dz_b (zob ζ s7 h 0) fun f11 => zcl s7 (fnX0_tapes K ζ h a2 s7) fun _ s10 => dz_b (zob ζ s10 h 0) fun f14 => zcl s10 (fnX0_tapes K ζ h a3 s10) fun _ s13 => dz_b (zob ζ s13 h 0) fun f17 => zcl s13 (fnX0_tapes K ζ h a4 s13) fun _ s16 => dz_b (zob ζ s16 h 0) fun f18 => dz_b (zvi (f18[4]?)) fun x19 => some (x19, s16)) else (some ((-1), τ)) : Option (Int32 × pH)) = some res := hf
  refine z_gen (fun cells slots hc0 hs0 => ?_)
  have hcs : s.heap.size + cells = τ.1 := by rw [hc0]; exact hcs
  have hss : sl0 + slots = τ.2.1 := by rw [hs0]; exact hss
  have hcM : cells ≤ M ∧ slots ≤ S := by rw [hc0, hs0]; exact ⟨Nat.zero_le _, Nat.zero_le _⟩
  clear hc0 hs0
  refine lv_aload_n hx hb dX0_feed_0 rfl (lv_at hl 0 rfl) ?_
  obtain ⟨f1, hf1, hf⟩ := dz_bo hf
  obtain ⟨x2, hx2, hf⟩ := dz_bo hf
  refine va_get (C := RX0) (T := TX0) (N := 7) hx hb hts in_X0 hown hX.K (zrd_P hX hS hH (zob_o hf1)) 0 rfl rfl 4 (by decide) (hts _ q162) (fun _ hq => hq) (zvi_o hx2) dX0_feed_1 ?_
  refine lv_bipush (v := 20) hx hb dX0_feed_4 (by decide) ?_
  refine lv_iadd hx hb dX0_feed_6 ?_
  refine lv_sipush (v := 400) hx hb dX0_feed_7 (by decide) ?_
  refine lv_icmp_le (tgt := 15) hx hb dX0_feed_10 (by decide) (fun c10 => ?_) (fun c10 => ?_)
  · have hf := dz_t c10 hf
    refine lv_aload_n hx hb dX0_feed_15 rfl (lv_at hl 0 rfl) ?_
    refine lv_iload_n hx hb dX0_feed_16 rfl (lv_at hl 1 rfl) ?_
    obtain ⟨f5, hf5, hf⟩ := dz_bo hf
    obtain ⟨x3, s4, hx3, hle, hck, hf⟩ := zcl_o hf
    have hc1 : cells + (s4.1 - τ.1) ≤ M := by omega
    have hs1 : slots + (s4.2.1 - τ.2.1) ≤ S := by omega
    refine va_callv (va_runV (As := [.int a0]) (rest := []) ⟨hx, hb, hml, hown, hts⟩ (mtX0_tapes l D cA ζ τ h a0 K (x3, s4) hx3 (s4.1 - τ.1) (s4.2.1 - τ.2.1) (Nat.add_sub_cancel' hle.1) (Nat.add_sub_cancel' hle.2)) (cwV 1 hts (lw_V q886 q888 qs14 q84 q889) rfl rfl rfl (by decide +kernel) ⟨Nat.le_of_ble_eq_true rfl, Nat.le_of_ble_eq_true rfl⟩) (z_preV hX hS hH (zob_o hf5) rfl) rfl rfl hl.1 rfl (lv_room (Nat.le_of_ble_eq_true rfl)) dX0_feed_17 ⟨hc1, hs1⟩) hS (fun q _ hq => hq) (fun q hq => hq) (fun u t H1 locs ht hvm hw hB hz hk hS => ?_)
    obtain ⟨-, hw2⟩ := Prod.mk.inj hw.symm; subst hw2
    have hH : zH D cA ζ s4 H1 := z_at ht.symm hB
    have hcs : s.heap.size + (cells + (s4.1 - τ.1)) = s4.1 := by omega
    have hss : sl0 + (slots + (s4.2.1 - τ.2.1)) = s4.2.1 := by omega
    replace hcM := And.intro hc1 hs1
    generalize cells + (s4.1 - τ.1) = cells at hcs hcM ⊢; generalize slots + (s4.2.1 - τ.2.1) = slots at hss hcM ⊢
    clear hB hk hz hvm ht hle hck hc1 hs1; generalize H1 = H at hH hS ⊢
    refine lv_aload_n hx hb dX0_feed_20 rfl (lv_at hl 0 rfl) ?_
    refine lv_iload_n hx hb dX0_feed_21 rfl (lv_at hl 2 rfl) ?_
    obtain ⟨f8, hf8, hf⟩ := dz_bo hf
    obtain ⟨x6, s7, hx6, hle, hck, hf⟩ := zcl_o hf
    have hc1 : cells + (s7.1 - s4.1) ≤ M := by omega
    have hs1 : slots + (s7.2.1 - s4.2.1) ≤ S := by omega
    refine va_callv (va_runV (As := [.int a1]) (rest := []) ⟨hx, hb, hml, hown, hts⟩ (mtX0_tapes l D cA ζ s4 h a1 K (x6, s7) hx6 (s7.1 - s4.1) (s7.2.1 - s4.2.1) (Nat.add_sub_cancel' hle.1) (Nat.add_sub_cancel' hle.2)) (cwV 1 hts (lw_V q886 q888 qs14 q84 q889) rfl rfl rfl (by decide +kernel) ⟨Nat.le_of_ble_eq_true rfl, Nat.le_of_ble_eq_true rfl⟩) (z_preV hX hS hH (zob_o hf8) rfl) rfl rfl hl.1 rfl (lv_room (Nat.le_of_ble_eq_true rfl)) dX0_feed_22 ⟨hc1, hs1⟩) hS (fun q _ hq => hq) (fun q hq => hq) (fun u t H1 locs ht hvm hw hB hz hk hS => ?_)
    obtain ⟨-, hw2⟩ := Prod.mk.inj hw.symm; subst hw2
    have hH : zH D cA ζ s7 H1 := z_at ht.symm hB
    have hcs : s.heap.size + (cells + (s7.1 - s4.1)) = s7.1 := by omega
    have hss : sl0 + (slots + (s7.2.1 - s4.2.1)) = s7.2.1 := by omega
    replace hcM := And.intro hc1 hs1
    generalize cells + (s7.1 - s4.1) = cells at hcs hcM ⊢; generalize slots + (s7.2.1 - s4.2.1) = slots at hss hcM ⊢
    clear hB hk hz hvm ht hle hck hc1 hs1; generalize H1 = H at hH hS ⊢
    refine lv_aload_n hx hb dX0_feed_25 rfl (lv_at hl 0 rfl) ?_
    refine lv_iload_n hx hb dX0_feed_26 rfl (lv_at hl 3 rfl) ?_
    obtain ⟨f11, hf11, hf⟩ := dz_bo hf
    obtain ⟨x9, s10, hx9, hle, hck, hf⟩ := zcl_o hf
    have hc1 : cells + (s10.1 - s7.1) ≤ M := by omega
    have hs1 : slots + (s10.2.1 - s7.2.1) ≤ S := by omega
    refine va_callv (va_runV (As := [.int a2]) (rest := []) ⟨hx, hb, hml, hown, hts⟩ (mtX0_tapes l D cA ζ s7 h a2 K (x9, s10) hx9 (s10.1 - s7.1) (s10.2.1 - s7.2.1) (Nat.add_sub_cancel' hle.1) (Nat.add_sub_cancel' hle.2)) (cwV 1 hts (lw_V q886 q888 qs14 q84 q889) rfl rfl rfl (by decide +kernel) ⟨Nat.le_of_ble_eq_true rfl, Nat.le_of_ble_eq_true rfl⟩) (z_preV hX hS hH (zob_o hf11) rfl) rfl rfl hl.1 rfl (lv_room (Nat.le_of_ble_eq_true rfl)) dX0_feed_27 ⟨hc1, hs1⟩) hS (fun q _ hq => hq) (fun q hq => hq) (fun u t H1 locs ht hvm hw hB hz hk hS => ?_)
    obtain ⟨-, hw2⟩ := Prod.mk.inj hw.symm; subst hw2
    have hH : zH D cA ζ s10 H1 := z_at ht.symm hB
    have hcs : s.heap.size + (cells + (s10.1 - s7.1)) = s10.1 := by omega
    have hss : sl0 + (slots + (s10.2.1 - s7.2.1)) = s10.2.1 := by omega
    replace hcM := And.intro hc1 hs1
    generalize cells + (s10.1 - s7.1) = cells at hcs hcM ⊢; generalize slots + (s10.2.1 - s7.2.1) = slots at hss hcM ⊢
    clear hB hk hz hvm ht hle hck hc1 hs1; generalize H1 = H at hH hS ⊢
    refine lv_aload_n hx hb dX0_feed_30 rfl (lv_at hl 0 rfl) ?_
    refine lv_iload hx hb dX0_feed_31 (lv_at hl 4 rfl) ?_
    obtain ⟨f14, hf14, hf⟩ := dz_bo hf
    obtain ⟨x12, s13, hx12, hle, hck, hf⟩ := zcl_o hf
    have hc1 : cells + (s13.1 - s10.1) ≤ M := by omega
    have hs1 : slots + (s13.2.1 - s10.2.1) ≤ S := by omega
    refine va_callv (va_runV (As := [.int a3]) (rest := []) ⟨hx, hb, hml, hown, hts⟩ (mtX0_tapes l D cA ζ s10 h a3 K (x12, s13) hx12 (s13.1 - s10.1) (s13.2.1 - s10.2.1) (Nat.add_sub_cancel' hle.1) (Nat.add_sub_cancel' hle.2)) (cwV 1 hts (lw_V q886 q888 qs14 q84 q889) rfl rfl rfl (by decide +kernel) ⟨Nat.le_of_ble_eq_true rfl, Nat.le_of_ble_eq_true rfl⟩) (z_preV hX hS hH (zob_o hf14) rfl) rfl rfl hl.1 rfl (lv_room (Nat.le_of_ble_eq_true rfl)) dX0_feed_33 ⟨hc1, hs1⟩) hS (fun q _ hq => hq) (fun q hq => hq) (fun u t H1 locs ht hvm hw hB hz hk hS => ?_)
    obtain ⟨-, hw2⟩ := Prod.mk.inj hw.symm; subst hw2
    have hH : zH D cA ζ s13 H1 := z_at ht.symm hB
    have hcs : s.heap.size + (cells + (s13.1 - s10.1)) = s13.1 := by omega
    have hss : sl0 + (slots + (s13.2.1 - s10.2.1)) = s13.2.1 := by omega
    replace hcM := And.intro hc1 hs1
    generalize cells + (s13.1 - s10.1) = cells at hcs hcM ⊢; generalize slots + (s13.2.1 - s10.2.1) = slots at hss hcM ⊢
    clear hB hk hz hvm ht hle hck hc1 hs1; generalize H1 = H at hH hS ⊢
    refine lv_aload_n hx hb dX0_feed_36 rfl (lv_at hl 0 rfl) ?_
    refine lv_iload hx hb dX0_feed_37 (lv_at hl 5 rfl) ?_
    obtain ⟨f17, hf17, hf⟩ := dz_bo hf
    obtain ⟨x15, s16, hx15, hle, hck, hf⟩ := zcl_o hf
    have hc1 : cells + (s16.1 - s13.1) ≤ M := by omega
    have hs1 : slots + (s16.2.1 - s13.2.1) ≤ S := by omega
    refine va_callv (va_runV (As := [.int a4]) (rest := []) ⟨hx, hb, hml, hown, hts⟩ (mtX0_tapes l D cA ζ s13 h a4 K (x15, s16) hx15 (s16.1 - s13.1) (s16.2.1 - s13.2.1) (Nat.add_sub_cancel' hle.1) (Nat.add_sub_cancel' hle.2)) (cwV 1 hts (lw_V q886 q888 qs14 q84 q889) rfl rfl rfl (by decide +kernel) ⟨Nat.le_of_ble_eq_true rfl, Nat.le_of_ble_eq_true rfl⟩) (z_preV hX hS hH (zob_o hf17) rfl) rfl rfl hl.1 rfl (lv_room (Nat.le_of_ble_eq_true rfl)) dX0_feed_39 ⟨hc1, hs1⟩) hS (fun q _ hq => hq) (fun q hq => hq) (fun u t H1 locs ht hvm hw hB hz hk hS => ?_)
    obtain ⟨-, hw2⟩ := Prod.mk.inj hw.symm; subst hw2
    have hH : zH D cA ζ s16 H1 := z_at ht.symm hB
    have hcs : s.heap.size + (cells + (s16.1 - s13.1)) = s16.1 := by omega
    have hss : sl0 + (slots + (s16.2.1 - s13.2.1)) = s16.2.1 := by omega
    replace hcM := And.intro hc1 hs1
    generalize cells + (s16.1 - s13.1) = cells at hcs hcM ⊢; generalize slots + (s16.2.1 - s13.2.1) = slots at hss hcM ⊢
    clear hB hk hz hvm ht hle hck hc1 hs1; generalize H1 = H at hH hS ⊢
    refine lv_aload_n hx hb dX0_feed_42 rfl (lv_at hl 0 rfl) ?_
    obtain ⟨f18, hf18, hf⟩ := dz_bo hf
    obtain ⟨x19, hx19, hf⟩ := dz_bo hf
    refine va_get (C := RX0) (T := TX0) (N := 7) hx hb hts in_X0 hown hX.K (zrd_P hX hS hH (zob_o hf18)) 0 rfl rfl 4 (by decide) (hts _ q162) (fun _ hq => hq) (zvi_o hx19) dX0_feed_43 ?_
    obtain ⟨hM1, hS1⟩ : cells = M ∧ slots = S := by have hq := congrArg Prod.snd (Option.some.inj hf); rw [← hq] at hM hS0; have hM : s.heap.size + M = s16.1 := hM; have hS0 : sl0 + S = s16.2.1 := hS0; omega
    refine W.widen (k := M) (n := S) (Nat.le_of_eq hM1) (Nat.le_of_eq hS1) ?_
    exact W.iret (v := x19) hx hb hr (fun t ht hW => ⟨⟨x19, s16, rfl, Option.some.inj hf, z_at ht hH⟩, hS.F ht⟩) hS.2.2 dX0_feed_46
  · have hf := dz_f c10 hf
    refine lv_iconst (v := (-1)) hx hb dX0_feed_13 (by decide) ?_
    obtain ⟨hM1, hS1⟩ : cells = M ∧ slots = S := by have hq := congrArg Prod.snd (Option.some.inj hf); rw [← hq] at hM hS0; have hM : s.heap.size + M = τ.1 := hM; have hS0 : sl0 + S = τ.2.1 := hS0; omega
    refine W.widen (k := M) (n := S) (Nat.le_of_eq hM1) (Nat.le_of_eq hS1) ?_
    exact W.iret (v := (-1)) hx hb hr (fun t ht hW => ⟨⟨(-1), τ, rfl, Option.some.inj hf, z_at ht hH⟩, hS.F ht⟩) hS.2.2 dX0_feed_14

noncomputable def fnX0_back (K : Nat) (ζ : pZ) (h : Nat) (a0 : Int32) (τ : pH) : Option (Int32 × pH) := dz_b (zob ζ τ h 0) fun f1 => dz_b (zvi (f1[4]?)) fun x2 => dz_b (fnX0_isIn K (Int32.toInt64 a0) 0 (Int32.toInt64 x2)) fun x3 => if x3 = (0 : Int32) then (some ((-1), τ)) else (dz_b (zob ζ τ h 0) fun f4 => dz_b (zvi (f4[4]?)) fun x5 => dz_l (x5 - a0) fun x6 => dz_b (zwo ζ τ h 0 4) fun f7 => dz_l (zst τ h (.inr (0, f7.set 4 (.int x6)))) fun s8 => dz_b (zob ζ s8 h 0) fun f9 => dz_b (zvi (f9[4]?)) fun x10 => some (x10, s8))
set_option maxHeartbeats 4000000 in
set_option maxRecDepth 100000 in
theorem mtX0_back (l : Launch) (D : va_G) (cA : Nat → ClassId) (ζ : pZ) (τ : pH) (h : Nat) (a0 : Int32) (K : Nat) (res : (Int32 × pH)) (hf : fnX0_back K ζ h a0 τ = some res) (M S : Nat) (hM : τ.1 + M = res.2.1) (hS0 : τ.2.1 + S = res.2.2.1) : Met l yX0_back (ws_ yX0_back cX0_back 2 (some .int)) ({ frames := 1, cells := M, slots := S, locals := 25 }) (zPc D cA ζ τ [.ref h, .int a0]) (zQi D cA ζ res) M S (zA ζ) := by
  refine Met.ofW (cc := cX0_back) (maxL := 2) (ret := some .int) (by decide +kernel) rfl ?_
  intro p e s m args below meth c s₁ B hml hv
  obtain ⟨rfl, hX, hH⟩ := hv
  have hx := B.exec
  have hb := B.bytes
  have hr := B.returns
  have hts := atoms_spec (ws := ws_ yX0_back cX0_back 2 (some .int)) B.pre
  have hts : ∀ w ∈ lw_all, w.before _ s = true := fun w h => hts w (List.mem_cons_of_mem _ h)
  have hown : s.vm.findClass RX0 = some m.cls := findClass_of_methodNamed B.named
  have hlocks := B.notSynchronized
  have hM : s.heap.size + M = res.2.1 := by rw [hH.1]; exact hM
  have hcs : s.heap.size + 0 = τ.1 := hH.1
  have hss : τ.2.1 + 0 = τ.2.1 := rfl
  generalize hsl0 : τ.2.1 = sl0 at hS0 hss
  have hss : sl0 + 0 = τ.2.1 := by rw [hsl0]; rfl
  have hS : va_S (zA ζ) s.heap s.heap [] := va_S.rf
  generalize hHe : s.heap = H at hH hS ⊢
  have hS : va_S (zA ζ) s.heap H [] := by rw [hHe]; exact hS
  generalize ([] : List Loc) = locs at hS ⊢
  have hl := lv_entry ([.ref h, .int a0]) (n := 2) (Nat.le_of_ble_eq_true rfl)
  rw [lg_entry_eq]
  generalize (lg_sl ([.ref h, .int a0]) ++ List.replicate (2 - (lg_sl ([.ref h, .int a0])).length) Slot.unset).toArray = ls at hl ⊢
  have hl : lv_has ls 2 [(0, .ref h), (1, .int a0)] := hl
  have hf : (dz_b (zob ζ τ h 0) fun f1 => dz_b (zvi (f1[4]?)) fun x2 => dz_b (fnX0_isIn K (Int32.toInt64 a0) 0 (Int32.toInt64 x2)) fun x3 => if x3 = (0 : Int32) then (some ((-1), τ)) else (dz_b (zob ζ τ h 0) fun f4 => dz_b (zvi (f4[4]?)) fun x5 => dz_l (x5 - a0) fun x6 => dz_b (zwo ζ τ h 0 4) fun f7 => dz_l (zst τ h (.inr (0, f7.set 4 (.int x6)))) fun s8 => dz_b (zob ζ s8 h 0) fun f9 => dz_b (zvi (f9[4]?)) fun x10 => some (x10, s8)) : Option (Int32 × pH)) = some res := hf
  refine z_gen (fun cells slots hc0 hs0 => ?_)
  have hcs : s.heap.size + cells = τ.1 := by rw [hc0]; exact hcs
  have hss : sl0 + slots = τ.2.1 := by rw [hs0]; exact hss
  have hcM : cells ≤ M ∧ slots ≤ S := by rw [hc0, hs0]; exact ⟨Nat.zero_le _, Nat.zero_le _⟩
  clear hc0 hs0
  refine lv_iload_n hx hb dX0_back_0 rfl (lv_at hl 1 rfl) ?_
  refine lv_i2l hx hb dX0_back_1 (rfl : _ = Int32.toInt64 a0) ?_
  refine lv_lconst (v := 0) hx hb dX0_back_2 rfl ?_
  refine lv_aload_n hx hb dX0_back_3 rfl (lv_at hl 0 rfl) ?_
  obtain ⟨f1, hf1, hf⟩ := dz_bo hf
  obtain ⟨x2, hx2, hf⟩ := dz_bo hf
  refine va_get (C := RX0) (T := TX0) (N := 7) hx hb hts in_X0 hown hX.K (zrd_P hX hS hH (zob_o hf1)) 0 rfl rfl 4 (by decide) (hts _ q162) (fun _ hq => hq) (zvi_o hx2) dX0_back_4 ?_
  refine lv_i2l hx hb dX0_back_7 (rfl : _ = Int32.toInt64 x2) ?_
  obtain ⟨x3, hx3, hf⟩ := dz_bo hf
  refine va_calli (va_runS (As := [.long (Int32.toInt64 a0), .long 0, .long (Int32.toInt64 x2)]) (rest := []) ⟨hx, hb, hml, hown, hts⟩ (mtX0_isIn l (Int32.toInt64 a0) 0 (Int32.toInt64 x2) K x3 hx3) (va_cwS 3 hts (lw_S q188 q189 q84 q190) rfl rfl rfl (by decide +kernel) ⟨Nat.le_of_ble_eq_true rfl, Nat.le_of_ble_eq_true rfl⟩) ⟨fun a U g mk q => q, fun U hU hW => ⟨rfl, trivial⟩⟩ rfl rfl hl.1 rfl (lv_room (Nat.le_of_ble_eq_true rfl)) dX0_back_8 ⟨hcM.1, hcM.2⟩) hS (fun q _ hq => hq.elim) (fun q hq => hq.elim) (fun r u t H1 locs ht hvm hw hB hz hk hS => dz_size (fun hz9 => ?_))
  replace hw := hw.symm; subst hw
  replace hH := zH_keep hH hcs hz hk hz9
  clear hB hk hz hvm ht hz9; generalize H1 = H at hH hS ⊢
  refine W.widen (k := cells) (n := slots) (Nat.le_refl _) (Nat.le_refl _) ?_
  refine lv_if_ne (tgt := 16) hx hb dX0_back_11 (by decide) (fun c11 => ?_) (fun c11 => ?_)
  · have hf := dz_f c11 hf
    refine lv_aload_n hx hb dX0_back_16 rfl (lv_at hl 0 rfl) ?_
    refine lv_dup hx hb dX0_back_17 rfl ?_
    obtain ⟨f4, hf4, hf⟩ := dz_bo hf
    obtain ⟨x5, hx5, hf⟩ := dz_bo hf
    refine va_get (C := RX0) (T := TX0) (N := 7) hx hb hts in_X0 hown hX.K (zrd_P hX hS hH (zob_o hf4)) 0 rfl rfl 4 (by decide) (hts _ q162) (fun _ hq => hq) (zvi_o hx5) dX0_back_18 ?_
    refine lv_iload_n hx hb dX0_back_21 rfl (lv_at hl 1 rfl) ?_
    refine lv_isub hx hb dX0_back_22 ?_
    refine lv_topi (fun x6 e_x6 => ?_)
    have hf := dz_ls e_x6 hf
    obtain ⟨f7, hf7, hf⟩ := dz_bo hf
    obtain ⟨ha_f7, he_f7, hk_f7⟩ := zwo_o hf7
    refine va_put (C := RX0) (T := TX0) (N := 7) hx hb hts in_X0 tyX0 tyX0_ok nmX0 hown hX.K hH.2.2 zw_D hS _ (zw_o ha_f7 he_f7) rfl 4 (by decide) (hts _ q162) (fun _ hq => hq) rfl rfl rfl rfl hk_f7 dX0_back_23 (fun H1 locs hP1 _ hS => dz_size (fun hz => ?_))
    obtain ⟨s8, e_s8, hf⟩ := dz_lo hf
    have hH := zH_put (x := .inr (0, f7.set 4 (.int x6))) hH hcs ha_f7 hP1 hz
    rw [← e_s8] at hH
    have hcs : s.heap.size + cells = s8.1 := by rw [e_s8]; exact hcs
    have hss : sl0 + slots = s8.2.1 := by rw [e_s8]; exact hss
    clear hP1 hz; generalize H1 = H at hH hS ⊢
    refine lv_aload_n hx hb dX0_back_26 rfl (lv_at hl 0 rfl) ?_
    obtain ⟨f9, hf9, hf⟩ := dz_bo hf
    obtain ⟨x10, hx10, hf⟩ := dz_bo hf
    refine va_get (C := RX0) (T := TX0) (N := 7) hx hb hts in_X0 hown hX.K (zrd_P hX hS hH (zob_o hf9)) 0 rfl rfl 4 (by decide) (hts _ q162) (fun _ hq => hq) (zvi_o hx10) dX0_back_27 ?_
    obtain ⟨hM1, hS1⟩ : cells = M ∧ slots = S := by have hq := congrArg Prod.snd (Option.some.inj hf); rw [← hq] at hM hS0; have hM : s.heap.size + M = s8.1 := hM; have hS0 : sl0 + S = s8.2.1 := hS0; omega
    refine W.widen (k := M) (n := S) (Nat.le_of_eq hM1) (Nat.le_of_eq hS1) ?_
    exact W.iret (v := x10) hx hb hr (fun t ht hW => ⟨⟨x10, s8, rfl, Option.some.inj hf, z_at ht hH⟩, hS.F ht⟩) hS.2.2 dX0_back_30
  · have hf := dz_t c11 hf
    refine lv_iconst (v := (-1)) hx hb dX0_back_14 (by decide) ?_
    obtain ⟨hM1, hS1⟩ : cells = M ∧ slots = S := by have hq := congrArg Prod.snd (Option.some.inj hf); rw [← hq] at hM hS0; have hM : s.heap.size + M = τ.1 := hM; have hS0 : sl0 + S = τ.2.1 := hS0; omega
    refine W.widen (k := M) (n := S) (Nat.le_of_eq hM1) (Nat.le_of_eq hS1) ?_
    exact W.iret (v := (-1)) hx hb hr (fun t ht hW => ⟨⟨(-1), τ, rfl, Option.some.inj hf, z_at ht hH⟩, hS.F ht⟩) hS.2.2 dX0_back_15

noncomputable def fnL_hasPair (K : Nat) (ζ : pZ) (h : Nat)  (τ : pH) : Option (Int32 × pH) := dz_b (zoL ζ τ h) fun q => if q.1 = 5 then fnX6_hasPair_5 K ζ h  τ else (if q.1 = 6 then fnX6_hasPair_6 K ζ h  τ else (if q.1 = 7 then fnX6_hasPair_7 K ζ h  τ else (if q.1 = 8 then fnX6_hasPair_8 K ζ h  τ else (if q.1 = 9 then fnX6_hasPair_9 K ζ h  τ else (none)))))
theorem L_hasPair_o {K : Nat} {ζ : pZ} {h : Nat}  {τ : pH} {r : (Int32 × pH)} (hf : fnL_hasPair K ζ h  τ = some r) : (∃ fs, zrd ζ τ h = some (.inr (5, fs)) ∧ fnX6_hasPair_5 K ζ h  τ = some r) ∨ (∃ fs, zrd ζ τ h = some (.inr (6, fs)) ∧ fnX6_hasPair_6 K ζ h  τ = some r) ∨ (∃ fs, zrd ζ τ h = some (.inr (7, fs)) ∧ fnX6_hasPair_7 K ζ h  τ = some r) ∨ (∃ fs, zrd ζ τ h = some (.inr (8, fs)) ∧ fnX6_hasPair_8 K ζ h  τ = some r) ∨ (∃ fs, zrd ζ τ h = some (.inr (9, fs)) ∧ fnX6_hasPair_9 K ζ h  τ = some r) := by
  obtain ⟨⟨ci, fs⟩, hq, hf⟩ := dz_bo hf
  obtain ⟨hr, hc⟩ := zoL_o hq
  rcases z5 hc with rfl | rfl | rfl | rfl | rfl
  · exact Or.inl ⟨fs, hr, hf⟩
  · exact Or.inr (Or.inl ⟨fs, hr, hf⟩)
  · exact Or.inr (Or.inr (Or.inl ⟨fs, hr, hf⟩))
  · exact Or.inr (Or.inr (Or.inr (Or.inl ⟨fs, hr, hf⟩)))
  · exact Or.inr (Or.inr (Or.inr (Or.inr ⟨fs, hr, hf⟩)))

noncomputable def fnX0_isLine (K : Nat) (ζ : pZ) (h : Nat) (a0 : Int32) (τ : pH) : Option (Int32 × pH) := dz_b (zob ζ τ h 0) fun f1 => dz_b (zvr (f1[0]?)) fun x2 => dz_b (zob ζ τ x2 14) fun f5 => zcl τ (fnJ2_size K ζ x2 τ) fun x3 s4 => dz_b (fnX0_isIn K (Int32.toInt64 a0) 0 (Int32.toInt64 (x3 - 1))) fun x6 => if x6 = 0 ∨ x6 = 1 then (some (x6, s4)) else none
set_option maxHeartbeats 4000000 in
set_option maxRecDepth 100000 in
theorem mtX0_isLine (l : Launch) (D : va_G) (cA : Nat → ClassId) (ζ : pZ) (τ : pH) (h : Nat) (a0 : Int32) (K : Nat) (res : (Int32 × pH)) (hf : fnX0_isLine K ζ h a0 τ = some res) (M S : Nat) (hM : τ.1 + M = res.2.1) (hS0 : τ.2.1 + S = res.2.2.1) : Met l yX0_isLine (ws_ yX0_isLine cX0_isLine 2 (some .boolean)) ({ frames := 1, cells := M, slots := S, locals := 25 }) (zPc D cA ζ τ [.ref h, .int a0]) (zQi D cA ζ res) M S (zA ζ) := by
  refine Met.ofW (cc := cX0_isLine) (maxL := 2) (ret := some .boolean) (by decide +kernel) rfl ?_
  intro p e s m args below meth c s₁ B hml hv
  obtain ⟨rfl, hX, hH⟩ := hv
  have hx := B.exec
  have hb := B.bytes
  have hr := B.returns
  have hts := atoms_spec (ws := ws_ yX0_isLine cX0_isLine 2 (some .boolean)) B.pre
  have hts : ∀ w ∈ lw_all, w.before _ s = true := fun w h => hts w (List.mem_cons_of_mem _ h)
  have hown : s.vm.findClass RX0 = some m.cls := findClass_of_methodNamed B.named
  have hlocks := B.notSynchronized
  have hM : s.heap.size + M = res.2.1 := by rw [hH.1]; exact hM
  have hcs : s.heap.size + 0 = τ.1 := hH.1
  have hss : τ.2.1 + 0 = τ.2.1 := rfl
  generalize hsl0 : τ.2.1 = sl0 at hS0 hss
  have hss : sl0 + 0 = τ.2.1 := by rw [hsl0]; rfl
  have hS : va_S (zA ζ) s.heap s.heap [] := va_S.rf
  generalize hHe : s.heap = H at hH hS ⊢
  have hS : va_S (zA ζ) s.heap H [] := by rw [hHe]; exact hS
  generalize ([] : List Loc) = locs at hS ⊢
  have hl := lv_entry ([.ref h, .int a0]) (n := 2) (Nat.le_of_ble_eq_true rfl)
  rw [lg_entry_eq]
  generalize (lg_sl ([.ref h, .int a0]) ++ List.replicate (2 - (lg_sl ([.ref h, .int a0])).length) Slot.unset).toArray = ls at hl ⊢
  have hl : lv_has ls 2 [(0, .ref h), (1, .int a0)] := hl
  have hf : (dz_b (zob ζ τ h 0) fun f1 => dz_b (zvr (f1[0]?)) fun x2 => dz_b (zob ζ τ x2 14) fun f5 => zcl τ (fnJ2_size K ζ x2 τ) fun x3 s4 => dz_b (fnX0_isIn K (Int32.toInt64 a0) 0 (Int32.toInt64 (x3 - 1))) fun x6 => if x6 = 0 ∨ x6 = 1 then (some (x6, s4)) else none : Option (Int32 × pH)) = some res := hf
  refine z_gen (fun cells slots hc0 hs0 => ?_)
  have hcs : s.heap.size + cells = τ.1 := by rw [hc0]; exact hcs
  have hss : sl0 + slots = τ.2.1 := by rw [hs0]; exact hss
  have hcM : cells ≤ M ∧ slots ≤ S := by rw [hc0, hs0]; exact ⟨Nat.zero_le _, Nat.zero_le _⟩
  clear hc0 hs0
  refine lv_iload_n hx hb dX0_isLine_0 rfl (lv_at hl 1 rfl) ?_
  refine lv_i2l hx hb dX0_isLine_1 (rfl : _ = Int32.toInt64 a0) ?_
  refine lv_lconst (v := 0) hx hb dX0_isLine_2 rfl ?_
  refine lv_aload_n hx hb dX0_isLine_3 rfl (lv_at hl 0 rfl) ?_
  obtain ⟨f1, hf1, hf⟩ := dz_bo hf
  obtain ⟨x2, hx2, hf⟩ := dz_bo hf
  refine va_get (C := RX0) (T := TX0) (N := 7) hx hb hts in_X0 hown hX.K (zrd_P hX hS hH (zob_o hf1)) 0 rfl rfl 0 (by decide) (hts _ q156) (fun _ hq => hq) (zvr_o hx2) dX0_isLine_4 ?_
  obtain ⟨f5, hf5, hf⟩ := dz_bo hf
  obtain ⟨x3, s4, hx3, hle, hck, hf⟩ := zcl_o hf
  have hc1 : cells + (s4.1 - τ.1) ≤ M := by omega
  have hs1 : slots + (s4.2.1 - τ.2.1) ≤ S := by omega
  refine va_calli (va_runV (As := []) (rest := [.long 0, .long (Int32.toInt64 a0)]) ⟨hx, hb, hml, hown, hts⟩ (mtJ2_size l D cA ζ τ x2 K (x3, s4) hx3 (s4.1 - τ.1) (s4.2.1 - τ.2.1) (Nat.add_sub_cancel' hle.1) (Nat.add_sub_cancel' hle.2)) (cwV 0 hts (lw_V q200 q201 q202 q87 q203) rfl rfl rfl (by decide +kernel) ⟨Nat.le_of_ble_eq_true rfl, Nat.le_of_ble_eq_true rfl⟩) (z_preV hX hS hH (zob_o hf5) rfl) rfl rfl hl.1 rfl (lv_room (Nat.le_of_ble_eq_true rfl)) dX0_isLine_7 ⟨hc1, hs1⟩) hS (fun q _ hq => hq) (fun q hq => hq) (fun r u t H1 locs ht hvm hw hB hz hk hS => ?_)
  obtain ⟨hw1, hw2⟩ := Prod.mk.inj hw.symm; subst hw1; subst hw2
  have hH : zH D cA ζ s4 H1 := z_at ht.symm hB
  have hcs : s.heap.size + (cells + (s4.1 - τ.1)) = s4.1 := by omega
  have hss : sl0 + (slots + (s4.2.1 - τ.2.1)) = s4.2.1 := by omega
  replace hcM := And.intro hc1 hs1
  generalize cells + (s4.1 - τ.1) = cells at hcs hcM ⊢; generalize slots + (s4.2.1 - τ.2.1) = slots at hss hcM ⊢
  clear hB hk hz hvm ht hle hck hc1 hs1; generalize H1 = H at hH hS ⊢
  refine lv_iconst (v := 1) hx hb dX0_isLine_10 (by decide) ?_
  refine lv_isub hx hb dX0_isLine_11 ?_
  refine lv_i2l hx hb dX0_isLine_12 (rfl : _ = Int32.toInt64 (x3 - 1)) ?_
  obtain ⟨x6, hx6, hf⟩ := dz_bo hf
  refine va_calli (va_runS (As := [.long (Int32.toInt64 a0), .long 0, .long (Int32.toInt64 (x3 - 1))]) (rest := []) ⟨hx, hb, hml, hown, hts⟩ (mtX0_isIn l (Int32.toInt64 a0) 0 (Int32.toInt64 (x3 - 1)) K x6 hx6) (va_cwS 3 hts (lw_S q188 q189 q84 q190) rfl rfl rfl (by decide +kernel) ⟨Nat.le_of_ble_eq_true rfl, Nat.le_of_ble_eq_true rfl⟩) ⟨fun a U g mk q => q, fun U hU hW => ⟨rfl, trivial⟩⟩ rfl rfl hl.1 rfl (lv_room (Nat.le_of_ble_eq_true rfl)) dX0_isLine_13 ⟨hcM.1, hcM.2⟩) hS (fun q _ hq => hq.elim) (fun q hq => hq.elim) (fun r u t H1 locs ht hvm hw hB hz hk hS => dz_size (fun hz9 => ?_))
  replace hw := hw.symm; subst hw
  replace hH := zH_keep hH hcs hz hk hz9
  clear hB hk hz hvm ht hz9; generalize H1 = H at hH hS ⊢
  refine W.widen (k := cells) (n := slots) (Nat.le_refl _) (Nat.le_refl _) ?_
  obtain ⟨g7, hf⟩ := dz_go hf
  obtain ⟨hM1, hS1⟩ : cells = M ∧ slots = S := by have hq := congrArg Prod.snd (Option.some.inj hf); rw [← hq] at hM hS0; have hM : s.heap.size + M = s4.1 := hM; have hS0 : sl0 + S = s4.2.1 := hS0; omega
  refine W.widen (k := M) (n := S) (Nat.le_of_eq hM1) (Nat.le_of_eq hS1) ?_
  exact W.zret (v := x6) hx hb hr (dz_nz g7) (fun t ht hW => ⟨⟨x6, s4, rfl, Option.some.inj hf, z_at ht hH⟩, hS.F ht⟩) hS.2.2 dX0_isLine_16

