noncomputable def lfX0_restOn__0 (K : Nat) (ζ : pZ) : Nat → (Nat → Int64 → Int32 → Int32 → pH → Option (Int32 × pH)) × (Nat → Int64 → Int32 → Int32 → pH → Option (Int32 × pH)) := Nat.rec (motive := fun _ => (Nat → Int64 → Int32 → Int32 → pH → Option (Int32 × pH)) × (Nat → Int64 → Int32 → Int32 → pH → Option (Int32 × pH))) ((fun _ _ _ _ _ => none), (fun _ _ _ _ _ => none)) (fun _ G => ((fun v0 v1 v3 v4 τ => if v3 ≤ v4 then (some ((-2), τ)) else (dz_b (zob ζ τ v0 0) fun f1 => dz_b (zvr (f1[0]?)) fun x2 => dz_b (zob ζ τ x2 14) fun f5 => zcl τ (fnJ2_get K ζ x2 v4 τ) fun x3 s4 => dz_c (zoL ζ s4 x3) fun cf6 f6 => dz_c (zoL ζ s4 x3) fun cf7 f7 => dz_b (zvl (f7[0]?)) fun x8 => if x8 = v1 then (dz_b (zob ζ s4 v0 0) fun f11 => zcl s4 (fnX0_isRight__0 K ζ v0 v4 s4) fun x9 s10 => if x9 = (0 : Int32) then (G.2 v0 v1 v3 v4 s10) else (some (v4, s10))) else (G.2 v0 v1 v3 v4 s4))), (fun v0 v1 v3 v4 τ => dz_l (v4 + 1) fun x1 => G.1 v0 v1 v3 x1 τ)))
noncomputable def fnX0_restOn__0 (K : Nat) (ζ : pZ) (h : Nat) (a0 : Int64) (a1 : Int32) (τ : pH) : Option (Int32 × pH) := (lfX0_restOn__0 K ζ K).1 h a0 a1 0 τ
set_option maxHeartbeats 4000000 in
set_option maxRecDepth 100000 in
theorem wlX0_restOn__0 {p : Program} {l : Launch} {e : Env} {s : State} {m : MethodId} {below : List Frame} {meth : Method} {c : Code} {D : va_G} {cA : Nat → ClassId} {ζ : pZ} (hX : zX D cA ζ s) (K : Nat) (res : (Int32 × pH)) (M S sl0 : Nat) (hM : s.heap.size + M = res.2.1) (hS0 : sl0 + S = res.2.2.1) (h : Nat) (a0 : Int64) (a1 : Int32) (hx : p.tables.exec = Jvm.exec) (hb : c.code = cX0_restOn) (hr : meth.sig.returnType = some .int) (hlocks : meth.locks = false) (hml : c.maxLocals = 5) (hown : s.vm.findClass RX0 = some m.cls) (hts : ∀ w ∈ lw_all, w.before ([.ref h, .long a0, .int a1] : List Value).toArray s = true) : ∀ k : Nat, (∀ (v0 : Nat) (v1 : Int64) (v3 : Int32) (v4 : Int32) (τ : pH) (H : Heap) (locs : List Loc) (cells slots : Nat), zH D cA ζ τ H → va_S (zA ζ) s.heap H locs → s.heap.size + cells = τ.1 → sl0 + slots = τ.2.1 → cells ≤ M ∧ slots ≤ S → ∀ (ls : Array Slot), lv_has ls 5 [(0, .ref v0), (1, .long v1), (3, .int v3), (4, .int v4)] → (lfX0_restOn__0 K ζ k).1 v0 v1 v3 v4 τ = some res → W p l e (headSpec (ws_ yX0_restOn cX0_restOn 5 (some .int)) ({ frames := 4, cells := M, slots := S, locals := 85 })).room s m ([.ref h, .long a0, .int a1] : List Value).toArray below meth c H locs cells slots (MQ below (zQi D cA ζ res) ([.ref h, .long a0, .int a1] : List Value).toArray s M S (zA ζ)) (F0 m 3 ls [])) ∧ (∀ (v0 : Nat) (v1 : Int64) (v3 : Int32) (v4 : Int32) (τ : pH) (H : Heap) (locs : List Loc) (cells slots : Nat), zH D cA ζ τ H → va_S (zA ζ) s.heap H locs → s.heap.size + cells = τ.1 → sl0 + slots = τ.2.1 → cells ≤ M ∧ slots ≤ S → ∀ (ls : Array Slot), lv_has ls 5 [(0, .ref v0), (1, .long v1), (3, .int v3), (4, .int v4)] → (lfX0_restOn__0 K ζ k).2 v0 v1 v3 v4 τ = some res → W p l e (headSpec (ws_ yX0_restOn cX0_restOn 5 (some .int)) ({ frames := 4, cells := M, slots := S, locals := 85 })).room s m ([.ref h, .long a0, .int a1] : List Value).toArray below meth c H locs cells slots (MQ below (zQi D cA ζ res) ([.ref h, .long a0, .int a1] : List Value).toArray s M S (zA ζ)) (F0 m 41 ls [])) := by
  intro k
  induction k with
  | zero =>
    exact ⟨fun _ _ _ _ _ _ _ _ _ _ _ _ _ _ _ _ hf => (by cases hf), fun _ _ _ _ _ _ _ _ _ _ _ _ _ _ _ _ hf => (by cases hf)⟩
  | succ k ih =>
    refine ⟨?_, ?_⟩
    · intro v0 v1 v3 v4 τ H locs cells slots hH hS hcs hss hcM ls hl hf
      have hf : (if v3 ≤ v4 then (some ((-2), τ)) else (dz_b (zob ζ τ v0 0) fun f1 => dz_b (zvr (f1[0]?)) fun x2 => dz_b (zob ζ τ x2 14) fun f5 => zcl τ (fnJ2_get K ζ x2 v4 τ) fun x3 s4 => dz_c (zoL ζ s4 x3) fun cf6 f6 => dz_c (zoL ζ s4 x3) fun cf7 f7 => dz_b (zvl (f7[0]?)) fun x8 => if x8 = v1 then (dz_b (zob ζ s4 v0 0) fun f11 => zcl s4 (fnX0_isRight__0 K ζ v0 v4 s4) fun x9 s10 => if x9 = (0 : Int32) then ((lfX0_restOn__0 K ζ k).2 v0 v1 v3 v4 s10) else (some (v4, s10))) else ((lfX0_restOn__0 K ζ k).2 v0 v1 v3 v4 s4)) : Option (Int32 × pH)) = some res := hf
      refine lv_iload hx hb dX0_restOn_3 (lv_at hl 3 rfl) ?_
      refine lv_iload_n hx hb dX0_restOn_5 rfl (lv_at hl 2 rfl) ?_
      refine lv_icmp_ge (tgt := 47) hx hb dX0_restOn_6 (by decide) (fun c6 => ?_) (fun c6 => ?_)
      · have hf := dz_t c6 hf
        refine lv_bipush (v := (-2)) hx hb dX0_restOn_47 (by decide) ?_
        obtain ⟨hM1, hS1⟩ : cells = M ∧ slots = S := by have hq := congrArg Prod.snd (Option.some.inj hf); rw [← hq] at hM hS0; have hM : s.heap.size + M = τ.1 := hM; have hS0 : sl0 + S = τ.2.1 := hS0; omega
        refine W.widen (k := M) (n := S) (Nat.le_of_eq hM1) (Nat.le_of_eq hS1) ?_
        exact W.iret (v := (-2)) hx hb hr (fun t ht hW => ⟨⟨(-2), τ, rfl, Option.some.inj hf, z_at ht hH⟩, hS.F ht⟩) hS.2.2 dX0_restOn_49
      · have hf := dz_f c6 hf
        refine lv_aload_n hx hb dX0_restOn_9 rfl (lv_at hl 0 rfl) ?_
        obtain ⟨f1, hf1, hf⟩ := dz_bo hf
        obtain ⟨x2, hx2, hf⟩ := dz_bo hf
        refine va_get (C := RX0) (T := TX0) (N := 7) hx hb hts in_X0 hown hX.K (zrd_P hX hS hH (zob_o hf1)) 0 rfl rfl 0 (by decide) (hts _ q156) (fun _ hq => hq) (zvr_o hx2) dX0_restOn_10 ?_
        refine lv_iload hx hb dX0_restOn_13 (lv_at hl 3 rfl) ?_
        obtain ⟨f5, hf5, hf⟩ := dz_bo hf
        obtain ⟨x3, s4, hx3, hle, hck, hf⟩ := zcl_o hf
        have hc1 : cells + (s4.1 - τ.1) ≤ M := by omega
        have hs1 : slots + (s4.2.1 - τ.2.1) ≤ S := by omega
        refine va_callr (va_runV (As := [.int v4]) (rest := []) ⟨hx, hb, hml, hown, hts⟩ (mtJ2_get l D cA ζ τ x2 v4 K (x3, s4) hx3 (s4.1 - τ.1) (s4.2.1 - τ.2.1) (Nat.add_sub_cancel' hle.1) (Nat.add_sub_cancel' hle.2)) (cwV 1 hts (lw_V q204 q205 q206 q87 q207) rfl rfl rfl (by decide +kernel) ⟨Nat.le_of_ble_eq_true rfl, Nat.le_of_ble_eq_true rfl⟩) (z_preV hX hS hH (zob_o hf5) rfl) rfl rfl hl.1 rfl (lv_room (Nat.le_of_ble_eq_true rfl)) dX0_restOn_15 ⟨hc1, hs1⟩) hS (fun q _ hq => hq) (fun q hq => hq) (fun u r t H1 locs ht hvm hw hB hz hk hS => ?_)
        obtain ⟨hw, hB⟩ := hB
        obtain ⟨hw1, hw2⟩ := Prod.mk.inj hw.symm; subst hw1; subst hw2
        have hH : zH D cA ζ s4 H1 := z_at ht.symm hB
        have hcs : s.heap.size + (cells + (s4.1 - τ.1)) = s4.1 := by omega
        have hss : sl0 + (slots + (s4.2.1 - τ.2.1)) = s4.2.1 := by omega
        replace hcM := And.intro hc1 hs1
        generalize cells + (s4.1 - τ.1) = cells at hcs hcM ⊢; generalize slots + (s4.2.1 - τ.2.1) = slots at hss hcM ⊢
        clear hB hk hz hvm ht hle hck hc1 hs1; generalize H1 = H at hH hS ⊢
        obtain ⟨cf6, f6, hcf6, hf⟩ := dz_co hf
        obtain ⟨hr_f6, hc_f6⟩ := zoL_o hcf6
        refine zL_cast hx hb hown (hts _ q218) hX hS hH hr_f6 hc_f6 dX0_restOn_18 ?_
        obtain ⟨cf7, f7, hcf7, hf⟩ := dz_co hf
        obtain ⟨x8, hx8, hf⟩ := dz_bo hf
        obtain ⟨hr_f7, hc_f7⟩ := zoL_o hcf7
        refine zL_get0 hx hb hts hown hX hS hH hr_f7 hc_f7 (hts _ q541) (zvl_o hx8) dX0_restOn_21 ?_
        refine lv_lload_n hx hb dX0_restOn_24 rfl (lv_at hl 1 rfl) ?_
        refine W.lcmp hx hb dX0_restOn_25 ?_
        refine lv_if_ne (tgt := 41) hx hb dX0_restOn_26 (by decide) (fun c26 => ?_) (fun c26 => ?_)
        · have c26 : ¬ x8 = v1 := fun hq => c26 ((lg_cmp_eq _ _).mpr hq)
          have hf := dz_f c26 hf
          exact ih.2 v0 v1 v3 v4 s4 H locs cells slots hH hS hcs hss hcM ls (lv_sub hl [0, 1, 2, 3] rfl) hf
        · have c26 : x8 = v1 := (lg_cmp_eq _ _).mp c26
          have hf := dz_t c26 hf
          refine lv_aload_n hx hb dX0_restOn_29 rfl (lv_at hl 0 rfl) ?_
          refine lv_iload hx hb dX0_restOn_30 (lv_at hl 3 rfl) ?_
          obtain ⟨f11, hf11, hf⟩ := dz_bo hf
          obtain ⟨x9, s10, hx9, hle, hck, hf⟩ := zcl_o hf
          have hc1 : cells + (s10.1 - s4.1) ≤ M := by omega
          have hs1 : slots + (s10.2.1 - s4.2.1) ≤ S := by omega
          refine va_calli (va_runV (As := [.int v4]) (rest := []) ⟨hx, hb, hml, hown, hts⟩ (mtX0_isRight__0 l D cA ζ s4 v0 v4 K (x9, s10) hx9 (s10.1 - s4.1) (s10.2.1 - s4.2.1) (Nat.add_sub_cancel' hle.1) (Nat.add_sub_cancel' hle.2)) (cwV 1 hts (lw_V q219 q221 qs1 q84 q222) rfl rfl rfl (by decide +kernel) ⟨Nat.le_of_ble_eq_true rfl, Nat.le_of_ble_eq_true rfl⟩) (z_preV hX hS hH (zob_o hf11) rfl) rfl rfl hl.1 rfl (lv_room (Nat.le_of_ble_eq_true rfl)) dX0_restOn_32 ⟨hc1, hs1⟩) hS (fun q _ hq => hq) (fun q hq => hq) (fun r u t H1 locs ht hvm hw hB hz hk hS => ?_)
          obtain ⟨hw1, hw2⟩ := Prod.mk.inj hw.symm; subst hw1; subst hw2
          have hH : zH D cA ζ s10 H1 := z_at ht.symm hB
          have hcs : s.heap.size + (cells + (s10.1 - s4.1)) = s10.1 := by omega
          have hss : sl0 + (slots + (s10.2.1 - s4.2.1)) = s10.2.1 := by omega
          replace hcM := And.intro hc1 hs1
          generalize cells + (s10.1 - s4.1) = cells at hcs hcM ⊢; generalize slots + (s10.2.1 - s4.2.1) = slots at hss hcM ⊢
          clear hB hk hz hvm ht hle hck hc1 hs1; generalize H1 = H at hH hS ⊢
          refine lv_if_eq (tgt := 41) hx hb dX0_restOn_35 (by decide) (fun c35 => ?_) (fun c35 => ?_)
          · have hf := dz_t c35 hf
            exact ih.2 v0 v1 v3 v4 s10 H locs cells slots hH hS hcs hss hcM ls (lv_sub hl [0, 1, 2, 3] rfl) hf
          · have hf := dz_f c35 hf
            refine lv_iload hx hb dX0_restOn_38 (lv_at hl 3 rfl) ?_
            obtain ⟨hM1, hS1⟩ : cells = M ∧ slots = S := by have hq := congrArg Prod.snd (Option.some.inj hf); rw [← hq] at hM hS0; have hM : s.heap.size + M = s10.1 := hM; have hS0 : sl0 + S = s10.2.1 := hS0; omega
            refine W.widen (k := M) (n := S) (Nat.le_of_eq hM1) (Nat.le_of_eq hS1) ?_
            exact W.iret (v := v4) hx hb hr (fun t ht hW => ⟨⟨v4, s10, rfl, Option.some.inj hf, z_at ht hH⟩, hS.F ht⟩) hS.2.2 dX0_restOn_40
    · intro v0 v1 v3 v4 τ H locs cells slots hH hS hcs hss hcM ls hl hf
      have hf : (dz_l (v4 + 1) fun x1 => (lfX0_restOn__0 K ζ k).1 v0 v1 v3 x1 τ : Option (Int32 × pH)) = some res := hf
      obtain ⟨x1, e_x1, hf⟩ := dz_lo hf
      refine lv_iinc (v := x1) (lv' := [(4, .int x1), (0, .ref v0), (1, .long v1), (3, .int v3)]) hx hb dX0_restOn_41 hl (k := 3) rfl (by rw [e_x1]; rfl) (by decide) rfl (fun ls hl => ?_)
      refine lv_goto (tgt := 3) hx hb dX0_restOn_44 (by decide) ?_
      exact ih.1 v0 v1 v3 x1 τ H locs cells slots hH hS hcs hss hcM ls (lv_sub hl [1, 2, 3, 0] rfl) hf
set_option maxHeartbeats 4000000 in
set_option maxRecDepth 100000 in
theorem mtX0_restOn__0 (l : Launch) (D : va_G) (cA : Nat → ClassId) (ζ : pZ) (τ : pH) (h : Nat) (a0 : Int64) (a1 : Int32) (K : Nat) (res : (Int32 × pH)) (hf : fnX0_restOn__0 K ζ h a0 a1 τ = some res) (M S : Nat) (hM : τ.1 + M = res.2.1) (hS0 : τ.2.1 + S = res.2.2.1) : Met l yX0_restOn (ws_ yX0_restOn cX0_restOn 5 (some .int)) ({ frames := 4, cells := M, slots := S, locals := 85 }) (zPc D cA ζ τ [.ref h, .long a0, .int a1]) (zQi D cA ζ res) M S (zA ζ) := by
  refine Met.ofW (cc := cX0_restOn) (maxL := 5) (ret := some .int) (by decide +kernel) rfl ?_
  intro p e s m args below meth c s₁ B hml hv
  obtain ⟨rfl, hX, hH⟩ := hv
  have hx := B.exec
  have hb := B.bytes
  have hr := B.returns
  have hts := atoms_spec (ws := ws_ yX0_restOn cX0_restOn 5 (some .int)) B.pre
  have hts : ∀ w ∈ lw_all, w.before _ s = true := fun w h => hts w (List.mem_cons_of_mem _ h)
  have hown : s.vm.findClass RX0 = some m.cls := findClass_of_methodNamed B.named
  have hlocks := B.notSynchronized
  have hM : s.heap.size + M = res.2.1 := by rw [hH.1]; exact hM
  have hcs : s.heap.size + 0 = τ.1 := hH.1
  have hss : τ.2.1 + 0 = τ.2.1 := rfl
  generalize hsl0 : τ.2.1 = sl0 at hS0 hss
  have hss : sl0 + 0 = τ.2.1 := by rw [hsl0]; rfl
  have hS : va_S (zA ζ) s.heap s.heap [] := va_S.rf
  generalize hHe : s.heap = H at hH hS ⊢
  have hS : va_S (zA ζ) s.heap H [] := by rw [hHe]; exact hS
  generalize ([] : List Loc) = locs at hS ⊢
  have hl := lv_entry ([.ref h, .long a0, .int a1]) (n := 5) (Nat.le_of_ble_eq_true rfl)
  rw [lg_entry_eq]
  generalize (lg_sl ([.ref h, .long a0, .int a1]) ++ List.replicate (5 - (lg_sl ([.ref h, .long a0, .int a1])).length) Slot.unset).toArray = ls at hl ⊢
  have hl : lv_has ls 5 [(0, .ref h), (1, .long a0), (3, .int a1)] := hl
  have hf : ((lfX0_restOn__0 K ζ K).1 h a0 a1 0 τ : Option (Int32 × pH)) = some res := hf
  refine z_gen (fun cells slots hc0 hs0 => ?_)
  have hcs : s.heap.size + cells = τ.1 := by rw [hc0]; exact hcs
  have hss : sl0 + slots = τ.2.1 := by rw [hs0]; exact hss
  have hcM : cells ≤ M ∧ slots ≤ S := by rw [hc0, hs0]; exact ⟨Nat.zero_le _, Nat.zero_le _⟩
  clear hc0 hs0
  have ih := wlX0_restOn__0 (l := l) (e := e) (below := below) (D := D) (cA := cA) hX K res M S sl0 hM hS0 h a0 a1 hx hb hr hlocks hml hown hts K
  refine lv_iconst (v := 0) hx hb dX0_restOn_0 (by decide) ?_
  refine lv_istore (lv' := [(4, .int 0), (0, .ref h), (1, .long a0), (3, .int a1)]) hx hb dX0_restOn_1 hl (by decide) rfl (fun ls hl => ?_)
  exact ih.1 h a0 a1 0 τ H locs cells slots hH hS hcs hss hcM ls (lv_sub hl [1, 2, 3, 0] rfl) hf

noncomputable def lfX8_hasTwice (K : Nat) (ζ : pZ) : Nat → (Nat → Int32 → pH → Option (Int32 × pH)) × (Nat → Int32 → Int32 → pH → Option (Int32 × pH)) := Nat.rec (motive := fun _ => (Nat → Int32 → pH → Option (Int32 × pH)) × (Nat → Int32 → Int32 → pH → Option (Int32 × pH))) ((fun _ _ _ => none), (fun _ _ _ _ => none)) (fun _ G => ((fun v0 v1 τ => dz_b (zob ζ τ v0 10) fun f1 => dz_b (zvi (f1[1]?)) fun x2 => if x2 ≤ v1 then (some (0, τ)) else (G.2 v0 v1 0 τ)), (fun v0 v1 v2 τ => if v1 ≤ v2 then (dz_l (v1 + 1) fun x1 => G.1 v0 x1 τ) else (dz_b (zob ζ τ v0 10) fun f2 => dz_b (zvr (f2[0]?)) fun x3 => dz_c (zaq ζ τ x3 5) fun n4 f5 => if ¬ (v1 < 0 ∨ n4 ≤ Int32.toNatClampNeg v1) then (dz_b (f5 (Int32.toNatClampNeg v1)) fun x7 => dz_b (zob ζ τ x7 11) fun f8 => dz_b (zvl (f8[0]?)) fun x9 => dz_b (zob ζ τ v0 10) fun f10 => dz_b (zvr (f10[0]?)) fun x11 => dz_c (zaq ζ τ x11 5) fun n12 f13 => if ¬ (v2 < 0 ∨ n12 ≤ Int32.toNatClampNeg v2) then (dz_b (f13 (Int32.toNatClampNeg v2)) fun x15 => dz_b (zob ζ τ x15 11) fun f16 => dz_b (zvl (f16[0]?)) fun x17 => if x9 = x17 then (some (1, τ)) else (dz_l (v2 + 1) fun x18 => G.2 v0 v1 x18 τ)) else none) else none))))
noncomputable def fnX8_hasTwice (K : Nat) (ζ : pZ) (h : Nat) (τ : pH) : Option (Int32 × pH) := (lfX8_hasTwice K ζ K).1 h 0 τ
set_option maxHeartbeats 4000000 in
set_option maxRecDepth 100000 in
theorem wlX8_hasTwice {p : Program} {l : Launch} {e : Env} {s : State} {m : MethodId} {below : List Frame} {meth : Method} {c : Code} {D : va_G} {cA : Nat → ClassId} {ζ : pZ} (hX : zX D cA ζ s) (K : Nat) (res : (Int32 × pH)) (M S sl0 : Nat) (hM : s.heap.size + M = res.2.1) (hS0 : sl0 + S = res.2.2.1) (h : Nat) (hx : p.tables.exec = Jvm.exec) (hb : c.code = cX8_hasTwice) (hr : meth.sig.returnType = some .boolean) (hlocks : meth.locks = false) (hml : c.maxLocals = 3) (hown : s.vm.findClass RX8 = some m.cls) (hts : ∀ w ∈ lw_all, w.before ([.ref h] : List Value).toArray s = true) : ∀ k : Nat, (∀ (v0 : Nat) (v1 : Int32) (τ : pH) (H : Heap) (locs : List Loc) (cells slots : Nat), zH D cA ζ τ H → va_S (zA ζ) s.heap H locs → s.heap.size + cells = τ.1 → sl0 + slots = τ.2.1 → cells ≤ M ∧ slots ≤ S → ∀ (ls : Array Slot), lv_has ls 3 [(0, .ref v0), (1, .int v1)] → (lfX8_hasTwice K ζ k).1 v0 v1 τ = some res → W p l e (headSpec (ws_ yX8_hasTwice cX8_hasTwice 3 (some .boolean)) ({ frames := 0, cells := M, slots := S, locals := 0 })).room s m ([.ref h] : List Value).toArray below meth c H locs cells slots (MQ below (zQi D cA ζ res) ([.ref h] : List Value).toArray s M S (zA ζ)) (F0 m 2 ls [])) ∧ (∀ (v0 : Nat) (v1 : Int32) (v2 : Int32) (τ : pH) (H : Heap) (locs : List Loc) (cells slots : Nat), zH D cA ζ τ H → va_S (zA ζ) s.heap H locs → s.heap.size + cells = τ.1 → sl0 + slots = τ.2.1 → cells ≤ M ∧ slots ≤ S → ∀ (ls : Array Slot), lv_has ls 3 [(0, .ref v0), (1, .int v1), (2, .int v2)] → (lfX8_hasTwice K ζ k).2 v0 v1 v2 τ = some res → W p l e (headSpec (ws_ yX8_hasTwice cX8_hasTwice 3 (some .boolean)) ({ frames := 0, cells := M, slots := S, locals := 0 })).room s m ([.ref h] : List Value).toArray below meth c H locs cells slots (MQ below (zQi D cA ζ res) ([.ref h] : List Value).toArray s M S (zA ζ)) (F0 m 12 ls [])) := by
  intro k
  induction k with
  | zero =>
    exact ⟨fun _ _ _ _ _ _ _ _ _ _ _ _ _ _ hf => (by cases hf), fun _ _ _ _ _ _ _ _ _ _ _ _ _ _ _ hf => (by cases hf)⟩
  | succ k ih =>
    refine ⟨?_, ?_⟩
    · intro v0 v1 τ H locs cells slots hH hS hcs hss hcM ls hl hf
      have hf : (dz_b (zob ζ τ v0 10) fun f1 => dz_b (zvi (f1[1]?)) fun x2 => if x2 ≤ v1 then (some (0, τ)) else ((lfX8_hasTwice K ζ k).2 v0 v1 0 τ) : Option (Int32 × pH)) = some res := hf
      refine lv_iload_n hx hb dX8_hasTwice_2 rfl (lv_at hl 1 rfl) ?_
      refine lv_aload_n hx hb dX8_hasTwice_3 rfl (lv_at hl 0 rfl) ?_
      obtain ⟨f1, hf1, hf⟩ := dz_bo hf
      obtain ⟨x2, hx2, hf⟩ := dz_bo hf
      refine va_get (C := RX8) (T := TX8) (N := 2) hx hb hts in_X8 hown hX.K (zrd_P hX hS hH (zob_o hf1)) 0 rfl rfl 1 (by decide) (hts _ q521) (fun _ hq => hq) (zvi_o hx2) dX8_hasTwice_4 ?_
      refine lv_icmp_ge (tgt := 53) hx hb dX8_hasTwice_7 (by decide) (fun c7 => ?_) (fun c7 => ?_)
      · have hf := dz_t c7 hf
        refine lv_iconst (v := 0) hx hb dX8_hasTwice_53 (by decide) ?_
        obtain ⟨hM1, hS1⟩ : cells = M ∧ slots = S := by have hq := congrArg Prod.snd (Option.some.inj hf); rw [← hq] at hM hS0; have hM : s.heap.size + M = τ.1 := hM; have hS0 : sl0 + S = τ.2.1 := hS0; omega
        refine W.widen (k := M) (n := S) (Nat.le_of_eq hM1) (Nat.le_of_eq hS1) ?_
        exact W.zret (v := 0) hx hb hr rfl (fun t ht hW => ⟨⟨0, τ, rfl, Option.some.inj hf, z_at ht hH⟩, hS.F ht⟩) hS.2.2 dX8_hasTwice_54
      · have hf := dz_f c7 hf
        refine lv_iconst (v := 0) hx hb dX8_hasTwice_10 (by decide) ?_
        refine lv_istore_n (lv' := [(2, .int 0), (0, .ref v0), (1, .int v1)]) hx hb dX8_hasTwice_11 rfl hl (by decide) rfl (fun ls hl => ?_)
        exact ih.2 v0 v1 0 τ H locs cells slots hH hS hcs hss hcM ls (lv_sub hl [1, 2, 0] rfl) hf
    · intro v0 v1 v2 τ H locs cells slots hH hS hcs hss hcM ls hl hf
      have hf : (if v1 ≤ v2 then (dz_l (v1 + 1) fun x1 => (lfX8_hasTwice K ζ k).1 v0 x1 τ) else (dz_b (zob ζ τ v0 10) fun f2 => dz_b (zvr (f2[0]?)) fun x3 => dz_c (zaq ζ τ x3 5) fun n4 f5 => if ¬ (v1 < 0 ∨ n4 ≤ Int32.toNatClampNeg v1) then (dz_b (f5 (Int32.toNatClampNeg v1)) fun x7 => dz_b (zob ζ τ x7 11) fun f8 => dz_b (zvl (f8[0]?)) fun x9 => dz_b (zob ζ τ v0 10) fun f10 => dz_b (zvr (f10[0]?)) fun x11 => dz_c (zaq ζ τ x11 5) fun n12 f13 => if ¬ (v2 < 0 ∨ n12 ≤ Int32.toNatClampNeg v2) then (dz_b (f13 (Int32.toNatClampNeg v2)) fun x15 => dz_b (zob ζ τ x15 11) fun f16 => dz_b (zvl (f16[0]?)) fun x17 => if x9 = x17 then (some (1, τ)) else (dz_l (v2 + 1) fun x18 => (lfX8_hasTwice K ζ k).2 v0 v1 x18 τ)) else none) else none) : Option (Int32 × pH)) = some res := hf
      refine lv_iload_n hx hb dX8_hasTwice_12 rfl (lv_at hl 2 rfl) ?_
      refine lv_iload_n hx hb dX8_hasTwice_13 rfl (lv_at hl 1 rfl) ?_
      refine lv_icmp_ge (tgt := 47) hx hb dX8_hasTwice_14 (by decide) (fun c14 => ?_) (fun c14 => ?_)
      · have hf := dz_t c14 hf
        obtain ⟨x1, e_x1, hf⟩ := dz_lo hf
        refine lv_iinc (v := x1) (lv' := [(1, .int x1), (0, .ref v0), (2, .int v2)]) hx hb dX8_hasTwice_47 hl (k := 1) rfl (by rw [e_x1]; rfl) (by decide) rfl (fun ls hl => ?_)
        refine lv_goto (tgt := 2) hx hb dX8_hasTwice_50 (by decide) ?_
        exact ih.1 v0 x1 τ H locs cells slots hH hS hcs hss hcM ls (lv_sub hl [1, 0] rfl) hf
      · have hf := dz_f c14 hf
        refine lv_aload_n hx hb dX8_hasTwice_17 rfl (lv_at hl 0 rfl) ?_
        obtain ⟨f2, hf2, hf⟩ := dz_bo hf
        obtain ⟨x3, hx3, hf⟩ := dz_bo hf
        refine va_get (C := RX8) (T := TX8) (N := 2) hx hb hts in_X8 hown hX.K (zrd_P hX hS hH (zob_o hf2)) 0 rfl rfl 0 (by decide) (hts _ q515) (fun _ hq => hq) (zvr_o hx3) dX8_hasTwice_18 ?_
        refine lv_iload_n hx hb dX8_hasTwice_21 rfl (lv_at hl 1 rfl) ?_
        obtain ⟨n4, f5, hn4, hf⟩ := dz_co hf
        obtain ⟨g6, hf⟩ := dz_go hf
        obtain ⟨x7, hx7, hf⟩ := dz_bo hf
        refine va_aldq hx hb hX.K (zrd_P hX hS hH (zaq_o hn4)) 0 5 rfl rfl g6 dX8_hasTwice_22 ?_
        rw [hx7]
        refine W.eq (g2 := F0 m 23 ls (.ref x7 :: [])) rfl ?_
        obtain ⟨f8, hf8, hf⟩ := dz_bo hf
        obtain ⟨x9, hx9, hf⟩ := dz_bo hf
        refine va_get (C := RX13) (T := TX13) (N := 3) hx hb hts in_X13 hown hX.K (zrd_P hX hS hH (zob_o hf8)) 0 rfl rfl 0 (by decide) (hts _ q685) (fun _ hq => hq) (zvl_o hx9) dX8_hasTwice_23 ?_
        refine lv_aload_n hx hb dX8_hasTwice_26 rfl (lv_at hl 0 rfl) ?_
        obtain ⟨f10, hf10, hf⟩ := dz_bo hf
        obtain ⟨x11, hx11, hf⟩ := dz_bo hf
        refine va_get (C := RX8) (T := TX8) (N := 2) hx hb hts in_X8 hown hX.K (zrd_P hX hS hH (zob_o hf10)) 0 rfl rfl 0 (by decide) (hts _ q515) (fun _ hq => hq) (zvr_o hx11) dX8_hasTwice_27 ?_
        refine lv_iload_n hx hb dX8_hasTwice_30 rfl (lv_at hl 2 rfl) ?_
        obtain ⟨n12, f13, hn12, hf⟩ := dz_co hf
        obtain ⟨g14, hf⟩ := dz_go hf
        obtain ⟨x15, hx15, hf⟩ := dz_bo hf
        refine va_aldq hx hb hX.K (zrd_P hX hS hH (zaq_o hn12)) 0 5 rfl rfl g14 dX8_hasTwice_31 ?_
        rw [hx15]
        refine W.eq (g2 := F0 m 32 ls (.ref x15 :: [.long x9])) rfl ?_
        obtain ⟨f16, hf16, hf⟩ := dz_bo hf
        obtain ⟨x17, hx17, hf⟩ := dz_bo hf
        refine va_get (C := RX13) (T := TX13) (N := 3) hx hb hts in_X13 hown hX.K (zrd_P hX hS hH (zob_o hf16)) 0 rfl rfl 0 (by decide) (hts _ q685) (fun _ hq => hq) (zvl_o hx17) dX8_hasTwice_32 ?_
        refine W.lcmp hx hb dX8_hasTwice_35 ?_
        refine lv_if_ne (tgt := 41) hx hb dX8_hasTwice_36 (by decide) (fun c36 => ?_) (fun c36 => ?_)
        · have c36 : ¬ x9 = x17 := fun hq => c36 ((lg_cmp_eq _ _).mpr hq)
          have hf := dz_f c36 hf
          obtain ⟨x18, e_x18, hf⟩ := dz_lo hf
          refine lv_iinc (v := x18) (lv' := [(2, .int x18), (0, .ref v0), (1, .int v1)]) hx hb dX8_hasTwice_41 hl (k := 2) rfl (by rw [e_x18]; rfl) (by decide) rfl (fun ls hl => ?_)
          refine lv_goto (tgt := 12) hx hb dX8_hasTwice_44 (by decide) ?_
          exact ih.2 v0 v1 x18 τ H locs cells slots hH hS hcs hss hcM ls (lv_sub hl [1, 2, 0] rfl) hf
        · have c36 : x9 = x17 := (lg_cmp_eq _ _).mp c36
          have hf := dz_t c36 hf
          refine lv_iconst (v := 1) hx hb dX8_hasTwice_39 (by decide) ?_
          obtain ⟨hM1, hS1⟩ : cells = M ∧ slots = S := by have hq := congrArg Prod.snd (Option.some.inj hf); rw [← hq] at hM hS0; have hM : s.heap.size + M = τ.1 := hM; have hS0 : sl0 + S = τ.2.1 := hS0; omega
          refine W.widen (k := M) (n := S) (Nat.le_of_eq hM1) (Nat.le_of_eq hS1) ?_
          exact W.zret (v := 1) hx hb hr rfl (fun t ht hW => ⟨⟨1, τ, rfl, Option.some.inj hf, z_at ht hH⟩, hS.F ht⟩) hS.2.2 dX8_hasTwice_40
set_option maxHeartbeats 4000000 in
set_option maxRecDepth 100000 in
theorem mtX8_hasTwice (l : Launch) (D : va_G) (cA : Nat → ClassId) (ζ : pZ) (τ : pH) (h : Nat) (K : Nat) (res : (Int32 × pH)) (hf : fnX8_hasTwice K ζ h τ = some res) (M S : Nat) (hM : τ.1 + M = res.2.1) (hS0 : τ.2.1 + S = res.2.2.1) : Met l yX8_hasTwice (ws_ yX8_hasTwice cX8_hasTwice 3 (some .boolean)) ({ frames := 0, cells := M, slots := S, locals := 0 }) (zPc D cA ζ τ [.ref h]) (zQi D cA ζ res) M S (zA ζ) := by
  refine Met.ofW (cc := cX8_hasTwice) (maxL := 3) (ret := some .boolean) (by decide +kernel) rfl ?_
  intro p e s m args below meth c s₁ B hml hv
  obtain ⟨rfl, hX, hH⟩ := hv
  have hx := B.exec
  have hb := B.bytes
  have hr := B.returns
  have hts := atoms_spec (ws := ws_ yX8_hasTwice cX8_hasTwice 3 (some .boolean)) B.pre
  have hts : ∀ w ∈ lw_all, w.before _ s = true := fun w h => hts w (List.mem_cons_of_mem _ h)
  have hown : s.vm.findClass RX8 = some m.cls := findClass_of_methodNamed B.named
  have hlocks := B.notSynchronized
  have hM : s.heap.size + M = res.2.1 := by rw [hH.1]; exact hM
  have hcs : s.heap.size + 0 = τ.1 := hH.1
  have hss : τ.2.1 + 0 = τ.2.1 := rfl
  generalize hsl0 : τ.2.1 = sl0 at hS0 hss
  have hss : sl0 + 0 = τ.2.1 := by rw [hsl0]; rfl
  have hS : va_S (zA ζ) s.heap s.heap [] := va_S.rf
  generalize hHe : s.heap = H at hH hS ⊢
  have hS : va_S (zA ζ) s.heap H [] := by rw [hHe]; exact hS
  generalize ([] : List Loc) = locs at hS ⊢
  have hl := lv_entry ([.ref h]) (n := 3) (Nat.le_of_ble_eq_true rfl)
  rw [lg_entry_eq]
  generalize (lg_sl ([.ref h]) ++ List.replicate (3 - (lg_sl ([.ref h])).length) Slot.unset).toArray = ls at hl ⊢
  have hl : lv_has ls 3 [(0, .ref h)] := hl
  have hf : ((lfX8_hasTwice K ζ K).1 h 0 τ : Option (Int32 × pH)) = some res := hf
  refine z_gen (fun cells slots hc0 hs0 => ?_)
  have hcs : s.heap.size + cells = τ.1 := by rw [hc0]; exact hcs
  have hss : sl0 + slots = τ.2.1 := by rw [hs0]; exact hss
  have hcM : cells ≤ M ∧ slots ≤ S := by rw [hc0, hs0]; exact ⟨Nat.zero_le _, Nat.zero_le _⟩
  clear hc0 hs0
  have ih := wlX8_hasTwice (l := l) (e := e) (below := below) (D := D) (cA := cA) hX K res M S sl0 hM hS0 h hx hb hr hlocks hml hown hts K
  refine lv_iconst (v := 0) hx hb dX8_hasTwice_0 (by decide) ?_
  refine lv_istore_n (lv' := [(1, .int 0), (0, .ref h)]) hx hb dX8_hasTwice_1 rfl hl (by decide) rfl (fun ls hl => ?_)
  exact ih.1 h 0 τ H locs cells slots hH hS hcs hss hcM ls (lv_sub hl [1, 0] rfl) hf

noncomputable def lfX6_isBacked_5__0 (K : Nat) (ζ : pZ) : Nat → (Nat → Int32 → Nat → pH → Option (Int32 × pH)) := Nat.rec (motive := fun _ => (Nat → Int32 → Nat → pH → Option (Int32 × pH))) (fun _ _ _ _ => none) (fun _ G => (fun v0 v2 v3 τ => dz_b (zob ζ τ v3 2) fun f3 => zcl τ (fnX2_hasNext K ζ v3 τ) fun x1 s2 => if x1 = (0 : Int32) then (some (1, s2)) else (dz_b (zob ζ s2 v3 2) fun f6 => zcl s2 (fnX2_next K ζ v3 s2) fun x4 s5 => dz_b (zob ζ s5 x4 11) fun f7 => dz_b (zob ζ s5 v0 5) fun f8 => dz_b (zvr (f8[6]?)) fun x9 => dz_b (zob ζ s5 x4 11) fun f10 => dz_b (zvl (f10[0]?)) fun x11 => dz_b (zob ζ s5 x9 0) fun f14 => zcl s5 (fnX0_restOn__0 K ζ x9 x11 v2 s5) fun x12 s13 => if (0 : Int32) ≤ x12 then (G v0 v2 v3 s13) else (some (0, s13)))))
noncomputable def fnX6_isBacked_5__0 (K : Nat) (ζ : pZ) (h : Nat) (a0 : Nat) (a1 : Int32) (τ : pH) : Option (Int32 × pH) := dz_b (zob ζ τ a0 10) fun f3 => zcl τ (fnX8_hasTwice K ζ a0 τ) fun x1 s2 => if x1 = (0 : Int32) then (dz_b (zob ζ s2 a0 10) fun f6 => zcl s2 (fnX8_iterator K ζ a0 s2) fun x4 s5 => (lfX6_isBacked_5__0 K ζ K) h a1 x4 s5) else (some (0, s2))
set_option maxHeartbeats 4000000 in
set_option maxRecDepth 100000 in
theorem wlX6_isBacked_5__0 {p : Program} {l : Launch} {e : Env} {s : State} {m : MethodId} {below : List Frame} {meth : Method} {c : Code} {D : va_G} {cA : Nat → ClassId} {ζ : pZ} (hX : zX D cA ζ s) (K : Nat) (res : (Int32 × pH)) (M S sl0 : Nat) (hM : s.heap.size + M = res.2.1) (hS0 : sl0 + S = res.2.2.1) (h : Nat) (a0 : Nat) (a1 : Int32) (hx : p.tables.exec = Jvm.exec) (hb : c.code = cX6_isBacked) (hr : meth.sig.returnType = some .boolean) (hlocks : meth.locks = false) (hml : c.maxLocals = 5) (hown : s.vm.findClass RX6 = some m.cls) (hts : ∀ w ∈ lw_all, w.before ([.ref h, .ref a0, .int a1] : List Value).toArray s = true) : ∀ k : Nat, (∀ (v0 : Nat) (v2 : Int32) (v3 : Nat) (τ : pH) (H : Heap) (locs : List Loc) (cells slots : Nat), zH D cA ζ τ H → va_S (zA ζ) s.heap H locs → s.heap.size + cells = τ.1 → sl0 + slots = τ.2.1 → cells ≤ M ∧ slots ≤ S → ∀ (ls : Array Slot), lv_has ls 5 [(0, .ref v0), (2, .int v2), (3, .ref v3)] → (lfX6_isBacked_5__0 K ζ k) v0 v2 v3 τ = some res → W p l e (headSpec (ws_ yX6_isBacked cX6_isBacked 5 (some .boolean)) ({ frames := 5, cells := M, slots := S, locals := 109 })).room s m ([.ref h, .ref a0, .int a1] : List Value).toArray below meth c H locs cells slots (MQ below (zQi D cA ζ res) ([.ref h, .ref a0, .int a1] : List Value).toArray s M S (zA ζ)) (F0 m 14 ls [])) := by
  intro k
  induction k with
  | zero =>
    exact fun _ _ _ _ _ _ _ _ _ _ _ _ _ _ _ hf => (by cases hf)
  | succ k ih =>
    · intro v0 v2 v3 τ H locs cells slots hH hS hcs hss hcM ls hl hf
      have hf : (dz_b (zob ζ τ v3 2) fun f3 => zcl τ (fnX2_hasNext K ζ v3 τ) fun x1 s2 => if x1 = (0 : Int32) then (some (1, s2)) else (dz_b (zob ζ s2 v3 2) fun f6 => zcl s2 (fnX2_next K ζ v3 s2) fun x4 s5 => dz_b (zob ζ s5 x4 11) fun f7 => dz_b (zob ζ s5 v0 5) fun f8 => dz_b (zvr (f8[6]?)) fun x9 => dz_b (zob ζ s5 x4 11) fun f10 => dz_b (zvl (f10[0]?)) fun x11 => dz_b (zob ζ s5 x9 0) fun f14 => zcl s5 (fnX0_restOn__0 K ζ x9 x11 v2 s5) fun x12 s13 => if (0 : Int32) ≤ x12 then ((lfX6_isBacked_5__0 K ζ k) v0 v2 v3 s13) else (some (0, s13))) : Option (Int32 × pH)) = some res := hf
      refine lv_aload_n hx hb dX6_isBacked_14 rfl (lv_at hl 2 rfl) ?_
      obtain ⟨f3, hf3, hf⟩ := dz_bo hf
      obtain ⟨x1, s2, hx1, hle, hck, hf⟩ := zcl_o hf
      have hc1 : cells + (s2.1 - τ.1) ≤ M := by omega
      have hs1 : slots + (s2.2.1 - τ.2.1) ≤ S := by omega
      refine va_callFi (va_runF (hX.K.1 2 _ rfl).2 (As := []) (rest := []) ⟨hx, hb, hml, hown, hts⟩ (mtX2_hasNext l D cA ζ τ v3 K (x1, s2) hx1 (s2.1 - τ.1) (s2.2.1 - τ.2.1) (Nat.add_sub_cancel' hle.1) (Nat.add_sub_cancel' hle.2)) (va_cwF 0 hts (zF_in q263 q267 q269 q91 q271) rfl rfl rfl (hX.F 0 rfl) (by decide +kernel) ⟨Nat.le_of_ble_eq_true rfl, Nat.le_of_ble_eq_true rfl⟩) (z_preV hX hS hH (zob_o hf3) rfl) rfl rfl hl.1 rfl (lv_room (Nat.le_of_ble_eq_true rfl)) dX6_isBacked_15 ⟨hc1, hs1⟩) hS (fun q _ hq => hq) (fun q hq => hq) (fun r u t H1 locs ht hvm hw hB hz hk hS => ?_)
      obtain ⟨hw1, hw2⟩ := Prod.mk.inj hw.symm; subst hw1; subst hw2
      have hH : zH D cA ζ s2 H1 := z_at ht.symm hB
      have hcs : s.heap.size + (cells + (s2.1 - τ.1)) = s2.1 := by omega
      have hss : sl0 + (slots + (s2.2.1 - τ.2.1)) = s2.2.1 := by omega
      replace hcM := And.intro hc1 hs1
      generalize cells + (s2.1 - τ.1) = cells at hcs hcM ⊢; generalize slots + (s2.2.1 - τ.2.1) = slots at hss hcM ⊢
      clear hB hk hz hvm ht hle hck hc1 hs1; generalize H1 = H at hH hS ⊢
      refine lv_if_eq (tgt := 55) hx hb dX6_isBacked_20 (by decide) (fun c20 => ?_) (fun c20 => ?_)
      · have hf := dz_t c20 hf
        refine lv_iconst (v := 1) hx hb dX6_isBacked_55 (by decide) ?_
        obtain ⟨hM1, hS1⟩ : cells = M ∧ slots = S := by have hq := congrArg Prod.snd (Option.some.inj hf); rw [← hq] at hM hS0; have hM : s.heap.size + M = s2.1 := hM; have hS0 : sl0 + S = s2.2.1 := hS0; omega
        refine W.widen (k := M) (n := S) (Nat.le_of_eq hM1) (Nat.le_of_eq hS1) ?_
        exact W.zret (v := 1) hx hb hr rfl (fun t ht hW => ⟨⟨1, s2, rfl, Option.some.inj hf, z_at ht hH⟩, hS.F ht⟩) hS.2.2 dX6_isBacked_56
      · have hf := dz_f c20 hf
        refine lv_aload_n hx hb dX6_isBacked_23 rfl (lv_at hl 2 rfl) ?_
        obtain ⟨f6, hf6, hf⟩ := dz_bo hf
        obtain ⟨x4, s5, hx4, hle, hck, hf⟩ := zcl_o hf
        have hc1 : cells + (s5.1 - s2.1) ≤ M := by omega
        have hs1 : slots + (s5.2.1 - s2.2.1) ≤ S := by omega
        refine va_callFr (va_runF (hX.K.1 2 _ rfl).2 (As := []) (rest := []) ⟨hx, hb, hml, hown, hts⟩ (mtX2_next l D cA ζ s2 v3 K (x4, s5) hx4 (s5.1 - s2.1) (s5.2.1 - s2.2.1) (Nat.add_sub_cancel' hle.1) (Nat.add_sub_cancel' hle.2)) (va_cwF 0 hts (zF_in q279 q282 q284 q91 q286) rfl rfl rfl (hX.F 1 rfl) (by decide +kernel) ⟨Nat.le_of_ble_eq_true rfl, Nat.le_of_ble_eq_true rfl⟩) (z_preV hX hS hH (zob_o hf6) rfl) rfl rfl hl.1 rfl (lv_room (Nat.le_of_ble_eq_true rfl)) dX6_isBacked_24 ⟨hc1, hs1⟩) hS (fun q _ hq => hq) (fun q hq => hq) (fun u r t H1 locs ht hvm hw hB hz hk hS => ?_)
        obtain ⟨hw, hB⟩ := hB
        obtain ⟨hw1, hw2⟩ := Prod.mk.inj hw.symm; subst hw1; subst hw2
        have hH : zH D cA ζ s5 H1 := z_at ht.symm hB
        have hcs : s.heap.size + (cells + (s5.1 - s2.1)) = s5.1 := by omega
        have hss : sl0 + (slots + (s5.2.1 - s2.2.1)) = s5.2.1 := by omega
        replace hcM := And.intro hc1 hs1
        generalize cells + (s5.1 - s2.1) = cells at hcs hcM ⊢; generalize slots + (s5.2.1 - s2.2.1) = slots at hss hcM ⊢
        clear hB hk hz hvm ht hle hck hc1 hs1; generalize H1 = H at hH hS ⊢
        obtain ⟨f7, hf7, hf⟩ := dz_bo hf
        refine va_castS (nm := RX13) hx hb hown (hts _ q300) (hX.K.1 11 _ rfl).2 (va_recv hX.K (zrd_P hX hS hH (zob_o hf7)) (ci := 11) (q0 := 0) rfl rfl) dX6_isBacked_29 ?_
        refine lv_astore (lv' := [(4, .ref x4), (0, .ref v0), (2, .int v2), (3, .ref v3)]) hx hb dX6_isBacked_32 hl (by decide) rfl (fun ls hl => ?_)
        refine lv_aload_n hx hb dX6_isBacked_34 rfl (lv_at hl 1 rfl) ?_
        obtain ⟨f8, hf8, hf⟩ := dz_bo hf
        obtain ⟨x9, hx9, hf⟩ := dz_bo hf
        refine va_get (C := RX7) (T := TX7) (N := 8) hx hb hts in_X7 hown hX.K (zrd_P hX hS hH (zob_o hf8)) 0 rfl rfl 6 (by decide) (hts _ q566) (fun _ hq => hq) (zvr_o hx9) dX6_isBacked_35 ?_
        refine lv_aload hx hb dX6_isBacked_38 (lv_at hl 0 rfl) ?_
        obtain ⟨f10, hf10, hf⟩ := dz_bo hf
        obtain ⟨x11, hx11, hf⟩ := dz_bo hf
        refine va_get (C := RX13) (T := TX13) (N := 3) hx hb hts in_X13 hown hX.K (zrd_P hX hS hH (zob_o hf10)) 0 rfl rfl 0 (by decide) (hts _ q684) (fun _ hq => hq) (zvl_o hx11) dX6_isBacked_40 ?_
        refine lv_iload_n hx hb dX6_isBacked_43 rfl (lv_at hl 2 rfl) ?_
        obtain ⟨f14, hf14, hf⟩ := dz_bo hf
        obtain ⟨x12, s13, hx12, hle, hck, hf⟩ := zcl_o hf
        have hc1 : cells + (s13.1 - s5.1) ≤ M := by omega
        have hs1 : slots + (s13.2.1 - s5.2.1) ≤ S := by omega
        refine va_calli (va_runVN (As := [.long x11, .int v2]) (rest := []) ⟨hx, hb, hml, hown, hts⟩ (mtX0_restOn__0 l D cA ζ s5 x9 x11 v2 K (x12, s13) hx12 (s13.1 - s5.1) (s13.2.1 - s5.2.1) (Nat.add_sub_cancel' hle.1) (Nat.add_sub_cancel' hle.2)) ⟨va_cnB 2 hts (lw_meth q304) rfl rfl rfl (hX.N q301 rfl) (hts _ q84) (by decide +kernel) ⟨Nat.le_of_ble_eq_true rfl, Nat.le_of_ble_eq_true rfl⟩, hts _ q303, hts _ qs2⟩ (z_preV hX hS hH (zob_o hf14) rfl) rfl rfl hl.1 rfl (lv_room (Nat.le_of_ble_eq_true rfl)) dX6_isBacked_44 ⟨hc1, hs1⟩) hS (fun q _ hq => hq) (fun q hq => hq) (fun r u t H1 locs ht hvm hw hB hz hk hS => ?_)
        obtain ⟨hw1, hw2⟩ := Prod.mk.inj hw.symm; subst hw1; subst hw2
        have hH : zH D cA ζ s13 H1 := z_at ht.symm hB
        have hcs : s.heap.size + (cells + (s13.1 - s5.1)) = s13.1 := by omega
        have hss : sl0 + (slots + (s13.2.1 - s5.2.1)) = s13.2.1 := by omega
        replace hcM := And.intro hc1 hs1
        generalize cells + (s13.1 - s5.1) = cells at hcs hcM ⊢; generalize slots + (s13.2.1 - s5.2.1) = slots at hss hcM ⊢
        clear hB hk hz hvm ht hle hck hc1 hs1; generalize H1 = H at hH hS ⊢
        refine lv_if_ge (tgt := 52) hx hb dX6_isBacked_47 (by decide) (fun c47 => ?_) (fun c47 => ?_)
        · have hf := dz_t c47 hf
          refine lv_goto (tgt := 14) hx hb dX6_isBacked_52 (by decide) ?_
          exact ih v0 v2 v3 s13 H locs cells slots hH hS hcs hss hcM ls (lv_sub hl [1, 2, 3] rfl) hf
        · have hf := dz_f c47 hf
          refine lv_iconst (v := 0) hx hb dX6_isBacked_50 (by decide) ?_
          obtain ⟨hM1, hS1⟩ : cells = M ∧ slots = S := by have hq := congrArg Prod.snd (Option.some.inj hf); rw [← hq] at hM hS0; have hM : s.heap.size + M = s13.1 := hM; have hS0 : sl0 + S = s13.2.1 := hS0; omega
          refine W.widen (k := M) (n := S) (Nat.le_of_eq hM1) (Nat.le_of_eq hS1) ?_
          exact W.zret (v := 0) hx hb hr rfl (fun t ht hW => ⟨⟨0, s13, rfl, Option.some.inj hf, z_at ht hH⟩, hS.F ht⟩) hS.2.2 dX6_isBacked_51
set_option maxHeartbeats 4000000 in
set_option maxRecDepth 100000 in
theorem mtX6_isBacked_5__0 (l : Launch) (D : va_G) (cA : Nat → ClassId) (ζ : pZ) (τ : pH) (h : Nat) (a0 : Nat) (a1 : Int32) (K : Nat) (res : (Int32 × pH)) (hf : fnX6_isBacked_5__0 K ζ h a0 a1 τ = some res) (M S : Nat) (hM : τ.1 + M = res.2.1) (hS0 : τ.2.1 + S = res.2.2.1) : Met l yX6_isBacked (ws_ yX6_isBacked cX6_isBacked 5 (some .boolean)) ({ frames := 5, cells := M, slots := S, locals := 109 }) (zPc D cA ζ τ [.ref h, .ref a0, .int a1]) (zQi D cA ζ res) M S (zA ζ) := by
  refine Met.ofW (cc := cX6_isBacked) (maxL := 5) (ret := some .boolean) (by decide +kernel) rfl ?_
  intro p e s m args below meth c s₁ B hml hv
  obtain ⟨rfl, hX, hH⟩ := hv
  have hx := B.exec
  have hb := B.bytes
  have hr := B.returns
  have hts := atoms_spec (ws := ws_ yX6_isBacked cX6_isBacked 5 (some .boolean)) B.pre
  have hts : ∀ w ∈ lw_all, w.before _ s = true := fun w h => hts w (List.mem_cons_of_mem _ h)
  have hown : s.vm.findClass RX6 = some m.cls := findClass_of_methodNamed B.named
  have hlocks := B.notSynchronized
  have hM : s.heap.size + M = res.2.1 := by rw [hH.1]; exact hM
  have hcs : s.heap.size + 0 = τ.1 := hH.1
  have hss : τ.2.1 + 0 = τ.2.1 := rfl
  generalize hsl0 : τ.2.1 = sl0 at hS0 hss
  have hss : sl0 + 0 = τ.2.1 := by rw [hsl0]; rfl
  have hS : va_S (zA ζ) s.heap s.heap [] := va_S.rf
  generalize hHe : s.heap = H at hH hS ⊢
  have hS : va_S (zA ζ) s.heap H [] := by rw [hHe]; exact hS
  generalize ([] : List Loc) = locs at hS ⊢
  have hl := lv_entry ([.ref h, .ref a0, .int a1]) (n := 5) (Nat.le_of_ble_eq_true rfl)
  rw [lg_entry_eq]
  generalize (lg_sl ([.ref h, .ref a0, .int a1]) ++ List.replicate (5 - (lg_sl ([.ref h, .ref a0, .int a1])).length) Slot.unset).toArray = ls at hl ⊢
  have hl : lv_has ls 5 [(0, .ref h), (1, .ref a0), (2, .int a1)] := hl
  have hf : (dz_b (zob ζ τ a0 10) fun f3 => zcl τ (fnX8_hasTwice K ζ a0 τ) fun x1 s2 => if x1 = (0 : Int32) then (dz_b (zob ζ s2 a0 10) fun f6 => zcl s2 (fnX8_iterator K ζ a0 s2) fun x4 s5 => (lfX6_isBacked_5__0 K ζ K) h a1 x4 s5) else (some (0, s2)) : Option (Int32 × pH)) = some res := hf
  refine z_gen (fun cells slots hc0 hs0 => ?_)
  have hcs : s.heap.size + cells = τ.1 := by rw [hc0]; exact hcs
  have hss : sl0 + slots = τ.2.1 := by rw [hs0]; exact hss
  have hcM : cells ≤ M ∧ slots ≤ S := by rw [hc0, hs0]; exact ⟨Nat.zero_le _, Nat.zero_le _⟩
  clear hc0 hs0
  have ih := wlX6_isBacked_5__0 (l := l) (e := e) (below := below) (D := D) (cA := cA) hX K res M S sl0 hM hS0 h a0 a1 hx hb hr hlocks hml hown hts K
  refine lv_aload_n hx hb dX6_isBacked_0 rfl (lv_at hl 1 rfl) ?_
  obtain ⟨f3, hf3, hf⟩ := dz_bo hf
  obtain ⟨x1, s2, hx1, hle, hck, hf⟩ := zcl_o hf
  have hc1 : cells + (s2.1 - τ.1) ≤ M := by omega
  have hs1 : slots + (s2.2.1 - τ.2.1) ≤ S := by omega
  refine va_calli (va_runV (As := []) (rest := []) ⟨hx, hb, hml, hown, hts⟩ (mtX8_hasTwice l D cA ζ τ a0 K (x1, s2) hx1 (s2.1 - τ.1) (s2.2.1 - τ.2.1) (Nat.add_sub_cancel' hle.1) (Nat.add_sub_cancel' hle.2)) (cwV 0 hts (lw_V q241 q242 q243 q98 q244) rfl rfl rfl (by decide +kernel) ⟨Nat.le_of_ble_eq_true rfl, Nat.le_of_ble_eq_true rfl⟩) (z_preV hX hS hH (zob_o hf3) rfl) rfl rfl hl.1 rfl (lv_room (Nat.le_of_ble_eq_true rfl)) dX6_isBacked_1 ⟨hc1, hs1⟩) hS (fun q _ hq => hq) (fun q hq => hq) (fun r u t H1 locs ht hvm hw hB hz hk hS => ?_)
  obtain ⟨hw1, hw2⟩ := Prod.mk.inj hw.symm; subst hw1; subst hw2
  have hH : zH D cA ζ s2 H1 := z_at ht.symm hB
  have hcs : s.heap.size + (cells + (s2.1 - τ.1)) = s2.1 := by omega
  have hss : sl0 + (slots + (s2.2.1 - τ.2.1)) = s2.2.1 := by omega
  replace hcM := And.intro hc1 hs1
  generalize cells + (s2.1 - τ.1) = cells at hcs hcM ⊢; generalize slots + (s2.2.1 - τ.2.1) = slots at hss hcM ⊢
  clear hB hk hz hvm ht hle hck hc1 hs1; generalize H1 = H at hH hS ⊢
  refine lv_if_eq (tgt := 9) hx hb dX6_isBacked_4 (by decide) (fun c4 => ?_) (fun c4 => ?_)
  · have hf := dz_t c4 hf
    refine lv_aload_n hx hb dX6_isBacked_9 rfl (lv_at hl 1 rfl) ?_
    obtain ⟨f6, hf6, hf⟩ := dz_bo hf
    obtain ⟨x4, s5, hx4, hle, hck, hf⟩ := zcl_o hf
    have hc1 : cells + (s5.1 - s2.1) ≤ M := by omega
    have hs1 : slots + (s5.2.1 - s2.2.1) ≤ S := by omega
    refine va_callr (va_runV (As := []) (rest := []) ⟨hx, hb, hml, hown, hts⟩ (mtX8_iterator l D cA ζ s2 a0 K (x4, s5) hx4 (s5.1 - s2.1) (s5.2.1 - s2.2.1) (Nat.add_sub_cancel' hle.1) (Nat.add_sub_cancel' hle.2)) (cwV 0 hts (lw_V q245 q246 q247 q98 q248) rfl rfl rfl (by decide +kernel) ⟨Nat.le_of_ble_eq_true rfl, Nat.le_of_ble_eq_true rfl⟩) (z_preV hX hS hH (zob_o hf6) rfl) rfl rfl hl.1 rfl (lv_room (Nat.le_of_ble_eq_true rfl)) dX6_isBacked_10 ⟨hc1, hs1⟩) hS (fun q _ hq => hq) (fun q hq => hq) (fun u r t H1 locs ht hvm hw hB hz hk hS => ?_)
    obtain ⟨hw, hB⟩ := hB
    obtain ⟨hw1, hw2⟩ := Prod.mk.inj hw.symm; subst hw1; subst hw2
    have hH : zH D cA ζ s5 H1 := z_at ht.symm hB
    have hcs : s.heap.size + (cells + (s5.1 - s2.1)) = s5.1 := by omega
    have hss : sl0 + (slots + (s5.2.1 - s2.2.1)) = s5.2.1 := by omega
    replace hcM := And.intro hc1 hs1
    generalize cells + (s5.1 - s2.1) = cells at hcs hcM ⊢; generalize slots + (s5.2.1 - s2.2.1) = slots at hss hcM ⊢
    clear hB hk hz hvm ht hle hck hc1 hs1; generalize H1 = H at hH hS ⊢
    refine lv_astore_n (lv' := [(3, .ref x4), (0, .ref h), (1, .ref a0), (2, .int a1)]) hx hb dX6_isBacked_13 rfl hl (by decide) rfl (fun ls hl => ?_)
    exact ih h a1 x4 s5 H locs cells slots hH hS hcs hss hcM ls (lv_sub hl [1, 3, 0] rfl) hf
  · have hf := dz_f c4 hf
    refine lv_iconst (v := 0) hx hb dX6_isBacked_7 (by decide) ?_
    obtain ⟨hM1, hS1⟩ : cells = M ∧ slots = S := by have hq := congrArg Prod.snd (Option.some.inj hf); rw [← hq] at hM hS0; have hM : s.heap.size + M = s2.1 := hM; have hS0 : sl0 + S = s2.2.1 := hS0; omega
    refine W.widen (k := M) (n := S) (Nat.le_of_eq hM1) (Nat.le_of_eq hS1) ?_
    exact W.zret (v := 0) hx hb hr rfl (fun t ht hW => ⟨⟨0, s2, rfl, Option.some.inj hf, z_at ht hH⟩, hS.F ht⟩) hS.2.2 dX6_isBacked_8

noncomputable def fnX7_isWhole (K : Nat) (ζ : pZ) (h : Nat) (τ : pH) : Option (Int32 × pH) := some (1, τ)
set_option maxHeartbeats 4000000 in
set_option maxRecDepth 100000 in
theorem mtX7_isWhole (l : Launch) (D : va_G) (cA : Nat → ClassId) (ζ : pZ) (τ : pH) (h : Nat) (K : Nat) (res : (Int32 × pH)) (hf : fnX7_isWhole K ζ h τ = some res) (M S : Nat) (hM : τ.1 + M = res.2.1) (hS0 : τ.2.1 + S = res.2.2.1) : Met l yX7_isWhole (ws_ yX7_isWhole cX7_isWhole 1 (some .boolean)) ({ frames := 0, cells := M, slots := S, locals := 0 }) (zPc D cA ζ τ [.ref h]) (zQi D cA ζ res) M S (zA ζ) := by
  refine Met.ofW (cc := cX7_isWhole) (maxL := 1) (ret := some .boolean) (by decide +kernel) rfl ?_
  intro p e s m args below meth c s₁ B hml hv
  obtain ⟨rfl, hX, hH⟩ := hv
  have hx := B.exec
  have hb := B.bytes
  have hr := B.returns
  have hts := atoms_spec (ws := ws_ yX7_isWhole cX7_isWhole 1 (some .boolean)) B.pre
  have hts : ∀ w ∈ lw_all, w.before _ s = true := fun w h => hts w (List.mem_cons_of_mem _ h)
  have hown : s.vm.findClass RX7 = some m.cls := findClass_of_methodNamed B.named
  have hlocks := B.notSynchronized
  have hM : s.heap.size + M = res.2.1 := by rw [hH.1]; exact hM
  have hcs : s.heap.size + 0 = τ.1 := hH.1
  have hss : τ.2.1 + 0 = τ.2.1 := rfl
  generalize hsl0 : τ.2.1 = sl0 at hS0 hss
  have hss : sl0 + 0 = τ.2.1 := by rw [hsl0]; rfl
  have hS : va_S (zA ζ) s.heap s.heap [] := va_S.rf
  generalize hHe : s.heap = H at hH hS ⊢
  have hS : va_S (zA ζ) s.heap H [] := by rw [hHe]; exact hS
  generalize ([] : List Loc) = locs at hS ⊢
  have hl := lv_entry ([.ref h]) (n := 1) (Nat.le_of_ble_eq_true rfl)
  rw [lg_entry_eq]
  generalize (lg_sl ([.ref h]) ++ List.replicate (1 - (lg_sl ([.ref h])).length) Slot.unset).toArray = ls at hl ⊢
  have hl : lv_has ls 1 [(0, .ref h)] := hl
  have hf : (some (1, τ) : Option (Int32 × pH)) = some res := hf
  refine z_gen (fun cells slots hc0 hs0 => ?_)
  have hcs : s.heap.size + cells = τ.1 := by rw [hc0]; exact hcs
  have hss : sl0 + slots = τ.2.1 := by rw [hs0]; exact hss
  have hcM : cells ≤ M ∧ slots ≤ S := by rw [hc0, hs0]; exact ⟨Nat.zero_le _, Nat.zero_le _⟩
  clear hc0 hs0
  refine lv_iconst (v := 1) hx hb dX7_isWhole_0 (by decide) ?_
  obtain ⟨hM1, hS1⟩ : cells = M ∧ slots = S := by have hq := congrArg Prod.snd (Option.some.inj hf); rw [← hq] at hM hS0; have hM : s.heap.size + M = τ.1 := hM; have hS0 : sl0 + S = τ.2.1 := hS0; omega
  refine W.widen (k := M) (n := S) (Nat.le_of_eq hM1) (Nat.le_of_eq hS1) ?_
  exact W.zret (v := 1) hx hb hr rfl (fun t ht hW => ⟨⟨1, τ, rfl, Option.some.inj hf, z_at ht hH⟩, hS.F ht⟩) hS.2.2 dX7_isWhole_1

noncomputable def fnX6_isEnough_5 (K : Nat) (ζ : pZ) (h : Nat) (τ : pH) : Option (Int32 × pH) := some (1, τ)
set_option maxHeartbeats 4000000 in
set_option maxRecDepth 100000 in
theorem mtX6_isEnough_5 (l : Launch) (D : va_G) (cA : Nat → ClassId) (ζ : pZ) (τ : pH) (h : Nat) (K : Nat) (res : (Int32 × pH)) (hf : fnX6_isEnough_5 K ζ h τ = some res) (M S : Nat) (hM : τ.1 + M = res.2.1) (hS0 : τ.2.1 + S = res.2.2.1) : Met l yX6_isEnough (ws_ yX6_isEnough cX6_isEnough 1 (some .boolean)) ({ frames := 0, cells := M, slots := S, locals := 0 }) (zPc D cA ζ τ [.ref h]) (zQi D cA ζ res) M S (zA ζ) := by
  refine Met.ofW (cc := cX6_isEnough) (maxL := 1) (ret := some .boolean) (by decide +kernel) rfl ?_
  intro p e s m args below meth c s₁ B hml hv
  obtain ⟨rfl, hX, hH⟩ := hv
  have hx := B.exec
  have hb := B.bytes
  have hr := B.returns
  have hts := atoms_spec (ws := ws_ yX6_isEnough cX6_isEnough 1 (some .boolean)) B.pre
  have hts : ∀ w ∈ lw_all, w.before _ s = true := fun w h => hts w (List.mem_cons_of_mem _ h)
  have hown : s.vm.findClass RX6 = some m.cls := findClass_of_methodNamed B.named
  have hlocks := B.notSynchronized
  have hM : s.heap.size + M = res.2.1 := by rw [hH.1]; exact hM
  have hcs : s.heap.size + 0 = τ.1 := hH.1
  have hss : τ.2.1 + 0 = τ.2.1 := rfl
  generalize hsl0 : τ.2.1 = sl0 at hS0 hss
  have hss : sl0 + 0 = τ.2.1 := by rw [hsl0]; rfl
  have hS : va_S (zA ζ) s.heap s.heap [] := va_S.rf
  generalize hHe : s.heap = H at hH hS ⊢
  have hS : va_S (zA ζ) s.heap H [] := by rw [hHe]; exact hS
  generalize ([] : List Loc) = locs at hS ⊢
  have hl := lv_entry ([.ref h]) (n := 1) (Nat.le_of_ble_eq_true rfl)
  rw [lg_entry_eq]
  generalize (lg_sl ([.ref h]) ++ List.replicate (1 - (lg_sl ([.ref h])).length) Slot.unset).toArray = ls at hl ⊢
  have hl : lv_has ls 1 [(0, .ref h)] := hl
  have hf : (some (1, τ) : Option (Int32 × pH)) = some res := hf
  refine z_gen (fun cells slots hc0 hs0 => ?_)
  have hcs : s.heap.size + cells = τ.1 := by rw [hc0]; exact hcs
  have hss : sl0 + slots = τ.2.1 := by rw [hs0]; exact hss
  have hcM : cells ≤ M ∧ slots ≤ S := by rw [hc0, hs0]; exact ⟨Nat.zero_le _, Nat.zero_le _⟩
  clear hc0 hs0
  refine lv_iconst (v := 1) hx hb dX6_isEnough_0 (by decide) ?_
  obtain ⟨hM1, hS1⟩ : cells = M ∧ slots = S := by have hq := congrArg Prod.snd (Option.some.inj hf); rw [← hq] at hM hS0; have hM : s.heap.size + M = τ.1 := hM; have hS0 : sl0 + S = τ.2.1 := hS0; omega
  refine W.widen (k := M) (n := S) (Nat.le_of_eq hM1) (Nat.le_of_eq hS1) ?_
  exact W.zret (v := 1) hx hb hr rfl (fun t ht hW => ⟨⟨1, τ, rfl, Option.some.inj hf, z_at ht hH⟩, hS.F ht⟩) hS.2.2 dX6_isEnough_1

noncomputable def lfX0_isPrime (K : Nat) : Nat → (Int64 → Int64 → Option Int32) := Nat.rec (motive := fun _ => (Int64 → Int64 → Option Int32)) (fun _ _ => none) (fun _ G => (fun v0 v2 => if v0 < (v2 * v2) then (if v0 ≤ (1 : Int64) then (some 0) else (some 1)) else (if ¬ v2 = 0 then (dz_l (v0 - v0 / v2 * v2) fun x2 => if x2 = (0 : Int64) then (some 0) else (dz_l (v2 + 1) fun x3 => G v0 x3)) else none)))
noncomputable def fnX0_isPrime (K : Nat) (a0 : Int64) : Option Int32 := (lfX0_isPrime K K) a0 2
set_option maxHeartbeats 4000000 in
set_option maxRecDepth 100000 in
theorem wlX0_isPrime {p : Program} {l : Launch} {e : Env} {s : State} {m : MethodId} {below : List Frame} {meth : Method} {c : Code}  (K : Nat) (res : Int32) (a0 : Int64) (hx : p.tables.exec = Jvm.exec) (hb : c.code = cX0_isPrime) (hr : meth.sig.returnType = some .boolean) (hlocks : meth.locks = false) (hml : c.maxLocals = 4) (hown : s.vm.findClass RX0 = some m.cls) (hts : ∀ w ∈ lw_all, w.before ([.long a0] : List Value).toArray s = true) : ∀ k : Nat, (∀ (v0 : Int64) (v2 : Int64) (H : Heap) (locs : List Loc), va_S (fun _ => False) s.heap H locs → ∀ (ls : Array Slot), lv_has ls 4 [(0, .long v0), (2, .long v2)] → (lfX0_isPrime K k) v0 v2 = some res → W p l e (headSpec (ws_ yX0_isPrime cX0_isPrime 4 (some .boolean)) ({ frames := 0, cells := 0, slots := 0, locals := 0 })).room s m ([.long a0] : List Value).toArray below meth c H locs 0 0 (MQ below (dz_Qi res) ([.long a0] : List Value).toArray s 0 0 (fun _ => False)) (F0 m 4 ls [])) := by
  intro k
  induction k with
  | zero =>
    exact fun _ _ _ _ _ _ _ hf => (by cases hf)
  | succ k ih =>
    · intro v0 v2 H locs hS ls hl hf
      have hf : (if v0 < (v2 * v2) then (if v0 ≤ (1 : Int64) then (some 0) else (some 1)) else (if ¬ v2 = 0 then (dz_l (v0 - v0 / v2 * v2) fun x2 => if x2 = (0 : Int64) then (some 0) else (dz_l (v2 + 1) fun x3 => (lfX0_isPrime K k) v0 x3)) else none) : Option Int32) = some res := hf
      refine lv_lload_n hx hb dX0_isPrime_4 rfl (lv_at hl 1 rfl) ?_
      refine lv_lload_n hx hb dX0_isPrime_5 rfl (lv_at hl 1 rfl) ?_
      refine lv_lmul hx hb dX0_isPrime_6 ?_
      refine lv_lload_n hx hb dX0_isPrime_7 rfl (lv_at hl 0 rfl) ?_
      refine W.lcmp hx hb dX0_isPrime_8 ?_
      refine lv_if_gt (tgt := 29) hx hb dX0_isPrime_9 (by decide) (fun c9 => ?_) (fun c9 => ?_)
      · have c9 : v0 < (v2 * v2) := (lg_cmp_gt _ _).mp c9
        have hf := dz_t c9 hf
        refine lv_lload_n hx hb dX0_isPrime_29 rfl (lv_at hl 0 rfl) ?_
        refine lv_lconst (v := 1) hx hb dX0_isPrime_30 rfl ?_
        refine W.lcmp hx hb dX0_isPrime_31 ?_
        refine lv_if_le (tgt := 39) hx hb dX0_isPrime_32 (by decide) (fun c32 => ?_) (fun c32 => ?_)
        · have c32 : v0 ≤ (1 : Int64) := (lg_cmp_le _ _).mp c32
          have hf := dz_t c32 hf
          refine lv_iconst (v := 0) hx hb dX0_isPrime_39 (by decide) ?_
          exact W.zret (v := 0) hx hb hr rfl (fun t ht hW => ⟨⟨0, (), rfl, Option.some.inj hf, trivial⟩, hS.F ht⟩) hS.2.2 dX0_isPrime_40
        · have c32 : ¬ v0 ≤ (1 : Int64) := fun hq => c32 ((lg_cmp_le _ _).mpr hq)
          have hf := dz_f c32 hf
          refine lv_iconst (v := 1) hx hb dX0_isPrime_35 (by decide) ?_
          refine lv_goto (tgt := 40) hx hb dX0_isPrime_36 (by decide) ?_
          exact W.zret (v := 1) hx hb hr rfl (fun t ht hW => ⟨⟨1, (), rfl, Option.some.inj hf, trivial⟩, hS.F ht⟩) hS.2.2 dX0_isPrime_40
      · have c9 : ¬ v0 < (v2 * v2) := fun hq => c9 ((lg_cmp_gt _ _).mpr hq)
        have hf := dz_f c9 hf
        refine lv_lload_n hx hb dX0_isPrime_12 rfl (lv_at hl 0 rfl) ?_
        refine lv_lload_n hx hb dX0_isPrime_13 rfl (lv_at hl 1 rfl) ?_
        obtain ⟨g1, hf⟩ := dz_go hf
        refine lv_lrem hx hb dX0_isPrime_14 g1 ?_
        refine lv_topl (fun x2 e_x2 => ?_)
        have hf := dz_ls e_x2 hf
        refine lv_lconst (v := 0) hx hb dX0_isPrime_15 rfl ?_
        refine W.lcmp hx hb dX0_isPrime_16 ?_
        refine lv_if_ne (tgt := 22) hx hb dX0_isPrime_17 (by decide) (fun c17 => ?_) (fun c17 => ?_)
        · have c17 : ¬ x2 = (0 : Int64) := fun hq => c17 ((lg_cmp_eq _ _).mpr hq)
          have hf := dz_f c17 hf
          refine lv_lload_n hx hb dX0_isPrime_22 rfl (lv_at hl 1 rfl) ?_
          refine lv_lconst (v := 1) hx hb dX0_isPrime_23 rfl ?_
          refine lv_ladd hx hb dX0_isPrime_24 ?_
          refine lv_topl (fun x3 e_x3 => ?_)
          have hf := dz_ls e_x3 hf
          refine lv_lstore_n (lv' := [(2, .long x3), (0, .long v0)]) hx hb dX0_isPrime_25 rfl hl (by decide) rfl (fun ls hl => ?_)
          refine lv_goto (tgt := 4) hx hb dX0_isPrime_26 (by decide) ?_
          exact ih v0 x3 H locs hS ls (lv_sub hl [1, 0] rfl) hf
        · have c17 : x2 = (0 : Int64) := (lg_cmp_eq _ _).mp c17
          have hf := dz_t c17 hf
          refine lv_iconst (v := 0) hx hb dX0_isPrime_20 (by decide) ?_
          exact W.zret (v := 0) hx hb hr rfl (fun t ht hW => ⟨⟨0, (), rfl, Option.some.inj hf, trivial⟩, hS.F ht⟩) hS.2.2 dX0_isPrime_21
set_option maxHeartbeats 4000000 in
set_option maxRecDepth 100000 in
theorem mtX0_isPrime (l : Launch) (a0 : Int64) (K : Nat) (res : Int32) (hf : fnX0_isPrime K a0 = some res) : Met l yX0_isPrime (ws_ yX0_isPrime cX0_isPrime 4 (some .boolean)) ({ frames := 0, cells := 0, slots := 0, locals := 0 }) (dz_P [.long a0]) (dz_Qi res) 0 0 (fun _ => False) := by
  refine Met.ofW (cc := cX0_isPrime) (maxL := 4) (ret := some .boolean) (by decide +kernel) rfl ?_
  intro p e s m args below meth c s₁ B hml hv
  obtain ⟨rfl, -⟩ := hv
  have hx := B.exec
  have hb := B.bytes
  have hr := B.returns
  have hts := atoms_spec (ws := ws_ yX0_isPrime cX0_isPrime 4 (some .boolean)) B.pre
  have hts : ∀ w ∈ lw_all, w.before _ s = true := fun w h => hts w (List.mem_cons_of_mem _ h)
  have hown : s.vm.findClass RX0 = some m.cls := findClass_of_methodNamed B.named
  have hlocks := B.notSynchronized
  have hS : va_S (fun _ => False) s.heap s.heap [] := va_S.rf
  generalize hHe : s.heap = H at hS ⊢
  have hS : va_S (fun _ => False) s.heap H [] := by rw [hHe]; exact hS
  generalize ([] : List Loc) = locs at hS ⊢
  have hl := lv_entry ([.long a0]) (n := 4) (Nat.le_of_ble_eq_true rfl)
  rw [lg_entry_eq]
  generalize (lg_sl ([.long a0]) ++ List.replicate (4 - (lg_sl ([.long a0])).length) Slot.unset).toArray = ls at hl ⊢
  have hl : lv_has ls 4 [(0, .long a0)] := hl
  have hf : ((lfX0_isPrime K K) a0 2 : Option Int32) = some res := hf
  have ih := wlX0_isPrime (l := l) (e := e) (below := below) K res a0 hx hb hr hlocks hml hown hts K
  refine lv_ldc2 (v := 2) hx hb hown (hts _ q194) dX0_isPrime_0 ?_
  refine lv_lstore_n (lv' := [(2, .long 2), (0, .long a0)]) hx hb dX0_isPrime_3 rfl hl (by decide) rfl (fun ls hl => ?_)
  exact ih a0 2 H locs hS ls (lv_sub hl [1, 0] rfl) hf

noncomputable def lfX6_fault_5__0 (K : Nat) (ζ : pZ) : Nat → (Nat → Nat → pH → Option (Int32 × pH)) × (Nat → Nat → pH → Option (Int32 × pH)) := Nat.rec (motive := fun _ => (Nat → Nat → pH → Option (Int32 × pH)) × (Nat → Nat → pH → Option (Int32 × pH))) ((fun _ _ _ => none), (fun _ _ _ => none)) (fun _ G => ((fun v0 v2 τ => dz_b (zob ζ τ v2 2) fun f3 => zcl τ (fnX2_hasNext K ζ v2 τ) fun x1 s2 => if x1 = (0 : Int32) then (dz_b (zob ζ s2 v0 5) fun f4 => dz_b (zvr (f4[4]?)) fun x5 => dz_b (zob ζ s2 x5 10) fun f8 => zcl s2 (fnX8_iterator K ζ x5 s2) fun x6 s7 => G.2 v0 x6 s7) else (dz_b (zob ζ s2 v2 2) fun f11 => zcl s2 (fnX2_next K ζ v2 s2) fun x9 s10 => dz_b (zob ζ s10 x9 11) fun f12 => dz_b (zob ζ s10 v0 5) fun f15 => zcl s10 (fnX6_isOne_5 K ζ v0 x9 s10) fun x13 s14 => if x13 = (0 : Int32) then (some (5, s14)) else (G.1 v0 v2 s14))), (fun v0 v2 τ => dz_b (zob ζ τ v2 2) fun f3 => zcl τ (fnX2_hasNext K ζ v2 τ) fun x1 s2 => if x1 = (0 : Int32) then (dz_b (zob ζ s2 v0 5) fun f6 => zcl s2 (fnX6_hasPair_5 K ζ v0 s2) fun x4 s5 => if x4 = (0 : Int32) then (some (0, s5)) else (dz_b (zob ζ s5 v0 5) fun f9 => zcl s5 (fnX6_pairFault_5 K ζ v0 s5) fun x7 s8 => some (x7, s8))) else (dz_b (zob ζ s2 v2 2) fun f12 => zcl s2 (fnX2_next K ζ v2 s2) fun x10 s11 => dz_b (zob ζ s11 x10 11) fun f13 => dz_b (zob ζ s11 v0 5) fun f16 => zcl s11 (fnX6_isFar_5 K ζ v0 x10 s11) fun x14 s15 => if x14 = (0 : Int32) then (some (6, s15)) else (G.2 v0 v2 s15)))))
noncomputable def fnX6_fault_5__0 (K : Nat) (ζ : pZ) (h : Nat) (a0 : Int32) (τ : pH) : Option (Int32 × pH) := dz_b (zob ζ τ h 5) fun f1 => dz_b (zvi (f1[1]?)) fun x2 => if x2 = (0 : Int32) then (dz_b (zob ζ τ h 5) fun f27 => dz_b (zvl (f27[0]?)) fun x28 => if (100 : Int64) ≤ x28 then (some (1, τ)) else (dz_b (zob ζ τ h 5) fun f29 => dz_b (zvl (f29[0]?)) fun x30 => dz_b (fnX0_isPrime K x30) fun x31 => if x31 = (0 : Int32) then (some (1, τ)) else (some (0, τ)))) else (dz_b (zob ζ τ h 5) fun f3 => dz_b (zvl (f3[0]?)) fun x4 => dz_l (x4 - x4 / 2 * 2) fun x5 => if x5 = (0 : Int64) then (some (1, τ)) else (dz_b (zob ζ τ h 5) fun f6 => dz_b (zvr (f6[4]?)) fun x7 => dz_b (zob ζ τ h 5) fun f10 => zcl τ (fnX6_isBacked_5__0 K ζ h x7 a0 τ) fun x8 s9 => if x8 = (0 : Int32) then (some (2, s9)) else (dz_b (zob ζ s9 h 5) fun f11 => dz_b (zvr (f11[5]?)) fun x12 => dz_b (zob ζ s9 h 5) fun f15 => zcl s9 (fnX6_isBacked_5__0 K ζ h x12 a0 s9) fun x13 s14 => if x13 = (0 : Int32) then (some (2, s14)) else (dz_b (zob ζ s14 h 5) fun f18 => zcl s14 (fnX7_isWhole K ζ h s14) fun x16 s17 => if x16 = (0 : Int32) then (some (3, s17)) else (dz_b (zob ζ s17 h 5) fun f21 => zcl s17 (fnX6_isEnough_5 K ζ h s17) fun x19 s20 => if x19 = (0 : Int32) then (some (4, s20)) else (dz_b (zob ζ s20 h 5) fun f22 => dz_b (zvr (f22[4]?)) fun x23 => dz_b (zob ζ s20 x23 10) fun f26 => zcl s20 (fnX8_iterator K ζ x23 s20) fun x24 s25 => (lfX6_fault_5__0 K ζ K).1 h x24 s25))))))
set_option maxHeartbeats 4000000 in
set_option maxRecDepth 100000 in
theorem wlX6_fault_5__0 {p : Program} {l : Launch} {e : Env} {s : State} {m : MethodId} {below : List Frame} {meth : Method} {c : Code} {D : va_G} {cA : Nat → ClassId} {ζ : pZ} (hX : zX D cA ζ s) (K : Nat) (res : (Int32 × pH)) (M S sl0 : Nat) (hM : s.heap.size + M = res.2.1) (hS0 : sl0 + S = res.2.2.1) (h : Nat) (a0 : Int32) (hx : p.tables.exec = Jvm.exec) (hb : c.code = cX6_fault) (hr : meth.sig.returnType = some .int) (hlocks : meth.locks = false) (hml : c.maxLocals = 4) (hown : s.vm.findClass RX6 = some m.cls) (hts : ∀ w ∈ lw_all, w.before ([.ref h, .int a0] : List Value).toArray s = true) : ∀ k : Nat, (∀ (v0 : Nat) (v2 : Nat) (τ : pH) (H : Heap) (locs : List Loc) (cells slots : Nat), zH D cA ζ τ H → va_S (zA ζ) s.heap H locs → s.heap.size + cells = τ.1 → sl0 + slots = τ.2.1 → cells ≤ M ∧ slots ≤ S → ∀ (ls : Array Slot), lv_has ls 4 [(0, .ref v0), (2, .ref v2)] → (lfX6_fault_5__0 K ζ k).1 v0 v2 τ = some res → W p l e (headSpec (ws_ yX6_fault cX6_fault 4 (some .int)) ({ frames := 102, cells := M, slots := S, locals := 2345 })).room s m ([.ref h, .int a0] : List Value).toArray below meth c H locs cells slots (MQ below (zQi D cA ζ res) ([.ref h, .int a0] : List Value).toArray s M S (zA ζ)) (F0 m 101 ls [])) ∧ (∀ (v0 : Nat) (v2 : Nat) (τ : pH) (H : Heap) (locs : List Loc) (cells slots : Nat), zH D cA ζ τ H → va_S (zA ζ) s.heap H locs → s.heap.size + cells = τ.1 → sl0 + slots = τ.2.1 → cells ≤ M ∧ slots ≤ S → ∀ (ls : Array Slot), lv_has ls 4 [(0, .ref v0), (2, .ref v2)] → (lfX6_fault_5__0 K ζ k).2 v0 v2 τ = some res → W p l e (headSpec (ws_ yX6_fault cX6_fault 4 (some .int)) ({ frames := 102, cells := M, slots := S, locals := 2345 })).room s m ([.ref h, .int a0] : List Value).toArray below meth c H locs cells slots (MQ below (zQi D cA ζ res) ([.ref h, .int a0] : List Value).toArray s M S (zA ζ)) (F0 m 141 ls [])) := by
  intro k
  induction k with
  | zero =>
    exact ⟨fun _ _ _ _ _ _ _ _ _ _ _ _ _ _ hf => (by cases hf), fun _ _ _ _ _ _ _ _ _ _ _ _ _ _ hf => (by cases hf)⟩
  | succ k ih =>
    refine ⟨?_, ?_⟩
    · intro v0 v2 τ H locs cells slots hH hS hcs hss hcM ls hl hf
      have hf : (dz_b (zob ζ τ v2 2) fun f3 => zcl τ (fnX2_hasNext K ζ v2 τ) fun x1 s2 => if x1 = (0 : Int32) then (dz_b (zob ζ s2 v0 5) fun f4 => dz_b (zvr (f4[4]?)) fun x5 => dz_b (zob ζ s2 x5 10) fun f8 => zcl s2 (fnX8_iterator K ζ x5 s2) fun x6 s7 => (lfX6_fault_5__0 K ζ k).2 v0 x6 s7) else (dz_b (zob ζ s2 v2 2) fun f11 => zcl s2 (fnX2_next K ζ v2 s2) fun x9 s10 => dz_b (zob ζ s10 x9 11) fun f12 => dz_b (zob ζ s10 v0 5) fun f15 => zcl s10 (fnX6_isOne_5 K ζ v0 x9 s10) fun x13 s14 => if x13 = (0 : Int32) then (some (5, s14)) else ((lfX6_fault_5__0 K ζ k).1 v0 v2 s14)) : Option (Int32 × pH)) = some res := hf
      refine lv_aload_n hx hb dX6_fault_101 rfl (lv_at hl 1 rfl) ?_
      obtain ⟨f3, hf3, hf⟩ := dz_bo hf
      obtain ⟨x1, s2, hx1, hle, hck, hf⟩ := zcl_o hf
      have hc1 : cells + (s2.1 - τ.1) ≤ M := by omega
      have hs1 : slots + (s2.2.1 - τ.2.1) ≤ S := by omega
      refine va_callFi (va_runF (hX.K.1 2 _ rfl).2 (As := []) (rest := []) ⟨hx, hb, hml, hown, hts⟩ (mtX2_hasNext l D cA ζ τ v2 K (x1, s2) hx1 (s2.1 - τ.1) (s2.2.1 - τ.2.1) (Nat.add_sub_cancel' hle.1) (Nat.add_sub_cancel' hle.2)) (va_cwF 0 hts (zF_in q263 q267 q269 q91 q271) rfl rfl rfl (hX.F 0 rfl) (by decide +kernel) ⟨Nat.le_of_ble_eq_true rfl, Nat.le_of_ble_eq_true rfl⟩) (z_preV hX hS hH (zob_o hf3) rfl) rfl rfl hl.1 rfl (lv_room (Nat.le_of_ble_eq_true rfl)) dX6_fault_102 ⟨hc1, hs1⟩) hS (fun q _ hq => hq) (fun q hq => hq) (fun r u t H1 locs ht hvm hw hB hz hk hS => ?_)
      obtain ⟨hw1, hw2⟩ := Prod.mk.inj hw.symm; subst hw1; subst hw2
      have hH : zH D cA ζ s2 H1 := z_at ht.symm hB
      have hcs : s.heap.size + (cells + (s2.1 - τ.1)) = s2.1 := by omega
      have hss : sl0 + (slots + (s2.2.1 - τ.2.1)) = s2.2.1 := by omega
      replace hcM := And.intro hc1 hs1
      generalize cells + (s2.1 - τ.1) = cells at hcs hcM ⊢; generalize slots + (s2.2.1 - τ.2.1) = slots at hss hcM ⊢
      clear hB hk hz hvm ht hle hck hc1 hs1; generalize H1 = H at hH hS ⊢
      refine lv_if_eq (tgt := 133) hx hb dX6_fault_107 (by decide) (fun c107 => ?_) (fun c107 => ?_)
      · have hf := dz_t c107 hf
        refine lv_aload_n hx hb dX6_fault_133 rfl (lv_at hl 0 rfl) ?_
        obtain ⟨f4, hf4, hf⟩ := dz_bo hf
        obtain ⟨x5, hx5, hf⟩ := dz_bo hf
        refine va_get (C := RX7) (T := TX7) (N := 8) hx hb hts in_X7 hown hX.K (zrd_P hX hS hH (zob_o hf4)) 0 rfl rfl 4 (by decide) (hts _ q550) (fun _ hq => hq) (zvr_o hx5) dX6_fault_134 ?_
        obtain ⟨f8, hf8, hf⟩ := dz_bo hf
        obtain ⟨x6, s7, hx6, hle, hck, hf⟩ := zcl_o hf
        have hc1 : cells + (s7.1 - s2.1) ≤ M := by omega
        have hs1 : slots + (s7.2.1 - s2.2.1) ≤ S := by omega
        refine va_callr (va_runV (As := []) (rest := []) ⟨hx, hb, hml, hown, hts⟩ (mtX8_iterator l D cA ζ s2 x5 K (x6, s7) hx6 (s7.1 - s2.1) (s7.2.1 - s2.2.1) (Nat.add_sub_cancel' hle.1) (Nat.add_sub_cancel' hle.2)) (cwV 0 hts (lw_V q245 q246 q247 q98 q248) rfl rfl rfl (by decide +kernel) ⟨Nat.le_of_ble_eq_true rfl, Nat.le_of_ble_eq_true rfl⟩) (z_preV hX hS hH (zob_o hf8) rfl) rfl rfl hl.1 rfl (lv_room (Nat.le_of_ble_eq_true rfl)) dX6_fault_137 ⟨hc1, hs1⟩) hS (fun q _ hq => hq) (fun q hq => hq) (fun u r t H1 locs ht hvm hw hB hz hk hS => ?_)
        obtain ⟨hw, hB⟩ := hB
        obtain ⟨hw1, hw2⟩ := Prod.mk.inj hw.symm; subst hw1; subst hw2
        have hH : zH D cA ζ s7 H1 := z_at ht.symm hB
        have hcs : s.heap.size + (cells + (s7.1 - s2.1)) = s7.1 := by omega
        have hss : sl0 + (slots + (s7.2.1 - s2.2.1)) = s7.2.1 := by omega
        replace hcM := And.intro hc1 hs1
        generalize cells + (s7.1 - s2.1) = cells at hcs hcM ⊢; generalize slots + (s7.2.1 - s2.2.1) = slots at hss hcM ⊢
        clear hB hk hz hvm ht hle hck hc1 hs1; generalize H1 = H at hH hS ⊢
        refine lv_astore_n (lv' := [(2, .ref x6), (0, .ref v0)]) hx hb dX6_fault_140 rfl hl (by decide) rfl (fun ls hl => ?_)
        exact ih.2 v0 x6 s7 H locs cells slots hH hS hcs hss hcM ls (lv_sub hl [1, 0] rfl) hf
      · have hf := dz_f c107 hf
        refine lv_aload_n hx hb dX6_fault_110 rfl (lv_at hl 1 rfl) ?_
        obtain ⟨f11, hf11, hf⟩ := dz_bo hf
        obtain ⟨x9, s10, hx9, hle, hck, hf⟩ := zcl_o hf
        have hc1 : cells + (s10.1 - s2.1) ≤ M := by omega
        have hs1 : slots + (s10.2.1 - s2.2.1) ≤ S := by omega
        refine va_callFr (va_runF (hX.K.1 2 _ rfl).2 (As := []) (rest := []) ⟨hx, hb, hml, hown, hts⟩ (mtX2_next l D cA ζ s2 v2 K (x9, s10) hx9 (s10.1 - s2.1) (s10.2.1 - s2.2.1) (Nat.add_sub_cancel' hle.1) (Nat.add_sub_cancel' hle.2)) (va_cwF 0 hts (zF_in q279 q282 q284 q91 q286) rfl rfl rfl (hX.F 1 rfl) (by decide +kernel) ⟨Nat.le_of_ble_eq_true rfl, Nat.le_of_ble_eq_true rfl⟩) (z_preV hX hS hH (zob_o hf11) rfl) rfl rfl hl.1 rfl (lv_room (Nat.le_of_ble_eq_true rfl)) dX6_fault_111 ⟨hc1, hs1⟩) hS (fun q _ hq => hq) (fun q hq => hq) (fun u r t H1 locs ht hvm hw hB hz hk hS => ?_)
        obtain ⟨hw, hB⟩ := hB
        obtain ⟨hw1, hw2⟩ := Prod.mk.inj hw.symm; subst hw1; subst hw2
        have hH : zH D cA ζ s10 H1 := z_at ht.symm hB
        have hcs : s.heap.size + (cells + (s10.1 - s2.1)) = s10.1 := by omega
        have hss : sl0 + (slots + (s10.2.1 - s2.2.1)) = s10.2.1 := by omega
        replace hcM := And.intro hc1 hs1
        generalize cells + (s10.1 - s2.1) = cells at hcs hcM ⊢; generalize slots + (s10.2.1 - s2.2.1) = slots at hss hcM ⊢
        clear hB hk hz hvm ht hle hck hc1 hs1; generalize H1 = H at hH hS ⊢
        obtain ⟨f12, hf12, hf⟩ := dz_bo hf
        refine va_castS (nm := RX13) hx hb hown (hts _ q300) (hX.K.1 11 _ rfl).2 (va_recv hX.K (zrd_P hX hS hH (zob_o hf12)) (ci := 11) (q0 := 0) rfl rfl) dX6_fault_116 ?_
        refine lv_astore_n (lv' := [(3, .ref x9), (0, .ref v0), (2, .ref v2)]) hx hb dX6_fault_119 rfl hl (by decide) rfl (fun ls hl => ?_)
        refine lv_aload_n hx hb dX6_fault_120 rfl (lv_at hl 1 rfl) ?_
        refine lv_aload_n hx hb dX6_fault_121 rfl (lv_at hl 0 rfl) ?_
        obtain ⟨f15, hf15, hf⟩ := dz_bo hf
        obtain ⟨x13, s14, hx13, hle, hck, hf⟩ := zcl_o hf
        have hc1 : cells + (s14.1 - s10.1) ≤ M := by omega
        have hs1 : slots + (s14.2.1 - s10.2.1) ≤ S := by omega
        refine va_calli (va_runU (x := ⟨"PrimeProofs$Line", "isOne", "(LPrimeProofs$Row;)Z"⟩) (owner := "PrimeProofs$Line") (As := [.ref x9]) (rest := []) ⟨hx, hb, hml, hown, hts⟩ (mtX6_isOne_5 l D cA ζ s10 v0 x9 K (x13, s14) hx13 (s14.1 - s10.1) (s14.2.1 - s10.2.1) (Nat.add_sub_cancel' hle.1) (Nat.add_sub_cancel' hle.2)) (va_cwA 1 hts (zU_in q358 q360 q365 q359 q96 q366) rfl rfl rfl (hX.N q750 rfl) (by decide +kernel) ⟨Nat.le_of_ble_eq_true rfl, Nat.le_of_ble_eq_true rfl⟩) (z_preV hX hS hH (zob_o hf15) rfl) rfl rfl hl.1 rfl (lv_room (Nat.le_of_ble_eq_true rfl)) dX6_fault_122 ⟨hc1, hs1⟩) hS (fun q _ hq => hq) (fun q hq => hq) (fun r u t H1 locs ht hvm hw hB hz hk hS => ?_)
        obtain ⟨hw1, hw2⟩ := Prod.mk.inj hw.symm; subst hw1; subst hw2
        have hH : zH D cA ζ s14 H1 := z_at ht.symm hB
        have hcs : s.heap.size + (cells + (s14.1 - s10.1)) = s14.1 := by omega
        have hss : sl0 + (slots + (s14.2.1 - s10.2.1)) = s14.2.1 := by omega
        replace hcM := And.intro hc1 hs1
        generalize cells + (s14.1 - s10.1) = cells at hcs hcM ⊢; generalize slots + (s14.2.1 - s10.2.1) = slots at hss hcM ⊢
        clear hB hk hz hvm ht hle hck hc1 hs1; generalize H1 = H at hH hS ⊢
        refine lv_if_ne (tgt := 130) hx hb dX6_fault_125 (by decide) (fun c125 => ?_) (fun c125 => ?_)
        · have hf := dz_f c125 hf
          refine lv_goto (tgt := 101) hx hb dX6_fault_130 (by decide) ?_
          exact ih.1 v0 v2 s14 H locs cells slots hH hS hcs hss hcM ls (lv_sub hl [1, 2] rfl) hf
        · have hf := dz_t c125 hf
          refine lv_iconst (v := 5) hx hb dX6_fault_128 (by decide) ?_
          obtain ⟨hM1, hS1⟩ : cells = M ∧ slots = S := by have hq := congrArg Prod.snd (Option.some.inj hf); rw [← hq] at hM hS0; have hM : s.heap.size + M = s14.1 := hM; have hS0 : sl0 + S = s14.2.1 := hS0; omega
          refine W.widen (k := M) (n := S) (Nat.le_of_eq hM1) (Nat.le_of_eq hS1) ?_
          exact W.iret (v := 5) hx hb hr (fun t ht hW => ⟨⟨5, s14, rfl, Option.some.inj hf, z_at ht hH⟩, hS.F ht⟩) hS.2.2 dX6_fault_129
    · intro v0 v2 τ H locs cells slots hH hS hcs hss hcM ls hl hf
      have hf : (dz_b (zob ζ τ v2 2) fun f3 => zcl τ (fnX2_hasNext K ζ v2 τ) fun x1 s2 => if x1 = (0 : Int32) then (dz_b (zob ζ s2 v0 5) fun f6 => zcl s2 (fnX6_hasPair_5 K ζ v0 s2) fun x4 s5 => if x4 = (0 : Int32) then (some (0, s5)) else (dz_b (zob ζ s5 v0 5) fun f9 => zcl s5 (fnX6_pairFault_5 K ζ v0 s5) fun x7 s8 => some (x7, s8))) else (dz_b (zob ζ s2 v2 2) fun f12 => zcl s2 (fnX2_next K ζ v2 s2) fun x10 s11 => dz_b (zob ζ s11 x10 11) fun f13 => dz_b (zob ζ s11 v0 5) fun f16 => zcl s11 (fnX6_isFar_5 K ζ v0 x10 s11) fun x14 s15 => if x14 = (0 : Int32) then (some (6, s15)) else ((lfX6_fault_5__0 K ζ k).2 v0 v2 s15)) : Option (Int32 × pH)) = some res := hf
      refine lv_aload_n hx hb dX6_fault_141 rfl (lv_at hl 1 rfl) ?_
      obtain ⟨f3, hf3, hf⟩ := dz_bo hf
      obtain ⟨x1, s2, hx1, hle, hck, hf⟩ := zcl_o hf
      have hc1 : cells + (s2.1 - τ.1) ≤ M := by omega
      have hs1 : slots + (s2.2.1 - τ.2.1) ≤ S := by omega
      refine va_callFi (va_runF (hX.K.1 2 _ rfl).2 (As := []) (rest := []) ⟨hx, hb, hml, hown, hts⟩ (mtX2_hasNext l D cA ζ τ v2 K (x1, s2) hx1 (s2.1 - τ.1) (s2.2.1 - τ.2.1) (Nat.add_sub_cancel' hle.1) (Nat.add_sub_cancel' hle.2)) (va_cwF 0 hts (zF_in q263 q267 q269 q91 q271) rfl rfl rfl (hX.F 0 rfl) (by decide +kernel) ⟨Nat.le_of_ble_eq_true rfl, Nat.le_of_ble_eq_true rfl⟩) (z_preV hX hS hH (zob_o hf3) rfl) rfl rfl hl.1 rfl (lv_room (Nat.le_of_ble_eq_true rfl)) dX6_fault_142 ⟨hc1, hs1⟩) hS (fun q _ hq => hq) (fun q hq => hq) (fun r u t H1 locs ht hvm hw hB hz hk hS => ?_)
      obtain ⟨hw1, hw2⟩ := Prod.mk.inj hw.symm; subst hw1; subst hw2
      have hH : zH D cA ζ s2 H1 := z_at ht.symm hB
      have hcs : s.heap.size + (cells + (s2.1 - τ.1)) = s2.1 := by omega
      have hss : sl0 + (slots + (s2.2.1 - τ.2.1)) = s2.2.1 := by omega
      replace hcM := And.intro hc1 hs1
      generalize cells + (s2.1 - τ.1) = cells at hcs hcM ⊢; generalize slots + (s2.2.1 - τ.2.1) = slots at hss hcM ⊢
      clear hB hk hz hvm ht hle hck hc1 hs1; generalize H1 = H at hH hS ⊢
      refine lv_if_eq (tgt := 174) hx hb dX6_fault_147 (by decide) (fun c147 => ?_) (fun c147 => ?_)
      · have hf := dz_t c147 hf
        refine lv_aload_n hx hb dX6_fault_174 rfl (lv_at hl 0 rfl) ?_
        obtain ⟨f6, hf6, hf⟩ := dz_bo hf
        obtain ⟨x4, s5, hx4, hle, hck, hf⟩ := zcl_o hf
        have hc1 : cells + (s5.1 - s2.1) ≤ M := by omega
        have hs1 : slots + (s5.2.1 - s2.2.1) ≤ S := by omega
        refine va_calli (va_runU (x := ⟨"PrimeProofs$Line", "hasPair", "()Z"⟩) (owner := "PrimeProofs$Line") (As := []) (rest := []) ⟨hx, hb, hml, hown, hts⟩ (mtX6_hasPair_5 l D cA ζ s2 v0 K (x4, s5) hx4 (s5.1 - s2.1) (s5.2.1 - s2.2.1) (Nat.add_sub_cancel' hle.1) (Nat.add_sub_cancel' hle.2)) (va_cwU 0 hts (zU_in q442 q444 q449 q443 q96 q450) rfl rfl rfl rfl (by decide +kernel) ⟨Nat.le_of_ble_eq_true rfl, Nat.le_of_ble_eq_true rfl⟩) (z_preV hX hS hH (zob_o hf6) rfl) rfl rfl hl.1 rfl (lv_room (Nat.le_of_ble_eq_true rfl)) dX6_fault_175 ⟨hc1, hs1⟩) hS (fun q _ hq => hq) (fun q hq => hq) (fun r u t H1 locs ht hvm hw hB hz hk hS => ?_)
        obtain ⟨hw1, hw2⟩ := Prod.mk.inj hw.symm; subst hw1; subst hw2
        have hH : zH D cA ζ s5 H1 := z_at ht.symm hB
        have hcs : s.heap.size + (cells + (s5.1 - s2.1)) = s5.1 := by omega
        have hss : sl0 + (slots + (s5.2.1 - s2.2.1)) = s5.2.1 := by omega
        replace hcM := And.intro hc1 hs1
        generalize cells + (s5.1 - s2.1) = cells at hcs hcM ⊢; generalize slots + (s5.2.1 - s2.2.1) = slots at hss hcM ⊢
        clear hB hk hz hvm ht hle hck hc1 hs1; generalize H1 = H at hH hS ⊢
        refine lv_if_eq (tgt := 188) hx hb dX6_fault_178 (by decide) (fun c178 => ?_) (fun c178 => ?_)
        · have hf := dz_t c178 hf
          refine lv_iconst (v := 0) hx hb dX6_fault_188 (by decide) ?_
          obtain ⟨hM1, hS1⟩ : cells = M ∧ slots = S := by have hq := congrArg Prod.snd (Option.some.inj hf); rw [← hq] at hM hS0; have hM : s.heap.size + M = s5.1 := hM; have hS0 : sl0 + S = s5.2.1 := hS0; omega
          refine W.widen (k := M) (n := S) (Nat.le_of_eq hM1) (Nat.le_of_eq hS1) ?_
          exact W.iret (v := 0) hx hb hr (fun t ht hW => ⟨⟨0, s5, rfl, Option.some.inj hf, z_at ht hH⟩, hS.F ht⟩) hS.2.2 dX6_fault_189
        · have hf := dz_f c178 hf
          refine lv_aload_n hx hb dX6_fault_181 rfl (lv_at hl 0 rfl) ?_
          obtain ⟨f9, hf9, hf⟩ := dz_bo hf
          obtain ⟨x7, s8, hx7, hle, hck, hf⟩ := zcl_o hf
          have hc1 : cells + (s8.1 - s5.1) ≤ M := by omega
          have hs1 : slots + (s8.2.1 - s5.2.1) ≤ S := by omega
          refine va_calli (va_runU (x := ⟨"PrimeProofs$Line", "pairFault", "()I"⟩) (owner := "PrimeProofs$Line") (As := []) (rest := []) ⟨hx, hb, hml, hown, hts⟩ (mtX6_pairFault_5 l D cA ζ s5 v0 K (x7, s8) hx7 (s8.1 - s5.1) (s8.2.1 - s5.2.1) (Nat.add_sub_cancel' hle.1) (Nat.add_sub_cancel' hle.2)) (va_cwU 0 hts (zU_in q451 q453 q458 q452 q96 q459) rfl rfl rfl rfl (by decide +kernel) ⟨Nat.le_of_ble_eq_true rfl, Nat.le_of_ble_eq_true rfl⟩) (z_preV hX hS hH (zob_o hf9) rfl) rfl rfl hl.1 rfl (lv_room (Nat.le_of_ble_eq_true rfl)) dX6_fault_182 ⟨hc1, hs1⟩) hS (fun q _ hq => hq) (fun q hq => hq) (fun r u t H1 locs ht hvm hw hB hz hk hS => ?_)
          obtain ⟨hw1, hw2⟩ := Prod.mk.inj hw.symm; subst hw1; subst hw2
          have hH : zH D cA ζ s8 H1 := z_at ht.symm hB
          have hcs : s.heap.size + (cells + (s8.1 - s5.1)) = s8.1 := by omega
          have hss : sl0 + (slots + (s8.2.1 - s5.2.1)) = s8.2.1 := by omega
          replace hcM := And.intro hc1 hs1
          generalize cells + (s8.1 - s5.1) = cells at hcs hcM ⊢; generalize slots + (s8.2.1 - s5.2.1) = slots at hss hcM ⊢
          clear hB hk hz hvm ht hle hck hc1 hs1; generalize H1 = H at hH hS ⊢
          refine lv_goto (tgt := 189) hx hb dX6_fault_185 (by decide) ?_
          obtain ⟨hM1, hS1⟩ : cells = M ∧ slots = S := by have hq := congrArg Prod.snd (Option.some.inj hf); rw [← hq] at hM hS0; have hM : s.heap.size + M = s8.1 := hM; have hS0 : sl0 + S = s8.2.1 := hS0; omega
          refine W.widen (k := M) (n := S) (Nat.le_of_eq hM1) (Nat.le_of_eq hS1) ?_
          exact W.iret (v := x7) hx hb hr (fun t ht hW => ⟨⟨x7, s8, rfl, Option.some.inj hf, z_at ht hH⟩, hS.F ht⟩) hS.2.2 dX6_fault_189
      · have hf := dz_f c147 hf
        refine lv_aload_n hx hb dX6_fault_150 rfl (lv_at hl 1 rfl) ?_
        obtain ⟨f12, hf12, hf⟩ := dz_bo hf
        obtain ⟨x10, s11, hx10, hle, hck, hf⟩ := zcl_o hf
        have hc1 : cells + (s11.1 - s2.1) ≤ M := by omega
        have hs1 : slots + (s11.2.1 - s2.2.1) ≤ S := by omega
        refine va_callFr (va_runF (hX.K.1 2 _ rfl).2 (As := []) (rest := []) ⟨hx, hb, hml, hown, hts⟩ (mtX2_next l D cA ζ s2 v2 K (x10, s11) hx10 (s11.1 - s2.1) (s11.2.1 - s2.2.1) (Nat.add_sub_cancel' hle.1) (Nat.add_sub_cancel' hle.2)) (va_cwF 0 hts (zF_in q279 q282 q284 q91 q286) rfl rfl rfl (hX.F 1 rfl) (by decide +kernel) ⟨Nat.le_of_ble_eq_true rfl, Nat.le_of_ble_eq_true rfl⟩) (z_preV hX hS hH (zob_o hf12) rfl) rfl rfl hl.1 rfl (lv_room (Nat.le_of_ble_eq_true rfl)) dX6_fault_151 ⟨hc1, hs1⟩) hS (fun q _ hq => hq) (fun q hq => hq) (fun u r t H1 locs ht hvm hw hB hz hk hS => ?_)
        obtain ⟨hw, hB⟩ := hB
        obtain ⟨hw1, hw2⟩ := Prod.mk.inj hw.symm; subst hw1; subst hw2
        have hH : zH D cA ζ s11 H1 := z_at ht.symm hB
        have hcs : s.heap.size + (cells + (s11.1 - s2.1)) = s11.1 := by omega
        have hss : sl0 + (slots + (s11.2.1 - s2.2.1)) = s11.2.1 := by omega
        replace hcM := And.intro hc1 hs1
        generalize cells + (s11.1 - s2.1) = cells at hcs hcM ⊢; generalize slots + (s11.2.1 - s2.2.1) = slots at hss hcM ⊢
        clear hB hk hz hvm ht hle hck hc1 hs1; generalize H1 = H at hH hS ⊢
        obtain ⟨f13, hf13, hf⟩ := dz_bo hf
        refine va_castS (nm := RX13) hx hb hown (hts _ q300) (hX.K.1 11 _ rfl).2 (va_recv hX.K (zrd_P hX hS hH (zob_o hf13)) (ci := 11) (q0 := 0) rfl rfl) dX6_fault_156 ?_
        refine lv_astore_n (lv' := [(3, .ref x10), (0, .ref v0), (2, .ref v2)]) hx hb dX6_fault_159 rfl hl (by decide) rfl (fun ls hl => ?_)
        refine lv_aload_n hx hb dX6_fault_160 rfl (lv_at hl 1 rfl) ?_
        refine lv_aload_n hx hb dX6_fault_161 rfl (lv_at hl 0 rfl) ?_
        obtain ⟨f16, hf16, hf⟩ := dz_bo hf
        obtain ⟨x14, s15, hx14, hle, hck, hf⟩ := zcl_o hf
        have hc1 : cells + (s15.1 - s11.1) ≤ M := by omega
        have hs1 : slots + (s15.2.1 - s11.2.1) ≤ S := by omega
        refine va_calli (va_runU (x := ⟨"PrimeProofs$Line", "isFar", "(LPrimeProofs$Row;)Z"⟩) (owner := "PrimeProofs$Line") (As := [.ref x10]) (rest := []) ⟨hx, hb, hml, hown, hts⟩ (mtX6_isFar_5 l D cA ζ s11 v0 x10 K (x14, s15) hx14 (s15.1 - s11.1) (s15.2.1 - s11.2.1) (Nat.add_sub_cancel' hle.1) (Nat.add_sub_cancel' hle.2)) (va_cwA 1 hts (zU_in q431 q433 q438 q432 q96 q439) rfl rfl rfl (hX.N q754 rfl) (by decide +kernel) ⟨Nat.le_of_ble_eq_true rfl, Nat.le_of_ble_eq_true rfl⟩) (z_preV hX hS hH (zob_o hf16) rfl) rfl rfl hl.1 rfl (lv_room (Nat.le_of_ble_eq_true rfl)) dX6_fault_162 ⟨hc1, hs1⟩) hS (fun q _ hq => hq) (fun q hq => hq) (fun r u t H1 locs ht hvm hw hB hz hk hS => ?_)
        obtain ⟨hw1, hw2⟩ := Prod.mk.inj hw.symm; subst hw1; subst hw2
        have hH : zH D cA ζ s15 H1 := z_at ht.symm hB
        have hcs : s.heap.size + (cells + (s15.1 - s11.1)) = s15.1 := by omega
        have hss : sl0 + (slots + (s15.2.1 - s11.2.1)) = s15.2.1 := by omega
        replace hcM := And.intro hc1 hs1
        generalize cells + (s15.1 - s11.1) = cells at hcs hcM ⊢; generalize slots + (s15.2.1 - s11.2.1) = slots at hss hcM ⊢
        clear hB hk hz hvm ht hle hck hc1 hs1; generalize H1 = H at hH hS ⊢
        refine lv_if_ne (tgt := 171) hx hb dX6_fault_165 (by decide) (fun c165 => ?_) (fun c165 => ?_)
        · have hf := dz_f c165 hf
          refine lv_goto (tgt := 141) hx hb dX6_fault_171 (by decide) ?_
          exact ih.2 v0 v2 s15 H locs cells slots hH hS hcs hss hcM ls (lv_sub hl [1, 2] rfl) hf
        · have hf := dz_t c165 hf
          refine lv_bipush (v := 6) hx hb dX6_fault_168 (by decide) ?_
          obtain ⟨hM1, hS1⟩ : cells = M ∧ slots = S := by have hq := congrArg Prod.snd (Option.some.inj hf); rw [← hq] at hM hS0; have hM : s.heap.size + M = s15.1 := hM; have hS0 : sl0 + S = s15.2.1 := hS0; omega
          refine W.widen (k := M) (n := S) (Nat.le_of_eq hM1) (Nat.le_of_eq hS1) ?_
          exact W.iret (v := 6) hx hb hr (fun t ht hW => ⟨⟨6, s15, rfl, Option.some.inj hf, z_at ht hH⟩, hS.F ht⟩) hS.2.2 dX6_fault_170
set_option maxHeartbeats 4000000 in
set_option maxRecDepth 100000 in
theorem mtX6_fault_5__0 (l : Launch) (D : va_G) (cA : Nat → ClassId) (ζ : pZ) (τ : pH) (h : Nat) (a0 : Int32) (K : Nat) (res : (Int32 × pH)) (hf : fnX6_fault_5__0 K ζ h a0 τ = some res) (M S : Nat) (hM : τ.1 + M = res.2.1) (hS0 : τ.2.1 + S = res.2.2.1) : Met l yX6_fault (ws_ yX6_fault cX6_fault 4 (some .int)) ({ frames := 102, cells := M, slots := S, locals := 2345 }) (zPc D cA ζ τ [.ref h, .int a0]) (zQi D cA ζ res) M S (zA ζ) := by
  refine Met.ofW (cc := cX6_fault) (maxL := 4) (ret := some .int) (by decide +kernel) rfl ?_
  intro p e s m args below meth c s₁ B hml hv
  obtain ⟨rfl, hX, hH⟩ := hv
  have hx := B.exec
  have hb := B.bytes
  have hr := B.returns
  have hts := atoms_spec (ws := ws_ yX6_fault cX6_fault 4 (some .int)) B.pre
  have hts : ∀ w ∈ lw_all, w.before _ s = true := fun w h => hts w (List.mem_cons_of_mem _ h)
  have hown : s.vm.findClass RX6 = some m.cls := findClass_of_methodNamed B.named
  have hlocks := B.notSynchronized
  have hM : s.heap.size + M = res.2.1 := by rw [hH.1]; exact hM
  have hcs : s.heap.size + 0 = τ.1 := hH.1
  have hss : τ.2.1 + 0 = τ.2.1 := rfl
  generalize hsl0 : τ.2.1 = sl0 at hS0 hss
  have hss : sl0 + 0 = τ.2.1 := by rw [hsl0]; rfl
  have hS : va_S (zA ζ) s.heap s.heap [] := va_S.rf
  generalize hHe : s.heap = H at hH hS ⊢
  have hS : va_S (zA ζ) s.heap H [] := by rw [hHe]; exact hS
  generalize ([] : List Loc) = locs at hS ⊢
  have hl := lv_entry ([.ref h, .int a0]) (n := 4) (Nat.le_of_ble_eq_true rfl)
  rw [lg_entry_eq]
  generalize (lg_sl ([.ref h, .int a0]) ++ List.replicate (4 - (lg_sl ([.ref h, .int a0])).length) Slot.unset).toArray = ls at hl ⊢
  have hl : lv_has ls 4 [(0, .ref h), (1, .int a0)] := hl
  have hf : (dz_b (zob ζ τ h 5) fun f1 => dz_b (zvi (f1[1]?)) fun x2 => if x2 = (0 : Int32) then (dz_b (zob ζ τ h 5) fun f27 => dz_b (zvl (f27[0]?)) fun x28 => if (100 : Int64) ≤ x28 then (some (1, τ)) else (dz_b (zob ζ τ h 5) fun f29 => dz_b (zvl (f29[0]?)) fun x30 => dz_b (fnX0_isPrime K x30) fun x31 => if x31 = (0 : Int32) then (some (1, τ)) else (some (0, τ)))) else (dz_b (zob ζ τ h 5) fun f3 => dz_b (zvl (f3[0]?)) fun x4 => dz_l (x4 - x4 / 2 * 2) fun x5 => if x5 = (0 : Int64) then (some (1, τ)) else (dz_b (zob ζ τ h 5) fun f6 => dz_b (zvr (f6[4]?)) fun x7 => dz_b (zob ζ τ h 5) fun f10 => zcl τ (fnX6_isBacked_5__0 K ζ h x7 a0 τ) fun x8 s9 => if x8 = (0 : Int32) then (some (2, s9)) else (dz_b (zob ζ s9 h 5) fun f11 => dz_b (zvr (f11[5]?)) fun x12 => dz_b (zob ζ s9 h 5) fun f15 => zcl s9 (fnX6_isBacked_5__0 K ζ h x12 a0 s9) fun x13 s14 => if x13 = (0 : Int32) then (some (2, s14)) else (dz_b (zob ζ s14 h 5) fun f18 => zcl s14 (fnX7_isWhole K ζ h s14) fun x16 s17 => if x16 = (0 : Int32) then (some (3, s17)) else (dz_b (zob ζ s17 h 5) fun f21 => zcl s17 (fnX6_isEnough_5 K ζ h s17) fun x19 s20 => if x19 = (0 : Int32) then (some (4, s20)) else (dz_b (zob ζ s20 h 5) fun f22 => dz_b (zvr (f22[4]?)) fun x23 => dz_b (zob ζ s20 x23 10) fun f26 => zcl s20 (fnX8_iterator K ζ x23 s20) fun x24 s25 => (lfX6_fault_5__0 K ζ K).1 h x24 s25)))))) : Option (Int32 × pH)) = some res := hf
  refine z_gen (fun cells slots hc0 hs0 => ?_)
  have hcs : s.heap.size + cells = τ.1 := by rw [hc0]; exact hcs
  have hss : sl0 + slots = τ.2.1 := by rw [hs0]; exact hss
  have hcM : cells ≤ M ∧ slots ≤ S := by rw [hc0, hs0]; exact ⟨Nat.zero_le _, Nat.zero_le _⟩
  clear hc0 hs0
  have ih := wlX6_fault_5__0 (l := l) (e := e) (below := below) (D := D) (cA := cA) hX K res M S sl0 hM hS0 h a0 hx hb hr hlocks hml hown hts K
  refine lv_aload_n hx hb dX6_fault_0 rfl (lv_at hl 0 rfl) ?_
  obtain ⟨f1, hf1, hf⟩ := dz_bo hf
  obtain ⟨x2, hx2, hf⟩ := dz_bo hf
  refine va_get (C := RX7) (T := TX7) (N := 8) hx hb hts in_X7 hown hX.K (zrd_P hX hS hH (zob_o hf1)) 0 rfl rfl 1 (by decide) (hts _ q542) (fun _ hq => hq) (zvi_o hx2) dX6_fault_1 ?_
  refine lv_if_ne (tgt := 34) hx hb dX6_fault_4 (by decide) (fun c4 => ?_) (fun c4 => ?_)
  · have hf := dz_f c4 hf
    refine lv_aload_n hx hb dX6_fault_34 rfl (lv_at hl 0 rfl) ?_
    obtain ⟨f3, hf3, hf⟩ := dz_bo hf
    obtain ⟨x4, hx4, hf⟩ := dz_bo hf
    refine va_get (C := RX7) (T := TX7) (N := 8) hx hb hts in_X7 hown hX.K (zrd_P hX hS hH (zob_o hf3)) 0 rfl rfl 0 (by decide) (hts _ q532) (fun _ hq => hq) (zvl_o hx4) dX6_fault_35 ?_
    refine lv_ldc2 (v := 2) hx hb hown (hts _ q236) dX6_fault_38 ?_
    refine lv_lrem hx hb dX6_fault_41 (by decide) ?_
    refine lv_topl (fun x5 e_x5 => ?_)
    have hf := dz_ls e_x5 hf
    refine lv_lconst (v := 0) hx hb dX6_fault_42 rfl ?_
    refine W.lcmp hx hb dX6_fault_43 ?_
    refine lv_if_ne (tgt := 49) hx hb dX6_fault_44 (by decide) (fun c44 => ?_) (fun c44 => ?_)
    · have c44 : ¬ x5 = (0 : Int64) := fun hq => c44 ((lg_cmp_eq _ _).mpr hq)
      have hf := dz_f c44 hf
      refine lv_aload_n hx hb dX6_fault_49 rfl (lv_at hl 0 rfl) ?_
      refine lv_aload_n hx hb dX6_fault_50 rfl (lv_at hl 0 rfl) ?_
      obtain ⟨f6, hf6, hf⟩ := dz_bo hf
      obtain ⟨x7, hx7, hf⟩ := dz_bo hf
      refine va_get (C := RX7) (T := TX7) (N := 8) hx hb hts in_X7 hown hX.K (zrd_P hX hS hH (zob_o hf6)) 0 rfl rfl 4 (by decide) (hts _ q550) (fun _ hq => hq) (zvr_o hx7) dX6_fault_51 ?_
      refine lv_iload_n hx hb dX6_fault_54 rfl (lv_at hl 1 rfl) ?_
      obtain ⟨f10, hf10, hf⟩ := dz_bo hf
      obtain ⟨x8, s9, hx8, hle, hck, hf⟩ := zcl_o hf
      have hc1 : cells + (s9.1 - τ.1) ≤ M := by omega
      have hs1 : slots + (s9.2.1 - τ.2.1) ≤ S := by omega
      refine va_calli (va_runU (x := ⟨"PrimeProofs$Line", "isBacked", "(LPrimeProofs$Rows;I)Z"⟩) (owner := "PrimeProofs$Line") (As := [.ref x7, .int a0]) (rest := []) ⟨hx, hb, hml, hown, hts⟩ (mtX6_isBacked_5__0 l D cA ζ τ h x7 a0 K (x8, s9) hx8 (s9.1 - τ.1) (s9.2.1 - τ.2.1) (Nat.add_sub_cancel' hle.1) (Nat.add_sub_cancel' hle.2)) (zcwP 2 hts (hX.sel 0 rfl) q237 q2199 q239 q96 q240 rfl rfl rfl (by decide +kernel) ⟨Nat.le_of_ble_eq_true rfl, Nat.le_of_ble_eq_true rfl⟩) (z_preV hX hS hH (zob_o hf10) rfl) rfl rfl hl.1 rfl (lv_room (Nat.le_of_ble_eq_true rfl)) dX6_fault_55 ⟨hc1, hs1⟩) hS (fun q _ hq => hq) (fun q hq => hq) (fun r u t H1 locs ht hvm hw hB hz hk hS => ?_)
      obtain ⟨hw1, hw2⟩ := Prod.mk.inj hw.symm; subst hw1; subst hw2
      have hH : zH D cA ζ s9 H1 := z_at ht.symm hB
      have hcs : s.heap.size + (cells + (s9.1 - τ.1)) = s9.1 := by omega
      have hss : sl0 + (slots + (s9.2.1 - τ.2.1)) = s9.2.1 := by omega
      replace hcM := And.intro hc1 hs1
      generalize cells + (s9.1 - τ.1) = cells at hcs hcM ⊢; generalize slots + (s9.2.1 - τ.2.1) = slots at hss hcM ⊢
      clear hB hk hz hvm ht hle hck hc1 hs1; generalize H1 = H at hH hS ⊢
      refine lv_if_eq (tgt := 73) hx hb dX6_fault_58 (by decide) (fun c58 => ?_) (fun c58 => ?_)
      · have hf := dz_t c58 hf
        refine lv_iconst (v := 2) hx hb dX6_fault_73 (by decide) ?_
        obtain ⟨hM1, hS1⟩ : cells = M ∧ slots = S := by have hq := congrArg Prod.snd (Option.some.inj hf); rw [← hq] at hM hS0; have hM : s.heap.size + M = s9.1 := hM; have hS0 : sl0 + S = s9.2.1 := hS0; omega
        refine W.widen (k := M) (n := S) (Nat.le_of_eq hM1) (Nat.le_of_eq hS1) ?_
        exact W.iret (v := 2) hx hb hr (fun t ht hW => ⟨⟨2, s9, rfl, Option.some.inj hf, z_at ht hH⟩, hS.F ht⟩) hS.2.2 dX6_fault_74
      · have hf := dz_f c58 hf
        refine lv_aload_n hx hb dX6_fault_61 rfl (lv_at hl 0 rfl) ?_
        refine lv_aload_n hx hb dX6_fault_62 rfl (lv_at hl 0 rfl) ?_
        obtain ⟨f11, hf11, hf⟩ := dz_bo hf
        obtain ⟨x12, hx12, hf⟩ := dz_bo hf
        refine va_get (C := RX7) (T := TX7) (N := 8) hx hb hts in_X7 hown hX.K (zrd_P hX hS hH (zob_o hf11)) 0 rfl rfl 5 (by decide) (hts _ q559) (fun _ hq => hq) (zvr_o hx12) dX6_fault_63 ?_
        refine lv_iload_n hx hb dX6_fault_66 rfl (lv_at hl 1 rfl) ?_
        obtain ⟨f15, hf15, hf⟩ := dz_bo hf
        obtain ⟨x13, s14, hx13, hle, hck, hf⟩ := zcl_o hf
        have hc1 : cells + (s14.1 - s9.1) ≤ M := by omega
        have hs1 : slots + (s14.2.1 - s9.2.1) ≤ S := by omega
        refine va_calli (va_runU (x := ⟨"PrimeProofs$Line", "isBacked", "(LPrimeProofs$Rows;I)Z"⟩) (owner := "PrimeProofs$Line") (As := [.ref x12, .int a0]) (rest := []) ⟨hx, hb, hml, hown, hts⟩ (mtX6_isBacked_5__0 l D cA ζ s9 h x12 a0 K (x13, s14) hx13 (s14.1 - s9.1) (s14.2.1 - s9.2.1) (Nat.add_sub_cancel' hle.1) (Nat.add_sub_cancel' hle.2)) (zcwP 2 hts (hX.sel 0 rfl) q237 q2199 q239 q96 q240 rfl rfl rfl (by decide +kernel) ⟨Nat.le_of_ble_eq_true rfl, Nat.le_of_ble_eq_true rfl⟩) (z_preV hX hS hH (zob_o hf15) rfl) rfl rfl hl.1 rfl (lv_room (Nat.le_of_ble_eq_true rfl)) dX6_fault_67 ⟨hc1, hs1⟩) hS (fun q _ hq => hq) (fun q hq => hq) (fun r u t H1 locs ht hvm hw hB hz hk hS => ?_)
        obtain ⟨hw1, hw2⟩ := Prod.mk.inj hw.symm; subst hw1; subst hw2
        have hH : zH D cA ζ s14 H1 := z_at ht.symm hB
        have hcs : s.heap.size + (cells + (s14.1 - s9.1)) = s14.1 := by omega
        have hss : sl0 + (slots + (s14.2.1 - s9.2.1)) = s14.2.1 := by omega
        replace hcM := And.intro hc1 hs1
        generalize cells + (s14.1 - s9.1) = cells at hcs hcM ⊢; generalize slots + (s14.2.1 - s9.2.1) = slots at hss hcM ⊢
        clear hB hk hz hvm ht hle hck hc1 hs1; generalize H1 = H at hH hS ⊢
        refine lv_if_ne (tgt := 75) hx hb dX6_fault_70 (by decide) (fun c70 => ?_) (fun c70 => ?_)
        · have hf := dz_f c70 hf
          refine lv_aload_n hx hb dX6_fault_75 rfl (lv_at hl 0 rfl) ?_
          obtain ⟨f18, hf18, hf⟩ := dz_bo hf
          obtain ⟨x16, s17, hx16, hle, hck, hf⟩ := zcl_o hf
          have hc1 : cells + (s17.1 - s14.1) ≤ M := by omega
          have hs1 : slots + (s17.2.1 - s14.2.1) ≤ S := by omega
          refine va_calli (va_runU (x := ⟨"PrimeProofs$Line", "isWhole", "()Z"⟩) (owner := "PrimeProofs$Line") (As := []) (rest := []) ⟨hx, hb, hml, hown, hts⟩ (mtX7_isWhole l D cA ζ s14 h K (x16, s17) hx16 (s17.1 - s14.1) (s17.2.1 - s14.2.1) (Nat.add_sub_cancel' hle.1) (Nat.add_sub_cancel' hle.2)) (va_cwA 0 hts (zU_in q305 q307 q337 q338 q97 q339) rfl rfl rfl (hX.N q306 rfl) (by decide +kernel) ⟨Nat.le_of_ble_eq_true rfl, Nat.le_of_ble_eq_true rfl⟩) (z_preV hX hS hH (zob_o hf18) rfl) rfl rfl hl.1 rfl (lv_room (Nat.le_of_ble_eq_true rfl)) dX6_fault_76 ⟨hc1, hs1⟩) hS (fun q _ hq => hq) (fun q hq => hq) (fun r u t H1 locs ht hvm hw hB hz hk hS => ?_)
          obtain ⟨hw1, hw2⟩ := Prod.mk.inj hw.symm; subst hw1; subst hw2
          have hH : zH D cA ζ s17 H1 := z_at ht.symm hB
          have hcs : s.heap.size + (cells + (s17.1 - s14.1)) = s17.1 := by omega
          have hss : sl0 + (slots + (s17.2.1 - s14.2.1)) = s17.2.1 := by omega
          replace hcM := And.intro hc1 hs1
          generalize cells + (s17.1 - s14.1) = cells at hcs hcM ⊢; generalize slots + (s17.2.1 - s14.2.1) = slots at hss hcM ⊢
          clear hB hk hz hvm ht hle hck hc1 hs1; generalize H1 = H at hH hS ⊢
          refine lv_if_ne (tgt := 84) hx hb dX6_fault_79 (by decide) (fun c79 => ?_) (fun c79 => ?_)
          · have hf := dz_f c79 hf
            refine lv_aload_n hx hb dX6_fault_84 rfl (lv_at hl 0 rfl) ?_
            obtain ⟨f21, hf21, hf⟩ := dz_bo hf
            obtain ⟨x19, s20, hx19, hle, hck, hf⟩ := zcl_o hf
            have hc1 : cells + (s20.1 - s17.1) ≤ M := by omega
            have hs1 : slots + (s20.2.1 - s17.2.1) ≤ S := by omega
            refine va_calli (va_runU (x := ⟨"PrimeProofs$Line", "isEnough", "()Z"⟩) (owner := "PrimeProofs$Line") (As := []) (rest := []) ⟨hx, hb, hml, hown, hts⟩ (mtX6_isEnough_5 l D cA ζ s17 h K (x19, s20) hx19 (s20.1 - s17.1) (s20.2.1 - s17.2.1) (Nat.add_sub_cancel' hle.1) (Nat.add_sub_cancel' hle.2)) (va_cwU 0 hts (zU_in q340 q342 q356 q341 q96 q357) rfl rfl rfl rfl (by decide +kernel) ⟨Nat.le_of_ble_eq_true rfl, Nat.le_of_ble_eq_true rfl⟩) (z_preV hX hS hH (zob_o hf21) rfl) rfl rfl hl.1 rfl (lv_room (Nat.le_of_ble_eq_true rfl)) dX6_fault_85 ⟨hc1, hs1⟩) hS (fun q _ hq => hq) (fun q hq => hq) (fun r u t H1 locs ht hvm hw hB hz hk hS => ?_)
            obtain ⟨hw1, hw2⟩ := Prod.mk.inj hw.symm; subst hw1; subst hw2
            have hH : zH D cA ζ s20 H1 := z_at ht.symm hB
            have hcs : s.heap.size + (cells + (s20.1 - s17.1)) = s20.1 := by omega
            have hss : sl0 + (slots + (s20.2.1 - s17.2.1)) = s20.2.1 := by omega
            replace hcM := And.intro hc1 hs1
            generalize cells + (s20.1 - s17.1) = cells at hcs hcM ⊢; generalize slots + (s20.2.1 - s17.2.1) = slots at hss hcM ⊢
            clear hB hk hz hvm ht hle hck hc1 hs1; generalize H1 = H at hH hS ⊢
            refine lv_if_ne (tgt := 93) hx hb dX6_fault_88 (by decide) (fun c88 => ?_) (fun c88 => ?_)
            · have hf := dz_f c88 hf
              refine lv_aload_n hx hb dX6_fault_93 rfl (lv_at hl 0 rfl) ?_
              obtain ⟨f22, hf22, hf⟩ := dz_bo hf
              obtain ⟨x23, hx23, hf⟩ := dz_bo hf
              refine va_get (C := RX7) (T := TX7) (N := 8) hx hb hts in_X7 hown hX.K (zrd_P hX hS hH (zob_o hf22)) 0 rfl rfl 4 (by decide) (hts _ q550) (fun _ hq => hq) (zvr_o hx23) dX6_fault_94 ?_
              obtain ⟨f26, hf26, hf⟩ := dz_bo hf
              obtain ⟨x24, s25, hx24, hle, hck, hf⟩ := zcl_o hf
              have hc1 : cells + (s25.1 - s20.1) ≤ M := by omega
              have hs1 : slots + (s25.2.1 - s20.2.1) ≤ S := by omega
              refine va_callr (va_runV (As := []) (rest := []) ⟨hx, hb, hml, hown, hts⟩ (mtX8_iterator l D cA ζ s20 x23 K (x24, s25) hx24 (s25.1 - s20.1) (s25.2.1 - s20.2.1) (Nat.add_sub_cancel' hle.1) (Nat.add_sub_cancel' hle.2)) (cwV 0 hts (lw_V q245 q246 q247 q98 q248) rfl rfl rfl (by decide +kernel) ⟨Nat.le_of_ble_eq_true rfl, Nat.le_of_ble_eq_true rfl⟩) (z_preV hX hS hH (zob_o hf26) rfl) rfl rfl hl.1 rfl (lv_room (Nat.le_of_ble_eq_true rfl)) dX6_fault_97 ⟨hc1, hs1⟩) hS (fun q _ hq => hq) (fun q hq => hq) (fun u r t H1 locs ht hvm hw hB hz hk hS => ?_)
              obtain ⟨hw, hB⟩ := hB
              obtain ⟨hw1, hw2⟩ := Prod.mk.inj hw.symm; subst hw1; subst hw2
              have hH : zH D cA ζ s25 H1 := z_at ht.symm hB
              have hcs : s.heap.size + (cells + (s25.1 - s20.1)) = s25.1 := by omega
              have hss : sl0 + (slots + (s25.2.1 - s20.2.1)) = s25.2.1 := by omega
              replace hcM := And.intro hc1 hs1
              generalize cells + (s25.1 - s20.1) = cells at hcs hcM ⊢; generalize slots + (s25.2.1 - s20.2.1) = slots at hss hcM ⊢
              clear hB hk hz hvm ht hle hck hc1 hs1; generalize H1 = H at hH hS ⊢
              refine lv_astore_n (lv' := [(2, .ref x24), (0, .ref h), (1, .int a0)]) hx hb dX6_fault_100 rfl hl (by decide) rfl (fun ls hl => ?_)
              exact ih.1 h x24 s25 H locs cells slots hH hS hcs hss hcM ls (lv_sub hl [1, 0] rfl) hf
            · have hf := dz_t c88 hf
              refine lv_iconst (v := 4) hx hb dX6_fault_91 (by decide) ?_
              obtain ⟨hM1, hS1⟩ : cells = M ∧ slots = S := by have hq := congrArg Prod.snd (Option.some.inj hf); rw [← hq] at hM hS0; have hM : s.heap.size + M = s20.1 := hM; have hS0 : sl0 + S = s20.2.1 := hS0; omega
              refine W.widen (k := M) (n := S) (Nat.le_of_eq hM1) (Nat.le_of_eq hS1) ?_
              exact W.iret (v := 4) hx hb hr (fun t ht hW => ⟨⟨4, s20, rfl, Option.some.inj hf, z_at ht hH⟩, hS.F ht⟩) hS.2.2 dX6_fault_92
          · have hf := dz_t c79 hf
            refine lv_iconst (v := 3) hx hb dX6_fault_82 (by decide) ?_
            obtain ⟨hM1, hS1⟩ : cells = M ∧ slots = S := by have hq := congrArg Prod.snd (Option.some.inj hf); rw [← hq] at hM hS0; have hM : s.heap.size + M = s17.1 := hM; have hS0 : sl0 + S = s17.2.1 := hS0; omega
            refine W.widen (k := M) (n := S) (Nat.le_of_eq hM1) (Nat.le_of_eq hS1) ?_
            exact W.iret (v := 3) hx hb hr (fun t ht hW => ⟨⟨3, s17, rfl, Option.some.inj hf, z_at ht hH⟩, hS.F ht⟩) hS.2.2 dX6_fault_83
        · have hf := dz_t c70 hf
          refine lv_iconst (v := 2) hx hb dX6_fault_73 (by decide) ?_
          obtain ⟨hM1, hS1⟩ : cells = M ∧ slots = S := by have hq := congrArg Prod.snd (Option.some.inj hf); rw [← hq] at hM hS0; have hM : s.heap.size + M = s14.1 := hM; have hS0 : sl0 + S = s14.2.1 := hS0; omega
          refine W.widen (k := M) (n := S) (Nat.le_of_eq hM1) (Nat.le_of_eq hS1) ?_
          exact W.iret (v := 2) hx hb hr (fun t ht hW => ⟨⟨2, s14, rfl, Option.some.inj hf, z_at ht hH⟩, hS.F ht⟩) hS.2.2 dX6_fault_74
    · have c44 : x5 = (0 : Int64) := (lg_cmp_eq _ _).mp c44
      have hf := dz_t c44 hf
      refine lv_iconst (v := 1) hx hb dX6_fault_47 (by decide) ?_
      obtain ⟨hM1, hS1⟩ : cells = M ∧ slots = S := by have hq := congrArg Prod.snd (Option.some.inj hf); rw [← hq] at hM hS0; have hM : s.heap.size + M = τ.1 := hM; have hS0 : sl0 + S = τ.2.1 := hS0; omega
      refine W.widen (k := M) (n := S) (Nat.le_of_eq hM1) (Nat.le_of_eq hS1) ?_
      exact W.iret (v := 1) hx hb hr (fun t ht hW => ⟨⟨1, τ, rfl, Option.some.inj hf, z_at ht hH⟩, hS.F ht⟩) hS.2.2 dX6_fault_48
  · have hf := dz_t c4 hf
    refine lv_aload_n hx hb dX6_fault_7 rfl (lv_at hl 0 rfl) ?_
    obtain ⟨f27, hf27, hf⟩ := dz_bo hf
    obtain ⟨x28, hx28, hf⟩ := dz_bo hf
    refine va_get (C := RX7) (T := TX7) (N := 8) hx hb hts in_X7 hown hX.K (zrd_P hX hS hH (zob_o hf27)) 0 rfl rfl 0 (by decide) (hts _ q532) (fun _ hq => hq) (zvl_o hx28) dX6_fault_8 ?_
    refine lv_ldc2 (v := 100) hx hb hown (hts _ q232) dX6_fault_11 ?_
    refine W.lcmp hx hb dX6_fault_14 ?_
    refine lv_if_ge (tgt := 32) hx hb dX6_fault_15 (by decide) (fun c15 => ?_) (fun c15 => ?_)
    · have c15 : (100 : Int64) ≤ x28 := (lg_cmp_ge _ _).mp c15
      have hf := dz_t c15 hf
      refine lv_iconst (v := 1) hx hb dX6_fault_32 (by decide) ?_
      obtain ⟨hM1, hS1⟩ : cells = M ∧ slots = S := by have hq := congrArg Prod.snd (Option.some.inj hf); rw [← hq] at hM hS0; have hM : s.heap.size + M = τ.1 := hM; have hS0 : sl0 + S = τ.2.1 := hS0; omega
      refine W.widen (k := M) (n := S) (Nat.le_of_eq hM1) (Nat.le_of_eq hS1) ?_
      exact W.iret (v := 1) hx hb hr (fun t ht hW => ⟨⟨1, τ, rfl, Option.some.inj hf, z_at ht hH⟩, hS.F ht⟩) hS.2.2 dX6_fault_33
    · have c15 : ¬ (100 : Int64) ≤ x28 := fun hq => c15 ((lg_cmp_ge _ _).mpr hq)
      have hf := dz_f c15 hf
      refine lv_aload_n hx hb dX6_fault_18 rfl (lv_at hl 0 rfl) ?_
      obtain ⟨f29, hf29, hf⟩ := dz_bo hf
      obtain ⟨x30, hx30, hf⟩ := dz_bo hf
      refine va_get (C := RX7) (T := TX7) (N := 8) hx hb hts in_X7 hown hX.K (zrd_P hX hS hH (zob_o hf29)) 0 rfl rfl 0 (by decide) (hts _ q532) (fun _ hq => hq) (zvl_o hx30) dX6_fault_19 ?_
      obtain ⟨x31, hx31, hf⟩ := dz_bo hf
      refine va_calli (va_runSN (As := [.long x30]) (rest := []) ⟨hx, hb, hml, hown, hts⟩ (mtX0_isPrime l x30 K x31 hx31) ⟨va_cnB 1 hts (lw_meth q235) rfl rfl rfl (hX.N q233 rfl) (hts _ q84) (by decide +kernel) ⟨Nat.le_of_ble_eq_true rfl, Nat.le_of_ble_eq_true rfl⟩, hts _ q234, trivial⟩ ⟨fun a U g mk q => q, fun U hU hW => ⟨rfl, trivial⟩⟩ rfl rfl hl.1 rfl (lv_room (Nat.le_of_ble_eq_true rfl)) dX6_fault_22 ⟨hcM.1, hcM.2⟩) hS (fun q _ hq => hq.elim) (fun q hq => hq.elim) (fun r u t H1 locs ht hvm hw hB hz hk hS => dz_size (fun hz9 => ?_))
      replace hw := hw.symm; subst hw
      replace hH := zH_keep hH hcs hz hk hz9
      clear hB hk hz hvm ht hz9; generalize H1 = H at hH hS ⊢
      refine W.widen (k := cells) (n := slots) (Nat.le_refl _) (Nat.le_refl _) ?_
      refine lv_if_eq (tgt := 32) hx hb dX6_fault_25 (by decide) (fun c25 => ?_) (fun c25 => ?_)
      · have hf := dz_t c25 hf
        refine lv_iconst (v := 1) hx hb dX6_fault_32 (by decide) ?_
        obtain ⟨hM1, hS1⟩ : cells = M ∧ slots = S := by have hq := congrArg Prod.snd (Option.some.inj hf); rw [← hq] at hM hS0; have hM : s.heap.size + M = τ.1 := hM; have hS0 : sl0 + S = τ.2.1 := hS0; omega
        refine W.widen (k := M) (n := S) (Nat.le_of_eq hM1) (Nat.le_of_eq hS1) ?_
        exact W.iret (v := 1) hx hb hr (fun t ht hW => ⟨⟨1, τ, rfl, Option.some.inj hf, z_at ht hH⟩, hS.F ht⟩) hS.2.2 dX6_fault_33
      · have hf := dz_f c25 hf
        refine lv_iconst (v := 0) hx hb dX6_fault_28 (by decide) ?_
        refine lv_goto (tgt := 33) hx hb dX6_fault_29 (by decide) ?_
        obtain ⟨hM1, hS1⟩ : cells = M ∧ slots = S := by have hq := congrArg Prod.snd (Option.some.inj hf); rw [← hq] at hM hS0; have hM : s.heap.size + M = τ.1 := hM; have hS0 : sl0 + S = τ.2.1 := hS0; omega
        refine W.widen (k := M) (n := S) (Nat.le_of_eq hM1) (Nat.le_of_eq hS1) ?_
        exact W.iret (v := 0) hx hb hr (fun t ht hW => ⟨⟨0, τ, rfl, Option.some.inj hf, z_at ht hH⟩, hS.F ht⟩) hS.2.2 dX6_fault_33

noncomputable def fnX6_isOne_6 (K : Nat) (ζ : pZ) (h : Nat) (a0 : Nat) (τ : pH) : Option (Int32 × pH) := dz_b (zob ζ τ a0 11) fun f1 => dz_b (zvi (f1[2]?)) fun x2 => dz_b (zob ζ τ h 6) fun f3 => dz_b (zvl (f3[0]?)) fun x4 => dz_b (zob ζ τ h 6) fun f5 => dz_b (zvl (f5[0]?)) fun x6 => zcl τ (fnX0_powerOf K ζ (Int32.toInt64 x2) (x4 - 1) x6 τ) fun x7 s8 => if x7 = (1 : Int64) then (some (1, s8)) else (some (0, s8))
set_option maxHeartbeats 4000000 in
set_option maxRecDepth 100000 in
theorem mtX6_isOne_6 (l : Launch) (D : va_G) (cA : Nat → ClassId) (ζ : pZ) (τ : pH) (h : Nat) (a0 : Nat) (K : Nat) (res : (Int32 × pH)) (hf : fnX6_isOne_6 K ζ h a0 τ = some res) (M S : Nat) (hM : τ.1 + M = res.2.1) (hS0 : τ.2.1 + S = res.2.2.1) : Met l yX6_isOne (ws_ yX6_isOne cX6_isOne 2 (some .boolean)) ({ frames := 4, cells := M, slots := S, locals := 89 }) (zPc D cA ζ τ [.ref h, .ref a0]) (zQi D cA ζ res) M S (zA ζ) := by
  refine Met.ofW (cc := cX6_isOne) (maxL := 2) (ret := some .boolean) (by decide +kernel) rfl ?_
  intro p e s m args below meth c s₁ B hml hv
  obtain ⟨rfl, hX, hH⟩ := hv
  have hx := B.exec
  have hb := B.bytes
  have hr := B.returns
  have hts := atoms_spec (ws := ws_ yX6_isOne cX6_isOne 2 (some .boolean)) B.pre
  have hts : ∀ w ∈ lw_all, w.before _ s = true := fun w h => hts w (List.mem_cons_of_mem _ h)
  have hown : s.vm.findClass RX6 = some m.cls := findClass_of_methodNamed B.named
  have hlocks := B.notSynchronized
  have hM : s.heap.size + M = res.2.1 := by rw [hH.1]; exact hM
  have hcs : s.heap.size + 0 = τ.1 := hH.1
  have hss : τ.2.1 + 0 = τ.2.1 := rfl
  generalize hsl0 : τ.2.1 = sl0 at hS0 hss
  have hss : sl0 + 0 = τ.2.1 := by rw [hsl0]; rfl
  have hS : va_S (zA ζ) s.heap s.heap [] := va_S.rf
  generalize hHe : s.heap = H at hH hS ⊢
  have hS : va_S (zA ζ) s.heap H [] := by rw [hHe]; exact hS
  generalize ([] : List Loc) = locs at hS ⊢
  have hl := lv_entry ([.ref h, .ref a0]) (n := 2) (Nat.le_of_ble_eq_true rfl)
  rw [lg_entry_eq]
  generalize (lg_sl ([.ref h, .ref a0]) ++ List.replicate (2 - (lg_sl ([.ref h, .ref a0])).length) Slot.unset).toArray = ls at hl ⊢
  have hl : lv_has ls 2 [(0, .ref h), (1, .ref a0)] := hl
  have hf : (dz_b (zob ζ τ a0 11) fun f1 => dz_b (zvi (f1[2]?)) fun x2 => dz_b (zob ζ τ h 6) fun f3 => dz_b (zvl (f3[0]?)) fun x4 => dz_b (zob ζ τ h 6) fun f5 => dz_b (zvl (f5[0]?)) fun x6 => zcl τ (fnX0_powerOf K ζ (Int32.toInt64 x2) (x4 - 1) x6 τ) fun x7 s8 => if x7 = (1 : Int64) then (some (1, s8)) else (some (0, s8)) : Option (Int32 × pH)) = some res := hf
  refine z_gen (fun cells slots hc0 hs0 => ?_)
  have hcs : s.heap.size + cells = τ.1 := by rw [hc0]; exact hcs
  have hss : sl0 + slots = τ.2.1 := by rw [hs0]; exact hss
  have hcM : cells ≤ M ∧ slots ≤ S := by rw [hc0, hs0]; exact ⟨Nat.zero_le _, Nat.zero_le _⟩
  clear hc0 hs0
  refine lv_aload_n hx hb dX6_isOne_0 rfl (lv_at hl 1 rfl) ?_
  obtain ⟨f1, hf1, hf⟩ := dz_bo hf
  obtain ⟨x2, hx2, hf⟩ := dz_bo hf
  refine va_get (C := RX13) (T := TX13) (N := 3) hx hb hts in_X13 hown hX.K (zrd_P hX hS hH (zob_o hf1)) 0 rfl rfl 2 (by decide) (hts _ q692) (fun _ hq => hq) (zvi_o hx2) dX6_isOne_1 ?_
  refine lv_i2l hx hb dX6_isOne_4 (rfl : _ = Int32.toInt64 x2) ?_
  refine lv_aload_n hx hb dX6_isOne_5 rfl (lv_at hl 0 rfl) ?_
  obtain ⟨f3, hf3, hf⟩ := dz_bo hf
  obtain ⟨x4, hx4, hf⟩ := dz_bo hf
  refine va_get (C := RX9) (T := TX9) (N := 8) hx hb hts in_X9 hown hX.K (zrd_P hX hS hH (zob_o hf3)) 0 rfl rfl 0 (by decide) (hts _ q532) (fun _ hq => hq) (zvl_o hx4) dX6_isOne_6 ?_
  refine lv_lconst (v := 1) hx hb dX6_isOne_9 rfl ?_
  refine lv_lsub hx hb dX6_isOne_10 ?_
  refine lv_aload_n hx hb dX6_isOne_11 rfl (lv_at hl 0 rfl) ?_
  obtain ⟨f5, hf5, hf⟩ := dz_bo hf
  obtain ⟨x6, hx6, hf⟩ := dz_bo hf
  refine va_get (C := RX9) (T := TX9) (N := 8) hx hb hts in_X9 hown hX.K (zrd_P hX hS hH (zob_o hf5)) 0 rfl rfl 0 (by decide) (hts _ q532) (fun _ hq => hq) (zvl_o hx6) dX6_isOne_12 ?_
  obtain ⟨x7, s8, hx7, hle, hck, hf⟩ := zcl_o hf
  have hc1 : cells + (s8.1 - τ.1) ≤ M := by omega
  have hs1 : slots + (s8.2.1 - τ.2.1) ≤ S := by omega
  refine va_calll (va_runSN (As := [.long (Int32.toInt64 x2), .long (x4 - 1), .long x6]) (rest := []) ⟨hx, hb, hml, hown, hts⟩ (mtX0_powerOf l D cA ζ τ (Int32.toInt64 x2) (x4 - 1) x6 K (x7, s8) hx7 (s8.1 - τ.1) (s8.2.1 - τ.2.1) (Nat.add_sub_cancel' hle.1) (Nat.add_sub_cancel' hle.2)) ⟨va_cnB 3 hts (lw_meth q369) rfl rfl rfl (hX.N q367 rfl) (hts _ q84) (by decide +kernel) ⟨Nat.le_of_ble_eq_true rfl, Nat.le_of_ble_eq_true rfl⟩, hts _ q368, trivial⟩ (z_preS hX hS hH) rfl rfl hl.1 rfl (lv_room (Nat.le_of_ble_eq_true rfl)) dX6_isOne_15 ⟨hc1, hs1⟩) hS (fun q _ hq => hq) (fun q hq => hq) (fun r u t H1 locs ht hvm hw hB hz hk hS => ?_)
  obtain ⟨hw1, hw2⟩ := Prod.mk.inj hw.symm; subst hw1; subst hw2
  have hH : zH D cA ζ s8 H1 := z_at ht.symm hB
  have hcs : s.heap.size + (cells + (s8.1 - τ.1)) = s8.1 := by omega
  have hss : sl0 + (slots + (s8.2.1 - τ.2.1)) = s8.2.1 := by omega
  replace hcM := And.intro hc1 hs1
  generalize cells + (s8.1 - τ.1) = cells at hcs hcM ⊢; generalize slots + (s8.2.1 - τ.2.1) = slots at hss hcM ⊢
  clear hB hk hz hvm ht hle hck hc1 hs1; generalize H1 = H at hH hS ⊢
  refine lv_lconst (v := 1) hx hb dX6_isOne_18 rfl ?_
  refine W.lcmp hx hb dX6_isOne_19 ?_
  refine lv_if_ne (tgt := 27) hx hb dX6_isOne_20 (by decide) (fun c20 => ?_) (fun c20 => ?_)
  · have c20 : ¬ x7 = (1 : Int64) := fun hq => c20 ((lg_cmp_eq _ _).mpr hq)
    have hf := dz_f c20 hf
    refine lv_iconst (v := 0) hx hb dX6_isOne_27 (by decide) ?_
    obtain ⟨hM1, hS1⟩ : cells = M ∧ slots = S := by have hq := congrArg Prod.snd (Option.some.inj hf); rw [← hq] at hM hS0; have hM : s.heap.size + M = s8.1 := hM; have hS0 : sl0 + S = s8.2.1 := hS0; omega
    refine W.widen (k := M) (n := S) (Nat.le_of_eq hM1) (Nat.le_of_eq hS1) ?_
    exact W.zret (v := 0) hx hb hr rfl (fun t ht hW => ⟨⟨0, s8, rfl, Option.some.inj hf, z_at ht hH⟩, hS.F ht⟩) hS.2.2 dX6_isOne_28
  · have c20 : x7 = (1 : Int64) := (lg_cmp_eq _ _).mp c20
    have hf := dz_t c20 hf
    refine lv_iconst (v := 1) hx hb dX6_isOne_23 (by decide) ?_
    refine lv_goto (tgt := 28) hx hb dX6_isOne_24 (by decide) ?_
    obtain ⟨hM1, hS1⟩ : cells = M ∧ slots = S := by have hq := congrArg Prod.snd (Option.some.inj hf); rw [← hq] at hM hS0; have hM : s.heap.size + M = s8.1 := hM; have hS0 : sl0 + S = s8.2.1 := hS0; omega
    refine W.widen (k := M) (n := S) (Nat.le_of_eq hM1) (Nat.le_of_eq hS1) ?_
    exact W.zret (v := 1) hx hb hr rfl (fun t ht hW => ⟨⟨1, s8, rfl, Option.some.inj hf, z_at ht hH⟩, hS.F ht⟩) hS.2.2 dX6_isOne_28

noncomputable def lfX6_hasPair_6 (K : Nat) (ζ : pZ) : Nat → (pH → Option (Int32 × pH)) := Nat.rec (motive := fun _ => (pH → Option (Int32 × pH))) (fun _ => none) (fun _ G => (fun τ => some (1, τ)))
noncomputable def fnX6_hasPair_6 (K : Nat) (ζ : pZ) (h : Nat) (τ : pH) : Option (Int32 × pH) := dz_b (zob ζ τ h 6) fun f1 => dz_b (zvi (f1[1]?)) fun x2 => if x2 = (3 : Int32) then ((lfX6_hasPair_6 K ζ K) τ) else (dz_b (zob ζ τ h 6) fun f3 => dz_b (zvi (f3[1]?)) fun x4 => if x4 = (4 : Int32) then ((lfX6_hasPair_6 K ζ K) τ) else (some (0, τ)))
set_option maxHeartbeats 4000000 in
set_option maxRecDepth 100000 in
theorem wlX6_hasPair_6 {p : Program} {l : Launch} {e : Env} {s : State} {m : MethodId} {below : List Frame} {meth : Method} {c : Code} {D : va_G} {cA : Nat → ClassId} {ζ : pZ} (hX : zX D cA ζ s) (K : Nat) (res : (Int32 × pH)) (M S sl0 : Nat) (hM : s.heap.size + M = res.2.1) (hS0 : sl0 + S = res.2.2.1) (h : Nat) (hx : p.tables.exec = Jvm.exec) (hb : c.code = cX6_hasPair) (hr : meth.sig.returnType = some .boolean) (hlocks : meth.locks = false) (hml : c.maxLocals = 1) (hown : s.vm.findClass RX6 = some m.cls) (hts : ∀ w ∈ lw_all, w.before ([.ref h] : List Value).toArray s = true) : ∀ k : Nat, (∀  (τ : pH) (H : Heap) (locs : List Loc) (cells slots : Nat), zH D cA ζ τ H → va_S (zA ζ) s.heap H locs → s.heap.size + cells = τ.1 → sl0 + slots = τ.2.1 → cells ≤ M ∧ slots ≤ S → ∀ (ls : Array Slot), lv_has ls 1 [] → (lfX6_hasPair_6 K ζ k) τ = some res → W p l e (headSpec (ws_ yX6_hasPair cX6_hasPair 1 (some .boolean)) ({ frames := 0, cells := M, slots := S, locals := 0 })).room s m ([.ref h] : List Value).toArray below meth c H locs cells slots (MQ below (zQi D cA ζ res) ([.ref h] : List Value).toArray s M S (zA ζ)) (F0 m 16 ls [])) := by
  intro k
  induction k with
  | zero =>
    exact fun _ _ _ _ _ _ _ _ _ _ _ _ hf => (by cases hf)
  | succ k ih =>
    · intro τ H locs cells slots hH hS hcs hss hcM ls hl hf
      have hf : (some (1, τ) : Option (Int32 × pH)) = some res := hf
      refine lv_iconst (v := 1) hx hb dX6_hasPair_16 (by decide) ?_
      refine lv_goto (tgt := 21) hx hb dX6_hasPair_17 (by decide) ?_
      obtain ⟨hM1, hS1⟩ : cells = M ∧ slots = S := by have hq := congrArg Prod.snd (Option.some.inj hf); rw [← hq] at hM hS0; have hM : s.heap.size + M = τ.1 := hM; have hS0 : sl0 + S = τ.2.1 := hS0; omega
      refine W.widen (k := M) (n := S) (Nat.le_of_eq hM1) (Nat.le_of_eq hS1) ?_
      exact W.zret (v := 1) hx hb hr rfl (fun t ht hW => ⟨⟨1, τ, rfl, Option.some.inj hf, z_at ht hH⟩, hS.F ht⟩) hS.2.2 dX6_hasPair_21
set_option maxHeartbeats 4000000 in
set_option maxRecDepth 100000 in
theorem mtX6_hasPair_6 (l : Launch) (D : va_G) (cA : Nat → ClassId) (ζ : pZ) (τ : pH) (h : Nat) (K : Nat) (res : (Int32 × pH)) (hf : fnX6_hasPair_6 K ζ h τ = some res) (M S : Nat) (hM : τ.1 + M = res.2.1) (hS0 : τ.2.1 + S = res.2.2.1) : Met l yX6_hasPair (ws_ yX6_hasPair cX6_hasPair 1 (some .boolean)) ({ frames := 0, cells := M, slots := S, locals := 0 }) (zPc D cA ζ τ [.ref h]) (zQi D cA ζ res) M S (zA ζ) := by
  refine Met.ofW (cc := cX6_hasPair) (maxL := 1) (ret := some .boolean) (by decide +kernel) rfl ?_
  intro p e s m args below meth c s₁ B hml hv
  obtain ⟨rfl, hX, hH⟩ := hv
  have hx := B.exec
  have hb := B.bytes
  have hr := B.returns
  have hts := atoms_spec (ws := ws_ yX6_hasPair cX6_hasPair 1 (some .boolean)) B.pre
  have hts : ∀ w ∈ lw_all, w.before _ s = true := fun w h => hts w (List.mem_cons_of_mem _ h)
  have hown : s.vm.findClass RX6 = some m.cls := findClass_of_methodNamed B.named
  have hlocks := B.notSynchronized
  have hM : s.heap.size + M = res.2.1 := by rw [hH.1]; exact hM
  have hcs : s.heap.size + 0 = τ.1 := hH.1
  have hss : τ.2.1 + 0 = τ.2.1 := rfl
  generalize hsl0 : τ.2.1 = sl0 at hS0 hss
  have hss : sl0 + 0 = τ.2.1 := by rw [hsl0]; rfl
  have hS : va_S (zA ζ) s.heap s.heap [] := va_S.rf
  generalize hHe : s.heap = H at hH hS ⊢
  have hS : va_S (zA ζ) s.heap H [] := by rw [hHe]; exact hS
  generalize ([] : List Loc) = locs at hS ⊢
  have hl := lv_entry ([.ref h]) (n := 1) (Nat.le_of_ble_eq_true rfl)
  rw [lg_entry_eq]
  generalize (lg_sl ([.ref h]) ++ List.replicate (1 - (lg_sl ([.ref h])).length) Slot.unset).toArray = ls at hl ⊢
  have hl : lv_has ls 1 [(0, .ref h)] := hl
  have hf : (dz_b (zob ζ τ h 6) fun f1 => dz_b (zvi (f1[1]?)) fun x2 => if x2 = (3 : Int32) then ((lfX6_hasPair_6 K ζ K) τ) else (dz_b (zob ζ τ h 6) fun f3 => dz_b (zvi (f3[1]?)) fun x4 => if x4 = (4 : Int32) then ((lfX6_hasPair_6 K ζ K) τ) else (some (0, τ))) : Option (Int32 × pH)) = some res := hf
  refine z_gen (fun cells slots hc0 hs0 => ?_)
  have hcs : s.heap.size + cells = τ.1 := by rw [hc0]; exact hcs
  have hss : sl0 + slots = τ.2.1 := by rw [hs0]; exact hss
  have hcM : cells ≤ M ∧ slots ≤ S := by rw [hc0, hs0]; exact ⟨Nat.zero_le _, Nat.zero_le _⟩
  clear hc0 hs0
  have ih := wlX6_hasPair_6 (l := l) (e := e) (below := below) (D := D) (cA := cA) hX K res M S sl0 hM hS0 h hx hb hr hlocks hml hown hts K
  refine lv_aload_n hx hb dX6_hasPair_0 rfl (lv_at hl 0 rfl) ?_
  obtain ⟨f1, hf1, hf⟩ := dz_bo hf
  obtain ⟨x2, hx2, hf⟩ := dz_bo hf
  refine va_get (C := RX9) (T := TX9) (N := 8) hx hb hts in_X9 hown hX.K (zrd_P hX hS hH (zob_o hf1)) 0 rfl rfl 1 (by decide) (hts _ q542) (fun _ hq => hq) (zvi_o hx2) dX6_hasPair_1 ?_
  refine lv_iconst (v := 3) hx hb dX6_hasPair_4 (by decide) ?_
  refine lv_icmp_eq (tgt := 16) hx hb dX6_hasPair_5 (by decide) (fun c5 => ?_) (fun c5 => ?_)
  · have hf := dz_t c5 hf
    exact ih τ H locs cells slots hH hS hcs hss hcM ls (lv_sub hl [] rfl) hf
  · have hf := dz_f c5 hf
    refine lv_aload_n hx hb dX6_hasPair_8 rfl (lv_at hl 0 rfl) ?_
    obtain ⟨f3, hf3, hf⟩ := dz_bo hf
    obtain ⟨x4, hx4, hf⟩ := dz_bo hf
    refine va_get (C := RX9) (T := TX9) (N := 8) hx hb hts in_X9 hown hX.K (zrd_P hX hS hH (zob_o hf3)) 0 rfl rfl 1 (by decide) (hts _ q542) (fun _ hq => hq) (zvi_o hx4) dX6_hasPair_9 ?_
    refine lv_iconst (v := 4) hx hb dX6_hasPair_12 (by decide) ?_
    refine lv_icmp_ne (tgt := 20) hx hb dX6_hasPair_13 (by decide) (fun c13 => ?_) (fun c13 => ?_)
    · have hf := dz_f c13 hf
      refine lv_iconst (v := 0) hx hb dX6_hasPair_20 (by decide) ?_
      obtain ⟨hM1, hS1⟩ : cells = M ∧ slots = S := by have hq := congrArg Prod.snd (Option.some.inj hf); rw [← hq] at hM hS0; have hM : s.heap.size + M = τ.1 := hM; have hS0 : sl0 + S = τ.2.1 := hS0; omega
      refine W.widen (k := M) (n := S) (Nat.le_of_eq hM1) (Nat.le_of_eq hS1) ?_
      exact W.zret (v := 0) hx hb hr rfl (fun t ht hW => ⟨⟨0, τ, rfl, Option.some.inj hf, z_at ht hH⟩, hS.F ht⟩) hS.2.2 dX6_hasPair_21
    · have hf := dz_t c13 hf
      exact ih τ H locs cells slots hH hS hcs hss hcM ls (lv_sub hl [] rfl) hf

