noncomputable def fnX0_row (K : Nat) (ζ : pZ) (h : Nat) (a0 : Int32) (a1 : Int32) (a2 : Int32) (a3 : Int32) (τ : pH) : Option (Int32 × pH) := dz_b (zob ζ τ h 0) fun f3 => zcl τ (fnX0_rowOf K ζ h a0 a1 a2 τ) fun x1 s2 => dz_o x1 (fun y4 => if a3 = (0 : Int32) then (dz_b (zob ζ s2 y4 11) fun f5 => dz_b (zvl (f5[0]?)) fun x6 => dz_l (Int64.toInt32 x6) fun x7 => some (x7, s2)) else (if a3 = (1 : Int32) then (dz_b (zob ζ s2 y4 11) fun f8 => dz_b (zvi (f8[1]?)) fun x9 => some (x9, s2)) else (if a3 = (2 : Int32) then (dz_b (zob ζ s2 y4 11) fun f10 => dz_b (zvi (f10[2]?)) fun x11 => some (x11, s2)) else (if a3 = (3 : Int32) then (dz_b (zob ζ s2 y4 11) fun f12 => dz_b (zvl (f12[0]?)) fun x13 => dz_b (zob ζ s2 h 0) fun f16 => zcl s2 (fnX0_restOn K ζ h x13 a0 s2) fun x14 s15 => some (x14, s15)) else (some ((-1), s2)))))) (some ((-1), s2))
set_option maxHeartbeats 4000000 in
set_option maxRecDepth 100000 in
theorem mtX0_row (l : Launch) (D : va_G) (cA : Nat → ClassId) (ζ : pZ) (τ : pH) (h : Nat) (a0 : Int32) (a1 : Int32) (a2 : Int32) (a3 : Int32) (K : Nat) (res : (Int32 × pH)) (hf : fnX0_row K ζ h a0 a1 a2 a3 τ = some res) (M S : Nat) (hM : τ.1 + M = res.2.1) (hS0 : τ.2.1 + S = res.2.2.1) : Met l yX0_row (ws_ yX0_row cX0_row 6 (some .int)) ({ frames := 105, cells := M, slots := S, locals := 2419 }) (zPc D cA ζ τ [.ref h, .int a0, .int a1, .int a2, .int a3]) (zQi D cA ζ res) M S (zA ζ) := by
  refine Met.ofW (cc := cX0_row) (maxL := 6) (ret := some .int) (by decide +kernel) rfl ?_
  intro p e s m args below meth c s₁ B hml hv
  obtain ⟨rfl, hX, hH⟩ := hv
  have hx := B.exec
  have hb := B.bytes
  have hr := B.returns
  have hts := atoms_spec (ws := ws_ yX0_row cX0_row 6 (some .int)) B.pre
  have hts : ∀ w ∈ lw_all, w.before _ s = true := fun w h => hts w (List.mem_cons_of_mem _ h)
  have hown : s.vm.findClass RX0 = some m.cls := findClass_of_methodNamed B.named
  have hlocks := B.notSynchronized
  have hM : s.heap.size + M = res.2.1 := by rw [hH.1]; exact hM
  have hcs : s.heap.size + 0 = τ.1 := hH.1
  have hss : τ.2.1 + 0 = τ.2.1 := rfl
  generalize hsl0 : τ.2.1 = sl0 at hS0 hss
  have hss : sl0 + 0 = τ.2.1 := by rw [hsl0]; rfl
  have hS : va_S (zA ζ) s.heap s.heap [] := va_S.rf
  generalize hHe : s.heap = H at hH hS ⊢
  have hS : va_S (zA ζ) s.heap H [] := by rw [hHe]; exact hS
  generalize ([] : List Loc) = locs at hS ⊢
  have hl := lv_entry ([.ref h, .int a0, .int a1, .int a2, .int a3]) (n := 6) (Nat.le_of_ble_eq_true rfl)
  rw [lg_entry_eq]
  generalize (lg_sl ([.ref h, .int a0, .int a1, .int a2, .int a3]) ++ List.replicate (6 - (lg_sl ([.ref h, .int a0, .int a1, .int a2, .int a3])).length) Slot.unset).toArray = ls at hl ⊢
  have hl : lv_has ls 6 [(0, .ref h), (1, .int a0), (2, .int a1), (3, .int a2), (4, .int a3)] := hl
  have hf : (dz_b (zob ζ τ h 0) fun f3 => zcl τ (fnX0_rowOf K ζ h a0 a1 a2 τ) fun x1 s2 => dz_o x1 (fun y4 => if a3 = (0 : Int32) then (dz_b (zob ζ s2 y4 11) fun f5 => dz_b (zvl (f5[0]?)) fun x6 => dz_l (Int64.toInt32 x6) fun x7 => some (x7, s2)) else (if a3 = (1 : Int32) then (dz_b (zob ζ s2 y4 11) fun f8 => dz_b (zvi (f8[1]?)) fun x9 => some (x9, s2)) else (if a3 = (2 : Int32) then (dz_b (zob ζ s2 y4 11) fun f10 => dz_b (zvi (f10[2]?)) fun x11 => some (x11, s2)) else (if a3 = (3 : Int32) then (dz_b (zob ζ s2 y4 11) fun f12 => dz_b (zvl (f12[0]?)) fun x13 => dz_b (zob ζ s2 h 0) fun f16 => zcl s2 (fnX0_restOn K ζ h x13 a0 s2) fun x14 s15 => some (x14, s15)) else (some ((-1), s2)))))) (some ((-1), s2)) : Option (Int32 × pH)) = some res := hf
  refine z_gen (fun cells slots hc0 hs0 => ?_)
  have hcs : s.heap.size + cells = τ.1 := by rw [hc0]; exact hcs
  have hss : sl0 + slots = τ.2.1 := by rw [hs0]; exact hss
  have hcM : cells ≤ M ∧ slots ≤ S := by rw [hc0, hs0]; exact ⟨Nat.zero_le _, Nat.zero_le _⟩
  clear hc0 hs0
  refine lv_aload_n hx hb dX0_row_0 rfl (lv_at hl 0 rfl) ?_
  refine lv_iload_n hx hb dX0_row_1 rfl (lv_at hl 1 rfl) ?_
  refine lv_iload_n hx hb dX0_row_2 rfl (lv_at hl 2 rfl) ?_
  refine lv_iload_n hx hb dX0_row_3 rfl (lv_at hl 3 rfl) ?_
  obtain ⟨f3, hf3, hf⟩ := dz_bo hf
  obtain ⟨x1, s2, hx1, hle, hck, hf⟩ := zcl_o hf
  have hc1 : cells + (s2.1 - τ.1) ≤ M := by omega
  have hs1 : slots + (s2.2.1 - τ.2.1) ≤ S := by omega
  refine va_callq (va_runV (As := [.int a0, .int a1, .int a2]) (rest := []) ⟨hx, hb, hml, hown, hts⟩ (mtX0_rowOf l D cA ζ τ h a0 a1 a2 K (x1, s2) hx1 (s2.1 - τ.1) (s2.2.1 - τ.2.1) (Nat.add_sub_cancel' hle.1) (Nat.add_sub_cancel' hle.2)) (cwV 3 hts (lw_V q1359 q1361 qs29 q84 q1362) rfl rfl rfl (by decide +kernel) ⟨Nat.le_of_ble_eq_true rfl, Nat.le_of_ble_eq_true rfl⟩) (z_preV hX hS hH (zob_o hf3) rfl) rfl rfl hl.1 rfl (lv_room (Nat.le_of_ble_eq_true rfl)) dX0_row_4 ⟨hc1, hs1⟩) hS (fun q _ hq => hq) (fun q hq => hq) (fun r u t H1 locs ht hvm hw hB hz hk hS => ?_)
  obtain ⟨hw1, hw2⟩ := Prod.mk.inj hw.symm; subst hw1; subst hw2
  have hH : zH D cA ζ s2 H1 := z_at ht.symm hB
  have hcs : s.heap.size + (cells + (s2.1 - τ.1)) = s2.1 := by omega
  have hss : sl0 + (slots + (s2.2.1 - τ.2.1)) = s2.2.1 := by omega
  replace hcM := And.intro hc1 hs1
  generalize cells + (s2.1 - τ.1) = cells at hcs hcM ⊢; generalize slots + (s2.2.1 - τ.2.1) = slots at hss hcM ⊢
  clear hB hk hz hvm ht hle hck hc1 hs1; generalize H1 = H at hH hS ⊢
  refine dz_oc hf (fun y4 hq hf => ?_) (fun hq hf => ?_)
  · subst hq
    refine W.eq (g2 := F0 m 7 ls [.ref y4]) rfl ?_
    refine lv_astore (lv' := [(5, .ref y4), (0, .ref h), (1, .int a0), (2, .int a1), (3, .int a2), (4, .int a3)]) hx hb dX0_row_7 hl (by decide) rfl (fun ls hl => ?_)
    refine lv_aload hx hb dX0_row_9 (lv_at hl 0 rfl) ?_
    refine lv_ifnonnull (tgt := 16) hx hb dX0_row_11 (by decide) ?_
    refine lv_iload hx hb dX0_row_16 (lv_at hl 5 rfl) ?_
    refine dz_case hf (fun t18_0 hf => ?_) (fun t18_0 hf => ?_)
    · refine lv_tableIn (off := 30) (tgt := 48) hx hb dX0_row_18 (by rw [t18_0]; decide) (by rw [t18_0]; decide) (by rw [t18_0]; rfl) (by decide) ?_
      refine lv_aload hx hb dX0_row_48 (lv_at hl 0 rfl) ?_
      obtain ⟨f5, hf5, hf⟩ := dz_bo hf
      obtain ⟨x6, hx6, hf⟩ := dz_bo hf
      refine va_get (C := RX13) (T := TX13) (N := 3) hx hb hts in_X13 hown hX.K (zrd_P hX hS hH (zob_o hf5)) 0 rfl rfl 0 (by decide) (hts _ q686) (fun _ hq => hq) (zvl_o hx6) dX0_row_50 ?_
      refine lv_l2i hx hb dX0_row_53 (rfl : _ = Int64.toInt32 x6) ?_
      refine lv_topi (fun x7 e_x7 => ?_)
      have hf := dz_ls e_x7 hf
      obtain ⟨hM1, hS1⟩ : cells = M ∧ slots = S := by have hq := congrArg Prod.snd (Option.some.inj hf); rw [← hq] at hM hS0; have hM : s.heap.size + M = s2.1 := hM; have hS0 : sl0 + S = s2.2.1 := hS0; omega
      refine W.widen (k := M) (n := S) (Nat.le_of_eq hM1) (Nat.le_of_eq hS1) ?_
      exact W.iret (v := x7) hx hb hr (fun t ht hW => ⟨⟨x7, s2, rfl, Option.some.inj hf, z_at ht hH⟩, hS.F ht⟩) hS.2.2 dX0_row_54
    · skip
      refine dz_case hf (fun t18_1 hf => ?_) (fun t18_1 hf => ?_)
      · refine lv_tableIn (off := 37) (tgt := 55) hx hb dX0_row_18 (by rw [t18_1]; decide) (by rw [t18_1]; decide) (by rw [t18_1]; rfl) (by decide) ?_
        refine lv_aload hx hb dX0_row_55 (lv_at hl 0 rfl) ?_
        obtain ⟨f8, hf8, hf⟩ := dz_bo hf
        obtain ⟨x9, hx9, hf⟩ := dz_bo hf
        refine va_get (C := RX13) (T := TX13) (N := 3) hx hb hts in_X13 hown hX.K (zrd_P hX hS hH (zob_o hf8)) 0 rfl rfl 1 (by decide) (hts _ q689) (fun _ hq => hq) (zvi_o hx9) dX0_row_57 ?_
        obtain ⟨hM1, hS1⟩ : cells = M ∧ slots = S := by have hq := congrArg Prod.snd (Option.some.inj hf); rw [← hq] at hM hS0; have hM : s.heap.size + M = s2.1 := hM; have hS0 : sl0 + S = s2.2.1 := hS0; omega
        refine W.widen (k := M) (n := S) (Nat.le_of_eq hM1) (Nat.le_of_eq hS1) ?_
        exact W.iret (v := x9) hx hb hr (fun t ht hW => ⟨⟨x9, s2, rfl, Option.some.inj hf, z_at ht hH⟩, hS.F ht⟩) hS.2.2 dX0_row_60
      · skip
        refine dz_case hf (fun t18_2 hf => ?_) (fun t18_2 hf => ?_)
        · refine lv_tableIn (off := 43) (tgt := 61) hx hb dX0_row_18 (by rw [t18_2]; decide) (by rw [t18_2]; decide) (by rw [t18_2]; rfl) (by decide) ?_
          refine lv_aload hx hb dX0_row_61 (lv_at hl 0 rfl) ?_
          obtain ⟨f10, hf10, hf⟩ := dz_bo hf
          obtain ⟨x11, hx11, hf⟩ := dz_bo hf
          refine va_get (C := RX13) (T := TX13) (N := 3) hx hb hts in_X13 hown hX.K (zrd_P hX hS hH (zob_o hf10)) 0 rfl rfl 2 (by decide) (hts _ q693) (fun _ hq => hq) (zvi_o hx11) dX0_row_63 ?_
          obtain ⟨hM1, hS1⟩ : cells = M ∧ slots = S := by have hq := congrArg Prod.snd (Option.some.inj hf); rw [← hq] at hM hS0; have hM : s.heap.size + M = s2.1 := hM; have hS0 : sl0 + S = s2.2.1 := hS0; omega
          refine W.widen (k := M) (n := S) (Nat.le_of_eq hM1) (Nat.le_of_eq hS1) ?_
          exact W.iret (v := x11) hx hb hr (fun t ht hW => ⟨⟨x11, s2, rfl, Option.some.inj hf, z_at ht hH⟩, hS.F ht⟩) hS.2.2 dX0_row_66
        · skip
          refine dz_case hf (fun t18_3 hf => ?_) (fun t18_3 hf => ?_)
          · refine lv_tableIn (off := 49) (tgt := 67) hx hb dX0_row_18 (by rw [t18_3]; decide) (by rw [t18_3]; decide) (by rw [t18_3]; rfl) (by decide) ?_
            refine lv_aload_n hx hb dX0_row_67 rfl (lv_at hl 1 rfl) ?_
            refine lv_aload hx hb dX0_row_68 (lv_at hl 0 rfl) ?_
            obtain ⟨f12, hf12, hf⟩ := dz_bo hf
            obtain ⟨x13, hx13, hf⟩ := dz_bo hf
            refine va_get (C := RX13) (T := TX13) (N := 3) hx hb hts in_X13 hown hX.K (zrd_P hX hS hH (zob_o hf12)) 0 rfl rfl 0 (by decide) (hts _ q686) (fun _ hq => hq) (zvl_o hx13) dX0_row_70 ?_
            refine lv_iload_n hx hb dX0_row_73 rfl (lv_at hl 2 rfl) ?_
            obtain ⟨f16, hf16, hf⟩ := dz_bo hf
            obtain ⟨x14, s15, hx14, hle, hck, hf⟩ := zcl_o hf
            have hc1 : cells + (s15.1 - s2.1) ≤ M := by omega
            have hs1 : slots + (s15.2.1 - s2.2.1) ≤ S := by omega
            refine va_calli (va_runV (As := [.long x13, .int a0]) (rest := []) ⟨hx, hb, hml, hown, hts⟩ (mtX0_restOn l D cA ζ s2 h x13 a0 K (x14, s15) hx14 (s15.1 - s2.1) (s15.2.1 - s2.2.1) (Nat.add_sub_cancel' hle.1) (Nat.add_sub_cancel' hle.2)) (cwV 2 hts (lw_V q789 q303 qs2 q84 q304) rfl rfl rfl (by decide +kernel) ⟨Nat.le_of_ble_eq_true rfl, Nat.le_of_ble_eq_true rfl⟩) (z_preV hX hS hH (zob_o hf16) rfl) rfl rfl hl.1 rfl (lv_room (Nat.le_of_ble_eq_true rfl)) dX0_row_74 ⟨hc1, hs1⟩) hS (fun q _ hq => hq) (fun q hq => hq) (fun r u t H1 locs ht hvm hw hB hz hk hS => ?_)
            obtain ⟨hw1, hw2⟩ := Prod.mk.inj hw.symm; subst hw1; subst hw2
            have hH : zH D cA ζ s15 H1 := z_at ht.symm hB
            have hcs : s.heap.size + (cells + (s15.1 - s2.1)) = s15.1 := by omega
            have hss : sl0 + (slots + (s15.2.1 - s2.2.1)) = s15.2.1 := by omega
            replace hcM := And.intro hc1 hs1
            generalize cells + (s15.1 - s2.1) = cells at hcs hcM ⊢; generalize slots + (s15.2.1 - s2.2.1) = slots at hss hcM ⊢
            clear hB hk hz hvm ht hle hck hc1 hs1; generalize H1 = H at hH hS ⊢
            obtain ⟨hM1, hS1⟩ : cells = M ∧ slots = S := by have hq := congrArg Prod.snd (Option.some.inj hf); rw [← hq] at hM hS0; have hM : s.heap.size + M = s15.1 := hM; have hS0 : sl0 + S = s15.2.1 := hS0; omega
            refine W.widen (k := M) (n := S) (Nat.le_of_eq hM1) (Nat.le_of_eq hS1) ?_
            exact W.iret (v := x14) hx hb hr (fun t ht hW => ⟨⟨x14, s15, rfl, Option.some.inj hf, z_at ht hH⟩, hS.F ht⟩) hS.2.2 dX0_row_77
          · skip
            have u18_0 := dz_ne (z := 0) t18_0 (by decide)
            have u18_1 := dz_ne (z := 1) t18_1 (by decide)
            have u18_2 := dz_ne (z := 2) t18_2 (by decide)
            have u18_3 := dz_ne (z := 3) t18_3 (by decide)
            refine lv_tableOut (tgt := 78) hx hb dX0_row_18 (by omega) (by decide) ?_
            refine lv_iconst (v := (-1)) hx hb dX0_row_78 (by decide) ?_
            obtain ⟨hM1, hS1⟩ : cells = M ∧ slots = S := by have hq := congrArg Prod.snd (Option.some.inj hf); rw [← hq] at hM hS0; have hM : s.heap.size + M = s2.1 := hM; have hS0 : sl0 + S = s2.2.1 := hS0; omega
            refine W.widen (k := M) (n := S) (Nat.le_of_eq hM1) (Nat.le_of_eq hS1) ?_
            exact W.iret (v := (-1)) hx hb hr (fun t ht hW => ⟨⟨(-1), s2, rfl, Option.some.inj hf, z_at ht hH⟩, hS.F ht⟩) hS.2.2 dX0_row_79
  · subst hq
    refine W.eq (g2 := F0 m 7 ls [.null]) rfl ?_
    refine lv_astoreN (lv' := [(5, .null), (0, .ref h), (1, .int a0), (2, .int a1), (3, .int a2), (4, .int a3)]) hx hb dX0_row_7 hl (by decide) rfl (fun ls hl => ?_)
    refine lv_aloadN hx hb dX0_row_9 (lv_at hl 0 rfl) ?_
    refine lv_ifnonnullN hx hb dX0_row_11 ?_
    refine lv_iconst (v := (-1)) hx hb dX0_row_14 (by decide) ?_
    obtain ⟨hM1, hS1⟩ : cells = M ∧ slots = S := by have hq := congrArg Prod.snd (Option.some.inj hf); rw [← hq] at hM hS0; have hM : s.heap.size + M = s2.1 := hM; have hS0 : sl0 + S = s2.2.1 := hS0; omega
    refine W.widen (k := M) (n := S) (Nat.le_of_eq hM1) (Nat.le_of_eq hS1) ?_
    exact W.iret (v := (-1)) hx hb hr (fun t ht hW => ⟨⟨(-1), s2, rfl, Option.some.inj hf, z_at ht hH⟩, hS.F ht⟩) hS.2.2 dX0_row_15

noncomputable def lfX0_right (K : Nat) (ζ : pZ) : Nat → (Nat → Int64 → Int32 → pH → Option (Int64 × pH)) := Nat.rec (motive := fun _ => (Nat → Int64 → Int32 → pH → Option (Int64 × pH))) (fun _ _ _ _ => none) (fun _ G => (fun v0 v1 v3 τ => dz_b (zob ζ τ v0 0) fun f1 => dz_b (zvr (f1[0]?)) fun x2 => dz_b (zob ζ τ x2 14) fun f5 => zcl τ (fnJ2_size K ζ x2 τ) fun x3 s4 => if x3 ≤ v3 then (some (v1, s4)) else (dz_b (zob ζ s4 v0 0) fun f8 => zcl s4 (fnX0_isRight K ζ v0 v3 s4) fun x6 s7 => if x6 = (0 : Int32) then (dz_l (v1 ||| 0) fun x9 => dz_l (v3 + 1) fun x10 => G v0 x9 x10 s7) else (dz_l (v1 ||| ((1 : Int64) <<< (Int32.toInt64 v3 &&& 63))) fun x11 => dz_l (v3 + 1) fun x12 => G v0 x11 x12 s7))))
noncomputable def fnX0_right (K : Nat) (ζ : pZ) (h : Nat) (τ : pH) : Option (Int64 × pH) := (lfX0_right K ζ K) h 0 0 τ
set_option maxHeartbeats 4000000 in
set_option maxRecDepth 100000 in
theorem wlX0_right {p : Program} {l : Launch} {e : Env} {s : State} {m : MethodId} {below : List Frame} {meth : Method} {c : Code} {D : va_G} {cA : Nat → ClassId} {ζ : pZ} (hX : zX D cA ζ s) (K : Nat) (res : (Int64 × pH)) (M S sl0 : Nat) (hM : s.heap.size + M = res.2.1) (hS0 : sl0 + S = res.2.2.1) (h : Nat) (hx : p.tables.exec = Jvm.exec) (hb : c.code = cX0_right) (hr : meth.sig.returnType = some .long) (hlocks : meth.locks = false) (hml : c.maxLocals = 4) (hown : s.vm.findClass RX0 = some m.cls) (hts : ∀ w ∈ lw_all, w.before ([.ref h] : List Value).toArray s = true) : ∀ k : Nat, (∀ (v0 : Nat) (v1 : Int64) (v3 : Int32) (τ : pH) (H : Heap) (locs : List Loc) (cells slots : Nat), zH D cA ζ τ H → va_S (zA ζ) s.heap H locs → s.heap.size + cells = τ.1 → sl0 + slots = τ.2.1 → cells ≤ M ∧ slots ≤ S → ∀ (ls : Array Slot), lv_has ls 4 [(0, .ref v0), (1, .long v1), (3, .int v3)] → (lfX0_right K ζ k) v0 v1 v3 τ = some res → W p l e (headSpec (ws_ yX0_right cX0_right 4 (some .long)) ({ frames := 104, cells := M, slots := S, locals := 2395 })).room s m ([.ref h] : List Value).toArray below meth c H locs cells slots (MQ below (zQl D cA ζ res) ([.ref h] : List Value).toArray s M S (zA ζ)) (F0 m 4 ls [])) := by
  intro k
  induction k with
  | zero =>
    exact fun _ _ _ _ _ _ _ _ _ _ _ _ _ _ _ hf => (by cases hf)
  | succ k ih =>
    · intro v0 v1 v3 τ H locs cells slots hH hS hcs hss hcM ls hl hf
      have hf : (dz_b (zob ζ τ v0 0) fun f1 => dz_b (zvr (f1[0]?)) fun x2 => dz_b (zob ζ τ x2 14) fun f5 => zcl τ (fnJ2_size K ζ x2 τ) fun x3 s4 => if x3 ≤ v3 then (some (v1, s4)) else (dz_b (zob ζ s4 v0 0) fun f8 => zcl s4 (fnX0_isRight K ζ v0 v3 s4) fun x6 s7 => if x6 = (0 : Int32) then (dz_l (v1 ||| 0) fun x9 => dz_l (v3 + 1) fun x10 => (lfX0_right K ζ k) v0 x9 x10 s7) else (dz_l (v1 ||| ((1 : Int64) <<< (Int32.toInt64 v3 &&& 63))) fun x11 => dz_l (v3 + 1) fun x12 => (lfX0_right K ζ k) v0 x11 x12 s7)) : Option (Int64 × pH)) = some res := hf
      refine lv_iload_n hx hb dX0_right_4 rfl (lv_at hl 2 rfl) ?_
      refine lv_aload_n hx hb dX0_right_5 rfl (lv_at hl 0 rfl) ?_
      obtain ⟨f1, hf1, hf⟩ := dz_bo hf
      obtain ⟨x2, hx2, hf⟩ := dz_bo hf
      refine va_get (C := RX0) (T := TX0) (N := 7) hx hb hts in_X0 hown hX.K (zrd_P hX hS hH (zob_o hf1)) 0 rfl rfl 0 (by decide) (hts _ q156) (fun _ hq => hq) (zvr_o hx2) dX0_right_6 ?_
      obtain ⟨f5, hf5, hf⟩ := dz_bo hf
      obtain ⟨x3, s4, hx3, hle, hck, hf⟩ := zcl_o hf
      have hc1 : cells + (s4.1 - τ.1) ≤ M := by omega
      have hs1 : slots + (s4.2.1 - τ.2.1) ≤ S := by omega
      refine va_calli (va_runV (As := []) (rest := [.int v3]) ⟨hx, hb, hml, hown, hts⟩ (mtJ2_size l D cA ζ τ x2 K (x3, s4) hx3 (s4.1 - τ.1) (s4.2.1 - τ.2.1) (Nat.add_sub_cancel' hle.1) (Nat.add_sub_cancel' hle.2)) (cwV 0 hts (lw_V q200 q201 q202 q87 q203) rfl rfl rfl (by decide +kernel) ⟨Nat.le_of_ble_eq_true rfl, Nat.le_of_ble_eq_true rfl⟩) (z_preV hX hS hH (zob_o hf5) rfl) rfl rfl hl.1 rfl (lv_room (Nat.le_of_ble_eq_true rfl)) dX0_right_9 ⟨hc1, hs1⟩) hS (fun q _ hq => hq) (fun q hq => hq) (fun r u t H1 locs ht hvm hw hB hz hk hS => ?_)
      obtain ⟨hw1, hw2⟩ := Prod.mk.inj hw.symm; subst hw1; subst hw2
      have hH : zH D cA ζ s4 H1 := z_at ht.symm hB
      have hcs : s.heap.size + (cells + (s4.1 - τ.1)) = s4.1 := by omega
      have hss : sl0 + (slots + (s4.2.1 - τ.2.1)) = s4.2.1 := by omega
      replace hcM := And.intro hc1 hs1
      generalize cells + (s4.1 - τ.1) = cells at hcs hcM ⊢; generalize slots + (s4.2.1 - τ.2.1) = slots at hss hcM ⊢
      clear hB hk hz hvm ht hle hck hc1 hs1; generalize H1 = H at hH hS ⊢
      refine lv_icmp_ge (tgt := 39) hx hb dX0_right_12 (by decide) (fun c12 => ?_) (fun c12 => ?_)
      · have hf := dz_t c12 hf
        refine lv_lload_n hx hb dX0_right_39 rfl (lv_at hl 1 rfl) ?_
        obtain ⟨hM1, hS1⟩ : cells = M ∧ slots = S := by have hq := congrArg Prod.snd (Option.some.inj hf); rw [← hq] at hM hS0; have hM : s.heap.size + M = s4.1 := hM; have hS0 : sl0 + S = s4.2.1 := hS0; omega
        refine W.widen (k := M) (n := S) (Nat.le_of_eq hM1) (Nat.le_of_eq hS1) ?_
        exact W.lret (v := v1) hx hb hr (fun t ht hW => ⟨⟨v1, s4, rfl, Option.some.inj hf, z_at ht hH⟩, hS.F ht⟩) hS.2.2 dX0_right_40
      · have hf := dz_f c12 hf
        refine lv_lload_n hx hb dX0_right_15 rfl (lv_at hl 1 rfl) ?_
        refine lv_aload_n hx hb dX0_right_16 rfl (lv_at hl 0 rfl) ?_
        refine lv_iload_n hx hb dX0_right_17 rfl (lv_at hl 2 rfl) ?_
        obtain ⟨f8, hf8, hf⟩ := dz_bo hf
        obtain ⟨x6, s7, hx6, hle, hck, hf⟩ := zcl_o hf
        have hc1 : cells + (s7.1 - s4.1) ≤ M := by omega
        have hs1 : slots + (s7.2.1 - s4.2.1) ≤ S := by omega
        refine va_calli (va_runV (As := [.int v3]) (rest := [.long v1]) ⟨hx, hb, hml, hown, hts⟩ (mtX0_isRight l D cA ζ s4 v0 v3 K (x6, s7) hx6 (s7.1 - s4.1) (s7.2.1 - s4.2.1) (Nat.add_sub_cancel' hle.1) (Nat.add_sub_cancel' hle.2)) (cwV 1 hts (lw_V q219 q221 qs1 q84 q222) rfl rfl rfl (by decide +kernel) ⟨Nat.le_of_ble_eq_true rfl, Nat.le_of_ble_eq_true rfl⟩) (z_preV hX hS hH (zob_o hf8) rfl) rfl rfl hl.1 rfl (lv_room (Nat.le_of_ble_eq_true rfl)) dX0_right_18 ⟨hc1, hs1⟩) hS (fun q _ hq => hq) (fun q hq => hq) (fun r u t H1 locs ht hvm hw hB hz hk hS => ?_)
        obtain ⟨hw1, hw2⟩ := Prod.mk.inj hw.symm; subst hw1; subst hw2
        have hH : zH D cA ζ s7 H1 := z_at ht.symm hB
        have hcs : s.heap.size + (cells + (s7.1 - s4.1)) = s7.1 := by omega
        have hss : sl0 + (slots + (s7.2.1 - s4.2.1)) = s7.2.1 := by omega
        replace hcM := And.intro hc1 hs1
        generalize cells + (s7.1 - s4.1) = cells at hcs hcM ⊢; generalize slots + (s7.2.1 - s4.2.1) = slots at hss hcM ⊢
        clear hB hk hz hvm ht hle hck hc1 hs1; generalize H1 = H at hH hS ⊢
        refine lv_if_eq (tgt := 30) hx hb dX0_right_21 (by decide) (fun c21 => ?_) (fun c21 => ?_)
        · have hf := dz_t c21 hf
          refine lv_lconst (v := 0) hx hb dX0_right_30 rfl ?_
          refine lv_lor hx hb dX0_right_31 ?_
          refine lv_topl (fun x9 e_x9 => ?_)
          have hf := dz_ls e_x9 hf
          refine lv_lstore_n (lv' := [(1, .long x9), (0, .ref v0), (3, .int v3)]) hx hb dX0_right_32 rfl hl (by decide) rfl (fun ls hl => ?_)
          obtain ⟨x10, e_x10, hf⟩ := dz_lo hf
          refine lv_iinc (v := x10) (lv' := [(3, .int x10), (1, .long x9), (0, .ref v0)]) hx hb dX0_right_33 hl (k := 2) rfl (by rw [e_x10]; rfl) (by decide) rfl (fun ls hl => ?_)
          refine lv_goto (tgt := 4) hx hb dX0_right_36 (by decide) ?_
          exact ih v0 x9 x10 s7 H locs cells slots hH hS hcs hss hcM ls (lv_sub hl [2, 1, 0] rfl) hf
        · have hf := dz_f c21 hf
          refine lv_lconst (v := 1) hx hb dX0_right_24 rfl ?_
          refine lv_iload_n hx hb dX0_right_25 rfl (lv_at hl 2 rfl) ?_
          refine lv_lshl hx hb dX0_right_26 (rfl : _ = (1 : Int64) <<< (Int32.toInt64 v3 &&& 63)) ?_
          refine lv_goto (tgt := 31) hx hb dX0_right_27 (by decide) ?_
          refine lv_lor hx hb dX0_right_31 ?_
          refine lv_topl (fun x11 e_x11 => ?_)
          have hf := dz_ls e_x11 hf
          refine lv_lstore_n (lv' := [(1, .long x11), (0, .ref v0), (3, .int v3)]) hx hb dX0_right_32 rfl hl (by decide) rfl (fun ls hl => ?_)
          obtain ⟨x12, e_x12, hf⟩ := dz_lo hf
          refine lv_iinc (v := x12) (lv' := [(3, .int x12), (1, .long x11), (0, .ref v0)]) hx hb dX0_right_33 hl (k := 2) rfl (by rw [e_x12]; rfl) (by decide) rfl (fun ls hl => ?_)
          refine lv_goto (tgt := 4) hx hb dX0_right_36 (by decide) ?_
          exact ih v0 x11 x12 s7 H locs cells slots hH hS hcs hss hcM ls (lv_sub hl [2, 1, 0] rfl) hf
set_option maxHeartbeats 4000000 in
set_option maxRecDepth 100000 in
theorem mtX0_right (l : Launch) (D : va_G) (cA : Nat → ClassId) (ζ : pZ) (τ : pH) (h : Nat) (K : Nat) (res : (Int64 × pH)) (hf : fnX0_right K ζ h τ = some res) (M S : Nat) (hM : τ.1 + M = res.2.1) (hS0 : τ.2.1 + S = res.2.2.1) : Met l yX0_right (ws_ yX0_right cX0_right 4 (some .long)) ({ frames := 104, cells := M, slots := S, locals := 2395 }) (zPc D cA ζ τ [.ref h]) (zQl D cA ζ res) M S (zA ζ) := by
  refine Met.ofW (cc := cX0_right) (maxL := 4) (ret := some .long) (by decide +kernel) rfl ?_
  intro p e s m args below meth c s₁ B hml hv
  obtain ⟨rfl, hX, hH⟩ := hv
  have hx := B.exec
  have hb := B.bytes
  have hr := B.returns
  have hts := atoms_spec (ws := ws_ yX0_right cX0_right 4 (some .long)) B.pre
  have hts : ∀ w ∈ lw_all, w.before _ s = true := fun w h => hts w (List.mem_cons_of_mem _ h)
  have hown : s.vm.findClass RX0 = some m.cls := findClass_of_methodNamed B.named
  have hlocks := B.notSynchronized
  have hM : s.heap.size + M = res.2.1 := by rw [hH.1]; exact hM
  have hcs : s.heap.size + 0 = τ.1 := hH.1
  have hss : τ.2.1 + 0 = τ.2.1 := rfl
  generalize hsl0 : τ.2.1 = sl0 at hS0 hss
  have hss : sl0 + 0 = τ.2.1 := by rw [hsl0]; rfl
  have hS : va_S (zA ζ) s.heap s.heap [] := va_S.rf
  generalize hHe : s.heap = H at hH hS ⊢
  have hS : va_S (zA ζ) s.heap H [] := by rw [hHe]; exact hS
  generalize ([] : List Loc) = locs at hS ⊢
  have hl := lv_entry ([.ref h]) (n := 4) (Nat.le_of_ble_eq_true rfl)
  rw [lg_entry_eq]
  generalize (lg_sl ([.ref h]) ++ List.replicate (4 - (lg_sl ([.ref h])).length) Slot.unset).toArray = ls at hl ⊢
  have hl : lv_has ls 4 [(0, .ref h)] := hl
  have hf : ((lfX0_right K ζ K) h 0 0 τ : Option (Int64 × pH)) = some res := hf
  refine z_gen (fun cells slots hc0 hs0 => ?_)
  have hcs : s.heap.size + cells = τ.1 := by rw [hc0]; exact hcs
  have hss : sl0 + slots = τ.2.1 := by rw [hs0]; exact hss
  have hcM : cells ≤ M ∧ slots ≤ S := by rw [hc0, hs0]; exact ⟨Nat.zero_le _, Nat.zero_le _⟩
  clear hc0 hs0
  have ih := wlX0_right (l := l) (e := e) (below := below) (D := D) (cA := cA) hX K res M S sl0 hM hS0 h hx hb hr hlocks hml hown hts K
  refine lv_lconst (v := 0) hx hb dX0_right_0 rfl ?_
  refine lv_lstore_n (lv' := [(1, .long 0), (0, .ref h)]) hx hb dX0_right_1 rfl hl (by decide) rfl (fun ls hl => ?_)
  refine lv_iconst (v := 0) hx hb dX0_right_2 (by decide) ?_
  refine lv_istore_n (lv' := [(3, .int 0), (1, .long 0), (0, .ref h)]) hx hb dX0_right_3 rfl hl (by decide) rfl (fun ls hl => ?_)
  exact ih h 0 0 τ H locs cells slots hH hS hcs hss hcM ls (lv_sub hl [2, 1, 0] rfl) hf

noncomputable def fnX0_rests (K : Nat) (ζ : pZ) (h : Nat) (a0 : Int32) (τ : pH) : Option (Int64 × pH) := dz_b (zob ζ τ h 0) fun f3 => zcl τ (fnX0_isLine K ζ h a0 τ) fun x1 s2 => if x1 = (0 : Int32) then (some ((-1), s2)) else (dz_b (zob ζ s2 h 0) fun f6 => zcl s2 (fnX0_isRight K ζ h a0 s2) fun x4 s5 => if x4 = (0 : Int32) then (some ((-2), s5)) else (dz_b (zob ζ s5 h 0) fun f9 => zcl s5 (fnX0_restsOf K ζ h a0 s5) fun x7 s8 => some (x7, s8)))
set_option maxHeartbeats 4000000 in
set_option maxRecDepth 100000 in
theorem mtX0_rests (l : Launch) (D : va_G) (cA : Nat → ClassId) (ζ : pZ) (τ : pH) (h : Nat) (a0 : Int32) (K : Nat) (res : (Int64 × pH)) (hf : fnX0_rests K ζ h a0 τ = some res) (M S : Nat) (hM : τ.1 + M = res.2.1) (hS0 : τ.2.1 + S = res.2.2.1) : Met l yX0_rests (ws_ yX0_rests cX0_rests 2 (some .long)) ({ frames := 108, cells := M, slots := S, locals := 2487 }) (zPc D cA ζ τ [.ref h, .int a0]) (zQl D cA ζ res) M S (zA ζ) := by
  refine Met.ofW (cc := cX0_rests) (maxL := 2) (ret := some .long) (by decide +kernel) rfl ?_
  intro p e s m args below meth c s₁ B hml hv
  obtain ⟨rfl, hX, hH⟩ := hv
  have hx := B.exec
  have hb := B.bytes
  have hr := B.returns
  have hts := atoms_spec (ws := ws_ yX0_rests cX0_rests 2 (some .long)) B.pre
  have hts : ∀ w ∈ lw_all, w.before _ s = true := fun w h => hts w (List.mem_cons_of_mem _ h)
  have hown : s.vm.findClass RX0 = some m.cls := findClass_of_methodNamed B.named
  have hlocks := B.notSynchronized
  have hM : s.heap.size + M = res.2.1 := by rw [hH.1]; exact hM
  have hcs : s.heap.size + 0 = τ.1 := hH.1
  have hss : τ.2.1 + 0 = τ.2.1 := rfl
  generalize hsl0 : τ.2.1 = sl0 at hS0 hss
  have hss : sl0 + 0 = τ.2.1 := by rw [hsl0]; rfl
  have hS : va_S (zA ζ) s.heap s.heap [] := va_S.rf
  generalize hHe : s.heap = H at hH hS ⊢
  have hS : va_S (zA ζ) s.heap H [] := by rw [hHe]; exact hS
  generalize ([] : List Loc) = locs at hS ⊢
  have hl := lv_entry ([.ref h, .int a0]) (n := 2) (Nat.le_of_ble_eq_true rfl)
  rw [lg_entry_eq]
  generalize (lg_sl ([.ref h, .int a0]) ++ List.replicate (2 - (lg_sl ([.ref h, .int a0])).length) Slot.unset).toArray = ls at hl ⊢
  have hl : lv_has ls 2 [(0, .ref h), (1, .int a0)] := hl
  have hf : (dz_b (zob ζ τ h 0) fun f3 => zcl τ (fnX0_isLine K ζ h a0 τ) fun x1 s2 => if x1 = (0 : Int32) then (some ((-1), s2)) else (dz_b (zob ζ s2 h 0) fun f6 => zcl s2 (fnX0_isRight K ζ h a0 s2) fun x4 s5 => if x4 = (0 : Int32) then (some ((-2), s5)) else (dz_b (zob ζ s5 h 0) fun f9 => zcl s5 (fnX0_restsOf K ζ h a0 s5) fun x7 s8 => some (x7, s8))) : Option (Int64 × pH)) = some res := hf
  refine z_gen (fun cells slots hc0 hs0 => ?_)
  have hcs : s.heap.size + cells = τ.1 := by rw [hc0]; exact hcs
  have hss : sl0 + slots = τ.2.1 := by rw [hs0]; exact hss
  have hcM : cells ≤ M ∧ slots ≤ S := by rw [hc0, hs0]; exact ⟨Nat.zero_le _, Nat.zero_le _⟩
  clear hc0 hs0
  refine lv_aload_n hx hb dX0_rests_0 rfl (lv_at hl 0 rfl) ?_
  refine lv_iload_n hx hb dX0_rests_1 rfl (lv_at hl 1 rfl) ?_
  obtain ⟨f3, hf3, hf⟩ := dz_bo hf
  obtain ⟨x1, s2, hx1, hle, hck, hf⟩ := zcl_o hf
  have hc1 : cells + (s2.1 - τ.1) ≤ M := by omega
  have hs1 : slots + (s2.2.1 - τ.2.1) ≤ S := by omega
  refine va_calli (va_runV (As := [.int a0]) (rest := []) ⟨hx, hb, hml, hown, hts⟩ (mtX0_isLine l D cA ζ τ h a0 K (x1, s2) hx1 (s2.1 - τ.1) (s2.2.1 - τ.2.1) (Nat.add_sub_cancel' hle.1) (Nat.add_sub_cancel' hle.2)) (cwV 1 hts (lw_V q1349 q1351 qs28 q84 q1352) rfl rfl rfl (by decide +kernel) ⟨Nat.le_of_ble_eq_true rfl, Nat.le_of_ble_eq_true rfl⟩) (z_preV hX hS hH (zob_o hf3) rfl) rfl rfl hl.1 rfl (lv_room (Nat.le_of_ble_eq_true rfl)) dX0_rests_2 ⟨hc1, hs1⟩) hS (fun q _ hq => hq) (fun q hq => hq) (fun r u t H1 locs ht hvm hw hB hz hk hS => ?_)
  obtain ⟨hw1, hw2⟩ := Prod.mk.inj hw.symm; subst hw1; subst hw2
  have hH : zH D cA ζ s2 H1 := z_at ht.symm hB
  have hcs : s.heap.size + (cells + (s2.1 - τ.1)) = s2.1 := by omega
  have hss : sl0 + (slots + (s2.2.1 - τ.2.1)) = s2.2.1 := by omega
  replace hcM := And.intro hc1 hs1
  generalize cells + (s2.1 - τ.1) = cells at hcs hcM ⊢; generalize slots + (s2.2.1 - τ.2.1) = slots at hss hcM ⊢
  clear hB hk hz hvm ht hle hck hc1 hs1; generalize H1 = H at hH hS ⊢
  refine lv_if_ne (tgt := 14) hx hb dX0_rests_5 (by decide) (fun c5 => ?_) (fun c5 => ?_)
  · have hf := dz_f c5 hf
    refine lv_aload_n hx hb dX0_rests_14 rfl (lv_at hl 0 rfl) ?_
    refine lv_iload_n hx hb dX0_rests_15 rfl (lv_at hl 1 rfl) ?_
    obtain ⟨f6, hf6, hf⟩ := dz_bo hf
    obtain ⟨x4, s5, hx4, hle, hck, hf⟩ := zcl_o hf
    have hc1 : cells + (s5.1 - s2.1) ≤ M := by omega
    have hs1 : slots + (s5.2.1 - s2.2.1) ≤ S := by omega
    refine va_calli (va_runV (As := [.int a0]) (rest := []) ⟨hx, hb, hml, hown, hts⟩ (mtX0_isRight l D cA ζ s2 h a0 K (x4, s5) hx4 (s5.1 - s2.1) (s5.2.1 - s2.2.1) (Nat.add_sub_cancel' hle.1) (Nat.add_sub_cancel' hle.2)) (cwV 1 hts (lw_V q219 q221 qs1 q84 q222) rfl rfl rfl (by decide +kernel) ⟨Nat.le_of_ble_eq_true rfl, Nat.le_of_ble_eq_true rfl⟩) (z_preV hX hS hH (zob_o hf6) rfl) rfl rfl hl.1 rfl (lv_room (Nat.le_of_ble_eq_true rfl)) dX0_rests_16 ⟨hc1, hs1⟩) hS (fun q _ hq => hq) (fun q hq => hq) (fun r u t H1 locs ht hvm hw hB hz hk hS => ?_)
    obtain ⟨hw1, hw2⟩ := Prod.mk.inj hw.symm; subst hw1; subst hw2
    have hH : zH D cA ζ s5 H1 := z_at ht.symm hB
    have hcs : s.heap.size + (cells + (s5.1 - s2.1)) = s5.1 := by omega
    have hss : sl0 + (slots + (s5.2.1 - s2.2.1)) = s5.2.1 := by omega
    replace hcM := And.intro hc1 hs1
    generalize cells + (s5.1 - s2.1) = cells at hcs hcM ⊢; generalize slots + (s5.2.1 - s2.2.1) = slots at hss hcM ⊢
    clear hB hk hz hvm ht hle hck hc1 hs1; generalize H1 = H at hH hS ⊢
    refine lv_if_eq (tgt := 30) hx hb dX0_rests_19 (by decide) (fun c19 => ?_) (fun c19 => ?_)
    · have hf := dz_t c19 hf
      refine lv_ldc2 (v := (-2)) hx hb hown (hts _ q1439) dX0_rests_30 ?_
      obtain ⟨hM1, hS1⟩ : cells = M ∧ slots = S := by have hq := congrArg Prod.snd (Option.some.inj hf); rw [← hq] at hM hS0; have hM : s.heap.size + M = s5.1 := hM; have hS0 : sl0 + S = s5.2.1 := hS0; omega
      refine W.widen (k := M) (n := S) (Nat.le_of_eq hM1) (Nat.le_of_eq hS1) ?_
      exact W.lret (v := (-2)) hx hb hr (fun t ht hW => ⟨⟨(-2), s5, rfl, Option.some.inj hf, z_at ht hH⟩, hS.F ht⟩) hS.2.2 dX0_rests_33
    · have hf := dz_f c19 hf
      refine lv_aload_n hx hb dX0_rests_22 rfl (lv_at hl 0 rfl) ?_
      refine lv_iload_n hx hb dX0_rests_23 rfl (lv_at hl 1 rfl) ?_
      obtain ⟨f9, hf9, hf⟩ := dz_bo hf
      obtain ⟨x7, s8, hx7, hle, hck, hf⟩ := zcl_o hf
      have hc1 : cells + (s8.1 - s5.1) ≤ M := by omega
      have hs1 : slots + (s8.2.1 - s5.2.1) ≤ S := by omega
      refine va_calll (va_runV (As := [.int a0]) (rest := []) ⟨hx, hb, hml, hown, hts⟩ (mtX0_restsOf l D cA ζ s5 h a0 K (x7, s8) hx7 (s8.1 - s5.1) (s8.2.1 - s5.2.1) (Nat.add_sub_cancel' hle.1) (Nat.add_sub_cancel' hle.2)) (cwV 1 hts (lw_V q1397 q1399 qs31 q84 q1400) rfl rfl rfl (by decide +kernel) ⟨Nat.le_of_ble_eq_true rfl, Nat.le_of_ble_eq_true rfl⟩) (z_preV hX hS hH (zob_o hf9) rfl) rfl rfl hl.1 rfl (lv_room (Nat.le_of_ble_eq_true rfl)) dX0_rests_24 ⟨hc1, hs1⟩) hS (fun q _ hq => hq) (fun q hq => hq) (fun r u t H1 locs ht hvm hw hB hz hk hS => ?_)
      obtain ⟨hw1, hw2⟩ := Prod.mk.inj hw.symm; subst hw1; subst hw2
      have hH : zH D cA ζ s8 H1 := z_at ht.symm hB
      have hcs : s.heap.size + (cells + (s8.1 - s5.1)) = s8.1 := by omega
      have hss : sl0 + (slots + (s8.2.1 - s5.2.1)) = s8.2.1 := by omega
      replace hcM := And.intro hc1 hs1
      generalize cells + (s8.1 - s5.1) = cells at hcs hcM ⊢; generalize slots + (s8.2.1 - s5.2.1) = slots at hss hcM ⊢
      clear hB hk hz hvm ht hle hck hc1 hs1; generalize H1 = H at hH hS ⊢
      refine lv_goto (tgt := 33) hx hb dX0_rests_27 (by decide) ?_
      obtain ⟨hM1, hS1⟩ : cells = M ∧ slots = S := by have hq := congrArg Prod.snd (Option.some.inj hf); rw [← hq] at hM hS0; have hM : s.heap.size + M = s8.1 := hM; have hS0 : sl0 + S = s8.2.1 := hS0; omega
      refine W.widen (k := M) (n := S) (Nat.le_of_eq hM1) (Nat.le_of_eq hS1) ?_
      exact W.lret (v := x7) hx hb hr (fun t ht hW => ⟨⟨x7, s8, rfl, Option.some.inj hf, z_at ht hH⟩, hS.F ht⟩) hS.2.2 dX0_rests_33
  · have hf := dz_t c5 hf
    refine lv_ldc2 (v := (-1)) hx hb hown (hts _ q1438) dX0_rests_8 ?_
    refine lv_goto (tgt := 33) hx hb dX0_rests_11 (by decide) ?_
    obtain ⟨hM1, hS1⟩ : cells = M ∧ slots = S := by have hq := congrArg Prod.snd (Option.some.inj hf); rw [← hq] at hM hS0; have hM : s.heap.size + M = s2.1 := hM; have hS0 : sl0 + S = s2.2.1 := hS0; omega
    refine W.widen (k := M) (n := S) (Nat.le_of_eq hM1) (Nat.le_of_eq hS1) ?_
    exact W.lret (v := (-1)) hx hb hr (fun t ht hW => ⟨⟨(-1), s2, rfl, Option.some.inj hf, z_at ht hH⟩, hS.F ht⟩) hS.2.2 dX0_rests_33

noncomputable def fnX0_deep (K : Nat) (ζ : pZ) (h : Nat) (a0 : Int32) (τ : pH) : Option (Int32 × pH) := dz_b (zob ζ τ h 0) fun f3 => zcl τ (fnX0_isLine K ζ h a0 τ) fun x1 s2 => if x1 = (0 : Int32) then (some ((-1), s2)) else (dz_b (zob ζ s2 h 0) fun f6 => zcl s2 (fnX0_isRight K ζ h a0 s2) fun x4 s5 => if x4 = (0 : Int32) then (some ((-2), s5)) else (dz_b (zob ζ s5 h 0) fun f9 => zcl s5 (fnX0_laysRests K ζ h a0 s5) fun _ s8 => dz_b (zob ζ s8 h 0) fun f10 => dz_b (zvr (f10[6]?)) fun x11 => dz_c (zai ζ s8 x11 0) fun n12 f13 => if ¬ (a0 < 0 ∨ n12 ≤ Int32.toNatClampNeg a0) then (dz_l (f13 (Int32.toNatClampNeg a0)) fun x15 => some (x15, s8)) else none))
set_option maxHeartbeats 4000000 in
set_option maxRecDepth 100000 in
theorem mtX0_deep (l : Launch) (D : va_G) (cA : Nat → ClassId) (ζ : pZ) (τ : pH) (h : Nat) (a0 : Int32) (K : Nat) (res : (Int32 × pH)) (hf : fnX0_deep K ζ h a0 τ = some res) (M S : Nat) (hM : τ.1 + M = res.2.1) (hS0 : τ.2.1 + S = res.2.2.1) : Met l yX0_deep (ws_ yX0_deep cX0_deep 2 (some .int)) ({ frames := 107, cells := M, slots := S, locals := 2466 }) (zPc D cA ζ τ [.ref h, .int a0]) (zQi D cA ζ res) M S (zA ζ) := by
  refine Met.ofW (cc := cX0_deep) (maxL := 2) (ret := some .int) (by decide +kernel) rfl ?_
  intro p e s m args below meth c s₁ B hml hv
  obtain ⟨rfl, hX, hH⟩ := hv
  have hx := B.exec
  have hb := B.bytes
  have hr := B.returns
  have hts := atoms_spec (ws := ws_ yX0_deep cX0_deep 2 (some .int)) B.pre
  have hts : ∀ w ∈ lw_all, w.before _ s = true := fun w h => hts w (List.mem_cons_of_mem _ h)
  have hown : s.vm.findClass RX0 = some m.cls := findClass_of_methodNamed B.named
  have hlocks := B.notSynchronized
  have hM : s.heap.size + M = res.2.1 := by rw [hH.1]; exact hM
  have hcs : s.heap.size + 0 = τ.1 := hH.1
  have hss : τ.2.1 + 0 = τ.2.1 := rfl
  generalize hsl0 : τ.2.1 = sl0 at hS0 hss
  have hss : sl0 + 0 = τ.2.1 := by rw [hsl0]; rfl
  have hS : va_S (zA ζ) s.heap s.heap [] := va_S.rf
  generalize hHe : s.heap = H at hH hS ⊢
  have hS : va_S (zA ζ) s.heap H [] := by rw [hHe]; exact hS
  generalize ([] : List Loc) = locs at hS ⊢
  have hl := lv_entry ([.ref h, .int a0]) (n := 2) (Nat.le_of_ble_eq_true rfl)
  rw [lg_entry_eq]
  generalize (lg_sl ([.ref h, .int a0]) ++ List.replicate (2 - (lg_sl ([.ref h, .int a0])).length) Slot.unset).toArray = ls at hl ⊢
  have hl : lv_has ls 2 [(0, .ref h), (1, .int a0)] := hl
  have hf : (dz_b (zob ζ τ h 0) fun f3 => zcl τ (fnX0_isLine K ζ h a0 τ) fun x1 s2 => if x1 = (0 : Int32) then (some ((-1), s2)) else (dz_b (zob ζ s2 h 0) fun f6 => zcl s2 (fnX0_isRight K ζ h a0 s2) fun x4 s5 => if x4 = (0 : Int32) then (some ((-2), s5)) else (dz_b (zob ζ s5 h 0) fun f9 => zcl s5 (fnX0_laysRests K ζ h a0 s5) fun _ s8 => dz_b (zob ζ s8 h 0) fun f10 => dz_b (zvr (f10[6]?)) fun x11 => dz_c (zai ζ s8 x11 0) fun n12 f13 => if ¬ (a0 < 0 ∨ n12 ≤ Int32.toNatClampNeg a0) then (dz_l (f13 (Int32.toNatClampNeg a0)) fun x15 => some (x15, s8)) else none)) : Option (Int32 × pH)) = some res := hf
  refine z_gen (fun cells slots hc0 hs0 => ?_)
  have hcs : s.heap.size + cells = τ.1 := by rw [hc0]; exact hcs
  have hss : sl0 + slots = τ.2.1 := by rw [hs0]; exact hss
  have hcM : cells ≤ M ∧ slots ≤ S := by rw [hc0, hs0]; exact ⟨Nat.zero_le _, Nat.zero_le _⟩
  clear hc0 hs0
  refine lv_aload_n hx hb dX0_deep_0 rfl (lv_at hl 0 rfl) ?_
  refine lv_iload_n hx hb dX0_deep_1 rfl (lv_at hl 1 rfl) ?_
  obtain ⟨f3, hf3, hf⟩ := dz_bo hf
  obtain ⟨x1, s2, hx1, hle, hck, hf⟩ := zcl_o hf
  have hc1 : cells + (s2.1 - τ.1) ≤ M := by omega
  have hs1 : slots + (s2.2.1 - τ.2.1) ≤ S := by omega
  refine va_calli (va_runV (As := [.int a0]) (rest := []) ⟨hx, hb, hml, hown, hts⟩ (mtX0_isLine l D cA ζ τ h a0 K (x1, s2) hx1 (s2.1 - τ.1) (s2.2.1 - τ.2.1) (Nat.add_sub_cancel' hle.1) (Nat.add_sub_cancel' hle.2)) (cwV 1 hts (lw_V q1349 q1351 qs28 q84 q1352) rfl rfl rfl (by decide +kernel) ⟨Nat.le_of_ble_eq_true rfl, Nat.le_of_ble_eq_true rfl⟩) (z_preV hX hS hH (zob_o hf3) rfl) rfl rfl hl.1 rfl (lv_room (Nat.le_of_ble_eq_true rfl)) dX0_deep_2 ⟨hc1, hs1⟩) hS (fun q _ hq => hq) (fun q hq => hq) (fun r u t H1 locs ht hvm hw hB hz hk hS => ?_)
  obtain ⟨hw1, hw2⟩ := Prod.mk.inj hw.symm; subst hw1; subst hw2
  have hH : zH D cA ζ s2 H1 := z_at ht.symm hB
  have hcs : s.heap.size + (cells + (s2.1 - τ.1)) = s2.1 := by omega
  have hss : sl0 + (slots + (s2.2.1 - τ.2.1)) = s2.2.1 := by omega
  replace hcM := And.intro hc1 hs1
  generalize cells + (s2.1 - τ.1) = cells at hcs hcM ⊢; generalize slots + (s2.2.1 - τ.2.1) = slots at hss hcM ⊢
  clear hB hk hz hvm ht hle hck hc1 hs1; generalize H1 = H at hH hS ⊢
  refine lv_if_ne (tgt := 10) hx hb dX0_deep_5 (by decide) (fun c5 => ?_) (fun c5 => ?_)
  · have hf := dz_f c5 hf
    refine lv_aload_n hx hb dX0_deep_10 rfl (lv_at hl 0 rfl) ?_
    refine lv_iload_n hx hb dX0_deep_11 rfl (lv_at hl 1 rfl) ?_
    obtain ⟨f6, hf6, hf⟩ := dz_bo hf
    obtain ⟨x4, s5, hx4, hle, hck, hf⟩ := zcl_o hf
    have hc1 : cells + (s5.1 - s2.1) ≤ M := by omega
    have hs1 : slots + (s5.2.1 - s2.2.1) ≤ S := by omega
    refine va_calli (va_runV (As := [.int a0]) (rest := []) ⟨hx, hb, hml, hown, hts⟩ (mtX0_isRight l D cA ζ s2 h a0 K (x4, s5) hx4 (s5.1 - s2.1) (s5.2.1 - s2.2.1) (Nat.add_sub_cancel' hle.1) (Nat.add_sub_cancel' hle.2)) (cwV 1 hts (lw_V q219 q221 qs1 q84 q222) rfl rfl rfl (by decide +kernel) ⟨Nat.le_of_ble_eq_true rfl, Nat.le_of_ble_eq_true rfl⟩) (z_preV hX hS hH (zob_o hf6) rfl) rfl rfl hl.1 rfl (lv_room (Nat.le_of_ble_eq_true rfl)) dX0_deep_12 ⟨hc1, hs1⟩) hS (fun q _ hq => hq) (fun q hq => hq) (fun r u t H1 locs ht hvm hw hB hz hk hS => ?_)
    obtain ⟨hw1, hw2⟩ := Prod.mk.inj hw.symm; subst hw1; subst hw2
    have hH : zH D cA ζ s5 H1 := z_at ht.symm hB
    have hcs : s.heap.size + (cells + (s5.1 - s2.1)) = s5.1 := by omega
    have hss : sl0 + (slots + (s5.2.1 - s2.2.1)) = s5.2.1 := by omega
    replace hcM := And.intro hc1 hs1
    generalize cells + (s5.1 - s2.1) = cells at hcs hcM ⊢; generalize slots + (s5.2.1 - s2.2.1) = slots at hss hcM ⊢
    clear hB hk hz hvm ht hle hck hc1 hs1; generalize H1 = H at hH hS ⊢
    refine lv_if_ne (tgt := 21) hx hb dX0_deep_15 (by decide) (fun c15 => ?_) (fun c15 => ?_)
    · have hf := dz_f c15 hf
      refine lv_aload_n hx hb dX0_deep_21 rfl (lv_at hl 0 rfl) ?_
      refine lv_iload_n hx hb dX0_deep_22 rfl (lv_at hl 1 rfl) ?_
      obtain ⟨f9, hf9, hf⟩ := dz_bo hf
      obtain ⟨x7, s8, hx7, hle, hck, hf⟩ := zcl_o hf
      have hc1 : cells + (s8.1 - s5.1) ≤ M := by omega
      have hs1 : slots + (s8.2.1 - s5.2.1) ≤ S := by omega
      refine va_callv (va_runV (As := [.int a0]) (rest := []) ⟨hx, hb, hml, hown, hts⟩ (mtX0_laysRests l D cA ζ s5 h a0 K (x7, s8) hx7 (s8.1 - s5.1) (s8.2.1 - s5.2.1) (Nat.add_sub_cancel' hle.1) (Nat.add_sub_cancel' hle.2)) (cwV 1 hts (lw_V q1401 q1403 qs32 q84 q1404) rfl rfl rfl (by decide +kernel) ⟨Nat.le_of_ble_eq_true rfl, Nat.le_of_ble_eq_true rfl⟩) (z_preV hX hS hH (zob_o hf9) rfl) rfl rfl hl.1 rfl (lv_room (Nat.le_of_ble_eq_true rfl)) dX0_deep_23 ⟨hc1, hs1⟩) hS (fun q _ hq => hq) (fun q hq => hq) (fun u t H1 locs ht hvm hw hB hz hk hS => ?_)
      obtain ⟨-, hw2⟩ := Prod.mk.inj hw.symm; subst hw2
      have hH : zH D cA ζ s8 H1 := z_at ht.symm hB
      have hcs : s.heap.size + (cells + (s8.1 - s5.1)) = s8.1 := by omega
      have hss : sl0 + (slots + (s8.2.1 - s5.2.1)) = s8.2.1 := by omega
      replace hcM := And.intro hc1 hs1
      generalize cells + (s8.1 - s5.1) = cells at hcs hcM ⊢; generalize slots + (s8.2.1 - s5.2.1) = slots at hss hcM ⊢
      clear hB hk hz hvm ht hle hck hc1 hs1; generalize H1 = H at hH hS ⊢
      refine lv_aload_n hx hb dX0_deep_26 rfl (lv_at hl 0 rfl) ?_
      obtain ⟨f10, hf10, hf⟩ := dz_bo hf
      obtain ⟨x11, hx11, hf⟩ := dz_bo hf
      refine va_get (C := RX0) (T := TX0) (N := 7) hx hb hts in_X0 hown hX.K (zrd_P hX hS hH (zob_o hf10)) 0 rfl rfl 6 (by decide) (hts _ q164) (fun _ hq => hq) (zvr_o hx11) dX0_deep_27 ?_
      refine lv_iload_n hx hb dX0_deep_30 rfl (lv_at hl 1 rfl) ?_
      obtain ⟨n12, f13, hn12, hf⟩ := dz_co hf
      obtain ⟨g14, hf⟩ := dz_go hf
      refine va_iald hx hb hX.K (zrd_P hX hS hH (zai_o hn12)) 0 0 rfl rfl g14 dX0_deep_31 ?_
      refine lv_topi (fun x15 e_x15 => ?_)
      have hf := dz_ls e_x15 hf
      obtain ⟨hM1, hS1⟩ : cells = M ∧ slots = S := by have hq := congrArg Prod.snd (Option.some.inj hf); rw [← hq] at hM hS0; have hM : s.heap.size + M = s8.1 := hM; have hS0 : sl0 + S = s8.2.1 := hS0; omega
      refine W.widen (k := M) (n := S) (Nat.le_of_eq hM1) (Nat.le_of_eq hS1) ?_
      exact W.iret (v := x15) hx hb hr (fun t ht hW => ⟨⟨x15, s8, rfl, Option.some.inj hf, z_at ht hH⟩, hS.F ht⟩) hS.2.2 dX0_deep_32
    · have hf := dz_t c15 hf
      refine lv_bipush (v := (-2)) hx hb dX0_deep_18 (by decide) ?_
      obtain ⟨hM1, hS1⟩ : cells = M ∧ slots = S := by have hq := congrArg Prod.snd (Option.some.inj hf); rw [← hq] at hM hS0; have hM : s.heap.size + M = s5.1 := hM; have hS0 : sl0 + S = s5.2.1 := hS0; omega
      refine W.widen (k := M) (n := S) (Nat.le_of_eq hM1) (Nat.le_of_eq hS1) ?_
      exact W.iret (v := (-2)) hx hb hr (fun t ht hW => ⟨⟨(-2), s5, rfl, Option.some.inj hf, z_at ht hH⟩, hS.F ht⟩) hS.2.2 dX0_deep_20
  · have hf := dz_t c5 hf
    refine lv_iconst (v := (-1)) hx hb dX0_deep_8 (by decide) ?_
    obtain ⟨hM1, hS1⟩ : cells = M ∧ slots = S := by have hq := congrArg Prod.snd (Option.some.inj hf); rw [← hq] at hM hS0; have hM : s.heap.size + M = s2.1 := hM; have hS0 : sl0 + S = s2.2.1 := hS0; omega
    refine W.widen (k := M) (n := S) (Nat.le_of_eq hM1) (Nat.le_of_eq hS1) ?_
    exact W.iret (v := (-1)) hx hb hr (fun t ht hW => ⟨⟨(-1), s2, rfl, Option.some.inj hf, z_at ht hH⟩, hS.F ht⟩) hS.2.2 dX0_deep_9

noncomputable def lfX0_areBacked (K : Nat) (ζ : pZ) : Nat → (Nat → Int32 → Int64 → Nat → pH → Option (Int32 × pH)) × (Nat → Int32 → Int64 → Nat → Nat → Int32 → Int32 → pH → Option (Int32 × pH)) × (Nat → Int32 → Int64 → Nat → Nat → Int32 → pH → Option (Int32 × pH)) × (Nat → Int32 → Int64 → Nat → Nat → Int32 → pH → Option (Int32 × pH)) := Nat.rec (motive := fun _ => (Nat → Int32 → Int64 → Nat → pH → Option (Int32 × pH)) × (Nat → Int32 → Int64 → Nat → Nat → Int32 → Int32 → pH → Option (Int32 × pH)) × (Nat → Int32 → Int64 → Nat → Nat → Int32 → pH → Option (Int32 × pH)) × (Nat → Int32 → Int64 → Nat → Nat → Int32 → pH → Option (Int32 × pH))) ((fun _ _ _ _ _ => none), (fun _ _ _ _ _ _ _ _ => none), (fun _ _ _ _ _ _ _ => none), (fun _ _ _ _ _ _ _ => none)) (fun _ G => ((fun v0 v2 v3 v5 τ => dz_b (zob ζ τ v5 2) fun f3 => zcl τ (fnX2_hasNext K ζ v5 τ) fun x1 s2 => if x1 = (0 : Int32) then (some (1, s2)) else (dz_b (zob ζ s2 v5 2) fun f6 => zcl s2 (fnX2_next K ζ v5 s2) fun x4 s5 => dz_b (zob ζ s5 x4 11) fun f7 => G.2.1 v0 v2 v3 v5 x4 0 0 s5)), (fun v0 v2 v3 v5 v6 v7 v8 τ => if v2 ≤ v8 then (if v7 = (0 : Int32) then (some (0, τ)) else (G.1 v0 v2 v3 v5 τ)) else (if v7 = (0 : Int32) then (if ((v3 >>> (Int32.toInt64 v8 &&& 63)) &&& 1) = (1 : Int64) then (dz_b (zob ζ τ v0 0) fun f1 => dz_b (zvr (f1[0]?)) fun x2 => dz_b (zob ζ τ x2 14) fun f5 => zcl τ (fnJ2_get K ζ x2 v8 τ) fun x3 s4 => dz_c (zoL ζ s4 x3) fun cf6 f6 => dz_c (zoL ζ s4 x3) fun cf7 f7 => dz_b (zvl (f7[0]?)) fun x8 => dz_b (zob ζ s4 v6 11) fun f9 => dz_b (zvl (f9[0]?)) fun x10 => if x8 = x10 then (G.2.2.1 v0 v2 v3 v5 v6 v8 s4) else (G.2.2.2 v0 v2 v3 v5 v6 v8 s4)) else (G.2.2.2 v0 v2 v3 v5 v6 v8 τ)) else (G.2.2.1 v0 v2 v3 v5 v6 v8 τ))), (fun v0 v2 v3 v5 v6 v8 τ => dz_l (v8 + 1) fun x1 => G.2.1 v0 v2 v3 v5 v6 1 x1 τ), (fun v0 v2 v3 v5 v6 v8 τ => dz_l (v8 + 1) fun x1 => G.2.1 v0 v2 v3 v5 v6 0 x1 τ)))
noncomputable def fnX0_areBacked (K : Nat) (ζ : pZ) (h : Nat) (a0 : Nat) (a1 : Int32) (a2 : Int64) (τ : pH) : Option (Int32 × pH) := dz_b (zob ζ τ a0 10) fun f3 => zcl τ (fnX8_iterator K ζ a0 τ) fun x1 s2 => (lfX0_areBacked K ζ K).1 h a1 a2 x1 s2
set_option maxHeartbeats 4000000 in
set_option maxRecDepth 100000 in
theorem wlX0_areBacked {p : Program} {l : Launch} {e : Env} {s : State} {m : MethodId} {below : List Frame} {meth : Method} {c : Code} {D : va_G} {cA : Nat → ClassId} {ζ : pZ} (hX : zX D cA ζ s) (K : Nat) (res : (Int32 × pH)) (M S sl0 : Nat) (hM : s.heap.size + M = res.2.1) (hS0 : sl0 + S = res.2.2.1) (h : Nat) (a0 : Nat) (a1 : Int32) (a2 : Int64) (hx : p.tables.exec = Jvm.exec) (hb : c.code = cX0_areBacked) (hr : meth.sig.returnType = some .boolean) (hlocks : meth.locks = false) (hml : c.maxLocals = 9) (hown : s.vm.findClass RX0 = some m.cls) (hts : ∀ w ∈ lw_all, w.before ([.ref h, .ref a0, .int a1, .long a2] : List Value).toArray s = true) : ∀ k : Nat, (∀ (v0 : Nat) (v2 : Int32) (v3 : Int64) (v5 : Nat) (τ : pH) (H : Heap) (locs : List Loc) (cells slots : Nat), zH D cA ζ τ H → va_S (zA ζ) s.heap H locs → s.heap.size + cells = τ.1 → sl0 + slots = τ.2.1 → cells ≤ M ∧ slots ≤ S → ∀ (ls : Array Slot), lv_has ls 9 [(0, .ref v0), (2, .int v2), (3, .long v3), (5, .ref v5)] → (lfX0_areBacked K ζ k).1 v0 v2 v3 v5 τ = some res → W p l e (headSpec (ws_ yX0_areBacked cX0_areBacked 9 (some .boolean)) ({ frames := 3, cells := M, slots := S, locals := 64 })).room s m ([.ref h, .ref a0, .int a1, .long a2] : List Value).toArray below meth c H locs cells slots (MQ below (zQi D cA ζ res) ([.ref h, .ref a0, .int a1, .long a2] : List Value).toArray s M S (zA ζ)) (F0 m 6 ls [])) ∧ (∀ (v0 : Nat) (v2 : Int32) (v3 : Int64) (v5 : Nat) (v6 : Nat) (v7 : Int32) (v8 : Int32) (τ : pH) (H : Heap) (locs : List Loc) (cells slots : Nat), zH D cA ζ τ H → va_S (zA ζ) s.heap H locs → s.heap.size + cells = τ.1 → sl0 + slots = τ.2.1 → cells ≤ M ∧ slots ≤ S → ∀ (ls : Array Slot), lv_has ls 9 [(0, .ref v0), (2, .int v2), (3, .long v3), (5, .ref v5), (6, .ref v6), (7, .int v7), (8, .int v8)] → (lfX0_areBacked K ζ k).2.1 v0 v2 v3 v5 v6 v7 v8 τ = some res → W p l e (headSpec (ws_ yX0_areBacked cX0_areBacked 9 (some .boolean)) ({ frames := 3, cells := M, slots := S, locals := 64 })).room s m ([.ref h, .ref a0, .int a1, .long a2] : List Value).toArray below meth c H locs cells slots (MQ below (zQi D cA ζ res) ([.ref h, .ref a0, .int a1, .long a2] : List Value).toArray s M S (zA ζ)) (F0 m 34 ls [])) ∧ (∀ (v0 : Nat) (v2 : Int32) (v3 : Int64) (v5 : Nat) (v6 : Nat) (v8 : Int32) (τ : pH) (H : Heap) (locs : List Loc) (cells slots : Nat), zH D cA ζ τ H → va_S (zA ζ) s.heap H locs → s.heap.size + cells = τ.1 → sl0 + slots = τ.2.1 → cells ≤ M ∧ slots ≤ S → ∀ (ls : Array Slot), lv_has ls 9 [(0, .ref v0), (2, .int v2), (3, .long v3), (5, .ref v5), (6, .ref v6), (8, .int v8)] → (lfX0_areBacked K ζ k).2.2.1 v0 v2 v3 v5 v6 v8 τ = some res → W p l e (headSpec (ws_ yX0_areBacked cX0_areBacked 9 (some .boolean)) ({ frames := 3, cells := M, slots := S, locals := 64 })).room s m ([.ref h, .ref a0, .int a1, .long a2] : List Value).toArray below meth c H locs cells slots (MQ below (zQi D cA ζ res) ([.ref h, .ref a0, .int a1, .long a2] : List Value).toArray s M S (zA ζ)) (F0 m 80 ls [])) ∧ (∀ (v0 : Nat) (v2 : Int32) (v3 : Int64) (v5 : Nat) (v6 : Nat) (v8 : Int32) (τ : pH) (H : Heap) (locs : List Loc) (cells slots : Nat), zH D cA ζ τ H → va_S (zA ζ) s.heap H locs → s.heap.size + cells = τ.1 → sl0 + slots = τ.2.1 → cells ≤ M ∧ slots ≤ S → ∀ (ls : Array Slot), lv_has ls 9 [(0, .ref v0), (2, .int v2), (3, .long v3), (5, .ref v5), (6, .ref v6), (8, .int v8)] → (lfX0_areBacked K ζ k).2.2.2 v0 v2 v3 v5 v6 v8 τ = some res → W p l e (headSpec (ws_ yX0_areBacked cX0_areBacked 9 (some .boolean)) ({ frames := 3, cells := M, slots := S, locals := 64 })).room s m ([.ref h, .ref a0, .int a1, .long a2] : List Value).toArray below meth c H locs cells slots (MQ below (zQi D cA ζ res) ([.ref h, .ref a0, .int a1, .long a2] : List Value).toArray s M S (zA ζ)) (F0 m 84 ls [])) := by
  intro k
  induction k with
  | zero =>
    exact ⟨fun _ _ _ _ _ _ _ _ _ _ _ _ _ _ _ _ hf => (by cases hf), fun _ _ _ _ _ _ _ _ _ _ _ _ _ _ _ _ _ _ _ hf => (by cases hf), fun _ _ _ _ _ _ _ _ _ _ _ _ _ _ _ _ _ _ hf => (by cases hf), fun _ _ _ _ _ _ _ _ _ _ _ _ _ _ _ _ _ _ hf => (by cases hf)⟩
  | succ k ih =>
    refine ⟨?_, ?_, ?_, ?_⟩
    · intro v0 v2 v3 v5 τ H locs cells slots hH hS hcs hss hcM ls hl hf
      have hf : (dz_b (zob ζ τ v5 2) fun f3 => zcl τ (fnX2_hasNext K ζ v5 τ) fun x1 s2 => if x1 = (0 : Int32) then (some (1, s2)) else (dz_b (zob ζ s2 v5 2) fun f6 => zcl s2 (fnX2_next K ζ v5 s2) fun x4 s5 => dz_b (zob ζ s5 x4 11) fun f7 => (lfX0_areBacked K ζ k).2.1 v0 v2 v3 v5 x4 0 0 s5) : Option (Int32 × pH)) = some res := hf
      refine lv_aload hx hb dX0_areBacked_6 (lv_at hl 3 rfl) ?_
      obtain ⟨f3, hf3, hf⟩ := dz_bo hf
      obtain ⟨x1, s2, hx1, hle, hck, hf⟩ := zcl_o hf
      have hc1 : cells + (s2.1 - τ.1) ≤ M := by omega
      have hs1 : slots + (s2.2.1 - τ.2.1) ≤ S := by omega
      refine va_callFi (va_runF (hX.K.1 2 _ rfl).2 (As := []) (rest := []) ⟨hx, hb, hml, hown, hts⟩ (mtX2_hasNext l D cA ζ τ v5 K (x1, s2) hx1 (s2.1 - τ.1) (s2.2.1 - τ.2.1) (Nat.add_sub_cancel' hle.1) (Nat.add_sub_cancel' hle.2)) (va_cwF 0 hts (zF_in q782 q267 q269 q91 q271) rfl rfl rfl (hX.F 0 rfl) (by decide +kernel) ⟨Nat.le_of_ble_eq_true rfl, Nat.le_of_ble_eq_true rfl⟩) (z_preV hX hS hH (zob_o hf3) rfl) rfl rfl hl.1 rfl (lv_room (Nat.le_of_ble_eq_true rfl)) dX0_areBacked_8 ⟨hc1, hs1⟩) hS (fun q _ hq => hq) (fun q hq => hq) (fun r u t H1 locs ht hvm hw hB hz hk hS => ?_)
      obtain ⟨hw1, hw2⟩ := Prod.mk.inj hw.symm; subst hw1; subst hw2
      have hH : zH D cA ζ s2 H1 := z_at ht.symm hB
      have hcs : s.heap.size + (cells + (s2.1 - τ.1)) = s2.1 := by omega
      have hss : sl0 + (slots + (s2.2.1 - τ.2.1)) = s2.2.1 := by omega
      replace hcM := And.intro hc1 hs1
      generalize cells + (s2.1 - τ.1) = cells at hcs hcM ⊢; generalize slots + (s2.2.1 - τ.2.1) = slots at hss hcM ⊢
      clear hB hk hz hvm ht hle hck hc1 hs1; generalize H1 = H at hH hS ⊢
      refine lv_if_eq (tgt := 103) hx hb dX0_areBacked_13 (by decide) (fun c13 => ?_) (fun c13 => ?_)
      · have hf := dz_t c13 hf
        refine lv_iconst (v := 1) hx hb dX0_areBacked_103 (by decide) ?_
        obtain ⟨hM1, hS1⟩ : cells = M ∧ slots = S := by have hq := congrArg Prod.snd (Option.some.inj hf); rw [← hq] at hM hS0; have hM : s.heap.size + M = s2.1 := hM; have hS0 : sl0 + S = s2.2.1 := hS0; omega
        refine W.widen (k := M) (n := S) (Nat.le_of_eq hM1) (Nat.le_of_eq hS1) ?_
        exact W.zret (v := 1) hx hb hr rfl (fun t ht hW => ⟨⟨1, s2, rfl, Option.some.inj hf, z_at ht hH⟩, hS.F ht⟩) hS.2.2 dX0_areBacked_104
      · have hf := dz_f c13 hf
        refine lv_aload hx hb dX0_areBacked_16 (lv_at hl 3 rfl) ?_
        obtain ⟨f6, hf6, hf⟩ := dz_bo hf
        obtain ⟨x4, s5, hx4, hle, hck, hf⟩ := zcl_o hf
        have hc1 : cells + (s5.1 - s2.1) ≤ M := by omega
        have hs1 : slots + (s5.2.1 - s2.2.1) ≤ S := by omega
        refine va_callFr (va_runF (hX.K.1 2 _ rfl).2 (As := []) (rest := []) ⟨hx, hb, hml, hown, hts⟩ (mtX2_next l D cA ζ s2 v5 K (x4, s5) hx4 (s5.1 - s2.1) (s5.2.1 - s2.2.1) (Nat.add_sub_cancel' hle.1) (Nat.add_sub_cancel' hle.2)) (va_cwF 0 hts (zF_in q784 q282 q284 q91 q286) rfl rfl rfl (hX.F 1 rfl) (by decide +kernel) ⟨Nat.le_of_ble_eq_true rfl, Nat.le_of_ble_eq_true rfl⟩) (z_preV hX hS hH (zob_o hf6) rfl) rfl rfl hl.1 rfl (lv_room (Nat.le_of_ble_eq_true rfl)) dX0_areBacked_18 ⟨hc1, hs1⟩) hS (fun q _ hq => hq) (fun q hq => hq) (fun u r t H1 locs ht hvm hw hB hz hk hS => ?_)
        obtain ⟨hw, hB⟩ := hB
        obtain ⟨hw1, hw2⟩ := Prod.mk.inj hw.symm; subst hw1; subst hw2
        have hH : zH D cA ζ s5 H1 := z_at ht.symm hB
        have hcs : s.heap.size + (cells + (s5.1 - s2.1)) = s5.1 := by omega
        have hss : sl0 + (slots + (s5.2.1 - s2.2.1)) = s5.2.1 := by omega
        replace hcM := And.intro hc1 hs1
        generalize cells + (s5.1 - s2.1) = cells at hcs hcM ⊢; generalize slots + (s5.2.1 - s2.2.1) = slots at hss hcM ⊢
        clear hB hk hz hvm ht hle hck hc1 hs1; generalize H1 = H at hH hS ⊢
        obtain ⟨f7, hf7, hf⟩ := dz_bo hf
        refine va_castS (nm := RX13) hx hb hown (hts _ q677) (hX.K.1 11 _ rfl).2 (va_recv hX.K (zrd_P hX hS hH (zob_o hf7)) (ci := 11) (q0 := 0) rfl rfl) dX0_areBacked_23 ?_
        refine lv_astore (lv' := [(6, .ref x4), (0, .ref v0), (2, .int v2), (3, .long v3), (5, .ref v5)]) hx hb dX0_areBacked_26 hl (by decide) rfl (fun ls hl => ?_)
        refine lv_iconst (v := 0) hx hb dX0_areBacked_28 (by decide) ?_
        refine lv_istore (lv' := [(7, .int 0), (6, .ref x4), (0, .ref v0), (2, .int v2), (3, .long v3), (5, .ref v5)]) hx hb dX0_areBacked_29 hl (by decide) rfl (fun ls hl => ?_)
        refine lv_iconst (v := 0) hx hb dX0_areBacked_31 (by decide) ?_
        refine lv_istore (lv' := [(8, .int 0), (7, .int 0), (6, .ref x4), (0, .ref v0), (2, .int v2), (3, .long v3), (5, .ref v5)]) hx hb dX0_areBacked_32 hl (by decide) rfl (fun ls hl => ?_)
        exact ih.2.1 v0 v2 v3 v5 x4 0 0 s5 H locs cells slots hH hS hcs hss hcM ls (lv_sub hl [3, 4, 5, 6, 2, 1, 0] rfl) hf
    · intro v0 v2 v3 v5 v6 v7 v8 τ H locs cells slots hH hS hcs hss hcM ls hl hf
      have hf : (if v2 ≤ v8 then (if v7 = (0 : Int32) then (some (0, τ)) else ((lfX0_areBacked K ζ k).1 v0 v2 v3 v5 τ)) else (if v7 = (0 : Int32) then (if ((v3 >>> (Int32.toInt64 v8 &&& 63)) &&& 1) = (1 : Int64) then (dz_b (zob ζ τ v0 0) fun f1 => dz_b (zvr (f1[0]?)) fun x2 => dz_b (zob ζ τ x2 14) fun f5 => zcl τ (fnJ2_get K ζ x2 v8 τ) fun x3 s4 => dz_c (zoL ζ s4 x3) fun cf6 f6 => dz_c (zoL ζ s4 x3) fun cf7 f7 => dz_b (zvl (f7[0]?)) fun x8 => dz_b (zob ζ s4 v6 11) fun f9 => dz_b (zvl (f9[0]?)) fun x10 => if x8 = x10 then ((lfX0_areBacked K ζ k).2.2.1 v0 v2 v3 v5 v6 v8 s4) else ((lfX0_areBacked K ζ k).2.2.2 v0 v2 v3 v5 v6 v8 s4)) else ((lfX0_areBacked K ζ k).2.2.2 v0 v2 v3 v5 v6 v8 τ)) else ((lfX0_areBacked K ζ k).2.2.1 v0 v2 v3 v5 v6 v8 τ)) : Option (Int32 × pH)) = some res := hf
      refine lv_iload hx hb dX0_areBacked_34 (lv_at hl 6 rfl) ?_
      refine lv_iload_n hx hb dX0_areBacked_36 rfl (lv_at hl 1 rfl) ?_
      refine lv_icmp_ge (tgt := 93) hx hb dX0_areBacked_37 (by decide) (fun c37 => ?_) (fun c37 => ?_)
      · have hf := dz_t c37 hf
        refine lv_iload hx hb dX0_areBacked_93 (lv_at hl 5 rfl) ?_
        refine lv_if_ne (tgt := 100) hx hb dX0_areBacked_95 (by decide) (fun c95 => ?_) (fun c95 => ?_)
        · have hf := dz_f c95 hf
          refine lv_goto (tgt := 6) hx hb dX0_areBacked_100 (by decide) ?_
          exact ih.1 v0 v2 v3 v5 τ H locs cells slots hH hS hcs hss hcM ls (lv_sub hl [0, 1, 2, 3] rfl) hf
        · have hf := dz_t c95 hf
          refine lv_iconst (v := 0) hx hb dX0_areBacked_98 (by decide) ?_
          obtain ⟨hM1, hS1⟩ : cells = M ∧ slots = S := by have hq := congrArg Prod.snd (Option.some.inj hf); rw [← hq] at hM hS0; have hM : s.heap.size + M = τ.1 := hM; have hS0 : sl0 + S = τ.2.1 := hS0; omega
          refine W.widen (k := M) (n := S) (Nat.le_of_eq hM1) (Nat.le_of_eq hS1) ?_
          exact W.zret (v := 0) hx hb hr rfl (fun t ht hW => ⟨⟨0, τ, rfl, Option.some.inj hf, z_at ht hH⟩, hS.F ht⟩) hS.2.2 dX0_areBacked_99
      · have hf := dz_f c37 hf
        refine lv_iload hx hb dX0_areBacked_40 (lv_at hl 5 rfl) ?_
        refine lv_if_ne (tgt := 80) hx hb dX0_areBacked_42 (by decide) (fun c42 => ?_) (fun c42 => ?_)
        · have hf := dz_f c42 hf
          exact ih.2.2.1 v0 v2 v3 v5 v6 v8 τ H locs cells slots hH hS hcs hss hcM ls (lv_sub hl [0, 1, 2, 3, 4, 6] rfl) hf
        · have hf := dz_t c42 hf
          refine lv_lload_n hx hb dX0_areBacked_45 rfl (lv_at hl 2 rfl) ?_
          refine lv_iload hx hb dX0_areBacked_46 (lv_at hl 6 rfl) ?_
          refine lv_lshr hx hb dX0_areBacked_48 (rfl : _ = v3 >>> (Int32.toInt64 v8 &&& 63)) ?_
          refine lv_lconst (v := 1) hx hb dX0_areBacked_49 rfl ?_
          refine lv_land hx hb dX0_areBacked_50 ?_
          refine lv_lconst (v := 1) hx hb dX0_areBacked_51 rfl ?_
          refine W.lcmp hx hb dX0_areBacked_52 ?_
          refine lv_if_ne (tgt := 84) hx hb dX0_areBacked_53 (by decide) (fun c53 => ?_) (fun c53 => ?_)
          · have c53 : ¬ ((v3 >>> (Int32.toInt64 v8 &&& 63)) &&& 1) = (1 : Int64) := fun hq => c53 ((lg_cmp_eq _ _).mpr hq)
            have hf := dz_f c53 hf
            exact ih.2.2.2 v0 v2 v3 v5 v6 v8 τ H locs cells slots hH hS hcs hss hcM ls (lv_sub hl [0, 1, 2, 3, 4, 6] rfl) hf
          · have c53 : ((v3 >>> (Int32.toInt64 v8 &&& 63)) &&& 1) = (1 : Int64) := (lg_cmp_eq _ _).mp c53
            have hf := dz_t c53 hf
            refine lv_aload_n hx hb dX0_areBacked_56 rfl (lv_at hl 0 rfl) ?_
            obtain ⟨f1, hf1, hf⟩ := dz_bo hf
            obtain ⟨x2, hx2, hf⟩ := dz_bo hf
            refine va_get (C := RX0) (T := TX0) (N := 7) hx hb hts in_X0 hown hX.K (zrd_P hX hS hH (zob_o hf1)) 0 rfl rfl 0 (by decide) (hts _ q156) (fun _ hq => hq) (zvr_o hx2) dX0_areBacked_57 ?_
            refine lv_iload hx hb dX0_areBacked_60 (lv_at hl 6 rfl) ?_
            obtain ⟨f5, hf5, hf⟩ := dz_bo hf
            obtain ⟨x3, s4, hx3, hle, hck, hf⟩ := zcl_o hf
            have hc1 : cells + (s4.1 - τ.1) ≤ M := by omega
            have hs1 : slots + (s4.2.1 - τ.2.1) ≤ S := by omega
            refine va_callr (va_runV (As := [.int v8]) (rest := []) ⟨hx, hb, hml, hown, hts⟩ (mtJ2_get l D cA ζ τ x2 v8 K (x3, s4) hx3 (s4.1 - τ.1) (s4.2.1 - τ.2.1) (Nat.add_sub_cancel' hle.1) (Nat.add_sub_cancel' hle.2)) (cwV 1 hts (lw_V q204 q205 q206 q87 q207) rfl rfl rfl (by decide +kernel) ⟨Nat.le_of_ble_eq_true rfl, Nat.le_of_ble_eq_true rfl⟩) (z_preV hX hS hH (zob_o hf5) rfl) rfl rfl hl.1 rfl (lv_room (Nat.le_of_ble_eq_true rfl)) dX0_areBacked_62 ⟨hc1, hs1⟩) hS (fun q _ hq => hq) (fun q hq => hq) (fun u r t H1 locs ht hvm hw hB hz hk hS => ?_)
            obtain ⟨hw, hB⟩ := hB
            obtain ⟨hw1, hw2⟩ := Prod.mk.inj hw.symm; subst hw1; subst hw2
            have hH : zH D cA ζ s4 H1 := z_at ht.symm hB
            have hcs : s.heap.size + (cells + (s4.1 - τ.1)) = s4.1 := by omega
            have hss : sl0 + (slots + (s4.2.1 - τ.2.1)) = s4.2.1 := by omega
            replace hcM := And.intro hc1 hs1
            generalize cells + (s4.1 - τ.1) = cells at hcs hcM ⊢; generalize slots + (s4.2.1 - τ.2.1) = slots at hss hcM ⊢
            clear hB hk hz hvm ht hle hck hc1 hs1; generalize H1 = H at hH hS ⊢
            obtain ⟨cf6, f6, hcf6, hf⟩ := dz_co hf
            obtain ⟨hr_f6, hc_f6⟩ := zoL_o hcf6
            refine zL_cast hx hb hown (hts _ q218) hX hS hH hr_f6 hc_f6 dX0_areBacked_65 ?_
            obtain ⟨cf7, f7, hcf7, hf⟩ := dz_co hf
            obtain ⟨x8, hx8, hf⟩ := dz_bo hf
            obtain ⟨hr_f7, hc_f7⟩ := zoL_o hcf7
            refine zL_get0 hx hb hts hown hX hS hH hr_f7 hc_f7 (hts _ q541) (zvl_o hx8) dX0_areBacked_68 ?_
            refine lv_aload hx hb dX0_areBacked_71 (lv_at hl 4 rfl) ?_
            obtain ⟨f9, hf9, hf⟩ := dz_bo hf
            obtain ⟨x10, hx10, hf⟩ := dz_bo hf
            refine va_get (C := RX13) (T := TX13) (N := 3) hx hb hts in_X13 hown hX.K (zrd_P hX hS hH (zob_o hf9)) 0 rfl rfl 0 (by decide) (hts _ q686) (fun _ hq => hq) (zvl_o hx10) dX0_areBacked_73 ?_
            refine W.lcmp hx hb dX0_areBacked_76 ?_
            refine lv_if_ne (tgt := 84) hx hb dX0_areBacked_77 (by decide) (fun c77 => ?_) (fun c77 => ?_)
            · have c77 : ¬ x8 = x10 := fun hq => c77 ((lg_cmp_eq _ _).mpr hq)
              have hf := dz_f c77 hf
              exact ih.2.2.2 v0 v2 v3 v5 v6 v8 s4 H locs cells slots hH hS hcs hss hcM ls (lv_sub hl [0, 1, 2, 3, 4, 6] rfl) hf
            · have c77 : x8 = x10 := (lg_cmp_eq _ _).mp c77
              have hf := dz_t c77 hf
              exact ih.2.2.1 v0 v2 v3 v5 v6 v8 s4 H locs cells slots hH hS hcs hss hcM ls (lv_sub hl [0, 1, 2, 3, 4, 6] rfl) hf
    · intro v0 v2 v3 v5 v6 v8 τ H locs cells slots hH hS hcs hss hcM ls hl hf
      have hf : (dz_l (v8 + 1) fun x1 => (lfX0_areBacked K ζ k).2.1 v0 v2 v3 v5 v6 1 x1 τ : Option (Int32 × pH)) = some res := hf
      refine lv_iconst (v := 1) hx hb dX0_areBacked_80 (by decide) ?_
      refine lv_goto (tgt := 85) hx hb dX0_areBacked_81 (by decide) ?_
      refine lv_istore (lv' := [(7, .int 1), (0, .ref v0), (2, .int v2), (3, .long v3), (5, .ref v5), (6, .ref v6), (8, .int v8)]) hx hb dX0_areBacked_85 hl (by decide) rfl (fun ls hl => ?_)
      obtain ⟨x1, e_x1, hf⟩ := dz_lo hf
      refine lv_iinc (v := x1) (lv' := [(8, .int x1), (7, .int 1), (0, .ref v0), (2, .int v2), (3, .long v3), (5, .ref v5), (6, .ref v6)]) hx hb dX0_areBacked_87 hl (k := 6) rfl (by rw [e_x1]; rfl) (by decide) rfl (fun ls hl => ?_)
      refine lv_goto (tgt := 34) hx hb dX0_areBacked_90 (by decide) ?_
      exact ih.2.1 v0 v2 v3 v5 v6 1 x1 τ H locs cells slots hH hS hcs hss hcM ls (lv_sub hl [2, 3, 4, 5, 6, 1, 0] rfl) hf
    · intro v0 v2 v3 v5 v6 v8 τ H locs cells slots hH hS hcs hss hcM ls hl hf
      have hf : (dz_l (v8 + 1) fun x1 => (lfX0_areBacked K ζ k).2.1 v0 v2 v3 v5 v6 0 x1 τ : Option (Int32 × pH)) = some res := hf
      refine lv_iconst (v := 0) hx hb dX0_areBacked_84 (by decide) ?_
      refine lv_istore (lv' := [(7, .int 0), (0, .ref v0), (2, .int v2), (3, .long v3), (5, .ref v5), (6, .ref v6), (8, .int v8)]) hx hb dX0_areBacked_85 hl (by decide) rfl (fun ls hl => ?_)
      obtain ⟨x1, e_x1, hf⟩ := dz_lo hf
      refine lv_iinc (v := x1) (lv' := [(8, .int x1), (7, .int 0), (0, .ref v0), (2, .int v2), (3, .long v3), (5, .ref v5), (6, .ref v6)]) hx hb dX0_areBacked_87 hl (k := 6) rfl (by rw [e_x1]; rfl) (by decide) rfl (fun ls hl => ?_)
      refine lv_goto (tgt := 34) hx hb dX0_areBacked_90 (by decide) ?_
      exact ih.2.1 v0 v2 v3 v5 v6 0 x1 τ H locs cells slots hH hS hcs hss hcM ls (lv_sub hl [2, 3, 4, 5, 6, 1, 0] rfl) hf
set_option maxHeartbeats 4000000 in
set_option maxRecDepth 100000 in
theorem mtX0_areBacked (l : Launch) (D : va_G) (cA : Nat → ClassId) (ζ : pZ) (τ : pH) (h : Nat) (a0 : Nat) (a1 : Int32) (a2 : Int64) (K : Nat) (res : (Int32 × pH)) (hf : fnX0_areBacked K ζ h a0 a1 a2 τ = some res) (M S : Nat) (hM : τ.1 + M = res.2.1) (hS0 : τ.2.1 + S = res.2.2.1) : Met l yX0_areBacked (ws_ yX0_areBacked cX0_areBacked 9 (some .boolean)) ({ frames := 3, cells := M, slots := S, locals := 64 }) (zPc D cA ζ τ [.ref h, .ref a0, .int a1, .long a2]) (zQi D cA ζ res) M S (zA ζ) := by
  refine Met.ofW (cc := cX0_areBacked) (maxL := 9) (ret := some .boolean) (by decide +kernel) rfl ?_
  intro p e s m args below meth c s₁ B hml hv
  obtain ⟨rfl, hX, hH⟩ := hv
  have hx := B.exec
  have hb := B.bytes
  have hr := B.returns
  have hts := atoms_spec (ws := ws_ yX0_areBacked cX0_areBacked 9 (some .boolean)) B.pre
  have hts : ∀ w ∈ lw_all, w.before _ s = true := fun w h => hts w (List.mem_cons_of_mem _ h)
  have hown : s.vm.findClass RX0 = some m.cls := findClass_of_methodNamed B.named
  have hlocks := B.notSynchronized
  have hM : s.heap.size + M = res.2.1 := by rw [hH.1]; exact hM
  have hcs : s.heap.size + 0 = τ.1 := hH.1
  have hss : τ.2.1 + 0 = τ.2.1 := rfl
  generalize hsl0 : τ.2.1 = sl0 at hS0 hss
  have hss : sl0 + 0 = τ.2.1 := by rw [hsl0]; rfl
  have hS : va_S (zA ζ) s.heap s.heap [] := va_S.rf
  generalize hHe : s.heap = H at hH hS ⊢
  have hS : va_S (zA ζ) s.heap H [] := by rw [hHe]; exact hS
  generalize ([] : List Loc) = locs at hS ⊢
  have hl := lv_entry ([.ref h, .ref a0, .int a1, .long a2]) (n := 9) (Nat.le_of_ble_eq_true rfl)
  rw [lg_entry_eq]
  generalize (lg_sl ([.ref h, .ref a0, .int a1, .long a2]) ++ List.replicate (9 - (lg_sl ([.ref h, .ref a0, .int a1, .long a2])).length) Slot.unset).toArray = ls at hl ⊢
  have hl : lv_has ls 9 [(0, .ref h), (1, .ref a0), (2, .int a1), (3, .long a2)] := hl
  have hf : (dz_b (zob ζ τ a0 10) fun f3 => zcl τ (fnX8_iterator K ζ a0 τ) fun x1 s2 => (lfX0_areBacked K ζ K).1 h a1 a2 x1 s2 : Option (Int32 × pH)) = some res := hf
  refine z_gen (fun cells slots hc0 hs0 => ?_)
  have hcs : s.heap.size + cells = τ.1 := by rw [hc0]; exact hcs
  have hss : sl0 + slots = τ.2.1 := by rw [hs0]; exact hss
  have hcM : cells ≤ M ∧ slots ≤ S := by rw [hc0, hs0]; exact ⟨Nat.zero_le _, Nat.zero_le _⟩
  clear hc0 hs0
  have ih := wlX0_areBacked (l := l) (e := e) (below := below) (D := D) (cA := cA) hX K res M S sl0 hM hS0 h a0 a1 a2 hx hb hr hlocks hml hown hts K
  refine lv_aload_n hx hb dX0_areBacked_0 rfl (lv_at hl 1 rfl) ?_
  obtain ⟨f3, hf3, hf⟩ := dz_bo hf
  obtain ⟨x1, s2, hx1, hle, hck, hf⟩ := zcl_o hf
  have hc1 : cells + (s2.1 - τ.1) ≤ M := by omega
  have hs1 : slots + (s2.2.1 - τ.2.1) ≤ S := by omega
  refine va_callr (va_runV (As := []) (rest := []) ⟨hx, hb, hml, hown, hts⟩ (mtX8_iterator l D cA ζ τ a0 K (x1, s2) hx1 (s2.1 - τ.1) (s2.2.1 - τ.2.1) (Nat.add_sub_cancel' hle.1) (Nat.add_sub_cancel' hle.2)) (cwV 0 hts (lw_V q780 q246 q247 q98 q248) rfl rfl rfl (by decide +kernel) ⟨Nat.le_of_ble_eq_true rfl, Nat.le_of_ble_eq_true rfl⟩) (z_preV hX hS hH (zob_o hf3) rfl) rfl rfl hl.1 rfl (lv_room (Nat.le_of_ble_eq_true rfl)) dX0_areBacked_1 ⟨hc1, hs1⟩) hS (fun q _ hq => hq) (fun q hq => hq) (fun u r t H1 locs ht hvm hw hB hz hk hS => ?_)
  obtain ⟨hw, hB⟩ := hB
  obtain ⟨hw1, hw2⟩ := Prod.mk.inj hw.symm; subst hw1; subst hw2
  have hH : zH D cA ζ s2 H1 := z_at ht.symm hB
  have hcs : s.heap.size + (cells + (s2.1 - τ.1)) = s2.1 := by omega
  have hss : sl0 + (slots + (s2.2.1 - τ.2.1)) = s2.2.1 := by omega
  replace hcM := And.intro hc1 hs1
  generalize cells + (s2.1 - τ.1) = cells at hcs hcM ⊢; generalize slots + (s2.2.1 - τ.2.1) = slots at hss hcM ⊢
  clear hB hk hz hvm ht hle hck hc1 hs1; generalize H1 = H at hH hS ⊢
  refine lv_astore (lv' := [(5, .ref x1), (0, .ref h), (1, .ref a0), (2, .int a1), (3, .long a2)]) hx hb dX0_areBacked_4 hl (by decide) rfl (fun ls hl => ?_)
  exact ih.1 h a1 a2 x1 s2 H locs cells slots hH hS hcs hss hcM ls (lv_sub hl [1, 3, 4, 0] rfl) hf

noncomputable def lfX0_falls (K : Nat) (ζ : pZ) : Nat → (Nat → Int32 → Int64 → Int64 → Int32 → pH → Option (Int64 × pH)) × (Nat → Int32 → Int64 → Int64 → Int32 → pH → Option (Int64 × pH)) := Nat.rec (motive := fun _ => (Nat → Int32 → Int64 → Int64 → Int32 → pH → Option (Int64 × pH)) × (Nat → Int32 → Int64 → Int64 → Int32 → pH → Option (Int64 × pH))) ((fun _ _ _ _ _ _ => none), (fun _ _ _ _ _ _ => none)) (fun _ G => ((fun v0 v1 v2 v4 v6 τ => dz_b (zob ζ τ v0 0) fun f1 => dz_b (zvr (f1[0]?)) fun x2 => dz_b (zob ζ τ x2 14) fun f5 => zcl τ (fnJ2_size K ζ x2 τ) fun x3 s4 => if x3 ≤ v6 then (dz_l (v2 &&& (v4 ^^^ (-1))) fun x6 => some (x6, s4)) else (if v6 = v1 then (G.2 v0 v1 v2 v4 v6 s4) else (if ((v2 >>> (Int32.toInt64 v6 &&& 63)) &&& 1) = (1 : Int64) then (dz_b (zob ζ s4 v0 0) fun f7 => dz_b (zvr (f7[0]?)) fun x8 => dz_b (zob ζ s4 x8 14) fun f11 => zcl s4 (fnJ2_get K ζ x8 v6 s4) fun x9 s10 => dz_c (zoL ζ s10 x9) fun cf12 f12 => dz_c (zoL ζ s10 x9) fun cf13 f13 => dz_b (zvr (f13[4]?)) fun x14 => dz_b (zob ζ s10 v0 0) fun f17 => zcl s10 (fnX0_areBacked K ζ v0 x14 v6 v4 s10) fun x15 s16 => if x15 = (0 : Int32) then (G.2 v0 v1 v2 v4 v6 s16) else (dz_b (zob ζ s16 v0 0) fun f18 => dz_b (zvr (f18[0]?)) fun x19 => dz_b (zob ζ s16 x19 14) fun f22 => zcl s16 (fnJ2_get K ζ x19 v6 s16) fun x20 s21 => dz_c (zoL ζ s21 x20) fun cf23 f23 => dz_c (zoL ζ s21 x20) fun cf24 f24 => dz_b (zvr (f24[5]?)) fun x25 => dz_b (zob ζ s21 v0 0) fun f28 => zcl s21 (fnX0_areBacked K ζ v0 x25 v6 v4 s21) fun x26 s27 => if x26 = (0 : Int32) then (G.2 v0 v1 v2 v4 v6 s27) else (if (1 : Int32) = 0 then (dz_l (v4 ||| 0) fun x29 => dz_l (v6 + 1) fun x30 => G.1 v0 v1 v2 x29 x30 s27) else (dz_l (v4 ||| ((1 : Int64) <<< (Int32.toInt64 v6 &&& 63))) fun x31 => dz_l (v6 + 1) fun x32 => G.1 v0 v1 v2 x31 x32 s27)))) else (G.2 v0 v1 v2 v4 v6 s4)))), (fun v0 v1 v2 v4 v6 τ => if (0 : Int32) = 0 then (dz_l (v4 ||| 0) fun x1 => dz_l (v6 + 1) fun x2 => G.1 v0 v1 v2 x1 x2 τ) else (dz_l (v4 ||| ((1 : Int64) <<< (Int32.toInt64 v6 &&& 63))) fun x3 => dz_l (v6 + 1) fun x4 => G.1 v0 v1 v2 x3 x4 τ))))
noncomputable def fnX0_falls (K : Nat) (ζ : pZ) (h : Nat) (a0 : Int32) (τ : pH) : Option (Int64 × pH) := dz_b (zob ζ τ h 0) fun f3 => zcl τ (fnX0_isLine K ζ h a0 τ) fun x1 s2 => if x1 = (0 : Int32) then (some ((-1), s2)) else (dz_b (zob ζ s2 h 0) fun f6 => zcl s2 (fnX0_isRight K ζ h a0 s2) fun x4 s5 => if x4 = (0 : Int32) then (some ((-2), s5)) else (dz_b (zob ζ s5 h 0) fun f9 => zcl s5 (fnX0_right K ζ h s5) fun x7 s8 => (lfX0_falls K ζ K).1 h a0 x7 0 0 s8))
set_option maxHeartbeats 4000000 in
set_option maxRecDepth 100000 in
theorem wlX0_falls {p : Program} {l : Launch} {e : Env} {s : State} {m : MethodId} {below : List Frame} {meth : Method} {c : Code} {D : va_G} {cA : Nat → ClassId} {ζ : pZ} (hX : zX D cA ζ s) (K : Nat) (res : (Int64 × pH)) (M S sl0 : Nat) (hM : s.heap.size + M = res.2.1) (hS0 : sl0 + S = res.2.2.1) (h : Nat) (a0 : Int32) (hx : p.tables.exec = Jvm.exec) (hb : c.code = cX0_falls) (hr : meth.sig.returnType = some .long) (hlocks : meth.locks = false) (hml : c.maxLocals = 8) (hown : s.vm.findClass RX0 = some m.cls) (hts : ∀ w ∈ lw_all, w.before ([.ref h, .int a0] : List Value).toArray s = true) : ∀ k : Nat, (∀ (v0 : Nat) (v1 : Int32) (v2 : Int64) (v4 : Int64) (v6 : Int32) (τ : pH) (H : Heap) (locs : List Loc) (cells slots : Nat), zH D cA ζ τ H → va_S (zA ζ) s.heap H locs → s.heap.size + cells = τ.1 → sl0 + slots = τ.2.1 → cells ≤ M ∧ slots ≤ S → ∀ (ls : Array Slot), lv_has ls 8 [(0, .ref v0), (1, .int v1), (2, .long v2), (4, .long v4), (6, .int v6)] → (lfX0_falls K ζ k).1 v0 v1 v2 v4 v6 τ = some res → W p l e (headSpec (ws_ yX0_falls cX0_falls 8 (some .long)) ({ frames := 105, cells := M, slots := S, locals := 2418 })).room s m ([.ref h, .int a0] : List Value).toArray below meth c H locs cells slots (MQ below (zQl D cA ζ res) ([.ref h, .int a0] : List Value).toArray s M S (zA ζ)) (F0 m 35 ls [])) ∧ (∀ (v0 : Nat) (v1 : Int32) (v2 : Int64) (v4 : Int64) (v6 : Int32) (τ : pH) (H : Heap) (locs : List Loc) (cells slots : Nat), zH D cA ζ τ H → va_S (zA ζ) s.heap H locs → s.heap.size + cells = τ.1 → sl0 + slots = τ.2.1 → cells ≤ M ∧ slots ≤ S → ∀ (ls : Array Slot), lv_has ls 8 [(0, .ref v0), (1, .int v1), (2, .long v2), (4, .long v4), (6, .int v6)] → (lfX0_falls K ζ k).2 v0 v1 v2 v4 v6 τ = some res → W p l e (headSpec (ws_ yX0_falls cX0_falls 8 (some .long)) ({ frames := 105, cells := M, slots := S, locals := 2418 })).room s m ([.ref h, .int a0] : List Value).toArray below meth c H locs cells slots (MQ below (zQl D cA ζ res) ([.ref h, .int a0] : List Value).toArray s M S (zA ζ)) (F0 m 120 ls [])) := by
  intro k
  induction k with
  | zero =>
    exact ⟨fun _ _ _ _ _ _ _ _ _ _ _ _ _ _ _ _ _ hf => (by cases hf), fun _ _ _ _ _ _ _ _ _ _ _ _ _ _ _ _ _ hf => (by cases hf)⟩
  | succ k ih =>
    refine ⟨?_, ?_⟩
    · intro v0 v1 v2 v4 v6 τ H locs cells slots hH hS hcs hss hcM ls hl hf
      have hf : (dz_b (zob ζ τ v0 0) fun f1 => dz_b (zvr (f1[0]?)) fun x2 => dz_b (zob ζ τ x2 14) fun f5 => zcl τ (fnJ2_size K ζ x2 τ) fun x3 s4 => if x3 ≤ v6 then (dz_l (v2 &&& (v4 ^^^ (-1))) fun x6 => some (x6, s4)) else (if v6 = v1 then ((lfX0_falls K ζ k).2 v0 v1 v2 v4 v6 s4) else (if ((v2 >>> (Int32.toInt64 v6 &&& 63)) &&& 1) = (1 : Int64) then (dz_b (zob ζ s4 v0 0) fun f7 => dz_b (zvr (f7[0]?)) fun x8 => dz_b (zob ζ s4 x8 14) fun f11 => zcl s4 (fnJ2_get K ζ x8 v6 s4) fun x9 s10 => dz_c (zoL ζ s10 x9) fun cf12 f12 => dz_c (zoL ζ s10 x9) fun cf13 f13 => dz_b (zvr (f13[4]?)) fun x14 => dz_b (zob ζ s10 v0 0) fun f17 => zcl s10 (fnX0_areBacked K ζ v0 x14 v6 v4 s10) fun x15 s16 => if x15 = (0 : Int32) then ((lfX0_falls K ζ k).2 v0 v1 v2 v4 v6 s16) else (dz_b (zob ζ s16 v0 0) fun f18 => dz_b (zvr (f18[0]?)) fun x19 => dz_b (zob ζ s16 x19 14) fun f22 => zcl s16 (fnJ2_get K ζ x19 v6 s16) fun x20 s21 => dz_c (zoL ζ s21 x20) fun cf23 f23 => dz_c (zoL ζ s21 x20) fun cf24 f24 => dz_b (zvr (f24[5]?)) fun x25 => dz_b (zob ζ s21 v0 0) fun f28 => zcl s21 (fnX0_areBacked K ζ v0 x25 v6 v4 s21) fun x26 s27 => if x26 = (0 : Int32) then ((lfX0_falls K ζ k).2 v0 v1 v2 v4 v6 s27) else (if (1 : Int32) = 0 then (dz_l (v4 ||| 0) fun x29 => dz_l (v6 + 1) fun x30 => (lfX0_falls K ζ k).1 v0 v1 v2 x29 x30 s27) else (dz_l (v4 ||| ((1 : Int64) <<< (Int32.toInt64 v6 &&& 63))) fun x31 => dz_l (v6 + 1) fun x32 => (lfX0_falls K ζ k).1 v0 v1 v2 x31 x32 s27)))) else ((lfX0_falls K ζ k).2 v0 v1 v2 v4 v6 s4))) : Option (Int64 × pH)) = some res := hf
      refine lv_iload hx hb dX0_falls_35 (lv_at hl 4 rfl) ?_
      refine lv_aload_n hx hb dX0_falls_37 rfl (lv_at hl 0 rfl) ?_
      obtain ⟨f1, hf1, hf⟩ := dz_bo hf
      obtain ⟨x2, hx2, hf⟩ := dz_bo hf
      refine va_get (C := RX0) (T := TX0) (N := 7) hx hb hts in_X0 hown hX.K (zrd_P hX hS hH (zob_o hf1)) 0 rfl rfl 0 (by decide) (hts _ q156) (fun _ hq => hq) (zvr_o hx2) dX0_falls_38 ?_
      obtain ⟨f5, hf5, hf⟩ := dz_bo hf
      obtain ⟨x3, s4, hx3, hle, hck, hf⟩ := zcl_o hf
      have hc1 : cells + (s4.1 - τ.1) ≤ M := by omega
      have hs1 : slots + (s4.2.1 - τ.2.1) ≤ S := by omega
      refine va_calli (va_runV (As := []) (rest := [.int v6]) ⟨hx, hb, hml, hown, hts⟩ (mtJ2_size l D cA ζ τ x2 K (x3, s4) hx3 (s4.1 - τ.1) (s4.2.1 - τ.2.1) (Nat.add_sub_cancel' hle.1) (Nat.add_sub_cancel' hle.2)) (cwV 0 hts (lw_V q200 q201 q202 q87 q203) rfl rfl rfl (by decide +kernel) ⟨Nat.le_of_ble_eq_true rfl, Nat.le_of_ble_eq_true rfl⟩) (z_preV hX hS hH (zob_o hf5) rfl) rfl rfl hl.1 rfl (lv_room (Nat.le_of_ble_eq_true rfl)) dX0_falls_41 ⟨hc1, hs1⟩) hS (fun q _ hq => hq) (fun q hq => hq) (fun r u t H1 locs ht hvm hw hB hz hk hS => ?_)
      obtain ⟨hw1, hw2⟩ := Prod.mk.inj hw.symm; subst hw1; subst hw2
      have hH : zH D cA ζ s4 H1 := z_at ht.symm hB
      have hcs : s.heap.size + (cells + (s4.1 - τ.1)) = s4.1 := by omega
      have hss : sl0 + (slots + (s4.2.1 - τ.2.1)) = s4.2.1 := by omega
      replace hcM := And.intro hc1 hs1
      generalize cells + (s4.1 - τ.1) = cells at hcs hcM ⊢; generalize slots + (s4.2.1 - τ.2.1) = slots at hss hcM ⊢
      clear hB hk hz hvm ht hle hck hc1 hs1; generalize H1 = H at hH hS ⊢
      refine lv_icmp_ge (tgt := 147) hx hb dX0_falls_44 (by decide) (fun c44 => ?_) (fun c44 => ?_)
      · have hf := dz_t c44 hf
        refine lv_lload_n hx hb dX0_falls_147 rfl (lv_at hl 2 rfl) ?_
        refine lv_lload hx hb dX0_falls_148 (lv_at hl 3 rfl) ?_
        refine lv_ldc2 (v := (-1)) hx hb hown (hts _ q1438) dX0_falls_150 ?_
        refine lv_lxor hx hb dX0_falls_153 ?_
        refine lv_land hx hb dX0_falls_154 ?_
        refine lv_topl (fun x6 e_x6 => ?_)
        have hf := dz_ls e_x6 hf
        obtain ⟨hM1, hS1⟩ : cells = M ∧ slots = S := by have hq := congrArg Prod.snd (Option.some.inj hf); rw [← hq] at hM hS0; have hM : s.heap.size + M = s4.1 := hM; have hS0 : sl0 + S = s4.2.1 := hS0; omega
        refine W.widen (k := M) (n := S) (Nat.le_of_eq hM1) (Nat.le_of_eq hS1) ?_
        exact W.lret (v := x6) hx hb hr (fun t ht hW => ⟨⟨x6, s4, rfl, Option.some.inj hf, z_at ht hH⟩, hS.F ht⟩) hS.2.2 dX0_falls_155
      · have hf := dz_f c44 hf
        refine lv_iload hx hb dX0_falls_47 (lv_at hl 4 rfl) ?_
        refine lv_iload_n hx hb dX0_falls_49 rfl (lv_at hl 1 rfl) ?_
        refine lv_icmp_eq (tgt := 120) hx hb dX0_falls_50 (by decide) (fun c50 => ?_) (fun c50 => ?_)
        · have hf := dz_t c50 hf
          exact ih.2 v0 v1 v2 v4 v6 s4 H locs cells slots hH hS hcs hss hcM ls (lv_sub hl [0, 1, 2, 3, 4] rfl) hf
        · have hf := dz_f c50 hf
          refine lv_lload_n hx hb dX0_falls_53 rfl (lv_at hl 2 rfl) ?_
          refine lv_iload hx hb dX0_falls_54 (lv_at hl 4 rfl) ?_
          refine lv_lshr hx hb dX0_falls_56 (rfl : _ = v2 >>> (Int32.toInt64 v6 &&& 63)) ?_
          refine lv_lconst (v := 1) hx hb dX0_falls_57 rfl ?_
          refine lv_land hx hb dX0_falls_58 ?_
          refine lv_lconst (v := 1) hx hb dX0_falls_59 rfl ?_
          refine W.lcmp hx hb dX0_falls_60 ?_
          refine lv_if_ne (tgt := 120) hx hb dX0_falls_61 (by decide) (fun c61 => ?_) (fun c61 => ?_)
          · have c61 : ¬ ((v2 >>> (Int32.toInt64 v6 &&& 63)) &&& 1) = (1 : Int64) := fun hq => c61 ((lg_cmp_eq _ _).mpr hq)
            have hf := dz_f c61 hf
            exact ih.2 v0 v1 v2 v4 v6 s4 H locs cells slots hH hS hcs hss hcM ls (lv_sub hl [0, 1, 2, 3, 4] rfl) hf
          · have c61 : ((v2 >>> (Int32.toInt64 v6 &&& 63)) &&& 1) = (1 : Int64) := (lg_cmp_eq _ _).mp c61
            have hf := dz_t c61 hf
            refine lv_aload_n hx hb dX0_falls_64 rfl (lv_at hl 0 rfl) ?_
            refine lv_aload_n hx hb dX0_falls_65 rfl (lv_at hl 0 rfl) ?_
            obtain ⟨f7, hf7, hf⟩ := dz_bo hf
            obtain ⟨x8, hx8, hf⟩ := dz_bo hf
            refine va_get (C := RX0) (T := TX0) (N := 7) hx hb hts in_X0 hown hX.K (zrd_P hX hS hH (zob_o hf7)) 0 rfl rfl 0 (by decide) (hts _ q156) (fun _ hq => hq) (zvr_o hx8) dX0_falls_66 ?_
            refine lv_iload hx hb dX0_falls_69 (lv_at hl 4 rfl) ?_
            obtain ⟨f11, hf11, hf⟩ := dz_bo hf
            obtain ⟨x9, s10, hx9, hle, hck, hf⟩ := zcl_o hf
            have hc1 : cells + (s10.1 - s4.1) ≤ M := by omega
            have hs1 : slots + (s10.2.1 - s4.2.1) ≤ S := by omega
            refine va_callr (va_runV (As := [.int v6]) (rest := [.ref v0]) ⟨hx, hb, hml, hown, hts⟩ (mtJ2_get l D cA ζ s4 x8 v6 K (x9, s10) hx9 (s10.1 - s4.1) (s10.2.1 - s4.2.1) (Nat.add_sub_cancel' hle.1) (Nat.add_sub_cancel' hle.2)) (cwV 1 hts (lw_V q204 q205 q206 q87 q207) rfl rfl rfl (by decide +kernel) ⟨Nat.le_of_ble_eq_true rfl, Nat.le_of_ble_eq_true rfl⟩) (z_preV hX hS hH (zob_o hf11) rfl) rfl rfl hl.1 rfl (lv_room (Nat.le_of_ble_eq_true rfl)) dX0_falls_71 ⟨hc1, hs1⟩) hS (fun q _ hq => hq) (fun q hq => hq) (fun u r t H1 locs ht hvm hw hB hz hk hS => ?_)
            obtain ⟨hw, hB⟩ := hB
            obtain ⟨hw1, hw2⟩ := Prod.mk.inj hw.symm; subst hw1; subst hw2
            have hH : zH D cA ζ s10 H1 := z_at ht.symm hB
            have hcs : s.heap.size + (cells + (s10.1 - s4.1)) = s10.1 := by omega
            have hss : sl0 + (slots + (s10.2.1 - s4.2.1)) = s10.2.1 := by omega
            replace hcM := And.intro hc1 hs1
            generalize cells + (s10.1 - s4.1) = cells at hcs hcM ⊢; generalize slots + (s10.2.1 - s4.2.1) = slots at hss hcM ⊢
            clear hB hk hz hvm ht hle hck hc1 hs1; generalize H1 = H at hH hS ⊢
            obtain ⟨cf12, f12, hcf12, hf⟩ := dz_co hf
            obtain ⟨hr_f12, hc_f12⟩ := zoL_o hcf12
            refine zL_cast hx hb hown (hts _ q218) hX hS hH hr_f12 hc_f12 dX0_falls_74 ?_
            obtain ⟨cf13, f13, hcf13, hf⟩ := dz_co hf
            obtain ⟨x14, hx14, hf⟩ := dz_bo hf
            obtain ⟨hr_f13, hc_f13⟩ := zoL_o hcf13
            refine zL_get4 hx hb hts hown hX hS hH hr_f13 hc_f13 (hts _ q558) (zvr_o hx14) dX0_falls_77 ?_
            refine lv_iload hx hb dX0_falls_80 (lv_at hl 4 rfl) ?_
            refine lv_lload hx hb dX0_falls_82 (lv_at hl 3 rfl) ?_
            obtain ⟨f17, hf17, hf⟩ := dz_bo hf
            obtain ⟨x15, s16, hx15, hle, hck, hf⟩ := zcl_o hf
            have hc1 : cells + (s16.1 - s10.1) ≤ M := by omega
            have hs1 : slots + (s16.2.1 - s10.2.1) ≤ S := by omega
            refine va_calli (va_runV (As := [.ref x14, .int v6, .long v4]) (rest := []) ⟨hx, hb, hml, hown, hts⟩ (mtX0_areBacked l D cA ζ s10 v0 x14 v6 v4 K (x15, s16) hx15 (s16.1 - s10.1) (s16.2.1 - s10.2.1) (Nat.add_sub_cancel' hle.1) (Nat.add_sub_cancel' hle.2)) (cwV 3 hts (lw_V q1449 q1451 qs34 q84 q1452) rfl rfl rfl (by decide +kernel) ⟨Nat.le_of_ble_eq_true rfl, Nat.le_of_ble_eq_true rfl⟩) (z_preV hX hS hH (zob_o hf17) rfl) rfl rfl hl.1 rfl (lv_room (Nat.le_of_ble_eq_true rfl)) dX0_falls_84 ⟨hc1, hs1⟩) hS (fun q _ hq => hq) (fun q hq => hq) (fun r u t H1 locs ht hvm hw hB hz hk hS => ?_)
            obtain ⟨hw1, hw2⟩ := Prod.mk.inj hw.symm; subst hw1; subst hw2
            have hH : zH D cA ζ s16 H1 := z_at ht.symm hB
            have hcs : s.heap.size + (cells + (s16.1 - s10.1)) = s16.1 := by omega
            have hss : sl0 + (slots + (s16.2.1 - s10.2.1)) = s16.2.1 := by omega
            replace hcM := And.intro hc1 hs1
            generalize cells + (s16.1 - s10.1) = cells at hcs hcM ⊢; generalize slots + (s16.2.1 - s10.2.1) = slots at hss hcM ⊢
            clear hB hk hz hvm ht hle hck hc1 hs1; generalize H1 = H at hH hS ⊢
            refine lv_if_eq (tgt := 120) hx hb dX0_falls_87 (by decide) (fun c87 => ?_) (fun c87 => ?_)
            · have hf := dz_t c87 hf
              exact ih.2 v0 v1 v2 v4 v6 s16 H locs cells slots hH hS hcs hss hcM ls (lv_sub hl [0, 1, 2, 3, 4] rfl) hf
            · have hf := dz_f c87 hf
              refine lv_aload_n hx hb dX0_falls_90 rfl (lv_at hl 0 rfl) ?_
              refine lv_aload_n hx hb dX0_falls_91 rfl (lv_at hl 0 rfl) ?_
              obtain ⟨f18, hf18, hf⟩ := dz_bo hf
              obtain ⟨x19, hx19, hf⟩ := dz_bo hf
              refine va_get (C := RX0) (T := TX0) (N := 7) hx hb hts in_X0 hown hX.K (zrd_P hX hS hH (zob_o hf18)) 0 rfl rfl 0 (by decide) (hts _ q156) (fun _ hq => hq) (zvr_o hx19) dX0_falls_92 ?_
              refine lv_iload hx hb dX0_falls_95 (lv_at hl 4 rfl) ?_
              obtain ⟨f22, hf22, hf⟩ := dz_bo hf
              obtain ⟨x20, s21, hx20, hle, hck, hf⟩ := zcl_o hf
              have hc1 : cells + (s21.1 - s16.1) ≤ M := by omega
              have hs1 : slots + (s21.2.1 - s16.2.1) ≤ S := by omega
              refine va_callr (va_runV (As := [.int v6]) (rest := [.ref v0]) ⟨hx, hb, hml, hown, hts⟩ (mtJ2_get l D cA ζ s16 x19 v6 K (x20, s21) hx20 (s21.1 - s16.1) (s21.2.1 - s16.2.1) (Nat.add_sub_cancel' hle.1) (Nat.add_sub_cancel' hle.2)) (cwV 1 hts (lw_V q204 q205 q206 q87 q207) rfl rfl rfl (by decide +kernel) ⟨Nat.le_of_ble_eq_true rfl, Nat.le_of_ble_eq_true rfl⟩) (z_preV hX hS hH (zob_o hf22) rfl) rfl rfl hl.1 rfl (lv_room (Nat.le_of_ble_eq_true rfl)) dX0_falls_97 ⟨hc1, hs1⟩) hS (fun q _ hq => hq) (fun q hq => hq) (fun u r t H1 locs ht hvm hw hB hz hk hS => ?_)
              obtain ⟨hw, hB⟩ := hB
              obtain ⟨hw1, hw2⟩ := Prod.mk.inj hw.symm; subst hw1; subst hw2
              have hH : zH D cA ζ s21 H1 := z_at ht.symm hB
              have hcs : s.heap.size + (cells + (s21.1 - s16.1)) = s21.1 := by omega
              have hss : sl0 + (slots + (s21.2.1 - s16.2.1)) = s21.2.1 := by omega
              replace hcM := And.intro hc1 hs1
              generalize cells + (s21.1 - s16.1) = cells at hcs hcM ⊢; generalize slots + (s21.2.1 - s16.2.1) = slots at hss hcM ⊢
              clear hB hk hz hvm ht hle hck hc1 hs1; generalize H1 = H at hH hS ⊢
              obtain ⟨cf23, f23, hcf23, hf⟩ := dz_co hf
              obtain ⟨hr_f23, hc_f23⟩ := zoL_o hcf23
              refine zL_cast hx hb hown (hts _ q218) hX hS hH hr_f23 hc_f23 dX0_falls_100 ?_
              obtain ⟨cf24, f24, hcf24, hf⟩ := dz_co hf
              obtain ⟨x25, hx25, hf⟩ := dz_bo hf
              obtain ⟨hr_f24, hc_f24⟩ := zoL_o hcf24
              refine zL_get5 hx hb hts hown hX hS hH hr_f24 hc_f24 (hts _ q565) (zvr_o hx25) dX0_falls_103 ?_
              refine lv_iload hx hb dX0_falls_106 (lv_at hl 4 rfl) ?_
              refine lv_lload hx hb dX0_falls_108 (lv_at hl 3 rfl) ?_
              obtain ⟨f28, hf28, hf⟩ := dz_bo hf
              obtain ⟨x26, s27, hx26, hle, hck, hf⟩ := zcl_o hf
              have hc1 : cells + (s27.1 - s21.1) ≤ M := by omega
              have hs1 : slots + (s27.2.1 - s21.2.1) ≤ S := by omega
              refine va_calli (va_runV (As := [.ref x25, .int v6, .long v4]) (rest := []) ⟨hx, hb, hml, hown, hts⟩ (mtX0_areBacked l D cA ζ s21 v0 x25 v6 v4 K (x26, s27) hx26 (s27.1 - s21.1) (s27.2.1 - s21.2.1) (Nat.add_sub_cancel' hle.1) (Nat.add_sub_cancel' hle.2)) (cwV 3 hts (lw_V q1449 q1451 qs34 q84 q1452) rfl rfl rfl (by decide +kernel) ⟨Nat.le_of_ble_eq_true rfl, Nat.le_of_ble_eq_true rfl⟩) (z_preV hX hS hH (zob_o hf28) rfl) rfl rfl hl.1 rfl (lv_room (Nat.le_of_ble_eq_true rfl)) dX0_falls_110 ⟨hc1, hs1⟩) hS (fun q _ hq => hq) (fun q hq => hq) (fun r u t H1 locs ht hvm hw hB hz hk hS => ?_)
              obtain ⟨hw1, hw2⟩ := Prod.mk.inj hw.symm; subst hw1; subst hw2
              have hH : zH D cA ζ s27 H1 := z_at ht.symm hB
              have hcs : s.heap.size + (cells + (s27.1 - s21.1)) = s27.1 := by omega
              have hss : sl0 + (slots + (s27.2.1 - s21.2.1)) = s27.2.1 := by omega
              replace hcM := And.intro hc1 hs1
              generalize cells + (s27.1 - s21.1) = cells at hcs hcM ⊢; generalize slots + (s27.2.1 - s21.2.1) = slots at hss hcM ⊢
              clear hB hk hz hvm ht hle hck hc1 hs1; generalize H1 = H at hH hS ⊢
              refine lv_if_eq (tgt := 120) hx hb dX0_falls_113 (by decide) (fun c113 => ?_) (fun c113 => ?_)
              · have hf := dz_t c113 hf
                exact ih.2 v0 v1 v2 v4 v6 s27 H locs cells slots hH hS hcs hss hcM ls (lv_sub hl [0, 1, 2, 3, 4] rfl) hf
              · have hf := dz_f c113 hf
                refine lv_iconst (v := 1) hx hb dX0_falls_116 (by decide) ?_
                refine lv_goto (tgt := 121) hx hb dX0_falls_117 (by decide) ?_
                refine lv_istore (lv' := [(7, .int 1), (0, .ref v0), (1, .int v1), (2, .long v2), (4, .long v4), (6, .int v6)]) hx hb dX0_falls_121 hl (by decide) rfl (fun ls hl => ?_)
                refine lv_lload hx hb dX0_falls_123 (lv_at hl 4 rfl) ?_
                refine lv_iload hx hb dX0_falls_125 (lv_at hl 0 rfl) ?_
                refine lv_if_eq (tgt := 137) hx hb dX0_falls_127 (by decide) (fun c127 => ?_) (fun c127 => ?_)
                · have hf := dz_t c127 hf
                  refine lv_lconst (v := 0) hx hb dX0_falls_137 rfl ?_
                  refine lv_lor hx hb dX0_falls_138 ?_
                  refine lv_topl (fun x29 e_x29 => ?_)
                  have hf := dz_ls e_x29 hf
                  refine lv_lstore (lv' := [(4, .long x29), (7, .int 1), (0, .ref v0), (1, .int v1), (2, .long v2), (6, .int v6)]) hx hb dX0_falls_139 hl (by decide) rfl (fun ls hl => ?_)
                  obtain ⟨x30, e_x30, hf⟩ := dz_lo hf
                  refine lv_iinc (v := x30) (lv' := [(6, .int x30), (4, .long x29), (7, .int 1), (0, .ref v0), (1, .int v1), (2, .long v2)]) hx hb dX0_falls_141 hl (k := 5) rfl (by rw [e_x30]; rfl) (by decide) rfl (fun ls hl => ?_)
                  refine lv_goto (tgt := 35) hx hb dX0_falls_144 (by decide) ?_
                  exact ih.1 v0 v1 v2 x29 x30 s27 H locs cells slots hH hS hcs hss hcM ls (lv_sub hl [3, 4, 5, 1, 0] rfl) hf
                · have hf := dz_f c127 hf
                  refine lv_lconst (v := 1) hx hb dX0_falls_130 rfl ?_
                  refine lv_iload hx hb dX0_falls_131 (lv_at hl 5 rfl) ?_
                  refine lv_lshl hx hb dX0_falls_133 (rfl : _ = (1 : Int64) <<< (Int32.toInt64 v6 &&& 63)) ?_
                  refine lv_goto (tgt := 138) hx hb dX0_falls_134 (by decide) ?_
                  refine lv_lor hx hb dX0_falls_138 ?_
                  refine lv_topl (fun x31 e_x31 => ?_)
                  have hf := dz_ls e_x31 hf
                  refine lv_lstore (lv' := [(4, .long x31), (7, .int 1), (0, .ref v0), (1, .int v1), (2, .long v2), (6, .int v6)]) hx hb dX0_falls_139 hl (by decide) rfl (fun ls hl => ?_)
                  obtain ⟨x32, e_x32, hf⟩ := dz_lo hf
                  refine lv_iinc (v := x32) (lv' := [(6, .int x32), (4, .long x31), (7, .int 1), (0, .ref v0), (1, .int v1), (2, .long v2)]) hx hb dX0_falls_141 hl (k := 5) rfl (by rw [e_x32]; rfl) (by decide) rfl (fun ls hl => ?_)
                  refine lv_goto (tgt := 35) hx hb dX0_falls_144 (by decide) ?_
                  exact ih.1 v0 v1 v2 x31 x32 s27 H locs cells slots hH hS hcs hss hcM ls (lv_sub hl [3, 4, 5, 1, 0] rfl) hf
    · intro v0 v1 v2 v4 v6 τ H locs cells slots hH hS hcs hss hcM ls hl hf
      have hf : (if (0 : Int32) = 0 then (dz_l (v4 ||| 0) fun x1 => dz_l (v6 + 1) fun x2 => (lfX0_falls K ζ k).1 v0 v1 v2 x1 x2 τ) else (dz_l (v4 ||| ((1 : Int64) <<< (Int32.toInt64 v6 &&& 63))) fun x3 => dz_l (v6 + 1) fun x4 => (lfX0_falls K ζ k).1 v0 v1 v2 x3 x4 τ) : Option (Int64 × pH)) = some res := hf
      refine lv_iconst (v := 0) hx hb dX0_falls_120 (by decide) ?_
      refine lv_istore (lv' := [(7, .int 0), (0, .ref v0), (1, .int v1), (2, .long v2), (4, .long v4), (6, .int v6)]) hx hb dX0_falls_121 hl (by decide) rfl (fun ls hl => ?_)
      refine lv_lload hx hb dX0_falls_123 (lv_at hl 4 rfl) ?_
      refine lv_iload hx hb dX0_falls_125 (lv_at hl 0 rfl) ?_
      refine lv_if_eq (tgt := 137) hx hb dX0_falls_127 (by decide) (fun c127 => ?_) (fun c127 => ?_)
      · have hf := dz_t c127 hf
        refine lv_lconst (v := 0) hx hb dX0_falls_137 rfl ?_
        refine lv_lor hx hb dX0_falls_138 ?_
        refine lv_topl (fun x1 e_x1 => ?_)
        have hf := dz_ls e_x1 hf
        refine lv_lstore (lv' := [(4, .long x1), (7, .int 0), (0, .ref v0), (1, .int v1), (2, .long v2), (6, .int v6)]) hx hb dX0_falls_139 hl (by decide) rfl (fun ls hl => ?_)
        obtain ⟨x2, e_x2, hf⟩ := dz_lo hf
        refine lv_iinc (v := x2) (lv' := [(6, .int x2), (4, .long x1), (7, .int 0), (0, .ref v0), (1, .int v1), (2, .long v2)]) hx hb dX0_falls_141 hl (k := 5) rfl (by rw [e_x2]; rfl) (by decide) rfl (fun ls hl => ?_)
        refine lv_goto (tgt := 35) hx hb dX0_falls_144 (by decide) ?_
        exact ih.1 v0 v1 v2 x1 x2 τ H locs cells slots hH hS hcs hss hcM ls (lv_sub hl [3, 4, 5, 1, 0] rfl) hf
      · have hf := dz_f c127 hf
        refine lv_lconst (v := 1) hx hb dX0_falls_130 rfl ?_
        refine lv_iload hx hb dX0_falls_131 (lv_at hl 5 rfl) ?_
        refine lv_lshl hx hb dX0_falls_133 (rfl : _ = (1 : Int64) <<< (Int32.toInt64 v6 &&& 63)) ?_
        refine lv_goto (tgt := 138) hx hb dX0_falls_134 (by decide) ?_
        refine lv_lor hx hb dX0_falls_138 ?_
        refine lv_topl (fun x3 e_x3 => ?_)
        have hf := dz_ls e_x3 hf
        refine lv_lstore (lv' := [(4, .long x3), (7, .int 0), (0, .ref v0), (1, .int v1), (2, .long v2), (6, .int v6)]) hx hb dX0_falls_139 hl (by decide) rfl (fun ls hl => ?_)
        obtain ⟨x4, e_x4, hf⟩ := dz_lo hf
        refine lv_iinc (v := x4) (lv' := [(6, .int x4), (4, .long x3), (7, .int 0), (0, .ref v0), (1, .int v1), (2, .long v2)]) hx hb dX0_falls_141 hl (k := 5) rfl (by rw [e_x4]; rfl) (by decide) rfl (fun ls hl => ?_)
        refine lv_goto (tgt := 35) hx hb dX0_falls_144 (by decide) ?_
        exact ih.1 v0 v1 v2 x3 x4 τ H locs cells slots hH hS hcs hss hcM ls (lv_sub hl [3, 4, 5, 1, 0] rfl) hf
set_option maxHeartbeats 4000000 in
set_option maxRecDepth 100000 in
theorem mtX0_falls (l : Launch) (D : va_G) (cA : Nat → ClassId) (ζ : pZ) (τ : pH) (h : Nat) (a0 : Int32) (K : Nat) (res : (Int64 × pH)) (hf : fnX0_falls K ζ h a0 τ = some res) (M S : Nat) (hM : τ.1 + M = res.2.1) (hS0 : τ.2.1 + S = res.2.2.1) : Met l yX0_falls (ws_ yX0_falls cX0_falls 8 (some .long)) ({ frames := 105, cells := M, slots := S, locals := 2418 }) (zPc D cA ζ τ [.ref h, .int a0]) (zQl D cA ζ res) M S (zA ζ) := by
  refine Met.ofW (cc := cX0_falls) (maxL := 8) (ret := some .long) (by decide +kernel) rfl ?_
  intro p e s m args below meth c s₁ B hml hv
  obtain ⟨rfl, hX, hH⟩ := hv
  have hx := B.exec
  have hb := B.bytes
  have hr := B.returns
  have hts := atoms_spec (ws := ws_ yX0_falls cX0_falls 8 (some .long)) B.pre
  have hts : ∀ w ∈ lw_all, w.before _ s = true := fun w h => hts w (List.mem_cons_of_mem _ h)
  have hown : s.vm.findClass RX0 = some m.cls := findClass_of_methodNamed B.named
  have hlocks := B.notSynchronized
  have hM : s.heap.size + M = res.2.1 := by rw [hH.1]; exact hM
  have hcs : s.heap.size + 0 = τ.1 := hH.1
  have hss : τ.2.1 + 0 = τ.2.1 := rfl
  generalize hsl0 : τ.2.1 = sl0 at hS0 hss
  have hss : sl0 + 0 = τ.2.1 := by rw [hsl0]; rfl
  have hS : va_S (zA ζ) s.heap s.heap [] := va_S.rf
  generalize hHe : s.heap = H at hH hS ⊢
  have hS : va_S (zA ζ) s.heap H [] := by rw [hHe]; exact hS
  generalize ([] : List Loc) = locs at hS ⊢
  have hl := lv_entry ([.ref h, .int a0]) (n := 8) (Nat.le_of_ble_eq_true rfl)
  rw [lg_entry_eq]
  generalize (lg_sl ([.ref h, .int a0]) ++ List.replicate (8 - (lg_sl ([.ref h, .int a0])).length) Slot.unset).toArray = ls at hl ⊢
  have hl : lv_has ls 8 [(0, .ref h), (1, .int a0)] := hl
  have hf : (dz_b (zob ζ τ h 0) fun f3 => zcl τ (fnX0_isLine K ζ h a0 τ) fun x1 s2 => if x1 = (0 : Int32) then (some ((-1), s2)) else (dz_b (zob ζ s2 h 0) fun f6 => zcl s2 (fnX0_isRight K ζ h a0 s2) fun x4 s5 => if x4 = (0 : Int32) then (some ((-2), s5)) else (dz_b (zob ζ s5 h 0) fun f9 => zcl s5 (fnX0_right K ζ h s5) fun x7 s8 => (lfX0_falls K ζ K).1 h a0 x7 0 0 s8)) : Option (Int64 × pH)) = some res := hf
  refine z_gen (fun cells slots hc0 hs0 => ?_)
  have hcs : s.heap.size + cells = τ.1 := by rw [hc0]; exact hcs
  have hss : sl0 + slots = τ.2.1 := by rw [hs0]; exact hss
  have hcM : cells ≤ M ∧ slots ≤ S := by rw [hc0, hs0]; exact ⟨Nat.zero_le _, Nat.zero_le _⟩
  clear hc0 hs0
  have ih := wlX0_falls (l := l) (e := e) (below := below) (D := D) (cA := cA) hX K res M S sl0 hM hS0 h a0 hx hb hr hlocks hml hown hts K
  refine lv_aload_n hx hb dX0_falls_0 rfl (lv_at hl 0 rfl) ?_
  refine lv_iload_n hx hb dX0_falls_1 rfl (lv_at hl 1 rfl) ?_
  obtain ⟨f3, hf3, hf⟩ := dz_bo hf
  obtain ⟨x1, s2, hx1, hle, hck, hf⟩ := zcl_o hf
  have hc1 : cells + (s2.1 - τ.1) ≤ M := by omega
  have hs1 : slots + (s2.2.1 - τ.2.1) ≤ S := by omega
  refine va_calli (va_runV (As := [.int a0]) (rest := []) ⟨hx, hb, hml, hown, hts⟩ (mtX0_isLine l D cA ζ τ h a0 K (x1, s2) hx1 (s2.1 - τ.1) (s2.2.1 - τ.2.1) (Nat.add_sub_cancel' hle.1) (Nat.add_sub_cancel' hle.2)) (cwV 1 hts (lw_V q1349 q1351 qs28 q84 q1352) rfl rfl rfl (by decide +kernel) ⟨Nat.le_of_ble_eq_true rfl, Nat.le_of_ble_eq_true rfl⟩) (z_preV hX hS hH (zob_o hf3) rfl) rfl rfl hl.1 rfl (lv_room (Nat.le_of_ble_eq_true rfl)) dX0_falls_2 ⟨hc1, hs1⟩) hS (fun q _ hq => hq) (fun q hq => hq) (fun r u t H1 locs ht hvm hw hB hz hk hS => ?_)
  obtain ⟨hw1, hw2⟩ := Prod.mk.inj hw.symm; subst hw1; subst hw2
  have hH : zH D cA ζ s2 H1 := z_at ht.symm hB
  have hcs : s.heap.size + (cells + (s2.1 - τ.1)) = s2.1 := by omega
  have hss : sl0 + (slots + (s2.2.1 - τ.2.1)) = s2.2.1 := by omega
  replace hcM := And.intro hc1 hs1
  generalize cells + (s2.1 - τ.1) = cells at hcs hcM ⊢; generalize slots + (s2.2.1 - τ.2.1) = slots at hss hcM ⊢
  clear hB hk hz hvm ht hle hck hc1 hs1; generalize H1 = H at hH hS ⊢
  refine lv_if_ne (tgt := 12) hx hb dX0_falls_5 (by decide) (fun c5 => ?_) (fun c5 => ?_)
  · have hf := dz_f c5 hf
    refine lv_aload_n hx hb dX0_falls_12 rfl (lv_at hl 0 rfl) ?_
    refine lv_iload_n hx hb dX0_falls_13 rfl (lv_at hl 1 rfl) ?_
    obtain ⟨f6, hf6, hf⟩ := dz_bo hf
    obtain ⟨x4, s5, hx4, hle, hck, hf⟩ := zcl_o hf
    have hc1 : cells + (s5.1 - s2.1) ≤ M := by omega
    have hs1 : slots + (s5.2.1 - s2.2.1) ≤ S := by omega
    refine va_calli (va_runV (As := [.int a0]) (rest := []) ⟨hx, hb, hml, hown, hts⟩ (mtX0_isRight l D cA ζ s2 h a0 K (x4, s5) hx4 (s5.1 - s2.1) (s5.2.1 - s2.2.1) (Nat.add_sub_cancel' hle.1) (Nat.add_sub_cancel' hle.2)) (cwV 1 hts (lw_V q219 q221 qs1 q84 q222) rfl rfl rfl (by decide +kernel) ⟨Nat.le_of_ble_eq_true rfl, Nat.le_of_ble_eq_true rfl⟩) (z_preV hX hS hH (zob_o hf6) rfl) rfl rfl hl.1 rfl (lv_room (Nat.le_of_ble_eq_true rfl)) dX0_falls_14 ⟨hc1, hs1⟩) hS (fun q _ hq => hq) (fun q hq => hq) (fun r u t H1 locs ht hvm hw hB hz hk hS => ?_)
    obtain ⟨hw1, hw2⟩ := Prod.mk.inj hw.symm; subst hw1; subst hw2
    have hH : zH D cA ζ s5 H1 := z_at ht.symm hB
    have hcs : s.heap.size + (cells + (s5.1 - s2.1)) = s5.1 := by omega
    have hss : sl0 + (slots + (s5.2.1 - s2.2.1)) = s5.2.1 := by omega
    replace hcM := And.intro hc1 hs1
    generalize cells + (s5.1 - s2.1) = cells at hcs hcM ⊢; generalize slots + (s5.2.1 - s2.2.1) = slots at hss hcM ⊢
    clear hB hk hz hvm ht hle hck hc1 hs1; generalize H1 = H at hH hS ⊢
    refine lv_if_ne (tgt := 24) hx hb dX0_falls_17 (by decide) (fun c17 => ?_) (fun c17 => ?_)
    · have hf := dz_f c17 hf
      refine lv_aload_n hx hb dX0_falls_24 rfl (lv_at hl 0 rfl) ?_
      obtain ⟨f9, hf9, hf⟩ := dz_bo hf
      obtain ⟨x7, s8, hx7, hle, hck, hf⟩ := zcl_o hf
      have hc1 : cells + (s8.1 - s5.1) ≤ M := by omega
      have hs1 : slots + (s8.2.1 - s5.2.1) ≤ S := by omega
      refine va_calll (va_runV (As := []) (rest := []) ⟨hx, hb, hml, hown, hts⟩ (mtX0_right l D cA ζ s5 h K (x7, s8) hx7 (s8.1 - s5.1) (s8.2.1 - s5.2.1) (Nat.add_sub_cancel' hle.1) (Nat.add_sub_cancel' hle.2)) (cwV 0 hts (lw_V q1448 q1431 q1432 q84 q1433) rfl rfl rfl (by decide +kernel) ⟨Nat.le_of_ble_eq_true rfl, Nat.le_of_ble_eq_true rfl⟩) (z_preV hX hS hH (zob_o hf9) rfl) rfl rfl hl.1 rfl (lv_room (Nat.le_of_ble_eq_true rfl)) dX0_falls_25 ⟨hc1, hs1⟩) hS (fun q _ hq => hq) (fun q hq => hq) (fun r u t H1 locs ht hvm hw hB hz hk hS => ?_)
      obtain ⟨hw1, hw2⟩ := Prod.mk.inj hw.symm; subst hw1; subst hw2
      have hH : zH D cA ζ s8 H1 := z_at ht.symm hB
      have hcs : s.heap.size + (cells + (s8.1 - s5.1)) = s8.1 := by omega
      have hss : sl0 + (slots + (s8.2.1 - s5.2.1)) = s8.2.1 := by omega
      replace hcM := And.intro hc1 hs1
      generalize cells + (s8.1 - s5.1) = cells at hcs hcM ⊢; generalize slots + (s8.2.1 - s5.2.1) = slots at hss hcM ⊢
      clear hB hk hz hvm ht hle hck hc1 hs1; generalize H1 = H at hH hS ⊢
      refine lv_lstore_n (lv' := [(2, .long x7), (0, .ref h), (1, .int a0)]) hx hb dX0_falls_28 rfl hl (by decide) rfl (fun ls hl => ?_)
      refine lv_lconst (v := 0) hx hb dX0_falls_29 rfl ?_
      refine lv_lstore (lv' := [(4, .long 0), (2, .long x7), (0, .ref h), (1, .int a0)]) hx hb dX0_falls_30 hl (by decide) rfl (fun ls hl => ?_)
      refine lv_iconst (v := 0) hx hb dX0_falls_32 (by decide) ?_
      refine lv_istore (lv' := [(6, .int 0), (4, .long 0), (2, .long x7), (0, .ref h), (1, .int a0)]) hx hb dX0_falls_33 hl (by decide) rfl (fun ls hl => ?_)
      exact ih.1 h a0 x7 0 0 s8 H locs cells slots hH hS hcs hss hcM ls (lv_sub hl [3, 4, 2, 1, 0] rfl) hf
    · have hf := dz_t c17 hf
      refine lv_ldc2 (v := (-2)) hx hb hown (hts _ q1439) dX0_falls_20 ?_
      obtain ⟨hM1, hS1⟩ : cells = M ∧ slots = S := by have hq := congrArg Prod.snd (Option.some.inj hf); rw [← hq] at hM hS0; have hM : s.heap.size + M = s5.1 := hM; have hS0 : sl0 + S = s5.2.1 := hS0; omega
      refine W.widen (k := M) (n := S) (Nat.le_of_eq hM1) (Nat.le_of_eq hS1) ?_
      exact W.lret (v := (-2)) hx hb hr (fun t ht hW => ⟨⟨(-2), s5, rfl, Option.some.inj hf, z_at ht hH⟩, hS.F ht⟩) hS.2.2 dX0_falls_23
  · have hf := dz_t c5 hf
    refine lv_ldc2 (v := (-1)) hx hb hown (hts _ q1438) dX0_falls_8 ?_
    obtain ⟨hM1, hS1⟩ : cells = M ∧ slots = S := by have hq := congrArg Prod.snd (Option.some.inj hf); rw [← hq] at hM hS0; have hM : s.heap.size + M = s2.1 := hM; have hS0 : sl0 + S = s2.2.1 := hS0; omega
    refine W.widen (k := M) (n := S) (Nat.le_of_eq hM1) (Nat.le_of_eq hS1) ?_
    exact W.lret (v := (-1)) hx hb hr (fun t ht hW => ⟨⟨(-1), s2, rfl, Option.some.inj hf, z_at ht hH⟩, hS.F ht⟩) hS.2.2 dX0_falls_11

noncomputable def lfJ17_numberOfLeadingZeros (K : Nat) : Nat → (Int32 → Int32 → Option Int32) × (Int32 → Int32 → Option Int32) × (Int32 → Int32 → Option Int32) × (Int32 → Int32 → Option Int32) := Nat.rec (motive := fun _ => (Int32 → Int32 → Option Int32) × (Int32 → Int32 → Option Int32) × (Int32 → Int32 → Option Int32) × (Int32 → Int32 → Option Int32)) ((fun _ _ => none), (fun _ _ => none), (fun _ _ => none), (fun _ _ => none)) (fun _ G => ((fun v0 v1 => if v0 < (256 : Int32) then (G.2.1 v0 v1) else (dz_l (v1 + (-8)) fun x1 => dz_l (UInt32.toInt32 (Int32.toUInt32 v0 >>> (Int32.toUInt32 8 &&& Int32.toUInt32 31))) fun x2 => G.2.1 x2 x1)), (fun v0 v1 => if v0 < (16 : Int32) then (G.2.2.1 v0 v1) else (dz_l (v1 + (-4)) fun x1 => dz_l (UInt32.toInt32 (Int32.toUInt32 v0 >>> (Int32.toUInt32 4 &&& Int32.toUInt32 31))) fun x2 => G.2.2.1 x2 x1)), (fun v0 v1 => if v0 < (4 : Int32) then (G.2.2.2 v0 v1) else (dz_l (v1 + (-2)) fun x1 => dz_l (UInt32.toInt32 (Int32.toUInt32 v0 >>> (Int32.toUInt32 2 &&& Int32.toUInt32 31))) fun x2 => G.2.2.2 x2 x1)), (fun v0 v1 => dz_l (UInt32.toInt32 (Int32.toUInt32 v0 >>> (Int32.toUInt32 1 &&& Int32.toUInt32 31))) fun x1 => some (v1 - x1))))
noncomputable def fnJ17_numberOfLeadingZeros (K : Nat) (a0 : Int32) : Option Int32 := if (0 : Int32) < a0 then (if a0 < (65536 : Int32) then ((lfJ17_numberOfLeadingZeros K K).1 a0 31) else (dz_l (31 + (-16)) fun x1 => dz_l (UInt32.toInt32 (Int32.toUInt32 a0 >>> (Int32.toUInt32 16 &&& Int32.toUInt32 31))) fun x2 => (lfJ17_numberOfLeadingZeros K K).1 x2 x1)) else (if a0 = (0 : Int32) then (some 32) else (some 0))
set_option maxHeartbeats 4000000 in
set_option maxRecDepth 100000 in
theorem wlJ17_numberOfLeadingZeros {p : Program} {l : Launch} {e : Env} {s : State} {m : MethodId} {below : List Frame} {meth : Method} {c : Code}  (K : Nat) (res : Int32) (a0 : Int32) (hx : p.tables.exec = Jvm.exec) (hb : c.code = cJ17_numberOfLeadingZeros) (hr : meth.sig.returnType = some .int) (hlocks : meth.locks = false) (hml : c.maxLocals = 2) (hown : s.vm.findClass RJ17 = some m.cls) (hts : ∀ w ∈ lw_all, w.before ([.int a0] : List Value).toArray s = true) : ∀ k : Nat, (∀ (v0 : Int32) (v1 : Int32) (H : Heap) (locs : List Loc), va_S (fun _ => False) s.heap H locs → ∀ (ls : Array Slot), lv_has ls 2 [(0, .int v0), (1, .int v1)] → (lfJ17_numberOfLeadingZeros K k).1 v0 v1 = some res → W p l e (headSpec (ws_ yJ17_numberOfLeadingZeros cJ17_numberOfLeadingZeros 2 (some .int)) ({ frames := 0, cells := 0, slots := 0, locals := 0 })).room s m ([.int a0] : List Value).toArray below meth c H locs 0 0 (MQ below (dz_Qi res) ([.int a0] : List Value).toArray s 0 0 (fun _ => False)) (F0 m 33 ls [])) ∧ (∀ (v0 : Int32) (v1 : Int32) (H : Heap) (locs : List Loc), va_S (fun _ => False) s.heap H locs → ∀ (ls : Array Slot), lv_has ls 2 [(0, .int v0), (1, .int v1)] → (lfJ17_numberOfLeadingZeros K k).2.1 v0 v1 = some res → W p l e (headSpec (ws_ yJ17_numberOfLeadingZeros cJ17_numberOfLeadingZeros 2 (some .int)) ({ frames := 0, cells := 0, slots := 0, locals := 0 })).room s m ([.int a0] : List Value).toArray below meth c H locs 0 0 (MQ below (dz_Qi res) ([.int a0] : List Value).toArray s 0 0 (fun _ => False)) (F0 m 48 ls [])) ∧ (∀ (v0 : Int32) (v1 : Int32) (H : Heap) (locs : List Loc), va_S (fun _ => False) s.heap H locs → ∀ (ls : Array Slot), lv_has ls 2 [(0, .int v0), (1, .int v1)] → (lfJ17_numberOfLeadingZeros K k).2.2.1 v0 v1 = some res → W p l e (headSpec (ws_ yJ17_numberOfLeadingZeros cJ17_numberOfLeadingZeros 2 (some .int)) ({ frames := 0, cells := 0, slots := 0, locals := 0 })).room s m ([.int a0] : List Value).toArray below meth c H locs 0 0 (MQ below (dz_Qi res) ([.int a0] : List Value).toArray s 0 0 (fun _ => False)) (F0 m 61 ls [])) ∧ (∀ (v0 : Int32) (v1 : Int32) (H : Heap) (locs : List Loc), va_S (fun _ => False) s.heap H locs → ∀ (ls : Array Slot), lv_has ls 2 [(0, .int v0), (1, .int v1)] → (lfJ17_numberOfLeadingZeros K k).2.2.2 v0 v1 = some res → W p l e (headSpec (ws_ yJ17_numberOfLeadingZeros cJ17_numberOfLeadingZeros 2 (some .int)) ({ frames := 0, cells := 0, slots := 0, locals := 0 })).room s m ([.int a0] : List Value).toArray below meth c H locs 0 0 (MQ below (dz_Qi res) ([.int a0] : List Value).toArray s 0 0 (fun _ => False)) (F0 m 73 ls [])) := by
  intro k
  induction k with
  | zero =>
    exact ⟨fun _ _ _ _ _ _ _ hf => (by cases hf), fun _ _ _ _ _ _ _ hf => (by cases hf), fun _ _ _ _ _ _ _ hf => (by cases hf), fun _ _ _ _ _ _ _ hf => (by cases hf)⟩
  | succ k ih =>
    refine ⟨?_, ?_, ?_, ?_⟩
    · intro v0 v1 H locs hS ls hl hf
      have hf : (if v0 < (256 : Int32) then ((lfJ17_numberOfLeadingZeros K k).2.1 v0 v1) else (dz_l (v1 + (-8)) fun x1 => dz_l (UInt32.toInt32 (Int32.toUInt32 v0 >>> (Int32.toUInt32 8 &&& Int32.toUInt32 31))) fun x2 => (lfJ17_numberOfLeadingZeros K k).2.1 x2 x1) : Option Int32) = some res := hf
      refine lv_iload_n hx hb dJ17_numberOfLeadingZeros_33 rfl (lv_at hl 0 rfl) ?_
      refine lv_sipush (v := 256) hx hb dJ17_numberOfLeadingZeros_34 (by decide) ?_
      refine lv_icmp_lt (tgt := 48) hx hb dJ17_numberOfLeadingZeros_37 (by decide) (fun c37 => ?_) (fun c37 => ?_)
      · have hf := dz_t c37 hf
        exact ih.2.1 v0 v1 H locs hS ls (lv_sub hl [0, 1] rfl) hf
      · have hf := dz_f c37 hf
        obtain ⟨x1, e_x1, hf⟩ := dz_lo hf
        refine lv_iinc (v := x1) (lv' := [(1, .int x1), (0, .int v0)]) hx hb dJ17_numberOfLeadingZeros_40 hl (k := 1) rfl (by rw [e_x1]; rfl) (by decide) rfl (fun ls hl => ?_)
        refine lv_iload_n hx hb dJ17_numberOfLeadingZeros_43 rfl (lv_at hl 1 rfl) ?_
        refine lv_bipush (v := 8) hx hb dJ17_numberOfLeadingZeros_44 (by decide) ?_
        refine lv_iushr hx hb dJ17_numberOfLeadingZeros_46 (rfl : _ = UInt32.toInt32 (Int32.toUInt32 v0 >>> (Int32.toUInt32 8 &&& Int32.toUInt32 31))) ?_
        refine lv_topi (fun x2 e_x2 => ?_)
        have hf := dz_ls e_x2 hf
        refine lv_istore_n (lv' := [(0, .int x2), (1, .int x1)]) hx hb dJ17_numberOfLeadingZeros_47 rfl hl (by decide) rfl (fun ls hl => ?_)
        exact ih.2.1 x2 x1 H locs hS ls (lv_sub hl [0, 1] rfl) hf
    · intro v0 v1 H locs hS ls hl hf
      have hf : (if v0 < (16 : Int32) then ((lfJ17_numberOfLeadingZeros K k).2.2.1 v0 v1) else (dz_l (v1 + (-4)) fun x1 => dz_l (UInt32.toInt32 (Int32.toUInt32 v0 >>> (Int32.toUInt32 4 &&& Int32.toUInt32 31))) fun x2 => (lfJ17_numberOfLeadingZeros K k).2.2.1 x2 x1) : Option Int32) = some res := hf
      refine lv_iload_n hx hb dJ17_numberOfLeadingZeros_48 rfl (lv_at hl 0 rfl) ?_
      refine lv_bipush (v := 16) hx hb dJ17_numberOfLeadingZeros_49 (by decide) ?_
      refine lv_icmp_lt (tgt := 61) hx hb dJ17_numberOfLeadingZeros_51 (by decide) (fun c51 => ?_) (fun c51 => ?_)
      · have hf := dz_t c51 hf
        exact ih.2.2.1 v0 v1 H locs hS ls (lv_sub hl [0, 1] rfl) hf
      · have hf := dz_f c51 hf
        obtain ⟨x1, e_x1, hf⟩ := dz_lo hf
        refine lv_iinc (v := x1) (lv' := [(1, .int x1), (0, .int v0)]) hx hb dJ17_numberOfLeadingZeros_54 hl (k := 1) rfl (by rw [e_x1]; rfl) (by decide) rfl (fun ls hl => ?_)
        refine lv_iload_n hx hb dJ17_numberOfLeadingZeros_57 rfl (lv_at hl 1 rfl) ?_
        refine lv_iconst (v := 4) hx hb dJ17_numberOfLeadingZeros_58 (by decide) ?_
        refine lv_iushr hx hb dJ17_numberOfLeadingZeros_59 (rfl : _ = UInt32.toInt32 (Int32.toUInt32 v0 >>> (Int32.toUInt32 4 &&& Int32.toUInt32 31))) ?_
        refine lv_topi (fun x2 e_x2 => ?_)
        have hf := dz_ls e_x2 hf
        refine lv_istore_n (lv' := [(0, .int x2), (1, .int x1)]) hx hb dJ17_numberOfLeadingZeros_60 rfl hl (by decide) rfl (fun ls hl => ?_)
        exact ih.2.2.1 x2 x1 H locs hS ls (lv_sub hl [0, 1] rfl) hf
    · intro v0 v1 H locs hS ls hl hf
      have hf : (if v0 < (4 : Int32) then ((lfJ17_numberOfLeadingZeros K k).2.2.2 v0 v1) else (dz_l (v1 + (-2)) fun x1 => dz_l (UInt32.toInt32 (Int32.toUInt32 v0 >>> (Int32.toUInt32 2 &&& Int32.toUInt32 31))) fun x2 => (lfJ17_numberOfLeadingZeros K k).2.2.2 x2 x1) : Option Int32) = some res := hf
      refine lv_iload_n hx hb dJ17_numberOfLeadingZeros_61 rfl (lv_at hl 0 rfl) ?_
      refine lv_iconst (v := 4) hx hb dJ17_numberOfLeadingZeros_62 (by decide) ?_
      refine lv_icmp_lt (tgt := 73) hx hb dJ17_numberOfLeadingZeros_63 (by decide) (fun c63 => ?_) (fun c63 => ?_)
      · have hf := dz_t c63 hf
        exact ih.2.2.2 v0 v1 H locs hS ls (lv_sub hl [0, 1] rfl) hf
      · have hf := dz_f c63 hf
        obtain ⟨x1, e_x1, hf⟩ := dz_lo hf
        refine lv_iinc (v := x1) (lv' := [(1, .int x1), (0, .int v0)]) hx hb dJ17_numberOfLeadingZeros_66 hl (k := 1) rfl (by rw [e_x1]; rfl) (by decide) rfl (fun ls hl => ?_)
        refine lv_iload_n hx hb dJ17_numberOfLeadingZeros_69 rfl (lv_at hl 1 rfl) ?_
        refine lv_iconst (v := 2) hx hb dJ17_numberOfLeadingZeros_70 (by decide) ?_
        refine lv_iushr hx hb dJ17_numberOfLeadingZeros_71 (rfl : _ = UInt32.toInt32 (Int32.toUInt32 v0 >>> (Int32.toUInt32 2 &&& Int32.toUInt32 31))) ?_
        refine lv_topi (fun x2 e_x2 => ?_)
        have hf := dz_ls e_x2 hf
        refine lv_istore_n (lv' := [(0, .int x2), (1, .int x1)]) hx hb dJ17_numberOfLeadingZeros_72 rfl hl (by decide) rfl (fun ls hl => ?_)
        exact ih.2.2.2 x2 x1 H locs hS ls (lv_sub hl [0, 1] rfl) hf
    · intro v0 v1 H locs hS ls hl hf
      have hf : (dz_l (UInt32.toInt32 (Int32.toUInt32 v0 >>> (Int32.toUInt32 1 &&& Int32.toUInt32 31))) fun x1 => some (v1 - x1) : Option Int32) = some res := hf
      refine lv_iload_n hx hb dJ17_numberOfLeadingZeros_73 rfl (lv_at hl 1 rfl) ?_
      refine lv_iload_n hx hb dJ17_numberOfLeadingZeros_74 rfl (lv_at hl 0 rfl) ?_
      refine lv_iconst (v := 1) hx hb dJ17_numberOfLeadingZeros_75 (by decide) ?_
      refine lv_iushr hx hb dJ17_numberOfLeadingZeros_76 (rfl : _ = UInt32.toInt32 (Int32.toUInt32 v0 >>> (Int32.toUInt32 1 &&& Int32.toUInt32 31))) ?_
      refine lv_topi (fun x1 e_x1 => ?_)
      have hf := dz_ls e_x1 hf
      refine lv_isub hx hb dJ17_numberOfLeadingZeros_77 ?_
      exact W.iret (v := v1 - x1) hx hb hr (fun t ht hW => ⟨⟨v1 - x1, (), rfl, Option.some.inj hf, trivial⟩, hS.F ht⟩) hS.2.2 dJ17_numberOfLeadingZeros_78
set_option maxHeartbeats 4000000 in
set_option maxRecDepth 100000 in
theorem mtJ17_numberOfLeadingZeros (l : Launch) (a0 : Int32) (K : Nat) (res : Int32) (hf : fnJ17_numberOfLeadingZeros K a0 = some res) : Met l yJ17_numberOfLeadingZeros (ws_ yJ17_numberOfLeadingZeros cJ17_numberOfLeadingZeros 2 (some .int)) ({ frames := 0, cells := 0, slots := 0, locals := 0 }) (dz_P [.int a0]) (dz_Qi res) 0 0 (fun _ => False) := by
  refine Met.ofW (cc := cJ17_numberOfLeadingZeros) (maxL := 2) (ret := some .int) (by decide +kernel) rfl ?_
  intro p e s m args below meth c s₁ B hml hv
  obtain ⟨rfl, -⟩ := hv
  have hx := B.exec
  have hb := B.bytes
  have hr := B.returns
  have hts := atoms_spec (ws := ws_ yJ17_numberOfLeadingZeros cJ17_numberOfLeadingZeros 2 (some .int)) B.pre
  have hts : ∀ w ∈ lw_all, w.before _ s = true := fun w h => hts w (List.mem_cons_of_mem _ h)
  have hown : s.vm.findClass RJ17 = some m.cls := findClass_of_methodNamed B.named
  have hlocks := B.notSynchronized
  have hS : va_S (fun _ => False) s.heap s.heap [] := va_S.rf
  generalize hHe : s.heap = H at hS ⊢
  have hS : va_S (fun _ => False) s.heap H [] := by rw [hHe]; exact hS
  generalize ([] : List Loc) = locs at hS ⊢
  have hl := lv_entry ([.int a0]) (n := 2) (Nat.le_of_ble_eq_true rfl)
  rw [lg_entry_eq]
  generalize (lg_sl ([.int a0]) ++ List.replicate (2 - (lg_sl ([.int a0])).length) Slot.unset).toArray = ls at hl ⊢
  have hl : lv_has ls 2 [(0, .int a0)] := hl
  have hf : (if (0 : Int32) < a0 then (if a0 < (65536 : Int32) then ((lfJ17_numberOfLeadingZeros K K).1 a0 31) else (dz_l (31 + (-16)) fun x1 => dz_l (UInt32.toInt32 (Int32.toUInt32 a0 >>> (Int32.toUInt32 16 &&& Int32.toUInt32 31))) fun x2 => (lfJ17_numberOfLeadingZeros K K).1 x2 x1)) else (if a0 = (0 : Int32) then (some 32) else (some 0)) : Option Int32) = some res := hf
  have ih := wlJ17_numberOfLeadingZeros (l := l) (e := e) (below := below) K res a0 hx hb hr hlocks hml hown hts K
  refine lv_iload_n hx hb dJ17_numberOfLeadingZeros_0 rfl (lv_at hl 0 rfl) ?_
  refine lv_if_gt (tgt := 15) hx hb dJ17_numberOfLeadingZeros_1 (by decide) (fun c1 => ?_) (fun c1 => ?_)
  · have hf := dz_t c1 hf
    refine lv_bipush (v := 31) hx hb dJ17_numberOfLeadingZeros_15 (by decide) ?_
    refine lv_istore_n (lv' := [(1, .int 31), (0, .int a0)]) hx hb dJ17_numberOfLeadingZeros_17 rfl hl (by decide) rfl (fun ls hl => ?_)
    refine lv_iload_n hx hb dJ17_numberOfLeadingZeros_18 rfl (lv_at hl 1 rfl) ?_
    refine lv_ldcw (v := 65536) hx hb hown (hts _ q1466) dJ17_numberOfLeadingZeros_19 ?_
    refine lv_icmp_lt (tgt := 33) hx hb dJ17_numberOfLeadingZeros_22 (by decide) (fun c22 => ?_) (fun c22 => ?_)
    · have hf := dz_t c22 hf
      exact ih.1 a0 31 H locs hS ls (lv_sub hl [1, 0] rfl) hf
    · have hf := dz_f c22 hf
      obtain ⟨x1, e_x1, hf⟩ := dz_lo hf
      refine lv_iinc (v := x1) (lv' := [(1, .int x1), (0, .int a0)]) hx hb dJ17_numberOfLeadingZeros_25 hl (k := 0) rfl (by rw [e_x1]; rfl) (by decide) rfl (fun ls hl => ?_)
      refine lv_iload_n hx hb dJ17_numberOfLeadingZeros_28 rfl (lv_at hl 1 rfl) ?_
      refine lv_bipush (v := 16) hx hb dJ17_numberOfLeadingZeros_29 (by decide) ?_
      refine lv_iushr hx hb dJ17_numberOfLeadingZeros_31 (rfl : _ = UInt32.toInt32 (Int32.toUInt32 a0 >>> (Int32.toUInt32 16 &&& Int32.toUInt32 31))) ?_
      refine lv_topi (fun x2 e_x2 => ?_)
      have hf := dz_ls e_x2 hf
      refine lv_istore_n (lv' := [(0, .int x2), (1, .int x1)]) hx hb dJ17_numberOfLeadingZeros_32 rfl hl (by decide) rfl (fun ls hl => ?_)
      exact ih.1 x2 x1 H locs hS ls (lv_sub hl [0, 1] rfl) hf
  · have hf := dz_f c1 hf
    refine lv_iload_n hx hb dJ17_numberOfLeadingZeros_4 rfl (lv_at hl 0 rfl) ?_
    refine lv_if_ne (tgt := 13) hx hb dJ17_numberOfLeadingZeros_5 (by decide) (fun c5 => ?_) (fun c5 => ?_)
    · have hf := dz_f c5 hf
      refine lv_iconst (v := 0) hx hb dJ17_numberOfLeadingZeros_13 (by decide) ?_
      exact W.iret (v := 0) hx hb hr (fun t ht hW => ⟨⟨0, (), rfl, Option.some.inj hf, trivial⟩, hS.F ht⟩) hS.2.2 dJ17_numberOfLeadingZeros_14
    · have hf := dz_t c5 hf
      refine lv_bipush (v := 32) hx hb dJ17_numberOfLeadingZeros_8 (by decide) ?_
      refine lv_goto (tgt := 14) hx hb dJ17_numberOfLeadingZeros_10 (by decide) ?_
      exact W.iret (v := 32) hx hb hr (fun t ht hW => ⟨⟨32, (), rfl, Option.some.inj hf, trivial⟩, hS.F ht⟩) hS.2.2 dJ17_numberOfLeadingZeros_14

