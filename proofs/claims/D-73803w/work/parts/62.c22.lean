noncomputable def lfX0_often (K : Nat) (ζ : pZ) : Nat → (Int32 → Int32 → Int32 → pH → Option (Int32 × pH)) := Nat.rec (motive := fun _ => (Int32 → Int32 → Int32 → pH → Option (Int32 × pH))) (fun _ _ _ _ => none) (fun _ G => (fun v2 v3 v4 τ => if ¬ v2 = 0 then (dz_l (v4 - v4 / v2 * v2) fun x2 => if x2 = (0 : Int32) then (dz_l (v3 + 1) fun x3 => if ¬ v2 = 0 then (dz_l (v4 / v2) fun x5 => G v2 x3 x5 τ) else none) else (some (v3, τ))) else none))
noncomputable def fnX0_often (K : Nat) (ζ : pZ) (h : Nat) (a0 : Int32) (a1 : Int32) (τ : pH) : Option (Int32 × pH) := dz_b (fnX0_isNumber K (Int32.toInt64 a0)) fun x1 => if x1 = (0 : Int32) then (some ((-1), τ)) else (dz_b (fnX0_isNumber K (Int32.toInt64 a1)) fun x2 => if x2 = (0 : Int32) then (some ((-1), τ)) else ((lfX0_often K ζ K) a1 0 a0 τ))
set_option maxHeartbeats 4000000 in
set_option maxRecDepth 100000 in
theorem wlX0_often {p : Program} {l : Launch} {e : Env} {s : State} {m : MethodId} {below : List Frame} {meth : Method} {c : Code} {D : va_G} {cA : Nat → ClassId} {ζ : pZ} (hX : zX D cA ζ s) (K : Nat) (res : (Int32 × pH)) (M S sl0 : Nat) (hM : s.heap.size + M = res.2.1) (hS0 : sl0 + S = res.2.2.1) (h : Nat) (a0 : Int32) (a1 : Int32) (hx : p.tables.exec = Jvm.exec) (hb : c.code = cX0_often) (hr : meth.sig.returnType = some .int) (hlocks : meth.locks = false) (hml : c.maxLocals = 5) (hown : s.vm.findClass RX0 = some m.cls) (hts : ∀ w ∈ lw_all, w.before ([.ref h, .int a0, .int a1] : List Value).toArray s = true) : ∀ k : Nat, (∀ (v2 : Int32) (v3 : Int32) (v4 : Int32) (τ : pH) (H : Heap) (locs : List Loc) (cells slots : Nat), zH D cA ζ τ H → va_S (zA ζ) s.heap H locs → s.heap.size + cells = τ.1 → sl0 + slots = τ.2.1 → cells ≤ M ∧ slots ≤ S → ∀ (ls : Array Slot), lv_has ls 5 [(2, .int v2), (3, .int v3), (4, .int v4)] → (lfX0_often K ζ k) v2 v3 v4 τ = some res → W p l e (headSpec (ws_ yX0_often cX0_often 5 (some .int)) ({ frames := 2, cells := M, slots := S, locals := 46 })).room s m ([.ref h, .int a0, .int a1] : List Value).toArray below meth c H locs cells slots (MQ below (zQi D cA ζ res) ([.ref h, .int a0, .int a1] : List Value).toArray s M S (zA ζ)) (F0 m 23 ls [])) := by
  intro k
  induction k with
  | zero =>
    exact fun _ _ _ _ _ _ _ _ _ _ _ _ _ _ _ hf => (by cases hf)
  | succ k ih =>
    · intro v2 v3 v4 τ H locs cells slots hH hS hcs hss hcM ls hl hf
      have hf : (if ¬ v2 = 0 then (dz_l (v4 - v4 / v2 * v2) fun x2 => if x2 = (0 : Int32) then (dz_l (v3 + 1) fun x3 => if ¬ v2 = 0 then (dz_l (v4 / v2) fun x5 => (lfX0_often K ζ k) v2 x3 x5 τ) else none) else (some (v3, τ))) else none : Option (Int32 × pH)) = some res := hf
      refine lv_iload hx hb dX0_often_23 (lv_at hl 2 rfl) ?_
      refine lv_iload_n hx hb dX0_often_25 rfl (lv_at hl 0 rfl) ?_
      obtain ⟨g1, hf⟩ := dz_go hf
      refine lv_irem hx hb dX0_often_26 g1 ?_
      refine lv_topi (fun x2 e_x2 => ?_)
      have hf := dz_ls e_x2 hf
      refine lv_if_ne (tgt := 42) hx hb dX0_often_27 (by decide) (fun c27 => ?_) (fun c27 => ?_)
      · have hf := dz_f c27 hf
        refine lv_iload_n hx hb dX0_often_42 rfl (lv_at hl 1 rfl) ?_
        obtain ⟨hM1, hS1⟩ : cells = M ∧ slots = S := by have hq := congrArg Prod.snd (Option.some.inj hf); rw [← hq] at hM hS0; have hM : s.heap.size + M = τ.1 := hM; have hS0 : sl0 + S = τ.2.1 := hS0; omega
        refine W.widen (k := M) (n := S) (Nat.le_of_eq hM1) (Nat.le_of_eq hS1) ?_
        exact W.iret (v := v3) hx hb hr (fun t ht hW => ⟨⟨v3, τ, rfl, Option.some.inj hf, z_at ht hH⟩, hS.F ht⟩) hS.2.2 dX0_often_43
      · have hf := dz_t c27 hf
        obtain ⟨x3, e_x3, hf⟩ := dz_lo hf
        refine lv_iinc (v := x3) (lv' := [(3, .int x3), (2, .int v2), (4, .int v4)]) hx hb dX0_often_30 hl (k := 1) rfl (by rw [e_x3]; rfl) (by decide) rfl (fun ls hl => ?_)
        refine lv_iload hx hb dX0_often_33 (lv_at hl 2 rfl) ?_
        refine lv_iload_n hx hb dX0_often_35 rfl (lv_at hl 1 rfl) ?_
        obtain ⟨g4, hf⟩ := dz_go hf
        refine lv_idiv hx hb dX0_often_36 g4 ?_
        refine lv_topi (fun x5 e_x5 => ?_)
        have hf := dz_ls e_x5 hf
        refine lv_istore (lv' := [(4, .int x5), (3, .int x3), (2, .int v2)]) hx hb dX0_often_37 hl (by decide) rfl (fun ls hl => ?_)
        refine lv_goto (tgt := 23) hx hb dX0_often_39 (by decide) ?_
        exact ih v2 x3 x5 τ H locs cells slots hH hS hcs hss hcM ls (lv_sub hl [2, 1, 0] rfl) hf
set_option maxHeartbeats 4000000 in
set_option maxRecDepth 100000 in
theorem mtX0_often (l : Launch) (D : va_G) (cA : Nat → ClassId) (ζ : pZ) (τ : pH) (h : Nat) (a0 : Int32) (a1 : Int32) (K : Nat) (res : (Int32 × pH)) (hf : fnX0_often K ζ h a0 a1 τ = some res) (M S : Nat) (hM : τ.1 + M = res.2.1) (hS0 : τ.2.1 + S = res.2.2.1) : Met l yX0_often (ws_ yX0_often cX0_often 5 (some .int)) ({ frames := 2, cells := M, slots := S, locals := 46 }) (zPc D cA ζ τ [.ref h, .int a0, .int a1]) (zQi D cA ζ res) M S (zA ζ) := by
  refine Met.ofW (cc := cX0_often) (maxL := 5) (ret := some .int) (by decide +kernel) rfl ?_
  intro p e s m args below meth c s₁ B hml hv
  obtain ⟨rfl, hX, hH⟩ := hv
  have hx := B.exec
  have hb := B.bytes
  have hr := B.returns
  have hts := atoms_spec (ws := ws_ yX0_often cX0_often 5 (some .int)) B.pre
  have hts : ∀ w ∈ lw_all, w.before _ s = true := fun w h => hts w (List.mem_cons_of_mem _ h)
  have hown : s.vm.findClass RX0 = some m.cls := findClass_of_methodNamed B.named
  have hlocks := B.notSynchronized
  have hM : s.heap.size + M = res.2.1 := by rw [hH.1]; exact hM
  have hcs : s.heap.size + 0 = τ.1 := hH.1
  have hss : τ.2.1 + 0 = τ.2.1 := rfl
  generalize hsl0 : τ.2.1 = sl0 at hS0 hss
  have hss : sl0 + 0 = τ.2.1 := by rw [hsl0]; rfl
  have hS : va_S (zA ζ) s.heap s.heap [] := va_S.rf
  generalize hHe : s.heap = H at hH hS ⊢
  have hS : va_S (zA ζ) s.heap H [] := by rw [hHe]; exact hS
  generalize ([] : List Loc) = locs at hS ⊢
  have hl := lv_entry ([.ref h, .int a0, .int a1]) (n := 5) (Nat.le_of_ble_eq_true rfl)
  rw [lg_entry_eq]
  generalize (lg_sl ([.ref h, .int a0, .int a1]) ++ List.replicate (5 - (lg_sl ([.ref h, .int a0, .int a1])).length) Slot.unset).toArray = ls at hl ⊢
  have hl : lv_has ls 5 [(0, .ref h), (1, .int a0), (2, .int a1)] := hl
  have hf : (dz_b (fnX0_isNumber K (Int32.toInt64 a0)) fun x1 => if x1 = (0 : Int32) then (some ((-1), τ)) else (dz_b (fnX0_isNumber K (Int32.toInt64 a1)) fun x2 => if x2 = (0 : Int32) then (some ((-1), τ)) else ((lfX0_often K ζ K) a1 0 a0 τ)) : Option (Int32 × pH)) = some res := hf
  refine z_gen (fun cells slots hc0 hs0 => ?_)
  have hcs : s.heap.size + cells = τ.1 := by rw [hc0]; exact hcs
  have hss : sl0 + slots = τ.2.1 := by rw [hs0]; exact hss
  have hcM : cells ≤ M ∧ slots ≤ S := by rw [hc0, hs0]; exact ⟨Nat.zero_le _, Nat.zero_le _⟩
  clear hc0 hs0
  have ih := wlX0_often (l := l) (e := e) (below := below) (D := D) (cA := cA) hX K res M S sl0 hM hS0 h a0 a1 hx hb hr hlocks hml hown hts K
  refine lv_iload_n hx hb dX0_often_0 rfl (lv_at hl 1 rfl) ?_
  refine lv_i2l hx hb dX0_often_1 (rfl : _ = Int32.toInt64 a0) ?_
  obtain ⟨x1, hx1, hf⟩ := dz_bo hf
  refine va_calli (va_runS (As := [.long (Int32.toInt64 a0)]) (rest := []) ⟨hx, hb, hml, hown, hts⟩ (mtX0_isNumber l (Int32.toInt64 a0) K x1 hx1) (va_cwS 1 hts (lw_S q191 q192 q84 q193) rfl rfl rfl (by decide +kernel) ⟨Nat.le_of_ble_eq_true rfl, Nat.le_of_ble_eq_true rfl⟩) ⟨fun a U g mk q => q, fun U hU hW => ⟨rfl, trivial⟩⟩ rfl rfl hl.1 rfl (lv_room (Nat.le_of_ble_eq_true rfl)) dX0_often_2 ⟨hcM.1, hcM.2⟩) hS (fun q _ hq => hq.elim) (fun q hq => hq.elim) (fun r u t H1 locs ht hvm hw hB hz hk hS => dz_size (fun hz9 => ?_))
  replace hw := hw.symm; subst hw
  replace hH := zH_keep hH hcs hz hk hz9
  clear hB hk hz hvm ht hz9; generalize H1 = H at hH hS ⊢
  refine W.widen (k := cells) (n := slots) (Nat.le_refl _) (Nat.le_refl _) ?_
  refine lv_if_eq (tgt := 16) hx hb dX0_often_5 (by decide) (fun c5 => ?_) (fun c5 => ?_)
  · have hf := dz_t c5 hf
    refine lv_iconst (v := (-1)) hx hb dX0_often_16 (by decide) ?_
    obtain ⟨hM1, hS1⟩ : cells = M ∧ slots = S := by have hq := congrArg Prod.snd (Option.some.inj hf); rw [← hq] at hM hS0; have hM : s.heap.size + M = τ.1 := hM; have hS0 : sl0 + S = τ.2.1 := hS0; omega
    refine W.widen (k := M) (n := S) (Nat.le_of_eq hM1) (Nat.le_of_eq hS1) ?_
    exact W.iret (v := (-1)) hx hb hr (fun t ht hW => ⟨⟨(-1), τ, rfl, Option.some.inj hf, z_at ht hH⟩, hS.F ht⟩) hS.2.2 dX0_often_17
  · have hf := dz_f c5 hf
    refine lv_iload_n hx hb dX0_often_8 rfl (lv_at hl 2 rfl) ?_
    refine lv_i2l hx hb dX0_often_9 (rfl : _ = Int32.toInt64 a1) ?_
    obtain ⟨x2, hx2, hf⟩ := dz_bo hf
    refine va_calli (va_runS (As := [.long (Int32.toInt64 a1)]) (rest := []) ⟨hx, hb, hml, hown, hts⟩ (mtX0_isNumber l (Int32.toInt64 a1) K x2 hx2) (va_cwS 1 hts (lw_S q191 q192 q84 q193) rfl rfl rfl (by decide +kernel) ⟨Nat.le_of_ble_eq_true rfl, Nat.le_of_ble_eq_true rfl⟩) ⟨fun a U g mk q => q, fun U hU hW => ⟨rfl, trivial⟩⟩ rfl rfl hl.1 rfl (lv_room (Nat.le_of_ble_eq_true rfl)) dX0_often_10 ⟨hcM.1, hcM.2⟩) hS (fun q _ hq => hq.elim) (fun q hq => hq.elim) (fun r u t H1 locs ht hvm hw hB hz hk hS => dz_size (fun hz9 => ?_))
    replace hw := hw.symm; subst hw
    replace hH := zH_keep hH hcs hz hk hz9
    clear hB hk hz hvm ht hz9; generalize H1 = H at hH hS ⊢
    refine W.widen (k := cells) (n := slots) (Nat.le_refl _) (Nat.le_refl _) ?_
    refine lv_if_ne (tgt := 18) hx hb dX0_often_13 (by decide) (fun c13 => ?_) (fun c13 => ?_)
    · have hf := dz_f c13 hf
      refine lv_iconst (v := 0) hx hb dX0_often_18 (by decide) ?_
      refine lv_istore_n (lv' := [(3, .int 0), (0, .ref h), (1, .int a0), (2, .int a1)]) hx hb dX0_often_19 rfl hl (by decide) rfl (fun ls hl => ?_)
      refine lv_iload_n hx hb dX0_often_20 rfl (lv_at hl 2 rfl) ?_
      refine lv_istore (lv' := [(4, .int a0), (3, .int 0), (0, .ref h), (1, .int a0), (2, .int a1)]) hx hb dX0_often_21 hl (by decide) rfl (fun ls hl => ?_)
      exact ih a1 0 a0 τ H locs cells slots hH hS hcs hss hcM ls (lv_sub hl [4, 1, 0] rfl) hf
    · have hf := dz_t c13 hf
      refine lv_iconst (v := (-1)) hx hb dX0_often_16 (by decide) ?_
      obtain ⟨hM1, hS1⟩ : cells = M ∧ slots = S := by have hq := congrArg Prod.snd (Option.some.inj hf); rw [← hq] at hM hS0; have hM : s.heap.size + M = τ.1 := hM; have hS0 : sl0 + S = τ.2.1 := hS0; omega
      refine W.widen (k := M) (n := S) (Nat.le_of_eq hM1) (Nat.le_of_eq hS1) ?_
      exact W.iret (v := (-1)) hx hb hr (fun t ht hW => ⟨⟨(-1), τ, rfl, Option.some.inj hf, z_at ht hH⟩, hS.F ht⟩) hS.2.2 dX0_often_17

noncomputable def fnX0_rowsFor (K : Nat) (ζ : pZ) (h : Nat) (a0 : Int32) (a1 : Int32) (τ : pH) : Option (Int32 × pH) := dz_b (zob ζ τ h 0) fun f3 => zcl τ (fnX0_needs K ζ h a0 a1 τ) fun x1 s2 => dz_l (x1 / 10) fun x4 => dz_b (zob ζ s2 h 0) fun f7 => zcl s2 (fnX0_needs K ζ h a0 a1 s2) fun x5 s6 => dz_l (x5 - x5 / 10 * 10) fun x8 => dz_l (x4 + x8) fun x9 => some (x9, s6)
set_option maxHeartbeats 4000000 in
set_option maxRecDepth 100000 in
theorem mtX0_rowsFor (l : Launch) (D : va_G) (cA : Nat → ClassId) (ζ : pZ) (τ : pH) (h : Nat) (a0 : Int32) (a1 : Int32) (K : Nat) (res : (Int32 × pH)) (hf : fnX0_rowsFor K ζ h a0 a1 τ = some res) (M S : Nat) (hM : τ.1 + M = res.2.1) (hS0 : τ.2.1 + S = res.2.2.1) : Met l yX0_rowsFor (ws_ yX0_rowsFor cX0_rowsFor 3 (some .int)) ({ frames := 104, cells := M, slots := S, locals := 2399 }) (zPc D cA ζ τ [.ref h, .int a0, .int a1]) (zQi D cA ζ res) M S (zA ζ) := by
  refine Met.ofW (cc := cX0_rowsFor) (maxL := 3) (ret := some .int) (by decide +kernel) rfl ?_
  intro p e s m args below meth c s₁ B hml hv
  obtain ⟨rfl, hX, hH⟩ := hv
  have hx := B.exec
  have hb := B.bytes
  have hr := B.returns
  have hts := atoms_spec (ws := ws_ yX0_rowsFor cX0_rowsFor 3 (some .int)) B.pre
  have hts : ∀ w ∈ lw_all, w.before _ s = true := fun w h => hts w (List.mem_cons_of_mem _ h)
  have hown : s.vm.findClass RX0 = some m.cls := findClass_of_methodNamed B.named
  have hlocks := B.notSynchronized
  have hM : s.heap.size + M = res.2.1 := by rw [hH.1]; exact hM
  have hcs : s.heap.size + 0 = τ.1 := hH.1
  have hss : τ.2.1 + 0 = τ.2.1 := rfl
  generalize hsl0 : τ.2.1 = sl0 at hS0 hss
  have hss : sl0 + 0 = τ.2.1 := by rw [hsl0]; rfl
  have hS : va_S (zA ζ) s.heap s.heap [] := va_S.rf
  generalize hHe : s.heap = H at hH hS ⊢
  have hS : va_S (zA ζ) s.heap H [] := by rw [hHe]; exact hS
  generalize ([] : List Loc) = locs at hS ⊢
  have hl := lv_entry ([.ref h, .int a0, .int a1]) (n := 3) (Nat.le_of_ble_eq_true rfl)
  rw [lg_entry_eq]
  generalize (lg_sl ([.ref h, .int a0, .int a1]) ++ List.replicate (3 - (lg_sl ([.ref h, .int a0, .int a1])).length) Slot.unset).toArray = ls at hl ⊢
  have hl : lv_has ls 3 [(0, .ref h), (1, .int a0), (2, .int a1)] := hl
  have hf : (dz_b (zob ζ τ h 0) fun f3 => zcl τ (fnX0_needs K ζ h a0 a1 τ) fun x1 s2 => dz_l (x1 / 10) fun x4 => dz_b (zob ζ s2 h 0) fun f7 => zcl s2 (fnX0_needs K ζ h a0 a1 s2) fun x5 s6 => dz_l (x5 - x5 / 10 * 10) fun x8 => dz_l (x4 + x8) fun x9 => some (x9, s6) : Option (Int32 × pH)) = some res := hf
  refine z_gen (fun cells slots hc0 hs0 => ?_)
  have hcs : s.heap.size + cells = τ.1 := by rw [hc0]; exact hcs
  have hss : sl0 + slots = τ.2.1 := by rw [hs0]; exact hss
  have hcM : cells ≤ M ∧ slots ≤ S := by rw [hc0, hs0]; exact ⟨Nat.zero_le _, Nat.zero_le _⟩
  clear hc0 hs0
  refine lv_aload_n hx hb dX0_rowsFor_0 rfl (lv_at hl 0 rfl) ?_
  refine lv_iload_n hx hb dX0_rowsFor_1 rfl (lv_at hl 1 rfl) ?_
  refine lv_iload_n hx hb dX0_rowsFor_2 rfl (lv_at hl 2 rfl) ?_
  obtain ⟨f3, hf3, hf⟩ := dz_bo hf
  obtain ⟨x1, s2, hx1, hle, hck, hf⟩ := zcl_o hf
  have hc1 : cells + (s2.1 - τ.1) ≤ M := by omega
  have hs1 : slots + (s2.2.1 - τ.2.1) ≤ S := by omega
  refine va_calli (va_runV (As := [.int a0, .int a1]) (rest := []) ⟨hx, hb, hml, hown, hts⟩ (mtX0_needs l D cA ζ τ h a0 a1 K (x1, s2) hx1 (s2.1 - τ.1) (s2.2.1 - τ.2.1) (Nat.add_sub_cancel' hle.1) (Nat.add_sub_cancel' hle.2)) (cwV 2 hts (lw_V q1589 q878 q879 q84 q880) rfl rfl rfl (by decide +kernel) ⟨Nat.le_of_ble_eq_true rfl, Nat.le_of_ble_eq_true rfl⟩) (z_preV hX hS hH (zob_o hf3) rfl) rfl rfl hl.1 rfl (lv_room (Nat.le_of_ble_eq_true rfl)) dX0_rowsFor_3 ⟨hc1, hs1⟩) hS (fun q _ hq => hq) (fun q hq => hq) (fun r u t H1 locs ht hvm hw hB hz hk hS => ?_)
  obtain ⟨hw1, hw2⟩ := Prod.mk.inj hw.symm; subst hw1; subst hw2
  have hH : zH D cA ζ s2 H1 := z_at ht.symm hB
  have hcs : s.heap.size + (cells + (s2.1 - τ.1)) = s2.1 := by omega
  have hss : sl0 + (slots + (s2.2.1 - τ.2.1)) = s2.2.1 := by omega
  replace hcM := And.intro hc1 hs1
  generalize cells + (s2.1 - τ.1) = cells at hcs hcM ⊢; generalize slots + (s2.2.1 - τ.2.1) = slots at hss hcM ⊢
  clear hB hk hz hvm ht hle hck hc1 hs1; generalize H1 = H at hH hS ⊢
  refine lv_bipush (v := 10) hx hb dX0_rowsFor_6 (by decide) ?_
  refine lv_idiv hx hb dX0_rowsFor_8 (by decide) ?_
  refine lv_topi (fun x4 e_x4 => ?_)
  have hf := dz_ls e_x4 hf
  refine lv_aload_n hx hb dX0_rowsFor_9 rfl (lv_at hl 0 rfl) ?_
  refine lv_iload_n hx hb dX0_rowsFor_10 rfl (lv_at hl 1 rfl) ?_
  refine lv_iload_n hx hb dX0_rowsFor_11 rfl (lv_at hl 2 rfl) ?_
  obtain ⟨f7, hf7, hf⟩ := dz_bo hf
  obtain ⟨x5, s6, hx5, hle, hck, hf⟩ := zcl_o hf
  have hc1 : cells + (s6.1 - s2.1) ≤ M := by omega
  have hs1 : slots + (s6.2.1 - s2.2.1) ≤ S := by omega
  refine va_calli (va_runV (As := [.int a0, .int a1]) (rest := [.int x4]) ⟨hx, hb, hml, hown, hts⟩ (mtX0_needs l D cA ζ s2 h a0 a1 K (x5, s6) hx5 (s6.1 - s2.1) (s6.2.1 - s2.2.1) (Nat.add_sub_cancel' hle.1) (Nat.add_sub_cancel' hle.2)) (cwV 2 hts (lw_V q1589 q878 q879 q84 q880) rfl rfl rfl (by decide +kernel) ⟨Nat.le_of_ble_eq_true rfl, Nat.le_of_ble_eq_true rfl⟩) (z_preV hX hS hH (zob_o hf7) rfl) rfl rfl hl.1 rfl (lv_room (Nat.le_of_ble_eq_true rfl)) dX0_rowsFor_12 ⟨hc1, hs1⟩) hS (fun q _ hq => hq) (fun q hq => hq) (fun r u t H1 locs ht hvm hw hB hz hk hS => ?_)
  obtain ⟨hw1, hw2⟩ := Prod.mk.inj hw.symm; subst hw1; subst hw2
  have hH : zH D cA ζ s6 H1 := z_at ht.symm hB
  have hcs : s.heap.size + (cells + (s6.1 - s2.1)) = s6.1 := by omega
  have hss : sl0 + (slots + (s6.2.1 - s2.2.1)) = s6.2.1 := by omega
  replace hcM := And.intro hc1 hs1
  generalize cells + (s6.1 - s2.1) = cells at hcs hcM ⊢; generalize slots + (s6.2.1 - s2.2.1) = slots at hss hcM ⊢
  clear hB hk hz hvm ht hle hck hc1 hs1; generalize H1 = H at hH hS ⊢
  refine lv_bipush (v := 10) hx hb dX0_rowsFor_15 (by decide) ?_
  refine lv_irem hx hb dX0_rowsFor_17 (by decide) ?_
  refine lv_topi (fun x8 e_x8 => ?_)
  have hf := dz_ls e_x8 hf
  refine lv_iadd hx hb dX0_rowsFor_18 ?_
  refine lv_topi (fun x9 e_x9 => ?_)
  have hf := dz_ls e_x9 hf
  obtain ⟨hM1, hS1⟩ : cells = M ∧ slots = S := by have hq := congrArg Prod.snd (Option.some.inj hf); rw [← hq] at hM hS0; have hM : s.heap.size + M = s6.1 := hM; have hS0 : sl0 + S = s6.2.1 := hS0; omega
  refine W.widen (k := M) (n := S) (Nat.le_of_eq hM1) (Nat.le_of_eq hS1) ?_
  exact W.iret (v := x9) hx hb hr (fun t ht hW => ⟨⟨x9, s6, rfl, Option.some.inj hf, z_at ht hH⟩, hS.F ht⟩) hS.2.2 dX0_rowsFor_19

noncomputable def lfX0_fewest (K : Nat) (ζ : pZ) : Nat → (Nat → Int32 → Int32 → Int32 → pH → Option (Int32 × pH)) × (Nat → Int32 → Int32 → Int32 → pH → Option (Int32 × pH)) := Nat.rec (motive := fun _ => (Nat → Int32 → Int32 → Int32 → pH → Option (Int32 × pH)) × (Nat → Int32 → Int32 → Int32 → pH → Option (Int32 × pH))) ((fun _ _ _ _ _ => none), (fun _ _ _ _ _ => none)) (fun _ G => ((fun v0 v1 v2 v3 τ => if (4 : Int32) < v3 then (some (v2, τ)) else (dz_b (zob ζ τ v0 0) fun f3 => zcl τ (fnX0_rowsFor K ζ v0 v1 v3 τ) fun x1 s2 => dz_b (zob ζ s2 v0 0) fun f6 => zcl s2 (fnX0_rowsFor K ζ v0 v1 v2 s2) fun x4 s5 => if x4 ≤ x1 then (G.2 v0 v1 v2 v3 s5) else (G.2 v0 v1 v3 v3 s5))), (fun v0 v1 v2 v3 τ => dz_l (v3 + 1) fun x1 => G.1 v0 v1 v2 x1 τ)))
noncomputable def fnX0_fewest (K : Nat) (ζ : pZ) (h : Nat) (a0 : Int32) (τ : pH) : Option (Int32 × pH) := dz_b (fnX0_isNumber K (Int32.toInt64 a0)) fun x1 => if x1 = (0 : Int32) then (some ((-1), τ)) else (dz_b (fnX0_canBe K (Int32.toInt64 a0) 1) fun x2 => if x2 = (0 : Int32) then (some ((-2), τ)) else ((lfX0_fewest K ζ K).1 h a0 1 2 τ))
set_option maxHeartbeats 4000000 in
set_option maxRecDepth 100000 in
theorem wlX0_fewest {p : Program} {l : Launch} {e : Env} {s : State} {m : MethodId} {below : List Frame} {meth : Method} {c : Code} {D : va_G} {cA : Nat → ClassId} {ζ : pZ} (hX : zX D cA ζ s) (K : Nat) (res : (Int32 × pH)) (M S sl0 : Nat) (hM : s.heap.size + M = res.2.1) (hS0 : sl0 + S = res.2.2.1) (h : Nat) (a0 : Int32) (hx : p.tables.exec = Jvm.exec) (hb : c.code = cX0_fewest) (hr : meth.sig.returnType = some .int) (hlocks : meth.locks = false) (hml : c.maxLocals = 4) (hown : s.vm.findClass RX0 = some m.cls) (hts : ∀ w ∈ lw_all, w.before ([.ref h, .int a0] : List Value).toArray s = true) : ∀ k : Nat, (∀ (v0 : Nat) (v1 : Int32) (v2 : Int32) (v3 : Int32) (τ : pH) (H : Heap) (locs : List Loc) (cells slots : Nat), zH D cA ζ τ H → va_S (zA ζ) s.heap H locs → s.heap.size + cells = τ.1 → sl0 + slots = τ.2.1 → cells ≤ M ∧ slots ≤ S → ∀ (ls : Array Slot), lv_has ls 4 [(0, .ref v0), (1, .int v1), (2, .int v2), (3, .int v3)] → (lfX0_fewest K ζ k).1 v0 v1 v2 v3 τ = some res → W p l e (headSpec (ws_ yX0_fewest cX0_fewest 4 (some .int)) ({ frames := 105, cells := M, slots := S, locals := 2421 })).room s m ([.ref h, .int a0] : List Value).toArray below meth c H locs cells slots (MQ below (zQi D cA ζ res) ([.ref h, .int a0] : List Value).toArray s M S (zA ζ)) (F0 m 26 ls [])) ∧ (∀ (v0 : Nat) (v1 : Int32) (v2 : Int32) (v3 : Int32) (τ : pH) (H : Heap) (locs : List Loc) (cells slots : Nat), zH D cA ζ τ H → va_S (zA ζ) s.heap H locs → s.heap.size + cells = τ.1 → sl0 + slots = τ.2.1 → cells ≤ M ∧ slots ≤ S → ∀ (ls : Array Slot), lv_has ls 4 [(0, .ref v0), (1, .int v1), (2, .int v2), (3, .int v3)] → (lfX0_fewest K ζ k).2 v0 v1 v2 v3 τ = some res → W p l e (headSpec (ws_ yX0_fewest cX0_fewest 4 (some .int)) ({ frames := 105, cells := M, slots := S, locals := 2421 })).room s m ([.ref h, .int a0] : List Value).toArray below meth c H locs cells slots (MQ below (zQi D cA ζ res) ([.ref h, .int a0] : List Value).toArray s M S (zA ζ)) (F0 m 48 ls [])) := by
  intro k
  induction k with
  | zero =>
    exact ⟨fun _ _ _ _ _ _ _ _ _ _ _ _ _ _ _ _ hf => (by cases hf), fun _ _ _ _ _ _ _ _ _ _ _ _ _ _ _ _ hf => (by cases hf)⟩
  | succ k ih =>
    refine ⟨?_, ?_⟩
    · intro v0 v1 v2 v3 τ H locs cells slots hH hS hcs hss hcM ls hl hf
      have hf : (if (4 : Int32) < v3 then (some (v2, τ)) else (dz_b (zob ζ τ v0 0) fun f3 => zcl τ (fnX0_rowsFor K ζ v0 v1 v3 τ) fun x1 s2 => dz_b (zob ζ s2 v0 0) fun f6 => zcl s2 (fnX0_rowsFor K ζ v0 v1 v2 s2) fun x4 s5 => if x4 ≤ x1 then ((lfX0_fewest K ζ k).2 v0 v1 v2 v3 s5) else ((lfX0_fewest K ζ k).2 v0 v1 v3 v3 s5)) : Option (Int32 × pH)) = some res := hf
      refine lv_iload_n hx hb dX0_fewest_26 rfl (lv_at hl 3 rfl) ?_
      refine lv_iconst (v := 4) hx hb dX0_fewest_27 (by decide) ?_
      refine lv_icmp_gt (tgt := 54) hx hb dX0_fewest_28 (by decide) (fun c28 => ?_) (fun c28 => ?_)
      · have hf := dz_t c28 hf
        refine lv_iload_n hx hb dX0_fewest_54 rfl (lv_at hl 2 rfl) ?_
        obtain ⟨hM1, hS1⟩ : cells = M ∧ slots = S := by have hq := congrArg Prod.snd (Option.some.inj hf); rw [← hq] at hM hS0; have hM : s.heap.size + M = τ.1 := hM; have hS0 : sl0 + S = τ.2.1 := hS0; omega
        refine W.widen (k := M) (n := S) (Nat.le_of_eq hM1) (Nat.le_of_eq hS1) ?_
        exact W.iret (v := v2) hx hb hr (fun t ht hW => ⟨⟨v2, τ, rfl, Option.some.inj hf, z_at ht hH⟩, hS.F ht⟩) hS.2.2 dX0_fewest_55
      · have hf := dz_f c28 hf
        refine lv_aload_n hx hb dX0_fewest_31 rfl (lv_at hl 0 rfl) ?_
        refine lv_iload_n hx hb dX0_fewest_32 rfl (lv_at hl 1 rfl) ?_
        refine lv_iload_n hx hb dX0_fewest_33 rfl (lv_at hl 3 rfl) ?_
        obtain ⟨f3, hf3, hf⟩ := dz_bo hf
        obtain ⟨x1, s2, hx1, hle, hck, hf⟩ := zcl_o hf
        have hc1 : cells + (s2.1 - τ.1) ≤ M := by omega
        have hs1 : slots + (s2.2.1 - τ.2.1) ≤ S := by omega
        refine va_calli (va_runV (As := [.int v1, .int v3]) (rest := []) ⟨hx, hb, hml, hown, hts⟩ (mtX0_rowsFor l D cA ζ τ v0 v1 v3 K (x1, s2) hx1 (s2.1 - τ.1) (s2.2.1 - τ.2.1) (Nat.add_sub_cancel' hle.1) (Nat.add_sub_cancel' hle.2)) (cwV 2 hts (lw_V q1585 q1587 qs35 q84 q1588) rfl rfl rfl (by decide +kernel) ⟨Nat.le_of_ble_eq_true rfl, Nat.le_of_ble_eq_true rfl⟩) (z_preV hX hS hH (zob_o hf3) rfl) rfl rfl hl.1 rfl (lv_room (Nat.le_of_ble_eq_true rfl)) dX0_fewest_34 ⟨hc1, hs1⟩) hS (fun q _ hq => hq) (fun q hq => hq) (fun r u t H1 locs ht hvm hw hB hz hk hS => ?_)
        obtain ⟨hw1, hw2⟩ := Prod.mk.inj hw.symm; subst hw1; subst hw2
        have hH : zH D cA ζ s2 H1 := z_at ht.symm hB
        have hcs : s.heap.size + (cells + (s2.1 - τ.1)) = s2.1 := by omega
        have hss : sl0 + (slots + (s2.2.1 - τ.2.1)) = s2.2.1 := by omega
        replace hcM := And.intro hc1 hs1
        generalize cells + (s2.1 - τ.1) = cells at hcs hcM ⊢; generalize slots + (s2.2.1 - τ.2.1) = slots at hss hcM ⊢
        clear hB hk hz hvm ht hle hck hc1 hs1; generalize H1 = H at hH hS ⊢
        refine lv_aload_n hx hb dX0_fewest_37 rfl (lv_at hl 0 rfl) ?_
        refine lv_iload_n hx hb dX0_fewest_38 rfl (lv_at hl 1 rfl) ?_
        refine lv_iload_n hx hb dX0_fewest_39 rfl (lv_at hl 2 rfl) ?_
        obtain ⟨f6, hf6, hf⟩ := dz_bo hf
        obtain ⟨x4, s5, hx4, hle, hck, hf⟩ := zcl_o hf
        have hc1 : cells + (s5.1 - s2.1) ≤ M := by omega
        have hs1 : slots + (s5.2.1 - s2.2.1) ≤ S := by omega
        refine va_calli (va_runV (As := [.int v1, .int v2]) (rest := [.int x1]) ⟨hx, hb, hml, hown, hts⟩ (mtX0_rowsFor l D cA ζ s2 v0 v1 v2 K (x4, s5) hx4 (s5.1 - s2.1) (s5.2.1 - s2.2.1) (Nat.add_sub_cancel' hle.1) (Nat.add_sub_cancel' hle.2)) (cwV 2 hts (lw_V q1585 q1587 qs35 q84 q1588) rfl rfl rfl (by decide +kernel) ⟨Nat.le_of_ble_eq_true rfl, Nat.le_of_ble_eq_true rfl⟩) (z_preV hX hS hH (zob_o hf6) rfl) rfl rfl hl.1 rfl (lv_room (Nat.le_of_ble_eq_true rfl)) dX0_fewest_40 ⟨hc1, hs1⟩) hS (fun q _ hq => hq) (fun q hq => hq) (fun r u t H1 locs ht hvm hw hB hz hk hS => ?_)
        obtain ⟨hw1, hw2⟩ := Prod.mk.inj hw.symm; subst hw1; subst hw2
        have hH : zH D cA ζ s5 H1 := z_at ht.symm hB
        have hcs : s.heap.size + (cells + (s5.1 - s2.1)) = s5.1 := by omega
        have hss : sl0 + (slots + (s5.2.1 - s2.2.1)) = s5.2.1 := by omega
        replace hcM := And.intro hc1 hs1
        generalize cells + (s5.1 - s2.1) = cells at hcs hcM ⊢; generalize slots + (s5.2.1 - s2.2.1) = slots at hss hcM ⊢
        clear hB hk hz hvm ht hle hck hc1 hs1; generalize H1 = H at hH hS ⊢
        refine lv_icmp_ge (tgt := 48) hx hb dX0_fewest_43 (by decide) (fun c43 => ?_) (fun c43 => ?_)
        · have hf := dz_t c43 hf
          exact ih.2 v0 v1 v2 v3 s5 H locs cells slots hH hS hcs hss hcM ls (lv_sub hl [0, 1, 2, 3] rfl) hf
        · have hf := dz_f c43 hf
          refine lv_iload_n hx hb dX0_fewest_46 rfl (lv_at hl 3 rfl) ?_
          refine lv_istore_n (lv' := [(2, .int v3), (0, .ref v0), (1, .int v1), (3, .int v3)]) hx hb dX0_fewest_47 rfl hl (by decide) rfl (fun ls hl => ?_)
          exact ih.2 v0 v1 v3 v3 s5 H locs cells slots hH hS hcs hss hcM ls (lv_sub hl [1, 2, 0, 3] rfl) hf
    · intro v0 v1 v2 v3 τ H locs cells slots hH hS hcs hss hcM ls hl hf
      have hf : (dz_l (v3 + 1) fun x1 => (lfX0_fewest K ζ k).1 v0 v1 v2 x1 τ : Option (Int32 × pH)) = some res := hf
      obtain ⟨x1, e_x1, hf⟩ := dz_lo hf
      refine lv_iinc (v := x1) (lv' := [(3, .int x1), (0, .ref v0), (1, .int v1), (2, .int v2)]) hx hb dX0_fewest_48 hl (k := 3) rfl (by rw [e_x1]; rfl) (by decide) rfl (fun ls hl => ?_)
      refine lv_goto (tgt := 26) hx hb dX0_fewest_51 (by decide) ?_
      exact ih.1 v0 v1 v2 x1 τ H locs cells slots hH hS hcs hss hcM ls (lv_sub hl [1, 2, 3, 0] rfl) hf
set_option maxHeartbeats 4000000 in
set_option maxRecDepth 100000 in
theorem mtX0_fewest (l : Launch) (D : va_G) (cA : Nat → ClassId) (ζ : pZ) (τ : pH) (h : Nat) (a0 : Int32) (K : Nat) (res : (Int32 × pH)) (hf : fnX0_fewest K ζ h a0 τ = some res) (M S : Nat) (hM : τ.1 + M = res.2.1) (hS0 : τ.2.1 + S = res.2.2.1) : Met l yX0_fewest (ws_ yX0_fewest cX0_fewest 4 (some .int)) ({ frames := 105, cells := M, slots := S, locals := 2421 }) (zPc D cA ζ τ [.ref h, .int a0]) (zQi D cA ζ res) M S (zA ζ) := by
  refine Met.ofW (cc := cX0_fewest) (maxL := 4) (ret := some .int) (by decide +kernel) rfl ?_
  intro p e s m args below meth c s₁ B hml hv
  obtain ⟨rfl, hX, hH⟩ := hv
  have hx := B.exec
  have hb := B.bytes
  have hr := B.returns
  have hts := atoms_spec (ws := ws_ yX0_fewest cX0_fewest 4 (some .int)) B.pre
  have hts : ∀ w ∈ lw_all, w.before _ s = true := fun w h => hts w (List.mem_cons_of_mem _ h)
  have hown : s.vm.findClass RX0 = some m.cls := findClass_of_methodNamed B.named
  have hlocks := B.notSynchronized
  have hM : s.heap.size + M = res.2.1 := by rw [hH.1]; exact hM
  have hcs : s.heap.size + 0 = τ.1 := hH.1
  have hss : τ.2.1 + 0 = τ.2.1 := rfl
  generalize hsl0 : τ.2.1 = sl0 at hS0 hss
  have hss : sl0 + 0 = τ.2.1 := by rw [hsl0]; rfl
  have hS : va_S (zA ζ) s.heap s.heap [] := va_S.rf
  generalize hHe : s.heap = H at hH hS ⊢
  have hS : va_S (zA ζ) s.heap H [] := by rw [hHe]; exact hS
  generalize ([] : List Loc) = locs at hS ⊢
  have hl := lv_entry ([.ref h, .int a0]) (n := 4) (Nat.le_of_ble_eq_true rfl)
  rw [lg_entry_eq]
  generalize (lg_sl ([.ref h, .int a0]) ++ List.replicate (4 - (lg_sl ([.ref h, .int a0])).length) Slot.unset).toArray = ls at hl ⊢
  have hl : lv_has ls 4 [(0, .ref h), (1, .int a0)] := hl
  have hf : (dz_b (fnX0_isNumber K (Int32.toInt64 a0)) fun x1 => if x1 = (0 : Int32) then (some ((-1), τ)) else (dz_b (fnX0_canBe K (Int32.toInt64 a0) 1) fun x2 => if x2 = (0 : Int32) then (some ((-2), τ)) else ((lfX0_fewest K ζ K).1 h a0 1 2 τ)) : Option (Int32 × pH)) = some res := hf
  refine z_gen (fun cells slots hc0 hs0 => ?_)
  have hcs : s.heap.size + cells = τ.1 := by rw [hc0]; exact hcs
  have hss : sl0 + slots = τ.2.1 := by rw [hs0]; exact hss
  have hcM : cells ≤ M ∧ slots ≤ S := by rw [hc0, hs0]; exact ⟨Nat.zero_le _, Nat.zero_le _⟩
  clear hc0 hs0
  have ih := wlX0_fewest (l := l) (e := e) (below := below) (D := D) (cA := cA) hX K res M S sl0 hM hS0 h a0 hx hb hr hlocks hml hown hts K
  refine lv_iload_n hx hb dX0_fewest_0 rfl (lv_at hl 1 rfl) ?_
  refine lv_i2l hx hb dX0_fewest_1 (rfl : _ = Int32.toInt64 a0) ?_
  obtain ⟨x1, hx1, hf⟩ := dz_bo hf
  refine va_calli (va_runS (As := [.long (Int32.toInt64 a0)]) (rest := []) ⟨hx, hb, hml, hown, hts⟩ (mtX0_isNumber l (Int32.toInt64 a0) K x1 hx1) (va_cwS 1 hts (lw_S q191 q192 q84 q193) rfl rfl rfl (by decide +kernel) ⟨Nat.le_of_ble_eq_true rfl, Nat.le_of_ble_eq_true rfl⟩) ⟨fun a U g mk q => q, fun U hU hW => ⟨rfl, trivial⟩⟩ rfl rfl hl.1 rfl (lv_room (Nat.le_of_ble_eq_true rfl)) dX0_fewest_2 ⟨hcM.1, hcM.2⟩) hS (fun q _ hq => hq.elim) (fun q hq => hq.elim) (fun r u t H1 locs ht hvm hw hB hz hk hS => dz_size (fun hz9 => ?_))
  replace hw := hw.symm; subst hw
  replace hH := zH_keep hH hcs hz hk hz9
  clear hB hk hz hvm ht hz9; generalize H1 = H at hH hS ⊢
  refine W.widen (k := cells) (n := slots) (Nat.le_refl _) (Nat.le_refl _) ?_
  refine lv_if_ne (tgt := 10) hx hb dX0_fewest_5 (by decide) (fun c5 => ?_) (fun c5 => ?_)
  · have hf := dz_f c5 hf
    refine lv_iload_n hx hb dX0_fewest_10 rfl (lv_at hl 1 rfl) ?_
    refine lv_i2l hx hb dX0_fewest_11 (rfl : _ = Int32.toInt64 a0) ?_
    refine lv_iconst (v := 1) hx hb dX0_fewest_12 (by decide) ?_
    obtain ⟨x2, hx2, hf⟩ := dz_bo hf
    refine va_calli (va_runS (As := [.long (Int32.toInt64 a0), .int 1]) (rest := []) ⟨hx, hb, hml, hown, hts⟩ (mtX0_canBe l (Int32.toInt64 a0) 1 K x2 hx2) (va_cwS 2 hts (lw_S q652 q653 q84 q654) rfl rfl rfl (by decide +kernel) ⟨Nat.le_of_ble_eq_true rfl, Nat.le_of_ble_eq_true rfl⟩) ⟨fun a U g mk q => q, fun U hU hW => ⟨rfl, trivial⟩⟩ rfl rfl hl.1 rfl (lv_room (Nat.le_of_ble_eq_true rfl)) dX0_fewest_13 ⟨hcM.1, hcM.2⟩) hS (fun q _ hq => hq.elim) (fun q hq => hq.elim) (fun r u t H1 locs ht hvm hw hB hz hk hS => dz_size (fun hz9 => ?_))
    replace hw := hw.symm; subst hw
    replace hH := zH_keep hH hcs hz hk hz9
    clear hB hk hz hvm ht hz9; generalize H1 = H at hH hS ⊢
    refine W.widen (k := cells) (n := slots) (Nat.le_refl _) (Nat.le_refl _) ?_
    refine lv_if_ne (tgt := 22) hx hb dX0_fewest_16 (by decide) (fun c16 => ?_) (fun c16 => ?_)
    · have hf := dz_f c16 hf
      refine lv_iconst (v := 1) hx hb dX0_fewest_22 (by decide) ?_
      refine lv_istore_n (lv' := [(2, .int 1), (0, .ref h), (1, .int a0)]) hx hb dX0_fewest_23 rfl hl (by decide) rfl (fun ls hl => ?_)
      refine lv_iconst (v := 2) hx hb dX0_fewest_24 (by decide) ?_
      refine lv_istore_n (lv' := [(3, .int 2), (2, .int 1), (0, .ref h), (1, .int a0)]) hx hb dX0_fewest_25 rfl hl (by decide) rfl (fun ls hl => ?_)
      exact ih.1 h a0 1 2 τ H locs cells slots hH hS hcs hss hcM ls (lv_sub hl [2, 3, 1, 0] rfl) hf
    · have hf := dz_t c16 hf
      refine lv_bipush (v := (-2)) hx hb dX0_fewest_19 (by decide) ?_
      obtain ⟨hM1, hS1⟩ : cells = M ∧ slots = S := by have hq := congrArg Prod.snd (Option.some.inj hf); rw [← hq] at hM hS0; have hM : s.heap.size + M = τ.1 := hM; have hS0 : sl0 + S = τ.2.1 := hS0; omega
      refine W.widen (k := M) (n := S) (Nat.le_of_eq hM1) (Nat.le_of_eq hS1) ?_
      exact W.iret (v := (-2)) hx hb hr (fun t ht hW => ⟨⟨(-2), τ, rfl, Option.some.inj hf, z_at ht hH⟩, hS.F ht⟩) hS.2.2 dX0_fewest_21
  · have hf := dz_t c5 hf
    refine lv_iconst (v := (-1)) hx hb dX0_fewest_8 (by decide) ?_
    obtain ⟨hM1, hS1⟩ : cells = M ∧ slots = S := by have hq := congrArg Prod.snd (Option.some.inj hf); rw [← hq] at hM hS0; have hM : s.heap.size + M = τ.1 := hM; have hS0 : sl0 + S = τ.2.1 := hS0; omega
    refine W.widen (k := M) (n := S) (Nat.le_of_eq hM1) (Nat.le_of_eq hS1) ?_
    exact W.iret (v := (-1)) hx hb hr (fun t ht hW => ⟨⟨(-1), τ, rfl, Option.some.inj hf, z_at ht hH⟩, hS.F ht⟩) hS.2.2 dX0_fewest_9

noncomputable def lfX0_next (K : Nat) (ζ : pZ) : Nat → (Int32 → pH → Option (Int32 × pH)) := Nat.rec (motive := fun _ => (Int32 → pH → Option (Int32 × pH))) (fun _ _ => none) (fun _ G => (fun v2 τ => dz_b (fnX0_isPrime K (Int32.toInt64 v2)) fun x1 => if x1 = (0 : Int32) then (dz_l (v2 + 1) fun x2 => G x2 τ) else (some (v2, τ))))
noncomputable def fnX0_next (K : Nat) (ζ : pZ) (h : Nat) (a0 : Int32) (τ : pH) : Option (Int32 × pH) := dz_b (fnX0_isIn K (Int32.toInt64 a0) 0 999999936) fun x1 => if x1 = (0 : Int32) then (some ((-1), τ)) else (dz_l (a0 + 1) fun x2 => (lfX0_next K ζ K) x2 τ)
set_option maxHeartbeats 4000000 in
set_option maxRecDepth 100000 in
theorem wlX0_next {p : Program} {l : Launch} {e : Env} {s : State} {m : MethodId} {below : List Frame} {meth : Method} {c : Code} {D : va_G} {cA : Nat → ClassId} {ζ : pZ} (hX : zX D cA ζ s) (K : Nat) (res : (Int32 × pH)) (M S sl0 : Nat) (hM : s.heap.size + M = res.2.1) (hS0 : sl0 + S = res.2.2.1) (h : Nat) (a0 : Int32) (hx : p.tables.exec = Jvm.exec) (hb : c.code = cX0_next) (hr : meth.sig.returnType = some .int) (hlocks : meth.locks = false) (hml : c.maxLocals = 3) (hown : s.vm.findClass RX0 = some m.cls) (hts : ∀ w ∈ lw_all, w.before ([.ref h, .int a0] : List Value).toArray s = true) : ∀ k : Nat, (∀ (v2 : Int32) (τ : pH) (H : Heap) (locs : List Loc) (cells slots : Nat), zH D cA ζ τ H → va_S (zA ζ) s.heap H locs → s.heap.size + cells = τ.1 → sl0 + slots = τ.2.1 → cells ≤ M ∧ slots ≤ S → ∀ (ls : Array Slot), lv_has ls 3 [(2, .int v2)] → (lfX0_next K ζ k) v2 τ = some res → W p l e (headSpec (ws_ yX0_next cX0_next 3 (some .int)) ({ frames := 1, cells := M, slots := S, locals := 25 })).room s m ([.ref h, .int a0] : List Value).toArray below meth c H locs cells slots (MQ below (zQi D cA ζ res) ([.ref h, .int a0] : List Value).toArray s M S (zA ζ)) (F0 m 18 ls [])) := by
  intro k
  induction k with
  | zero =>
    exact fun _ _ _ _ _ _ _ _ _ _ _ _ _ hf => (by cases hf)
  | succ k ih =>
    · intro v2 τ H locs cells slots hH hS hcs hss hcM ls hl hf
      have hf : (dz_b (fnX0_isPrime K (Int32.toInt64 v2)) fun x1 => if x1 = (0 : Int32) then (dz_l (v2 + 1) fun x2 => (lfX0_next K ζ k) x2 τ) else (some (v2, τ)) : Option (Int32 × pH)) = some res := hf
      refine lv_iload_n hx hb dX0_next_18 rfl (lv_at hl 0 rfl) ?_
      refine lv_i2l hx hb dX0_next_19 (rfl : _ = Int32.toInt64 v2) ?_
      obtain ⟨x1, hx1, hf⟩ := dz_bo hf
      refine va_calli (va_runS (As := [.long (Int32.toInt64 v2)]) (rest := []) ⟨hx, hb, hml, hown, hts⟩ (mtX0_isPrime l (Int32.toInt64 v2) K x1 hx1) (va_cwS 1 hts (lw_S q655 q234 q84 q235) rfl rfl rfl (by decide +kernel) ⟨Nat.le_of_ble_eq_true rfl, Nat.le_of_ble_eq_true rfl⟩) ⟨fun a U g mk q => q, fun U hU hW => ⟨rfl, trivial⟩⟩ rfl rfl hl.1 rfl (lv_room (Nat.le_of_ble_eq_true rfl)) dX0_next_20 ⟨hcM.1, hcM.2⟩) hS (fun q _ hq => hq.elim) (fun q hq => hq.elim) (fun r u t H1 locs ht hvm hw hB hz hk hS => dz_size (fun hz9 => ?_))
      replace hw := hw.symm; subst hw
      replace hH := zH_keep hH hcs hz hk hz9
      clear hB hk hz hvm ht hz9; generalize H1 = H at hH hS ⊢
      refine W.widen (k := cells) (n := slots) (Nat.le_refl _) (Nat.le_refl _) ?_
      refine lv_if_ne (tgt := 32) hx hb dX0_next_23 (by decide) (fun c23 => ?_) (fun c23 => ?_)
      · have hf := dz_f c23 hf
        refine lv_iload_n hx hb dX0_next_32 rfl (lv_at hl 0 rfl) ?_
        obtain ⟨hM1, hS1⟩ : cells = M ∧ slots = S := by have hq := congrArg Prod.snd (Option.some.inj hf); rw [← hq] at hM hS0; have hM : s.heap.size + M = τ.1 := hM; have hS0 : sl0 + S = τ.2.1 := hS0; omega
        refine W.widen (k := M) (n := S) (Nat.le_of_eq hM1) (Nat.le_of_eq hS1) ?_
        exact W.iret (v := v2) hx hb hr (fun t ht hW => ⟨⟨v2, τ, rfl, Option.some.inj hf, z_at ht hH⟩, hS.F ht⟩) hS.2.2 dX0_next_33
      · have hf := dz_t c23 hf
        obtain ⟨x2, e_x2, hf⟩ := dz_lo hf
        refine lv_iinc (v := x2) (lv' := [(2, .int x2)]) hx hb dX0_next_26 hl (k := 0) rfl (by rw [e_x2]; rfl) (by decide) rfl (fun ls hl => ?_)
        refine lv_goto (tgt := 18) hx hb dX0_next_29 (by decide) ?_
        exact ih x2 τ H locs cells slots hH hS hcs hss hcM ls (lv_sub hl [0] rfl) hf
set_option maxHeartbeats 4000000 in
set_option maxRecDepth 100000 in
theorem mtX0_next (l : Launch) (D : va_G) (cA : Nat → ClassId) (ζ : pZ) (τ : pH) (h : Nat) (a0 : Int32) (K : Nat) (res : (Int32 × pH)) (hf : fnX0_next K ζ h a0 τ = some res) (M S : Nat) (hM : τ.1 + M = res.2.1) (hS0 : τ.2.1 + S = res.2.2.1) : Met l yX0_next (ws_ yX0_next cX0_next 3 (some .int)) ({ frames := 1, cells := M, slots := S, locals := 25 }) (zPc D cA ζ τ [.ref h, .int a0]) (zQi D cA ζ res) M S (zA ζ) := by
  refine Met.ofW (cc := cX0_next) (maxL := 3) (ret := some .int) (by decide +kernel) rfl ?_
  intro p e s m args below meth c s₁ B hml hv
  obtain ⟨rfl, hX, hH⟩ := hv
  have hx := B.exec
  have hb := B.bytes
  have hr := B.returns
  have hts := atoms_spec (ws := ws_ yX0_next cX0_next 3 (some .int)) B.pre
  have hts : ∀ w ∈ lw_all, w.before _ s = true := fun w h => hts w (List.mem_cons_of_mem _ h)
  have hown : s.vm.findClass RX0 = some m.cls := findClass_of_methodNamed B.named
  have hlocks := B.notSynchronized
  have hM : s.heap.size + M = res.2.1 := by rw [hH.1]; exact hM
  have hcs : s.heap.size + 0 = τ.1 := hH.1
  have hss : τ.2.1 + 0 = τ.2.1 := rfl
  generalize hsl0 : τ.2.1 = sl0 at hS0 hss
  have hss : sl0 + 0 = τ.2.1 := by rw [hsl0]; rfl
  have hS : va_S (zA ζ) s.heap s.heap [] := va_S.rf
  generalize hHe : s.heap = H at hH hS ⊢
  have hS : va_S (zA ζ) s.heap H [] := by rw [hHe]; exact hS
  generalize ([] : List Loc) = locs at hS ⊢
  have hl := lv_entry ([.ref h, .int a0]) (n := 3) (Nat.le_of_ble_eq_true rfl)
  rw [lg_entry_eq]
  generalize (lg_sl ([.ref h, .int a0]) ++ List.replicate (3 - (lg_sl ([.ref h, .int a0])).length) Slot.unset).toArray = ls at hl ⊢
  have hl : lv_has ls 3 [(0, .ref h), (1, .int a0)] := hl
  have hf : (dz_b (fnX0_isIn K (Int32.toInt64 a0) 0 999999936) fun x1 => if x1 = (0 : Int32) then (some ((-1), τ)) else (dz_l (a0 + 1) fun x2 => (lfX0_next K ζ K) x2 τ) : Option (Int32 × pH)) = some res := hf
  refine z_gen (fun cells slots hc0 hs0 => ?_)
  have hcs : s.heap.size + cells = τ.1 := by rw [hc0]; exact hcs
  have hss : sl0 + slots = τ.2.1 := by rw [hs0]; exact hss
  have hcM : cells ≤ M ∧ slots ≤ S := by rw [hc0, hs0]; exact ⟨Nat.zero_le _, Nat.zero_le _⟩
  clear hc0 hs0
  have ih := wlX0_next (l := l) (e := e) (below := below) (D := D) (cA := cA) hX K res M S sl0 hM hS0 h a0 hx hb hr hlocks hml hown hts K
  refine lv_iload_n hx hb dX0_next_0 rfl (lv_at hl 1 rfl) ?_
  refine lv_i2l hx hb dX0_next_1 (rfl : _ = Int32.toInt64 a0) ?_
  refine lv_lconst (v := 0) hx hb dX0_next_2 rfl ?_
  refine lv_ldc2 (v := 999999936) hx hb hown (hts _ q1594) dX0_next_3 ?_
  obtain ⟨x1, hx1, hf⟩ := dz_bo hf
  refine va_calli (va_runS (As := [.long (Int32.toInt64 a0), .long 0, .long 999999936]) (rest := []) ⟨hx, hb, hml, hown, hts⟩ (mtX0_isIn l (Int32.toInt64 a0) 0 999999936 K x1 hx1) (va_cwS 3 hts (lw_S q188 q189 q84 q190) rfl rfl rfl (by decide +kernel) ⟨Nat.le_of_ble_eq_true rfl, Nat.le_of_ble_eq_true rfl⟩) ⟨fun a U g mk q => q, fun U hU hW => ⟨rfl, trivial⟩⟩ rfl rfl hl.1 rfl (lv_room (Nat.le_of_ble_eq_true rfl)) dX0_next_6 ⟨hcM.1, hcM.2⟩) hS (fun q _ hq => hq.elim) (fun q hq => hq.elim) (fun r u t H1 locs ht hvm hw hB hz hk hS => dz_size (fun hz9 => ?_))
  replace hw := hw.symm; subst hw
  replace hH := zH_keep hH hcs hz hk hz9
  clear hB hk hz hvm ht hz9; generalize H1 = H at hH hS ⊢
  refine W.widen (k := cells) (n := slots) (Nat.le_refl _) (Nat.le_refl _) ?_
  refine lv_if_ne (tgt := 14) hx hb dX0_next_9 (by decide) (fun c9 => ?_) (fun c9 => ?_)
  · have hf := dz_f c9 hf
    refine lv_iload_n hx hb dX0_next_14 rfl (lv_at hl 1 rfl) ?_
    refine lv_iconst (v := 1) hx hb dX0_next_15 (by decide) ?_
    refine lv_iadd hx hb dX0_next_16 ?_
    refine lv_topi (fun x2 e_x2 => ?_)
    have hf := dz_ls e_x2 hf
    refine lv_istore_n (lv' := [(2, .int x2), (0, .ref h), (1, .int a0)]) hx hb dX0_next_17 rfl hl (by decide) rfl (fun ls hl => ?_)
    exact ih x2 τ H locs cells slots hH hS hcs hss hcM ls (lv_sub hl [0] rfl) hf
  · have hf := dz_t c9 hf
    refine lv_iconst (v := (-1)) hx hb dX0_next_12 (by decide) ?_
    obtain ⟨hM1, hS1⟩ : cells = M ∧ slots = S := by have hq := congrArg Prod.snd (Option.some.inj hf); rw [← hq] at hM hS0; have hM : s.heap.size + M = τ.1 := hM; have hS0 : sl0 + S = τ.2.1 := hS0; omega
    refine W.widen (k := M) (n := S) (Nat.le_of_eq hM1) (Nat.le_of_eq hS1) ?_
    exact W.iret (v := (-1)) hx hb hr (fun t ht hW => ⟨⟨(-1), τ, rfl, Option.some.inj hf, z_at ht hH⟩, hS.F ht⟩) hS.2.2 dX0_next_13

noncomputable def lfX0_smoothOf (K : Nat) (ζ : pZ) : Nat → (Int64 → Int64 → Nat → pH → Option (Int64 × pH)) × (Int64 → Int64 → Nat → Nat → Int32 → pH → Option (Int64 × pH)) × (Int64 → Int64 → Nat → pH → Option (Int64 × pH)) := Nat.rec (motive := fun _ => (Int64 → Int64 → Nat → pH → Option (Int64 × pH)) × (Int64 → Int64 → Nat → Nat → Int32 → pH → Option (Int64 × pH)) × (Int64 → Int64 → Nat → pH → Option (Int64 × pH))) ((fun _ _ _ _ => none), (fun _ _ _ _ _ _ => none), (fun _ _ _ _ => none)) (fun _ G => ((fun v2 v4 v6 τ => dz_b (zob ζ τ v6 2) fun f3 => zcl τ (fnX2_hasNext K ζ v6 τ) fun x1 s2 => if x1 = (0 : Int32) then (some (v4, s2)) else (dz_b (zob ζ s2 v6 2) fun f6 => zcl s2 (fnX2_next K ζ v6 s2) fun x4 s5 => dz_b (zob ζ s5 x4 11) fun f7 => G.2.1 v2 v4 v6 x4 0 s5)), (fun v2 v4 v6 v7 v8 τ => dz_b (zob ζ τ v7 11) fun f1 => dz_b (zvi (f1[1]?)) fun x2 => if x2 ≤ v8 then (G.2.2 v2 v4 v6 τ) else (dz_b (zob ζ τ v7 11) fun f3 => dz_b (zvl (f3[0]?)) fun x4 => if v2 < x4 then (G.2.2 v2 v4 v6 τ) else (dz_b (zob ζ τ v7 11) fun f5 => dz_b (zvl (f5[0]?)) fun x6 => dz_l (v4 * x6) fun x7 => dz_l (v8 + 1) fun x8 => G.2.1 v2 x7 v6 v7 x8 τ))), (fun v2 v4 v6 τ => G.1 v2 v4 v6 τ)))
noncomputable def fnX0_smoothOf (K : Nat) (ζ : pZ) (a0 : Int64) (a1 : Int64) (τ : pH) : Option (Int64 × pH) := zcl τ (fnX0_factors K ζ a0 τ) fun x1 s2 => dz_b (zob ζ s2 x1 10) fun f5 => zcl s2 (fnX8_iterator K ζ x1 s2) fun x3 s4 => (lfX0_smoothOf K ζ K).1 a1 1 x3 s4
set_option maxHeartbeats 4000000 in
set_option maxRecDepth 100000 in
theorem wlX0_smoothOf {p : Program} {l : Launch} {e : Env} {s : State} {m : MethodId} {below : List Frame} {meth : Method} {c : Code} {D : va_G} {cA : Nat → ClassId} {ζ : pZ} (hX : zX D cA ζ s) (K : Nat) (res : (Int64 × pH)) (M S sl0 : Nat) (hM : s.heap.size + M = res.2.1) (hS0 : sl0 + S = res.2.2.1) (a0 : Int64) (a1 : Int64) (hx : p.tables.exec = Jvm.exec) (hb : c.code = cX0_smoothOf) (hr : meth.sig.returnType = some .long) (hlocks : meth.locks = false) (hml : c.maxLocals = 9) (hown : s.vm.findClass RX0 = some m.cls) (hts : ∀ w ∈ lw_all, w.before ([.long a0, .long a1] : List Value).toArray s = true) : ∀ k : Nat, (∀ (v2 : Int64) (v4 : Int64) (v6 : Nat) (τ : pH) (H : Heap) (locs : List Loc) (cells slots : Nat), zH D cA ζ τ H → va_S (zA ζ) s.heap H locs → s.heap.size + cells = τ.1 → sl0 + slots = τ.2.1 → cells ≤ M ∧ slots ≤ S → ∀ (ls : Array Slot), lv_has ls 9 [(2, .long v2), (4, .long v4), (6, .ref v6)] → (lfX0_smoothOf K ζ k).1 v2 v4 v6 τ = some res → W p l e (headSpec (ws_ yX0_smoothOf cX0_smoothOf 9 (some .long)) ({ frames := 3, cells := M, slots := S, locals := 71 })).room s m ([.long a0, .long a1] : List Value).toArray below meth c H locs cells slots (MQ below (zQl D cA ζ res) ([.long a0, .long a1] : List Value).toArray s M S (zA ζ)) (F0 m 12 ls [])) ∧ (∀ (v2 : Int64) (v4 : Int64) (v6 : Nat) (v7 : Nat) (v8 : Int32) (τ : pH) (H : Heap) (locs : List Loc) (cells slots : Nat), zH D cA ζ τ H → va_S (zA ζ) s.heap H locs → s.heap.size + cells = τ.1 → sl0 + slots = τ.2.1 → cells ≤ M ∧ slots ≤ S → ∀ (ls : Array Slot), lv_has ls 9 [(2, .long v2), (4, .long v4), (6, .ref v6), (7, .ref v7), (8, .int v8)] → (lfX0_smoothOf K ζ k).2.1 v2 v4 v6 v7 v8 τ = some res → W p l e (headSpec (ws_ yX0_smoothOf cX0_smoothOf 9 (some .long)) ({ frames := 3, cells := M, slots := S, locals := 71 })).room s m ([.long a0, .long a1] : List Value).toArray below meth c H locs cells slots (MQ below (zQl D cA ζ res) ([.long a0, .long a1] : List Value).toArray s M S (zA ζ)) (F0 m 37 ls [])) ∧ (∀ (v2 : Int64) (v4 : Int64) (v6 : Nat) (τ : pH) (H : Heap) (locs : List Loc) (cells slots : Nat), zH D cA ζ τ H → va_S (zA ζ) s.heap H locs → s.heap.size + cells = τ.1 → sl0 + slots = τ.2.1 → cells ≤ M ∧ slots ≤ S → ∀ (ls : Array Slot), lv_has ls 9 [(2, .long v2), (4, .long v4), (6, .ref v6)] → (lfX0_smoothOf K ζ k).2.2 v2 v4 v6 τ = some res → W p l e (headSpec (ws_ yX0_smoothOf cX0_smoothOf 9 (some .long)) ({ frames := 3, cells := M, slots := S, locals := 71 })).room s m ([.long a0, .long a1] : List Value).toArray below meth c H locs cells slots (MQ below (zQl D cA ζ res) ([.long a0, .long a1] : List Value).toArray s M S (zA ζ)) (F0 m 73 ls [])) := by
  intro k
  induction k with
  | zero =>
    exact ⟨fun _ _ _ _ _ _ _ _ _ _ _ _ _ _ _ hf => (by cases hf), fun _ _ _ _ _ _ _ _ _ _ _ _ _ _ _ _ _ hf => (by cases hf), fun _ _ _ _ _ _ _ _ _ _ _ _ _ _ _ hf => (by cases hf)⟩
  | succ k ih =>
    refine ⟨?_, ?_, ?_⟩
    · intro v2 v4 v6 τ H locs cells slots hH hS hcs hss hcM ls hl hf
      have hf : (dz_b (zob ζ τ v6 2) fun f3 => zcl τ (fnX2_hasNext K ζ v6 τ) fun x1 s2 => if x1 = (0 : Int32) then (some (v4, s2)) else (dz_b (zob ζ s2 v6 2) fun f6 => zcl s2 (fnX2_next K ζ v6 s2) fun x4 s5 => dz_b (zob ζ s5 x4 11) fun f7 => (lfX0_smoothOf K ζ k).2.1 v2 v4 v6 x4 0 s5) : Option (Int64 × pH)) = some res := hf
      refine lv_aload hx hb dX0_smoothOf_12 (lv_at hl 2 rfl) ?_
      obtain ⟨f3, hf3, hf⟩ := dz_bo hf
      obtain ⟨x1, s2, hx1, hle, hck, hf⟩ := zcl_o hf
      have hc1 : cells + (s2.1 - τ.1) ≤ M := by omega
      have hs1 : slots + (s2.2.1 - τ.2.1) ≤ S := by omega
      refine va_callFi (va_runF (hX.K.1 2 _ rfl).2 (As := []) (rest := []) ⟨hx, hb, hml, hown, hts⟩ (mtX2_hasNext l D cA ζ τ v6 K (x1, s2) hx1 (s2.1 - τ.1) (s2.2.1 - τ.2.1) (Nat.add_sub_cancel' hle.1) (Nat.add_sub_cancel' hle.2)) (va_cwF 0 hts (zF_in q782 q267 q269 q91 q271) rfl rfl rfl (hX.F 0 rfl) (by decide +kernel) ⟨Nat.le_of_ble_eq_true rfl, Nat.le_of_ble_eq_true rfl⟩) (z_preV hX hS hH (zob_o hf3) rfl) rfl rfl hl.1 rfl (lv_room (Nat.le_of_ble_eq_true rfl)) dX0_smoothOf_14 ⟨hc1, hs1⟩) hS (fun q _ hq => hq) (fun q hq => hq) (fun r u t H1 locs ht hvm hw hB hz hk hS => ?_)
      obtain ⟨hw1, hw2⟩ := Prod.mk.inj hw.symm; subst hw1; subst hw2
      have hH : zH D cA ζ s2 H1 := z_at ht.symm hB
      have hcs : s.heap.size + (cells + (s2.1 - τ.1)) = s2.1 := by omega
      have hss : sl0 + (slots + (s2.2.1 - τ.2.1)) = s2.2.1 := by omega
      replace hcM := And.intro hc1 hs1
      generalize cells + (s2.1 - τ.1) = cells at hcs hcM ⊢; generalize slots + (s2.2.1 - τ.2.1) = slots at hss hcM ⊢
      clear hB hk hz hvm ht hle hck hc1 hs1; generalize H1 = H at hH hS ⊢
      refine lv_if_eq (tgt := 76) hx hb dX0_smoothOf_19 (by decide) (fun c19 => ?_) (fun c19 => ?_)
      · have hf := dz_t c19 hf
        refine lv_lload hx hb dX0_smoothOf_76 (lv_at hl 1 rfl) ?_
        obtain ⟨hM1, hS1⟩ : cells = M ∧ slots = S := by have hq := congrArg Prod.snd (Option.some.inj hf); rw [← hq] at hM hS0; have hM : s.heap.size + M = s2.1 := hM; have hS0 : sl0 + S = s2.2.1 := hS0; omega
        refine W.widen (k := M) (n := S) (Nat.le_of_eq hM1) (Nat.le_of_eq hS1) ?_
        exact W.lret (v := v4) hx hb hr (fun t ht hW => ⟨⟨v4, s2, rfl, Option.some.inj hf, z_at ht hH⟩, hS.F ht⟩) hS.2.2 dX0_smoothOf_78
      · have hf := dz_f c19 hf
        refine lv_aload hx hb dX0_smoothOf_22 (lv_at hl 2 rfl) ?_
        obtain ⟨f6, hf6, hf⟩ := dz_bo hf
        obtain ⟨x4, s5, hx4, hle, hck, hf⟩ := zcl_o hf
        have hc1 : cells + (s5.1 - s2.1) ≤ M := by omega
        have hs1 : slots + (s5.2.1 - s2.2.1) ≤ S := by omega
        refine va_callFr (va_runF (hX.K.1 2 _ rfl).2 (As := []) (rest := []) ⟨hx, hb, hml, hown, hts⟩ (mtX2_next l D cA ζ s2 v6 K (x4, s5) hx4 (s5.1 - s2.1) (s5.2.1 - s2.2.1) (Nat.add_sub_cancel' hle.1) (Nat.add_sub_cancel' hle.2)) (va_cwF 0 hts (zF_in q784 q282 q284 q91 q286) rfl rfl rfl (hX.F 1 rfl) (by decide +kernel) ⟨Nat.le_of_ble_eq_true rfl, Nat.le_of_ble_eq_true rfl⟩) (z_preV hX hS hH (zob_o hf6) rfl) rfl rfl hl.1 rfl (lv_room (Nat.le_of_ble_eq_true rfl)) dX0_smoothOf_24 ⟨hc1, hs1⟩) hS (fun q _ hq => hq) (fun q hq => hq) (fun u r t H1 locs ht hvm hw hB hz hk hS => ?_)
        obtain ⟨hw, hB⟩ := hB
        obtain ⟨hw1, hw2⟩ := Prod.mk.inj hw.symm; subst hw1; subst hw2
        have hH : zH D cA ζ s5 H1 := z_at ht.symm hB
        have hcs : s.heap.size + (cells + (s5.1 - s2.1)) = s5.1 := by omega
        have hss : sl0 + (slots + (s5.2.1 - s2.2.1)) = s5.2.1 := by omega
        replace hcM := And.intro hc1 hs1
        generalize cells + (s5.1 - s2.1) = cells at hcs hcM ⊢; generalize slots + (s5.2.1 - s2.2.1) = slots at hss hcM ⊢
        clear hB hk hz hvm ht hle hck hc1 hs1; generalize H1 = H at hH hS ⊢
        obtain ⟨f7, hf7, hf⟩ := dz_bo hf
        refine va_castS (nm := RX13) hx hb hown (hts _ q677) (hX.K.1 11 _ rfl).2 (va_recv hX.K (zrd_P hX hS hH (zob_o hf7)) (ci := 11) (q0 := 0) rfl rfl) dX0_smoothOf_29 ?_
        refine lv_astore (lv' := [(7, .ref x4), (2, .long v2), (4, .long v4), (6, .ref v6)]) hx hb dX0_smoothOf_32 hl (by decide) rfl (fun ls hl => ?_)
        refine lv_iconst (v := 0) hx hb dX0_smoothOf_34 (by decide) ?_
        refine lv_istore (lv' := [(8, .int 0), (7, .ref x4), (2, .long v2), (4, .long v4), (6, .ref v6)]) hx hb dX0_smoothOf_35 hl (by decide) rfl (fun ls hl => ?_)
        exact ih.2.1 v2 v4 v6 x4 0 s5 H locs cells slots hH hS hcs hss hcM ls (lv_sub hl [2, 3, 4, 1, 0] rfl) hf
    · intro v2 v4 v6 v7 v8 τ H locs cells slots hH hS hcs hss hcM ls hl hf
      have hf : (dz_b (zob ζ τ v7 11) fun f1 => dz_b (zvi (f1[1]?)) fun x2 => if x2 ≤ v8 then ((lfX0_smoothOf K ζ k).2.2 v2 v4 v6 τ) else (dz_b (zob ζ τ v7 11) fun f3 => dz_b (zvl (f3[0]?)) fun x4 => if v2 < x4 then ((lfX0_smoothOf K ζ k).2.2 v2 v4 v6 τ) else (dz_b (zob ζ τ v7 11) fun f5 => dz_b (zvl (f5[0]?)) fun x6 => dz_l (v4 * x6) fun x7 => dz_l (v8 + 1) fun x8 => (lfX0_smoothOf K ζ k).2.1 v2 x7 v6 v7 x8 τ)) : Option (Int64 × pH)) = some res := hf
      refine lv_iload hx hb dX0_smoothOf_37 (lv_at hl 4 rfl) ?_
      refine lv_aload hx hb dX0_smoothOf_39 (lv_at hl 3 rfl) ?_
      obtain ⟨f1, hf1, hf⟩ := dz_bo hf
      obtain ⟨x2, hx2, hf⟩ := dz_bo hf
      refine va_get (C := RX13) (T := TX13) (N := 3) hx hb hts in_X13 hown hX.K (zrd_P hX hS hH (zob_o hf1)) 0 rfl rfl 1 (by decide) (hts _ q689) (fun _ hq => hq) (zvi_o hx2) dX0_smoothOf_41 ?_
      refine lv_icmp_ge (tgt := 73) hx hb dX0_smoothOf_44 (by decide) (fun c44 => ?_) (fun c44 => ?_)
      · have hf := dz_t c44 hf
        exact ih.2.2 v2 v4 v6 τ H locs cells slots hH hS hcs hss hcM ls (lv_sub hl [0, 1, 2] rfl) hf
      · have hf := dz_f c44 hf
        refine lv_aload hx hb dX0_smoothOf_47 (lv_at hl 3 rfl) ?_
        obtain ⟨f3, hf3, hf⟩ := dz_bo hf
        obtain ⟨x4, hx4, hf⟩ := dz_bo hf
        refine va_get (C := RX13) (T := TX13) (N := 3) hx hb hts in_X13 hown hX.K (zrd_P hX hS hH (zob_o hf3)) 0 rfl rfl 0 (by decide) (hts _ q686) (fun _ hq => hq) (zvl_o hx4) dX0_smoothOf_49 ?_
        refine lv_lload_n hx hb dX0_smoothOf_52 rfl (lv_at hl 0 rfl) ?_
        refine W.lcmp hx hb dX0_smoothOf_53 ?_
        refine lv_if_gt (tgt := 73) hx hb dX0_smoothOf_54 (by decide) (fun c54 => ?_) (fun c54 => ?_)
        · have c54 : v2 < x4 := (lg_cmp_gt _ _).mp c54
          have hf := dz_t c54 hf
          exact ih.2.2 v2 v4 v6 τ H locs cells slots hH hS hcs hss hcM ls (lv_sub hl [0, 1, 2] rfl) hf
        · have c54 : ¬ v2 < x4 := fun hq => c54 ((lg_cmp_gt _ _).mpr hq)
          have hf := dz_f c54 hf
          refine lv_lload hx hb dX0_smoothOf_57 (lv_at hl 1 rfl) ?_
          refine lv_aload hx hb dX0_smoothOf_59 (lv_at hl 3 rfl) ?_
          obtain ⟨f5, hf5, hf⟩ := dz_bo hf
          obtain ⟨x6, hx6, hf⟩ := dz_bo hf
          refine va_get (C := RX13) (T := TX13) (N := 3) hx hb hts in_X13 hown hX.K (zrd_P hX hS hH (zob_o hf5)) 0 rfl rfl 0 (by decide) (hts _ q686) (fun _ hq => hq) (zvl_o hx6) dX0_smoothOf_61 ?_
          refine lv_lmul hx hb dX0_smoothOf_64 ?_
          refine lv_topl (fun x7 e_x7 => ?_)
          have hf := dz_ls e_x7 hf
          refine lv_lstore (lv' := [(4, .long x7), (2, .long v2), (6, .ref v6), (7, .ref v7), (8, .int v8)]) hx hb dX0_smoothOf_65 hl (by decide) rfl (fun ls hl => ?_)
          obtain ⟨x8, e_x8, hf⟩ := dz_lo hf
          refine lv_iinc (v := x8) (lv' := [(8, .int x8), (4, .long x7), (2, .long v2), (6, .ref v6), (7, .ref v7)]) hx hb dX0_smoothOf_67 hl (k := 4) rfl (by rw [e_x8]; rfl) (by decide) rfl (fun ls hl => ?_)
          refine lv_goto (tgt := 37) hx hb dX0_smoothOf_70 (by decide) ?_
          exact ih.2.1 v2 x7 v6 v7 x8 τ H locs cells slots hH hS hcs hss hcM ls (lv_sub hl [2, 1, 3, 4, 0] rfl) hf
    · intro v2 v4 v6 τ H locs cells slots hH hS hcs hss hcM ls hl hf
      have hf : ((lfX0_smoothOf K ζ k).1 v2 v4 v6 τ : Option (Int64 × pH)) = some res := hf
      refine lv_goto (tgt := 12) hx hb dX0_smoothOf_73 (by decide) ?_
      exact ih.1 v2 v4 v6 τ H locs cells slots hH hS hcs hss hcM ls (lv_sub hl [0, 1, 2] rfl) hf
set_option maxHeartbeats 4000000 in
set_option maxRecDepth 100000 in
theorem mtX0_smoothOf (l : Launch) (D : va_G) (cA : Nat → ClassId) (ζ : pZ) (τ : pH) (a0 : Int64) (a1 : Int64) (K : Nat) (res : (Int64 × pH)) (hf : fnX0_smoothOf K ζ a0 a1 τ = some res) (M S : Nat) (hM : τ.1 + M = res.2.1) (hS0 : τ.2.1 + S = res.2.2.1) : Met l yX0_smoothOf (ws_ yX0_smoothOf cX0_smoothOf 9 (some .long)) ({ frames := 3, cells := M, slots := S, locals := 71 }) (zPc D cA ζ τ [.long a0, .long a1]) (zQl D cA ζ res) M S (zA ζ) := by
  refine Met.ofW (cc := cX0_smoothOf) (maxL := 9) (ret := some .long) (by decide +kernel) rfl ?_
  intro p e s m args below meth c s₁ B hml hv
  obtain ⟨rfl, hX, hH⟩ := hv
  have hx := B.exec
  have hb := B.bytes
  have hr := B.returns
  have hts := atoms_spec (ws := ws_ yX0_smoothOf cX0_smoothOf 9 (some .long)) B.pre
  have hts : ∀ w ∈ lw_all, w.before _ s = true := fun w h => hts w (List.mem_cons_of_mem _ h)
  have hown : s.vm.findClass RX0 = some m.cls := findClass_of_methodNamed B.named
  have hlocks := B.notSynchronized
  have hM : s.heap.size + M = res.2.1 := by rw [hH.1]; exact hM
  have hcs : s.heap.size + 0 = τ.1 := hH.1
  have hss : τ.2.1 + 0 = τ.2.1 := rfl
  generalize hsl0 : τ.2.1 = sl0 at hS0 hss
  have hss : sl0 + 0 = τ.2.1 := by rw [hsl0]; rfl
  have hS : va_S (zA ζ) s.heap s.heap [] := va_S.rf
  generalize hHe : s.heap = H at hH hS ⊢
  have hS : va_S (zA ζ) s.heap H [] := by rw [hHe]; exact hS
  generalize ([] : List Loc) = locs at hS ⊢
  have hl := lv_entry ([.long a0, .long a1]) (n := 9) (Nat.le_of_ble_eq_true rfl)
  rw [lg_entry_eq]
  generalize (lg_sl ([.long a0, .long a1]) ++ List.replicate (9 - (lg_sl ([.long a0, .long a1])).length) Slot.unset).toArray = ls at hl ⊢
  have hl : lv_has ls 9 [(0, .long a0), (2, .long a1)] := hl
  have hf : (zcl τ (fnX0_factors K ζ a0 τ) fun x1 s2 => dz_b (zob ζ s2 x1 10) fun f5 => zcl s2 (fnX8_iterator K ζ x1 s2) fun x3 s4 => (lfX0_smoothOf K ζ K).1 a1 1 x3 s4 : Option (Int64 × pH)) = some res := hf
  refine z_gen (fun cells slots hc0 hs0 => ?_)
  have hcs : s.heap.size + cells = τ.1 := by rw [hc0]; exact hcs
  have hss : sl0 + slots = τ.2.1 := by rw [hs0]; exact hss
  have hcM : cells ≤ M ∧ slots ≤ S := by rw [hc0, hs0]; exact ⟨Nat.zero_le _, Nat.zero_le _⟩
  clear hc0 hs0
  have ih := wlX0_smoothOf (l := l) (e := e) (below := below) (D := D) (cA := cA) hX K res M S sl0 hM hS0 a0 a1 hx hb hr hlocks hml hown hts K
  refine lv_lconst (v := 1) hx hb dX0_smoothOf_0 rfl ?_
  refine lv_lstore (lv' := [(4, .long 1), (0, .long a0), (2, .long a1)]) hx hb dX0_smoothOf_1 hl (by decide) rfl (fun ls hl => ?_)
  refine lv_lload_n hx hb dX0_smoothOf_3 rfl (lv_at hl 1 rfl) ?_
  obtain ⟨x1, s2, hx1, hle, hck, hf⟩ := zcl_o hf
  have hc1 : cells + (s2.1 - τ.1) ≤ M := by omega
  have hs1 : slots + (s2.2.1 - τ.2.1) ≤ S := by omega
  refine va_callr (va_runS (As := [.long a0]) (rest := []) ⟨hx, hb, hml, hown, hts⟩ (mtX0_factors l D cA ζ τ a0 K (x1, s2) hx1 (s2.1 - τ.1) (s2.2.1 - τ.2.1) (Nat.add_sub_cancel' hle.1) (Nat.add_sub_cancel' hle.2)) (va_cwS 1 hts (lw_S q1576 q673 q84 q674) rfl rfl rfl (by decide +kernel) ⟨Nat.le_of_ble_eq_true rfl, Nat.le_of_ble_eq_true rfl⟩) (z_preS hX hS hH) rfl rfl hl.1 rfl (lv_room (Nat.le_of_ble_eq_true rfl)) dX0_smoothOf_4 ⟨hc1, hs1⟩) hS (fun q _ hq => hq) (fun q hq => hq) (fun u r t H1 locs ht hvm hw hB hz hk hS => ?_)
  obtain ⟨hw, hB⟩ := hB
  obtain ⟨hw1, hw2⟩ := Prod.mk.inj hw.symm; subst hw1; subst hw2
  have hH : zH D cA ζ s2 H1 := z_at ht.symm hB
  have hcs : s.heap.size + (cells + (s2.1 - τ.1)) = s2.1 := by omega
  have hss : sl0 + (slots + (s2.2.1 - τ.2.1)) = s2.2.1 := by omega
  replace hcM := And.intro hc1 hs1
  generalize cells + (s2.1 - τ.1) = cells at hcs hcM ⊢; generalize slots + (s2.2.1 - τ.2.1) = slots at hss hcM ⊢
  clear hB hk hz hvm ht hle hck hc1 hs1; generalize H1 = H at hH hS ⊢
  obtain ⟨f5, hf5, hf⟩ := dz_bo hf
  obtain ⟨x3, s4, hx3, hle, hck, hf⟩ := zcl_o hf
  have hc1 : cells + (s4.1 - s2.1) ≤ M := by omega
  have hs1 : slots + (s4.2.1 - s2.2.1) ≤ S := by omega
  refine va_callr (va_runV (As := []) (rest := []) ⟨hx, hb, hml, hown, hts⟩ (mtX8_iterator l D cA ζ s2 x1 K (x3, s4) hx3 (s4.1 - s2.1) (s4.2.1 - s2.2.1) (Nat.add_sub_cancel' hle.1) (Nat.add_sub_cancel' hle.2)) (cwV 0 hts (lw_V q780 q246 q247 q98 q248) rfl rfl rfl (by decide +kernel) ⟨Nat.le_of_ble_eq_true rfl, Nat.le_of_ble_eq_true rfl⟩) (z_preV hX hS hH (zob_o hf5) rfl) rfl rfl hl.1 rfl (lv_room (Nat.le_of_ble_eq_true rfl)) dX0_smoothOf_7 ⟨hc1, hs1⟩) hS (fun q _ hq => hq) (fun q hq => hq) (fun u r t H1 locs ht hvm hw hB hz hk hS => ?_)
  obtain ⟨hw, hB⟩ := hB
  obtain ⟨hw1, hw2⟩ := Prod.mk.inj hw.symm; subst hw1; subst hw2
  have hH : zH D cA ζ s4 H1 := z_at ht.symm hB
  have hcs : s.heap.size + (cells + (s4.1 - s2.1)) = s4.1 := by omega
  have hss : sl0 + (slots + (s4.2.1 - s2.2.1)) = s4.2.1 := by omega
  replace hcM := And.intro hc1 hs1
  generalize cells + (s4.1 - s2.1) = cells at hcs hcM ⊢; generalize slots + (s4.2.1 - s2.2.1) = slots at hss hcM ⊢
  clear hB hk hz hvm ht hle hck hc1 hs1; generalize H1 = H at hH hS ⊢
  refine lv_astore (lv' := [(6, .ref x3), (4, .long 1), (0, .long a0), (2, .long a1)]) hx hb dX0_smoothOf_10 hl (by decide) rfl (fun ls hl => ?_)
  exact ih.1 a1 1 x3 s4 H locs cells slots hH hS hcs hss hcM ls (lv_sub hl [3, 1, 0] rfl) hf

noncomputable def fnX0_smooth (K : Nat) (ζ : pZ) (h : Nat) (a0 : Int32) (a1 : Int32) (τ : pH) : Option (Int32 × pH) := dz_b (fnX0_isNumber K (Int32.toInt64 a0)) fun x1 => if x1 = (0 : Int32) then (some ((-1), τ)) else (if a1 < (0 : Int32) then (some ((-1), τ)) else (zcl τ (fnX0_smoothOf K ζ (Int32.toInt64 a0) (Int32.toInt64 a1) τ) fun x2 s3 => dz_l (Int64.toInt32 x2) fun x4 => some (x4, s3)))
set_option maxHeartbeats 4000000 in
set_option maxRecDepth 100000 in
theorem mtX0_smooth (l : Launch) (D : va_G) (cA : Nat → ClassId) (ζ : pZ) (τ : pH) (h : Nat) (a0 : Int32) (a1 : Int32) (K : Nat) (res : (Int32 × pH)) (hf : fnX0_smooth K ζ h a0 a1 τ = some res) (M S : Nat) (hM : τ.1 + M = res.2.1) (hS0 : τ.2.1 + S = res.2.2.1) : Met l yX0_smooth (ws_ yX0_smooth cX0_smooth 3 (some .int)) ({ frames := 4, cells := M, slots := S, locals := 99 }) (zPc D cA ζ τ [.ref h, .int a0, .int a1]) (zQi D cA ζ res) M S (zA ζ) := by
  refine Met.ofW (cc := cX0_smooth) (maxL := 3) (ret := some .int) (by decide +kernel) rfl ?_
  intro p e s m args below meth c s₁ B hml hv
  obtain ⟨rfl, hX, hH⟩ := hv
  have hx := B.exec
  have hb := B.bytes
  have hr := B.returns
  have hts := atoms_spec (ws := ws_ yX0_smooth cX0_smooth 3 (some .int)) B.pre
  have hts : ∀ w ∈ lw_all, w.before _ s = true := fun w h => hts w (List.mem_cons_of_mem _ h)
  have hown : s.vm.findClass RX0 = some m.cls := findClass_of_methodNamed B.named
  have hlocks := B.notSynchronized
  have hM : s.heap.size + M = res.2.1 := by rw [hH.1]; exact hM
  have hcs : s.heap.size + 0 = τ.1 := hH.1
  have hss : τ.2.1 + 0 = τ.2.1 := rfl
  generalize hsl0 : τ.2.1 = sl0 at hS0 hss
  have hss : sl0 + 0 = τ.2.1 := by rw [hsl0]; rfl
  have hS : va_S (zA ζ) s.heap s.heap [] := va_S.rf
  generalize hHe : s.heap = H at hH hS ⊢
  have hS : va_S (zA ζ) s.heap H [] := by rw [hHe]; exact hS
  generalize ([] : List Loc) = locs at hS ⊢
  have hl := lv_entry ([.ref h, .int a0, .int a1]) (n := 3) (Nat.le_of_ble_eq_true rfl)
  rw [lg_entry_eq]
  generalize (lg_sl ([.ref h, .int a0, .int a1]) ++ List.replicate (3 - (lg_sl ([.ref h, .int a0, .int a1])).length) Slot.unset).toArray = ls at hl ⊢
  have hl : lv_has ls 3 [(0, .ref h), (1, .int a0), (2, .int a1)] := hl
  have hf : (dz_b (fnX0_isNumber K (Int32.toInt64 a0)) fun x1 => if x1 = (0 : Int32) then (some ((-1), τ)) else (if a1 < (0 : Int32) then (some ((-1), τ)) else (zcl τ (fnX0_smoothOf K ζ (Int32.toInt64 a0) (Int32.toInt64 a1) τ) fun x2 s3 => dz_l (Int64.toInt32 x2) fun x4 => some (x4, s3))) : Option (Int32 × pH)) = some res := hf
  refine z_gen (fun cells slots hc0 hs0 => ?_)
  have hcs : s.heap.size + cells = τ.1 := by rw [hc0]; exact hcs
  have hss : sl0 + slots = τ.2.1 := by rw [hs0]; exact hss
  have hcM : cells ≤ M ∧ slots ≤ S := by rw [hc0, hs0]; exact ⟨Nat.zero_le _, Nat.zero_le _⟩
  clear hc0 hs0
  refine lv_iload_n hx hb dX0_smooth_0 rfl (lv_at hl 1 rfl) ?_
  refine lv_i2l hx hb dX0_smooth_1 (rfl : _ = Int32.toInt64 a0) ?_
  obtain ⟨x1, hx1, hf⟩ := dz_bo hf
  refine va_calli (va_runS (As := [.long (Int32.toInt64 a0)]) (rest := []) ⟨hx, hb, hml, hown, hts⟩ (mtX0_isNumber l (Int32.toInt64 a0) K x1 hx1) (va_cwS 1 hts (lw_S q191 q192 q84 q193) rfl rfl rfl (by decide +kernel) ⟨Nat.le_of_ble_eq_true rfl, Nat.le_of_ble_eq_true rfl⟩) ⟨fun a U g mk q => q, fun U hU hW => ⟨rfl, trivial⟩⟩ rfl rfl hl.1 rfl (lv_room (Nat.le_of_ble_eq_true rfl)) dX0_smooth_2 ⟨hcM.1, hcM.2⟩) hS (fun q _ hq => hq.elim) (fun q hq => hq.elim) (fun r u t H1 locs ht hvm hw hB hz hk hS => dz_size (fun hz9 => ?_))
  replace hw := hw.symm; subst hw
  replace hH := zH_keep hH hcs hz hk hz9
  clear hB hk hz hvm ht hz9; generalize H1 = H at hH hS ⊢
  refine W.widen (k := cells) (n := slots) (Nat.le_refl _) (Nat.le_refl _) ?_
  refine lv_if_eq (tgt := 23) hx hb dX0_smooth_5 (by decide) (fun c5 => ?_) (fun c5 => ?_)
  · have hf := dz_t c5 hf
    refine lv_iconst (v := (-1)) hx hb dX0_smooth_23 (by decide) ?_
    obtain ⟨hM1, hS1⟩ : cells = M ∧ slots = S := by have hq := congrArg Prod.snd (Option.some.inj hf); rw [← hq] at hM hS0; have hM : s.heap.size + M = τ.1 := hM; have hS0 : sl0 + S = τ.2.1 := hS0; omega
    refine W.widen (k := M) (n := S) (Nat.le_of_eq hM1) (Nat.le_of_eq hS1) ?_
    exact W.iret (v := (-1)) hx hb hr (fun t ht hW => ⟨⟨(-1), τ, rfl, Option.some.inj hf, z_at ht hH⟩, hS.F ht⟩) hS.2.2 dX0_smooth_24
  · have hf := dz_f c5 hf
    refine lv_iload_n hx hb dX0_smooth_8 rfl (lv_at hl 2 rfl) ?_
    refine lv_if_lt (tgt := 23) hx hb dX0_smooth_9 (by decide) (fun c9 => ?_) (fun c9 => ?_)
    · have hf := dz_t c9 hf
      refine lv_iconst (v := (-1)) hx hb dX0_smooth_23 (by decide) ?_
      obtain ⟨hM1, hS1⟩ : cells = M ∧ slots = S := by have hq := congrArg Prod.snd (Option.some.inj hf); rw [← hq] at hM hS0; have hM : s.heap.size + M = τ.1 := hM; have hS0 : sl0 + S = τ.2.1 := hS0; omega
      refine W.widen (k := M) (n := S) (Nat.le_of_eq hM1) (Nat.le_of_eq hS1) ?_
      exact W.iret (v := (-1)) hx hb hr (fun t ht hW => ⟨⟨(-1), τ, rfl, Option.some.inj hf, z_at ht hH⟩, hS.F ht⟩) hS.2.2 dX0_smooth_24
    · have hf := dz_f c9 hf
      refine lv_iload_n hx hb dX0_smooth_12 rfl (lv_at hl 1 rfl) ?_
      refine lv_i2l hx hb dX0_smooth_13 (rfl : _ = Int32.toInt64 a0) ?_
      refine lv_iload_n hx hb dX0_smooth_14 rfl (lv_at hl 2 rfl) ?_
      refine lv_i2l hx hb dX0_smooth_15 (rfl : _ = Int32.toInt64 a1) ?_
      obtain ⟨x2, s3, hx2, hle, hck, hf⟩ := zcl_o hf
      have hc1 : cells + (s3.1 - τ.1) ≤ M := by omega
      have hs1 : slots + (s3.2.1 - τ.2.1) ≤ S := by omega
      refine va_calll (va_runS (As := [.long (Int32.toInt64 a0), .long (Int32.toInt64 a1)]) (rest := []) ⟨hx, hb, hml, hown, hts⟩ (mtX0_smoothOf l D cA ζ τ (Int32.toInt64 a0) (Int32.toInt64 a1) K (x2, s3) hx2 (s3.1 - τ.1) (s3.2.1 - τ.2.1) (Nat.add_sub_cancel' hle.1) (Nat.add_sub_cancel' hle.2)) (va_cwS 2 hts (lw_S q1599 q1600 q84 q1601) rfl rfl rfl (by decide +kernel) ⟨Nat.le_of_ble_eq_true rfl, Nat.le_of_ble_eq_true rfl⟩) (z_preS hX hS hH) rfl rfl hl.1 rfl (lv_room (Nat.le_of_ble_eq_true rfl)) dX0_smooth_16 ⟨hc1, hs1⟩) hS (fun q _ hq => hq) (fun q hq => hq) (fun r u t H1 locs ht hvm hw hB hz hk hS => ?_)
      obtain ⟨hw1, hw2⟩ := Prod.mk.inj hw.symm; subst hw1; subst hw2
      have hH : zH D cA ζ s3 H1 := z_at ht.symm hB
      have hcs : s.heap.size + (cells + (s3.1 - τ.1)) = s3.1 := by omega
      have hss : sl0 + (slots + (s3.2.1 - τ.2.1)) = s3.2.1 := by omega
      replace hcM := And.intro hc1 hs1
      generalize cells + (s3.1 - τ.1) = cells at hcs hcM ⊢; generalize slots + (s3.2.1 - τ.2.1) = slots at hss hcM ⊢
      clear hB hk hz hvm ht hle hck hc1 hs1; generalize H1 = H at hH hS ⊢
      refine lv_l2i hx hb dX0_smooth_19 (rfl : _ = Int64.toInt32 x2) ?_
      refine lv_goto (tgt := 24) hx hb dX0_smooth_20 (by decide) ?_
      refine lv_topi (fun x4 e_x4 => ?_)
      have hf := dz_ls e_x4 hf
      obtain ⟨hM1, hS1⟩ : cells = M ∧ slots = S := by have hq := congrArg Prod.snd (Option.some.inj hf); rw [← hq] at hM hS0; have hM : s.heap.size + M = s3.1 := hM; have hS0 : sl0 + S = s3.2.1 := hS0; omega
      refine W.widen (k := M) (n := S) (Nat.le_of_eq hM1) (Nat.le_of_eq hS1) ?_
      exact W.iret (v := x4) hx hb hr (fun t ht hW => ⟨⟨x4, s3, rfl, Option.some.inj hf, z_at ht hH⟩, hS.F ht⟩) hS.2.2 dX0_smooth_24

noncomputable def lfX0_bound (K : Nat) (ζ : pZ) : Nat → (Int32 → Nat → pH → Option (Int32 × pH)) := Nat.rec (motive := fun _ => (Int32 → Nat → pH → Option (Int32 × pH))) (fun _ _ _ => none) (fun _ G => (fun v1 v2 τ => dz_b (zob ζ τ v2 2) fun f3 => zcl τ (fnX2_hasNext K ζ v2 τ) fun x1 s2 => if x1 = (0 : Int32) then (some ((-1), s2)) else (dz_b (zob ζ s2 v2 2) fun f6 => zcl s2 (fnX2_next K ζ v2 s2) fun x4 s5 => dz_b (zob ζ s5 x4 11) fun f7 => dz_b (zob ζ s5 x4 11) fun f8 => dz_b (zvl (f8[0]?)) fun x9 => zcl s5 (fnX0_smoothOf K ζ (Int32.toInt64 (v1 - 1)) x9 s5) fun x10 s11 => dz_b (zob ζ s11 x4 11) fun f12 => dz_b (zvl (f12[0]?)) fun x13 => zcl s11 (fnX0_smoothOf K ζ (Int32.toInt64 (v1 - 1)) x13 s11) fun x14 s15 => if (x10 * x14) ≤ (Int32.toInt64 v1) then (G v1 v2 s15) else (dz_b (zob ζ s15 x4 11) fun f16 => dz_b (zvl (f16[0]?)) fun x17 => dz_l (Int64.toInt32 x17) fun x18 => some (x18, s15)))))
noncomputable def fnX0_bound (K : Nat) (ζ : pZ) (h : Nat) (a0 : Int32) (τ : pH) : Option (Int32 × pH) := dz_b (fnX0_isNumber K (Int32.toInt64 a0)) fun x1 => if x1 = (0 : Int32) then (some ((-1), τ)) else (if (3 : Int32) ≤ a0 then (zcl τ (fnX0_factors K ζ (Int32.toInt64 (a0 - 1)) τ) fun x2 s3 => dz_b (zob ζ s3 x2 10) fun f6 => zcl s3 (fnX8_iterator K ζ x2 s3) fun x4 s5 => (lfX0_bound K ζ K) a0 x4 s5) else (some ((-1), τ)))
set_option maxHeartbeats 4000000 in
set_option maxRecDepth 100000 in
theorem wlX0_bound {p : Program} {l : Launch} {e : Env} {s : State} {m : MethodId} {below : List Frame} {meth : Method} {c : Code} {D : va_G} {cA : Nat → ClassId} {ζ : pZ} (hX : zX D cA ζ s) (K : Nat) (res : (Int32 × pH)) (M S sl0 : Nat) (hM : s.heap.size + M = res.2.1) (hS0 : sl0 + S = res.2.2.1) (h : Nat) (a0 : Int32) (hx : p.tables.exec = Jvm.exec) (hb : c.code = cX0_bound) (hr : meth.sig.returnType = some .int) (hlocks : meth.locks = false) (hml : c.maxLocals = 4) (hown : s.vm.findClass RX0 = some m.cls) (hts : ∀ w ∈ lw_all, w.before ([.ref h, .int a0] : List Value).toArray s = true) : ∀ k : Nat, (∀ (v1 : Int32) (v2 : Nat) (τ : pH) (H : Heap) (locs : List Loc) (cells slots : Nat), zH D cA ζ τ H → va_S (zA ζ) s.heap H locs → s.heap.size + cells = τ.1 → sl0 + slots = τ.2.1 → cells ≤ M ∧ slots ≤ S → ∀ (ls : Array Slot), lv_has ls 4 [(1, .int v1), (2, .ref v2)] → (lfX0_bound K ζ k) v1 v2 τ = some res → W p l e (headSpec (ws_ yX0_bound cX0_bound 4 (some .int)) ({ frames := 4, cells := M, slots := S, locals := 99 })).room s m ([.ref h, .int a0] : List Value).toArray below meth c H locs cells slots (MQ below (zQi D cA ζ res) ([.ref h, .int a0] : List Value).toArray s M S (zA ζ)) (F0 m 26 ls [])) := by
  intro k
  induction k with
  | zero =>
    exact fun _ _ _ _ _ _ _ _ _ _ _ _ _ _ hf => (by cases hf)
  | succ k ih =>
    · intro v1 v2 τ H locs cells slots hH hS hcs hss hcM ls hl hf
      have hf : (dz_b (zob ζ τ v2 2) fun f3 => zcl τ (fnX2_hasNext K ζ v2 τ) fun x1 s2 => if x1 = (0 : Int32) then (some ((-1), s2)) else (dz_b (zob ζ s2 v2 2) fun f6 => zcl s2 (fnX2_next K ζ v2 s2) fun x4 s5 => dz_b (zob ζ s5 x4 11) fun f7 => dz_b (zob ζ s5 x4 11) fun f8 => dz_b (zvl (f8[0]?)) fun x9 => zcl s5 (fnX0_smoothOf K ζ (Int32.toInt64 (v1 - 1)) x9 s5) fun x10 s11 => dz_b (zob ζ s11 x4 11) fun f12 => dz_b (zvl (f12[0]?)) fun x13 => zcl s11 (fnX0_smoothOf K ζ (Int32.toInt64 (v1 - 1)) x13 s11) fun x14 s15 => if (x10 * x14) ≤ (Int32.toInt64 v1) then ((lfX0_bound K ζ k) v1 v2 s15) else (dz_b (zob ζ s15 x4 11) fun f16 => dz_b (zvl (f16[0]?)) fun x17 => dz_l (Int64.toInt32 x17) fun x18 => some (x18, s15))) : Option (Int32 × pH)) = some res := hf
      refine lv_aload_n hx hb dX0_bound_26 rfl (lv_at hl 1 rfl) ?_
      obtain ⟨f3, hf3, hf⟩ := dz_bo hf
      obtain ⟨x1, s2, hx1, hle, hck, hf⟩ := zcl_o hf
      have hc1 : cells + (s2.1 - τ.1) ≤ M := by omega
      have hs1 : slots + (s2.2.1 - τ.2.1) ≤ S := by omega
      refine va_callFi (va_runF (hX.K.1 2 _ rfl).2 (As := []) (rest := []) ⟨hx, hb, hml, hown, hts⟩ (mtX2_hasNext l D cA ζ τ v2 K (x1, s2) hx1 (s2.1 - τ.1) (s2.2.1 - τ.2.1) (Nat.add_sub_cancel' hle.1) (Nat.add_sub_cancel' hle.2)) (va_cwF 0 hts (zF_in q782 q267 q269 q91 q271) rfl rfl rfl (hX.F 0 rfl) (by decide +kernel) ⟨Nat.le_of_ble_eq_true rfl, Nat.le_of_ble_eq_true rfl⟩) (z_preV hX hS hH (zob_o hf3) rfl) rfl rfl hl.1 rfl (lv_room (Nat.le_of_ble_eq_true rfl)) dX0_bound_27 ⟨hc1, hs1⟩) hS (fun q _ hq => hq) (fun q hq => hq) (fun r u t H1 locs ht hvm hw hB hz hk hS => ?_)
      obtain ⟨hw1, hw2⟩ := Prod.mk.inj hw.symm; subst hw1; subst hw2
      have hH : zH D cA ζ s2 H1 := z_at ht.symm hB
      have hcs : s.heap.size + (cells + (s2.1 - τ.1)) = s2.1 := by omega
      have hss : sl0 + (slots + (s2.2.1 - τ.2.1)) = s2.2.1 := by omega
      replace hcM := And.intro hc1 hs1
      generalize cells + (s2.1 - τ.1) = cells at hcs hcM ⊢; generalize slots + (s2.2.1 - τ.2.1) = slots at hss hcM ⊢
      clear hB hk hz hvm ht hle hck hc1 hs1; generalize H1 = H at hH hS ⊢
      refine lv_if_eq (tgt := 83) hx hb dX0_bound_32 (by decide) (fun c32 => ?_) (fun c32 => ?_)
      · have hf := dz_t c32 hf
        refine lv_iconst (v := (-1)) hx hb dX0_bound_83 (by decide) ?_
        obtain ⟨hM1, hS1⟩ : cells = M ∧ slots = S := by have hq := congrArg Prod.snd (Option.some.inj hf); rw [← hq] at hM hS0; have hM : s.heap.size + M = s2.1 := hM; have hS0 : sl0 + S = s2.2.1 := hS0; omega
        refine W.widen (k := M) (n := S) (Nat.le_of_eq hM1) (Nat.le_of_eq hS1) ?_
        exact W.iret (v := (-1)) hx hb hr (fun t ht hW => ⟨⟨(-1), s2, rfl, Option.some.inj hf, z_at ht hH⟩, hS.F ht⟩) hS.2.2 dX0_bound_84
      · have hf := dz_f c32 hf
        refine lv_aload_n hx hb dX0_bound_35 rfl (lv_at hl 1 rfl) ?_
        obtain ⟨f6, hf6, hf⟩ := dz_bo hf
        obtain ⟨x4, s5, hx4, hle, hck, hf⟩ := zcl_o hf
        have hc1 : cells + (s5.1 - s2.1) ≤ M := by omega
        have hs1 : slots + (s5.2.1 - s2.2.1) ≤ S := by omega
        refine va_callFr (va_runF (hX.K.1 2 _ rfl).2 (As := []) (rest := []) ⟨hx, hb, hml, hown, hts⟩ (mtX2_next l D cA ζ s2 v2 K (x4, s5) hx4 (s5.1 - s2.1) (s5.2.1 - s2.2.1) (Nat.add_sub_cancel' hle.1) (Nat.add_sub_cancel' hle.2)) (va_cwF 0 hts (zF_in q784 q282 q284 q91 q286) rfl rfl rfl (hX.F 1 rfl) (by decide +kernel) ⟨Nat.le_of_ble_eq_true rfl, Nat.le_of_ble_eq_true rfl⟩) (z_preV hX hS hH (zob_o hf6) rfl) rfl rfl hl.1 rfl (lv_room (Nat.le_of_ble_eq_true rfl)) dX0_bound_36 ⟨hc1, hs1⟩) hS (fun q _ hq => hq) (fun q hq => hq) (fun u r t H1 locs ht hvm hw hB hz hk hS => ?_)
        obtain ⟨hw, hB⟩ := hB
        obtain ⟨hw1, hw2⟩ := Prod.mk.inj hw.symm; subst hw1; subst hw2
        have hH : zH D cA ζ s5 H1 := z_at ht.symm hB
        have hcs : s.heap.size + (cells + (s5.1 - s2.1)) = s5.1 := by omega
        have hss : sl0 + (slots + (s5.2.1 - s2.2.1)) = s5.2.1 := by omega
        replace hcM := And.intro hc1 hs1
        generalize cells + (s5.1 - s2.1) = cells at hcs hcM ⊢; generalize slots + (s5.2.1 - s2.2.1) = slots at hss hcM ⊢
        clear hB hk hz hvm ht hle hck hc1 hs1; generalize H1 = H at hH hS ⊢
        obtain ⟨f7, hf7, hf⟩ := dz_bo hf
        refine va_castS (nm := RX13) hx hb hown (hts _ q677) (hX.K.1 11 _ rfl).2 (va_recv hX.K (zrd_P hX hS hH (zob_o hf7)) (ci := 11) (q0 := 0) rfl rfl) dX0_bound_41 ?_
        refine lv_astore_n (lv' := [(3, .ref x4), (1, .int v1), (2, .ref v2)]) hx hb dX0_bound_44 rfl hl (by decide) rfl (fun ls hl => ?_)
        refine lv_iload_n hx hb dX0_bound_45 rfl (lv_at hl 1 rfl) ?_
        refine lv_iconst (v := 1) hx hb dX0_bound_46 (by decide) ?_
        refine lv_isub hx hb dX0_bound_47 ?_
        refine lv_i2l hx hb dX0_bound_48 (rfl : _ = Int32.toInt64 (v1 - 1)) ?_
        refine lv_aload_n hx hb dX0_bound_49 rfl (lv_at hl 0 rfl) ?_
        obtain ⟨f8, hf8, hf⟩ := dz_bo hf
        obtain ⟨x9, hx9, hf⟩ := dz_bo hf
        refine va_get (C := RX13) (T := TX13) (N := 3) hx hb hts in_X13 hown hX.K (zrd_P hX hS hH (zob_o hf8)) 0 rfl rfl 0 (by decide) (hts _ q686) (fun _ hq => hq) (zvl_o hx9) dX0_bound_50 ?_
        obtain ⟨x10, s11, hx10, hle, hck, hf⟩ := zcl_o hf
        have hc1 : cells + (s11.1 - s5.1) ≤ M := by omega
        have hs1 : slots + (s11.2.1 - s5.2.1) ≤ S := by omega
        refine va_calll (va_runS (As := [.long (Int32.toInt64 (v1 - 1)), .long x9]) (rest := []) ⟨hx, hb, hml, hown, hts⟩ (mtX0_smoothOf l D cA ζ s5 (Int32.toInt64 (v1 - 1)) x9 K (x10, s11) hx10 (s11.1 - s5.1) (s11.2.1 - s5.2.1) (Nat.add_sub_cancel' hle.1) (Nat.add_sub_cancel' hle.2)) (va_cwS 2 hts (lw_S q1599 q1600 q84 q1601) rfl rfl rfl (by decide +kernel) ⟨Nat.le_of_ble_eq_true rfl, Nat.le_of_ble_eq_true rfl⟩) (z_preS hX hS hH) rfl rfl hl.1 rfl (lv_room (Nat.le_of_ble_eq_true rfl)) dX0_bound_53 ⟨hc1, hs1⟩) hS (fun q _ hq => hq) (fun q hq => hq) (fun r u t H1 locs ht hvm hw hB hz hk hS => ?_)
        obtain ⟨hw1, hw2⟩ := Prod.mk.inj hw.symm; subst hw1; subst hw2
        have hH : zH D cA ζ s11 H1 := z_at ht.symm hB
        have hcs : s.heap.size + (cells + (s11.1 - s5.1)) = s11.1 := by omega
        have hss : sl0 + (slots + (s11.2.1 - s5.2.1)) = s11.2.1 := by omega
        replace hcM := And.intro hc1 hs1
        generalize cells + (s11.1 - s5.1) = cells at hcs hcM ⊢; generalize slots + (s11.2.1 - s5.2.1) = slots at hss hcM ⊢
        clear hB hk hz hvm ht hle hck hc1 hs1; generalize H1 = H at hH hS ⊢
        refine lv_iload_n hx hb dX0_bound_56 rfl (lv_at hl 1 rfl) ?_
        refine lv_iconst (v := 1) hx hb dX0_bound_57 (by decide) ?_
        refine lv_isub hx hb dX0_bound_58 ?_
        refine lv_i2l hx hb dX0_bound_59 (rfl : _ = Int32.toInt64 (v1 - 1)) ?_
        refine lv_aload_n hx hb dX0_bound_60 rfl (lv_at hl 0 rfl) ?_
        obtain ⟨f12, hf12, hf⟩ := dz_bo hf
        obtain ⟨x13, hx13, hf⟩ := dz_bo hf
        refine va_get (C := RX13) (T := TX13) (N := 3) hx hb hts in_X13 hown hX.K (zrd_P hX hS hH (zob_o hf12)) 0 rfl rfl 0 (by decide) (hts _ q686) (fun _ hq => hq) (zvl_o hx13) dX0_bound_61 ?_
        obtain ⟨x14, s15, hx14, hle, hck, hf⟩ := zcl_o hf
        have hc1 : cells + (s15.1 - s11.1) ≤ M := by omega
        have hs1 : slots + (s15.2.1 - s11.2.1) ≤ S := by omega
        refine va_calll (va_runS (As := [.long (Int32.toInt64 (v1 - 1)), .long x13]) (rest := [.long x10]) ⟨hx, hb, hml, hown, hts⟩ (mtX0_smoothOf l D cA ζ s11 (Int32.toInt64 (v1 - 1)) x13 K (x14, s15) hx14 (s15.1 - s11.1) (s15.2.1 - s11.2.1) (Nat.add_sub_cancel' hle.1) (Nat.add_sub_cancel' hle.2)) (va_cwS 2 hts (lw_S q1599 q1600 q84 q1601) rfl rfl rfl (by decide +kernel) ⟨Nat.le_of_ble_eq_true rfl, Nat.le_of_ble_eq_true rfl⟩) (z_preS hX hS hH) rfl rfl hl.1 rfl (lv_room (Nat.le_of_ble_eq_true rfl)) dX0_bound_64 ⟨hc1, hs1⟩) hS (fun q _ hq => hq) (fun q hq => hq) (fun r u t H1 locs ht hvm hw hB hz hk hS => ?_)
        obtain ⟨hw1, hw2⟩ := Prod.mk.inj hw.symm; subst hw1; subst hw2
        have hH : zH D cA ζ s15 H1 := z_at ht.symm hB
        have hcs : s.heap.size + (cells + (s15.1 - s11.1)) = s15.1 := by omega
        have hss : sl0 + (slots + (s15.2.1 - s11.2.1)) = s15.2.1 := by omega
        replace hcM := And.intro hc1 hs1
        generalize cells + (s15.1 - s11.1) = cells at hcs hcM ⊢; generalize slots + (s15.2.1 - s11.2.1) = slots at hss hcM ⊢
        clear hB hk hz hvm ht hle hck hc1 hs1; generalize H1 = H at hH hS ⊢
        refine lv_lmul hx hb dX0_bound_67 ?_
        refine lv_iload_n hx hb dX0_bound_68 rfl (lv_at hl 1 rfl) ?_
        refine lv_i2l hx hb dX0_bound_69 (rfl : _ = Int32.toInt64 v1) ?_
        refine W.lcmp hx hb dX0_bound_70 ?_
        refine lv_if_le (tgt := 80) hx hb dX0_bound_71 (by decide) (fun c71 => ?_) (fun c71 => ?_)
        · have c71 : (x10 * x14) ≤ (Int32.toInt64 v1) := (lg_cmp_le _ _).mp c71
          have hf := dz_t c71 hf
          refine lv_goto (tgt := 26) hx hb dX0_bound_80 (by decide) ?_
          exact ih v1 v2 s15 H locs cells slots hH hS hcs hss hcM ls (lv_sub hl [1, 2] rfl) hf
        · have c71 : ¬ (x10 * x14) ≤ (Int32.toInt64 v1) := fun hq => c71 ((lg_cmp_le _ _).mpr hq)
          have hf := dz_f c71 hf
          refine lv_aload_n hx hb dX0_bound_74 rfl (lv_at hl 0 rfl) ?_
          obtain ⟨f16, hf16, hf⟩ := dz_bo hf
          obtain ⟨x17, hx17, hf⟩ := dz_bo hf
          refine va_get (C := RX13) (T := TX13) (N := 3) hx hb hts in_X13 hown hX.K (zrd_P hX hS hH (zob_o hf16)) 0 rfl rfl 0 (by decide) (hts _ q686) (fun _ hq => hq) (zvl_o hx17) dX0_bound_75 ?_
          refine lv_l2i hx hb dX0_bound_78 (rfl : _ = Int64.toInt32 x17) ?_
          refine lv_topi (fun x18 e_x18 => ?_)
          have hf := dz_ls e_x18 hf
          obtain ⟨hM1, hS1⟩ : cells = M ∧ slots = S := by have hq := congrArg Prod.snd (Option.some.inj hf); rw [← hq] at hM hS0; have hM : s.heap.size + M = s15.1 := hM; have hS0 : sl0 + S = s15.2.1 := hS0; omega
          refine W.widen (k := M) (n := S) (Nat.le_of_eq hM1) (Nat.le_of_eq hS1) ?_
          exact W.iret (v := x18) hx hb hr (fun t ht hW => ⟨⟨x18, s15, rfl, Option.some.inj hf, z_at ht hH⟩, hS.F ht⟩) hS.2.2 dX0_bound_79
set_option maxHeartbeats 4000000 in
set_option maxRecDepth 100000 in
theorem mtX0_bound (l : Launch) (D : va_G) (cA : Nat → ClassId) (ζ : pZ) (τ : pH) (h : Nat) (a0 : Int32) (K : Nat) (res : (Int32 × pH)) (hf : fnX0_bound K ζ h a0 τ = some res) (M S : Nat) (hM : τ.1 + M = res.2.1) (hS0 : τ.2.1 + S = res.2.2.1) : Met l yX0_bound (ws_ yX0_bound cX0_bound 4 (some .int)) ({ frames := 4, cells := M, slots := S, locals := 99 }) (zPc D cA ζ τ [.ref h, .int a0]) (zQi D cA ζ res) M S (zA ζ) := by
  refine Met.ofW (cc := cX0_bound) (maxL := 4) (ret := some .int) (by decide +kernel) rfl ?_
  intro p e s m args below meth c s₁ B hml hv
  obtain ⟨rfl, hX, hH⟩ := hv
  have hx := B.exec
  have hb := B.bytes
  have hr := B.returns
  have hts := atoms_spec (ws := ws_ yX0_bound cX0_bound 4 (some .int)) B.pre
  have hts : ∀ w ∈ lw_all, w.before _ s = true := fun w h => hts w (List.mem_cons_of_mem _ h)
  have hown : s.vm.findClass RX0 = some m.cls := findClass_of_methodNamed B.named
  have hlocks := B.notSynchronized
  have hM : s.heap.size + M = res.2.1 := by rw [hH.1]; exact hM
  have hcs : s.heap.size + 0 = τ.1 := hH.1
  have hss : τ.2.1 + 0 = τ.2.1 := rfl
  generalize hsl0 : τ.2.1 = sl0 at hS0 hss
  have hss : sl0 + 0 = τ.2.1 := by rw [hsl0]; rfl
  have hS : va_S (zA ζ) s.heap s.heap [] := va_S.rf
  generalize hHe : s.heap = H at hH hS ⊢
  have hS : va_S (zA ζ) s.heap H [] := by rw [hHe]; exact hS
  generalize ([] : List Loc) = locs at hS ⊢
  have hl := lv_entry ([.ref h, .int a0]) (n := 4) (Nat.le_of_ble_eq_true rfl)
  rw [lg_entry_eq]
  generalize (lg_sl ([.ref h, .int a0]) ++ List.replicate (4 - (lg_sl ([.ref h, .int a0])).length) Slot.unset).toArray = ls at hl ⊢
  have hl : lv_has ls 4 [(0, .ref h), (1, .int a0)] := hl
  have hf : (dz_b (fnX0_isNumber K (Int32.toInt64 a0)) fun x1 => if x1 = (0 : Int32) then (some ((-1), τ)) else (if (3 : Int32) ≤ a0 then (zcl τ (fnX0_factors K ζ (Int32.toInt64 (a0 - 1)) τ) fun x2 s3 => dz_b (zob ζ s3 x2 10) fun f6 => zcl s3 (fnX8_iterator K ζ x2 s3) fun x4 s5 => (lfX0_bound K ζ K) a0 x4 s5) else (some ((-1), τ))) : Option (Int32 × pH)) = some res := hf
  refine z_gen (fun cells slots hc0 hs0 => ?_)
  have hcs : s.heap.size + cells = τ.1 := by rw [hc0]; exact hcs
  have hss : sl0 + slots = τ.2.1 := by rw [hs0]; exact hss
  have hcM : cells ≤ M ∧ slots ≤ S := by rw [hc0, hs0]; exact ⟨Nat.zero_le _, Nat.zero_le _⟩
  clear hc0 hs0
  have ih := wlX0_bound (l := l) (e := e) (below := below) (D := D) (cA := cA) hX K res M S sl0 hM hS0 h a0 hx hb hr hlocks hml hown hts K
  refine lv_iload_n hx hb dX0_bound_0 rfl (lv_at hl 1 rfl) ?_
  refine lv_i2l hx hb dX0_bound_1 (rfl : _ = Int32.toInt64 a0) ?_
  obtain ⟨x1, hx1, hf⟩ := dz_bo hf
  refine va_calli (va_runS (As := [.long (Int32.toInt64 a0)]) (rest := []) ⟨hx, hb, hml, hown, hts⟩ (mtX0_isNumber l (Int32.toInt64 a0) K x1 hx1) (va_cwS 1 hts (lw_S q191 q192 q84 q193) rfl rfl rfl (by decide +kernel) ⟨Nat.le_of_ble_eq_true rfl, Nat.le_of_ble_eq_true rfl⟩) ⟨fun a U g mk q => q, fun U hU hW => ⟨rfl, trivial⟩⟩ rfl rfl hl.1 rfl (lv_room (Nat.le_of_ble_eq_true rfl)) dX0_bound_2 ⟨hcM.1, hcM.2⟩) hS (fun q _ hq => hq.elim) (fun q hq => hq.elim) (fun r u t H1 locs ht hvm hw hB hz hk hS => dz_size (fun hz9 => ?_))
  replace hw := hw.symm; subst hw
  replace hH := zH_keep hH hcs hz hk hz9
  clear hB hk hz hvm ht hz9; generalize H1 = H at hH hS ⊢
  refine W.widen (k := cells) (n := slots) (Nat.le_refl _) (Nat.le_refl _) ?_
  refine lv_if_eq (tgt := 13) hx hb dX0_bound_5 (by decide) (fun c5 => ?_) (fun c5 => ?_)
  · have hf := dz_t c5 hf
    refine lv_iconst (v := (-1)) hx hb dX0_bound_13 (by decide) ?_
    obtain ⟨hM1, hS1⟩ : cells = M ∧ slots = S := by have hq := congrArg Prod.snd (Option.some.inj hf); rw [← hq] at hM hS0; have hM : s.heap.size + M = τ.1 := hM; have hS0 : sl0 + S = τ.2.1 := hS0; omega
    refine W.widen (k := M) (n := S) (Nat.le_of_eq hM1) (Nat.le_of_eq hS1) ?_
    exact W.iret (v := (-1)) hx hb hr (fun t ht hW => ⟨⟨(-1), τ, rfl, Option.some.inj hf, z_at ht hH⟩, hS.F ht⟩) hS.2.2 dX0_bound_14
  · have hf := dz_f c5 hf
    refine lv_iload_n hx hb dX0_bound_8 rfl (lv_at hl 1 rfl) ?_
    refine lv_iconst (v := 3) hx hb dX0_bound_9 (by decide) ?_
    refine lv_icmp_ge (tgt := 15) hx hb dX0_bound_10 (by decide) (fun c10 => ?_) (fun c10 => ?_)
    · have hf := dz_t c10 hf
      refine lv_iload_n hx hb dX0_bound_15 rfl (lv_at hl 1 rfl) ?_
      refine lv_iconst (v := 1) hx hb dX0_bound_16 (by decide) ?_
      refine lv_isub hx hb dX0_bound_17 ?_
      refine lv_i2l hx hb dX0_bound_18 (rfl : _ = Int32.toInt64 (a0 - 1)) ?_
      obtain ⟨x2, s3, hx2, hle, hck, hf⟩ := zcl_o hf
      have hc1 : cells + (s3.1 - τ.1) ≤ M := by omega
      have hs1 : slots + (s3.2.1 - τ.2.1) ≤ S := by omega
      refine va_callr (va_runS (As := [.long (Int32.toInt64 (a0 - 1))]) (rest := []) ⟨hx, hb, hml, hown, hts⟩ (mtX0_factors l D cA ζ τ (Int32.toInt64 (a0 - 1)) K (x2, s3) hx2 (s3.1 - τ.1) (s3.2.1 - τ.2.1) (Nat.add_sub_cancel' hle.1) (Nat.add_sub_cancel' hle.2)) (va_cwS 1 hts (lw_S q1576 q673 q84 q674) rfl rfl rfl (by decide +kernel) ⟨Nat.le_of_ble_eq_true rfl, Nat.le_of_ble_eq_true rfl⟩) (z_preS hX hS hH) rfl rfl hl.1 rfl (lv_room (Nat.le_of_ble_eq_true rfl)) dX0_bound_19 ⟨hc1, hs1⟩) hS (fun q _ hq => hq) (fun q hq => hq) (fun u r t H1 locs ht hvm hw hB hz hk hS => ?_)
      obtain ⟨hw, hB⟩ := hB
      obtain ⟨hw1, hw2⟩ := Prod.mk.inj hw.symm; subst hw1; subst hw2
      have hH : zH D cA ζ s3 H1 := z_at ht.symm hB
      have hcs : s.heap.size + (cells + (s3.1 - τ.1)) = s3.1 := by omega
      have hss : sl0 + (slots + (s3.2.1 - τ.2.1)) = s3.2.1 := by omega
      replace hcM := And.intro hc1 hs1
      generalize cells + (s3.1 - τ.1) = cells at hcs hcM ⊢; generalize slots + (s3.2.1 - τ.2.1) = slots at hss hcM ⊢
      clear hB hk hz hvm ht hle hck hc1 hs1; generalize H1 = H at hH hS ⊢
      obtain ⟨f6, hf6, hf⟩ := dz_bo hf
      obtain ⟨x4, s5, hx4, hle, hck, hf⟩ := zcl_o hf
      have hc1 : cells + (s5.1 - s3.1) ≤ M := by omega
      have hs1 : slots + (s5.2.1 - s3.2.1) ≤ S := by omega
      refine va_callr (va_runV (As := []) (rest := []) ⟨hx, hb, hml, hown, hts⟩ (mtX8_iterator l D cA ζ s3 x2 K (x4, s5) hx4 (s5.1 - s3.1) (s5.2.1 - s3.2.1) (Nat.add_sub_cancel' hle.1) (Nat.add_sub_cancel' hle.2)) (cwV 0 hts (lw_V q780 q246 q247 q98 q248) rfl rfl rfl (by decide +kernel) ⟨Nat.le_of_ble_eq_true rfl, Nat.le_of_ble_eq_true rfl⟩) (z_preV hX hS hH (zob_o hf6) rfl) rfl rfl hl.1 rfl (lv_room (Nat.le_of_ble_eq_true rfl)) dX0_bound_22 ⟨hc1, hs1⟩) hS (fun q _ hq => hq) (fun q hq => hq) (fun u r t H1 locs ht hvm hw hB hz hk hS => ?_)
      obtain ⟨hw, hB⟩ := hB
      obtain ⟨hw1, hw2⟩ := Prod.mk.inj hw.symm; subst hw1; subst hw2
      have hH : zH D cA ζ s5 H1 := z_at ht.symm hB
      have hcs : s.heap.size + (cells + (s5.1 - s3.1)) = s5.1 := by omega
      have hss : sl0 + (slots + (s5.2.1 - s3.2.1)) = s5.2.1 := by omega
      replace hcM := And.intro hc1 hs1
      generalize cells + (s5.1 - s3.1) = cells at hcs hcM ⊢; generalize slots + (s5.2.1 - s3.2.1) = slots at hss hcM ⊢
      clear hB hk hz hvm ht hle hck hc1 hs1; generalize H1 = H at hH hS ⊢
      refine lv_astore_n (lv' := [(2, .ref x4), (0, .ref h), (1, .int a0)]) hx hb dX0_bound_25 rfl hl (by decide) rfl (fun ls hl => ?_)
      exact ih a0 x4 s5 H locs cells slots hH hS hcs hss hcM ls (lv_sub hl [2, 0] rfl) hf
    · have hf := dz_f c10 hf
      refine lv_iconst (v := (-1)) hx hb dX0_bound_13 (by decide) ?_
      obtain ⟨hM1, hS1⟩ : cells = M ∧ slots = S := by have hq := congrArg Prod.snd (Option.some.inj hf); rw [← hq] at hM hS0; have hM : s.heap.size + M = τ.1 := hM; have hS0 : sl0 + S = τ.2.1 := hS0; omega
      refine W.widen (k := M) (n := S) (Nat.le_of_eq hM1) (Nat.le_of_eq hS1) ?_
      exact W.iret (v := (-1)) hx hb hr (fun t ht hW => ⟨⟨(-1), τ, rfl, Option.some.inj hf, z_at ht hH⟩, hS.F ht⟩) hS.2.2 dX0_bound_14

noncomputable def fnJ5_abs (K : Nat) (a0 : Int64) : Option Int64 := if (0 : Int64) ≤ a0 then (some a0) else (some (-a0))
set_option maxHeartbeats 4000000 in
set_option maxRecDepth 100000 in
theorem mtJ5_abs (l : Launch) (a0 : Int64) (K : Nat) (res : Int64) (hf : fnJ5_abs K a0 = some res) : Met l yJ5_abs (ws_ yJ5_abs cJ5_abs 2 (some .long)) ({ frames := 0, cells := 0, slots := 0, locals := 0 }) (dz_P [.long a0]) (dz_Ql res) 0 0 (fun _ => False) := by
  refine dz_ofW (cc := cJ5_abs) (maxL := 2) (ret := some .long) (by decide +kernel) rfl ?_
  intro p e s m args below meth c s₁ B hml hv
  obtain ⟨rfl, -⟩ := hv
  have hx := B.exec
  have hb := B.bytes
  have hr := B.returns
  have hts := atoms_spec (ws := ws_ yJ5_abs cJ5_abs 2 (some .long)) B.pre
  have hts : ∀ w ∈ lw_all, w.before _ s = true := fun w h => hts w (List.mem_cons_of_mem _ h)
  have hown : s.vm.findClass RJ5 = some m.cls := findClass_of_methodNamed B.named
  have hlocks := B.notSynchronized
  have hS : va_S (fun _ => False) s.heap s.heap [] := va_S.rf
  generalize hHe : s.heap = H at hS ⊢
  have hS : va_S (fun _ => False) s.heap H [] := by rw [hHe]; exact hS
  generalize ([] : List Loc) = locs at hS ⊢
  have hl := lv_entry ([.long a0]) (n := 2) (Nat.le_of_ble_eq_true rfl)
  rw [lg_entry_eq]
  generalize (lg_sl ([.long a0]) ++ List.replicate (2 - (lg_sl ([.long a0])).length) Slot.unset).toArray = ls at hl ⊢
  have hl : lv_has ls 2 [(0, .long a0)] := hl
  have hf : (if (0 : Int64) ≤ a0 then (some a0) else (some (-a0)) : Option Int64) = some res := hf
  refine lv_lload_n hx hb dJ5_abs_0 rfl (lv_at hl 0 rfl) ?_
  refine lv_lconst (v := 0) hx hb dJ5_abs_1 rfl ?_
  refine W.lcmp hx hb dJ5_abs_2 ?_
  refine lv_if_ge (tgt := 11) hx hb dJ5_abs_3 (by decide) (fun c3 => ?_) (fun c3 => ?_)
  · have c3 : (0 : Int64) ≤ a0 := (lg_cmp_ge _ _).mp c3
    have hf := dz_t c3 hf
    refine lv_lload_n hx hb dJ5_abs_11 rfl (lv_at hl 0 rfl) ?_
    exact W.lret (v := a0) hx hb hr (fun t ht hW => ⟨⟨a0, (), rfl, Option.some.inj hf, trivial⟩, hS.F ht⟩) hS.2.2 dJ5_abs_12
  · have c3 : ¬ (0 : Int64) ≤ a0 := fun hq => c3 ((lg_cmp_ge _ _).mpr hq)
    have hf := dz_f c3 hf
    refine lv_lload_n hx hb dJ5_abs_6 rfl (lv_at hl 0 rfl) ?_
    refine lv_lneg hx hb dJ5_abs_7 ?_
    refine lv_goto (tgt := 12) hx hb dJ5_abs_8 (by decide) ?_
    exact W.lret (v := -a0) hx hb hr (fun t ht hW => ⟨⟨-a0, (), rfl, Option.some.inj hf, trivial⟩, hS.F ht⟩) hS.2.2 dJ5_abs_12

noncomputable def lfX0_chase (K : Nat) (ζ : pZ) : Nat → (Int32 → Int32 → Int64 → Int64 → Int32 → pH → Option (Int32 × pH)) := Nat.rec (motive := fun _ => (Int32 → Int32 → Int64 → Int64 → Int32 → pH → Option (Int32 × pH))) (fun _ _ _ _ _ _ => none) (fun _ G => (fun v1 v2 v3 v5 v7 τ => if (1000 : Int32) ≤ v7 then (some ((-2), τ)) else (dz_l (Int32.toInt64 v1) fun x1 => if ¬ x1 = 0 then (dz_l (((v3 * v3) + (Int32.toInt64 v2)) - ((v3 * v3) + (Int32.toInt64 v2)) / x1 * x1) fun x3 => dz_l (Int32.toInt64 v1) fun x4 => if ¬ x4 = 0 then (dz_l (((v5 * v5) + (Int32.toInt64 v2)) - ((v5 * v5) + (Int32.toInt64 v2)) / x4 * x4) fun x6 => dz_l (Int32.toInt64 v1) fun x7 => if ¬ x7 = 0 then (dz_l (((x6 * x6) + (Int32.toInt64 v2)) - ((x6 * x6) + (Int32.toInt64 v2)) / x7 * x7) fun x9 => dz_b (fnJ5_abs K (x3 - x9)) fun x10 => dz_b (fnX0_common 100 x10 (Int32.toInt64 v1)) fun x11 => if x11 = (1 : Int64) then (dz_l (v7 + 1) fun x12 => G v1 v2 x3 x9 x12 τ) else (dz_l (Int64.toInt32 x11) fun x13 => some (x13, τ))) else none) else none) else none)))
noncomputable def fnX0_chase (K : Nat) (ζ : pZ) (h : Nat) (a0 : Int32) (a1 : Int32) (τ : pH) : Option (Int32 × pH) := dz_b (fnX0_isNumber K (Int32.toInt64 a0)) fun x1 => if x1 = (0 : Int32) then (some ((-1), τ)) else (dz_b (fnX0_isIn K (Int32.toInt64 a1) 1 99) fun x2 => if x2 = (0 : Int32) then (some ((-1), τ)) else ((lfX0_chase K ζ K) a0 a1 2 2 0 τ))
set_option maxHeartbeats 4000000 in
set_option maxRecDepth 100000 in
theorem wlX0_chase {p : Program} {l : Launch} {e : Env} {s : State} {m : MethodId} {below : List Frame} {meth : Method} {c : Code} {D : va_G} {cA : Nat → ClassId} {ζ : pZ} (hX : zX D cA ζ s) (K : Nat) (res : (Int32 × pH)) (M S sl0 : Nat) (hM : s.heap.size + M = res.2.1) (hS0 : sl0 + S = res.2.2.1) (h : Nat) (a0 : Int32) (a1 : Int32) (hx : p.tables.exec = Jvm.exec) (hb : c.code = cX0_chase) (hr : meth.sig.returnType = some .int) (hlocks : meth.locks = false) (hml : c.maxLocals = 10) (hown : s.vm.findClass RX0 = some m.cls) (hts : ∀ w ∈ lw_all, w.before ([.ref h, .int a0, .int a1] : List Value).toArray s = true) : ∀ k : Nat, (∀ (v1 : Int32) (v2 : Int32) (v3 : Int64) (v5 : Int64) (v7 : Int32) (τ : pH) (H : Heap) (locs : List Loc) (cells slots : Nat), zH D cA ζ τ H → va_S (zA ζ) s.heap H locs → s.heap.size + cells = τ.1 → sl0 + slots = τ.2.1 → cells ≤ M ∧ slots ≤ S → ∀ (ls : Array Slot), lv_has ls 10 [(1, .int v1), (2, .int v2), (3, .long v3), (5, .long v5), (7, .int v7)] → (lfX0_chase K ζ k) v1 v2 v3 v5 v7 τ = some res → W p l e (headSpec (ws_ yX0_chase cX0_chase 10 (some .int)) ({ frames := 101, cells := M, slots := S, locals := 2323 })).room s m ([.ref h, .int a0, .int a1] : List Value).toArray below meth c H locs cells slots (MQ below (zQi D cA ζ res) ([.ref h, .int a0, .int a1] : List Value).toArray s M S (zA ζ)) (F0 m 34 ls [])) := by
  intro k
  induction k with
  | zero =>
    exact fun _ _ _ _ _ _ _ _ _ _ _ _ _ _ _ _ _ hf => (by cases hf)
  | succ k ih =>
    · intro v1 v2 v3 v5 v7 τ H locs cells slots hH hS hcs hss hcM ls hl hf
      have hf : (if (1000 : Int32) ≤ v7 then (some ((-2), τ)) else (dz_l (Int32.toInt64 v1) fun x1 => if ¬ x1 = 0 then (dz_l (((v3 * v3) + (Int32.toInt64 v2)) - ((v3 * v3) + (Int32.toInt64 v2)) / x1 * x1) fun x3 => dz_l (Int32.toInt64 v1) fun x4 => if ¬ x4 = 0 then (dz_l (((v5 * v5) + (Int32.toInt64 v2)) - ((v5 * v5) + (Int32.toInt64 v2)) / x4 * x4) fun x6 => dz_l (Int32.toInt64 v1) fun x7 => if ¬ x7 = 0 then (dz_l (((x6 * x6) + (Int32.toInt64 v2)) - ((x6 * x6) + (Int32.toInt64 v2)) / x7 * x7) fun x9 => dz_b (fnJ5_abs K (x3 - x9)) fun x10 => dz_b (fnX0_common 100 x10 (Int32.toInt64 v1)) fun x11 => if x11 = (1 : Int64) then (dz_l (v7 + 1) fun x12 => (lfX0_chase K ζ k) v1 v2 x3 x9 x12 τ) else (dz_l (Int64.toInt32 x11) fun x13 => some (x13, τ))) else none) else none) else none) : Option (Int32 × pH)) = some res := hf
      refine lv_iload hx hb dX0_chase_34 (lv_at hl 4 rfl) ?_
      refine lv_sipush (v := 1000) hx hb dX0_chase_36 (by decide) ?_
      refine lv_icmp_ge (tgt := 109) hx hb dX0_chase_39 (by decide) (fun c39 => ?_) (fun c39 => ?_)
      · have hf := dz_t c39 hf
        refine lv_bipush (v := (-2)) hx hb dX0_chase_109 (by decide) ?_
        obtain ⟨hM1, hS1⟩ : cells = M ∧ slots = S := by have hq := congrArg Prod.snd (Option.some.inj hf); rw [← hq] at hM hS0; have hM : s.heap.size + M = τ.1 := hM; have hS0 : sl0 + S = τ.2.1 := hS0; omega
        refine W.widen (k := M) (n := S) (Nat.le_of_eq hM1) (Nat.le_of_eq hS1) ?_
        exact W.iret (v := (-2)) hx hb hr (fun t ht hW => ⟨⟨(-2), τ, rfl, Option.some.inj hf, z_at ht hH⟩, hS.F ht⟩) hS.2.2 dX0_chase_111
      · have hf := dz_f c39 hf
        refine lv_lload_n hx hb dX0_chase_42 rfl (lv_at hl 2 rfl) ?_
        refine lv_lload_n hx hb dX0_chase_43 rfl (lv_at hl 2 rfl) ?_
        refine lv_lmul hx hb dX0_chase_44 ?_
        refine lv_iload_n hx hb dX0_chase_45 rfl (lv_at hl 1 rfl) ?_
        refine lv_i2l hx hb dX0_chase_46 (rfl : _ = Int32.toInt64 v2) ?_
        refine lv_ladd hx hb dX0_chase_47 ?_
        refine lv_iload_n hx hb dX0_chase_48 rfl (lv_at hl 0 rfl) ?_
        refine lv_i2l hx hb dX0_chase_49 (rfl : _ = Int32.toInt64 v1) ?_
        refine lv_topl (fun x1 e_x1 => ?_)
        have hf := dz_ls e_x1 hf
        obtain ⟨g2, hf⟩ := dz_go hf
        refine lv_lrem hx hb dX0_chase_50 g2 ?_
        refine lv_topl (fun x3 e_x3 => ?_)
        have hf := dz_ls e_x3 hf
        refine lv_lstore_n (lv' := [(3, .long x3), (1, .int v1), (2, .int v2), (5, .long v5), (7, .int v7)]) hx hb dX0_chase_51 rfl hl (by decide) rfl (fun ls hl => ?_)
        refine lv_lload hx hb dX0_chase_52 (lv_at hl 3 rfl) ?_
        refine lv_lload hx hb dX0_chase_54 (lv_at hl 3 rfl) ?_
        refine lv_lmul hx hb dX0_chase_56 ?_
        refine lv_iload_n hx hb dX0_chase_57 rfl (lv_at hl 2 rfl) ?_
        refine lv_i2l hx hb dX0_chase_58 (rfl : _ = Int32.toInt64 v2) ?_
        refine lv_ladd hx hb dX0_chase_59 ?_
        refine lv_iload_n hx hb dX0_chase_60 rfl (lv_at hl 1 rfl) ?_
        refine lv_i2l hx hb dX0_chase_61 (rfl : _ = Int32.toInt64 v1) ?_
        refine lv_topl (fun x4 e_x4 => ?_)
        have hf := dz_ls e_x4 hf
        obtain ⟨g5, hf⟩ := dz_go hf
        refine lv_lrem hx hb dX0_chase_62 g5 ?_
        refine lv_topl (fun x6 e_x6 => ?_)
        have hf := dz_ls e_x6 hf
        refine lv_lstore (lv' := [(5, .long x6), (3, .long x3), (1, .int v1), (2, .int v2), (7, .int v7)]) hx hb dX0_chase_63 hl (by decide) rfl (fun ls hl => ?_)
        refine lv_lload hx hb dX0_chase_65 (lv_at hl 0 rfl) ?_
        refine lv_lload hx hb dX0_chase_67 (lv_at hl 0 rfl) ?_
        refine lv_lmul hx hb dX0_chase_69 ?_
        refine lv_iload_n hx hb dX0_chase_70 rfl (lv_at hl 3 rfl) ?_
        refine lv_i2l hx hb dX0_chase_71 (rfl : _ = Int32.toInt64 v2) ?_
        refine lv_ladd hx hb dX0_chase_72 ?_
        refine lv_iload_n hx hb dX0_chase_73 rfl (lv_at hl 2 rfl) ?_
        refine lv_i2l hx hb dX0_chase_74 (rfl : _ = Int32.toInt64 v1) ?_
        refine lv_topl (fun x7 e_x7 => ?_)
        have hf := dz_ls e_x7 hf
        obtain ⟨g8, hf⟩ := dz_go hf
        refine lv_lrem hx hb dX0_chase_75 g8 ?_
        refine lv_topl (fun x9 e_x9 => ?_)
        have hf := dz_ls e_x9 hf
        refine lv_lstore (lv' := [(5, .long x9), (3, .long x3), (1, .int v1), (2, .int v2), (7, .int v7)]) hx hb dX0_chase_76 hl (by decide) rfl (fun ls hl => ?_)
        refine lv_lload_n hx hb dX0_chase_78 rfl (lv_at hl 1 rfl) ?_
        refine lv_lload hx hb dX0_chase_79 (lv_at hl 0 rfl) ?_
        refine lv_lsub hx hb dX0_chase_81 ?_
        obtain ⟨x10, hx10, hf⟩ := dz_bo hf
        refine va_calll (va_runS (As := [.long (x3 - x9)]) (rest := []) ⟨hx, hb, hml, hown, hts⟩ (mtJ5_abs l (x3 - x9) K x10 hx10) (va_cwS 1 hts (lw_S q1610 q1611 q92 q1612) rfl rfl rfl (by decide +kernel) ⟨Nat.le_of_ble_eq_true rfl, Nat.le_of_ble_eq_true rfl⟩) ⟨fun a U g mk q => q, fun U hU hW => ⟨rfl, trivial⟩⟩ rfl rfl hl.1 rfl (lv_room (Nat.le_of_ble_eq_true rfl)) dX0_chase_82 ⟨hcM.1, hcM.2⟩) hS (fun q _ hq => hq.elim) (fun q hq => hq.elim) (fun r u t H1 locs ht hvm hw hB hz hk hS => dz_size (fun hz9 => ?_))
        replace hw := hw.symm; subst hw
        replace hH := zH_keep hH hcs hz hk hz9
        clear hB hk hz hvm ht hz9; generalize H1 = H at hH hS ⊢
        refine W.widen (k := cells) (n := slots) (Nat.le_refl _) (Nat.le_refl _) ?_
        refine lv_iload_n hx hb dX0_chase_85 rfl (lv_at hl 2 rfl) ?_
        refine lv_i2l hx hb dX0_chase_86 (rfl : _ = Int32.toInt64 v1) ?_
        obtain ⟨x11, hx11, hf⟩ := dz_bo hf
        refine va_calll (va_runS (As := [.long x10, .long (Int32.toInt64 v1)]) (rest := []) ⟨hx, hb, hml, hown, hts⟩ (mtX0_common l x10 (Int32.toInt64 v1) 100 x11 hx11) (va_cwS 2 hts (lw_S q349 q347 q84 q348) rfl rfl rfl (by decide +kernel) ⟨Nat.le_of_ble_eq_true rfl, Nat.le_of_ble_eq_true rfl⟩) ⟨fun a U g mk q => q, fun U hU hW => ⟨rfl, trivial⟩⟩ rfl rfl hl.1 rfl (lv_room (Nat.le_of_ble_eq_true rfl)) dX0_chase_87 ⟨hcM.1, hcM.2⟩) hS (fun q _ hq => hq.elim) (fun q hq => hq.elim) (fun r u t H1 locs ht hvm hw hB hz hk hS => dz_size (fun hz9 => ?_))
        replace hw := hw.symm; subst hw
        replace hH := zH_keep hH hcs hz hk hz9
        clear hB hk hz hvm ht hz9; generalize H1 = H at hH hS ⊢
        refine W.widen (k := cells) (n := slots) (Nat.le_refl _) (Nat.le_refl _) ?_
        refine lv_lstore (lv' := [(8, .long x11), (5, .long x9), (3, .long x3), (1, .int v1), (2, .int v2), (7, .int v7)]) hx hb dX0_chase_90 hl (by decide) rfl (fun ls hl => ?_)
        refine lv_lload hx hb dX0_chase_92 (lv_at hl 0 rfl) ?_
        refine lv_lconst (v := 1) hx hb dX0_chase_94 rfl ?_
        refine W.lcmp hx hb dX0_chase_95 ?_
        refine lv_if_eq (tgt := 103) hx hb dX0_chase_96 (by decide) (fun c96 => ?_) (fun c96 => ?_)
        · have c96 : x11 = (1 : Int64) := (lg_cmp_eq _ _).mp c96
          have hf := dz_t c96 hf
          obtain ⟨x12, e_x12, hf⟩ := dz_lo hf
          refine lv_iinc (v := x12) (lv' := [(7, .int x12), (8, .long x11), (5, .long x9), (3, .long x3), (1, .int v1), (2, .int v2)]) hx hb dX0_chase_103 hl (k := 5) rfl (by rw [e_x12]; rfl) (by decide) rfl (fun ls hl => ?_)
          refine lv_goto (tgt := 34) hx hb dX0_chase_106 (by decide) ?_
          exact ih v1 v2 x3 x9 x12 τ H locs cells slots hH hS hcs hss hcM ls (lv_sub hl [4, 5, 3, 2, 0] rfl) hf
        · have c96 : ¬ x11 = (1 : Int64) := fun hq => c96 ((lg_cmp_eq _ _).mpr hq)
          have hf := dz_f c96 hf
          refine lv_lload hx hb dX0_chase_99 (lv_at hl 0 rfl) ?_
          refine lv_l2i hx hb dX0_chase_101 (rfl : _ = Int64.toInt32 x11) ?_
          refine lv_topi (fun x13 e_x13 => ?_)
          have hf := dz_ls e_x13 hf
          obtain ⟨hM1, hS1⟩ : cells = M ∧ slots = S := by have hq := congrArg Prod.snd (Option.some.inj hf); rw [← hq] at hM hS0; have hM : s.heap.size + M = τ.1 := hM; have hS0 : sl0 + S = τ.2.1 := hS0; omega
          refine W.widen (k := M) (n := S) (Nat.le_of_eq hM1) (Nat.le_of_eq hS1) ?_
          exact W.iret (v := x13) hx hb hr (fun t ht hW => ⟨⟨x13, τ, rfl, Option.some.inj hf, z_at ht hH⟩, hS.F ht⟩) hS.2.2 dX0_chase_102
set_option maxHeartbeats 4000000 in
set_option maxRecDepth 100000 in
theorem mtX0_chase (l : Launch) (D : va_G) (cA : Nat → ClassId) (ζ : pZ) (τ : pH) (h : Nat) (a0 : Int32) (a1 : Int32) (K : Nat) (res : (Int32 × pH)) (hf : fnX0_chase K ζ h a0 a1 τ = some res) (M S : Nat) (hM : τ.1 + M = res.2.1) (hS0 : τ.2.1 + S = res.2.2.1) : Met l yX0_chase (ws_ yX0_chase cX0_chase 10 (some .int)) ({ frames := 101, cells := M, slots := S, locals := 2323 }) (zPc D cA ζ τ [.ref h, .int a0, .int a1]) (zQi D cA ζ res) M S (zA ζ) := by
  refine Met.ofW (cc := cX0_chase) (maxL := 10) (ret := some .int) (by decide +kernel) rfl ?_
  intro p e s m args below meth c s₁ B hml hv
  obtain ⟨rfl, hX, hH⟩ := hv
  have hx := B.exec
  have hb := B.bytes
  have hr := B.returns
  have hts := atoms_spec (ws := ws_ yX0_chase cX0_chase 10 (some .int)) B.pre
  have hts : ∀ w ∈ lw_all, w.before _ s = true := fun w h => hts w (List.mem_cons_of_mem _ h)
  have hown : s.vm.findClass RX0 = some m.cls := findClass_of_methodNamed B.named
  have hlocks := B.notSynchronized
  have hM : s.heap.size + M = res.2.1 := by rw [hH.1]; exact hM
  have hcs : s.heap.size + 0 = τ.1 := hH.1
  have hss : τ.2.1 + 0 = τ.2.1 := rfl
  generalize hsl0 : τ.2.1 = sl0 at hS0 hss
  have hss : sl0 + 0 = τ.2.1 := by rw [hsl0]; rfl
  have hS : va_S (zA ζ) s.heap s.heap [] := va_S.rf
  generalize hHe : s.heap = H at hH hS ⊢
  have hS : va_S (zA ζ) s.heap H [] := by rw [hHe]; exact hS
  generalize ([] : List Loc) = locs at hS ⊢
  have hl := lv_entry ([.ref h, .int a0, .int a1]) (n := 10) (Nat.le_of_ble_eq_true rfl)
  rw [lg_entry_eq]
  generalize (lg_sl ([.ref h, .int a0, .int a1]) ++ List.replicate (10 - (lg_sl ([.ref h, .int a0, .int a1])).length) Slot.unset).toArray = ls at hl ⊢
  have hl : lv_has ls 10 [(0, .ref h), (1, .int a0), (2, .int a1)] := hl
  have hf : (dz_b (fnX0_isNumber K (Int32.toInt64 a0)) fun x1 => if x1 = (0 : Int32) then (some ((-1), τ)) else (dz_b (fnX0_isIn K (Int32.toInt64 a1) 1 99) fun x2 => if x2 = (0 : Int32) then (some ((-1), τ)) else ((lfX0_chase K ζ K) a0 a1 2 2 0 τ)) : Option (Int32 × pH)) = some res := hf
  refine z_gen (fun cells slots hc0 hs0 => ?_)
  have hcs : s.heap.size + cells = τ.1 := by rw [hc0]; exact hcs
  have hss : sl0 + slots = τ.2.1 := by rw [hs0]; exact hss
  have hcM : cells ≤ M ∧ slots ≤ S := by rw [hc0, hs0]; exact ⟨Nat.zero_le _, Nat.zero_le _⟩
  clear hc0 hs0
  have ih := wlX0_chase (l := l) (e := e) (below := below) (D := D) (cA := cA) hX K res M S sl0 hM hS0 h a0 a1 hx hb hr hlocks hml hown hts K
  refine lv_iload_n hx hb dX0_chase_0 rfl (lv_at hl 1 rfl) ?_
  refine lv_i2l hx hb dX0_chase_1 (rfl : _ = Int32.toInt64 a0) ?_
  obtain ⟨x1, hx1, hf⟩ := dz_bo hf
  refine va_calli (va_runS (As := [.long (Int32.toInt64 a0)]) (rest := []) ⟨hx, hb, hml, hown, hts⟩ (mtX0_isNumber l (Int32.toInt64 a0) K x1 hx1) (va_cwS 1 hts (lw_S q191 q192 q84 q193) rfl rfl rfl (by decide +kernel) ⟨Nat.le_of_ble_eq_true rfl, Nat.le_of_ble_eq_true rfl⟩) ⟨fun a U g mk q => q, fun U hU hW => ⟨rfl, trivial⟩⟩ rfl rfl hl.1 rfl (lv_room (Nat.le_of_ble_eq_true rfl)) dX0_chase_2 ⟨hcM.1, hcM.2⟩) hS (fun q _ hq => hq.elim) (fun q hq => hq.elim) (fun r u t H1 locs ht hvm hw hB hz hk hS => dz_size (fun hz9 => ?_))
  replace hw := hw.symm; subst hw
  replace hH := zH_keep hH hcs hz hk hz9
  clear hB hk hz hvm ht hz9; generalize H1 = H at hH hS ⊢
  refine W.widen (k := cells) (n := slots) (Nat.le_refl _) (Nat.le_refl _) ?_
  refine lv_if_eq (tgt := 20) hx hb dX0_chase_5 (by decide) (fun c5 => ?_) (fun c5 => ?_)
  · have hf := dz_t c5 hf
    refine lv_iconst (v := (-1)) hx hb dX0_chase_20 (by decide) ?_
    obtain ⟨hM1, hS1⟩ : cells = M ∧ slots = S := by have hq := congrArg Prod.snd (Option.some.inj hf); rw [← hq] at hM hS0; have hM : s.heap.size + M = τ.1 := hM; have hS0 : sl0 + S = τ.2.1 := hS0; omega
    refine W.widen (k := M) (n := S) (Nat.le_of_eq hM1) (Nat.le_of_eq hS1) ?_
    exact W.iret (v := (-1)) hx hb hr (fun t ht hW => ⟨⟨(-1), τ, rfl, Option.some.inj hf, z_at ht hH⟩, hS.F ht⟩) hS.2.2 dX0_chase_21
  · have hf := dz_f c5 hf
    refine lv_iload_n hx hb dX0_chase_8 rfl (lv_at hl 2 rfl) ?_
    refine lv_i2l hx hb dX0_chase_9 (rfl : _ = Int32.toInt64 a1) ?_
    refine lv_lconst (v := 1) hx hb dX0_chase_10 rfl ?_
    refine lv_ldc2 (v := 99) hx hb hown (hts _ q1353) dX0_chase_11 ?_
    obtain ⟨x2, hx2, hf⟩ := dz_bo hf
    refine va_calli (va_runS (As := [.long (Int32.toInt64 a1), .long 1, .long 99]) (rest := []) ⟨hx, hb, hml, hown, hts⟩ (mtX0_isIn l (Int32.toInt64 a1) 1 99 K x2 hx2) (va_cwS 3 hts (lw_S q188 q189 q84 q190) rfl rfl rfl (by decide +kernel) ⟨Nat.le_of_ble_eq_true rfl, Nat.le_of_ble_eq_true rfl⟩) ⟨fun a U g mk q => q, fun U hU hW => ⟨rfl, trivial⟩⟩ rfl rfl hl.1 rfl (lv_room (Nat.le_of_ble_eq_true rfl)) dX0_chase_14 ⟨hcM.1, hcM.2⟩) hS (fun q _ hq => hq.elim) (fun q hq => hq.elim) (fun r u t H1 locs ht hvm hw hB hz hk hS => dz_size (fun hz9 => ?_))
    replace hw := hw.symm; subst hw
    replace hH := zH_keep hH hcs hz hk hz9
    clear hB hk hz hvm ht hz9; generalize H1 = H at hH hS ⊢
    refine W.widen (k := cells) (n := slots) (Nat.le_refl _) (Nat.le_refl _) ?_
    refine lv_if_ne (tgt := 22) hx hb dX0_chase_17 (by decide) (fun c17 => ?_) (fun c17 => ?_)
    · have hf := dz_f c17 hf
      refine lv_ldc2 (v := 2) hx hb hown (hts _ q194) dX0_chase_22 ?_
      refine lv_lstore_n (lv' := [(3, .long 2), (0, .ref h), (1, .int a0), (2, .int a1)]) hx hb dX0_chase_25 rfl hl (by decide) rfl (fun ls hl => ?_)
      refine lv_ldc2 (v := 2) hx hb hown (hts _ q194) dX0_chase_26 ?_
      refine lv_lstore (lv' := [(5, .long 2), (3, .long 2), (0, .ref h), (1, .int a0), (2, .int a1)]) hx hb dX0_chase_29 hl (by decide) rfl (fun ls hl => ?_)
      refine lv_iconst (v := 0) hx hb dX0_chase_31 (by decide) ?_
      refine lv_istore (lv' := [(7, .int 0), (5, .long 2), (3, .long 2), (0, .ref h), (1, .int a0), (2, .int a1)]) hx hb dX0_chase_32 hl (by decide) rfl (fun ls hl => ?_)
      exact ih a0 a1 2 2 0 τ H locs cells slots hH hS hcs hss hcM ls (lv_sub hl [4, 5, 2, 1, 0] rfl) hf
    · have hf := dz_t c17 hf
      refine lv_iconst (v := (-1)) hx hb dX0_chase_20 (by decide) ?_
      obtain ⟨hM1, hS1⟩ : cells = M ∧ slots = S := by have hq := congrArg Prod.snd (Option.some.inj hf); rw [← hq] at hM hS0; have hM : s.heap.size + M = τ.1 := hM; have hS0 : sl0 + S = τ.2.1 := hS0; omega
      refine W.widen (k := M) (n := S) (Nat.le_of_eq hM1) (Nat.le_of_eq hS1) ?_
      exact W.iret (v := (-1)) hx hb hr (fun t ht hW => ⟨⟨(-1), τ, rfl, Option.some.inj hf, z_at ht hH⟩, hS.F ht⟩) hS.2.2 dX0_chase_21

