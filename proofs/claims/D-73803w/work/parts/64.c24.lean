noncomputable def lfX0_jacobi (K : Nat) (ζ : pZ) : Nat → (pH → Option (Int32 × pH)) := Nat.rec (motive := fun _ => (pH → Option (Int32 × pH))) (fun _ => none) (fun _ G => (fun τ => some ((-2), τ)))
noncomputable def fnX0_jacobi (K : Nat) (ζ : pZ) (h : Nat) (a0 : Int32) (a1 : Int32) (τ : pH) : Option (Int32 × pH) := if a1 < (1 : Int32) then ((lfX0_jacobi K ζ K) τ) else (dz_l (a1 - a1 / 2 * 2) fun x1 => if x1 = (0 : Int32) then ((lfX0_jacobi K ζ K) τ) else (dz_b (fnX0_jacobiOf K (Int32.toInt64 a0) (Int32.toInt64 a1)) fun x2 => some (x2, τ)))
set_option maxHeartbeats 4000000 in
set_option maxRecDepth 100000 in
theorem wlX0_jacobi {p : Program} {l : Launch} {e : Env} {s : State} {m : MethodId} {below : List Frame} {meth : Method} {c : Code} {D : va_G} {cA : Nat → ClassId} {ζ : pZ} (hX : zX D cA ζ s) (K : Nat) (res : (Int32 × pH)) (M S sl0 : Nat) (hM : s.heap.size + M = res.2.1) (hS0 : sl0 + S = res.2.2.1) (h : Nat) (a0 : Int32) (a1 : Int32) (hx : p.tables.exec = Jvm.exec) (hb : c.code = cX0_jacobi) (hr : meth.sig.returnType = some .int) (hlocks : meth.locks = false) (hml : c.maxLocals = 3) (hown : s.vm.findClass RX0 = some m.cls) (hts : ∀ w ∈ lw_all, w.before ([.ref h, .int a0, .int a1] : List Value).toArray s = true) : ∀ k : Nat, (∀  (τ : pH) (H : Heap) (locs : List Loc) (cells slots : Nat), zH D cA ζ τ H → va_S (zA ζ) s.heap H locs → s.heap.size + cells = τ.1 → sl0 + slots = τ.2.1 → cells ≤ M ∧ slots ≤ S → ∀ (ls : Array Slot), lv_has ls 3 [] → (lfX0_jacobi K ζ k) τ = some res → W p l e (headSpec (ws_ yX0_jacobi cX0_jacobi 3 (some .int)) ({ frames := 2, cells := M, slots := S, locals := 55 })).room s m ([.ref h, .int a0, .int a1] : List Value).toArray below meth c H locs cells slots (MQ below (zQi D cA ζ res) ([.ref h, .int a0, .int a1] : List Value).toArray s M S (zA ζ)) (F0 m 11 ls [])) := by
  intro k
  induction k with
  | zero =>
    exact fun _ _ _ _ _ _ _ _ _ _ _ _ hf => (by cases hf)
  | succ k ih =>
    · intro τ H locs cells slots hH hS hcs hss hcM ls hl hf
      have hf : (some ((-2), τ) : Option (Int32 × pH)) = some res := hf
      refine lv_bipush (v := (-2)) hx hb dX0_jacobi_11 (by decide) ?_
      refine lv_goto (tgt := 23) hx hb dX0_jacobi_13 (by decide) ?_
      obtain ⟨hM1, hS1⟩ : cells = M ∧ slots = S := by have hq := congrArg Prod.snd (Option.some.inj hf); rw [← hq] at hM hS0; have hM : s.heap.size + M = τ.1 := hM; have hS0 : sl0 + S = τ.2.1 := hS0; omega
      refine W.widen (k := M) (n := S) (Nat.le_of_eq hM1) (Nat.le_of_eq hS1) ?_
      exact W.iret (v := (-2)) hx hb hr (fun t ht hW => ⟨⟨(-2), τ, rfl, Option.some.inj hf, z_at ht hH⟩, hS.F ht⟩) hS.2.2 dX0_jacobi_23
set_option maxHeartbeats 4000000 in
set_option maxRecDepth 100000 in
theorem mtX0_jacobi (l : Launch) (D : va_G) (cA : Nat → ClassId) (ζ : pZ) (τ : pH) (h : Nat) (a0 : Int32) (a1 : Int32) (K : Nat) (res : (Int32 × pH)) (hf : fnX0_jacobi K ζ h a0 a1 τ = some res) (M S : Nat) (hM : τ.1 + M = res.2.1) (hS0 : τ.2.1 + S = res.2.2.1) : Met l yX0_jacobi (ws_ yX0_jacobi cX0_jacobi 3 (some .int)) ({ frames := 2, cells := M, slots := S, locals := 55 }) (zPc D cA ζ τ [.ref h, .int a0, .int a1]) (zQi D cA ζ res) M S (zA ζ) := by
  refine Met.ofW (cc := cX0_jacobi) (maxL := 3) (ret := some .int) (by decide +kernel) rfl ?_
  intro p e s m args below meth c s₁ B hml hv
  obtain ⟨rfl, hX, hH⟩ := hv
  have hx := B.exec
  have hb := B.bytes
  have hr := B.returns
  have hts := atoms_spec (ws := ws_ yX0_jacobi cX0_jacobi 3 (some .int)) B.pre
  have hts : ∀ w ∈ lw_all, w.before _ s = true := fun w h => hts w (List.mem_cons_of_mem _ h)
  have hown : s.vm.findClass RX0 = some m.cls := findClass_of_methodNamed B.named
  have hlocks := B.notSynchronized
  have hM : s.heap.size + M = res.2.1 := by rw [hH.1]; exact hM
  have hcs : s.heap.size + 0 = τ.1 := hH.1
  have hss : τ.2.1 + 0 = τ.2.1 := rfl
  generalize hsl0 : τ.2.1 = sl0 at hS0 hss
  have hss : sl0 + 0 = τ.2.1 := by rw [hsl0]; rfl
  have hS : va_S (zA ζ) s.heap s.heap [] := va_S.rf
  generalize hHe : s.heap = H at hH hS ⊢
  have hS : va_S (zA ζ) s.heap H [] := by rw [hHe]; exact hS
  generalize ([] : List Loc) = locs at hS ⊢
  have hl := lv_entry ([.ref h, .int a0, .int a1]) (n := 3) (Nat.le_of_ble_eq_true rfl)
  rw [lg_entry_eq]
  generalize (lg_sl ([.ref h, .int a0, .int a1]) ++ List.replicate (3 - (lg_sl ([.ref h, .int a0, .int a1])).length) Slot.unset).toArray = ls at hl ⊢
  have hl : lv_has ls 3 [(0, .ref h), (1, .int a0), (2, .int a1)] := hl
  have hf : (if a1 < (1 : Int32) then ((lfX0_jacobi K ζ K) τ) else (dz_l (a1 - a1 / 2 * 2) fun x1 => if x1 = (0 : Int32) then ((lfX0_jacobi K ζ K) τ) else (dz_b (fnX0_jacobiOf K (Int32.toInt64 a0) (Int32.toInt64 a1)) fun x2 => some (x2, τ))) : Option (Int32 × pH)) = some res := hf
  refine z_gen (fun cells slots hc0 hs0 => ?_)
  have hcs : s.heap.size + cells = τ.1 := by rw [hc0]; exact hcs
  have hss : sl0 + slots = τ.2.1 := by rw [hs0]; exact hss
  have hcM : cells ≤ M ∧ slots ≤ S := by rw [hc0, hs0]; exact ⟨Nat.zero_le _, Nat.zero_le _⟩
  clear hc0 hs0
  have ih := wlX0_jacobi (l := l) (e := e) (below := below) (D := D) (cA := cA) hX K res M S sl0 hM hS0 h a0 a1 hx hb hr hlocks hml hown hts K
  refine lv_iload_n hx hb dX0_jacobi_0 rfl (lv_at hl 2 rfl) ?_
  refine lv_iconst (v := 1) hx hb dX0_jacobi_1 (by decide) ?_
  refine lv_icmp_lt (tgt := 11) hx hb dX0_jacobi_2 (by decide) (fun c2 => ?_) (fun c2 => ?_)
  · have hf := dz_t c2 hf
    exact ih τ H locs cells slots hH hS hcs hss hcM ls (lv_sub hl [] rfl) hf
  · have hf := dz_f c2 hf
    refine lv_iload_n hx hb dX0_jacobi_5 rfl (lv_at hl 2 rfl) ?_
    refine lv_iconst (v := 2) hx hb dX0_jacobi_6 (by decide) ?_
    refine lv_irem hx hb dX0_jacobi_7 (by decide) ?_
    refine lv_topi (fun x1 e_x1 => ?_)
    have hf := dz_ls e_x1 hf
    refine lv_if_ne (tgt := 16) hx hb dX0_jacobi_8 (by decide) (fun c8 => ?_) (fun c8 => ?_)
    · have hf := dz_f c8 hf
      refine lv_iload_n hx hb dX0_jacobi_16 rfl (lv_at hl 1 rfl) ?_
      refine lv_i2l hx hb dX0_jacobi_17 (rfl : _ = Int32.toInt64 a0) ?_
      refine lv_iload_n hx hb dX0_jacobi_18 rfl (lv_at hl 2 rfl) ?_
      refine lv_i2l hx hb dX0_jacobi_19 (rfl : _ = Int32.toInt64 a1) ?_
      obtain ⟨x2, hx2, hf⟩ := dz_bo hf
      refine va_calli (va_runS (As := [.long (Int32.toInt64 a0), .long (Int32.toInt64 a1)]) (rest := []) ⟨hx, hb, hml, hown, hts⟩ (mtX0_jacobiOf l (Int32.toInt64 a0) (Int32.toInt64 a1) K x2 hx2) (va_cwS 2 hts (lw_S q1648 q462 q84 q463) rfl rfl rfl (by decide +kernel) ⟨Nat.le_of_ble_eq_true rfl, Nat.le_of_ble_eq_true rfl⟩) ⟨fun a U g mk q => q, fun U hU hW => ⟨rfl, trivial⟩⟩ rfl rfl hl.1 rfl (lv_room (Nat.le_of_ble_eq_true rfl)) dX0_jacobi_20 ⟨hcM.1, hcM.2⟩) hS (fun q _ hq => hq.elim) (fun q hq => hq.elim) (fun r u t H1 locs ht hvm hw hB hz hk hS => dz_size (fun hz9 => ?_))
      replace hw := hw.symm; subst hw
      replace hH := zH_keep hH hcs hz hk hz9
      clear hB hk hz hvm ht hz9; generalize H1 = H at hH hS ⊢
      refine W.widen (k := cells) (n := slots) (Nat.le_refl _) (Nat.le_refl _) ?_
      obtain ⟨hM1, hS1⟩ : cells = M ∧ slots = S := by have hq := congrArg Prod.snd (Option.some.inj hf); rw [← hq] at hM hS0; have hM : s.heap.size + M = τ.1 := hM; have hS0 : sl0 + S = τ.2.1 := hS0; omega
      refine W.widen (k := M) (n := S) (Nat.le_of_eq hM1) (Nat.le_of_eq hS1) ?_
      exact W.iret (v := x2) hx hb hr (fun t ht hW => ⟨⟨x2, τ, rfl, Option.some.inj hf, z_at ht hH⟩, hS.F ht⟩) hS.2.2 dX0_jacobi_23
    · have hf := dz_t c8 hf
      exact ih τ H locs cells slots hH hS hcs hss hcM ls (lv_sub hl [] rfl) hf

noncomputable def fnX0_u (K : Nat) (ζ : pZ) (h : Nat) (a0 : Int32) (a1 : Int32) (a2 : Int32) (a3 : Int32) (τ : pH) : Option (Int32 × pH) := dz_b (fnX0_isIn K (Int32.toInt64 a0) 1 99) fun x1 => if x1 = (0 : Int32) then (some ((-1), τ)) else (dz_b (fnX0_isIn K (Int32.toInt64 a1) 1 99) fun x2 => if x2 = (0 : Int32) then (some ((-1), τ)) else (if a2 < (0 : Int32) then (some ((-1), τ)) else (dz_b (fnX0_isIn K (Int32.toInt64 a3) 1 1000000000) fun x3 => if x3 = (0 : Int32) then (some ((-1), τ)) else (zcl τ (fnX0_sequenceOf K ζ (Int32.toInt64 a0) (Int32.toInt64 a1) (Int32.toInt64 a2) (Int32.toInt64 a3) τ) fun x4 s5 => dz_l (Int64.toInt32 x4) fun x6 => some (x6, s5)))))
set_option maxHeartbeats 4000000 in
set_option maxRecDepth 100000 in
theorem mtX0_u (l : Launch) (D : va_G) (cA : Nat → ClassId) (ζ : pZ) (τ : pH) (h : Nat) (a0 : Int32) (a1 : Int32) (a2 : Int32) (a3 : Int32) (K : Nat) (res : (Int32 × pH)) (hf : fnX0_u K ζ h a0 a1 a2 a3 τ = some res) (M S : Nat) (hM : τ.1 + M = res.2.1) (hS0 : τ.2.1 + S = res.2.2.1) : Met l yX0_u (ws_ yX0_u cX0_u 5 (some .int)) ({ frames := 5, cells := M, slots := S, locals := 119 }) (zPc D cA ζ τ [.ref h, .int a0, .int a1, .int a2, .int a3]) (zQi D cA ζ res) M S (zA ζ) := by
  refine Met.ofW (cc := cX0_u) (maxL := 5) (ret := some .int) (by decide +kernel) rfl ?_
  intro p e s m args below meth c s₁ B hml hv
  obtain ⟨rfl, hX, hH⟩ := hv
  have hx := B.exec
  have hb := B.bytes
  have hr := B.returns
  have hts := atoms_spec (ws := ws_ yX0_u cX0_u 5 (some .int)) B.pre
  have hts : ∀ w ∈ lw_all, w.before _ s = true := fun w h => hts w (List.mem_cons_of_mem _ h)
  have hown : s.vm.findClass RX0 = some m.cls := findClass_of_methodNamed B.named
  have hlocks := B.notSynchronized
  have hM : s.heap.size + M = res.2.1 := by rw [hH.1]; exact hM
  have hcs : s.heap.size + 0 = τ.1 := hH.1
  have hss : τ.2.1 + 0 = τ.2.1 := rfl
  generalize hsl0 : τ.2.1 = sl0 at hS0 hss
  have hss : sl0 + 0 = τ.2.1 := by rw [hsl0]; rfl
  have hS : va_S (zA ζ) s.heap s.heap [] := va_S.rf
  generalize hHe : s.heap = H at hH hS ⊢
  have hS : va_S (zA ζ) s.heap H [] := by rw [hHe]; exact hS
  generalize ([] : List Loc) = locs at hS ⊢
  have hl := lv_entry ([.ref h, .int a0, .int a1, .int a2, .int a3]) (n := 5) (Nat.le_of_ble_eq_true rfl)
  rw [lg_entry_eq]
  generalize (lg_sl ([.ref h, .int a0, .int a1, .int a2, .int a3]) ++ List.replicate (5 - (lg_sl ([.ref h, .int a0, .int a1, .int a2, .int a3])).length) Slot.unset).toArray = ls at hl ⊢
  have hl : lv_has ls 5 [(0, .ref h), (1, .int a0), (2, .int a1), (3, .int a2), (4, .int a3)] := hl
  have hf : (dz_b (fnX0_isIn K (Int32.toInt64 a0) 1 99) fun x1 => if x1 = (0 : Int32) then (some ((-1), τ)) else (dz_b (fnX0_isIn K (Int32.toInt64 a1) 1 99) fun x2 => if x2 = (0 : Int32) then (some ((-1), τ)) else (if a2 < (0 : Int32) then (some ((-1), τ)) else (dz_b (fnX0_isIn K (Int32.toInt64 a3) 1 1000000000) fun x3 => if x3 = (0 : Int32) then (some ((-1), τ)) else (zcl τ (fnX0_sequenceOf K ζ (Int32.toInt64 a0) (Int32.toInt64 a1) (Int32.toInt64 a2) (Int32.toInt64 a3) τ) fun x4 s5 => dz_l (Int64.toInt32 x4) fun x6 => some (x6, s5))))) : Option (Int32 × pH)) = some res := hf
  refine z_gen (fun cells slots hc0 hs0 => ?_)
  have hcs : s.heap.size + cells = τ.1 := by rw [hc0]; exact hcs
  have hss : sl0 + slots = τ.2.1 := by rw [hs0]; exact hss
  have hcM : cells ≤ M ∧ slots ≤ S := by rw [hc0, hs0]; exact ⟨Nat.zero_le _, Nat.zero_le _⟩
  clear hc0 hs0
  refine lv_iload_n hx hb dX0_u_0 rfl (lv_at hl 1 rfl) ?_
  refine lv_i2l hx hb dX0_u_1 (rfl : _ = Int32.toInt64 a0) ?_
  refine lv_lconst (v := 1) hx hb dX0_u_2 rfl ?_
  refine lv_ldc2 (v := 99) hx hb hown (hts _ q1353) dX0_u_3 ?_
  obtain ⟨x1, hx1, hf⟩ := dz_bo hf
  refine va_calli (va_runS (As := [.long (Int32.toInt64 a0), .long 1, .long 99]) (rest := []) ⟨hx, hb, hml, hown, hts⟩ (mtX0_isIn l (Int32.toInt64 a0) 1 99 K x1 hx1) (va_cwS 3 hts (lw_S q188 q189 q84 q190) rfl rfl rfl (by decide +kernel) ⟨Nat.le_of_ble_eq_true rfl, Nat.le_of_ble_eq_true rfl⟩) ⟨fun a U g mk q => q, fun U hU hW => ⟨rfl, trivial⟩⟩ rfl rfl hl.1 rfl (lv_room (Nat.le_of_ble_eq_true rfl)) dX0_u_6 ⟨hcM.1, hcM.2⟩) hS (fun q _ hq => hq.elim) (fun q hq => hq.elim) (fun r u t H1 locs ht hvm hw hB hz hk hS => dz_size (fun hz9 => ?_))
  replace hw := hw.symm; subst hw
  replace hH := zH_keep hH hcs hz hk hz9
  clear hB hk hz hvm ht hz9; generalize H1 = H at hH hS ⊢
  refine W.widen (k := cells) (n := slots) (Nat.le_refl _) (Nat.le_refl _) ?_
  refine lv_if_eq (tgt := 57) hx hb dX0_u_9 (by decide) (fun c9 => ?_) (fun c9 => ?_)
  · have hf := dz_t c9 hf
    refine lv_iconst (v := (-1)) hx hb dX0_u_57 (by decide) ?_
    obtain ⟨hM1, hS1⟩ : cells = M ∧ slots = S := by have hq := congrArg Prod.snd (Option.some.inj hf); rw [← hq] at hM hS0; have hM : s.heap.size + M = τ.1 := hM; have hS0 : sl0 + S = τ.2.1 := hS0; omega
    refine W.widen (k := M) (n := S) (Nat.le_of_eq hM1) (Nat.le_of_eq hS1) ?_
    exact W.iret (v := (-1)) hx hb hr (fun t ht hW => ⟨⟨(-1), τ, rfl, Option.some.inj hf, z_at ht hH⟩, hS.F ht⟩) hS.2.2 dX0_u_58
  · have hf := dz_f c9 hf
    refine lv_iload_n hx hb dX0_u_12 rfl (lv_at hl 2 rfl) ?_
    refine lv_i2l hx hb dX0_u_13 (rfl : _ = Int32.toInt64 a1) ?_
    refine lv_lconst (v := 1) hx hb dX0_u_14 rfl ?_
    refine lv_ldc2 (v := 99) hx hb hown (hts _ q1353) dX0_u_15 ?_
    obtain ⟨x2, hx2, hf⟩ := dz_bo hf
    refine va_calli (va_runS (As := [.long (Int32.toInt64 a1), .long 1, .long 99]) (rest := []) ⟨hx, hb, hml, hown, hts⟩ (mtX0_isIn l (Int32.toInt64 a1) 1 99 K x2 hx2) (va_cwS 3 hts (lw_S q188 q189 q84 q190) rfl rfl rfl (by decide +kernel) ⟨Nat.le_of_ble_eq_true rfl, Nat.le_of_ble_eq_true rfl⟩) ⟨fun a U g mk q => q, fun U hU hW => ⟨rfl, trivial⟩⟩ rfl rfl hl.1 rfl (lv_room (Nat.le_of_ble_eq_true rfl)) dX0_u_18 ⟨hcM.1, hcM.2⟩) hS (fun q _ hq => hq.elim) (fun q hq => hq.elim) (fun r u t H1 locs ht hvm hw hB hz hk hS => dz_size (fun hz9 => ?_))
    replace hw := hw.symm; subst hw
    replace hH := zH_keep hH hcs hz hk hz9
    clear hB hk hz hvm ht hz9; generalize H1 = H at hH hS ⊢
    refine W.widen (k := cells) (n := slots) (Nat.le_refl _) (Nat.le_refl _) ?_
    refine lv_if_eq (tgt := 57) hx hb dX0_u_21 (by decide) (fun c21 => ?_) (fun c21 => ?_)
    · have hf := dz_t c21 hf
      refine lv_iconst (v := (-1)) hx hb dX0_u_57 (by decide) ?_
      obtain ⟨hM1, hS1⟩ : cells = M ∧ slots = S := by have hq := congrArg Prod.snd (Option.some.inj hf); rw [← hq] at hM hS0; have hM : s.heap.size + M = τ.1 := hM; have hS0 : sl0 + S = τ.2.1 := hS0; omega
      refine W.widen (k := M) (n := S) (Nat.le_of_eq hM1) (Nat.le_of_eq hS1) ?_
      exact W.iret (v := (-1)) hx hb hr (fun t ht hW => ⟨⟨(-1), τ, rfl, Option.some.inj hf, z_at ht hH⟩, hS.F ht⟩) hS.2.2 dX0_u_58
    · have hf := dz_f c21 hf
      refine lv_iload_n hx hb dX0_u_24 rfl (lv_at hl 3 rfl) ?_
      refine lv_if_lt (tgt := 57) hx hb dX0_u_25 (by decide) (fun c25 => ?_) (fun c25 => ?_)
      · have hf := dz_t c25 hf
        refine lv_iconst (v := (-1)) hx hb dX0_u_57 (by decide) ?_
        obtain ⟨hM1, hS1⟩ : cells = M ∧ slots = S := by have hq := congrArg Prod.snd (Option.some.inj hf); rw [← hq] at hM hS0; have hM : s.heap.size + M = τ.1 := hM; have hS0 : sl0 + S = τ.2.1 := hS0; omega
        refine W.widen (k := M) (n := S) (Nat.le_of_eq hM1) (Nat.le_of_eq hS1) ?_
        exact W.iret (v := (-1)) hx hb hr (fun t ht hW => ⟨⟨(-1), τ, rfl, Option.some.inj hf, z_at ht hH⟩, hS.F ht⟩) hS.2.2 dX0_u_58
      · have hf := dz_f c25 hf
        refine lv_iload hx hb dX0_u_28 (lv_at hl 4 rfl) ?_
        refine lv_i2l hx hb dX0_u_30 (rfl : _ = Int32.toInt64 a3) ?_
        refine lv_lconst (v := 1) hx hb dX0_u_31 rfl ?_
        refine lv_ldc2 (v := 1000000000) hx hb hown (hts _ q195) dX0_u_32 ?_
        obtain ⟨x3, hx3, hf⟩ := dz_bo hf
        refine va_calli (va_runS (As := [.long (Int32.toInt64 a3), .long 1, .long 1000000000]) (rest := []) ⟨hx, hb, hml, hown, hts⟩ (mtX0_isIn l (Int32.toInt64 a3) 1 1000000000 K x3 hx3) (va_cwS 3 hts (lw_S q188 q189 q84 q190) rfl rfl rfl (by decide +kernel) ⟨Nat.le_of_ble_eq_true rfl, Nat.le_of_ble_eq_true rfl⟩) ⟨fun a U g mk q => q, fun U hU hW => ⟨rfl, trivial⟩⟩ rfl rfl hl.1 rfl (lv_room (Nat.le_of_ble_eq_true rfl)) dX0_u_35 ⟨hcM.1, hcM.2⟩) hS (fun q _ hq => hq.elim) (fun q hq => hq.elim) (fun r u t H1 locs ht hvm hw hB hz hk hS => dz_size (fun hz9 => ?_))
        replace hw := hw.symm; subst hw
        replace hH := zH_keep hH hcs hz hk hz9
        clear hB hk hz hvm ht hz9; generalize H1 = H at hH hS ⊢
        refine W.widen (k := cells) (n := slots) (Nat.le_refl _) (Nat.le_refl _) ?_
        refine lv_if_eq (tgt := 57) hx hb dX0_u_38 (by decide) (fun c38 => ?_) (fun c38 => ?_)
        · have hf := dz_t c38 hf
          refine lv_iconst (v := (-1)) hx hb dX0_u_57 (by decide) ?_
          obtain ⟨hM1, hS1⟩ : cells = M ∧ slots = S := by have hq := congrArg Prod.snd (Option.some.inj hf); rw [← hq] at hM hS0; have hM : s.heap.size + M = τ.1 := hM; have hS0 : sl0 + S = τ.2.1 := hS0; omega
          refine W.widen (k := M) (n := S) (Nat.le_of_eq hM1) (Nat.le_of_eq hS1) ?_
          exact W.iret (v := (-1)) hx hb hr (fun t ht hW => ⟨⟨(-1), τ, rfl, Option.some.inj hf, z_at ht hH⟩, hS.F ht⟩) hS.2.2 dX0_u_58
        · have hf := dz_f c38 hf
          refine lv_iload_n hx hb dX0_u_41 rfl (lv_at hl 1 rfl) ?_
          refine lv_i2l hx hb dX0_u_42 (rfl : _ = Int32.toInt64 a0) ?_
          refine lv_iload_n hx hb dX0_u_43 rfl (lv_at hl 2 rfl) ?_
          refine lv_i2l hx hb dX0_u_44 (rfl : _ = Int32.toInt64 a1) ?_
          refine lv_iload_n hx hb dX0_u_45 rfl (lv_at hl 3 rfl) ?_
          refine lv_i2l hx hb dX0_u_46 (rfl : _ = Int32.toInt64 a2) ?_
          refine lv_iload hx hb dX0_u_47 (lv_at hl 4 rfl) ?_
          refine lv_i2l hx hb dX0_u_49 (rfl : _ = Int32.toInt64 a3) ?_
          obtain ⟨x4, s5, hx4, hle, hck, hf⟩ := zcl_o hf
          have hc1 : cells + (s5.1 - τ.1) ≤ M := by omega
          have hs1 : slots + (s5.2.1 - τ.2.1) ≤ S := by omega
          refine va_calll (va_runS (As := [.long (Int32.toInt64 a0), .long (Int32.toInt64 a1), .long (Int32.toInt64 a2), .long (Int32.toInt64 a3)]) (rest := []) ⟨hx, hb, hml, hown, hts⟩ (mtX0_sequenceOf l D cA ζ τ (Int32.toInt64 a0) (Int32.toInt64 a1) (Int32.toInt64 a2) (Int32.toInt64 a3) K (x4, s5) hx4 (s5.1 - τ.1) (s5.2.1 - τ.2.1) (Nat.add_sub_cancel' hle.1) (Nat.add_sub_cancel' hle.2)) (va_cwS 4 hts (lw_S q1653 q469 q84 q470) rfl rfl rfl (by decide +kernel) ⟨Nat.le_of_ble_eq_true rfl, Nat.le_of_ble_eq_true rfl⟩) (z_preS hX hS hH) rfl rfl hl.1 rfl (lv_room (Nat.le_of_ble_eq_true rfl)) dX0_u_50 ⟨hc1, hs1⟩) hS (fun q _ hq => hq) (fun q hq => hq) (fun r u t H1 locs ht hvm hw hB hz hk hS => ?_)
          obtain ⟨hw1, hw2⟩ := Prod.mk.inj hw.symm; subst hw1; subst hw2
          have hH : zH D cA ζ s5 H1 := z_at ht.symm hB
          have hcs : s.heap.size + (cells + (s5.1 - τ.1)) = s5.1 := by omega
          have hss : sl0 + (slots + (s5.2.1 - τ.2.1)) = s5.2.1 := by omega
          replace hcM := And.intro hc1 hs1
          generalize cells + (s5.1 - τ.1) = cells at hcs hcM ⊢; generalize slots + (s5.2.1 - τ.2.1) = slots at hss hcM ⊢
          clear hB hk hz hvm ht hle hck hc1 hs1; generalize H1 = H at hH hS ⊢
          refine lv_l2i hx hb dX0_u_53 (rfl : _ = Int64.toInt32 x4) ?_
          refine lv_goto (tgt := 58) hx hb dX0_u_54 (by decide) ?_
          refine lv_topi (fun x6 e_x6 => ?_)
          have hf := dz_ls e_x6 hf
          obtain ⟨hM1, hS1⟩ : cells = M ∧ slots = S := by have hq := congrArg Prod.snd (Option.some.inj hf); rw [← hq] at hM hS0; have hM : s.heap.size + M = s5.1 := hM; have hS0 : sl0 + S = s5.2.1 := hS0; omega
          refine W.widen (k := M) (n := S) (Nat.le_of_eq hM1) (Nat.le_of_eq hS1) ?_
          exact W.iret (v := x6) hx hb hr (fun t ht hW => ⟨⟨x6, s5, rfl, Option.some.inj hf, z_at ht hH⟩, hS.F ht⟩) hS.2.2 dX0_u_58

noncomputable def fnX0_units (K : Nat) (ζ : pZ) (h : Nat) (a0 : Int32) (τ : pH) : Option (Int32 × pH) := dz_b (fnX0_isIn K (Int32.toInt64 a0) 1 1000000000) fun x1 => if x1 = (0 : Int32) then (some ((-1), τ)) else (zcl τ (fnX0_unitsOf K ζ (Int32.toInt64 a0) τ) fun x2 s3 => dz_l (Int64.toInt32 x2) fun x4 => some (x4, s3))
set_option maxHeartbeats 4000000 in
set_option maxRecDepth 100000 in
theorem mtX0_units (l : Launch) (D : va_G) (cA : Nat → ClassId) (ζ : pZ) (τ : pH) (h : Nat) (a0 : Int32) (K : Nat) (res : (Int32 × pH)) (hf : fnX0_units K ζ h a0 τ = some res) (M S : Nat) (hM : τ.1 + M = res.2.1) (hS0 : τ.2.1 + S = res.2.2.1) : Met l yX0_units (ws_ yX0_units cX0_units 2 (some .int)) ({ frames := 4, cells := M, slots := S, locals := 96 }) (zPc D cA ζ τ [.ref h, .int a0]) (zQi D cA ζ res) M S (zA ζ) := by
  refine Met.ofW (cc := cX0_units) (maxL := 2) (ret := some .int) (by decide +kernel) rfl ?_
  intro p e s m args below meth c s₁ B hml hv
  obtain ⟨rfl, hX, hH⟩ := hv
  have hx := B.exec
  have hb := B.bytes
  have hr := B.returns
  have hts := atoms_spec (ws := ws_ yX0_units cX0_units 2 (some .int)) B.pre
  have hts : ∀ w ∈ lw_all, w.before _ s = true := fun w h => hts w (List.mem_cons_of_mem _ h)
  have hown : s.vm.findClass RX0 = some m.cls := findClass_of_methodNamed B.named
  have hlocks := B.notSynchronized
  have hM : s.heap.size + M = res.2.1 := by rw [hH.1]; exact hM
  have hcs : s.heap.size + 0 = τ.1 := hH.1
  have hss : τ.2.1 + 0 = τ.2.1 := rfl
  generalize hsl0 : τ.2.1 = sl0 at hS0 hss
  have hss : sl0 + 0 = τ.2.1 := by rw [hsl0]; rfl
  have hS : va_S (zA ζ) s.heap s.heap [] := va_S.rf
  generalize hHe : s.heap = H at hH hS ⊢
  have hS : va_S (zA ζ) s.heap H [] := by rw [hHe]; exact hS
  generalize ([] : List Loc) = locs at hS ⊢
  have hl := lv_entry ([.ref h, .int a0]) (n := 2) (Nat.le_of_ble_eq_true rfl)
  rw [lg_entry_eq]
  generalize (lg_sl ([.ref h, .int a0]) ++ List.replicate (2 - (lg_sl ([.ref h, .int a0])).length) Slot.unset).toArray = ls at hl ⊢
  have hl : lv_has ls 2 [(0, .ref h), (1, .int a0)] := hl
  have hf : (dz_b (fnX0_isIn K (Int32.toInt64 a0) 1 1000000000) fun x1 => if x1 = (0 : Int32) then (some ((-1), τ)) else (zcl τ (fnX0_unitsOf K ζ (Int32.toInt64 a0) τ) fun x2 s3 => dz_l (Int64.toInt32 x2) fun x4 => some (x4, s3)) : Option (Int32 × pH)) = some res := hf
  refine z_gen (fun cells slots hc0 hs0 => ?_)
  have hcs : s.heap.size + cells = τ.1 := by rw [hc0]; exact hcs
  have hss : sl0 + slots = τ.2.1 := by rw [hs0]; exact hss
  have hcM : cells ≤ M ∧ slots ≤ S := by rw [hc0, hs0]; exact ⟨Nat.zero_le _, Nat.zero_le _⟩
  clear hc0 hs0
  refine lv_iload_n hx hb dX0_units_0 rfl (lv_at hl 1 rfl) ?_
  refine lv_i2l hx hb dX0_units_1 (rfl : _ = Int32.toInt64 a0) ?_
  refine lv_lconst (v := 1) hx hb dX0_units_2 rfl ?_
  refine lv_ldc2 (v := 1000000000) hx hb hown (hts _ q195) dX0_units_3 ?_
  obtain ⟨x1, hx1, hf⟩ := dz_bo hf
  refine va_calli (va_runS (As := [.long (Int32.toInt64 a0), .long 1, .long 1000000000]) (rest := []) ⟨hx, hb, hml, hown, hts⟩ (mtX0_isIn l (Int32.toInt64 a0) 1 1000000000 K x1 hx1) (va_cwS 3 hts (lw_S q188 q189 q84 q190) rfl rfl rfl (by decide +kernel) ⟨Nat.le_of_ble_eq_true rfl, Nat.le_of_ble_eq_true rfl⟩) ⟨fun a U g mk q => q, fun U hU hW => ⟨rfl, trivial⟩⟩ rfl rfl hl.1 rfl (lv_room (Nat.le_of_ble_eq_true rfl)) dX0_units_6 ⟨hcM.1, hcM.2⟩) hS (fun q _ hq => hq.elim) (fun q hq => hq.elim) (fun r u t H1 locs ht hvm hw hB hz hk hS => dz_size (fun hz9 => ?_))
  replace hw := hw.symm; subst hw
  replace hH := zH_keep hH hcs hz hk hz9
  clear hB hk hz hvm ht hz9; generalize H1 = H at hH hS ⊢
  refine W.widen (k := cells) (n := slots) (Nat.le_refl _) (Nat.le_refl _) ?_
  refine lv_if_eq (tgt := 21) hx hb dX0_units_9 (by decide) (fun c9 => ?_) (fun c9 => ?_)
  · have hf := dz_t c9 hf
    refine lv_iconst (v := (-1)) hx hb dX0_units_21 (by decide) ?_
    obtain ⟨hM1, hS1⟩ : cells = M ∧ slots = S := by have hq := congrArg Prod.snd (Option.some.inj hf); rw [← hq] at hM hS0; have hM : s.heap.size + M = τ.1 := hM; have hS0 : sl0 + S = τ.2.1 := hS0; omega
    refine W.widen (k := M) (n := S) (Nat.le_of_eq hM1) (Nat.le_of_eq hS1) ?_
    exact W.iret (v := (-1)) hx hb hr (fun t ht hW => ⟨⟨(-1), τ, rfl, Option.some.inj hf, z_at ht hH⟩, hS.F ht⟩) hS.2.2 dX0_units_22
  · have hf := dz_f c9 hf
    refine lv_iload_n hx hb dX0_units_12 rfl (lv_at hl 1 rfl) ?_
    refine lv_i2l hx hb dX0_units_13 (rfl : _ = Int32.toInt64 a0) ?_
    obtain ⟨x2, s3, hx2, hle, hck, hf⟩ := zcl_o hf
    have hc1 : cells + (s3.1 - τ.1) ≤ M := by omega
    have hs1 : slots + (s3.2.1 - τ.2.1) ≤ S := by omega
    refine va_calll (va_runS (As := [.long (Int32.toInt64 a0)]) (rest := []) ⟨hx, hb, hml, hown, hts⟩ (mtX0_unitsOf l D cA ζ τ (Int32.toInt64 a0) K (x2, s3) hx2 (s3.1 - τ.1) (s3.2.1 - τ.2.1) (Nat.add_sub_cancel' hle.1) (Nat.add_sub_cancel' hle.2)) (va_cwS 1 hts (lw_S q1641 q1642 q84 q1643) rfl rfl rfl (by decide +kernel) ⟨Nat.le_of_ble_eq_true rfl, Nat.le_of_ble_eq_true rfl⟩) (z_preS hX hS hH) rfl rfl hl.1 rfl (lv_room (Nat.le_of_ble_eq_true rfl)) dX0_units_14 ⟨hc1, hs1⟩) hS (fun q _ hq => hq) (fun q hq => hq) (fun r u t H1 locs ht hvm hw hB hz hk hS => ?_)
    obtain ⟨hw1, hw2⟩ := Prod.mk.inj hw.symm; subst hw1; subst hw2
    have hH : zH D cA ζ s3 H1 := z_at ht.symm hB
    have hcs : s.heap.size + (cells + (s3.1 - τ.1)) = s3.1 := by omega
    have hss : sl0 + (slots + (s3.2.1 - τ.2.1)) = s3.2.1 := by omega
    replace hcM := And.intro hc1 hs1
    generalize cells + (s3.1 - τ.1) = cells at hcs hcM ⊢; generalize slots + (s3.2.1 - τ.2.1) = slots at hss hcM ⊢
    clear hB hk hz hvm ht hle hck hc1 hs1; generalize H1 = H at hH hS ⊢
    refine lv_l2i hx hb dX0_units_17 (rfl : _ = Int64.toInt32 x2) ?_
    refine lv_goto (tgt := 22) hx hb dX0_units_18 (by decide) ?_
    refine lv_topi (fun x4 e_x4 => ?_)
    have hf := dz_ls e_x4 hf
    obtain ⟨hM1, hS1⟩ : cells = M ∧ slots = S := by have hq := congrArg Prod.snd (Option.some.inj hf); rw [← hq] at hM hS0; have hM : s.heap.size + M = s3.1 := hM; have hS0 : sl0 + S = s3.2.1 := hS0; omega
    refine W.widen (k := M) (n := S) (Nat.le_of_eq hM1) (Nat.le_of_eq hS1) ?_
    exact W.iret (v := x4) hx hb hr (fun t ht hW => ⟨⟨x4, s3, rfl, Option.some.inj hf, z_at ht hH⟩, hS.F ht⟩) hS.2.2 dX0_units_22

noncomputable def fnJ5_max_2 (K : Nat) (a0 : Int64) (a1 : Int64) : Option Int64 := if a0 < a1 then (some a1) else (some a0)
set_option maxHeartbeats 4000000 in
set_option maxRecDepth 100000 in
theorem mtJ5_max_2 (l : Launch) (a0 : Int64) (a1 : Int64) (K : Nat) (res : Int64) (hf : fnJ5_max_2 K a0 a1 = some res) : Met l yJ5_max_2 (ws_ yJ5_max_2 cJ5_max_2 4 (some .long)) ({ frames := 0, cells := 0, slots := 0, locals := 0 }) (dz_P [.long a0, .long a1]) (dz_Ql res) 0 0 (fun _ => False) := by
  refine dz_ofW (cc := cJ5_max_2) (maxL := 4) (ret := some .long) (by decide +kernel) rfl ?_
  intro p e s m args below meth c s₁ B hml hv
  obtain ⟨rfl, -⟩ := hv
  have hx := B.exec
  have hb := B.bytes
  have hr := B.returns
  have hts := atoms_spec (ws := ws_ yJ5_max_2 cJ5_max_2 4 (some .long)) B.pre
  have hts : ∀ w ∈ lw_all, w.before _ s = true := fun w h => hts w (List.mem_cons_of_mem _ h)
  have hown : s.vm.findClass RJ5 = some m.cls := findClass_of_methodNamed B.named
  have hlocks := B.notSynchronized
  have hS : va_S (fun _ => False) s.heap s.heap [] := va_S.rf
  generalize hHe : s.heap = H at hS ⊢
  have hS : va_S (fun _ => False) s.heap H [] := by rw [hHe]; exact hS
  generalize ([] : List Loc) = locs at hS ⊢
  have hl := lv_entry ([.long a0, .long a1]) (n := 4) (Nat.le_of_ble_eq_true rfl)
  rw [lg_entry_eq]
  generalize (lg_sl ([.long a0, .long a1]) ++ List.replicate (4 - (lg_sl ([.long a0, .long a1])).length) Slot.unset).toArray = ls at hl ⊢
  have hl : lv_has ls 4 [(0, .long a0), (2, .long a1)] := hl
  have hf : (if a0 < a1 then (some a1) else (some a0) : Option Int64) = some res := hf
  refine lv_lload_n hx hb dJ5_max_2_0 rfl (lv_at hl 0 rfl) ?_
  refine lv_lload_n hx hb dJ5_max_2_1 rfl (lv_at hl 1 rfl) ?_
  refine W.lcmp hx hb dJ5_max_2_2 ?_
  refine lv_if_lt (tgt := 10) hx hb dJ5_max_2_3 (by decide) (fun c3 => ?_) (fun c3 => ?_)
  · have c3 : a0 < a1 := (lg_cmp_lt _ _).mp c3
    have hf := dz_t c3 hf
    refine lv_lload_n hx hb dJ5_max_2_10 rfl (lv_at hl 1 rfl) ?_
    exact W.lret (v := a1) hx hb hr (fun t ht hW => ⟨⟨a1, (), rfl, Option.some.inj hf, trivial⟩, hS.F ht⟩) hS.2.2 dJ5_max_2_11
  · have c3 : ¬ a0 < a1 := fun hq => c3 ((lg_cmp_lt _ _).mpr hq)
    have hf := dz_f c3 hf
    refine lv_lload_n hx hb dJ5_max_2_6 rfl (lv_at hl 0 rfl) ?_
    refine lv_goto (tgt := 11) hx hb dJ5_max_2_7 (by decide) ?_
    exact W.lret (v := a0) hx hb hr (fun t ht hW => ⟨⟨a0, (), rfl, Option.some.inj hf, trivial⟩, hS.F ht⟩) hS.2.2 dJ5_max_2_11

noncomputable def lfX0_count (K : Nat) (ζ : pZ) : Nat → (Int32 → Nat → pH → Option (Int32 × pH)) × (Nat → Int64 → Int32 → pH → Option (Int32 × pH)) × (Nat → Int64 → Int32 → pH → Option (Int32 × pH)) × (Nat → Int32 → Int32 → pH → Option (Int32 × pH)) × (Nat → Int32 → Int32 → pH → Option (Int32 × pH)) := Nat.rec (motive := fun _ => (Int32 → Nat → pH → Option (Int32 × pH)) × (Nat → Int64 → Int32 → pH → Option (Int32 × pH)) × (Nat → Int64 → Int32 → pH → Option (Int32 × pH)) × (Nat → Int32 → Int32 → pH → Option (Int32 × pH)) × (Nat → Int32 → Int32 → pH → Option (Int32 × pH))) ((fun _ _ _ => none), (fun _ _ _ _ => none), (fun _ _ _ _ => none), (fun _ _ _ _ => none), (fun _ _ _ _ => none)) (fun _ G => ((fun v2 v3 τ => dz_b (zob ζ τ v3 15) fun f3 => zcl τ (fnJ15_hasNext K ζ v3 τ) fun x1 s2 => if x1 = (0 : Int32) then (some (v2, s2)) else (dz_b (zob ζ s2 v3 15) fun f6 => zcl s2 (fnJ15_next K ζ v3 s2) fun x4 s5 => dz_c (zoL ζ s5 x4) fun cf7 f7 => dz_c (zoL ζ s5 x4) fun cf8 f8 => dz_b (zvr (f8[4]?)) fun x9 => dz_b (zob ζ s5 x9 10) fun f10 => dz_b (zvi (f10[1]?)) fun x11 => dz_c (zoL ζ s5 x4) fun cf12 f12 => dz_b (zvr (f12[5]?)) fun x13 => dz_b (zob ζ s5 x13 10) fun f14 => dz_b (zvi (f14[1]?)) fun x15 => dz_l (v2 + (x11 + x15)) fun x16 => G.1 x16 v3 s5)), (fun v0 v2 v4 τ => dz_b (zob ζ τ v0 0) fun f1 => dz_b (zvr (f1[0]?)) fun x2 => dz_b (zob ζ τ x2 14) fun f5 => zcl τ (fnJ2_size K ζ x2 τ) fun x3 s4 => if x3 ≤ v4 then (dz_l (Int64.toInt32 v2) fun x6 => some (x6, s4)) else (dz_b (zob ζ s4 v0 0) fun f9 => zcl s4 (fnX0_isRight K ζ v0 v4 s4) fun x7 s8 => if x7 = (0 : Int32) then (G.2.2.1 v0 v2 v4 s8) else (dz_b (zob ζ s8 v0 0) fun f10 => dz_b (zvr (f10[0]?)) fun x11 => dz_b (zob ζ s8 x11 14) fun f14 => zcl s8 (fnJ2_get K ζ x11 v4 s8) fun x12 s13 => dz_c (zoL ζ s13 x12) fun cf15 f15 => dz_c (zoL ζ s13 x12) fun cf16 f16 => dz_b (zvl (f16[0]?)) fun x17 => dz_b (fnJ5_max_2 K v2 x17) fun x18 => G.2.2.1 v0 x18 v4 s13))), (fun v0 v2 v4 τ => dz_l (v4 + 1) fun x1 => G.2.1 v0 v2 x1 τ), (fun v0 v2 v3 τ => dz_b (zob ζ τ v0 0) fun f1 => dz_b (zvr (f1[0]?)) fun x2 => dz_b (zob ζ τ x2 14) fun f5 => zcl τ (fnJ2_size K ζ x2 τ) fun x3 s4 => if x3 ≤ v3 then (some (v2, s4)) else (dz_b (zob ζ s4 v0 0) fun f6 => dz_b (zvr (f6[6]?)) fun x7 => dz_c (zai ζ s4 x7 0) fun n8 f9 => if ¬ (v3 < 0 ∨ n8 ≤ Int32.toNatClampNeg v3) then (dz_l (f9 (Int32.toNatClampNeg v3)) fun x11 => dz_b (fnJ5_max K v2 x11) fun x12 => dz_l (v3 + 1) fun x13 => G.2.2.2.1 v0 x12 x13 s4) else none)), (fun v0 v2 v3 τ => dz_b (zob ζ τ v0 0) fun f1 => dz_b (zvr (f1[0]?)) fun x2 => dz_b (zob ζ τ x2 14) fun f5 => zcl τ (fnJ2_size K ζ x2 τ) fun x3 s4 => if x3 ≤ v3 then (some (v2, s4)) else (dz_b (zob ζ s4 v0 0) fun f8 => zcl s4 (fnX0_cost K ζ v0 v3 s4) fun x6 s7 => dz_b (fnJ5_max K 0 x6) fun x9 => dz_l (v2 + x9) fun x10 => dz_l (v3 + 1) fun x11 => G.2.2.2.2 v0 x10 x11 s7))))
noncomputable def fnX0_count (K : Nat) (ζ : pZ) (h : Nat) (a0 : Int32) (τ : pH) : Option (Int32 × pH) := if a0 = (0 : Int32) then (dz_b (zob ζ τ h 0) fun f1 => dz_b (zvr (f1[0]?)) fun x2 => dz_b (zob ζ τ x2 14) fun f5 => zcl τ (fnJ2_size K ζ x2 τ) fun x3 s4 => some (x3, s4)) else (if a0 = (1 : Int32) then (dz_b (zob ζ τ h 0) fun f8 => zcl τ (fnX0_right K ζ h τ) fun x6 s7 => dz_b (fnJ16_bitCount K x6) fun x9 => some (x9, s7)) else (if a0 = (2 : Int32) then (dz_b (zob ζ τ h 0) fun f10 => dz_b (zvr (f10[0]?)) fun x11 => dz_b (zob ζ τ x11 14) fun f14 => zcl τ (fnJ2_iterator K ζ x11 τ) fun x12 s13 => (lfX0_count K ζ K).1 0 x12 s13) else (if a0 = (3 : Int32) then (dz_b (zob ζ τ h 0) fun f15 => dz_b (zvi (f15[4]?)) fun x16 => some (x16, τ)) else (if a0 = (4 : Int32) then ((lfX0_count K ζ K).2.1 h 0 0 τ) else (if a0 = (5 : Int32) then (dz_b (zob ζ τ h 0) fun f17 => dz_b (zvr (f17[0]?)) fun x18 => dz_b (zob ζ τ x18 14) fun f21 => zcl τ (fnJ2_size K ζ x18 τ) fun x19 s20 => dz_b (zob ζ s20 h 0) fun f24 => zcl s20 (fnX0_laysRests K ζ h (x19 - 1) s20) fun _ s23 => (lfX0_count K ζ K).2.2.2.1 h 0 0 s23) else (if a0 = (6 : Int32) then ((lfX0_count K ζ K).2.2.2.2 h 0 0 τ) else (some ((-1), τ))))))))
set_option maxHeartbeats 4000000 in
set_option maxRecDepth 100000 in
theorem wlX0_count {p : Program} {l : Launch} {e : Env} {s : State} {m : MethodId} {below : List Frame} {meth : Method} {c : Code} {D : va_G} {cA : Nat → ClassId} {ζ : pZ} (hX : zX D cA ζ s) (K : Nat) (res : (Int32 × pH)) (M S sl0 : Nat) (hM : s.heap.size + M = res.2.1) (hS0 : sl0 + S = res.2.2.1) (h : Nat) (a0 : Int32) (hx : p.tables.exec = Jvm.exec) (hb : c.code = cX0_count) (hr : meth.sig.returnType = some .int) (hlocks : meth.locks = false) (hml : c.maxLocals = 5) (hown : s.vm.findClass RX0 = some m.cls) (hts : ∀ w ∈ lw_all, w.before ([.ref h, .int a0] : List Value).toArray s = true) : ∀ k : Nat, (∀ (v2 : Int32) (v3 : Nat) (τ : pH) (H : Heap) (locs : List Loc) (cells slots : Nat), zH D cA ζ τ H → va_S (zA ζ) s.heap H locs → s.heap.size + cells = τ.1 → sl0 + slots = τ.2.1 → cells ≤ M ∧ slots ≤ S → ∀ (ls : Array Slot), lv_has ls 5 [(2, .int v2), (3, .ref v3)] → (lfX0_count K ζ k).1 v2 v3 τ = some res → W p l e (headSpec (ws_ yX0_count cX0_count 5 (some .int)) ({ frames := 107, cells := M, slots := S, locals := 2466 })).room s m ([.ref h, .int a0] : List Value).toArray below meth c H locs cells slots (MQ below (zQi D cA ζ res) ([.ref h, .int a0] : List Value).toArray s M S (zA ζ)) (F0 m 70 ls [])) ∧ (∀ (v0 : Nat) (v2 : Int64) (v4 : Int32) (τ : pH) (H : Heap) (locs : List Loc) (cells slots : Nat), zH D cA ζ τ H → va_S (zA ζ) s.heap H locs → s.heap.size + cells = τ.1 → sl0 + slots = τ.2.1 → cells ≤ M ∧ slots ≤ S → ∀ (ls : Array Slot), lv_has ls 5 [(0, .ref v0), (2, .long v2), (4, .int v4)] → (lfX0_count K ζ k).2.1 v0 v2 v4 τ = some res → W p l e (headSpec (ws_ yX0_count cX0_count 5 (some .int)) ({ frames := 107, cells := M, slots := S, locals := 2466 })).room s m ([.ref h, .int a0] : List Value).toArray below meth c H locs cells slots (MQ below (zQi D cA ζ res) ([.ref h, .int a0] : List Value).toArray s M S (zA ζ)) (F0 m 125 ls [])) ∧ (∀ (v0 : Nat) (v2 : Int64) (v4 : Int32) (τ : pH) (H : Heap) (locs : List Loc) (cells slots : Nat), zH D cA ζ τ H → va_S (zA ζ) s.heap H locs → s.heap.size + cells = τ.1 → sl0 + slots = τ.2.1 → cells ≤ M ∧ slots ≤ S → ∀ (ls : Array Slot), lv_has ls 5 [(0, .ref v0), (2, .long v2), (4, .int v4)] → (lfX0_count K ζ k).2.2.1 v0 v2 v4 τ = some res → W p l e (headSpec (ws_ yX0_count cX0_count 5 (some .int)) ({ frames := 107, cells := M, slots := S, locals := 2466 })).room s m ([.ref h, .int a0] : List Value).toArray below meth c H locs cells slots (MQ below (zQi D cA ζ res) ([.ref h, .int a0] : List Value).toArray s M S (zA ζ)) (F0 m 166 ls [])) ∧ (∀ (v0 : Nat) (v2 : Int32) (v3 : Int32) (τ : pH) (H : Heap) (locs : List Loc) (cells slots : Nat), zH D cA ζ τ H → va_S (zA ζ) s.heap H locs → s.heap.size + cells = τ.1 → sl0 + slots = τ.2.1 → cells ≤ M ∧ slots ≤ S → ∀ (ls : Array Slot), lv_has ls 5 [(0, .ref v0), (2, .int v2), (3, .int v3)] → (lfX0_count K ζ k).2.2.2.1 v0 v2 v3 τ = some res → W p l e (headSpec (ws_ yX0_count cX0_count 5 (some .int)) ({ frames := 107, cells := M, slots := S, locals := 2466 })).room s m ([.ref h, .int a0] : List Value).toArray below meth c H locs cells slots (MQ below (zQi D cA ζ res) ([.ref h, .int a0] : List Value).toArray s M S (zA ζ)) (F0 m 192 ls [])) ∧ (∀ (v0 : Nat) (v2 : Int32) (v3 : Int32) (τ : pH) (H : Heap) (locs : List Loc) (cells slots : Nat), zH D cA ζ τ H → va_S (zA ζ) s.heap H locs → s.heap.size + cells = τ.1 → sl0 + slots = τ.2.1 → cells ≤ M ∧ slots ≤ S → ∀ (ls : Array Slot), lv_has ls 5 [(0, .ref v0), (2, .int v2), (3, .int v3)] → (lfX0_count K ζ k).2.2.2.2 v0 v2 v3 τ = some res → W p l e (headSpec (ws_ yX0_count cX0_count 5 (some .int)) ({ frames := 107, cells := M, slots := S, locals := 2466 })).room s m ([.ref h, .int a0] : List Value).toArray below meth c H locs cells slots (MQ below (zQi D cA ζ res) ([.ref h, .int a0] : List Value).toArray s M S (zA ζ)) (F0 m 226 ls [])) := by
  intro k
  induction k with
  | zero =>
    exact ⟨fun _ _ _ _ _ _ _ _ _ _ _ _ _ _ hf => (by cases hf), fun _ _ _ _ _ _ _ _ _ _ _ _ _ _ _ hf => (by cases hf), fun _ _ _ _ _ _ _ _ _ _ _ _ _ _ _ hf => (by cases hf), fun _ _ _ _ _ _ _ _ _ _ _ _ _ _ _ hf => (by cases hf), fun _ _ _ _ _ _ _ _ _ _ _ _ _ _ _ hf => (by cases hf)⟩
  | succ k ih =>
    refine ⟨?_, ?_, ?_, ?_, ?_⟩
    · intro v2 v3 τ H locs cells slots hH hS hcs hss hcM ls hl hf
      have hf : (dz_b (zob ζ τ v3 15) fun f3 => zcl τ (fnJ15_hasNext K ζ v3 τ) fun x1 s2 => if x1 = (0 : Int32) then (some (v2, s2)) else (dz_b (zob ζ s2 v3 15) fun f6 => zcl s2 (fnJ15_next K ζ v3 s2) fun x4 s5 => dz_c (zoL ζ s5 x4) fun cf7 f7 => dz_c (zoL ζ s5 x4) fun cf8 f8 => dz_b (zvr (f8[4]?)) fun x9 => dz_b (zob ζ s5 x9 10) fun f10 => dz_b (zvi (f10[1]?)) fun x11 => dz_c (zoL ζ s5 x4) fun cf12 f12 => dz_b (zvr (f12[5]?)) fun x13 => dz_b (zob ζ s5 x13 10) fun f14 => dz_b (zvi (f14[1]?)) fun x15 => dz_l (v2 + (x11 + x15)) fun x16 => (lfX0_count K ζ k).1 x16 v3 s5) : Option (Int32 × pH)) = some res := hf
      refine lv_aload_n hx hb dX0_count_70 rfl (lv_at hl 1 rfl) ?_
      obtain ⟨f3, hf3, hf⟩ := dz_bo hf
      obtain ⟨x1, s2, hx1, hle, hck, hf⟩ := zcl_o hf
      have hc1 : cells + (s2.1 - τ.1) ≤ M := by omega
      have hs1 : slots + (s2.2.1 - τ.2.1) ≤ S := by omega
      refine va_callFi (va_runF (hX.K.1 15 _ rfl).2 (As := []) (rest := []) ⟨hx, hb, hml, hown, hts⟩ (mtJ15_hasNext l D cA ζ τ v3 K (x1, s2) hx1 (s2.1 - τ.1) (s2.2.1 - τ.2.1) (Nat.add_sub_cancel' hle.1) (Nat.add_sub_cancel' hle.2)) (va_cwF 0 hts (zF_in q782 q273 q275 q116 q277) rfl rfl rfl (hX.F 2 rfl) (by decide +kernel) ⟨Nat.le_of_ble_eq_true rfl, Nat.le_of_ble_eq_true rfl⟩) (z_preV hX hS hH (zob_o hf3) rfl) rfl rfl hl.1 rfl (lv_room (Nat.le_of_ble_eq_true rfl)) dX0_count_71 ⟨hc1, hs1⟩) hS (fun q _ hq => hq) (fun q hq => hq) (fun r u t H1 locs ht hvm hw hB hz hk hS => ?_)
      obtain ⟨hw1, hw2⟩ := Prod.mk.inj hw.symm; subst hw1; subst hw2
      have hH : zH D cA ζ s2 H1 := z_at ht.symm hB
      have hcs : s.heap.size + (cells + (s2.1 - τ.1)) = s2.1 := by omega
      have hss : sl0 + (slots + (s2.2.1 - τ.2.1)) = s2.2.1 := by omega
      replace hcM := And.intro hc1 hs1
      generalize cells + (s2.1 - τ.1) = cells at hcs hcM ⊢; generalize slots + (s2.2.1 - τ.2.1) = slots at hss hcM ⊢
      clear hB hk hz hvm ht hle hck hc1 hs1; generalize H1 = H at hH hS ⊢
      refine lv_if_eq (tgt := 113) hx hb dX0_count_76 (by decide) (fun c76 => ?_) (fun c76 => ?_)
      · have hf := dz_t c76 hf
        refine lv_iload_n hx hb dX0_count_113 rfl (lv_at hl 0 rfl) ?_
        obtain ⟨hM1, hS1⟩ : cells = M ∧ slots = S := by have hq := congrArg Prod.snd (Option.some.inj hf); rw [← hq] at hM hS0; have hM : s.heap.size + M = s2.1 := hM; have hS0 : sl0 + S = s2.2.1 := hS0; omega
        refine W.widen (k := M) (n := S) (Nat.le_of_eq hM1) (Nat.le_of_eq hS1) ?_
        exact W.iret (v := v2) hx hb hr (fun t ht hW => ⟨⟨v2, s2, rfl, Option.some.inj hf, z_at ht hH⟩, hS.F ht⟩) hS.2.2 dX0_count_114
      · have hf := dz_f c76 hf
        refine lv_aload_n hx hb dX0_count_79 rfl (lv_at hl 1 rfl) ?_
        obtain ⟨f6, hf6, hf⟩ := dz_bo hf
        obtain ⟨x4, s5, hx4, hle, hck, hf⟩ := zcl_o hf
        have hc1 : cells + (s5.1 - s2.1) ≤ M := by omega
        have hs1 : slots + (s5.2.1 - s2.2.1) ≤ S := by omega
        refine va_callFr (va_runF (hX.K.1 15 _ rfl).2 (As := []) (rest := []) ⟨hx, hb, hml, hown, hts⟩ (mtJ15_next l D cA ζ s2 v3 K (x4, s5) hx4 (s5.1 - s2.1) (s5.2.1 - s2.2.1) (Nat.add_sub_cancel' hle.1) (Nat.add_sub_cancel' hle.2)) (va_cwF 0 hts (zF_in q784 q291 q293 q116 q295) rfl rfl rfl (hX.F 3 rfl) (by decide +kernel) ⟨Nat.le_of_ble_eq_true rfl, Nat.le_of_ble_eq_true rfl⟩) (z_preV hX hS hH (zob_o hf6) rfl) rfl rfl hl.1 rfl (lv_room (Nat.le_of_ble_eq_true rfl)) dX0_count_80 ⟨hc1, hs1⟩) hS (fun q _ hq => hq) (fun q hq => hq) (fun u r t H1 locs ht hvm hw hB hz hk hS => ?_)
        obtain ⟨hw, hB⟩ := hB
        obtain ⟨hw1, hw2⟩ := Prod.mk.inj hw.symm; subst hw1; subst hw2
        have hH : zH D cA ζ s5 H1 := z_at ht.symm hB
        have hcs : s.heap.size + (cells + (s5.1 - s2.1)) = s5.1 := by omega
        have hss : sl0 + (slots + (s5.2.1 - s2.2.1)) = s5.2.1 := by omega
        replace hcM := And.intro hc1 hs1
        generalize cells + (s5.1 - s2.1) = cells at hcs hcM ⊢; generalize slots + (s5.2.1 - s2.2.1) = slots at hss hcM ⊢
        clear hB hk hz hvm ht hle hck hc1 hs1; generalize H1 = H at hH hS ⊢
        obtain ⟨cf7, f7, hcf7, hf⟩ := dz_co hf
        obtain ⟨hr_f7, hc_f7⟩ := zoL_o hcf7
        refine zL_cast hx hb hown (hts _ q218) hX hS hH hr_f7 hc_f7 dX0_count_85 ?_
        refine lv_astore (lv' := [(4, .ref x4), (2, .int v2), (3, .ref v3)]) hx hb dX0_count_88 hl (by decide) rfl (fun ls hl => ?_)
        refine lv_iload_n hx hb dX0_count_90 rfl (lv_at hl 1 rfl) ?_
        refine lv_aload hx hb dX0_count_91 (lv_at hl 0 rfl) ?_
        obtain ⟨cf8, f8, hcf8, hf⟩ := dz_co hf
        obtain ⟨x9, hx9, hf⟩ := dz_bo hf
        obtain ⟨hr_f8, hc_f8⟩ := zoL_o hcf8
        refine zL_get4 hx hb hts hown hX hS hH hr_f8 hc_f8 (hts _ q558) (zvr_o hx9) dX0_count_93 ?_
        obtain ⟨f10, hf10, hf⟩ := dz_bo hf
        obtain ⟨x11, hx11, hf⟩ := dz_bo hf
        refine va_getN (C := RX8) (T := TX8) (N := 2) hx hb hts in_X8 hown hX.K (zrd_P hX hS hH (zob_o hf10)) 0 rfl rfl 1 (by decide) ((hX.N q525 rfl).use rfl) (fun _ hq => hq) (zvi_o hx11) dX0_count_96 ?_
        refine lv_aload hx hb dX0_count_99 (lv_at hl 0 rfl) ?_
        obtain ⟨cf12, f12, hcf12, hf⟩ := dz_co hf
        obtain ⟨x13, hx13, hf⟩ := dz_bo hf
        obtain ⟨hr_f12, hc_f12⟩ := zoL_o hcf12
        refine zL_get5 hx hb hts hown hX hS hH hr_f12 hc_f12 (hts _ q565) (zvr_o hx13) dX0_count_101 ?_
        obtain ⟨f14, hf14, hf⟩ := dz_bo hf
        obtain ⟨x15, hx15, hf⟩ := dz_bo hf
        refine va_getN (C := RX8) (T := TX8) (N := 2) hx hb hts in_X8 hown hX.K (zrd_P hX hS hH (zob_o hf14)) 0 rfl rfl 1 (by decide) ((hX.N q525 rfl).use rfl) (fun _ hq => hq) (zvi_o hx15) dX0_count_104 ?_
        refine lv_iadd hx hb dX0_count_107 ?_
        refine lv_iadd hx hb dX0_count_108 ?_
        refine lv_topi (fun x16 e_x16 => ?_)
        have hf := dz_ls e_x16 hf
        refine lv_istore_n (lv' := [(2, .int x16), (4, .ref x4), (3, .ref v3)]) hx hb dX0_count_109 rfl hl (by decide) rfl (fun ls hl => ?_)
        refine lv_goto (tgt := 70) hx hb dX0_count_110 (by decide) ?_
        exact ih.1 x16 v3 s5 H locs cells slots hH hS hcs hss hcM ls (lv_sub hl [0, 2] rfl) hf
    · intro v0 v2 v4 τ H locs cells slots hH hS hcs hss hcM ls hl hf
      have hf : (dz_b (zob ζ τ v0 0) fun f1 => dz_b (zvr (f1[0]?)) fun x2 => dz_b (zob ζ τ x2 14) fun f5 => zcl τ (fnJ2_size K ζ x2 τ) fun x3 s4 => if x3 ≤ v4 then (dz_l (Int64.toInt32 v2) fun x6 => some (x6, s4)) else (dz_b (zob ζ s4 v0 0) fun f9 => zcl s4 (fnX0_isRight K ζ v0 v4 s4) fun x7 s8 => if x7 = (0 : Int32) then ((lfX0_count K ζ k).2.2.1 v0 v2 v4 s8) else (dz_b (zob ζ s8 v0 0) fun f10 => dz_b (zvr (f10[0]?)) fun x11 => dz_b (zob ζ s8 x11 14) fun f14 => zcl s8 (fnJ2_get K ζ x11 v4 s8) fun x12 s13 => dz_c (zoL ζ s13 x12) fun cf15 f15 => dz_c (zoL ζ s13 x12) fun cf16 f16 => dz_b (zvl (f16[0]?)) fun x17 => dz_b (fnJ5_max_2 K v2 x17) fun x18 => (lfX0_count K ζ k).2.2.1 v0 x18 v4 s13)) : Option (Int32 × pH)) = some res := hf
      refine lv_iload hx hb dX0_count_125 (lv_at hl 2 rfl) ?_
      refine lv_aload_n hx hb dX0_count_127 rfl (lv_at hl 0 rfl) ?_
      obtain ⟨f1, hf1, hf⟩ := dz_bo hf
      obtain ⟨x2, hx2, hf⟩ := dz_bo hf
      refine va_get (C := RX0) (T := TX0) (N := 7) hx hb hts in_X0 hown hX.K (zrd_P hX hS hH (zob_o hf1)) 0 rfl rfl 0 (by decide) (hts _ q156) (fun _ hq => hq) (zvr_o hx2) dX0_count_128 ?_
      obtain ⟨f5, hf5, hf⟩ := dz_bo hf
      obtain ⟨x3, s4, hx3, hle, hck, hf⟩ := zcl_o hf
      have hc1 : cells + (s4.1 - τ.1) ≤ M := by omega
      have hs1 : slots + (s4.2.1 - τ.2.1) ≤ S := by omega
      refine va_calli (va_runV (As := []) (rest := [.int v4]) ⟨hx, hb, hml, hown, hts⟩ (mtJ2_size l D cA ζ τ x2 K (x3, s4) hx3 (s4.1 - τ.1) (s4.2.1 - τ.2.1) (Nat.add_sub_cancel' hle.1) (Nat.add_sub_cancel' hle.2)) (cwV 0 hts (lw_V q200 q201 q202 q87 q203) rfl rfl rfl (by decide +kernel) ⟨Nat.le_of_ble_eq_true rfl, Nat.le_of_ble_eq_true rfl⟩) (z_preV hX hS hH (zob_o hf5) rfl) rfl rfl hl.1 rfl (lv_room (Nat.le_of_ble_eq_true rfl)) dX0_count_131 ⟨hc1, hs1⟩) hS (fun q _ hq => hq) (fun q hq => hq) (fun r u t H1 locs ht hvm hw hB hz hk hS => ?_)
      obtain ⟨hw1, hw2⟩ := Prod.mk.inj hw.symm; subst hw1; subst hw2
      have hH : zH D cA ζ s4 H1 := z_at ht.symm hB
      have hcs : s.heap.size + (cells + (s4.1 - τ.1)) = s4.1 := by omega
      have hss : sl0 + (slots + (s4.2.1 - τ.2.1)) = s4.2.1 := by omega
      replace hcM := And.intro hc1 hs1
      generalize cells + (s4.1 - τ.1) = cells at hcs hcM ⊢; generalize slots + (s4.2.1 - τ.2.1) = slots at hss hcM ⊢
      clear hB hk hz hvm ht hle hck hc1 hs1; generalize H1 = H at hH hS ⊢
      refine lv_icmp_ge (tgt := 172) hx hb dX0_count_134 (by decide) (fun c134 => ?_) (fun c134 => ?_)
      · have hf := dz_t c134 hf
        refine lv_lload_n hx hb dX0_count_172 rfl (lv_at hl 1 rfl) ?_
        refine lv_l2i hx hb dX0_count_173 (rfl : _ = Int64.toInt32 v2) ?_
        refine lv_topi (fun x6 e_x6 => ?_)
        have hf := dz_ls e_x6 hf
        obtain ⟨hM1, hS1⟩ : cells = M ∧ slots = S := by have hq := congrArg Prod.snd (Option.some.inj hf); rw [← hq] at hM hS0; have hM : s.heap.size + M = s4.1 := hM; have hS0 : sl0 + S = s4.2.1 := hS0; omega
        refine W.widen (k := M) (n := S) (Nat.le_of_eq hM1) (Nat.le_of_eq hS1) ?_
        exact W.iret (v := x6) hx hb hr (fun t ht hW => ⟨⟨x6, s4, rfl, Option.some.inj hf, z_at ht hH⟩, hS.F ht⟩) hS.2.2 dX0_count_174
      · have hf := dz_f c134 hf
        refine lv_aload_n hx hb dX0_count_137 rfl (lv_at hl 0 rfl) ?_
        refine lv_iload hx hb dX0_count_138 (lv_at hl 2 rfl) ?_
        obtain ⟨f9, hf9, hf⟩ := dz_bo hf
        obtain ⟨x7, s8, hx7, hle, hck, hf⟩ := zcl_o hf
        have hc1 : cells + (s8.1 - s4.1) ≤ M := by omega
        have hs1 : slots + (s8.2.1 - s4.2.1) ≤ S := by omega
        refine va_calli (va_runV (As := [.int v4]) (rest := []) ⟨hx, hb, hml, hown, hts⟩ (mtX0_isRight l D cA ζ s4 v0 v4 K (x7, s8) hx7 (s8.1 - s4.1) (s8.2.1 - s4.2.1) (Nat.add_sub_cancel' hle.1) (Nat.add_sub_cancel' hle.2)) (cwV 1 hts (lw_V q219 q221 qs1 q84 q222) rfl rfl rfl (by decide +kernel) ⟨Nat.le_of_ble_eq_true rfl, Nat.le_of_ble_eq_true rfl⟩) (z_preV hX hS hH (zob_o hf9) rfl) rfl rfl hl.1 rfl (lv_room (Nat.le_of_ble_eq_true rfl)) dX0_count_140 ⟨hc1, hs1⟩) hS (fun q _ hq => hq) (fun q hq => hq) (fun r u t H1 locs ht hvm hw hB hz hk hS => ?_)
        obtain ⟨hw1, hw2⟩ := Prod.mk.inj hw.symm; subst hw1; subst hw2
        have hH : zH D cA ζ s8 H1 := z_at ht.symm hB
        have hcs : s.heap.size + (cells + (s8.1 - s4.1)) = s8.1 := by omega
        have hss : sl0 + (slots + (s8.2.1 - s4.2.1)) = s8.2.1 := by omega
        replace hcM := And.intro hc1 hs1
        generalize cells + (s8.1 - s4.1) = cells at hcs hcM ⊢; generalize slots + (s8.2.1 - s4.2.1) = slots at hss hcM ⊢
        clear hB hk hz hvm ht hle hck hc1 hs1; generalize H1 = H at hH hS ⊢
        refine lv_if_eq (tgt := 166) hx hb dX0_count_143 (by decide) (fun c143 => ?_) (fun c143 => ?_)
        · have hf := dz_t c143 hf
          exact ih.2.2.1 v0 v2 v4 s8 H locs cells slots hH hS hcs hss hcM ls (lv_sub hl [0, 1, 2] rfl) hf
        · have hf := dz_f c143 hf
          refine lv_lload_n hx hb dX0_count_146 rfl (lv_at hl 1 rfl) ?_
          refine lv_aload_n hx hb dX0_count_147 rfl (lv_at hl 0 rfl) ?_
          obtain ⟨f10, hf10, hf⟩ := dz_bo hf
          obtain ⟨x11, hx11, hf⟩ := dz_bo hf
          refine va_get (C := RX0) (T := TX0) (N := 7) hx hb hts in_X0 hown hX.K (zrd_P hX hS hH (zob_o hf10)) 0 rfl rfl 0 (by decide) (hts _ q156) (fun _ hq => hq) (zvr_o hx11) dX0_count_148 ?_
          refine lv_iload hx hb dX0_count_151 (lv_at hl 2 rfl) ?_
          obtain ⟨f14, hf14, hf⟩ := dz_bo hf
          obtain ⟨x12, s13, hx12, hle, hck, hf⟩ := zcl_o hf
          have hc1 : cells + (s13.1 - s8.1) ≤ M := by omega
          have hs1 : slots + (s13.2.1 - s8.2.1) ≤ S := by omega
          refine va_callr (va_runV (As := [.int v4]) (rest := [.long v2]) ⟨hx, hb, hml, hown, hts⟩ (mtJ2_get l D cA ζ s8 x11 v4 K (x12, s13) hx12 (s13.1 - s8.1) (s13.2.1 - s8.2.1) (Nat.add_sub_cancel' hle.1) (Nat.add_sub_cancel' hle.2)) (cwV 1 hts (lw_V q204 q205 q206 q87 q207) rfl rfl rfl (by decide +kernel) ⟨Nat.le_of_ble_eq_true rfl, Nat.le_of_ble_eq_true rfl⟩) (z_preV hX hS hH (zob_o hf14) rfl) rfl rfl hl.1 rfl (lv_room (Nat.le_of_ble_eq_true rfl)) dX0_count_153 ⟨hc1, hs1⟩) hS (fun q _ hq => hq) (fun q hq => hq) (fun u r t H1 locs ht hvm hw hB hz hk hS => ?_)
          obtain ⟨hw, hB⟩ := hB
          obtain ⟨hw1, hw2⟩ := Prod.mk.inj hw.symm; subst hw1; subst hw2
          have hH : zH D cA ζ s13 H1 := z_at ht.symm hB
          have hcs : s.heap.size + (cells + (s13.1 - s8.1)) = s13.1 := by omega
          have hss : sl0 + (slots + (s13.2.1 - s8.2.1)) = s13.2.1 := by omega
          replace hcM := And.intro hc1 hs1
          generalize cells + (s13.1 - s8.1) = cells at hcs hcM ⊢; generalize slots + (s13.2.1 - s8.2.1) = slots at hss hcM ⊢
          clear hB hk hz hvm ht hle hck hc1 hs1; generalize H1 = H at hH hS ⊢
          obtain ⟨cf15, f15, hcf15, hf⟩ := dz_co hf
          obtain ⟨hr_f15, hc_f15⟩ := zoL_o hcf15
          refine zL_cast hx hb hown (hts _ q218) hX hS hH hr_f15 hc_f15 dX0_count_156 ?_
          obtain ⟨cf16, f16, hcf16, hf⟩ := dz_co hf
          obtain ⟨x17, hx17, hf⟩ := dz_bo hf
          obtain ⟨hr_f16, hc_f16⟩ := zoL_o hcf16
          refine zL_get0 hx hb hts hown hX hS hH hr_f16 hc_f16 (hts _ q541) (zvl_o hx17) dX0_count_159 ?_
          obtain ⟨x18, hx18, hf⟩ := dz_bo hf
          refine va_calll (va_runS (As := [.long v2, .long x17]) (rest := []) ⟨hx, hb, hml, hown, hts⟩ (mtJ5_max_2 l v2 x17 K x18 hx18) (va_cwS 2 hts (lw_S q1662 q1663 q92 q1664) rfl rfl rfl (by decide +kernel) ⟨Nat.le_of_ble_eq_true rfl, Nat.le_of_ble_eq_true rfl⟩) ⟨fun a U g mk q => q, fun U hU hW => ⟨rfl, trivial⟩⟩ rfl rfl hl.1 rfl (lv_room (Nat.le_of_ble_eq_true rfl)) dX0_count_162 ⟨hcM.1, hcM.2⟩) hS (fun q _ hq => hq.elim) (fun q hq => hq.elim) (fun r u t H1 locs ht hvm hw hB hz hk hS => dz_size (fun hz9 => ?_))
          replace hw := hw.symm; subst hw
          replace hH := zH_keep hH hcs hz hk hz9
          clear hB hk hz hvm ht hz9; generalize H1 = H at hH hS ⊢
          refine W.widen (k := cells) (n := slots) (Nat.le_refl _) (Nat.le_refl _) ?_
          refine lv_lstore_n (lv' := [(2, .long x18), (0, .ref v0), (4, .int v4)]) hx hb dX0_count_165 rfl hl (by decide) rfl (fun ls hl => ?_)
          exact ih.2.2.1 v0 x18 v4 s13 H locs cells slots hH hS hcs hss hcM ls (lv_sub hl [1, 0, 2] rfl) hf
    · intro v0 v2 v4 τ H locs cells slots hH hS hcs hss hcM ls hl hf
      have hf : (dz_l (v4 + 1) fun x1 => (lfX0_count K ζ k).2.1 v0 v2 x1 τ : Option (Int32 × pH)) = some res := hf
      obtain ⟨x1, e_x1, hf⟩ := dz_lo hf
      refine lv_iinc (v := x1) (lv' := [(4, .int x1), (0, .ref v0), (2, .long v2)]) hx hb dX0_count_166 hl (k := 2) rfl (by rw [e_x1]; rfl) (by decide) rfl (fun ls hl => ?_)
      refine lv_goto (tgt := 125) hx hb dX0_count_169 (by decide) ?_
      exact ih.2.1 v0 v2 x1 τ H locs cells slots hH hS hcs hss hcM ls (lv_sub hl [1, 2, 0] rfl) hf
    · intro v0 v2 v3 τ H locs cells slots hH hS hcs hss hcM ls hl hf
      have hf : (dz_b (zob ζ τ v0 0) fun f1 => dz_b (zvr (f1[0]?)) fun x2 => dz_b (zob ζ τ x2 14) fun f5 => zcl τ (fnJ2_size K ζ x2 τ) fun x3 s4 => if x3 ≤ v3 then (some (v2, s4)) else (dz_b (zob ζ s4 v0 0) fun f6 => dz_b (zvr (f6[6]?)) fun x7 => dz_c (zai ζ s4 x7 0) fun n8 f9 => if ¬ (v3 < 0 ∨ n8 ≤ Int32.toNatClampNeg v3) then (dz_l (f9 (Int32.toNatClampNeg v3)) fun x11 => dz_b (fnJ5_max K v2 x11) fun x12 => dz_l (v3 + 1) fun x13 => (lfX0_count K ζ k).2.2.2.1 v0 x12 x13 s4) else none) : Option (Int32 × pH)) = some res := hf
      refine lv_iload_n hx hb dX0_count_192 rfl (lv_at hl 2 rfl) ?_
      refine lv_aload_n hx hb dX0_count_193 rfl (lv_at hl 0 rfl) ?_
      obtain ⟨f1, hf1, hf⟩ := dz_bo hf
      obtain ⟨x2, hx2, hf⟩ := dz_bo hf
      refine va_get (C := RX0) (T := TX0) (N := 7) hx hb hts in_X0 hown hX.K (zrd_P hX hS hH (zob_o hf1)) 0 rfl rfl 0 (by decide) (hts _ q156) (fun _ hq => hq) (zvr_o hx2) dX0_count_194 ?_
      obtain ⟨f5, hf5, hf⟩ := dz_bo hf
      obtain ⟨x3, s4, hx3, hle, hck, hf⟩ := zcl_o hf
      have hc1 : cells + (s4.1 - τ.1) ≤ M := by omega
      have hs1 : slots + (s4.2.1 - τ.2.1) ≤ S := by omega
      refine va_calli (va_runV (As := []) (rest := [.int v3]) ⟨hx, hb, hml, hown, hts⟩ (mtJ2_size l D cA ζ τ x2 K (x3, s4) hx3 (s4.1 - τ.1) (s4.2.1 - τ.2.1) (Nat.add_sub_cancel' hle.1) (Nat.add_sub_cancel' hle.2)) (cwV 0 hts (lw_V q200 q201 q202 q87 q203) rfl rfl rfl (by decide +kernel) ⟨Nat.le_of_ble_eq_true rfl, Nat.le_of_ble_eq_true rfl⟩) (z_preV hX hS hH (zob_o hf5) rfl) rfl rfl hl.1 rfl (lv_room (Nat.le_of_ble_eq_true rfl)) dX0_count_197 ⟨hc1, hs1⟩) hS (fun q _ hq => hq) (fun q hq => hq) (fun r u t H1 locs ht hvm hw hB hz hk hS => ?_)
      obtain ⟨hw1, hw2⟩ := Prod.mk.inj hw.symm; subst hw1; subst hw2
      have hH : zH D cA ζ s4 H1 := z_at ht.symm hB
      have hcs : s.heap.size + (cells + (s4.1 - τ.1)) = s4.1 := by omega
      have hss : sl0 + (slots + (s4.2.1 - τ.2.1)) = s4.2.1 := by omega
      replace hcM := And.intro hc1 hs1
      generalize cells + (s4.1 - τ.1) = cells at hcs hcM ⊢; generalize slots + (s4.2.1 - τ.2.1) = slots at hss hcM ⊢
      clear hB hk hz hvm ht hle hck hc1 hs1; generalize H1 = H at hH hS ⊢
      refine lv_icmp_ge (tgt := 220) hx hb dX0_count_200 (by decide) (fun c200 => ?_) (fun c200 => ?_)
      · have hf := dz_t c200 hf
        refine lv_iload_n hx hb dX0_count_220 rfl (lv_at hl 1 rfl) ?_
        obtain ⟨hM1, hS1⟩ : cells = M ∧ slots = S := by have hq := congrArg Prod.snd (Option.some.inj hf); rw [← hq] at hM hS0; have hM : s.heap.size + M = s4.1 := hM; have hS0 : sl0 + S = s4.2.1 := hS0; omega
        refine W.widen (k := M) (n := S) (Nat.le_of_eq hM1) (Nat.le_of_eq hS1) ?_
        exact W.iret (v := v2) hx hb hr (fun t ht hW => ⟨⟨v2, s4, rfl, Option.some.inj hf, z_at ht hH⟩, hS.F ht⟩) hS.2.2 dX0_count_221
      · have hf := dz_f c200 hf
        refine lv_iload_n hx hb dX0_count_203 rfl (lv_at hl 1 rfl) ?_
        refine lv_aload_n hx hb dX0_count_204 rfl (lv_at hl 0 rfl) ?_
        obtain ⟨f6, hf6, hf⟩ := dz_bo hf
        obtain ⟨x7, hx7, hf⟩ := dz_bo hf
        refine va_get (C := RX0) (T := TX0) (N := 7) hx hb hts in_X0 hown hX.K (zrd_P hX hS hH (zob_o hf6)) 0 rfl rfl 6 (by decide) (hts _ q164) (fun _ hq => hq) (zvr_o hx7) dX0_count_205 ?_
        refine lv_iload_n hx hb dX0_count_208 rfl (lv_at hl 2 rfl) ?_
        obtain ⟨n8, f9, hn8, hf⟩ := dz_co hf
        obtain ⟨g10, hf⟩ := dz_go hf
        refine va_iald hx hb hX.K (zrd_P hX hS hH (zai_o hn8)) 0 0 rfl rfl g10 dX0_count_209 ?_
        refine lv_topi (fun x11 e_x11 => ?_)
        have hf := dz_ls e_x11 hf
        obtain ⟨x12, hx12, hf⟩ := dz_bo hf
        refine va_calli (va_runS (As := [.int v2, .int x11]) (rest := []) ⟨hx, hb, hml, hown, hts⟩ (mtJ5_max l v2 x11 K x12 hx12) (va_cwS 2 hts (lw_S q1409 q814 q92 q815) rfl rfl rfl (by decide +kernel) ⟨Nat.le_of_ble_eq_true rfl, Nat.le_of_ble_eq_true rfl⟩) ⟨fun a U g mk q => q, fun U hU hW => ⟨rfl, trivial⟩⟩ rfl rfl hl.1 rfl (lv_room (Nat.le_of_ble_eq_true rfl)) dX0_count_210 ⟨hcM.1, hcM.2⟩) hS (fun q _ hq => hq.elim) (fun q hq => hq.elim) (fun r u t H1 locs ht hvm hw hB hz hk hS => dz_size (fun hz9 => ?_))
        replace hw := hw.symm; subst hw
        replace hH := zH_keep hH hcs hz hk hz9
        clear hB hk hz hvm ht hz9; generalize H1 = H at hH hS ⊢
        refine W.widen (k := cells) (n := slots) (Nat.le_refl _) (Nat.le_refl _) ?_
        refine lv_istore_n (lv' := [(2, .int x12), (0, .ref v0), (3, .int v3)]) hx hb dX0_count_213 rfl hl (by decide) rfl (fun ls hl => ?_)
        obtain ⟨x13, e_x13, hf⟩ := dz_lo hf
        refine lv_iinc (v := x13) (lv' := [(3, .int x13), (2, .int x12), (0, .ref v0)]) hx hb dX0_count_214 hl (k := 2) rfl (by rw [e_x13]; rfl) (by decide) rfl (fun ls hl => ?_)
        refine lv_goto (tgt := 192) hx hb dX0_count_217 (by decide) ?_
        exact ih.2.2.2.1 v0 x12 x13 s4 H locs cells slots hH hS hcs hss hcM ls (lv_sub hl [2, 1, 0] rfl) hf
    · intro v0 v2 v3 τ H locs cells slots hH hS hcs hss hcM ls hl hf
      have hf : (dz_b (zob ζ τ v0 0) fun f1 => dz_b (zvr (f1[0]?)) fun x2 => dz_b (zob ζ τ x2 14) fun f5 => zcl τ (fnJ2_size K ζ x2 τ) fun x3 s4 => if x3 ≤ v3 then (some (v2, s4)) else (dz_b (zob ζ s4 v0 0) fun f8 => zcl s4 (fnX0_cost K ζ v0 v3 s4) fun x6 s7 => dz_b (fnJ5_max K 0 x6) fun x9 => dz_l (v2 + x9) fun x10 => dz_l (v3 + 1) fun x11 => (lfX0_count K ζ k).2.2.2.2 v0 x10 x11 s7) : Option (Int32 × pH)) = some res := hf
      refine lv_iload_n hx hb dX0_count_226 rfl (lv_at hl 2 rfl) ?_
      refine lv_aload_n hx hb dX0_count_227 rfl (lv_at hl 0 rfl) ?_
      obtain ⟨f1, hf1, hf⟩ := dz_bo hf
      obtain ⟨x2, hx2, hf⟩ := dz_bo hf
      refine va_get (C := RX0) (T := TX0) (N := 7) hx hb hts in_X0 hown hX.K (zrd_P hX hS hH (zob_o hf1)) 0 rfl rfl 0 (by decide) (hts _ q156) (fun _ hq => hq) (zvr_o hx2) dX0_count_228 ?_
      obtain ⟨f5, hf5, hf⟩ := dz_bo hf
      obtain ⟨x3, s4, hx3, hle, hck, hf⟩ := zcl_o hf
      have hc1 : cells + (s4.1 - τ.1) ≤ M := by omega
      have hs1 : slots + (s4.2.1 - τ.2.1) ≤ S := by omega
      refine va_calli (va_runV (As := []) (rest := [.int v3]) ⟨hx, hb, hml, hown, hts⟩ (mtJ2_size l D cA ζ τ x2 K (x3, s4) hx3 (s4.1 - τ.1) (s4.2.1 - τ.2.1) (Nat.add_sub_cancel' hle.1) (Nat.add_sub_cancel' hle.2)) (cwV 0 hts (lw_V q200 q201 q202 q87 q203) rfl rfl rfl (by decide +kernel) ⟨Nat.le_of_ble_eq_true rfl, Nat.le_of_ble_eq_true rfl⟩) (z_preV hX hS hH (zob_o hf5) rfl) rfl rfl hl.1 rfl (lv_room (Nat.le_of_ble_eq_true rfl)) dX0_count_231 ⟨hc1, hs1⟩) hS (fun q _ hq => hq) (fun q hq => hq) (fun r u t H1 locs ht hvm hw hB hz hk hS => ?_)
      obtain ⟨hw1, hw2⟩ := Prod.mk.inj hw.symm; subst hw1; subst hw2
      have hH : zH D cA ζ s4 H1 := z_at ht.symm hB
      have hcs : s.heap.size + (cells + (s4.1 - τ.1)) = s4.1 := by omega
      have hss : sl0 + (slots + (s4.2.1 - τ.2.1)) = s4.2.1 := by omega
      replace hcM := And.intro hc1 hs1
      generalize cells + (s4.1 - τ.1) = cells at hcs hcM ⊢; generalize slots + (s4.2.1 - τ.2.1) = slots at hss hcM ⊢
      clear hB hk hz hvm ht hle hck hc1 hs1; generalize H1 = H at hH hS ⊢
      refine lv_icmp_ge (tgt := 255) hx hb dX0_count_234 (by decide) (fun c234 => ?_) (fun c234 => ?_)
      · have hf := dz_t c234 hf
        refine lv_iload_n hx hb dX0_count_255 rfl (lv_at hl 1 rfl) ?_
        obtain ⟨hM1, hS1⟩ : cells = M ∧ slots = S := by have hq := congrArg Prod.snd (Option.some.inj hf); rw [← hq] at hM hS0; have hM : s.heap.size + M = s4.1 := hM; have hS0 : sl0 + S = s4.2.1 := hS0; omega
        refine W.widen (k := M) (n := S) (Nat.le_of_eq hM1) (Nat.le_of_eq hS1) ?_
        exact W.iret (v := v2) hx hb hr (fun t ht hW => ⟨⟨v2, s4, rfl, Option.some.inj hf, z_at ht hH⟩, hS.F ht⟩) hS.2.2 dX0_count_256
      · have hf := dz_f c234 hf
        refine lv_iload_n hx hb dX0_count_237 rfl (lv_at hl 1 rfl) ?_
        refine lv_iconst (v := 0) hx hb dX0_count_238 (by decide) ?_
        refine lv_aload_n hx hb dX0_count_239 rfl (lv_at hl 0 rfl) ?_
        refine lv_iload_n hx hb dX0_count_240 rfl (lv_at hl 2 rfl) ?_
        obtain ⟨f8, hf8, hf⟩ := dz_bo hf
        obtain ⟨x6, s7, hx6, hle, hck, hf⟩ := zcl_o hf
        have hc1 : cells + (s7.1 - s4.1) ≤ M := by omega
        have hs1 : slots + (s7.2.1 - s4.2.1) ≤ S := by omega
        refine va_calli (va_runV (As := [.int v3]) (rest := [.int 0, .int v2]) ⟨hx, hb, hml, hown, hts⟩ (mtX0_cost l D cA ζ s4 v0 v3 K (x6, s7) hx6 (s7.1 - s4.1) (s7.2.1 - s4.2.1) (Nat.add_sub_cancel' hle.1) (Nat.add_sub_cancel' hle.2)) (cwV 1 hts (lw_V q1665 q1454 q1455 q84 q1456) rfl rfl rfl (by decide +kernel) ⟨Nat.le_of_ble_eq_true rfl, Nat.le_of_ble_eq_true rfl⟩) (z_preV hX hS hH (zob_o hf8) rfl) rfl rfl hl.1 rfl (lv_room (Nat.le_of_ble_eq_true rfl)) dX0_count_241 ⟨hc1, hs1⟩) hS (fun q _ hq => hq) (fun q hq => hq) (fun r u t H1 locs ht hvm hw hB hz hk hS => ?_)
        obtain ⟨hw1, hw2⟩ := Prod.mk.inj hw.symm; subst hw1; subst hw2
        have hH : zH D cA ζ s7 H1 := z_at ht.symm hB
        have hcs : s.heap.size + (cells + (s7.1 - s4.1)) = s7.1 := by omega
        have hss : sl0 + (slots + (s7.2.1 - s4.2.1)) = s7.2.1 := by omega
        replace hcM := And.intro hc1 hs1
        generalize cells + (s7.1 - s4.1) = cells at hcs hcM ⊢; generalize slots + (s7.2.1 - s4.2.1) = slots at hss hcM ⊢
        clear hB hk hz hvm ht hle hck hc1 hs1; generalize H1 = H at hH hS ⊢
        obtain ⟨x9, hx9, hf⟩ := dz_bo hf
        refine va_calli (va_runS (As := [.int 0, .int x6]) (rest := [.int v2]) ⟨hx, hb, hml, hown, hts⟩ (mtJ5_max l 0 x6 K x9 hx9) (va_cwS 2 hts (lw_S q1409 q814 q92 q815) rfl rfl rfl (by decide +kernel) ⟨Nat.le_of_ble_eq_true rfl, Nat.le_of_ble_eq_true rfl⟩) ⟨fun a U g mk q => q, fun U hU hW => ⟨rfl, trivial⟩⟩ rfl rfl hl.1 rfl (lv_room (Nat.le_of_ble_eq_true rfl)) dX0_count_244 ⟨hcM.1, hcM.2⟩) hS (fun q _ hq => hq.elim) (fun q hq => hq.elim) (fun r u t H1 locs ht hvm hw hB hz hk hS => dz_size (fun hz9 => ?_))
        replace hw := hw.symm; subst hw
        replace hH := zH_keep hH hcs hz hk hz9
        clear hB hk hz hvm ht hz9; generalize H1 = H at hH hS ⊢
        refine W.widen (k := cells) (n := slots) (Nat.le_refl _) (Nat.le_refl _) ?_
        refine lv_iadd hx hb dX0_count_247 ?_
        refine lv_topi (fun x10 e_x10 => ?_)
        have hf := dz_ls e_x10 hf
        refine lv_istore_n (lv' := [(2, .int x10), (0, .ref v0), (3, .int v3)]) hx hb dX0_count_248 rfl hl (by decide) rfl (fun ls hl => ?_)
        obtain ⟨x11, e_x11, hf⟩ := dz_lo hf
        refine lv_iinc (v := x11) (lv' := [(3, .int x11), (2, .int x10), (0, .ref v0)]) hx hb dX0_count_249 hl (k := 2) rfl (by rw [e_x11]; rfl) (by decide) rfl (fun ls hl => ?_)
        refine lv_goto (tgt := 226) hx hb dX0_count_252 (by decide) ?_
        exact ih.2.2.2.2 v0 x10 x11 s7 H locs cells slots hH hS hcs hss hcM ls (lv_sub hl [2, 1, 0] rfl) hf
set_option maxHeartbeats 4000000 in
set_option maxRecDepth 100000 in
theorem mtX0_count (l : Launch) (D : va_G) (cA : Nat → ClassId) (ζ : pZ) (τ : pH) (h : Nat) (a0 : Int32) (K : Nat) (res : (Int32 × pH)) (hf : fnX0_count K ζ h a0 τ = some res) (M S : Nat) (hM : τ.1 + M = res.2.1) (hS0 : τ.2.1 + S = res.2.2.1) : Met l yX0_count (ws_ yX0_count cX0_count 5 (some .int)) ({ frames := 107, cells := M, slots := S, locals := 2466 }) (zPc D cA ζ τ [.ref h, .int a0]) (zQi D cA ζ res) M S (zA ζ) := by
  refine Met.ofW (cc := cX0_count) (maxL := 5) (ret := some .int) (by decide +kernel) rfl ?_
  intro p e s m args below meth c s₁ B hml hv
  obtain ⟨rfl, hX, hH⟩ := hv
  have hx := B.exec
  have hb := B.bytes
  have hr := B.returns
  have hts := atoms_spec (ws := ws_ yX0_count cX0_count 5 (some .int)) B.pre
  have hts : ∀ w ∈ lw_all, w.before _ s = true := fun w h => hts w (List.mem_cons_of_mem _ h)
  have hown : s.vm.findClass RX0 = some m.cls := findClass_of_methodNamed B.named
  have hlocks := B.notSynchronized
  have hM : s.heap.size + M = res.2.1 := by rw [hH.1]; exact hM
  have hcs : s.heap.size + 0 = τ.1 := hH.1
  have hss : τ.2.1 + 0 = τ.2.1 := rfl
  generalize hsl0 : τ.2.1 = sl0 at hS0 hss
  have hss : sl0 + 0 = τ.2.1 := by rw [hsl0]; rfl
  have hS : va_S (zA ζ) s.heap s.heap [] := va_S.rf
  generalize hHe : s.heap = H at hH hS ⊢
  have hS : va_S (zA ζ) s.heap H [] := by rw [hHe]; exact hS
  generalize ([] : List Loc) = locs at hS ⊢
  have hl := lv_entry ([.ref h, .int a0]) (n := 5) (Nat.le_of_ble_eq_true rfl)
  rw [lg_entry_eq]
  generalize (lg_sl ([.ref h, .int a0]) ++ List.replicate (5 - (lg_sl ([.ref h, .int a0])).length) Slot.unset).toArray = ls at hl ⊢
  have hl : lv_has ls 5 [(0, .ref h), (1, .int a0)] := hl
  have hf : (if a0 = (0 : Int32) then (dz_b (zob ζ τ h 0) fun f1 => dz_b (zvr (f1[0]?)) fun x2 => dz_b (zob ζ τ x2 14) fun f5 => zcl τ (fnJ2_size K ζ x2 τ) fun x3 s4 => some (x3, s4)) else (if a0 = (1 : Int32) then (dz_b (zob ζ τ h 0) fun f8 => zcl τ (fnX0_right K ζ h τ) fun x6 s7 => dz_b (fnJ16_bitCount K x6) fun x9 => some (x9, s7)) else (if a0 = (2 : Int32) then (dz_b (zob ζ τ h 0) fun f10 => dz_b (zvr (f10[0]?)) fun x11 => dz_b (zob ζ τ x11 14) fun f14 => zcl τ (fnJ2_iterator K ζ x11 τ) fun x12 s13 => (lfX0_count K ζ K).1 0 x12 s13) else (if a0 = (3 : Int32) then (dz_b (zob ζ τ h 0) fun f15 => dz_b (zvi (f15[4]?)) fun x16 => some (x16, τ)) else (if a0 = (4 : Int32) then ((lfX0_count K ζ K).2.1 h 0 0 τ) else (if a0 = (5 : Int32) then (dz_b (zob ζ τ h 0) fun f17 => dz_b (zvr (f17[0]?)) fun x18 => dz_b (zob ζ τ x18 14) fun f21 => zcl τ (fnJ2_size K ζ x18 τ) fun x19 s20 => dz_b (zob ζ s20 h 0) fun f24 => zcl s20 (fnX0_laysRests K ζ h (x19 - 1) s20) fun _ s23 => (lfX0_count K ζ K).2.2.2.1 h 0 0 s23) else (if a0 = (6 : Int32) then ((lfX0_count K ζ K).2.2.2.2 h 0 0 τ) else (some ((-1), τ)))))))) : Option (Int32 × pH)) = some res := hf
  refine z_gen (fun cells slots hc0 hs0 => ?_)
  have hcs : s.heap.size + cells = τ.1 := by rw [hc0]; exact hcs
  have hss : sl0 + slots = τ.2.1 := by rw [hs0]; exact hss
  have hcM : cells ≤ M ∧ slots ≤ S := by rw [hc0, hs0]; exact ⟨Nat.zero_le _, Nat.zero_le _⟩
  clear hc0 hs0
  have ih := wlX0_count (l := l) (e := e) (below := below) (D := D) (cA := cA) hX K res M S sl0 hM hS0 h a0 hx hb hr hlocks hml hown hts K
  refine lv_iload_n hx hb dX0_count_0 rfl (lv_at hl 1 rfl) ?_
  refine dz_case hf (fun t1_0 hf => ?_) (fun t1_0 hf => ?_)
  · refine lv_tableIn (off := 43) (tgt := 44) hx hb dX0_count_1 (by rw [t1_0]; decide) (by rw [t1_0]; decide) (by rw [t1_0]; rfl) (by decide) ?_
    refine lv_aload_n hx hb dX0_count_44 rfl (lv_at hl 0 rfl) ?_
    obtain ⟨f1, hf1, hf⟩ := dz_bo hf
    obtain ⟨x2, hx2, hf⟩ := dz_bo hf
    refine va_get (C := RX0) (T := TX0) (N := 7) hx hb hts in_X0 hown hX.K (zrd_P hX hS hH (zob_o hf1)) 0 rfl rfl 0 (by decide) (hts _ q156) (fun _ hq => hq) (zvr_o hx2) dX0_count_45 ?_
    obtain ⟨f5, hf5, hf⟩ := dz_bo hf
    obtain ⟨x3, s4, hx3, hle, hck, hf⟩ := zcl_o hf
    have hc1 : cells + (s4.1 - τ.1) ≤ M := by omega
    have hs1 : slots + (s4.2.1 - τ.2.1) ≤ S := by omega
    refine va_calli (va_runV (As := []) (rest := []) ⟨hx, hb, hml, hown, hts⟩ (mtJ2_size l D cA ζ τ x2 K (x3, s4) hx3 (s4.1 - τ.1) (s4.2.1 - τ.2.1) (Nat.add_sub_cancel' hle.1) (Nat.add_sub_cancel' hle.2)) (cwV 0 hts (lw_V q200 q201 q202 q87 q203) rfl rfl rfl (by decide +kernel) ⟨Nat.le_of_ble_eq_true rfl, Nat.le_of_ble_eq_true rfl⟩) (z_preV hX hS hH (zob_o hf5) rfl) rfl rfl hl.1 rfl (lv_room (Nat.le_of_ble_eq_true rfl)) dX0_count_48 ⟨hc1, hs1⟩) hS (fun q _ hq => hq) (fun q hq => hq) (fun r u t H1 locs ht hvm hw hB hz hk hS => ?_)
    obtain ⟨hw1, hw2⟩ := Prod.mk.inj hw.symm; subst hw1; subst hw2
    have hH : zH D cA ζ s4 H1 := z_at ht.symm hB
    have hcs : s.heap.size + (cells + (s4.1 - τ.1)) = s4.1 := by omega
    have hss : sl0 + (slots + (s4.2.1 - τ.2.1)) = s4.2.1 := by omega
    replace hcM := And.intro hc1 hs1
    generalize cells + (s4.1 - τ.1) = cells at hcs hcM ⊢; generalize slots + (s4.2.1 - τ.2.1) = slots at hss hcM ⊢
    clear hB hk hz hvm ht hle hck hc1 hs1; generalize H1 = H at hH hS ⊢
    obtain ⟨hM1, hS1⟩ : cells = M ∧ slots = S := by have hq := congrArg Prod.snd (Option.some.inj hf); rw [← hq] at hM hS0; have hM : s.heap.size + M = s4.1 := hM; have hS0 : sl0 + S = s4.2.1 := hS0; omega
    refine W.widen (k := M) (n := S) (Nat.le_of_eq hM1) (Nat.le_of_eq hS1) ?_
    exact W.iret (v := x3) hx hb hr (fun t ht hW => ⟨⟨x3, s4, rfl, Option.some.inj hf, z_at ht hH⟩, hS.F ht⟩) hS.2.2 dX0_count_51
  · skip
    refine dz_case hf (fun t1_1 hf => ?_) (fun t1_1 hf => ?_)
    · refine lv_tableIn (off := 51) (tgt := 52) hx hb dX0_count_1 (by rw [t1_1]; decide) (by rw [t1_1]; decide) (by rw [t1_1]; rfl) (by decide) ?_
      refine lv_aload_n hx hb dX0_count_52 rfl (lv_at hl 0 rfl) ?_
      obtain ⟨f8, hf8, hf⟩ := dz_bo hf
      obtain ⟨x6, s7, hx6, hle, hck, hf⟩ := zcl_o hf
      have hc1 : cells + (s7.1 - τ.1) ≤ M := by omega
      have hs1 : slots + (s7.2.1 - τ.2.1) ≤ S := by omega
      refine va_calll (va_runV (As := []) (rest := []) ⟨hx, hb, hml, hown, hts⟩ (mtX0_right l D cA ζ τ h K (x6, s7) hx6 (s7.1 - τ.1) (s7.2.1 - τ.2.1) (Nat.add_sub_cancel' hle.1) (Nat.add_sub_cancel' hle.2)) (cwV 0 hts (lw_V q1448 q1431 q1432 q84 q1433) rfl rfl rfl (by decide +kernel) ⟨Nat.le_of_ble_eq_true rfl, Nat.le_of_ble_eq_true rfl⟩) (z_preV hX hS hH (zob_o hf8) rfl) rfl rfl hl.1 rfl (lv_room (Nat.le_of_ble_eq_true rfl)) dX0_count_53 ⟨hc1, hs1⟩) hS (fun q _ hq => hq) (fun q hq => hq) (fun r u t H1 locs ht hvm hw hB hz hk hS => ?_)
      obtain ⟨hw1, hw2⟩ := Prod.mk.inj hw.symm; subst hw1; subst hw2
      have hH : zH D cA ζ s7 H1 := z_at ht.symm hB
      have hcs : s.heap.size + (cells + (s7.1 - τ.1)) = s7.1 := by omega
      have hss : sl0 + (slots + (s7.2.1 - τ.2.1)) = s7.2.1 := by omega
      replace hcM := And.intro hc1 hs1
      generalize cells + (s7.1 - τ.1) = cells at hcs hcM ⊢; generalize slots + (s7.2.1 - τ.2.1) = slots at hss hcM ⊢
      clear hB hk hz hvm ht hle hck hc1 hs1; generalize H1 = H at hH hS ⊢
      obtain ⟨x9, hx9, hf⟩ := dz_bo hf
      refine va_calli (va_runS (As := [.long x6]) (rest := []) ⟨hx, hb, hml, hown, hts⟩ (mtJ16_bitCount l x6 K x9 hx9) (va_cwS 1 hts (lw_S q1467 q1468 q117 q1469) rfl rfl rfl (by decide +kernel) ⟨Nat.le_of_ble_eq_true rfl, Nat.le_of_ble_eq_true rfl⟩) ⟨fun a U g mk q => q, fun U hU hW => ⟨rfl, trivial⟩⟩ rfl rfl hl.1 rfl (lv_room (Nat.le_of_ble_eq_true rfl)) dX0_count_56 ⟨hcM.1, hcM.2⟩) hS (fun q _ hq => hq.elim) (fun q hq => hq.elim) (fun r u t H1 locs ht hvm hw hB hz hk hS => dz_size (fun hz9 => ?_))
      replace hw := hw.symm; subst hw
      replace hH := zH_keep hH hcs hz hk hz9
      clear hB hk hz hvm ht hz9; generalize H1 = H at hH hS ⊢
      refine W.widen (k := cells) (n := slots) (Nat.le_refl _) (Nat.le_refl _) ?_
      obtain ⟨hM1, hS1⟩ : cells = M ∧ slots = S := by have hq := congrArg Prod.snd (Option.some.inj hf); rw [← hq] at hM hS0; have hM : s.heap.size + M = s7.1 := hM; have hS0 : sl0 + S = s7.2.1 := hS0; omega
      refine W.widen (k := M) (n := S) (Nat.le_of_eq hM1) (Nat.le_of_eq hS1) ?_
      exact W.iret (v := x9) hx hb hr (fun t ht hW => ⟨⟨x9, s7, rfl, Option.some.inj hf, z_at ht hH⟩, hS.F ht⟩) hS.2.2 dX0_count_59
    · skip
      refine dz_case hf (fun t1_2 hf => ?_) (fun t1_2 hf => ?_)
      · refine lv_tableIn (off := 59) (tgt := 60) hx hb dX0_count_1 (by rw [t1_2]; decide) (by rw [t1_2]; decide) (by rw [t1_2]; rfl) (by decide) ?_
        refine lv_iconst (v := 0) hx hb dX0_count_60 (by decide) ?_
        refine lv_istore_n (lv' := [(2, .int 0), (0, .ref h), (1, .int a0)]) hx hb dX0_count_61 rfl hl (by decide) rfl (fun ls hl => ?_)
        refine lv_aload_n hx hb dX0_count_62 rfl (lv_at hl 1 rfl) ?_
        obtain ⟨f10, hf10, hf⟩ := dz_bo hf
        obtain ⟨x11, hx11, hf⟩ := dz_bo hf
        refine va_get (C := RX0) (T := TX0) (N := 7) hx hb hts in_X0 hown hX.K (zrd_P hX hS hH (zob_o hf10)) 0 rfl rfl 0 (by decide) (hts _ q156) (fun _ hq => hq) (zvr_o hx11) dX0_count_63 ?_
        obtain ⟨f14, hf14, hf⟩ := dz_bo hf
        obtain ⟨x12, s13, hx12, hle, hck, hf⟩ := zcl_o hf
        have hc1 : cells + (s13.1 - τ.1) ≤ M := by omega
        have hs1 : slots + (s13.2.1 - τ.2.1) ≤ S := by omega
        refine va_callr (va_runV (As := []) (rest := []) ⟨hx, hb, hml, hown, hts⟩ (mtJ2_iterator l D cA ζ τ x11 K (x12, s13) hx12 (s13.1 - τ.1) (s13.2.1 - τ.2.1) (Nat.add_sub_cancel' hle.1) (Nat.add_sub_cancel' hle.2)) (cwV 0 hts (lw_V q1322 q1323 q1324 q87 q1325) rfl rfl rfl (by decide +kernel) ⟨Nat.le_of_ble_eq_true rfl, Nat.le_of_ble_eq_true rfl⟩) (z_preV hX hS hH (zob_o hf14) rfl) rfl rfl hl.1 rfl (lv_room (Nat.le_of_ble_eq_true rfl)) dX0_count_66 ⟨hc1, hs1⟩) hS (fun q _ hq => hq) (fun q hq => hq) (fun u r t H1 locs ht hvm hw hB hz hk hS => ?_)
        obtain ⟨hw, hB⟩ := hB
        obtain ⟨hw1, hw2⟩ := Prod.mk.inj hw.symm; subst hw1; subst hw2
        have hH : zH D cA ζ s13 H1 := z_at ht.symm hB
        have hcs : s.heap.size + (cells + (s13.1 - τ.1)) = s13.1 := by omega
        have hss : sl0 + (slots + (s13.2.1 - τ.2.1)) = s13.2.1 := by omega
        replace hcM := And.intro hc1 hs1
        generalize cells + (s13.1 - τ.1) = cells at hcs hcM ⊢; generalize slots + (s13.2.1 - τ.2.1) = slots at hss hcM ⊢
        clear hB hk hz hvm ht hle hck hc1 hs1; generalize H1 = H at hH hS ⊢
        refine lv_astore_n (lv' := [(3, .ref x12), (2, .int 0), (0, .ref h), (1, .int a0)]) hx hb dX0_count_69 rfl hl (by decide) rfl (fun ls hl => ?_)
        exact ih.1 0 x12 s13 H locs cells slots hH hS hcs hss hcM ls (lv_sub hl [1, 0] rfl) hf
      · skip
        refine dz_case hf (fun t1_3 hf => ?_) (fun t1_3 hf => ?_)
        · refine lv_tableIn (off := 114) (tgt := 115) hx hb dX0_count_1 (by rw [t1_3]; decide) (by rw [t1_3]; decide) (by rw [t1_3]; rfl) (by decide) ?_
          refine lv_aload_n hx hb dX0_count_115 rfl (lv_at hl 0 rfl) ?_
          obtain ⟨f15, hf15, hf⟩ := dz_bo hf
          obtain ⟨x16, hx16, hf⟩ := dz_bo hf
          refine va_get (C := RX0) (T := TX0) (N := 7) hx hb hts in_X0 hown hX.K (zrd_P hX hS hH (zob_o hf15)) 0 rfl rfl 4 (by decide) (hts _ q162) (fun _ hq => hq) (zvi_o hx16) dX0_count_116 ?_
          obtain ⟨hM1, hS1⟩ : cells = M ∧ slots = S := by have hq := congrArg Prod.snd (Option.some.inj hf); rw [← hq] at hM hS0; have hM : s.heap.size + M = τ.1 := hM; have hS0 : sl0 + S = τ.2.1 := hS0; omega
          refine W.widen (k := M) (n := S) (Nat.le_of_eq hM1) (Nat.le_of_eq hS1) ?_
          exact W.iret (v := x16) hx hb hr (fun t ht hW => ⟨⟨x16, τ, rfl, Option.some.inj hf, z_at ht hH⟩, hS.F ht⟩) hS.2.2 dX0_count_119
        · skip
          refine dz_case hf (fun t1_4 hf => ?_) (fun t1_4 hf => ?_)
          · refine lv_tableIn (off := 119) (tgt := 120) hx hb dX0_count_1 (by rw [t1_4]; decide) (by rw [t1_4]; decide) (by rw [t1_4]; rfl) (by decide) ?_
            refine lv_lconst (v := 0) hx hb dX0_count_120 rfl ?_
            refine lv_lstore_n (lv' := [(2, .long 0), (0, .ref h), (1, .int a0)]) hx hb dX0_count_121 rfl hl (by decide) rfl (fun ls hl => ?_)
            refine lv_iconst (v := 0) hx hb dX0_count_122 (by decide) ?_
            refine lv_istore (lv' := [(4, .int 0), (2, .long 0), (0, .ref h), (1, .int a0)]) hx hb dX0_count_123 hl (by decide) rfl (fun ls hl => ?_)
            exact ih.2.1 h 0 0 τ H locs cells slots hH hS hcs hss hcM ls (lv_sub hl [2, 1, 0] rfl) hf
          · skip
            refine dz_case hf (fun t1_5 hf => ?_) (fun t1_5 hf => ?_)
            · refine lv_tableIn (off := 174) (tgt := 175) hx hb dX0_count_1 (by rw [t1_5]; decide) (by rw [t1_5]; decide) (by rw [t1_5]; rfl) (by decide) ?_
              refine lv_iconst (v := 0) hx hb dX0_count_175 (by decide) ?_
              refine lv_istore_n (lv' := [(2, .int 0), (0, .ref h), (1, .int a0)]) hx hb dX0_count_176 rfl hl (by decide) rfl (fun ls hl => ?_)
              refine lv_aload_n hx hb dX0_count_177 rfl (lv_at hl 1 rfl) ?_
              refine lv_aload_n hx hb dX0_count_178 rfl (lv_at hl 1 rfl) ?_
              obtain ⟨f17, hf17, hf⟩ := dz_bo hf
              obtain ⟨x18, hx18, hf⟩ := dz_bo hf
              refine va_get (C := RX0) (T := TX0) (N := 7) hx hb hts in_X0 hown hX.K (zrd_P hX hS hH (zob_o hf17)) 0 rfl rfl 0 (by decide) (hts _ q156) (fun _ hq => hq) (zvr_o hx18) dX0_count_179 ?_
              obtain ⟨f21, hf21, hf⟩ := dz_bo hf
              obtain ⟨x19, s20, hx19, hle, hck, hf⟩ := zcl_o hf
              have hc1 : cells + (s20.1 - τ.1) ≤ M := by omega
              have hs1 : slots + (s20.2.1 - τ.2.1) ≤ S := by omega
              refine va_calli (va_runV (As := []) (rest := [.ref h]) ⟨hx, hb, hml, hown, hts⟩ (mtJ2_size l D cA ζ τ x18 K (x19, s20) hx19 (s20.1 - τ.1) (s20.2.1 - τ.2.1) (Nat.add_sub_cancel' hle.1) (Nat.add_sub_cancel' hle.2)) (cwV 0 hts (lw_V q200 q201 q202 q87 q203) rfl rfl rfl (by decide +kernel) ⟨Nat.le_of_ble_eq_true rfl, Nat.le_of_ble_eq_true rfl⟩) (z_preV hX hS hH (zob_o hf21) rfl) rfl rfl hl.1 rfl (lv_room (Nat.le_of_ble_eq_true rfl)) dX0_count_182 ⟨hc1, hs1⟩) hS (fun q _ hq => hq) (fun q hq => hq) (fun r u t H1 locs ht hvm hw hB hz hk hS => ?_)
              obtain ⟨hw1, hw2⟩ := Prod.mk.inj hw.symm; subst hw1; subst hw2
              have hH : zH D cA ζ s20 H1 := z_at ht.symm hB
              have hcs : s.heap.size + (cells + (s20.1 - τ.1)) = s20.1 := by omega
              have hss : sl0 + (slots + (s20.2.1 - τ.2.1)) = s20.2.1 := by omega
              replace hcM := And.intro hc1 hs1
              generalize cells + (s20.1 - τ.1) = cells at hcs hcM ⊢; generalize slots + (s20.2.1 - τ.2.1) = slots at hss hcM ⊢
              clear hB hk hz hvm ht hle hck hc1 hs1; generalize H1 = H at hH hS ⊢
              refine lv_iconst (v := 1) hx hb dX0_count_185 (by decide) ?_
              refine lv_isub hx hb dX0_count_186 ?_
              obtain ⟨f24, hf24, hf⟩ := dz_bo hf
              obtain ⟨x22, s23, hx22, hle, hck, hf⟩ := zcl_o hf
              have hc1 : cells + (s23.1 - s20.1) ≤ M := by omega
              have hs1 : slots + (s23.2.1 - s20.2.1) ≤ S := by omega
              refine va_callv (va_runV (As := [.int (x19 - 1)]) (rest := []) ⟨hx, hb, hml, hown, hts⟩ (mtX0_laysRests l D cA ζ s20 h (x19 - 1) K (x22, s23) hx22 (s23.1 - s20.1) (s23.2.1 - s20.2.1) (Nat.add_sub_cancel' hle.1) (Nat.add_sub_cancel' hle.2)) (cwV 1 hts (lw_V q1401 q1403 qs32 q84 q1404) rfl rfl rfl (by decide +kernel) ⟨Nat.le_of_ble_eq_true rfl, Nat.le_of_ble_eq_true rfl⟩) (z_preV hX hS hH (zob_o hf24) rfl) rfl rfl hl.1 rfl (lv_room (Nat.le_of_ble_eq_true rfl)) dX0_count_187 ⟨hc1, hs1⟩) hS (fun q _ hq => hq) (fun q hq => hq) (fun u t H1 locs ht hvm hw hB hz hk hS => ?_)
              obtain ⟨-, hw2⟩ := Prod.mk.inj hw.symm; subst hw2
              have hH : zH D cA ζ s23 H1 := z_at ht.symm hB
              have hcs : s.heap.size + (cells + (s23.1 - s20.1)) = s23.1 := by omega
              have hss : sl0 + (slots + (s23.2.1 - s20.2.1)) = s23.2.1 := by omega
              replace hcM := And.intro hc1 hs1
              generalize cells + (s23.1 - s20.1) = cells at hcs hcM ⊢; generalize slots + (s23.2.1 - s20.2.1) = slots at hss hcM ⊢
              clear hB hk hz hvm ht hle hck hc1 hs1; generalize H1 = H at hH hS ⊢
              refine lv_iconst (v := 0) hx hb dX0_count_190 (by decide) ?_
              refine lv_istore_n (lv' := [(3, .int 0), (2, .int 0), (0, .ref h), (1, .int a0)]) hx hb dX0_count_191 rfl hl (by decide) rfl (fun ls hl => ?_)
              exact ih.2.2.2.1 h 0 0 s23 H locs cells slots hH hS hcs hss hcM ls (lv_sub hl [2, 1, 0] rfl) hf
            · skip
              refine dz_case hf (fun t1_6 hf => ?_) (fun t1_6 hf => ?_)
              · refine lv_tableIn (off := 221) (tgt := 222) hx hb dX0_count_1 (by rw [t1_6]; decide) (by rw [t1_6]; decide) (by rw [t1_6]; rfl) (by decide) ?_
                refine lv_iconst (v := 0) hx hb dX0_count_222 (by decide) ?_
                refine lv_istore_n (lv' := [(2, .int 0), (0, .ref h), (1, .int a0)]) hx hb dX0_count_223 rfl hl (by decide) rfl (fun ls hl => ?_)
                refine lv_iconst (v := 0) hx hb dX0_count_224 (by decide) ?_
                refine lv_istore_n (lv' := [(3, .int 0), (2, .int 0), (0, .ref h), (1, .int a0)]) hx hb dX0_count_225 rfl hl (by decide) rfl (fun ls hl => ?_)
                exact ih.2.2.2.2 h 0 0 τ H locs cells slots hH hS hcs hss hcM ls (lv_sub hl [2, 1, 0] rfl) hf
              · skip
                have u1_0 := dz_ne (z := 0) t1_0 (by decide)
                have u1_1 := dz_ne (z := 1) t1_1 (by decide)
                have u1_2 := dz_ne (z := 2) t1_2 (by decide)
                have u1_3 := dz_ne (z := 3) t1_3 (by decide)
                have u1_4 := dz_ne (z := 4) t1_4 (by decide)
                have u1_5 := dz_ne (z := 5) t1_5 (by decide)
                have u1_6 := dz_ne (z := 6) t1_6 (by decide)
                refine lv_tableOut (tgt := 257) hx hb dX0_count_1 (by omega) (by decide) ?_
                refine lv_iconst (v := (-1)) hx hb dX0_count_257 (by decide) ?_
                obtain ⟨hM1, hS1⟩ : cells = M ∧ slots = S := by have hq := congrArg Prod.snd (Option.some.inj hf); rw [← hq] at hM hS0; have hM : s.heap.size + M = τ.1 := hM; have hS0 : sl0 + S = τ.2.1 := hS0; omega
                refine W.widen (k := M) (n := S) (Nat.le_of_eq hM1) (Nat.le_of_eq hS1) ?_
                exact W.iret (v := (-1)) hx hb hr (fun t ht hW => ⟨⟨(-1), τ, rfl, Option.some.inj hf, z_at ht hH⟩, hS.F ht⟩) hS.2.2 dX0_count_258

