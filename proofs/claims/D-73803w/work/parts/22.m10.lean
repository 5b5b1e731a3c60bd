noncomputable def lfX1_doesPass (K : Nat) : Nat → (Int64 → Int64 → Int64 → Option Int32) × (Int64 → Int64 → Int64 → Option Int32) := Nat.rec (motive := fun _ => (Int64 → Int64 → Int64 → Option Int32) × (Int64 → Int64 → Int64 → Option Int32)) ((fun _ _ _ => none), (fun _ _ _ => none)) (fun _ G => ((fun v0 v2 v4 => dz_l (v4 - v4 / 2 * 2) fun x1 => if x1 = (0 : Int64) then (dz_l (v4 / 2) fun x3 => G.1 v0 v2 x3) else (dz_b (fnX1_powerOf K v2 v4 v0) fun x2 => if x2 = (1 : Int64) then (some 1) else (G.2 v0 v4 x2))), (fun v0 v4 v6 => if (v0 - 1) ≤ v4 then (some 0) else (if v6 = (v0 - 1) then (some 1) else (if ¬ v0 = 0 then (dz_l ((v6 * v6) - (v6 * v6) / v0 * v0) fun x2 => dz_l (v4 * 2) fun x3 => G.2 v0 x3 x2) else none)))))
noncomputable def fnX1_doesPass (K : Nat) (a0 : Int64) (a1 : Int64) : Option Int32 := dz_l (a0 - 1) fun x1 => (lfX1_doesPass K K).1 a0 a1 x1
set_option maxHeartbeats 4000000 in
set_option maxRecDepth 100000 in
theorem wlX1_doesPass {p : Program} {l : Launch} {e : Env} {s : State} {m : MethodId} {below : List Frame} {meth : Method} {c : Code}  (K : Nat) (res : Int32) (a0 : Int64) (a1 : Int64) (hx : p.tables.exec = Jvm.exec) (hb : c.code = cX1_doesPass) (hr : meth.sig.returnType = some .boolean) (hlocks : meth.locks = false) (hml : c.maxLocals = 8) (hown : s.vm.findClass RX1 = some m.cls) (hts : ∀ w ∈ lw_all, w.before ([.long a0, .long a1] : List Value).toArray s = true) : ∀ k : Nat, (∀ (v0 : Int64) (v2 : Int64) (v4 : Int64) (H : Heap) (locs : List Loc), va_S (fun _ => False) s.heap H locs → ∀ (ls : Array Slot), lv_has ls 8 [(0, .long v0), (2, .long v2), (4, .long v4)] → (lfX1_doesPass K k).1 v0 v2 v4 = some res → W p l e (headSpec (ws_ yX1_doesPass cX1_doesPass 8 (some .boolean)) ({ frames := 1, cells := 0, slots := 0, locals := 31 })).room s m ([.long a0, .long a1] : List Value).toArray below meth c H locs 0 0 (MQ below (dz_Qi res) ([.long a0, .long a1] : List Value).toArray s 0 0 (fun _ => False)) (F0 m 5 ls [])) ∧ (∀ (v0 : Int64) (v4 : Int64) (v6 : Int64) (H : Heap) (locs : List Loc), va_S (fun _ => False) s.heap H locs → ∀ (ls : Array Slot), lv_has ls 8 [(0, .long v0), (4, .long v4), (6, .long v6)] → (lfX1_doesPass K k).2 v0 v4 v6 = some res → W p l e (headSpec (ws_ yX1_doesPass cX1_doesPass 8 (some .boolean)) ({ frames := 1, cells := 0, slots := 0, locals := 31 })).room s m ([.long a0, .long a1] : List Value).toArray below meth c H locs 0 0 (MQ below (dz_Qi res) ([.long a0, .long a1] : List Value).toArray s 0 0 (fun _ => False)) (F0 m 45 ls [])) := by
  intro k
  induction k with
  | zero =>
    exact ⟨fun _ _ _ _ _ _ _ _ hf => (by cases hf), fun _ _ _ _ _ _ _ _ hf => (by cases hf)⟩
  | succ k ih =>
    refine ⟨?_, ?_⟩
    · intro v0 v2 v4 H locs hS ls hl hf
      have hf : (dz_l (v4 - v4 / 2 * 2) fun x1 => if x1 = (0 : Int64) then (dz_l (v4 / 2) fun x3 => (lfX1_doesPass K k).1 v0 v2 x3) else (dz_b (fnX1_powerOf K v2 v4 v0) fun x2 => if x2 = (1 : Int64) then (some 1) else ((lfX1_doesPass K k).2 v0 v4 x2)) : Option Int32) = some res := hf
      refine lv_lload hx hb dX1_doesPass_5 (lv_at hl 2 rfl) ?_
      refine lv_ldc2 (v := 2) hx hb hown (hts _ q1789) dX1_doesPass_7 ?_
      refine lv_lrem hx hb dX1_doesPass_10 (by decide) ?_
      refine lv_topl (fun x1 e_x1 => ?_)
      have hf := dz_ls e_x1 hf
      refine lv_lconst (v := 0) hx hb dX1_doesPass_11 rfl ?_
      refine W.lcmp hx hb dX1_doesPass_12 ?_
      refine lv_if_ne (tgt := 27) hx hb dX1_doesPass_13 (by decide) (fun c13 => ?_) (fun c13 => ?_)
      · have c13 : ¬ x1 = (0 : Int64) := fun hq => c13 ((lg_cmp_eq _ _).mpr hq)
        have hf := dz_f c13 hf
        refine lv_lload_n hx hb dX1_doesPass_27 rfl (lv_at hl 1 rfl) ?_
        refine lv_lload hx hb dX1_doesPass_28 (lv_at hl 2 rfl) ?_
        refine lv_lload_n hx hb dX1_doesPass_30 rfl (lv_at hl 0 rfl) ?_
        obtain ⟨x2, hx2, hf⟩ := dz_bo hf
        refine va_calll (va_runS (As := [.long v2, .long v4, .long v0]) (rest := []) ⟨hx, hb, hml, hown, hts⟩ (mtX1_powerOf l v2 v4 v0 K x2 hx2) (va_cwS 3 hts (lw_S q1844 q1845 q88 q1846) rfl rfl rfl (by decide +kernel) ⟨Nat.le_of_ble_eq_true rfl, Nat.le_of_ble_eq_true rfl⟩) ⟨fun a U g mk q => q, fun U hU hW => ⟨rfl, trivial⟩⟩ rfl rfl hl.1 rfl (lv_room (Nat.le_of_ble_eq_true rfl)) dX1_doesPass_31 ⟨Nat.le_refl _, Nat.le_refl _⟩) hS (fun q _ hq => hq.elim) (fun q hq => hq.elim) (fun r u t H1 locs ht hvm hw hB hz hk hS => ?_)
        replace hw := hw.symm; subst hw
        clear hB hk hz hvm ht; generalize H1 = H at hS ⊢
        refine lv_lstore (lv' := [(6, .long x2), (0, .long v0), (2, .long v2), (4, .long v4)]) hx hb dX1_doesPass_34 hl (by decide) rfl (fun ls hl => ?_)
        refine lv_lload hx hb dX1_doesPass_36 (lv_at hl 0 rfl) ?_
        refine lv_lconst (v := 1) hx hb dX1_doesPass_38 rfl ?_
        refine W.lcmp hx hb dX1_doesPass_39 ?_
        refine lv_if_ne (tgt := 45) hx hb dX1_doesPass_40 (by decide) (fun c40 => ?_) (fun c40 => ?_)
        · have c40 : ¬ x2 = (1 : Int64) := fun hq => c40 ((lg_cmp_eq _ _).mpr hq)
          have hf := dz_f c40 hf
          exact ih.2 v0 v4 x2 H locs hS ls (lv_sub hl [1, 3, 0] rfl) hf
        · have c40 : x2 = (1 : Int64) := (lg_cmp_eq _ _).mp c40
          have hf := dz_t c40 hf
          refine lv_iconst (v := 1) hx hb dX1_doesPass_43 (by decide) ?_
          exact W.zret (v := 1) hx hb hr rfl (fun t ht hW => ⟨⟨1, (), rfl, Option.some.inj hf, trivial⟩, hS.F ht⟩) hS.2.2 dX1_doesPass_44
      · have c13 : x1 = (0 : Int64) := (lg_cmp_eq _ _).mp c13
        have hf := dz_t c13 hf
        refine lv_lload hx hb dX1_doesPass_16 (lv_at hl 2 rfl) ?_
        refine lv_ldc2 (v := 2) hx hb hown (hts _ q1789) dX1_doesPass_18 ?_
        refine lv_ldiv hx hb dX1_doesPass_21 (by decide) ?_
        refine lv_topl (fun x3 e_x3 => ?_)
        have hf := dz_ls e_x3 hf
        refine lv_lstore (lv' := [(4, .long x3), (0, .long v0), (2, .long v2)]) hx hb dX1_doesPass_22 hl (by decide) rfl (fun ls hl => ?_)
        refine lv_goto (tgt := 5) hx hb dX1_doesPass_24 (by decide) ?_
        exact ih.1 v0 v2 x3 H locs hS ls (lv_sub hl [1, 2, 0] rfl) hf
    · intro v0 v4 v6 H locs hS ls hl hf
      have hf : (if (v0 - 1) ≤ v4 then (some 0) else (if v6 = (v0 - 1) then (some 1) else (if ¬ v0 = 0 then (dz_l ((v6 * v6) - (v6 * v6) / v0 * v0) fun x2 => dz_l (v4 * 2) fun x3 => (lfX1_doesPass K k).2 v0 x3 x2) else none)) : Option Int32) = some res := hf
      refine lv_lload hx hb dX1_doesPass_45 (lv_at hl 1 rfl) ?_
      refine lv_lload_n hx hb dX1_doesPass_47 rfl (lv_at hl 0 rfl) ?_
      refine lv_lconst (v := 1) hx hb dX1_doesPass_48 rfl ?_
      refine lv_lsub hx hb dX1_doesPass_49 ?_
      refine W.lcmp hx hb dX1_doesPass_50 ?_
      refine lv_if_ge (tgt := 85) hx hb dX1_doesPass_51 (by decide) (fun c51 => ?_) (fun c51 => ?_)
      · have c51 : (v0 - 1) ≤ v4 := (lg_cmp_ge _ _).mp c51
        have hf := dz_t c51 hf
        refine lv_iconst (v := 0) hx hb dX1_doesPass_85 (by decide) ?_
        exact W.zret (v := 0) hx hb hr rfl (fun t ht hW => ⟨⟨0, (), rfl, Option.some.inj hf, trivial⟩, hS.F ht⟩) hS.2.2 dX1_doesPass_86
      · have c51 : ¬ (v0 - 1) ≤ v4 := fun hq => c51 ((lg_cmp_ge _ _).mpr hq)
        have hf := dz_f c51 hf
        refine lv_lload hx hb dX1_doesPass_54 (lv_at hl 2 rfl) ?_
        refine lv_lload_n hx hb dX1_doesPass_56 rfl (lv_at hl 0 rfl) ?_
        refine lv_lconst (v := 1) hx hb dX1_doesPass_57 rfl ?_
        refine lv_lsub hx hb dX1_doesPass_58 ?_
        refine W.lcmp hx hb dX1_doesPass_59 ?_
        refine lv_if_ne (tgt := 65) hx hb dX1_doesPass_60 (by decide) (fun c60 => ?_) (fun c60 => ?_)
        · have c60 : ¬ v6 = (v0 - 1) := fun hq => c60 ((lg_cmp_eq _ _).mpr hq)
          have hf := dz_f c60 hf
          refine lv_lload hx hb dX1_doesPass_65 (lv_at hl 2 rfl) ?_
          refine lv_lload hx hb dX1_doesPass_67 (lv_at hl 2 rfl) ?_
          refine lv_lmul hx hb dX1_doesPass_69 ?_
          refine lv_lload_n hx hb dX1_doesPass_70 rfl (lv_at hl 0 rfl) ?_
          obtain ⟨g1, hf⟩ := dz_go hf
          refine lv_lrem hx hb dX1_doesPass_71 g1 ?_
          refine lv_topl (fun x2 e_x2 => ?_)
          have hf := dz_ls e_x2 hf
          refine lv_lstore (lv' := [(6, .long x2), (0, .long v0), (4, .long v4)]) hx hb dX1_doesPass_72 hl (by decide) rfl (fun ls hl => ?_)
          refine lv_lload hx hb dX1_doesPass_74 (lv_at hl 2 rfl) ?_
          refine lv_ldc2 (v := 2) hx hb hown (hts _ q1789) dX1_doesPass_76 ?_
          refine lv_lmul hx hb dX1_doesPass_79 ?_
          refine lv_topl (fun x3 e_x3 => ?_)
          have hf := dz_ls e_x3 hf
          refine lv_lstore (lv' := [(4, .long x3), (6, .long x2), (0, .long v0)]) hx hb dX1_doesPass_80 hl (by decide) rfl (fun ls hl => ?_)
          refine lv_goto (tgt := 45) hx hb dX1_doesPass_82 (by decide) ?_
          exact ih.2 v0 x3 x2 H locs hS ls (lv_sub hl [2, 0, 1] rfl) hf
        · have c60 : v6 = (v0 - 1) := (lg_cmp_eq _ _).mp c60
          have hf := dz_t c60 hf
          refine lv_iconst (v := 1) hx hb dX1_doesPass_63 (by decide) ?_
          exact W.zret (v := 1) hx hb hr rfl (fun t ht hW => ⟨⟨1, (), rfl, Option.some.inj hf, trivial⟩, hS.F ht⟩) hS.2.2 dX1_doesPass_64
set_option maxHeartbeats 4000000 in
set_option maxRecDepth 100000 in
theorem mtX1_doesPass (l : Launch) (a0 : Int64) (a1 : Int64) (K : Nat) (res : Int32) (hf : fnX1_doesPass K a0 a1 = some res) : Met l yX1_doesPass (ws_ yX1_doesPass cX1_doesPass 8 (some .boolean)) ({ frames := 1, cells := 0, slots := 0, locals := 31 }) (dz_P [.long a0, .long a1]) (dz_Qi res) 0 0 (fun _ => False) := by
  refine Met.ofW (cc := cX1_doesPass) (maxL := 8) (ret := some .boolean) (by decide +kernel) rfl ?_
  intro p e s m args below meth c s₁ B hml hv
  obtain ⟨rfl, -⟩ := hv
  have hx := B.exec
  have hb := B.bytes
  have hr := B.returns
  have hts := atoms_spec (ws := ws_ yX1_doesPass cX1_doesPass 8 (some .boolean)) B.pre
  have hts : ∀ w ∈ lw_all, w.before _ s = true := fun w h => hts w (List.mem_cons_of_mem _ h)
  have hown : s.vm.findClass RX1 = some m.cls := findClass_of_methodNamed B.named
  have hlocks := B.notSynchronized
  have hS : va_S (fun _ => False) s.heap s.heap [] := va_S.rf
  generalize hHe : s.heap = H at hS ⊢
  have hS : va_S (fun _ => False) s.heap H [] := by rw [hHe]; exact hS
  generalize ([] : List Loc) = locs at hS ⊢
  have hl := lv_entry ([.long a0, .long a1]) (n := 8) (Nat.le_of_ble_eq_true rfl)
  rw [lg_entry_eq]
  generalize (lg_sl ([.long a0, .long a1]) ++ List.replicate (8 - (lg_sl ([.long a0, .long a1])).length) Slot.unset).toArray = ls at hl ⊢
  have hl : lv_has ls 8 [(0, .long a0), (2, .long a1)] := hl
  have hf : (dz_l (a0 - 1) fun x1 => (lfX1_doesPass K K).1 a0 a1 x1 : Option Int32) = some res := hf
  have ih := wlX1_doesPass (l := l) (e := e) (below := below) K res a0 a1 hx hb hr hlocks hml hown hts K
  refine lv_lload_n hx hb dX1_doesPass_0 rfl (lv_at hl 0 rfl) ?_
  refine lv_lconst (v := 1) hx hb dX1_doesPass_1 rfl ?_
  refine lv_lsub hx hb dX1_doesPass_2 ?_
  refine lv_topl (fun x1 e_x1 => ?_)
  have hf := dz_ls e_x1 hf
  refine lv_lstore (lv' := [(4, .long x1), (0, .long a0), (2, .long a1)]) hx hb dX1_doesPass_3 hl (by decide) rfl (fun ls hl => ?_)
  exact ih.1 a0 a1 x1 H locs hS ls (lv_sub hl [1, 2, 0] rfl) hf

noncomputable def fnX1_passes (K : Nat) (a0 : Int32) (a1 : Int32) (σ : pM) : Option (Int32 × pM) := dz_b (fnX1_isOdd K a0) fun x1 => if x1 = (0 : Int32) then (some ((-1), σ)) else (dz_b (fnX1_in K (Int32.toInt64 a1) 2 999) fun x2 => if x2 = (0 : Int32) then (some ((-1), σ)) else (if a1 < a0 then (dz_b (fnX1_doesPass K (Int32.toInt64 a0) (Int32.toInt64 a1)) fun x3 => if x3 = (0 : Int32) then (some (0, σ)) else (some (1, σ))) else (some ((-1), σ))))
set_option maxHeartbeats 4000000 in
set_option maxRecDepth 100000 in
theorem mtX1_passes (l : Launch) (D : va_G) (cl : List vw_C) (ci : Nat) (hci : cl[ci]? = some (RX1, TX1, 35)) (h : Nat) (ad : Nat → Nat) (cA : Nat → ClassId) (sz : Nat) (σ : pM) (a0 : Int32) (a1 : Int32) (K : Nat) (res : (Int32 × pM)) (hf : fnX1_passes K a0 a1 σ = some res) : Met l yX1_passes (ws_ yX1_passes cX1_passes 3 (some .int)) ({ frames := 2, cells := 0, slots := 0, locals := 58 }) (mPc D cl ci h ad cA sz σ [.ref h, .int a0, .int a1]) (mQi D cl ci h ad cA (va_A (mw ci h ad cA σ) sz) res) 0 0 (va_A (mw ci h ad cA σ) sz) := by
  refine Met.ofW (cc := cX1_passes) (maxL := 3) (ret := some .int) (by decide +kernel) rfl ?_
  intro p e s m args below meth c s₁ B hml hv
  obtain ⟨rfl, hsz, hP, hK, hD0⟩ := hv
  have hx := B.exec
  have hb := B.bytes
  have hr := B.returns
  have hts := atoms_spec (ws := ws_ yX1_passes cX1_passes 3 (some .int)) B.pre
  have hts : ∀ w ∈ lw_all, w.before _ s = true := fun w h => hts w (List.mem_cons_of_mem _ h)
  have hown : s.vm.findClass RX1 = some m.cls := findClass_of_methodNamed B.named
  have hlocks := B.notSynchronized
  subst hsz
  have hD := hD0.self (sz := s.heap.size)
  generalize hAe : va_A (mw ci h ad cA σ) s.heap.size = A at hD ⊢
  have hA : ∀ q : Nat, s.heap.size ≤ q → A q := fun q h => by rw [← hAe]; exact Or.inr h
  clear hAe hD0
  have hS : va_S A s.heap s.heap [] := va_S.rf
  generalize hHe : s.heap = H at hP hS ⊢
  have hS : va_S A s.heap H [] := by rw [hHe]; exact hS
  generalize ([] : List Loc) = locs at hS ⊢
  have hl := lv_entry ([.ref h, .int a0, .int a1]) (n := 3) (Nat.le_of_ble_eq_true rfl)
  rw [lg_entry_eq]
  generalize (lg_sl ([.ref h, .int a0, .int a1]) ++ List.replicate (3 - (lg_sl ([.ref h, .int a0, .int a1])).length) Slot.unset).toArray = ls at hl ⊢
  have hl : lv_has ls 3 [(0, .ref h), (1, .int a0), (2, .int a1)] := hl
  have hf : (dz_b (fnX1_isOdd K a0) fun x1 => if x1 = (0 : Int32) then (some ((-1), σ)) else (dz_b (fnX1_in K (Int32.toInt64 a1) 2 999) fun x2 => if x2 = (0 : Int32) then (some ((-1), σ)) else (if a1 < a0 then (dz_b (fnX1_doesPass K (Int32.toInt64 a0) (Int32.toInt64 a1)) fun x3 => if x3 = (0 : Int32) then (some (0, σ)) else (some (1, σ))) else (some ((-1), σ)))) : Option (Int32 × pM)) = some res := hf
  refine lv_iload_n hx hb dX1_passes_0 rfl (lv_at hl 1 rfl) ?_
  obtain ⟨x1, hx1, hf⟩ := dz_bo hf
  refine va_calli (va_runS (As := [.int a0]) (rest := []) ⟨hx, hb, hml, hown, hts⟩ (mtX1_isOdd l a0 K x1 hx1) (va_cwS 1 hts (lw_S q2164 q2165 q88 q2166) rfl rfl rfl (by decide +kernel) ⟨Nat.le_of_ble_eq_true rfl, Nat.le_of_ble_eq_true rfl⟩) ⟨fun a U g mk q => q, fun U hU hW => ⟨rfl, trivial⟩⟩ rfl rfl hl.1 rfl (lv_room (Nat.le_of_ble_eq_true rfl)) dX1_passes_1 ⟨Nat.le_refl _, Nat.le_refl _⟩) hS (fun q _ hq => hq.elim) (fun q hq => hq.elim) (fun r u t H1 locs ht hvm hw hB hz hk hS => ?_)
  replace hw := hw.symm; subst hw
  replace hP := dz_keep hP hk
  clear hB hk hz hvm ht; generalize H1 = H at hP hS ⊢
  refine lv_if_eq (tgt := 26) hx hb dX1_passes_4 (by decide) (fun c4 => ?_) (fun c4 => ?_)
  · have hf := dz_t c4 hf
    refine lv_iconst (v := (-1)) hx hb dX1_passes_26 (by decide) ?_
    exact W.iret (v := (-1)) hx hb hr (fun t ht hW => ⟨⟨(-1), σ, rfl, Option.some.inj hf, by rw [ht]; exact hP, va_K.moved hW.alike hK, hD⟩, hS.F ht⟩) hS.2.2 dX1_passes_27
  · have hf := dz_f c4 hf
    refine lv_iload_n hx hb dX1_passes_7 rfl (lv_at hl 2 rfl) ?_
    refine lv_i2l hx hb dX1_passes_8 (rfl : _ = Int32.toInt64 a1) ?_
    refine lv_ldc2 (v := 2) hx hb hown (hts _ q1789) dX1_passes_9 ?_
    refine lv_ldc2 (v := 999) hx hb hown (hts _ q2038) dX1_passes_12 ?_
    obtain ⟨x2, hx2, hf⟩ := dz_bo hf
    refine va_calli (va_runS (As := [.long (Int32.toInt64 a1), .long 2, .long 999]) (rest := []) ⟨hx, hb, hml, hown, hts⟩ (mtX1_in l (Int32.toInt64 a1) 2 999 K x2 hx2) (va_cwS 3 hts (lw_S q1783 q1784 q88 q1785) rfl rfl rfl (by decide +kernel) ⟨Nat.le_of_ble_eq_true rfl, Nat.le_of_ble_eq_true rfl⟩) ⟨fun a U g mk q => q, fun U hU hW => ⟨rfl, trivial⟩⟩ rfl rfl hl.1 rfl (lv_room (Nat.le_of_ble_eq_true rfl)) dX1_passes_15 ⟨Nat.le_refl _, Nat.le_refl _⟩) hS (fun q _ hq => hq.elim) (fun q hq => hq.elim) (fun r u t H1 locs ht hvm hw hB hz hk hS => ?_)
    replace hw := hw.symm; subst hw
    replace hP := dz_keep hP hk
    clear hB hk hz hvm ht; generalize H1 = H at hP hS ⊢
    refine lv_if_eq (tgt := 26) hx hb dX1_passes_18 (by decide) (fun c18 => ?_) (fun c18 => ?_)
    · have hf := dz_t c18 hf
      refine lv_iconst (v := (-1)) hx hb dX1_passes_26 (by decide) ?_
      exact W.iret (v := (-1)) hx hb hr (fun t ht hW => ⟨⟨(-1), σ, rfl, Option.some.inj hf, by rw [ht]; exact hP, va_K.moved hW.alike hK, hD⟩, hS.F ht⟩) hS.2.2 dX1_passes_27
    · have hf := dz_f c18 hf
      refine lv_iload_n hx hb dX1_passes_21 rfl (lv_at hl 2 rfl) ?_
      refine lv_iload_n hx hb dX1_passes_22 rfl (lv_at hl 1 rfl) ?_
      refine lv_icmp_lt (tgt := 28) hx hb dX1_passes_23 (by decide) (fun c23 => ?_) (fun c23 => ?_)
      · have hf := dz_t c23 hf
        refine lv_iload_n hx hb dX1_passes_28 rfl (lv_at hl 1 rfl) ?_
        refine lv_i2l hx hb dX1_passes_29 (rfl : _ = Int32.toInt64 a0) ?_
        refine lv_iload_n hx hb dX1_passes_30 rfl (lv_at hl 2 rfl) ?_
        refine lv_i2l hx hb dX1_passes_31 (rfl : _ = Int32.toInt64 a1) ?_
        obtain ⟨x3, hx3, hf⟩ := dz_bo hf
        refine va_calli (va_runS (As := [.long (Int32.toInt64 a0), .long (Int32.toInt64 a1)]) (rest := []) ⟨hx, hb, hml, hown, hts⟩ (mtX1_doesPass l (Int32.toInt64 a0) (Int32.toInt64 a1) K x3 hx3) (va_cwS 2 hts (lw_S q2167 q2168 q88 q2169) rfl rfl rfl (by decide +kernel) ⟨Nat.le_of_ble_eq_true rfl, Nat.le_of_ble_eq_true rfl⟩) ⟨fun a U g mk q => q, fun U hU hW => ⟨rfl, trivial⟩⟩ rfl rfl hl.1 rfl (lv_room (Nat.le_of_ble_eq_true rfl)) dX1_passes_32 ⟨Nat.le_refl _, Nat.le_refl _⟩) hS (fun q _ hq => hq.elim) (fun q hq => hq.elim) (fun r u t H1 locs ht hvm hw hB hz hk hS => ?_)
        replace hw := hw.symm; subst hw
        replace hP := dz_keep hP hk
        clear hB hk hz hvm ht; generalize H1 = H at hP hS ⊢
        refine lv_if_eq (tgt := 42) hx hb dX1_passes_35 (by decide) (fun c35 => ?_) (fun c35 => ?_)
        · have hf := dz_t c35 hf
          refine lv_iconst (v := 0) hx hb dX1_passes_42 (by decide) ?_
          exact W.iret (v := 0) hx hb hr (fun t ht hW => ⟨⟨0, σ, rfl, Option.some.inj hf, by rw [ht]; exact hP, va_K.moved hW.alike hK, hD⟩, hS.F ht⟩) hS.2.2 dX1_passes_43
        · have hf := dz_f c35 hf
          refine lv_iconst (v := 1) hx hb dX1_passes_38 (by decide) ?_
          refine lv_goto (tgt := 43) hx hb dX1_passes_39 (by decide) ?_
          exact W.iret (v := 1) hx hb hr (fun t ht hW => ⟨⟨1, σ, rfl, Option.some.inj hf, by rw [ht]; exact hP, va_K.moved hW.alike hK, hD⟩, hS.F ht⟩) hS.2.2 dX1_passes_43
      · have hf := dz_f c23 hf
        refine lv_iconst (v := (-1)) hx hb dX1_passes_26 (by decide) ?_
        exact W.iret (v := (-1)) hx hb hr (fun t ht hW => ⟨⟨(-1), σ, rfl, Option.some.inj hf, by rw [ht]; exact hP, va_K.moved hW.alike hK, hD⟩, hS.F ht⟩) hS.2.2 dX1_passes_27

noncomputable def lfX1_fools (K : Nat) : Nat → (Int32 → Int32 → Int32 → Int32 → Int32 → pM → Option (Int32 × pM)) × (Int32 → Int32 → Int32 → Int32 → Int32 → pM → Option (Int32 × pM)) × (Int32 → Int32 → Int32 → pM → Option (Int32 × pM)) := Nat.rec (motive := fun _ => (Int32 → Int32 → Int32 → Int32 → Int32 → pM → Option (Int32 × pM)) × (Int32 → Int32 → Int32 → Int32 → Int32 → pM → Option (Int32 × pM)) × (Int32 → Int32 → Int32 → pM → Option (Int32 × pM))) ((fun _ _ _ _ _ _ => none), (fun _ _ _ _ _ _ => none), (fun _ _ _ _ => none)) (fun _ G => ((fun v1 v2 v3 v4 v5 σ => if (999 : Int32) < v5 then (G.2.2 v2 v3 v4 σ) else (if v1 ≤ v5 then (G.2.2 v2 v3 v4 σ) else (dz_b (fnX1_doesPass K (Int32.toInt64 v1) (Int32.toInt64 v5)) fun x1 => if x1 = (0 : Int32) then (if v4 = (0 : Int32) then (G.2.1 v1 v2 v3 v5 v5 σ) else (G.2.1 v1 v2 v3 v4 v5 σ)) else (dz_l (v3 + 1) fun x2 => G.2.1 v1 v2 x2 v4 v5 σ)))), (fun v1 v2 v3 v4 v5 σ => dz_l (v5 + 1) fun x1 => G.1 v1 v2 v3 v4 x1 σ), (fun v2 v3 v4 σ => if v2 = (0 : Int32) then (some (v3, σ)) else (some (v4, σ)))))
noncomputable def fnX1_fools (K : Nat) (a0 : Int32) (a1 : Int32) (σ : pM) : Option (Int32 × pM) := dz_b (fnX1_isOdd K a0) fun x1 => if x1 = (0 : Int32) then (some ((-1), σ)) else (dz_b (fnX1_in K (Int32.toInt64 a1) 0 1) fun x2 => if x2 = (0 : Int32) then (some ((-1), σ)) else ((lfX1_fools K K).1 a0 a1 0 0 2 σ))
set_option maxHeartbeats 4000000 in
set_option maxRecDepth 100000 in
theorem wlX1_fools {p : Program} {l : Launch} {e : Env} {s : State} {m : MethodId} {below : List Frame} {meth : Method} {c : Code} {D : va_G} {cl : List vw_C} {ci : Nat} (hci : cl[ci]? = some (RX1, TX1, 35)) {h : Nat} {ad : Nat → Nat} {cA : Nat → ClassId} {A : Nat → Prop} (hA : ∀ q : Nat, s.heap.size ≤ q → A q) (hK : va_K D cl (mtys cA) s) (K : Nat) (res : (Int32 × pM)) (a0 : Int32) (a1 : Int32) (hx : p.tables.exec = Jvm.exec) (hb : c.code = cX1_fools) (hr : meth.sig.returnType = some .int) (hlocks : meth.locks = false) (hml : c.maxLocals = 6) (hown : s.vm.findClass RX1 = some m.cls) (hts : ∀ w ∈ lw_all, w.before ([.ref h, .int a0, .int a1] : List Value).toArray s = true) : ∀ k : Nat, (∀ (v1 : Int32) (v2 : Int32) (v3 : Int32) (v4 : Int32) (v5 : Int32) (σ : pM) (H : Heap) (locs : List Loc), va_P D cl (mw ci h ad cA σ) H → va_D A (mw ci h ad cA σ) → va_S A s.heap H locs → ∀ (ls : Array Slot), lv_has ls 6 [(1, .int v1), (2, .int v2), (3, .int v3), (4, .int v4), (5, .int v5)] → (lfX1_fools K k).1 v1 v2 v3 v4 v5 σ = some res → W p l e (headSpec (ws_ yX1_fools cX1_fools 6 (some .int)) ({ frames := 2, cells := 0, slots := 0, locals := 58 })).room s m ([.ref h, .int a0, .int a1] : List Value).toArray below meth c H locs 0 0 (MQ below (mQi D cl ci h ad cA A res) ([.ref h, .int a0, .int a1] : List Value).toArray s 0 0 A) (F0 m 27 ls [])) ∧ (∀ (v1 : Int32) (v2 : Int32) (v3 : Int32) (v4 : Int32) (v5 : Int32) (σ : pM) (H : Heap) (locs : List Loc), va_P D cl (mw ci h ad cA σ) H → va_D A (mw ci h ad cA σ) → va_S A s.heap H locs → ∀ (ls : Array Slot), lv_has ls 6 [(1, .int v1), (2, .int v2), (3, .int v3), (4, .int v4), (5, .int v5)] → (lfX1_fools K k).2.1 v1 v2 v3 v4 v5 σ = some res → W p l e (headSpec (ws_ yX1_fools cX1_fools 6 (some .int)) ({ frames := 2, cells := 0, slots := 0, locals := 58 })).room s m ([.ref h, .int a0, .int a1] : List Value).toArray below meth c H locs 0 0 (MQ below (mQi D cl ci h ad cA A res) ([.ref h, .int a0, .int a1] : List Value).toArray s 0 0 A) (F0 m 67 ls [])) ∧ (∀ (v2 : Int32) (v3 : Int32) (v4 : Int32) (σ : pM) (H : Heap) (locs : List Loc), va_P D cl (mw ci h ad cA σ) H → va_D A (mw ci h ad cA σ) → va_S A s.heap H locs → ∀ (ls : Array Slot), lv_has ls 6 [(2, .int v2), (3, .int v3), (4, .int v4)] → (lfX1_fools K k).2.2 v2 v3 v4 σ = some res → W p l e (headSpec (ws_ yX1_fools cX1_fools 6 (some .int)) ({ frames := 2, cells := 0, slots := 0, locals := 58 })).room s m ([.ref h, .int a0, .int a1] : List Value).toArray below meth c H locs 0 0 (MQ below (mQi D cl ci h ad cA A res) ([.ref h, .int a0, .int a1] : List Value).toArray s 0 0 A) (F0 m 73 ls [])) := by
  intro k
  induction k with
  | zero =>
    exact ⟨fun _ _ _ _ _ _ _ _ _ _ _ _ _ hf => (by cases hf), fun _ _ _ _ _ _ _ _ _ _ _ _ _ hf => (by cases hf), fun _ _ _ _ _ _ _ _ _ _ _ hf => (by cases hf)⟩
  | succ k ih =>
    refine ⟨?_, ?_, ?_⟩
    · intro v1 v2 v3 v4 v5 σ H locs hP hD hS ls hl hf
      have hf : (if (999 : Int32) < v5 then ((lfX1_fools K k).2.2 v2 v3 v4 σ) else (if v1 ≤ v5 then ((lfX1_fools K k).2.2 v2 v3 v4 σ) else (dz_b (fnX1_doesPass K (Int32.toInt64 v1) (Int32.toInt64 v5)) fun x1 => if x1 = (0 : Int32) then (if v4 = (0 : Int32) then ((lfX1_fools K k).2.1 v1 v2 v3 v5 v5 σ) else ((lfX1_fools K k).2.1 v1 v2 v3 v4 v5 σ)) else (dz_l (v3 + 1) fun x2 => (lfX1_fools K k).2.1 v1 v2 x2 v4 v5 σ))) : Option (Int32 × pM)) = some res := hf
      refine lv_iload hx hb dX1_fools_27 (lv_at hl 4 rfl) ?_
      refine lv_sipush (v := 999) hx hb dX1_fools_29 (by decide) ?_
      refine lv_icmp_gt (tgt := 73) hx hb dX1_fools_32 (by decide) (fun c32 => ?_) (fun c32 => ?_)
      · have hf := dz_t c32 hf
        exact ih.2.2 v2 v3 v4 σ H locs hP hD hS ls (lv_sub hl [1, 2, 3] rfl) hf
      · have hf := dz_f c32 hf
        refine lv_iload hx hb dX1_fools_35 (lv_at hl 4 rfl) ?_
        refine lv_iload_n hx hb dX1_fools_37 rfl (lv_at hl 0 rfl) ?_
        refine lv_icmp_ge (tgt := 73) hx hb dX1_fools_38 (by decide) (fun c38 => ?_) (fun c38 => ?_)
        · have hf := dz_t c38 hf
          exact ih.2.2 v2 v3 v4 σ H locs hP hD hS ls (lv_sub hl [1, 2, 3] rfl) hf
        · have hf := dz_f c38 hf
          refine lv_iload_n hx hb dX1_fools_41 rfl (lv_at hl 0 rfl) ?_
          refine lv_i2l hx hb dX1_fools_42 (rfl : _ = Int32.toInt64 v1) ?_
          refine lv_iload hx hb dX1_fools_43 (lv_at hl 4 rfl) ?_
          refine lv_i2l hx hb dX1_fools_45 (rfl : _ = Int32.toInt64 v5) ?_
          obtain ⟨x1, hx1, hf⟩ := dz_bo hf
          refine va_calli (va_runS (As := [.long (Int32.toInt64 v1), .long (Int32.toInt64 v5)]) (rest := []) ⟨hx, hb, hml, hown, hts⟩ (mtX1_doesPass l (Int32.toInt64 v1) (Int32.toInt64 v5) K x1 hx1) (va_cwS 2 hts (lw_S q2167 q2168 q88 q2169) rfl rfl rfl (by decide +kernel) ⟨Nat.le_of_ble_eq_true rfl, Nat.le_of_ble_eq_true rfl⟩) ⟨fun a U g mk q => q, fun U hU hW => ⟨rfl, trivial⟩⟩ rfl rfl hl.1 rfl (lv_room (Nat.le_of_ble_eq_true rfl)) dX1_fools_46 ⟨Nat.le_refl _, Nat.le_refl _⟩) hS (fun q _ hq => hq.elim) (fun q hq => hq.elim) (fun r u t H1 locs ht hvm hw hB hz hk hS => ?_)
          replace hw := hw.symm; subst hw
          replace hP := dz_keep hP hk
          clear hB hk hz hvm ht; generalize H1 = H at hP hS ⊢
          refine lv_if_eq (tgt := 58) hx hb dX1_fools_49 (by decide) (fun c49 => ?_) (fun c49 => ?_)
          · have hf := dz_t c49 hf
            refine lv_iload hx hb dX1_fools_58 (lv_at hl 3 rfl) ?_
            refine lv_if_ne (tgt := 67) hx hb dX1_fools_60 (by decide) (fun c60 => ?_) (fun c60 => ?_)
            · have hf := dz_f c60 hf
              exact ih.2.1 v1 v2 v3 v4 v5 σ H locs hP hD hS ls (lv_sub hl [0, 1, 2, 3, 4] rfl) hf
            · have hf := dz_t c60 hf
              refine lv_iload hx hb dX1_fools_63 (lv_at hl 4 rfl) ?_
              refine lv_istore (lv' := [(4, .int v5), (1, .int v1), (2, .int v2), (3, .int v3), (5, .int v5)]) hx hb dX1_fools_65 hl (by decide) rfl (fun ls hl => ?_)
              exact ih.2.1 v1 v2 v3 v5 v5 σ H locs hP hD hS ls (lv_sub hl [1, 2, 3, 0, 4] rfl) hf
          · have hf := dz_f c49 hf
            obtain ⟨x2, e_x2, hf⟩ := dz_lo hf
            refine lv_iinc (v := x2) (lv' := [(3, .int x2), (1, .int v1), (2, .int v2), (4, .int v4), (5, .int v5)]) hx hb dX1_fools_52 hl (k := 2) rfl (by rw [e_x2]; rfl) (by decide) rfl (fun ls hl => ?_)
            refine lv_goto (tgt := 67) hx hb dX1_fools_55 (by decide) ?_
            exact ih.2.1 v1 v2 x2 v4 v5 σ H locs hP hD hS ls (lv_sub hl [1, 2, 0, 3, 4] rfl) hf
    · intro v1 v2 v3 v4 v5 σ H locs hP hD hS ls hl hf
      have hf : (dz_l (v5 + 1) fun x1 => (lfX1_fools K k).1 v1 v2 v3 v4 x1 σ : Option (Int32 × pM)) = some res := hf
      obtain ⟨x1, e_x1, hf⟩ := dz_lo hf
      refine lv_iinc (v := x1) (lv' := [(5, .int x1), (1, .int v1), (2, .int v2), (3, .int v3), (4, .int v4)]) hx hb dX1_fools_67 hl (k := 4) rfl (by rw [e_x1]; rfl) (by decide) rfl (fun ls hl => ?_)
      refine lv_goto (tgt := 27) hx hb dX1_fools_70 (by decide) ?_
      exact ih.1 v1 v2 v3 v4 x1 σ H locs hP hD hS ls (lv_sub hl [1, 2, 3, 4, 0] rfl) hf
    · intro v2 v3 v4 σ H locs hP hD hS ls hl hf
      have hf : (if v2 = (0 : Int32) then (some (v3, σ)) else (some (v4, σ)) : Option (Int32 × pM)) = some res := hf
      refine lv_iload_n hx hb dX1_fools_73 rfl (lv_at hl 0 rfl) ?_
      refine lv_if_ne (tgt := 81) hx hb dX1_fools_74 (by decide) (fun c74 => ?_) (fun c74 => ?_)
      · have hf := dz_f c74 hf
        refine lv_iload hx hb dX1_fools_81 (lv_at hl 2 rfl) ?_
        exact W.iret (v := v4) hx hb hr (fun t ht hW => ⟨⟨v4, σ, rfl, Option.some.inj hf, by rw [ht]; exact hP, va_K.moved hW.alike hK, hD⟩, hS.F ht⟩) hS.2.2 dX1_fools_83
      · have hf := dz_t c74 hf
        refine lv_iload_n hx hb dX1_fools_77 rfl (lv_at hl 1 rfl) ?_
        refine lv_goto (tgt := 83) hx hb dX1_fools_78 (by decide) ?_
        exact W.iret (v := v3) hx hb hr (fun t ht hW => ⟨⟨v3, σ, rfl, Option.some.inj hf, by rw [ht]; exact hP, va_K.moved hW.alike hK, hD⟩, hS.F ht⟩) hS.2.2 dX1_fools_83
set_option maxHeartbeats 4000000 in
set_option maxRecDepth 100000 in
theorem mtX1_fools (l : Launch) (D : va_G) (cl : List vw_C) (ci : Nat) (hci : cl[ci]? = some (RX1, TX1, 35)) (h : Nat) (ad : Nat → Nat) (cA : Nat → ClassId) (sz : Nat) (σ : pM) (a0 : Int32) (a1 : Int32) (K : Nat) (res : (Int32 × pM)) (hf : fnX1_fools K a0 a1 σ = some res) : Met l yX1_fools (ws_ yX1_fools cX1_fools 6 (some .int)) ({ frames := 2, cells := 0, slots := 0, locals := 58 }) (mPc D cl ci h ad cA sz σ [.ref h, .int a0, .int a1]) (mQi D cl ci h ad cA (va_A (mw ci h ad cA σ) sz) res) 0 0 (va_A (mw ci h ad cA σ) sz) := by
  refine Met.ofW (cc := cX1_fools) (maxL := 6) (ret := some .int) (by decide +kernel) rfl ?_
  intro p e s m args below meth c s₁ B hml hv
  obtain ⟨rfl, hsz, hP, hK, hD0⟩ := hv
  have hx := B.exec
  have hb := B.bytes
  have hr := B.returns
  have hts := atoms_spec (ws := ws_ yX1_fools cX1_fools 6 (some .int)) B.pre
  have hts : ∀ w ∈ lw_all, w.before _ s = true := fun w h => hts w (List.mem_cons_of_mem _ h)
  have hown : s.vm.findClass RX1 = some m.cls := findClass_of_methodNamed B.named
  have hlocks := B.notSynchronized
  subst hsz
  have hD := hD0.self (sz := s.heap.size)
  generalize hAe : va_A (mw ci h ad cA σ) s.heap.size = A at hD ⊢
  have hA : ∀ q : Nat, s.heap.size ≤ q → A q := fun q h => by rw [← hAe]; exact Or.inr h
  clear hAe hD0
  have hS : va_S A s.heap s.heap [] := va_S.rf
  generalize hHe : s.heap = H at hP hS ⊢
  have hS : va_S A s.heap H [] := by rw [hHe]; exact hS
  generalize ([] : List Loc) = locs at hS ⊢
  have hl := lv_entry ([.ref h, .int a0, .int a1]) (n := 6) (Nat.le_of_ble_eq_true rfl)
  rw [lg_entry_eq]
  generalize (lg_sl ([.ref h, .int a0, .int a1]) ++ List.replicate (6 - (lg_sl ([.ref h, .int a0, .int a1])).length) Slot.unset).toArray = ls at hl ⊢
  have hl : lv_has ls 6 [(0, .ref h), (1, .int a0), (2, .int a1)] := hl
  have hf : (dz_b (fnX1_isOdd K a0) fun x1 => if x1 = (0 : Int32) then (some ((-1), σ)) else (dz_b (fnX1_in K (Int32.toInt64 a1) 0 1) fun x2 => if x2 = (0 : Int32) then (some ((-1), σ)) else ((lfX1_fools K K).1 a0 a1 0 0 2 σ)) : Option (Int32 × pM)) = some res := hf
  have ih := wlX1_fools (l := l) (e := e) (below := below) (h := h) (ad := ad) (cA := cA) hci hA hK K res a0 a1 hx hb hr hlocks hml hown hts K
  refine lv_iload_n hx hb dX1_fools_0 rfl (lv_at hl 1 rfl) ?_
  obtain ⟨x1, hx1, hf⟩ := dz_bo hf
  refine va_calli (va_runS (As := [.int a0]) (rest := []) ⟨hx, hb, hml, hown, hts⟩ (mtX1_isOdd l a0 K x1 hx1) (va_cwS 1 hts (lw_S q2164 q2165 q88 q2166) rfl rfl rfl (by decide +kernel) ⟨Nat.le_of_ble_eq_true rfl, Nat.le_of_ble_eq_true rfl⟩) ⟨fun a U g mk q => q, fun U hU hW => ⟨rfl, trivial⟩⟩ rfl rfl hl.1 rfl (lv_room (Nat.le_of_ble_eq_true rfl)) dX1_fools_1 ⟨Nat.le_refl _, Nat.le_refl _⟩) hS (fun q _ hq => hq.elim) (fun q hq => hq.elim) (fun r u t H1 locs ht hvm hw hB hz hk hS => ?_)
  replace hw := hw.symm; subst hw
  replace hP := dz_keep hP hk
  clear hB hk hz hvm ht; generalize H1 = H at hP hS ⊢
  refine lv_if_eq (tgt := 17) hx hb dX1_fools_4 (by decide) (fun c4 => ?_) (fun c4 => ?_)
  · have hf := dz_t c4 hf
    refine lv_iconst (v := (-1)) hx hb dX1_fools_17 (by decide) ?_
    exact W.iret (v := (-1)) hx hb hr (fun t ht hW => ⟨⟨(-1), σ, rfl, Option.some.inj hf, by rw [ht]; exact hP, va_K.moved hW.alike hK, hD⟩, hS.F ht⟩) hS.2.2 dX1_fools_18
  · have hf := dz_f c4 hf
    refine lv_iload_n hx hb dX1_fools_7 rfl (lv_at hl 2 rfl) ?_
    refine lv_i2l hx hb dX1_fools_8 (rfl : _ = Int32.toInt64 a1) ?_
    refine lv_lconst (v := 0) hx hb dX1_fools_9 rfl ?_
    refine lv_lconst (v := 1) hx hb dX1_fools_10 rfl ?_
    obtain ⟨x2, hx2, hf⟩ := dz_bo hf
    refine va_calli (va_runS (As := [.long (Int32.toInt64 a1), .long 0, .long 1]) (rest := []) ⟨hx, hb, hml, hown, hts⟩ (mtX1_in l (Int32.toInt64 a1) 0 1 K x2 hx2) (va_cwS 3 hts (lw_S q1783 q1784 q88 q1785) rfl rfl rfl (by decide +kernel) ⟨Nat.le_of_ble_eq_true rfl, Nat.le_of_ble_eq_true rfl⟩) ⟨fun a U g mk q => q, fun U hU hW => ⟨rfl, trivial⟩⟩ rfl rfl hl.1 rfl (lv_room (Nat.le_of_ble_eq_true rfl)) dX1_fools_11 ⟨Nat.le_refl _, Nat.le_refl _⟩) hS (fun q _ hq => hq.elim) (fun q hq => hq.elim) (fun r u t H1 locs ht hvm hw hB hz hk hS => ?_)
    replace hw := hw.symm; subst hw
    replace hP := dz_keep hP hk
    clear hB hk hz hvm ht; generalize H1 = H at hP hS ⊢
    refine lv_if_ne (tgt := 19) hx hb dX1_fools_14 (by decide) (fun c14 => ?_) (fun c14 => ?_)
    · have hf := dz_f c14 hf
      refine lv_iconst (v := 0) hx hb dX1_fools_19 (by decide) ?_
      refine lv_istore_n (lv' := [(3, .int 0), (0, .ref h), (1, .int a0), (2, .int a1)]) hx hb dX1_fools_20 rfl hl (by decide) rfl (fun ls hl => ?_)
      refine lv_iconst (v := 0) hx hb dX1_fools_21 (by decide) ?_
      refine lv_istore (lv' := [(4, .int 0), (3, .int 0), (0, .ref h), (1, .int a0), (2, .int a1)]) hx hb dX1_fools_22 hl (by decide) rfl (fun ls hl => ?_)
      refine lv_iconst (v := 2) hx hb dX1_fools_24 (by decide) ?_
      refine lv_istore (lv' := [(5, .int 2), (4, .int 0), (3, .int 0), (0, .ref h), (1, .int a0), (2, .int a1)]) hx hb dX1_fools_25 hl (by decide) rfl (fun ls hl => ?_)
      exact ih.1 a0 a1 0 0 2 σ H locs hP hD hS ls (lv_sub hl [4, 5, 2, 1, 0] rfl) hf
    · have hf := dz_t c14 hf
      refine lv_iconst (v := (-1)) hx hb dX1_fools_17 (by decide) ?_
      exact W.iret (v := (-1)) hx hb hr (fun t ht hW => ⟨⟨(-1), σ, rfl, Option.some.inj hf, by rw [ht]; exact hP, va_K.moved hW.alike hK, hD⟩, hS.F ht⟩) hS.2.2 dX1_fools_18

noncomputable def lfX1_power (K : Nat) : Nat → (pM → Option (Int32 × pM)) := Nat.rec (motive := fun _ => (pM → Option (Int32 × pM))) (fun _ => none) (fun _ G => (fun σ => some ((-1), σ)))
noncomputable def fnX1_power (K : Nat) (a0 : Int32) (a1 : Int32) (a2 : Int32) (σ : pM) : Option (Int32 × pM) := if a0 < (0 : Int32) then ((lfX1_power K K) σ) else (if a1 < (0 : Int32) then ((lfX1_power K K) σ) else (if (1 : Int32) ≤ a2 then (dz_b (fnX1_powerOf K (Int32.toInt64 a0) (Int32.toInt64 a1) (Int32.toInt64 a2)) fun x1 => some (Int64.toInt32 x1, σ)) else ((lfX1_power K K) σ)))
set_option maxHeartbeats 4000000 in
set_option maxRecDepth 100000 in
theorem wlX1_power {p : Program} {l : Launch} {e : Env} {s : State} {m : MethodId} {below : List Frame} {meth : Method} {c : Code} {D : va_G} {cl : List vw_C} {ci : Nat} (hci : cl[ci]? = some (RX1, TX1, 35)) {h : Nat} {ad : Nat → Nat} {cA : Nat → ClassId} {A : Nat → Prop} (hA : ∀ q : Nat, s.heap.size ≤ q → A q) (hK : va_K D cl (mtys cA) s) (K : Nat) (res : (Int32 × pM)) (a0 : Int32) (a1 : Int32) (a2 : Int32) (hx : p.tables.exec = Jvm.exec) (hb : c.code = cX1_power) (hr : meth.sig.returnType = some .int) (hlocks : meth.locks = false) (hml : c.maxLocals = 4) (hown : s.vm.findClass RX1 = some m.cls) (hts : ∀ w ∈ lw_all, w.before ([.ref h, .int a0, .int a1, .int a2] : List Value).toArray s = true) : ∀ k : Nat, (∀  (σ : pM) (H : Heap) (locs : List Loc), va_P D cl (mw ci h ad cA σ) H → va_D A (mw ci h ad cA σ) → va_S A s.heap H locs → ∀ (ls : Array Slot), lv_has ls 4 [] → (lfX1_power K k) σ = some res → W p l e (headSpec (ws_ yX1_power cX1_power 4 (some .int)) ({ frames := 1, cells := 0, slots := 0, locals := 31 })).room s m ([.ref h, .int a0, .int a1, .int a2] : List Value).toArray below meth c H locs 0 0 (MQ below (mQi D cl ci h ad cA A res) ([.ref h, .int a0, .int a1, .int a2] : List Value).toArray s 0 0 A) (F0 m 13 ls [])) := by
  intro k
  induction k with
  | zero =>
    exact fun _ _ _ _ _ _ _ _ hf => (by cases hf)
  | succ k ih =>
    · intro σ H locs hP hD hS ls hl hf
      have hf : (some ((-1), σ) : Option (Int32 × pM)) = some res := hf
      refine lv_iconst (v := (-1)) hx hb dX1_power_13 (by decide) ?_
      refine lv_goto (tgt := 27) hx hb dX1_power_14 (by decide) ?_
      exact W.iret (v := (-1)) hx hb hr (fun t ht hW => ⟨⟨(-1), σ, rfl, Option.some.inj hf, by rw [ht]; exact hP, va_K.moved hW.alike hK, hD⟩, hS.F ht⟩) hS.2.2 dX1_power_27
set_option maxHeartbeats 4000000 in
set_option maxRecDepth 100000 in
theorem mtX1_power (l : Launch) (D : va_G) (cl : List vw_C) (ci : Nat) (hci : cl[ci]? = some (RX1, TX1, 35)) (h : Nat) (ad : Nat → Nat) (cA : Nat → ClassId) (sz : Nat) (σ : pM) (a0 : Int32) (a1 : Int32) (a2 : Int32) (K : Nat) (res : (Int32 × pM)) (hf : fnX1_power K a0 a1 a2 σ = some res) : Met l yX1_power (ws_ yX1_power cX1_power 4 (some .int)) ({ frames := 1, cells := 0, slots := 0, locals := 31 }) (mPc D cl ci h ad cA sz σ [.ref h, .int a0, .int a1, .int a2]) (mQi D cl ci h ad cA (va_A (mw ci h ad cA σ) sz) res) 0 0 (va_A (mw ci h ad cA σ) sz) := by
  refine Met.ofW (cc := cX1_power) (maxL := 4) (ret := some .int) (by decide +kernel) rfl ?_
  intro p e s m args below meth c s₁ B hml hv
  obtain ⟨rfl, hsz, hP, hK, hD0⟩ := hv
  have hx := B.exec
  have hb := B.bytes
  have hr := B.returns
  have hts := atoms_spec (ws := ws_ yX1_power cX1_power 4 (some .int)) B.pre
  have hts : ∀ w ∈ lw_all, w.before _ s = true := fun w h => hts w (List.mem_cons_of_mem _ h)
  have hown : s.vm.findClass RX1 = some m.cls := findClass_of_methodNamed B.named
  have hlocks := B.notSynchronized
  subst hsz
  have hD := hD0.self (sz := s.heap.size)
  generalize hAe : va_A (mw ci h ad cA σ) s.heap.size = A at hD ⊢
  have hA : ∀ q : Nat, s.heap.size ≤ q → A q := fun q h => by rw [← hAe]; exact Or.inr h
  clear hAe hD0
  have hS : va_S A s.heap s.heap [] := va_S.rf
  generalize hHe : s.heap = H at hP hS ⊢
  have hS : va_S A s.heap H [] := by rw [hHe]; exact hS
  generalize ([] : List Loc) = locs at hS ⊢
  have hl := lv_entry ([.ref h, .int a0, .int a1, .int a2]) (n := 4) (Nat.le_of_ble_eq_true rfl)
  rw [lg_entry_eq]
  generalize (lg_sl ([.ref h, .int a0, .int a1, .int a2]) ++ List.replicate (4 - (lg_sl ([.ref h, .int a0, .int a1, .int a2])).length) Slot.unset).toArray = ls at hl ⊢
  have hl : lv_has ls 4 [(0, .ref h), (1, .int a0), (2, .int a1), (3, .int a2)] := hl
  have hf : (if a0 < (0 : Int32) then ((lfX1_power K K) σ) else (if a1 < (0 : Int32) then ((lfX1_power K K) σ) else (if (1 : Int32) ≤ a2 then (dz_b (fnX1_powerOf K (Int32.toInt64 a0) (Int32.toInt64 a1) (Int32.toInt64 a2)) fun x1 => some (Int64.toInt32 x1, σ)) else ((lfX1_power K K) σ))) : Option (Int32 × pM)) = some res := hf
  have ih := wlX1_power (l := l) (e := e) (below := below) (h := h) (ad := ad) (cA := cA) hci hA hK K res a0 a1 a2 hx hb hr hlocks hml hown hts K
  refine lv_iload_n hx hb dX1_power_0 rfl (lv_at hl 1 rfl) ?_
  refine lv_if_lt (tgt := 13) hx hb dX1_power_1 (by decide) (fun c1 => ?_) (fun c1 => ?_)
  · have hf := dz_t c1 hf
    exact ih σ H locs hP hD hS ls (lv_sub hl [] rfl) hf
  · have hf := dz_f c1 hf
    refine lv_iload_n hx hb dX1_power_4 rfl (lv_at hl 2 rfl) ?_
    refine lv_if_lt (tgt := 13) hx hb dX1_power_5 (by decide) (fun c5 => ?_) (fun c5 => ?_)
    · have hf := dz_t c5 hf
      exact ih σ H locs hP hD hS ls (lv_sub hl [] rfl) hf
    · have hf := dz_f c5 hf
      refine lv_iload_n hx hb dX1_power_8 rfl (lv_at hl 3 rfl) ?_
      refine lv_iconst (v := 1) hx hb dX1_power_9 (by decide) ?_
      refine lv_icmp_ge (tgt := 17) hx hb dX1_power_10 (by decide) (fun c10 => ?_) (fun c10 => ?_)
      · have hf := dz_t c10 hf
        refine lv_iload_n hx hb dX1_power_17 rfl (lv_at hl 1 rfl) ?_
        refine lv_i2l hx hb dX1_power_18 (rfl : _ = Int32.toInt64 a0) ?_
        refine lv_iload_n hx hb dX1_power_19 rfl (lv_at hl 2 rfl) ?_
        refine lv_i2l hx hb dX1_power_20 (rfl : _ = Int32.toInt64 a1) ?_
        refine lv_iload_n hx hb dX1_power_21 rfl (lv_at hl 3 rfl) ?_
        refine lv_i2l hx hb dX1_power_22 (rfl : _ = Int32.toInt64 a2) ?_
        obtain ⟨x1, hx1, hf⟩ := dz_bo hf
        refine va_calll (va_runS (As := [.long (Int32.toInt64 a0), .long (Int32.toInt64 a1), .long (Int32.toInt64 a2)]) (rest := []) ⟨hx, hb, hml, hown, hts⟩ (mtX1_powerOf l (Int32.toInt64 a0) (Int32.toInt64 a1) (Int32.toInt64 a2) K x1 hx1) (va_cwS 3 hts (lw_S q1844 q1845 q88 q1846) rfl rfl rfl (by decide +kernel) ⟨Nat.le_of_ble_eq_true rfl, Nat.le_of_ble_eq_true rfl⟩) ⟨fun a U g mk q => q, fun U hU hW => ⟨rfl, trivial⟩⟩ rfl rfl hl.1 rfl (lv_room (Nat.le_of_ble_eq_true rfl)) dX1_power_23 ⟨Nat.le_refl _, Nat.le_refl _⟩) hS (fun q _ hq => hq.elim) (fun q hq => hq.elim) (fun r u t H1 locs ht hvm hw hB hz hk hS => ?_)
        replace hw := hw.symm; subst hw
        replace hP := dz_keep hP hk
        clear hB hk hz hvm ht; generalize H1 = H at hP hS ⊢
        refine lv_l2i hx hb dX1_power_26 (rfl : _ = Int64.toInt32 x1) ?_
        exact W.iret (v := Int64.toInt32 x1) hx hb hr (fun t ht hW => ⟨⟨Int64.toInt32 x1, σ, rfl, Option.some.inj hf, by rw [ht]; exact hP, va_K.moved hW.alike hK, hD⟩, hS.F ht⟩) hS.2.2 dX1_power_27
      · have hf := dz_f c10 hf
        exact ih σ H locs hP hD hS ls (lv_sub hl [] rfl) hf

noncomputable def lfX1_order (K : Nat) : Nat → (Int32 → Int32 → Int32 → Int64 → pM → Option (Int32 × pM)) := Nat.rec (motive := fun _ => (Int32 → Int32 → Int32 → Int64 → pM → Option (Int32 × pM))) (fun _ _ _ _ _ => none) (fun _ G => (fun v1 v2 v3 v4 σ => if v4 = (1 : Int64) then (some (v3, σ)) else (dz_l (Int32.toInt64 v2) fun x1 => if ¬ x1 = 0 then (dz_l ((v4 * (Int32.toInt64 v1)) - (v4 * (Int32.toInt64 v1)) / x1 * x1) fun x3 => dz_l (v3 + 1) fun x4 => G v1 v2 x4 x3 σ) else none)))
noncomputable def fnX1_order (K : Nat) (a0 : Int32) (a1 : Int32) (σ : pM) : Option (Int32 × pM) := if a0 < (0 : Int32) then (some ((-1), σ)) else (dz_b (fnX1_in K (Int32.toInt64 a1) 2 1000000) fun x1 => if x1 = (0 : Int32) then (some ((-1), σ)) else (dz_b (fnX1_common K (Int32.toInt64 a0) (Int32.toInt64 a1)) fun x2 => if x2 = (1 : Int64) then (if ¬ a1 = 0 then (dz_l (a0 - a0 / a1 * a1) fun x4 => dz_l (Int32.toInt64 x4) fun x5 => (lfX1_order K K) a0 a1 1 x5 σ) else none) else (some ((-2), σ))))
set_option maxHeartbeats 4000000 in
set_option maxRecDepth 100000 in
theorem wlX1_order {p : Program} {l : Launch} {e : Env} {s : State} {m : MethodId} {below : List Frame} {meth : Method} {c : Code} {D : va_G} {cl : List vw_C} {ci : Nat} (hci : cl[ci]? = some (RX1, TX1, 35)) {h : Nat} {ad : Nat → Nat} {cA : Nat → ClassId} {A : Nat → Prop} (hA : ∀ q : Nat, s.heap.size ≤ q → A q) (hK : va_K D cl (mtys cA) s) (K : Nat) (res : (Int32 × pM)) (a0 : Int32) (a1 : Int32) (hx : p.tables.exec = Jvm.exec) (hb : c.code = cX1_order) (hr : meth.sig.returnType = some .int) (hlocks : meth.locks = false) (hml : c.maxLocals = 6) (hown : s.vm.findClass RX1 = some m.cls) (hts : ∀ w ∈ lw_all, w.before ([.ref h, .int a0, .int a1] : List Value).toArray s = true) : ∀ k : Nat, (∀ (v1 : Int32) (v2 : Int32) (v3 : Int32) (v4 : Int64) (σ : pM) (H : Heap) (locs : List Loc), va_P D cl (mw ci h ad cA σ) H → va_D A (mw ci h ad cA σ) → va_S A s.heap H locs → ∀ (ls : Array Slot), lv_has ls 6 [(1, .int v1), (2, .int v2), (3, .int v3), (4, .long v4)] → (lfX1_order K k) v1 v2 v3 v4 σ = some res → W p l e (headSpec (ws_ yX1_order cX1_order 6 (some .int)) ({ frames := 1, cells := 0, slots := 0, locals := 29 })).room s m ([.ref h, .int a0, .int a1] : List Value).toArray below meth c H locs 0 0 (MQ below (mQi D cl ci h ad cA A res) ([.ref h, .int a0, .int a1] : List Value).toArray s 0 0 A) (F0 m 43 ls [])) := by
  intro k
  induction k with
  | zero =>
    exact fun _ _ _ _ _ _ _ _ _ _ _ _ hf => (by cases hf)
  | succ k ih =>
    · intro v1 v2 v3 v4 σ H locs hP hD hS ls hl hf
      have hf : (if v4 = (1 : Int64) then (some (v3, σ)) else (dz_l (Int32.toInt64 v2) fun x1 => if ¬ x1 = 0 then (dz_l ((v4 * (Int32.toInt64 v1)) - (v4 * (Int32.toInt64 v1)) / x1 * x1) fun x3 => dz_l (v3 + 1) fun x4 => (lfX1_order K k) v1 v2 x4 x3 σ) else none) : Option (Int32 × pM)) = some res := hf
      refine lv_lload hx hb dX1_order_43 (lv_at hl 3 rfl) ?_
      refine lv_lconst (v := 1) hx hb dX1_order_45 rfl ?_
      refine W.lcmp hx hb dX1_order_46 ?_
      refine lv_if_eq (tgt := 66) hx hb dX1_order_47 (by decide) (fun c47 => ?_) (fun c47 => ?_)
      · have c47 : v4 = (1 : Int64) := (lg_cmp_eq _ _).mp c47
        have hf := dz_t c47 hf
        refine lv_iload_n hx hb dX1_order_66 rfl (lv_at hl 2 rfl) ?_
        exact W.iret (v := v3) hx hb hr (fun t ht hW => ⟨⟨v3, σ, rfl, Option.some.inj hf, by rw [ht]; exact hP, va_K.moved hW.alike hK, hD⟩, hS.F ht⟩) hS.2.2 dX1_order_67
      · have c47 : ¬ v4 = (1 : Int64) := fun hq => c47 ((lg_cmp_eq _ _).mpr hq)
        have hf := dz_f c47 hf
        refine lv_lload hx hb dX1_order_50 (lv_at hl 3 rfl) ?_
        refine lv_iload_n hx hb dX1_order_52 rfl (lv_at hl 0 rfl) ?_
        refine lv_i2l hx hb dX1_order_53 (rfl : _ = Int32.toInt64 v1) ?_
        refine lv_lmul hx hb dX1_order_54 ?_
        refine lv_iload_n hx hb dX1_order_55 rfl (lv_at hl 1 rfl) ?_
        refine lv_i2l hx hb dX1_order_56 (rfl : _ = Int32.toInt64 v2) ?_
        refine lv_topl (fun x1 e_x1 => ?_)
        have hf := dz_ls e_x1 hf
        obtain ⟨g2, hf⟩ := dz_go hf
        refine lv_lrem hx hb dX1_order_57 g2 ?_
        refine lv_topl (fun x3 e_x3 => ?_)
        have hf := dz_ls e_x3 hf
        refine lv_lstore (lv' := [(4, .long x3), (1, .int v1), (2, .int v2), (3, .int v3)]) hx hb dX1_order_58 hl (by decide) rfl (fun ls hl => ?_)
        obtain ⟨x4, e_x4, hf⟩ := dz_lo hf
        refine lv_iinc (v := x4) (lv' := [(3, .int x4), (4, .long x3), (1, .int v1), (2, .int v2)]) hx hb dX1_order_60 hl (k := 3) rfl (by rw [e_x4]; rfl) (by decide) rfl (fun ls hl => ?_)
        refine lv_goto (tgt := 43) hx hb dX1_order_63 (by decide) ?_
        exact ih v1 v2 x4 x3 σ H locs hP hD hS ls (lv_sub hl [2, 3, 0, 1] rfl) hf
set_option maxHeartbeats 4000000 in
set_option maxRecDepth 100000 in
theorem mtX1_order (l : Launch) (D : va_G) (cl : List vw_C) (ci : Nat) (hci : cl[ci]? = some (RX1, TX1, 35)) (h : Nat) (ad : Nat → Nat) (cA : Nat → ClassId) (sz : Nat) (σ : pM) (a0 : Int32) (a1 : Int32) (K : Nat) (res : (Int32 × pM)) (hf : fnX1_order K a0 a1 σ = some res) : Met l yX1_order (ws_ yX1_order cX1_order 6 (some .int)) ({ frames := 1, cells := 0, slots := 0, locals := 29 }) (mPc D cl ci h ad cA sz σ [.ref h, .int a0, .int a1]) (mQi D cl ci h ad cA (va_A (mw ci h ad cA σ) sz) res) 0 0 (va_A (mw ci h ad cA σ) sz) := by
  refine Met.ofW (cc := cX1_order) (maxL := 6) (ret := some .int) (by decide +kernel) rfl ?_
  intro p e s m args below meth c s₁ B hml hv
  obtain ⟨rfl, hsz, hP, hK, hD0⟩ := hv
  have hx := B.exec
  have hb := B.bytes
  have hr := B.returns
  have hts := atoms_spec (ws := ws_ yX1_order cX1_order 6 (some .int)) B.pre
  have hts : ∀ w ∈ lw_all, w.before _ s = true := fun w h => hts w (List.mem_cons_of_mem _ h)
  have hown : s.vm.findClass RX1 = some m.cls := findClass_of_methodNamed B.named
  have hlocks := B.notSynchronized
  subst hsz
  have hD := hD0.self (sz := s.heap.size)
  generalize hAe : va_A (mw ci h ad cA σ) s.heap.size = A at hD ⊢
  have hA : ∀ q : Nat, s.heap.size ≤ q → A q := fun q h => by rw [← hAe]; exact Or.inr h
  clear hAe hD0
  have hS : va_S A s.heap s.heap [] := va_S.rf
  generalize hHe : s.heap = H at hP hS ⊢
  have hS : va_S A s.heap H [] := by rw [hHe]; exact hS
  generalize ([] : List Loc) = locs at hS ⊢
  have hl := lv_entry ([.ref h, .int a0, .int a1]) (n := 6) (Nat.le_of_ble_eq_true rfl)
  rw [lg_entry_eq]
  generalize (lg_sl ([.ref h, .int a0, .int a1]) ++ List.replicate (6 - (lg_sl ([.ref h, .int a0, .int a1])).length) Slot.unset).toArray = ls at hl ⊢
  have hl : lv_has ls 6 [(0, .ref h), (1, .int a0), (2, .int a1)] := hl
  have hf : (if a0 < (0 : Int32) then (some ((-1), σ)) else (dz_b (fnX1_in K (Int32.toInt64 a1) 2 1000000) fun x1 => if x1 = (0 : Int32) then (some ((-1), σ)) else (dz_b (fnX1_common K (Int32.toInt64 a0) (Int32.toInt64 a1)) fun x2 => if x2 = (1 : Int64) then (if ¬ a1 = 0 then (dz_l (a0 - a0 / a1 * a1) fun x4 => dz_l (Int32.toInt64 x4) fun x5 => (lfX1_order K K) a0 a1 1 x5 σ) else none) else (some ((-2), σ)))) : Option (Int32 × pM)) = some res := hf
  have ih := wlX1_order (l := l) (e := e) (below := below) (h := h) (ad := ad) (cA := cA) hci hA hK K res a0 a1 hx hb hr hlocks hml hown hts K
  refine lv_iload_n hx hb dX1_order_0 rfl (lv_at hl 1 rfl) ?_
  refine lv_if_lt (tgt := 18) hx hb dX1_order_1 (by decide) (fun c1 => ?_) (fun c1 => ?_)
  · have hf := dz_t c1 hf
    refine lv_iconst (v := (-1)) hx hb dX1_order_18 (by decide) ?_
    exact W.iret (v := (-1)) hx hb hr (fun t ht hW => ⟨⟨(-1), σ, rfl, Option.some.inj hf, by rw [ht]; exact hP, va_K.moved hW.alike hK, hD⟩, hS.F ht⟩) hS.2.2 dX1_order_19
  · have hf := dz_f c1 hf
    refine lv_iload_n hx hb dX1_order_4 rfl (lv_at hl 2 rfl) ?_
    refine lv_i2l hx hb dX1_order_5 (rfl : _ = Int32.toInt64 a1) ?_
    refine lv_ldc2 (v := 2) hx hb hown (hts _ q1789) dX1_order_6 ?_
    refine lv_ldc2 (v := 1000000) hx hb hown (hts _ q2182) dX1_order_9 ?_
    obtain ⟨x1, hx1, hf⟩ := dz_bo hf
    refine va_calli (va_runS (As := [.long (Int32.toInt64 a1), .long 2, .long 1000000]) (rest := []) ⟨hx, hb, hml, hown, hts⟩ (mtX1_in l (Int32.toInt64 a1) 2 1000000 K x1 hx1) (va_cwS 3 hts (lw_S q1783 q1784 q88 q1785) rfl rfl rfl (by decide +kernel) ⟨Nat.le_of_ble_eq_true rfl, Nat.le_of_ble_eq_true rfl⟩) ⟨fun a U g mk q => q, fun U hU hW => ⟨rfl, trivial⟩⟩ rfl rfl hl.1 rfl (lv_room (Nat.le_of_ble_eq_true rfl)) dX1_order_12 ⟨Nat.le_refl _, Nat.le_refl _⟩) hS (fun q _ hq => hq.elim) (fun q hq => hq.elim) (fun r u t H1 locs ht hvm hw hB hz hk hS => ?_)
    replace hw := hw.symm; subst hw
    replace hP := dz_keep hP hk
    clear hB hk hz hvm ht; generalize H1 = H at hP hS ⊢
    refine lv_if_ne (tgt := 20) hx hb dX1_order_15 (by decide) (fun c15 => ?_) (fun c15 => ?_)
    · have hf := dz_f c15 hf
      refine lv_iload_n hx hb dX1_order_20 rfl (lv_at hl 1 rfl) ?_
      refine lv_i2l hx hb dX1_order_21 (rfl : _ = Int32.toInt64 a0) ?_
      refine lv_iload_n hx hb dX1_order_22 rfl (lv_at hl 2 rfl) ?_
      refine lv_i2l hx hb dX1_order_23 (rfl : _ = Int32.toInt64 a1) ?_
      obtain ⟨x2, hx2, hf⟩ := dz_bo hf
      refine va_calll (va_runS (As := [.long (Int32.toInt64 a0), .long (Int32.toInt64 a1)]) (rest := []) ⟨hx, hb, hml, hown, hts⟩ (mtX1_common l (Int32.toInt64 a0) (Int32.toInt64 a1) K x2 hx2) (va_cwS 2 hts (lw_S q1837 q1838 q88 q1839) rfl rfl rfl (by decide +kernel) ⟨Nat.le_of_ble_eq_true rfl, Nat.le_of_ble_eq_true rfl⟩) ⟨fun a U g mk q => q, fun U hU hW => ⟨rfl, trivial⟩⟩ rfl rfl hl.1 rfl (lv_room (Nat.le_of_ble_eq_true rfl)) dX1_order_24 ⟨Nat.le_refl _, Nat.le_refl _⟩) hS (fun q _ hq => hq.elim) (fun q hq => hq.elim) (fun r u t H1 locs ht hvm hw hB hz hk hS => ?_)
      replace hw := hw.symm; subst hw
      replace hP := dz_keep hP hk
      clear hB hk hz hvm ht; generalize H1 = H at hP hS ⊢
      refine lv_lconst (v := 1) hx hb dX1_order_27 rfl ?_
      refine W.lcmp hx hb dX1_order_28 ?_
      refine lv_if_eq (tgt := 35) hx hb dX1_order_29 (by decide) (fun c29 => ?_) (fun c29 => ?_)
      · have c29 : x2 = (1 : Int64) := (lg_cmp_eq _ _).mp c29
        have hf := dz_t c29 hf
        refine lv_iconst (v := 1) hx hb dX1_order_35 (by decide) ?_
        refine lv_istore_n (lv' := [(3, .int 1), (0, .ref h), (1, .int a0), (2, .int a1)]) hx hb dX1_order_36 rfl hl (by decide) rfl (fun ls hl => ?_)
        refine lv_iload_n hx hb dX1_order_37 rfl (lv_at hl 2 rfl) ?_
        refine lv_iload_n hx hb dX1_order_38 rfl (lv_at hl 3 rfl) ?_
        obtain ⟨g3, hf⟩ := dz_go hf
        refine lv_irem hx hb dX1_order_39 g3 ?_
        refine lv_topi (fun x4 e_x4 => ?_)
        have hf := dz_ls e_x4 hf
        refine lv_i2l hx hb dX1_order_40 (rfl : _ = Int32.toInt64 x4) ?_
        refine lv_topl (fun x5 e_x5 => ?_)
        have hf := dz_ls e_x5 hf
        refine lv_lstore (lv' := [(4, .long x5), (3, .int 1), (0, .ref h), (1, .int a0), (2, .int a1)]) hx hb dX1_order_41 hl (by decide) rfl (fun ls hl => ?_)
        exact ih a0 a1 1 x5 σ H locs hP hD hS ls (lv_sub hl [3, 4, 1, 0] rfl) hf
      · have c29 : ¬ x2 = (1 : Int64) := fun hq => c29 ((lg_cmp_eq _ _).mpr hq)
        have hf := dz_f c29 hf
        refine lv_bipush (v := (-2)) hx hb dX1_order_32 (by decide) ?_
        exact W.iret (v := (-2)) hx hb hr (fun t ht hW => ⟨⟨(-2), σ, rfl, Option.some.inj hf, by rw [ht]; exact hP, va_K.moved hW.alike hK, hD⟩, hS.F ht⟩) hS.2.2 dX1_order_34
    · have hf := dz_t c15 hf
      refine lv_iconst (v := (-1)) hx hb dX1_order_18 (by decide) ?_
      exact W.iret (v := (-1)) hx hb hr (fun t ht hW => ⟨⟨(-1), σ, rfl, Option.some.inj hf, by rw [ht]; exact hP, va_K.moved hW.alike hK, hD⟩, hS.F ht⟩) hS.2.2 dX1_order_19

noncomputable def lfX1_jacobi (K : Nat) : Nat → (pM → Option (Int32 × pM)) := Nat.rec (motive := fun _ => (pM → Option (Int32 × pM))) (fun _ => none) (fun _ G => (fun σ => some ((-2), σ)))
noncomputable def fnX1_jacobi (K : Nat) (a0 : Int32) (a1 : Int32) (σ : pM) : Option (Int32 × pM) := if a1 < (1 : Int32) then ((lfX1_jacobi K K) σ) else (dz_l (a1 - a1 / 2 * 2) fun x1 => if x1 = (0 : Int32) then ((lfX1_jacobi K K) σ) else (dz_b (fnX1_signOf K (Int32.toInt64 a0) (Int32.toInt64 a1)) fun x2 => some (x2, σ)))
set_option maxHeartbeats 4000000 in
set_option maxRecDepth 100000 in
theorem wlX1_jacobi {p : Program} {l : Launch} {e : Env} {s : State} {m : MethodId} {below : List Frame} {meth : Method} {c : Code} {D : va_G} {cl : List vw_C} {ci : Nat} (hci : cl[ci]? = some (RX1, TX1, 35)) {h : Nat} {ad : Nat → Nat} {cA : Nat → ClassId} {A : Nat → Prop} (hA : ∀ q : Nat, s.heap.size ≤ q → A q) (hK : va_K D cl (mtys cA) s) (K : Nat) (res : (Int32 × pM)) (a0 : Int32) (a1 : Int32) (hx : p.tables.exec = Jvm.exec) (hb : c.code = cX1_jacobi) (hr : meth.sig.returnType = some .int) (hlocks : meth.locks = false) (hml : c.maxLocals = 3) (hown : s.vm.findClass RX1 = some m.cls) (hts : ∀ w ∈ lw_all, w.before ([.ref h, .int a0, .int a1] : List Value).toArray s = true) : ∀ k : Nat, (∀  (σ : pM) (H : Heap) (locs : List Loc), va_P D cl (mw ci h ad cA σ) H → va_D A (mw ci h ad cA σ) → va_S A s.heap H locs → ∀ (ls : Array Slot), lv_has ls 3 [] → (lfX1_jacobi K k) σ = some res → W p l e (headSpec (ws_ yX1_jacobi cX1_jacobi 3 (some .int)) ({ frames := 1, cells := 0, slots := 0, locals := 30 })).room s m ([.ref h, .int a0, .int a1] : List Value).toArray below meth c H locs 0 0 (MQ below (mQi D cl ci h ad cA A res) ([.ref h, .int a0, .int a1] : List Value).toArray s 0 0 A) (F0 m 11 ls [])) := by
  intro k
  induction k with
  | zero =>
    exact fun _ _ _ _ _ _ _ _ hf => (by cases hf)
  | succ k ih =>
    · intro σ H locs hP hD hS ls hl hf
      have hf : (some ((-2), σ) : Option (Int32 × pM)) = some res := hf
      refine lv_bipush (v := (-2)) hx hb dX1_jacobi_11 (by decide) ?_
      refine lv_goto (tgt := 23) hx hb dX1_jacobi_13 (by decide) ?_
      exact W.iret (v := (-2)) hx hb hr (fun t ht hW => ⟨⟨(-2), σ, rfl, Option.some.inj hf, by rw [ht]; exact hP, va_K.moved hW.alike hK, hD⟩, hS.F ht⟩) hS.2.2 dX1_jacobi_23
set_option maxHeartbeats 4000000 in
set_option maxRecDepth 100000 in
theorem mtX1_jacobi (l : Launch) (D : va_G) (cl : List vw_C) (ci : Nat) (hci : cl[ci]? = some (RX1, TX1, 35)) (h : Nat) (ad : Nat → Nat) (cA : Nat → ClassId) (sz : Nat) (σ : pM) (a0 : Int32) (a1 : Int32) (K : Nat) (res : (Int32 × pM)) (hf : fnX1_jacobi K a0 a1 σ = some res) : Met l yX1_jacobi (ws_ yX1_jacobi cX1_jacobi 3 (some .int)) ({ frames := 1, cells := 0, slots := 0, locals := 30 }) (mPc D cl ci h ad cA sz σ [.ref h, .int a0, .int a1]) (mQi D cl ci h ad cA (va_A (mw ci h ad cA σ) sz) res) 0 0 (va_A (mw ci h ad cA σ) sz) := by
  refine Met.ofW (cc := cX1_jacobi) (maxL := 3) (ret := some .int) (by decide +kernel) rfl ?_
  intro p e s m args below meth c s₁ B hml hv
  obtain ⟨rfl, hsz, hP, hK, hD0⟩ := hv
  have hx := B.exec
  have hb := B.bytes
  have hr := B.returns
  have hts := atoms_spec (ws := ws_ yX1_jacobi cX1_jacobi 3 (some .int)) B.pre
  have hts : ∀ w ∈ lw_all, w.before _ s = true := fun w h => hts w (List.mem_cons_of_mem _ h)
  have hown : s.vm.findClass RX1 = some m.cls := findClass_of_methodNamed B.named
  have hlocks := B.notSynchronized
  subst hsz
  have hD := hD0.self (sz := s.heap.size)
  generalize hAe : va_A (mw ci h ad cA σ) s.heap.size = A at hD ⊢
  have hA : ∀ q : Nat, s.heap.size ≤ q → A q := fun q h => by rw [← hAe]; exact Or.inr h
  clear hAe hD0
  have hS : va_S A s.heap s.heap [] := va_S.rf
  generalize hHe : s.heap = H at hP hS ⊢
  have hS : va_S A s.heap H [] := by rw [hHe]; exact hS
  generalize ([] : List Loc) = locs at hS ⊢
  have hl := lv_entry ([.ref h, .int a0, .int a1]) (n := 3) (Nat.le_of_ble_eq_true rfl)
  rw [lg_entry_eq]
  generalize (lg_sl ([.ref h, .int a0, .int a1]) ++ List.replicate (3 - (lg_sl ([.ref h, .int a0, .int a1])).length) Slot.unset).toArray = ls at hl ⊢
  have hl : lv_has ls 3 [(0, .ref h), (1, .int a0), (2, .int a1)] := hl
  have hf : (if a1 < (1 : Int32) then ((lfX1_jacobi K K) σ) else (dz_l (a1 - a1 / 2 * 2) fun x1 => if x1 = (0 : Int32) then ((lfX1_jacobi K K) σ) else (dz_b (fnX1_signOf K (Int32.toInt64 a0) (Int32.toInt64 a1)) fun x2 => some (x2, σ))) : Option (Int32 × pM)) = some res := hf
  have ih := wlX1_jacobi (l := l) (e := e) (below := below) (h := h) (ad := ad) (cA := cA) hci hA hK K res a0 a1 hx hb hr hlocks hml hown hts K
  refine lv_iload_n hx hb dX1_jacobi_0 rfl (lv_at hl 2 rfl) ?_
  refine lv_iconst (v := 1) hx hb dX1_jacobi_1 (by decide) ?_
  refine lv_icmp_lt (tgt := 11) hx hb dX1_jacobi_2 (by decide) (fun c2 => ?_) (fun c2 => ?_)
  · have hf := dz_t c2 hf
    exact ih σ H locs hP hD hS ls (lv_sub hl [] rfl) hf
  · have hf := dz_f c2 hf
    refine lv_iload_n hx hb dX1_jacobi_5 rfl (lv_at hl 2 rfl) ?_
    refine lv_iconst (v := 2) hx hb dX1_jacobi_6 (by decide) ?_
    refine lv_irem hx hb dX1_jacobi_7 (by decide) ?_
    refine lv_topi (fun x1 e_x1 => ?_)
    have hf := dz_ls e_x1 hf
    refine lv_if_ne (tgt := 16) hx hb dX1_jacobi_8 (by decide) (fun c8 => ?_) (fun c8 => ?_)
    · have hf := dz_f c8 hf
      refine lv_iload_n hx hb dX1_jacobi_16 rfl (lv_at hl 1 rfl) ?_
      refine lv_i2l hx hb dX1_jacobi_17 (rfl : _ = Int32.toInt64 a0) ?_
      refine lv_iload_n hx hb dX1_jacobi_18 rfl (lv_at hl 2 rfl) ?_
      refine lv_i2l hx hb dX1_jacobi_19 (rfl : _ = Int32.toInt64 a1) ?_
      obtain ⟨x2, hx2, hf⟩ := dz_bo hf
      refine va_calli (va_runS (As := [.long (Int32.toInt64 a0), .long (Int32.toInt64 a1)]) (rest := []) ⟨hx, hb, hml, hown, hts⟩ (mtX1_signOf l (Int32.toInt64 a0) (Int32.toInt64 a1) K x2 hx2) (va_cwS 2 hts (lw_S q1857 q1858 q88 q1859) rfl rfl rfl (by decide +kernel) ⟨Nat.le_of_ble_eq_true rfl, Nat.le_of_ble_eq_true rfl⟩) ⟨fun a U g mk q => q, fun U hU hW => ⟨rfl, trivial⟩⟩ rfl rfl hl.1 rfl (lv_room (Nat.le_of_ble_eq_true rfl)) dX1_jacobi_20 ⟨Nat.le_refl _, Nat.le_refl _⟩) hS (fun q _ hq => hq.elim) (fun q hq => hq.elim) (fun r u t H1 locs ht hvm hw hB hz hk hS => ?_)
      replace hw := hw.symm; subst hw
      replace hP := dz_keep hP hk
      clear hB hk hz hvm ht; generalize H1 = H at hP hS ⊢
      exact W.iret (v := x2) hx hb hr (fun t ht hW => ⟨⟨x2, σ, rfl, Option.some.inj hf, by rw [ht]; exact hP, va_K.moved hW.alike hK, hD⟩, hS.F ht⟩) hS.2.2 dX1_jacobi_23
    · have hf := dz_t c8 hf
      exact ih σ H locs hP hD hS ls (lv_sub hl [] rfl) hf

noncomputable def fnX1_u (K : Nat) (a0 : Int32) (a1 : Int32) (a2 : Int32) (a3 : Int32) (σ : pM) : Option (Int32 × pM) := dz_b (fnX1_in K (Int32.toInt64 a0) 1 99) fun x1 => if x1 = (0 : Int32) then (some ((-1), σ)) else (dz_b (fnX1_in K (Int32.toInt64 a1) 1 99) fun x2 => if x2 = (0 : Int32) then (some ((-1), σ)) else (if a2 < (0 : Int32) then (some ((-1), σ)) else (dz_b (fnX1_in K (Int32.toInt64 a3) 1 1000000000) fun x3 => if x3 = (0 : Int32) then (some ((-1), σ)) else (dz_c (fnX1_sequence K (Int32.toInt64 a0) (Int32.toInt64 a1) (Int32.toInt64 a2) (Int32.toInt64 a3) σ) fun x4 s5 => some (Int64.toInt32 x4, s5)))))
set_option maxHeartbeats 4000000 in
set_option maxRecDepth 100000 in
theorem mtX1_u (l : Launch) (D : va_G) (cl : List vw_C) (ci : Nat) (hci : cl[ci]? = some (RX1, TX1, 35)) (h : Nat) (ad : Nat → Nat) (cA : Nat → ClassId) (sz : Nat) (σ : pM) (a0 : Int32) (a1 : Int32) (a2 : Int32) (a3 : Int32) (K : Nat) (res : (Int32 × pM)) (hf : fnX1_u K a0 a1 a2 a3 σ = some res) : Met l yX1_u (ws_ yX1_u cX1_u 5 (some .int)) ({ frames := 2, cells := 0, slots := 0, locals := 56 }) (mPc D cl ci h ad cA sz σ [.ref h, .int a0, .int a1, .int a2, .int a3]) (mQi D cl ci h ad cA (va_A (mw ci h ad cA σ) sz) res) 0 0 (va_A (mw ci h ad cA σ) sz) := by
  refine Met.ofW (cc := cX1_u) (maxL := 5) (ret := some .int) (by decide +kernel) rfl ?_
  intro p e s m args below meth c s₁ B hml hv
  obtain ⟨rfl, hsz, hP, hK, hD0⟩ := hv
  have hx := B.exec
  have hb := B.bytes
  have hr := B.returns
  have hts := atoms_spec (ws := ws_ yX1_u cX1_u 5 (some .int)) B.pre
  have hts : ∀ w ∈ lw_all, w.before _ s = true := fun w h => hts w (List.mem_cons_of_mem _ h)
  have hown : s.vm.findClass RX1 = some m.cls := findClass_of_methodNamed B.named
  have hlocks := B.notSynchronized
  subst hsz
  have hD := hD0.self (sz := s.heap.size)
  generalize hAe : va_A (mw ci h ad cA σ) s.heap.size = A at hD ⊢
  have hA : ∀ q : Nat, s.heap.size ≤ q → A q := fun q h => by rw [← hAe]; exact Or.inr h
  clear hAe hD0
  have hS : va_S A s.heap s.heap [] := va_S.rf
  generalize hHe : s.heap = H at hP hS ⊢
  have hS : va_S A s.heap H [] := by rw [hHe]; exact hS
  generalize ([] : List Loc) = locs at hS ⊢
  have hl := lv_entry ([.ref h, .int a0, .int a1, .int a2, .int a3]) (n := 5) (Nat.le_of_ble_eq_true rfl)
  rw [lg_entry_eq]
  generalize (lg_sl ([.ref h, .int a0, .int a1, .int a2, .int a3]) ++ List.replicate (5 - (lg_sl ([.ref h, .int a0, .int a1, .int a2, .int a3])).length) Slot.unset).toArray = ls at hl ⊢
  have hl : lv_has ls 5 [(0, .ref h), (1, .int a0), (2, .int a1), (3, .int a2), (4, .int a3)] := hl
  have hf : (dz_b (fnX1_in K (Int32.toInt64 a0) 1 99) fun x1 => if x1 = (0 : Int32) then (some ((-1), σ)) else (dz_b (fnX1_in K (Int32.toInt64 a1) 1 99) fun x2 => if x2 = (0 : Int32) then (some ((-1), σ)) else (if a2 < (0 : Int32) then (some ((-1), σ)) else (dz_b (fnX1_in K (Int32.toInt64 a3) 1 1000000000) fun x3 => if x3 = (0 : Int32) then (some ((-1), σ)) else (dz_c (fnX1_sequence K (Int32.toInt64 a0) (Int32.toInt64 a1) (Int32.toInt64 a2) (Int32.toInt64 a3) σ) fun x4 s5 => some (Int64.toInt32 x4, s5))))) : Option (Int32 × pM)) = some res := hf
  refine lv_iload_n hx hb dX1_u_0 rfl (lv_at hl 1 rfl) ?_
  refine lv_i2l hx hb dX1_u_1 (rfl : _ = Int32.toInt64 a0) ?_
  refine lv_lconst (v := 1) hx hb dX1_u_2 rfl ?_
  refine lv_ldc2 (v := 99) hx hb hown (hts _ q2025) dX1_u_3 ?_
  obtain ⟨x1, hx1, hf⟩ := dz_bo hf
  refine va_calli (va_runS (As := [.long (Int32.toInt64 a0), .long 1, .long 99]) (rest := []) ⟨hx, hb, hml, hown, hts⟩ (mtX1_in l (Int32.toInt64 a0) 1 99 K x1 hx1) (va_cwS 3 hts (lw_S q1783 q1784 q88 q1785) rfl rfl rfl (by decide +kernel) ⟨Nat.le_of_ble_eq_true rfl, Nat.le_of_ble_eq_true rfl⟩) ⟨fun a U g mk q => q, fun U hU hW => ⟨rfl, trivial⟩⟩ rfl rfl hl.1 rfl (lv_room (Nat.le_of_ble_eq_true rfl)) dX1_u_6 ⟨Nat.le_refl _, Nat.le_refl _⟩) hS (fun q _ hq => hq.elim) (fun q hq => hq.elim) (fun r u t H1 locs ht hvm hw hB hz hk hS => ?_)
  replace hw := hw.symm; subst hw
  replace hP := dz_keep hP hk
  clear hB hk hz hvm ht; generalize H1 = H at hP hS ⊢
  refine lv_if_eq (tgt := 41) hx hb dX1_u_9 (by decide) (fun c9 => ?_) (fun c9 => ?_)
  · have hf := dz_t c9 hf
    refine lv_iconst (v := (-1)) hx hb dX1_u_41 (by decide) ?_
    exact W.iret (v := (-1)) hx hb hr (fun t ht hW => ⟨⟨(-1), σ, rfl, Option.some.inj hf, by rw [ht]; exact hP, va_K.moved hW.alike hK, hD⟩, hS.F ht⟩) hS.2.2 dX1_u_42
  · have hf := dz_f c9 hf
    refine lv_iload_n hx hb dX1_u_12 rfl (lv_at hl 2 rfl) ?_
    refine lv_i2l hx hb dX1_u_13 (rfl : _ = Int32.toInt64 a1) ?_
    refine lv_lconst (v := 1) hx hb dX1_u_14 rfl ?_
    refine lv_ldc2 (v := 99) hx hb hown (hts _ q2025) dX1_u_15 ?_
    obtain ⟨x2, hx2, hf⟩ := dz_bo hf
    refine va_calli (va_runS (As := [.long (Int32.toInt64 a1), .long 1, .long 99]) (rest := []) ⟨hx, hb, hml, hown, hts⟩ (mtX1_in l (Int32.toInt64 a1) 1 99 K x2 hx2) (va_cwS 3 hts (lw_S q1783 q1784 q88 q1785) rfl rfl rfl (by decide +kernel) ⟨Nat.le_of_ble_eq_true rfl, Nat.le_of_ble_eq_true rfl⟩) ⟨fun a U g mk q => q, fun U hU hW => ⟨rfl, trivial⟩⟩ rfl rfl hl.1 rfl (lv_room (Nat.le_of_ble_eq_true rfl)) dX1_u_18 ⟨Nat.le_refl _, Nat.le_refl _⟩) hS (fun q _ hq => hq.elim) (fun q hq => hq.elim) (fun r u t H1 locs ht hvm hw hB hz hk hS => ?_)
    replace hw := hw.symm; subst hw
    replace hP := dz_keep hP hk
    clear hB hk hz hvm ht; generalize H1 = H at hP hS ⊢
    refine lv_if_eq (tgt := 41) hx hb dX1_u_21 (by decide) (fun c21 => ?_) (fun c21 => ?_)
    · have hf := dz_t c21 hf
      refine lv_iconst (v := (-1)) hx hb dX1_u_41 (by decide) ?_
      exact W.iret (v := (-1)) hx hb hr (fun t ht hW => ⟨⟨(-1), σ, rfl, Option.some.inj hf, by rw [ht]; exact hP, va_K.moved hW.alike hK, hD⟩, hS.F ht⟩) hS.2.2 dX1_u_42
    · have hf := dz_f c21 hf
      refine lv_iload_n hx hb dX1_u_24 rfl (lv_at hl 3 rfl) ?_
      refine lv_if_lt (tgt := 41) hx hb dX1_u_25 (by decide) (fun c25 => ?_) (fun c25 => ?_)
      · have hf := dz_t c25 hf
        refine lv_iconst (v := (-1)) hx hb dX1_u_41 (by decide) ?_
        exact W.iret (v := (-1)) hx hb hr (fun t ht hW => ⟨⟨(-1), σ, rfl, Option.some.inj hf, by rw [ht]; exact hP, va_K.moved hW.alike hK, hD⟩, hS.F ht⟩) hS.2.2 dX1_u_42
      · have hf := dz_f c25 hf
        refine lv_iload hx hb dX1_u_28 (lv_at hl 4 rfl) ?_
        refine lv_i2l hx hb dX1_u_30 (rfl : _ = Int32.toInt64 a3) ?_
        refine lv_lconst (v := 1) hx hb dX1_u_31 rfl ?_
        refine lv_ldc2 (v := 1000000000) hx hb hown (hts _ q1790) dX1_u_32 ?_
        obtain ⟨x3, hx3, hf⟩ := dz_bo hf
        refine va_calli (va_runS (As := [.long (Int32.toInt64 a3), .long 1, .long 1000000000]) (rest := []) ⟨hx, hb, hml, hown, hts⟩ (mtX1_in l (Int32.toInt64 a3) 1 1000000000 K x3 hx3) (va_cwS 3 hts (lw_S q1783 q1784 q88 q1785) rfl rfl rfl (by decide +kernel) ⟨Nat.le_of_ble_eq_true rfl, Nat.le_of_ble_eq_true rfl⟩) ⟨fun a U g mk q => q, fun U hU hW => ⟨rfl, trivial⟩⟩ rfl rfl hl.1 rfl (lv_room (Nat.le_of_ble_eq_true rfl)) dX1_u_35 ⟨Nat.le_refl _, Nat.le_refl _⟩) hS (fun q _ hq => hq.elim) (fun q hq => hq.elim) (fun r u t H1 locs ht hvm hw hB hz hk hS => ?_)
        replace hw := hw.symm; subst hw
        replace hP := dz_keep hP hk
        clear hB hk hz hvm ht; generalize H1 = H at hP hS ⊢
        refine lv_if_ne (tgt := 43) hx hb dX1_u_38 (by decide) (fun c38 => ?_) (fun c38 => ?_)
        · have hf := dz_f c38 hf
          refine lv_aload_n hx hb dX1_u_43 rfl (lv_at hl 0 rfl) ?_
          refine lv_iload_n hx hb dX1_u_44 rfl (lv_at hl 1 rfl) ?_
          refine lv_i2l hx hb dX1_u_45 (rfl : _ = Int32.toInt64 a0) ?_
          refine lv_iload_n hx hb dX1_u_46 rfl (lv_at hl 2 rfl) ?_
          refine lv_i2l hx hb dX1_u_47 (rfl : _ = Int32.toInt64 a1) ?_
          refine lv_iload_n hx hb dX1_u_48 rfl (lv_at hl 3 rfl) ?_
          refine lv_i2l hx hb dX1_u_49 (rfl : _ = Int32.toInt64 a2) ?_
          refine lv_iload hx hb dX1_u_50 (lv_at hl 4 rfl) ?_
          refine lv_i2l hx hb dX1_u_52 (rfl : _ = Int32.toInt64 a3) ?_
          obtain ⟨x4, s5, hx4, hf⟩ := dz_co hf
          have hFc := dz_free hD hS hA
          refine va_calll (va_runV (As := [.long (Int32.toInt64 a0), .long (Int32.toInt64 a1), .long (Int32.toInt64 a2), .long (Int32.toInt64 a3)]) (rest := []) ⟨hx, hb, hml, hown, hts⟩ (mtX1_sequence l D cl ci hci h ad cA H.size σ (Int32.toInt64 a0) (Int32.toInt64 a1) (Int32.toInt64 a2) (Int32.toInt64 a3) K (x4, s5) hx4) (cwV 4 hts (lw_V q1863 q1865 qs46 q88 q1866) rfl rfl rfl (by decide +kernel) ⟨Nat.le_of_ble_eq_true rfl, Nat.le_of_ble_eq_true rfl⟩) (m_preV hci hK hP hD) rfl rfl hl.1 rfl (lv_room (Nat.le_of_ble_eq_true rfl)) dX1_u_53 ⟨Nat.le_refl _, Nat.le_refl _⟩) hS (fun q _ hq => hFc q hq) hFc (fun r u t H1 locs ht hvm hw hB hz hk hS => ?_)
          obtain ⟨hw1, hw2⟩ := Prod.mk.inj hw.symm; subst hw1; subst hw2
          replace hP := m_back ht hB
          replace hD := mw_D s5 hD
          clear hB hk hz hvm ht hFc; generalize H1 = H at hP hS ⊢
          refine lv_l2i hx hb dX1_u_56 (rfl : _ = Int64.toInt32 x4) ?_
          exact W.iret (v := Int64.toInt32 x4) hx hb hr (fun t ht hW => ⟨⟨Int64.toInt32 x4, s5, rfl, Option.some.inj hf, by rw [ht]; exact hP, va_K.moved hW.alike hK, hD⟩, hS.F ht⟩) hS.2.2 dX1_u_57
        · have hf := dz_t c38 hf
          refine lv_iconst (v := (-1)) hx hb dX1_u_41 (by decide) ?_
          exact W.iret (v := (-1)) hx hb hr (fun t ht hW => ⟨⟨(-1), σ, rfl, Option.some.inj hf, by rw [ht]; exact hP, va_K.moved hW.alike hK, hD⟩, hS.F ht⟩) hS.2.2 dX1_u_42

noncomputable def lfX1_units (K : Nat) : Nat → (Int64 → Int32 → pM → Option (Int32 × pM)) := Nat.rec (motive := fun _ => (Int64 → Int32 → pM → Option (Int32 × pM))) (fun _ _ _ => none) (fun _ G => (fun v2 v4 σ => dz_l (σ.1 6) fun x1 => if x1 ≤ v4 then (some (Int64.toInt32 v2, σ)) else (if ¬ (v4 < 0 ∨ 12 ≤ Int32.toNatClampNeg v4) then (dz_l (σ.2.2.1 4 (Int32.toNatClampNeg v4)) fun x3 => dz_l (Int32.toInt64 x3) fun x4 => if ¬ x4 = 0 then (dz_l (v2 / x4) fun x6 => if ¬ (v4 < 0 ∨ 12 ≤ Int32.toNatClampNeg v4) then (dz_l (σ.2.2.1 4 (Int32.toNatClampNeg v4)) fun x8 => dz_l (x6 * (Int32.toInt64 (x8 - 1))) fun x9 => dz_l (v4 + 1) fun x10 => G x9 x10 σ) else none) else none) else none)))
noncomputable def fnX1_units (K : Nat) (a0 : Int32) (σ : pM) : Option (Int32 × pM) := dz_b (fnX1_in K (Int32.toInt64 a0) 1 1000000000) fun x1 => if x1 = (0 : Int32) then (some ((-1), σ)) else (dz_b (fnX1_laysFactors K (Int32.toInt64 a0) σ) fun s3 => dz_l (Int32.toInt64 a0) fun x4 => (lfX1_units K K) x4 0 s3)
set_option maxHeartbeats 4000000 in
set_option maxRecDepth 100000 in
theorem wlX1_units {p : Program} {l : Launch} {e : Env} {s : State} {m : MethodId} {below : List Frame} {meth : Method} {c : Code} {D : va_G} {cl : List vw_C} {ci : Nat} (hci : cl[ci]? = some (RX1, TX1, 35)) {h : Nat} {ad : Nat → Nat} {cA : Nat → ClassId} {A : Nat → Prop} (hA : ∀ q : Nat, s.heap.size ≤ q → A q) (hK : va_K D cl (mtys cA) s) (K : Nat) (res : (Int32 × pM)) (a0 : Int32) (hx : p.tables.exec = Jvm.exec) (hb : c.code = cX1_units) (hr : meth.sig.returnType = some .int) (hlocks : meth.locks = false) (hml : c.maxLocals = 5) (hown : s.vm.findClass RX1 = some m.cls) (hts : ∀ w ∈ lw_all, w.before ([.ref h, .int a0] : List Value).toArray s = true) : ∀ k : Nat, (∀ (v2 : Int64) (v4 : Int32) (σ : pM) (H : Heap) (locs : List Loc), va_P D cl (mw ci h ad cA σ) H → va_D A (mw ci h ad cA σ) → va_S A s.heap H locs → ∀ (ls : Array Slot), lv_has ls 5 [(0, .ref h), (2, .long v2), (4, .int v4)] → (lfX1_units K k) v2 v4 σ = some res → W p l e (headSpec (ws_ yX1_units cX1_units 5 (some .int)) ({ frames := 1, cells := 0, slots := 0, locals := 26 })).room s m ([.ref h, .int a0] : List Value).toArray below meth c H locs 0 0 (MQ below (mQi D cl ci h ad cA A res) ([.ref h, .int a0] : List Value).toArray s 0 0 A) (F0 m 26 ls [])) := by
  intro k
  induction k with
  | zero =>
    exact fun _ _ _ _ _ _ _ _ _ _ hf => (by cases hf)
  | succ k ih =>
    · intro v2 v4 σ H locs hP hD hS ls hl hf
      have hf : (dz_l (σ.1 6) fun x1 => if x1 ≤ v4 then (some (Int64.toInt32 v2, σ)) else (if ¬ (v4 < 0 ∨ 12 ≤ Int32.toNatClampNeg v4) then (dz_l (σ.2.2.1 4 (Int32.toNatClampNeg v4)) fun x3 => dz_l (Int32.toInt64 x3) fun x4 => if ¬ x4 = 0 then (dz_l (v2 / x4) fun x6 => if ¬ (v4 < 0 ∨ 12 ≤ Int32.toNatClampNeg v4) then (dz_l (σ.2.2.1 4 (Int32.toNatClampNeg v4)) fun x8 => dz_l (x6 * (Int32.toInt64 (x8 - 1))) fun x9 => dz_l (v4 + 1) fun x10 => (lfX1_units K k) x9 x10 σ) else none) else none) else none) : Option (Int32 × pM)) = some res := hf
      refine lv_iload hx hb dX1_units_26 (lv_at hl 2 rfl) ?_
      refine lv_aload_n hx hb dX1_units_28 rfl (lv_at hl 0 rfl) ?_
      refine va_get (C := RX1) (T := TX1) (N := 35) (fs := mwF ad σ) (v := .int (σ.1 6)) hx hb hts in_X1 hown hK hP 0 rfl hci 6 (by decide) (hts _ q1677) (fun _ hq => hq) rfl dX1_units_29 ?_
      refine lv_topi (fun x1 e_x1 => ?_)
      have hf := dz_ls e_x1 hf
      refine lv_icmp_ge (tgt := 63) hx hb dX1_units_32 (by decide) (fun c32 => ?_) (fun c32 => ?_)
      · have hf := dz_t c32 hf
        refine lv_lload_n hx hb dX1_units_63 rfl (lv_at hl 1 rfl) ?_
        refine lv_l2i hx hb dX1_units_64 (rfl : _ = Int64.toInt32 v2) ?_
        exact W.iret (v := Int64.toInt32 v2) hx hb hr (fun t ht hW => ⟨⟨Int64.toInt32 v2, σ, rfl, Option.some.inj hf, by rw [ht]; exact hP, va_K.moved hW.alike hK, hD⟩, hS.F ht⟩) hS.2.2 dX1_units_65
      · have hf := dz_f c32 hf
        refine lv_lload_n hx hb dX1_units_35 rfl (lv_at hl 1 rfl) ?_
        refine lv_aload_n hx hb dX1_units_36 rfl (lv_at hl 0 rfl) ?_
        refine va_get (C := RX1) (T := TX1) (N := 35) (fs := mwF ad σ) (v := .ref (ad 4)) hx hb hts in_X1 hown hK hP 0 rfl hci 4 (by decide) (hts _ q1675) (fun _ hq => hq) rfl dX1_units_37 ?_
        refine lv_iload hx hb dX1_units_40 (lv_at hl 2 rfl) ?_
        obtain ⟨g2, hf⟩ := dz_go hf
        refine va_iald hx hb hK hP 4 0 rfl rfl g2 dX1_units_42 ?_
        refine lv_topi (fun x3 e_x3 => ?_)
        have hf := dz_ls e_x3 hf
        refine lv_i2l hx hb dX1_units_43 (rfl : _ = Int32.toInt64 x3) ?_
        refine lv_topl (fun x4 e_x4 => ?_)
        have hf := dz_ls e_x4 hf
        obtain ⟨g5, hf⟩ := dz_go hf
        refine lv_ldiv hx hb dX1_units_44 g5 ?_
        refine lv_topl (fun x6 e_x6 => ?_)
        have hf := dz_ls e_x6 hf
        refine lv_aload_n hx hb dX1_units_45 rfl (lv_at hl 0 rfl) ?_
        refine va_get (C := RX1) (T := TX1) (N := 35) (fs := mwF ad σ) (v := .ref (ad 4)) hx hb hts in_X1 hown hK hP 0 rfl hci 4 (by decide) (hts _ q1675) (fun _ hq => hq) rfl dX1_units_46 ?_
        refine lv_iload hx hb dX1_units_49 (lv_at hl 2 rfl) ?_
        obtain ⟨g7, hf⟩ := dz_go hf
        refine va_iald hx hb hK hP 4 0 rfl rfl g7 dX1_units_51 ?_
        refine lv_topi (fun x8 e_x8 => ?_)
        have hf := dz_ls e_x8 hf
        refine lv_iconst (v := 1) hx hb dX1_units_52 (by decide) ?_
        refine lv_isub hx hb dX1_units_53 ?_
        refine lv_i2l hx hb dX1_units_54 (rfl : _ = Int32.toInt64 (x8 - 1)) ?_
        refine lv_lmul hx hb dX1_units_55 ?_
        refine lv_topl (fun x9 e_x9 => ?_)
        have hf := dz_ls e_x9 hf
        refine lv_lstore_n (lv' := [(2, .long x9), (0, .ref h), (4, .int v4)]) hx hb dX1_units_56 rfl hl (by decide) rfl (fun ls hl => ?_)
        obtain ⟨x10, e_x10, hf⟩ := dz_lo hf
        refine lv_iinc (v := x10) (lv' := [(4, .int x10), (2, .long x9), (0, .ref h)]) hx hb dX1_units_57 hl (k := 2) rfl (by rw [e_x10]; rfl) (by decide) rfl (fun ls hl => ?_)
        refine lv_goto (tgt := 26) hx hb dX1_units_60 (by decide) ?_
        exact ih x9 x10 σ H locs hP hD hS ls (lv_sub hl [2, 1, 0] rfl) hf
set_option maxHeartbeats 4000000 in
set_option maxRecDepth 100000 in
theorem mtX1_units (l : Launch) (D : va_G) (cl : List vw_C) (ci : Nat) (hci : cl[ci]? = some (RX1, TX1, 35)) (h : Nat) (ad : Nat → Nat) (cA : Nat → ClassId) (sz : Nat) (σ : pM) (a0 : Int32) (K : Nat) (res : (Int32 × pM)) (hf : fnX1_units K a0 σ = some res) : Met l yX1_units (ws_ yX1_units cX1_units 5 (some .int)) ({ frames := 1, cells := 0, slots := 0, locals := 26 }) (mPc D cl ci h ad cA sz σ [.ref h, .int a0]) (mQi D cl ci h ad cA (va_A (mw ci h ad cA σ) sz) res) 0 0 (va_A (mw ci h ad cA σ) sz) := by
  refine Met.ofW (cc := cX1_units) (maxL := 5) (ret := some .int) (by decide +kernel) rfl ?_
  intro p e s m args below meth c s₁ B hml hv
  obtain ⟨rfl, hsz, hP, hK, hD0⟩ := hv
  have hx := B.exec
  have hb := B.bytes
  have hr := B.returns
  have hts := atoms_spec (ws := ws_ yX1_units cX1_units 5 (some .int)) B.pre
  have hts : ∀ w ∈ lw_all, w.before _ s = true := fun w h => hts w (List.mem_cons_of_mem _ h)
  have hown : s.vm.findClass RX1 = some m.cls := findClass_of_methodNamed B.named
  have hlocks := B.notSynchronized
  subst hsz
  have hD := hD0.self (sz := s.heap.size)
  generalize hAe : va_A (mw ci h ad cA σ) s.heap.size = A at hD ⊢
  have hA : ∀ q : Nat, s.heap.size ≤ q → A q := fun q h => by rw [← hAe]; exact Or.inr h
  clear hAe hD0
  have hS : va_S A s.heap s.heap [] := va_S.rf
  generalize hHe : s.heap = H at hP hS ⊢
  have hS : va_S A s.heap H [] := by rw [hHe]; exact hS
  generalize ([] : List Loc) = locs at hS ⊢
  have hl := lv_entry ([.ref h, .int a0]) (n := 5) (Nat.le_of_ble_eq_true rfl)
  rw [lg_entry_eq]
  generalize (lg_sl ([.ref h, .int a0]) ++ List.replicate (5 - (lg_sl ([.ref h, .int a0])).length) Slot.unset).toArray = ls at hl ⊢
  have hl : lv_has ls 5 [(0, .ref h), (1, .int a0)] := hl
  have hf : (dz_b (fnX1_in K (Int32.toInt64 a0) 1 1000000000) fun x1 => if x1 = (0 : Int32) then (some ((-1), σ)) else (dz_b (fnX1_laysFactors K (Int32.toInt64 a0) σ) fun s3 => dz_l (Int32.toInt64 a0) fun x4 => (lfX1_units K K) x4 0 s3) : Option (Int32 × pM)) = some res := hf
  have ih := wlX1_units (l := l) (e := e) (below := below) (h := h) (ad := ad) (cA := cA) hci hA hK K res a0 hx hb hr hlocks hml hown hts K
  refine lv_iload_n hx hb dX1_units_0 rfl (lv_at hl 1 rfl) ?_
  refine lv_i2l hx hb dX1_units_1 (rfl : _ = Int32.toInt64 a0) ?_
  refine lv_lconst (v := 1) hx hb dX1_units_2 rfl ?_
  refine lv_ldc2 (v := 1000000000) hx hb hown (hts _ q1790) dX1_units_3 ?_
  obtain ⟨x1, hx1, hf⟩ := dz_bo hf
  refine va_calli (va_runS (As := [.long (Int32.toInt64 a0), .long 1, .long 1000000000]) (rest := []) ⟨hx, hb, hml, hown, hts⟩ (mtX1_in l (Int32.toInt64 a0) 1 1000000000 K x1 hx1) (va_cwS 3 hts (lw_S q1783 q1784 q88 q1785) rfl rfl rfl (by decide +kernel) ⟨Nat.le_of_ble_eq_true rfl, Nat.le_of_ble_eq_true rfl⟩) ⟨fun a U g mk q => q, fun U hU hW => ⟨rfl, trivial⟩⟩ rfl rfl hl.1 rfl (lv_room (Nat.le_of_ble_eq_true rfl)) dX1_units_6 ⟨Nat.le_refl _, Nat.le_refl _⟩) hS (fun q _ hq => hq.elim) (fun q hq => hq.elim) (fun r u t H1 locs ht hvm hw hB hz hk hS => ?_)
  replace hw := hw.symm; subst hw
  replace hP := dz_keep hP hk
  clear hB hk hz hvm ht; generalize H1 = H at hP hS ⊢
  refine lv_if_ne (tgt := 14) hx hb dX1_units_9 (by decide) (fun c9 => ?_) (fun c9 => ?_)
  · have hf := dz_f c9 hf
    refine lv_aload_n hx hb dX1_units_14 rfl (lv_at hl 0 rfl) ?_
    refine lv_iload_n hx hb dX1_units_15 rfl (lv_at hl 1 rfl) ?_
    refine lv_i2l hx hb dX1_units_16 (rfl : _ = Int32.toInt64 a0) ?_
    obtain ⟨s3, hx2, hf⟩ := dz_bo hf
    have hFc := dz_free hD hS hA
    refine va_callv (va_runV (As := [.long (Int32.toInt64 a0)]) (rest := []) ⟨hx, hb, hml, hown, hts⟩ (mtX1_laysFactors l D cl ci hci h ad cA H.size σ (Int32.toInt64 a0) K s3 hx2) (cwV 1 hts (lw_V q1883 q1885 qs51 q88 q1886) rfl rfl rfl (by decide +kernel) ⟨Nat.le_of_ble_eq_true rfl, Nat.le_of_ble_eq_true rfl⟩) (m_preV hci hK hP hD) rfl rfl hl.1 rfl (lv_room (Nat.le_of_ble_eq_true rfl)) dX1_units_17 ⟨Nat.le_refl _, Nat.le_refl _⟩) hS (fun q _ hq => hFc q hq) hFc (fun u t H1 locs ht hvm hw hB hz hk hS => ?_)
    replace hw := hw.symm; subst hw
    replace hP := m_back ht hB
    replace hD := mw_D s3 hD
    clear hB hk hz hvm ht hFc; generalize H1 = H at hP hS ⊢
    refine lv_iload_n hx hb dX1_units_20 rfl (lv_at hl 1 rfl) ?_
    refine lv_i2l hx hb dX1_units_21 (rfl : _ = Int32.toInt64 a0) ?_
    refine lv_topl (fun x4 e_x4 => ?_)
    have hf := dz_ls e_x4 hf
    refine lv_lstore_n (lv' := [(2, .long x4), (0, .ref h), (1, .int a0)]) hx hb dX1_units_22 rfl hl (by decide) rfl (fun ls hl => ?_)
    refine lv_iconst (v := 0) hx hb dX1_units_23 (by decide) ?_
    refine lv_istore (lv' := [(4, .int 0), (2, .long x4), (0, .ref h), (1, .int a0)]) hx hb dX1_units_24 hl (by decide) rfl (fun ls hl => ?_)
    exact ih x4 0 s3 H locs hP hD hS ls (lv_sub hl [2, 1, 0] rfl) hf
  · have hf := dz_t c9 hf
    refine lv_iconst (v := (-1)) hx hb dX1_units_12 (by decide) ?_
    exact W.iret (v := (-1)) hx hb hr (fun t ht hW => ⟨⟨(-1), σ, rfl, Option.some.inj hf, by rw [ht]; exact hP, va_K.moved hW.alike hK, hD⟩, hS.F ht⟩) hS.2.2 dX1_units_13

noncomputable def lfX1_count (K : Nat) : Nat → (Int32 → Int32 → pM → Option (Int32 × pM)) × (Int32 → Int32 → pM → Option (Int32 × pM)) × (Int32 → Int32 → pM → Option (Int32 × pM)) × (Int32 → Int32 → pM → Option (Int32 × pM)) × (Int32 → Int32 → pM → Option (Int32 × pM)) × (Int32 → Int32 → pM → Option (Int32 × pM)) × (Int32 → Int32 → pM → Option (Int32 × pM)) × (Int32 → Int32 → pM → Option (Int32 × pM)) × (Int32 → Int32 → pM → Option (Int32 × pM)) := Nat.rec (motive := fun _ => (Int32 → Int32 → pM → Option (Int32 × pM)) × (Int32 → Int32 → pM → Option (Int32 × pM)) × (Int32 → Int32 → pM → Option (Int32 × pM)) × (Int32 → Int32 → pM → Option (Int32 × pM)) × (Int32 → Int32 → pM → Option (Int32 × pM)) × (Int32 → Int32 → pM → Option (Int32 × pM)) × (Int32 → Int32 → pM → Option (Int32 × pM)) × (Int32 → Int32 → pM → Option (Int32 × pM)) × (Int32 → Int32 → pM → Option (Int32 × pM))) ((fun _ _ _ => none), (fun _ _ _ => none), (fun _ _ _ => none), (fun _ _ _ => none), (fun _ _ _ => none), (fun _ _ _ => none), (fun _ _ _ => none), (fun _ _ _ => none), (fun _ _ _ => none)) (fun _ G => ((fun v2 v3 σ => dz_l (σ.1 7) fun x1 => if x1 ≤ v3 then (some (v2, σ)) else (if ¬ (v3 < 0 ∨ 60 ≤ Int32.toNatClampNeg v3) then (dz_l (σ.2.2.1 19 (Int32.toNatClampNeg v3)) fun x3 => if x3 = (0 : Int32) then (G.2.1 v2 v3 σ) else (dz_l (v2 + 1) fun x4 => G.2.1 x4 v3 σ)) else none)), (fun v2 v3 σ => dz_l (v3 + 1) fun x1 => G.1 v2 x1 σ), (fun v2 v3 σ => dz_l (σ.1 7) fun x1 => if x1 ≤ v3 then (some (v2, σ)) else (if ¬ (v3 < 0 ∨ 116 ≤ Int32.toNatClampNeg v3) then (dz_l (σ.2.2.1 12 (Int32.toNatClampNeg v3)) fun x3 => if ¬ (v3 < 0 ∨ 116 ≤ Int32.toNatClampNeg v3) then (dz_l (σ.2.2.1 13 (Int32.toNatClampNeg v3)) fun x5 => dz_l (v2 + (x3 + x5)) fun x6 => dz_l (v3 + 1) fun x7 => G.2.2.1 x6 x7 σ) else none) else none)), (fun v2 v3 σ => dz_l (σ.1 7) fun x1 => if x1 ≤ v3 then (some (v2, σ)) else (if ¬ (v3 < 0 ∨ 60 ≤ Int32.toNatClampNeg v3) then (dz_l (σ.2.2.1 19 (Int32.toNatClampNeg v3)) fun x3 => if x3 = (0 : Int32) then (G.2.2.2.2.1 v2 v3 σ) else (if ¬ (v3 < 0 ∨ 116 ≤ Int32.toNatClampNeg v3) then (dz_l (σ.2.2.1 8 (Int32.toNatClampNeg v3)) fun x5 => if x5 ≤ v2 then (G.2.2.2.2.1 v2 v3 σ) else (if ¬ (v3 < 0 ∨ 116 ≤ Int32.toNatClampNeg v3) then (dz_l (σ.2.2.1 8 (Int32.toNatClampNeg v3)) fun x7 => G.2.2.2.2.1 x7 v3 σ) else none)) else none)) else none)), (fun v2 v3 σ => dz_l (v3 + 1) fun x1 => G.2.2.2.1 v2 x1 σ), (fun v2 v3 σ => dz_l (σ.1 7) fun x1 => if x1 ≤ v3 then (some (v2, σ)) else (if ¬ (v3 < 0 ∨ 60 ≤ Int32.toNatClampNeg v3) then (dz_l (σ.2.2.1 19 (Int32.toNatClampNeg v3)) fun x3 => if x3 = (0 : Int32) then (G.2.2.2.2.2.2.1 v2 v3 σ) else (dz_c (fnX1_deepOf K v3 σ) fun x4 s5 => if x4 ≤ v2 then (G.2.2.2.2.2.2.1 v2 v3 s5) else (dz_c (fnX1_deepOf K v3 s5) fun x6 s7 => G.2.2.2.2.2.2.1 x6 v3 s7))) else none)), (fun v2 v3 σ => dz_l (v3 + 1) fun x1 => G.2.2.2.2.2.1 v2 x1 σ), (fun v2 v3 σ => dz_l (σ.1 7) fun x1 => if x1 ≤ v3 then (some (v2, σ)) else (if ¬ (v3 < 0 ∨ 60 ≤ Int32.toNatClampNeg v3) then (dz_l (σ.2.2.1 19 (Int32.toNatClampNeg v3)) fun x3 => if x3 = (0 : Int32) then (G.2.2.2.2.2.2.2.2 v2 v3 σ) else (dz_c (fnX1_costsOf K v3 σ) fun x4 s5 => dz_l (v2 + x4) fun x6 => G.2.2.2.2.2.2.2.2 x6 v3 s5)) else none)), (fun v2 v3 σ => dz_l (v3 + 1) fun x1 => G.2.2.2.2.2.2.2.1 v2 x1 σ)))
noncomputable def fnX1_count (K : Nat) (a0 : Int32) (σ : pM) : Option (Int32 × pM) := dz_b (fnX1_laysRight K σ) fun s2 => if a0 = (0 : Int32) then (dz_l (s2.1 7) fun x3 => some (x3, s2)) else (if a0 = (1 : Int32) then ((lfX1_count K K).1 0 0 s2) else (if a0 = (2 : Int32) then ((lfX1_count K K).2.2.1 0 0 s2) else (if a0 = (3 : Int32) then (dz_l (s2.1 24) fun x4 => some (x4, s2)) else (if a0 = (4 : Int32) then ((lfX1_count K K).2.2.2.1 0 0 s2) else (if a0 = (5 : Int32) then ((lfX1_count K K).2.2.2.2.2.1 0 0 s2) else (if a0 = (6 : Int32) then ((lfX1_count K K).2.2.2.2.2.2.2.1 0 0 s2) else (some ((-1), s2))))))))
set_option maxHeartbeats 4000000 in
set_option maxRecDepth 100000 in
theorem wlX1_count {p : Program} {l : Launch} {e : Env} {s : State} {m : MethodId} {below : List Frame} {meth : Method} {c : Code} {D : va_G} {cl : List vw_C} {ci : Nat} (hci : cl[ci]? = some (RX1, TX1, 35)) {h : Nat} {ad : Nat → Nat} {cA : Nat → ClassId} {A : Nat → Prop} (hA : ∀ q : Nat, s.heap.size ≤ q → A q) (hK : va_K D cl (mtys cA) s) (K : Nat) (res : (Int32 × pM)) (a0 : Int32) (hx : p.tables.exec = Jvm.exec) (hb : c.code = cX1_count) (hr : meth.sig.returnType = some .int) (hlocks : meth.locks = false) (hml : c.maxLocals = 4) (hown : s.vm.findClass RX1 = some m.cls) (hts : ∀ w ∈ lw_all, w.before ([.ref h, .int a0] : List Value).toArray s = true) : ∀ k : Nat, (∀ (v2 : Int32) (v3 : Int32) (σ : pM) (H : Heap) (locs : List Loc), va_P D cl (mw ci h ad cA σ) H → va_D A (mw ci h ad cA σ) → va_S A s.heap H locs → ∀ (ls : Array Slot), lv_has ls 4 [(0, .ref h), (2, .int v2), (3, .int v3)] → (lfX1_count K k).1 v2 v3 σ = some res → W p l e (headSpec (ws_ yX1_count cX1_count 4 (some .int)) ({ frames := 5, cells := 0, slots := 0, locals := 130 })).room s m ([.ref h, .int a0] : List Value).toArray below meth c H locs 0 0 (MQ below (mQi D cl ci h ad cA A res) ([.ref h, .int a0] : List Value).toArray s 0 0 A) (F0 m 55 ls [])) ∧ (∀ (v2 : Int32) (v3 : Int32) (σ : pM) (H : Heap) (locs : List Loc), va_P D cl (mw ci h ad cA σ) H → va_D A (mw ci h ad cA σ) → va_S A s.heap H locs → ∀ (ls : Array Slot), lv_has ls 4 [(0, .ref h), (2, .int v2), (3, .int v3)] → (lfX1_count K k).2.1 v2 v3 σ = some res → W p l e (headSpec (ws_ yX1_count cX1_count 4 (some .int)) ({ frames := 5, cells := 0, slots := 0, locals := 130 })).room s m ([.ref h, .int a0] : List Value).toArray below meth c H locs 0 0 (MQ below (mQi D cl ci h ad cA A res) ([.ref h, .int a0] : List Value).toArray s 0 0 A) (F0 m 75 ls [])) ∧ (∀ (v2 : Int32) (v3 : Int32) (σ : pM) (H : Heap) (locs : List Loc), va_P D cl (mw ci h ad cA σ) H → va_D A (mw ci h ad cA σ) → va_S A s.heap H locs → ∀ (ls : Array Slot), lv_has ls 4 [(0, .ref h), (2, .int v2), (3, .int v3)] → (lfX1_count K k).2.2.1 v2 v3 σ = some res → W p l e (headSpec (ws_ yX1_count cX1_count 4 (some .int)) ({ frames := 5, cells := 0, slots := 0, locals := 130 })).room s m ([.ref h, .int a0] : List Value).toArray below meth c H locs 0 0 (MQ below (mQi D cl ci h ad cA A res) ([.ref h, .int a0] : List Value).toArray s 0 0 A) (F0 m 85 ls [])) ∧ (∀ (v2 : Int32) (v3 : Int32) (σ : pM) (H : Heap) (locs : List Loc), va_P D cl (mw ci h ad cA σ) H → va_D A (mw ci h ad cA σ) → va_S A s.heap H locs → ∀ (ls : Array Slot), lv_has ls 4 [(0, .ref h), (2, .int v2), (3, .int v3)] → (lfX1_count K k).2.2.2.1 v2 v3 σ = some res → W p l e (headSpec (ws_ yX1_count cX1_count 4 (some .int)) ({ frames := 5, cells := 0, slots := 0, locals := 130 })).room s m ([.ref h, .int a0] : List Value).toArray below meth c H locs 0 0 (MQ below (mQi D cl ci h ad cA A res) ([.ref h, .int a0] : List Value).toArray s 0 0 A) (F0 m 124 ls [])) ∧ (∀ (v2 : Int32) (v3 : Int32) (σ : pM) (H : Heap) (locs : List Loc), va_P D cl (mw ci h ad cA σ) H → va_D A (mw ci h ad cA σ) → va_S A s.heap H locs → ∀ (ls : Array Slot), lv_has ls 4 [(0, .ref h), (2, .int v2), (3, .int v3)] → (lfX1_count K k).2.2.2.2.1 v2 v3 σ = some res → W p l e (headSpec (ws_ yX1_count cX1_count 4 (some .int)) ({ frames := 5, cells := 0, slots := 0, locals := 130 })).room s m ([.ref h, .int a0] : List Value).toArray below meth c H locs 0 0 (MQ below (mQi D cl ci h ad cA A res) ([.ref h, .int a0] : List Value).toArray s 0 0 A) (F0 m 158 ls [])) ∧ (∀ (v2 : Int32) (v3 : Int32) (σ : pM) (H : Heap) (locs : List Loc), va_P D cl (mw ci h ad cA σ) H → va_D A (mw ci h ad cA σ) → va_S A s.heap H locs → ∀ (ls : Array Slot), lv_has ls 4 [(0, .ref h), (2, .int v2), (3, .int v3)] → (lfX1_count K k).2.2.2.2.2.1 v2 v3 σ = some res → W p l e (headSpec (ws_ yX1_count cX1_count 4 (some .int)) ({ frames := 5, cells := 0, slots := 0, locals := 130 })).room s m ([.ref h, .int a0] : List Value).toArray below meth c H locs 0 0 (MQ below (mQi D cl ci h ad cA A res) ([.ref h, .int a0] : List Value).toArray s 0 0 A) (F0 m 168 ls [])) ∧ (∀ (v2 : Int32) (v3 : Int32) (σ : pM) (H : Heap) (locs : List Loc), va_P D cl (mw ci h ad cA σ) H → va_D A (mw ci h ad cA σ) → va_S A s.heap H locs → ∀ (ls : Array Slot), lv_has ls 4 [(0, .ref h), (2, .int v2), (3, .int v3)] → (lfX1_count K k).2.2.2.2.2.2.1 v2 v3 σ = some res → W p l e (headSpec (ws_ yX1_count cX1_count 4 (some .int)) ({ frames := 5, cells := 0, slots := 0, locals := 130 })).room s m ([.ref h, .int a0] : List Value).toArray below meth c H locs 0 0 (MQ below (mQi D cl ci h ad cA A res) ([.ref h, .int a0] : List Value).toArray s 0 0 A) (F0 m 200 ls [])) ∧ (∀ (v2 : Int32) (v3 : Int32) (σ : pM) (H : Heap) (locs : List Loc), va_P D cl (mw ci h ad cA σ) H → va_D A (mw ci h ad cA σ) → va_S A s.heap H locs → ∀ (ls : Array Slot), lv_has ls 4 [(0, .ref h), (2, .int v2), (3, .int v3)] → (lfX1_count K k).2.2.2.2.2.2.2.1 v2 v3 σ = some res → W p l e (headSpec (ws_ yX1_count cX1_count 4 (some .int)) ({ frames := 5, cells := 0, slots := 0, locals := 130 })).room s m ([.ref h, .int a0] : List Value).toArray below meth c H locs 0 0 (MQ below (mQi D cl ci h ad cA A res) ([.ref h, .int a0] : List Value).toArray s 0 0 A) (F0 m 210 ls [])) ∧ (∀ (v2 : Int32) (v3 : Int32) (σ : pM) (H : Heap) (locs : List Loc), va_P D cl (mw ci h ad cA σ) H → va_D A (mw ci h ad cA σ) → va_S A s.heap H locs → ∀ (ls : Array Slot), lv_has ls 4 [(0, .ref h), (2, .int v2), (3, .int v3)] → (lfX1_count K k).2.2.2.2.2.2.2.2 v2 v3 σ = some res → W p l e (headSpec (ws_ yX1_count cX1_count 4 (some .int)) ({ frames := 5, cells := 0, slots := 0, locals := 130 })).room s m ([.ref h, .int a0] : List Value).toArray below meth c H locs 0 0 (MQ below (mQi D cl ci h ad cA A res) ([.ref h, .int a0] : List Value).toArray s 0 0 A) (F0 m 235 ls [])) := by
  intro k
  induction k with
  | zero =>
    exact ⟨fun _ _ _ _ _ _ _ _ _ _ hf => (by cases hf), fun _ _ _ _ _ _ _ _ _ _ hf => (by cases hf), fun _ _ _ _ _ _ _ _ _ _ hf => (by cases hf), fun _ _ _ _ _ _ _ _ _ _ hf => (by cases hf), fun _ _ _ _ _ _ _ _ _ _ hf => (by cases hf), fun _ _ _ _ _ _ _ _ _ _ hf => (by cases hf), fun _ _ _ _ _ _ _ _ _ _ hf => (by cases hf), fun _ _ _ _ _ _ _ _ _ _ hf => (by cases hf), fun _ _ _ _ _ _ _ _ _ _ hf => (by cases hf)⟩
  | succ k ih =>
    refine ⟨?_, ?_, ?_, ?_, ?_, ?_, ?_, ?_, ?_⟩
    · intro v2 v3 σ H locs hP hD hS ls hl hf
      have hf : (dz_l (σ.1 7) fun x1 => if x1 ≤ v3 then (some (v2, σ)) else (if ¬ (v3 < 0 ∨ 60 ≤ Int32.toNatClampNeg v3) then (dz_l (σ.2.2.1 19 (Int32.toNatClampNeg v3)) fun x3 => if x3 = (0 : Int32) then ((lfX1_count K k).2.1 v2 v3 σ) else (dz_l (v2 + 1) fun x4 => (lfX1_count K k).2.1 x4 v3 σ)) else none) : Option (Int32 × pM)) = some res := hf
      refine lv_iload_n hx hb dX1_count_55 rfl (lv_at hl 2 rfl) ?_
      refine lv_aload_n hx hb dX1_count_56 rfl (lv_at hl 0 rfl) ?_
      refine va_get (C := RX1) (T := TX1) (N := 35) (fs := mwF ad σ) (v := .int (σ.1 7)) hx hb hts in_X1 hown hK hP 0 rfl hci 7 (by decide) (hts _ q1678) (fun _ hq => hq) rfl dX1_count_57 ?_
      refine lv_topi (fun x1 e_x1 => ?_)
      have hf := dz_ls e_x1 hf
      refine lv_icmp_ge (tgt := 81) hx hb dX1_count_60 (by decide) (fun c60 => ?_) (fun c60 => ?_)
      · have hf := dz_t c60 hf
        refine lv_iload_n hx hb dX1_count_81 rfl (lv_at hl 1 rfl) ?_
        exact W.iret (v := v2) hx hb hr (fun t ht hW => ⟨⟨v2, σ, rfl, Option.some.inj hf, by rw [ht]; exact hP, va_K.moved hW.alike hK, hD⟩, hS.F ht⟩) hS.2.2 dX1_count_82
      · have hf := dz_f c60 hf
        refine lv_aload_n hx hb dX1_count_63 rfl (lv_at hl 0 rfl) ?_
        refine va_get (C := RX1) (T := TX1) (N := 35) (fs := mwF ad σ) (v := .ref (ad 19)) hx hb hts in_X1 hown hK hP 0 rfl hci 19 (by decide) (hts _ q1690) (fun _ hq => hq) rfl dX1_count_64 ?_
        refine lv_iload_n hx hb dX1_count_67 rfl (lv_at hl 2 rfl) ?_
        obtain ⟨g2, hf⟩ := dz_go hf
        refine va_zald hx hb hK hP 17 2 rfl rfl g2 dX1_count_68 ?_
        refine lv_topi (fun x3 e_x3 => ?_)
        have hf := dz_ls e_x3 hf
        refine lv_if_eq (tgt := 75) hx hb dX1_count_69 (by decide) (fun c69 => ?_) (fun c69 => ?_)
        · have hf := dz_t c69 hf
          exact ih.2.1 v2 v3 σ H locs hP hD hS ls (lv_sub hl [0, 1, 2] rfl) hf
        · have hf := dz_f c69 hf
          obtain ⟨x4, e_x4, hf⟩ := dz_lo hf
          refine lv_iinc (v := x4) (lv' := [(2, .int x4), (0, .ref h), (3, .int v3)]) hx hb dX1_count_72 hl (k := 1) rfl (by rw [e_x4]; rfl) (by decide) rfl (fun ls hl => ?_)
          exact ih.2.1 x4 v3 σ H locs hP hD hS ls (lv_sub hl [1, 0, 2] rfl) hf
    · intro v2 v3 σ H locs hP hD hS ls hl hf
      have hf : (dz_l (v3 + 1) fun x1 => (lfX1_count K k).1 v2 x1 σ : Option (Int32 × pM)) = some res := hf
      obtain ⟨x1, e_x1, hf⟩ := dz_lo hf
      refine lv_iinc (v := x1) (lv' := [(3, .int x1), (0, .ref h), (2, .int v2)]) hx hb dX1_count_75 hl (k := 2) rfl (by rw [e_x1]; rfl) (by decide) rfl (fun ls hl => ?_)
      refine lv_goto (tgt := 55) hx hb dX1_count_78 (by decide) ?_
      exact ih.1 v2 x1 σ H locs hP hD hS ls (lv_sub hl [1, 2, 0] rfl) hf
    · intro v2 v3 σ H locs hP hD hS ls hl hf
      have hf : (dz_l (σ.1 7) fun x1 => if x1 ≤ v3 then (some (v2, σ)) else (if ¬ (v3 < 0 ∨ 116 ≤ Int32.toNatClampNeg v3) then (dz_l (σ.2.2.1 12 (Int32.toNatClampNeg v3)) fun x3 => if ¬ (v3 < 0 ∨ 116 ≤ Int32.toNatClampNeg v3) then (dz_l (σ.2.2.1 13 (Int32.toNatClampNeg v3)) fun x5 => dz_l (v2 + (x3 + x5)) fun x6 => dz_l (v3 + 1) fun x7 => (lfX1_count K k).2.2.1 x6 x7 σ) else none) else none) : Option (Int32 × pM)) = some res := hf
      refine lv_iload_n hx hb dX1_count_85 rfl (lv_at hl 2 rfl) ?_
      refine lv_aload_n hx hb dX1_count_86 rfl (lv_at hl 0 rfl) ?_
      refine va_get (C := RX1) (T := TX1) (N := 35) (fs := mwF ad σ) (v := .int (σ.1 7)) hx hb hts in_X1 hown hK hP 0 rfl hci 7 (by decide) (hts _ q1678) (fun _ hq => hq) rfl dX1_count_87 ?_
      refine lv_topi (fun x1 e_x1 => ?_)
      have hf := dz_ls e_x1 hf
      refine lv_icmp_ge (tgt := 115) hx hb dX1_count_90 (by decide) (fun c90 => ?_) (fun c90 => ?_)
      · have hf := dz_t c90 hf
        refine lv_iload_n hx hb dX1_count_115 rfl (lv_at hl 1 rfl) ?_
        exact W.iret (v := v2) hx hb hr (fun t ht hW => ⟨⟨v2, σ, rfl, Option.some.inj hf, by rw [ht]; exact hP, va_K.moved hW.alike hK, hD⟩, hS.F ht⟩) hS.2.2 dX1_count_116
      · have hf := dz_f c90 hf
        refine lv_iload_n hx hb dX1_count_93 rfl (lv_at hl 1 rfl) ?_
        refine lv_aload_n hx hb dX1_count_94 rfl (lv_at hl 0 rfl) ?_
        refine va_get (C := RX1) (T := TX1) (N := 35) (fs := mwF ad σ) (v := .ref (ad 12)) hx hb hts in_X1 hown hK hP 0 rfl hci 12 (by decide) (hts _ q1683) (fun _ hq => hq) rfl dX1_count_95 ?_
        refine lv_iload_n hx hb dX1_count_98 rfl (lv_at hl 2 rfl) ?_
        obtain ⟨g2, hf⟩ := dz_go hf
        refine va_iald hx hb hK hP 10 0 rfl rfl g2 dX1_count_99 ?_
        refine lv_topi (fun x3 e_x3 => ?_)
        have hf := dz_ls e_x3 hf
        refine lv_aload_n hx hb dX1_count_100 rfl (lv_at hl 0 rfl) ?_
        refine va_get (C := RX1) (T := TX1) (N := 35) (fs := mwF ad σ) (v := .ref (ad 13)) hx hb hts in_X1 hown hK hP 0 rfl hci 13 (by decide) (hts _ q1684) (fun _ hq => hq) rfl dX1_count_101 ?_
        refine lv_iload_n hx hb dX1_count_104 rfl (lv_at hl 2 rfl) ?_
        obtain ⟨g4, hf⟩ := dz_go hf
        refine va_iald hx hb hK hP 11 0 rfl rfl g4 dX1_count_105 ?_
        refine lv_topi (fun x5 e_x5 => ?_)
        have hf := dz_ls e_x5 hf
        refine lv_iadd hx hb dX1_count_106 ?_
        refine lv_iadd hx hb dX1_count_107 ?_
        refine lv_topi (fun x6 e_x6 => ?_)
        have hf := dz_ls e_x6 hf
        refine lv_istore_n (lv' := [(2, .int x6), (0, .ref h), (3, .int v3)]) hx hb dX1_count_108 rfl hl (by decide) rfl (fun ls hl => ?_)
        obtain ⟨x7, e_x7, hf⟩ := dz_lo hf
        refine lv_iinc (v := x7) (lv' := [(3, .int x7), (2, .int x6), (0, .ref h)]) hx hb dX1_count_109 hl (k := 2) rfl (by rw [e_x7]; rfl) (by decide) rfl (fun ls hl => ?_)
        refine lv_goto (tgt := 85) hx hb dX1_count_112 (by decide) ?_
        exact ih.2.2.1 x6 x7 σ H locs hP hD hS ls (lv_sub hl [2, 1, 0] rfl) hf
    · intro v2 v3 σ H locs hP hD hS ls hl hf
      have hf : (dz_l (σ.1 7) fun x1 => if x1 ≤ v3 then (some (v2, σ)) else (if ¬ (v3 < 0 ∨ 60 ≤ Int32.toNatClampNeg v3) then (dz_l (σ.2.2.1 19 (Int32.toNatClampNeg v3)) fun x3 => if x3 = (0 : Int32) then ((lfX1_count K k).2.2.2.2.1 v2 v3 σ) else (if ¬ (v3 < 0 ∨ 116 ≤ Int32.toNatClampNeg v3) then (dz_l (σ.2.2.1 8 (Int32.toNatClampNeg v3)) fun x5 => if x5 ≤ v2 then ((lfX1_count K k).2.2.2.2.1 v2 v3 σ) else (if ¬ (v3 < 0 ∨ 116 ≤ Int32.toNatClampNeg v3) then (dz_l (σ.2.2.1 8 (Int32.toNatClampNeg v3)) fun x7 => (lfX1_count K k).2.2.2.2.1 x7 v3 σ) else none)) else none)) else none) : Option (Int32 × pM)) = some res := hf
      refine lv_iload_n hx hb dX1_count_124 rfl (lv_at hl 2 rfl) ?_
      refine lv_aload_n hx hb dX1_count_125 rfl (lv_at hl 0 rfl) ?_
      refine va_get (C := RX1) (T := TX1) (N := 35) (fs := mwF ad σ) (v := .int (σ.1 7)) hx hb hts in_X1 hown hK hP 0 rfl hci 7 (by decide) (hts _ q1678) (fun _ hq => hq) rfl dX1_count_126 ?_
      refine lv_topi (fun x1 e_x1 => ?_)
      have hf := dz_ls e_x1 hf
      refine lv_icmp_ge (tgt := 164) hx hb dX1_count_129 (by decide) (fun c129 => ?_) (fun c129 => ?_)
      · have hf := dz_t c129 hf
        refine lv_iload_n hx hb dX1_count_164 rfl (lv_at hl 1 rfl) ?_
        exact W.iret (v := v2) hx hb hr (fun t ht hW => ⟨⟨v2, σ, rfl, Option.some.inj hf, by rw [ht]; exact hP, va_K.moved hW.alike hK, hD⟩, hS.F ht⟩) hS.2.2 dX1_count_165
      · have hf := dz_f c129 hf
        refine lv_aload_n hx hb dX1_count_132 rfl (lv_at hl 0 rfl) ?_
        refine va_get (C := RX1) (T := TX1) (N := 35) (fs := mwF ad σ) (v := .ref (ad 19)) hx hb hts in_X1 hown hK hP 0 rfl hci 19 (by decide) (hts _ q1690) (fun _ hq => hq) rfl dX1_count_133 ?_
        refine lv_iload_n hx hb dX1_count_136 rfl (lv_at hl 2 rfl) ?_
        obtain ⟨g2, hf⟩ := dz_go hf
        refine va_zald hx hb hK hP 17 2 rfl rfl g2 dX1_count_137 ?_
        refine lv_topi (fun x3 e_x3 => ?_)
        have hf := dz_ls e_x3 hf
        refine lv_if_eq (tgt := 158) hx hb dX1_count_138 (by decide) (fun c138 => ?_) (fun c138 => ?_)
        · have hf := dz_t c138 hf
          exact ih.2.2.2.2.1 v2 v3 σ H locs hP hD hS ls (lv_sub hl [0, 1, 2] rfl) hf
        · have hf := dz_f c138 hf
          refine lv_aload_n hx hb dX1_count_141 rfl (lv_at hl 0 rfl) ?_
          refine va_get (C := RX1) (T := TX1) (N := 35) (fs := mwF ad σ) (v := .ref (ad 8)) hx hb hts in_X1 hown hK hP 0 rfl hci 8 (by decide) (hts _ q1679) (fun _ hq => hq) rfl dX1_count_142 ?_
          refine lv_iload_n hx hb dX1_count_145 rfl (lv_at hl 2 rfl) ?_
          obtain ⟨g4, hf⟩ := dz_go hf
          refine va_iald hx hb hK hP 6 0 rfl rfl g4 dX1_count_146 ?_
          refine lv_topi (fun x5 e_x5 => ?_)
          have hf := dz_ls e_x5 hf
          refine lv_iload_n hx hb dX1_count_147 rfl (lv_at hl 1 rfl) ?_
          refine lv_icmp_le (tgt := 158) hx hb dX1_count_148 (by decide) (fun c148 => ?_) (fun c148 => ?_)
          · have hf := dz_t c148 hf
            exact ih.2.2.2.2.1 v2 v3 σ H locs hP hD hS ls (lv_sub hl [0, 1, 2] rfl) hf
          · have hf := dz_f c148 hf
            refine lv_aload_n hx hb dX1_count_151 rfl (lv_at hl 0 rfl) ?_
            refine va_get (C := RX1) (T := TX1) (N := 35) (fs := mwF ad σ) (v := .ref (ad 8)) hx hb hts in_X1 hown hK hP 0 rfl hci 8 (by decide) (hts _ q1679) (fun _ hq => hq) rfl dX1_count_152 ?_
            refine lv_iload_n hx hb dX1_count_155 rfl (lv_at hl 2 rfl) ?_
            obtain ⟨g6, hf⟩ := dz_go hf
            refine va_iald hx hb hK hP 6 0 rfl rfl g6 dX1_count_156 ?_
            refine lv_topi (fun x7 e_x7 => ?_)
            have hf := dz_ls e_x7 hf
            refine lv_istore_n (lv' := [(2, .int x7), (0, .ref h), (3, .int v3)]) hx hb dX1_count_157 rfl hl (by decide) rfl (fun ls hl => ?_)
            exact ih.2.2.2.2.1 x7 v3 σ H locs hP hD hS ls (lv_sub hl [1, 0, 2] rfl) hf
    · intro v2 v3 σ H locs hP hD hS ls hl hf
      have hf : (dz_l (v3 + 1) fun x1 => (lfX1_count K k).2.2.2.1 v2 x1 σ : Option (Int32 × pM)) = some res := hf
      obtain ⟨x1, e_x1, hf⟩ := dz_lo hf
      refine lv_iinc (v := x1) (lv' := [(3, .int x1), (0, .ref h), (2, .int v2)]) hx hb dX1_count_158 hl (k := 2) rfl (by rw [e_x1]; rfl) (by decide) rfl (fun ls hl => ?_)
      refine lv_goto (tgt := 124) hx hb dX1_count_161 (by decide) ?_
      exact ih.2.2.2.1 v2 x1 σ H locs hP hD hS ls (lv_sub hl [1, 2, 0] rfl) hf
    · intro v2 v3 σ H locs hP hD hS ls hl hf
      have hf : (dz_l (σ.1 7) fun x1 => if x1 ≤ v3 then (some (v2, σ)) else (if ¬ (v3 < 0 ∨ 60 ≤ Int32.toNatClampNeg v3) then (dz_l (σ.2.2.1 19 (Int32.toNatClampNeg v3)) fun x3 => if x3 = (0 : Int32) then ((lfX1_count K k).2.2.2.2.2.2.1 v2 v3 σ) else (dz_c (fnX1_deepOf K v3 σ) fun x4 s5 => if x4 ≤ v2 then ((lfX1_count K k).2.2.2.2.2.2.1 v2 v3 s5) else (dz_c (fnX1_deepOf K v3 s5) fun x6 s7 => (lfX1_count K k).2.2.2.2.2.2.1 x6 v3 s7))) else none) : Option (Int32 × pM)) = some res := hf
      refine lv_iload_n hx hb dX1_count_168 rfl (lv_at hl 2 rfl) ?_
      refine lv_aload_n hx hb dX1_count_169 rfl (lv_at hl 0 rfl) ?_
      refine va_get (C := RX1) (T := TX1) (N := 35) (fs := mwF ad σ) (v := .int (σ.1 7)) hx hb hts in_X1 hown hK hP 0 rfl hci 7 (by decide) (hts _ q1678) (fun _ hq => hq) rfl dX1_count_170 ?_
      refine lv_topi (fun x1 e_x1 => ?_)
      have hf := dz_ls e_x1 hf
      refine lv_icmp_ge (tgt := 206) hx hb dX1_count_173 (by decide) (fun c173 => ?_) (fun c173 => ?_)
      · have hf := dz_t c173 hf
        refine lv_iload_n hx hb dX1_count_206 rfl (lv_at hl 1 rfl) ?_
        exact W.iret (v := v2) hx hb hr (fun t ht hW => ⟨⟨v2, σ, rfl, Option.some.inj hf, by rw [ht]; exact hP, va_K.moved hW.alike hK, hD⟩, hS.F ht⟩) hS.2.2 dX1_count_207
      · have hf := dz_f c173 hf
        refine lv_aload_n hx hb dX1_count_176 rfl (lv_at hl 0 rfl) ?_
        refine va_get (C := RX1) (T := TX1) (N := 35) (fs := mwF ad σ) (v := .ref (ad 19)) hx hb hts in_X1 hown hK hP 0 rfl hci 19 (by decide) (hts _ q1690) (fun _ hq => hq) rfl dX1_count_177 ?_
        refine lv_iload_n hx hb dX1_count_180 rfl (lv_at hl 2 rfl) ?_
        obtain ⟨g2, hf⟩ := dz_go hf
        refine va_zald hx hb hK hP 17 2 rfl rfl g2 dX1_count_181 ?_
        refine lv_topi (fun x3 e_x3 => ?_)
        have hf := dz_ls e_x3 hf
        refine lv_if_eq (tgt := 200) hx hb dX1_count_182 (by decide) (fun c182 => ?_) (fun c182 => ?_)
        · have hf := dz_t c182 hf
          exact ih.2.2.2.2.2.2.1 v2 v3 σ H locs hP hD hS ls (lv_sub hl [0, 1, 2] rfl) hf
        · have hf := dz_f c182 hf
          refine lv_aload_n hx hb dX1_count_185 rfl (lv_at hl 0 rfl) ?_
          refine lv_iload_n hx hb dX1_count_186 rfl (lv_at hl 2 rfl) ?_
          obtain ⟨x4, s5, hx4, hf⟩ := dz_co hf
          have hFc := dz_free hD hS hA
          refine va_calli (va_runV (As := [.int v3]) (rest := []) ⟨hx, hb, hml, hown, hts⟩ (mtX1_deepOf l D cl ci hci h ad cA H.size σ v3 K (x4, s5) hx4) (cwV 1 hts (lw_V q2096 q2098 qs80 q88 q2099) rfl rfl rfl (by decide +kernel) ⟨Nat.le_of_ble_eq_true rfl, Nat.le_of_ble_eq_true rfl⟩) (m_preV hci hK hP hD) rfl rfl hl.1 rfl (lv_room (Nat.le_of_ble_eq_true rfl)) dX1_count_187 ⟨Nat.le_refl _, Nat.le_refl _⟩) hS (fun q _ hq => hFc q hq) hFc (fun r u t H1 locs ht hvm hw hB hz hk hS => ?_)
          obtain ⟨hw1, hw2⟩ := Prod.mk.inj hw.symm; subst hw1; subst hw2
          replace hP := m_back ht hB
          replace hD := mw_D s5 hD
          clear hB hk hz hvm ht hFc; generalize H1 = H at hP hS ⊢
          refine lv_iload_n hx hb dX1_count_190 rfl (lv_at hl 1 rfl) ?_
          refine lv_icmp_le (tgt := 200) hx hb dX1_count_191 (by decide) (fun c191 => ?_) (fun c191 => ?_)
          · have hf := dz_t c191 hf
            exact ih.2.2.2.2.2.2.1 v2 v3 s5 H locs hP hD hS ls (lv_sub hl [0, 1, 2] rfl) hf
          · have hf := dz_f c191 hf
            refine lv_aload_n hx hb dX1_count_194 rfl (lv_at hl 0 rfl) ?_
            refine lv_iload_n hx hb dX1_count_195 rfl (lv_at hl 2 rfl) ?_
            obtain ⟨x6, s7, hx6, hf⟩ := dz_co hf
            have hFc := dz_free hD hS hA
            refine va_calli (va_runV (As := [.int v3]) (rest := []) ⟨hx, hb, hml, hown, hts⟩ (mtX1_deepOf l D cl ci hci h ad cA H.size s5 v3 K (x6, s7) hx6) (cwV 1 hts (lw_V q2096 q2098 qs80 q88 q2099) rfl rfl rfl (by decide +kernel) ⟨Nat.le_of_ble_eq_true rfl, Nat.le_of_ble_eq_true rfl⟩) (m_preV hci hK hP hD) rfl rfl hl.1 rfl (lv_room (Nat.le_of_ble_eq_true rfl)) dX1_count_196 ⟨Nat.le_refl _, Nat.le_refl _⟩) hS (fun q _ hq => hFc q hq) hFc (fun r u t H1 locs ht hvm hw hB hz hk hS => ?_)
            obtain ⟨hw1, hw2⟩ := Prod.mk.inj hw.symm; subst hw1; subst hw2
            replace hP := m_back ht hB
            replace hD := mw_D s7 hD
            clear hB hk hz hvm ht hFc; generalize H1 = H at hP hS ⊢
            refine lv_istore_n (lv' := [(2, .int x6), (0, .ref h), (3, .int v3)]) hx hb dX1_count_199 rfl hl (by decide) rfl (fun ls hl => ?_)
            exact ih.2.2.2.2.2.2.1 x6 v3 s7 H locs hP hD hS ls (lv_sub hl [1, 0, 2] rfl) hf
    · intro v2 v3 σ H locs hP hD hS ls hl hf
      have hf : (dz_l (v3 + 1) fun x1 => (lfX1_count K k).2.2.2.2.2.1 v2 x1 σ : Option (Int32 × pM)) = some res := hf
      obtain ⟨x1, e_x1, hf⟩ := dz_lo hf
      refine lv_iinc (v := x1) (lv' := [(3, .int x1), (0, .ref h), (2, .int v2)]) hx hb dX1_count_200 hl (k := 2) rfl (by rw [e_x1]; rfl) (by decide) rfl (fun ls hl => ?_)
      refine lv_goto (tgt := 168) hx hb dX1_count_203 (by decide) ?_
      exact ih.2.2.2.2.2.1 v2 x1 σ H locs hP hD hS ls (lv_sub hl [1, 2, 0] rfl) hf
    · intro v2 v3 σ H locs hP hD hS ls hl hf
      have hf : (dz_l (σ.1 7) fun x1 => if x1 ≤ v3 then (some (v2, σ)) else (if ¬ (v3 < 0 ∨ 60 ≤ Int32.toNatClampNeg v3) then (dz_l (σ.2.2.1 19 (Int32.toNatClampNeg v3)) fun x3 => if x3 = (0 : Int32) then ((lfX1_count K k).2.2.2.2.2.2.2.2 v2 v3 σ) else (dz_c (fnX1_costsOf K v3 σ) fun x4 s5 => dz_l (v2 + x4) fun x6 => (lfX1_count K k).2.2.2.2.2.2.2.2 x6 v3 s5)) else none) : Option (Int32 × pM)) = some res := hf
      refine lv_iload_n hx hb dX1_count_210 rfl (lv_at hl 2 rfl) ?_
      refine lv_aload_n hx hb dX1_count_211 rfl (lv_at hl 0 rfl) ?_
      refine va_get (C := RX1) (T := TX1) (N := 35) (fs := mwF ad σ) (v := .int (σ.1 7)) hx hb hts in_X1 hown hK hP 0 rfl hci 7 (by decide) (hts _ q1678) (fun _ hq => hq) rfl dX1_count_212 ?_
      refine lv_topi (fun x1 e_x1 => ?_)
      have hf := dz_ls e_x1 hf
      refine lv_icmp_ge (tgt := 241) hx hb dX1_count_215 (by decide) (fun c215 => ?_) (fun c215 => ?_)
      · have hf := dz_t c215 hf
        refine lv_iload_n hx hb dX1_count_241 rfl (lv_at hl 1 rfl) ?_
        exact W.iret (v := v2) hx hb hr (fun t ht hW => ⟨⟨v2, σ, rfl, Option.some.inj hf, by rw [ht]; exact hP, va_K.moved hW.alike hK, hD⟩, hS.F ht⟩) hS.2.2 dX1_count_242
      · have hf := dz_f c215 hf
        refine lv_aload_n hx hb dX1_count_218 rfl (lv_at hl 0 rfl) ?_
        refine va_get (C := RX1) (T := TX1) (N := 35) (fs := mwF ad σ) (v := .ref (ad 19)) hx hb hts in_X1 hown hK hP 0 rfl hci 19 (by decide) (hts _ q1690) (fun _ hq => hq) rfl dX1_count_219 ?_
        refine lv_iload_n hx hb dX1_count_222 rfl (lv_at hl 2 rfl) ?_
        obtain ⟨g2, hf⟩ := dz_go hf
        refine va_zald hx hb hK hP 17 2 rfl rfl g2 dX1_count_223 ?_
        refine lv_topi (fun x3 e_x3 => ?_)
        have hf := dz_ls e_x3 hf
        refine lv_if_eq (tgt := 235) hx hb dX1_count_224 (by decide) (fun c224 => ?_) (fun c224 => ?_)
        · have hf := dz_t c224 hf
          exact ih.2.2.2.2.2.2.2.2 v2 v3 σ H locs hP hD hS ls (lv_sub hl [0, 1, 2] rfl) hf
        · have hf := dz_f c224 hf
          refine lv_iload_n hx hb dX1_count_227 rfl (lv_at hl 1 rfl) ?_
          refine lv_aload_n hx hb dX1_count_228 rfl (lv_at hl 0 rfl) ?_
          refine lv_iload_n hx hb dX1_count_229 rfl (lv_at hl 2 rfl) ?_
          obtain ⟨x4, s5, hx4, hf⟩ := dz_co hf
          have hFc := dz_free hD hS hA
          refine va_calli (va_runV (As := [.int v3]) (rest := [.int v2]) ⟨hx, hb, hml, hown, hts⟩ (mtX1_costsOf l D cl ci hci h ad cA H.size σ v3 K (x4, s5) hx4) (cwV 1 hts (lw_V q2108 q2110 qs81 q88 q2111) rfl rfl rfl (by decide +kernel) ⟨Nat.le_of_ble_eq_true rfl, Nat.le_of_ble_eq_true rfl⟩) (m_preV hci hK hP hD) rfl rfl hl.1 rfl (lv_room (Nat.le_of_ble_eq_true rfl)) dX1_count_230 ⟨Nat.le_refl _, Nat.le_refl _⟩) hS (fun q _ hq => hFc q hq) hFc (fun r u t H1 locs ht hvm hw hB hz hk hS => ?_)
          obtain ⟨hw1, hw2⟩ := Prod.mk.inj hw.symm; subst hw1; subst hw2
          replace hP := m_back ht hB
          replace hD := mw_D s5 hD
          clear hB hk hz hvm ht hFc; generalize H1 = H at hP hS ⊢
          refine lv_iadd hx hb dX1_count_233 ?_
          refine lv_topi (fun x6 e_x6 => ?_)
          have hf := dz_ls e_x6 hf
          refine lv_istore_n (lv' := [(2, .int x6), (0, .ref h), (3, .int v3)]) hx hb dX1_count_234 rfl hl (by decide) rfl (fun ls hl => ?_)
          exact ih.2.2.2.2.2.2.2.2 x6 v3 s5 H locs hP hD hS ls (lv_sub hl [1, 0, 2] rfl) hf
    · intro v2 v3 σ H locs hP hD hS ls hl hf
      have hf : (dz_l (v3 + 1) fun x1 => (lfX1_count K k).2.2.2.2.2.2.2.1 v2 x1 σ : Option (Int32 × pM)) = some res := hf
      obtain ⟨x1, e_x1, hf⟩ := dz_lo hf
      refine lv_iinc (v := x1) (lv' := [(3, .int x1), (0, .ref h), (2, .int v2)]) hx hb dX1_count_235 hl (k := 2) rfl (by rw [e_x1]; rfl) (by decide) rfl (fun ls hl => ?_)
      refine lv_goto (tgt := 210) hx hb dX1_count_238 (by decide) ?_
      exact ih.2.2.2.2.2.2.2.1 v2 x1 σ H locs hP hD hS ls (lv_sub hl [1, 2, 0] rfl) hf
set_option maxHeartbeats 4000000 in
set_option maxRecDepth 100000 in
theorem mtX1_count (l : Launch) (D : va_G) (cl : List vw_C) (ci : Nat) (hci : cl[ci]? = some (RX1, TX1, 35)) (h : Nat) (ad : Nat → Nat) (cA : Nat → ClassId) (sz : Nat) (σ : pM) (a0 : Int32) (K : Nat) (res : (Int32 × pM)) (hf : fnX1_count K a0 σ = some res) : Met l yX1_count (ws_ yX1_count cX1_count 4 (some .int)) ({ frames := 5, cells := 0, slots := 0, locals := 130 }) (mPc D cl ci h ad cA sz σ [.ref h, .int a0]) (mQi D cl ci h ad cA (va_A (mw ci h ad cA σ) sz) res) 0 0 (va_A (mw ci h ad cA σ) sz) := by
  refine Met.ofW (cc := cX1_count) (maxL := 4) (ret := some .int) (by decide +kernel) rfl ?_
  intro p e s m args below meth c s₁ B hml hv
  obtain ⟨rfl, hsz, hP, hK, hD0⟩ := hv
  have hx := B.exec
  have hb := B.bytes
  have hr := B.returns
  have hts := atoms_spec (ws := ws_ yX1_count cX1_count 4 (some .int)) B.pre
  have hts : ∀ w ∈ lw_all, w.before _ s = true := fun w h => hts w (List.mem_cons_of_mem _ h)
  have hown : s.vm.findClass RX1 = some m.cls := findClass_of_methodNamed B.named
  have hlocks := B.notSynchronized
  subst hsz
  have hD := hD0.self (sz := s.heap.size)
  generalize hAe : va_A (mw ci h ad cA σ) s.heap.size = A at hD ⊢
  have hA : ∀ q : Nat, s.heap.size ≤ q → A q := fun q h => by rw [← hAe]; exact Or.inr h
  clear hAe hD0
  have hS : va_S A s.heap s.heap [] := va_S.rf
  generalize hHe : s.heap = H at hP hS ⊢
  have hS : va_S A s.heap H [] := by rw [hHe]; exact hS
  generalize ([] : List Loc) = locs at hS ⊢
  have hl := lv_entry ([.ref h, .int a0]) (n := 4) (Nat.le_of_ble_eq_true rfl)
  rw [lg_entry_eq]
  generalize (lg_sl ([.ref h, .int a0]) ++ List.replicate (4 - (lg_sl ([.ref h, .int a0])).length) Slot.unset).toArray = ls at hl ⊢
  have hl : lv_has ls 4 [(0, .ref h), (1, .int a0)] := hl
  have hf : (dz_b (fnX1_laysRight K σ) fun s2 => if a0 = (0 : Int32) then (dz_l (s2.1 7) fun x3 => some (x3, s2)) else (if a0 = (1 : Int32) then ((lfX1_count K K).1 0 0 s2) else (if a0 = (2 : Int32) then ((lfX1_count K K).2.2.1 0 0 s2) else (if a0 = (3 : Int32) then (dz_l (s2.1 24) fun x4 => some (x4, s2)) else (if a0 = (4 : Int32) then ((lfX1_count K K).2.2.2.1 0 0 s2) else (if a0 = (5 : Int32) then ((lfX1_count K K).2.2.2.2.2.1 0 0 s2) else (if a0 = (6 : Int32) then ((lfX1_count K K).2.2.2.2.2.2.2.1 0 0 s2) else (some ((-1), s2)))))))) : Option (Int32 × pM)) = some res := hf
  have ih := wlX1_count (l := l) (e := e) (below := below) (h := h) (ad := ad) (cA := cA) hci hA hK K res a0 hx hb hr hlocks hml hown hts K
  refine lv_aload_n hx hb dX1_count_0 rfl (lv_at hl 0 rfl) ?_
  obtain ⟨s2, hx1, hf⟩ := dz_bo hf
  have hFc := dz_free hD hS hA
  refine va_callv (va_runV (As := []) (rest := []) ⟨hx, hb, hml, hown, hts⟩ (mtX1_laysRight l D cl ci hci h ad cA H.size σ K s2 hx1) (cwV 0 hts (lw_V q1791 q1793 qs36 q88 q1794) rfl rfl rfl (by decide +kernel) ⟨Nat.le_of_ble_eq_true rfl, Nat.le_of_ble_eq_true rfl⟩) (m_preV hci hK hP hD) rfl rfl hl.1 rfl (lv_room (Nat.le_of_ble_eq_true rfl)) dX1_count_1 ⟨Nat.le_refl _, Nat.le_refl _⟩) hS (fun q _ hq => hFc q hq) hFc (fun u t H1 locs ht hvm hw hB hz hk hS => ?_)
  replace hw := hw.symm; subst hw
  replace hP := m_back ht hB
  replace hD := mw_D s2 hD
  clear hB hk hz hvm ht hFc; generalize H1 = H at hP hS ⊢
  refine lv_iconst (v := 0) hx hb dX1_count_4 (by decide) ?_
  refine lv_istore_n (lv' := [(2, .int 0), (0, .ref h), (1, .int a0)]) hx hb dX1_count_5 rfl hl (by decide) rfl (fun ls hl => ?_)
  refine lv_iload_n hx hb dX1_count_6 rfl (lv_at hl 2 rfl) ?_
  refine dz_case hf (fun t7_0 hf => ?_) (fun t7_0 hf => ?_)
  · refine lv_tableIn (off := 41) (tgt := 48) hx hb dX1_count_7 (by rw [t7_0]; decide) (by rw [t7_0]; decide) (by rw [t7_0]; rfl) (by decide) ?_
    refine lv_aload_n hx hb dX1_count_48 rfl (lv_at hl 1 rfl) ?_
    refine va_get (C := RX1) (T := TX1) (N := 35) (fs := mwF ad s2) (v := .int (s2.1 7)) hx hb hts in_X1 hown hK hP 0 rfl hci 7 (by decide) (hts _ q1678) (fun _ hq => hq) rfl dX1_count_49 ?_
    refine lv_topi (fun x3 e_x3 => ?_)
    have hf := dz_ls e_x3 hf
    exact W.iret (v := x3) hx hb hr (fun t ht hW => ⟨⟨x3, s2, rfl, Option.some.inj hf, by rw [ht]; exact hP, va_K.moved hW.alike hK, hD⟩, hS.F ht⟩) hS.2.2 dX1_count_52
  · skip
    refine dz_case hf (fun t7_1 hf => ?_) (fun t7_1 hf => ?_)
    · refine lv_tableIn (off := 46) (tgt := 53) hx hb dX1_count_7 (by rw [t7_1]; decide) (by rw [t7_1]; decide) (by rw [t7_1]; rfl) (by decide) ?_
      refine lv_iconst (v := 0) hx hb dX1_count_53 (by decide) ?_
      refine lv_istore_n (lv' := [(3, .int 0), (2, .int 0), (0, .ref h), (1, .int a0)]) hx hb dX1_count_54 rfl hl (by decide) rfl (fun ls hl => ?_)
      exact ih.1 0 0 s2 H locs hP hD hS ls (lv_sub hl [2, 1, 0] rfl) hf
    · skip
      refine dz_case hf (fun t7_2 hf => ?_) (fun t7_2 hf => ?_)
      · refine lv_tableIn (off := 76) (tgt := 83) hx hb dX1_count_7 (by rw [t7_2]; decide) (by rw [t7_2]; decide) (by rw [t7_2]; rfl) (by decide) ?_
        refine lv_iconst (v := 0) hx hb dX1_count_83 (by decide) ?_
        refine lv_istore_n (lv' := [(3, .int 0), (2, .int 0), (0, .ref h), (1, .int a0)]) hx hb dX1_count_84 rfl hl (by decide) rfl (fun ls hl => ?_)
        exact ih.2.2.1 0 0 s2 H locs hP hD hS ls (lv_sub hl [2, 1, 0] rfl) hf
      · skip
        refine dz_case hf (fun t7_3 hf => ?_) (fun t7_3 hf => ?_)
        · refine lv_tableIn (off := 110) (tgt := 117) hx hb dX1_count_7 (by rw [t7_3]; decide) (by rw [t7_3]; decide) (by rw [t7_3]; rfl) (by decide) ?_
          refine lv_aload_n hx hb dX1_count_117 rfl (lv_at hl 1 rfl) ?_
          refine va_get (C := RX1) (T := TX1) (N := 35) (fs := mwF ad s2) (v := .int (s2.1 24)) hx hb hts in_X1 hown hK hP 0 rfl hci 24 (by decide) (hts _ q1695) (fun _ hq => hq) rfl dX1_count_118 ?_
          refine lv_topi (fun x4 e_x4 => ?_)
          have hf := dz_ls e_x4 hf
          exact W.iret (v := x4) hx hb hr (fun t ht hW => ⟨⟨x4, s2, rfl, Option.some.inj hf, by rw [ht]; exact hP, va_K.moved hW.alike hK, hD⟩, hS.F ht⟩) hS.2.2 dX1_count_121
        · skip
          refine dz_case hf (fun t7_4 hf => ?_) (fun t7_4 hf => ?_)
          · refine lv_tableIn (off := 115) (tgt := 122) hx hb dX1_count_7 (by rw [t7_4]; decide) (by rw [t7_4]; decide) (by rw [t7_4]; rfl) (by decide) ?_
            refine lv_iconst (v := 0) hx hb dX1_count_122 (by decide) ?_
            refine lv_istore_n (lv' := [(3, .int 0), (2, .int 0), (0, .ref h), (1, .int a0)]) hx hb dX1_count_123 rfl hl (by decide) rfl (fun ls hl => ?_)
            exact ih.2.2.2.1 0 0 s2 H locs hP hD hS ls (lv_sub hl [2, 1, 0] rfl) hf
          · skip
            refine dz_case hf (fun t7_5 hf => ?_) (fun t7_5 hf => ?_)
            · refine lv_tableIn (off := 159) (tgt := 166) hx hb dX1_count_7 (by rw [t7_5]; decide) (by rw [t7_5]; decide) (by rw [t7_5]; rfl) (by decide) ?_
              refine lv_iconst (v := 0) hx hb dX1_count_166 (by decide) ?_
              refine lv_istore_n (lv' := [(3, .int 0), (2, .int 0), (0, .ref h), (1, .int a0)]) hx hb dX1_count_167 rfl hl (by decide) rfl (fun ls hl => ?_)
              exact ih.2.2.2.2.2.1 0 0 s2 H locs hP hD hS ls (lv_sub hl [2, 1, 0] rfl) hf
            · skip
              refine dz_case hf (fun t7_6 hf => ?_) (fun t7_6 hf => ?_)
              · refine lv_tableIn (off := 201) (tgt := 208) hx hb dX1_count_7 (by rw [t7_6]; decide) (by rw [t7_6]; decide) (by rw [t7_6]; rfl) (by decide) ?_
                refine lv_iconst (v := 0) hx hb dX1_count_208 (by decide) ?_
                refine lv_istore_n (lv' := [(3, .int 0), (2, .int 0), (0, .ref h), (1, .int a0)]) hx hb dX1_count_209 rfl hl (by decide) rfl (fun ls hl => ?_)
                exact ih.2.2.2.2.2.2.2.1 0 0 s2 H locs hP hD hS ls (lv_sub hl [2, 1, 0] rfl) hf
              · skip
                have u7_0 := dz_ne (z := 0) t7_0 (by decide)
                have u7_1 := dz_ne (z := 1) t7_1 (by decide)
                have u7_2 := dz_ne (z := 2) t7_2 (by decide)
                have u7_3 := dz_ne (z := 3) t7_3 (by decide)
                have u7_4 := dz_ne (z := 4) t7_4 (by decide)
                have u7_5 := dz_ne (z := 5) t7_5 (by decide)
                have u7_6 := dz_ne (z := 6) t7_6 (by decide)
                refine lv_tableOut (tgt := 243) hx hb dX1_count_7 (by omega) (by decide) ?_
                refine lv_iconst (v := (-1)) hx hb dX1_count_243 (by decide) ?_
                exact W.iret (v := (-1)) hx hb hr (fun t ht hW => ⟨⟨(-1), s2, rfl, Option.some.inj hf, by rw [ht]; exact hP, va_K.moved hW.alike hK, hD⟩, hS.F ht⟩) hS.2.2 dX1_count_244

