noncomputable def lfX1_costOf (K : Nat) : Nat → (Int32 → Int32 → Option Int32) := Nat.rec (motive := fun _ => (Int32 → Int32 → Option Int32)) (fun _ _ => none) (fun _ G => (fun v1 v2 => if v2 ≤ (0 : Int32) then (some v1) else (dz_l (v2 - v2 / 2 * 2) fun x1 => dz_l (v1 + (1 + x1)) fun x2 => dz_l (v2 / 2) fun x3 => G x2 x3)))
noncomputable def fnX1_costOf (K : Nat) (a0 : Int32) : Option Int32 := (lfX1_costOf K K) (-2) a0
set_option maxHeartbeats 4000000 in
set_option maxRecDepth 100000 in
theorem wlX1_costOf {p : Program} {l : Launch} {e : Env} {s : State} {m : MethodId} {below : List Frame} {meth : Method} {c : Code}  (K : Nat) (res : Int32) (a0 : Int32) (hx : p.tables.exec = Jvm.exec) (hb : c.code = cX1_costOf) (hr : meth.sig.returnType = some .int) (hlocks : meth.locks = false) (hml : c.maxLocals = 3) (hown : s.vm.findClass RX1 = some m.cls) (hts : ∀ w ∈ lw_all, w.before ([.int a0] : List Value).toArray s = true) : ∀ k : Nat, (∀ (v1 : Int32) (v2 : Int32) (H : Heap) (locs : List Loc), va_S (fun _ => False) s.heap H locs → ∀ (ls : Array Slot), lv_has ls 3 [(1, .int v1), (2, .int v2)] → (lfX1_costOf K k) v1 v2 = some res → W p l e (headSpec (ws_ yX1_costOf cX1_costOf 3 (some .int)) ({ frames := 0, cells := 0, slots := 0, locals := 0 })).room s m ([.int a0] : List Value).toArray below meth c H locs 0 0 (MQ below (dz_Qi res) ([.int a0] : List Value).toArray s 0 0 (fun _ => False)) (F0 m 5 ls [])) := by
  intro k
  induction k with
  | zero =>
    exact fun _ _ _ _ _ _ _ hf => (by cases hf)
  | succ k ih =>
    · intro v1 v2 H locs hS ls hl hf
      have hf : (if v2 ≤ (0 : Int32) then (some v1) else (dz_l (v2 - v2 / 2 * 2) fun x1 => dz_l (v1 + (1 + x1)) fun x2 => dz_l (v2 / 2) fun x3 => (lfX1_costOf K k) x2 x3) : Option Int32) = some res := hf
      refine lv_iload_n hx hb dX1_costOf_5 rfl (lv_at hl 1 rfl) ?_
      refine lv_if_le (tgt := 24) hx hb dX1_costOf_6 (by decide) (fun c6 => ?_) (fun c6 => ?_)
      · have hf := dz_t c6 hf
        refine lv_iload_n hx hb dX1_costOf_24 rfl (lv_at hl 0 rfl) ?_
        exact W.iret (v := v1) hx hb hr (fun t ht hW => ⟨⟨v1, (), rfl, Option.some.inj hf, trivial⟩, hS.F ht⟩) hS.2.2 dX1_costOf_25
      · have hf := dz_f c6 hf
        refine lv_iload_n hx hb dX1_costOf_9 rfl (lv_at hl 0 rfl) ?_
        refine lv_iconst (v := 1) hx hb dX1_costOf_10 (by decide) ?_
        refine lv_iload_n hx hb dX1_costOf_11 rfl (lv_at hl 1 rfl) ?_
        refine lv_iconst (v := 2) hx hb dX1_costOf_12 (by decide) ?_
        refine lv_irem hx hb dX1_costOf_13 (by decide) ?_
        refine lv_topi (fun x1 e_x1 => ?_)
        have hf := dz_ls e_x1 hf
        refine lv_iadd hx hb dX1_costOf_14 ?_
        refine lv_iadd hx hb dX1_costOf_15 ?_
        refine lv_topi (fun x2 e_x2 => ?_)
        have hf := dz_ls e_x2 hf
        refine lv_istore_n (lv' := [(1, .int x2), (2, .int v2)]) hx hb dX1_costOf_16 rfl hl (by decide) rfl (fun ls hl => ?_)
        refine lv_iload_n hx hb dX1_costOf_17 rfl (lv_at hl 1 rfl) ?_
        refine lv_iconst (v := 2) hx hb dX1_costOf_18 (by decide) ?_
        refine lv_idiv hx hb dX1_costOf_19 (by decide) ?_
        refine lv_topi (fun x3 e_x3 => ?_)
        have hf := dz_ls e_x3 hf
        refine lv_istore_n (lv' := [(2, .int x3), (1, .int x2)]) hx hb dX1_costOf_20 rfl hl (by decide) rfl (fun ls hl => ?_)
        refine lv_goto (tgt := 5) hx hb dX1_costOf_21 (by decide) ?_
        exact ih x2 x3 H locs hS ls (lv_sub hl [1, 0] rfl) hf
set_option maxHeartbeats 4000000 in
set_option maxRecDepth 100000 in
theorem mtX1_costOf (l : Launch) (a0 : Int32) (K : Nat) (res : Int32) (hf : fnX1_costOf K a0 = some res) : Met l yX1_costOf (ws_ yX1_costOf cX1_costOf 3 (some .int)) ({ frames := 0, cells := 0, slots := 0, locals := 0 }) (dz_P [.int a0]) (dz_Qi res) 0 0 (fun _ => False) := by
  refine Met.ofW (cc := cX1_costOf) (maxL := 3) (ret := some .int) (by decide +kernel) rfl ?_
  intro p e s m args below meth c s₁ B hml hv
  obtain ⟨rfl, -⟩ := hv
  have hx := B.exec
  have hb := B.bytes
  have hr := B.returns
  have hts := atoms_spec (ws := ws_ yX1_costOf cX1_costOf 3 (some .int)) B.pre
  have hts : ∀ w ∈ lw_all, w.before _ s = true := fun w h => hts w (List.mem_cons_of_mem _ h)
  have hown : s.vm.findClass RX1 = some m.cls := findClass_of_methodNamed B.named
  have hlocks := B.notSynchronized
  have hS : va_S (fun _ => False) s.heap s.heap [] := va_S.rf
  generalize hHe : s.heap = H at hS ⊢
  have hS : va_S (fun _ => False) s.heap H [] := by rw [hHe]; exact hS
  generalize ([] : List Loc) = locs at hS ⊢
  have hl := lv_entry ([.int a0]) (n := 3) (Nat.le_of_ble_eq_true rfl)
  rw [lg_entry_eq]
  generalize (lg_sl ([.int a0]) ++ List.replicate (3 - (lg_sl ([.int a0])).length) Slot.unset).toArray = ls at hl ⊢
  have hl : lv_has ls 3 [(0, .int a0)] := hl
  have hf : ((lfX1_costOf K K) (-2) a0 : Option Int32) = some res := hf
  have ih := wlX1_costOf (l := l) (e := e) (below := below) K res a0 hx hb hr hlocks hml hown hts K
  refine lv_bipush (v := (-2)) hx hb dX1_costOf_0 (by decide) ?_
  refine lv_istore_n (lv' := [(1, .int (-2)), (0, .int a0)]) hx hb dX1_costOf_2 rfl hl (by decide) rfl (fun ls hl => ?_)
  refine lv_iload_n hx hb dX1_costOf_3 rfl (lv_at hl 1 rfl) ?_
  refine lv_istore_n (lv' := [(2, .int a0), (1, .int (-2)), (0, .int a0)]) hx hb dX1_costOf_4 rfl hl (by decide) rfl (fun ls hl => ?_)
  exact ih (-2) a0 H locs hS ls (lv_sub hl [1, 0] rfl) hf

noncomputable def lfX1_costsOf (K : Nat) : Nat → (Int32 → Int32 → Int32 → pM → Option (Int32 × pM)) := Nat.rec (motive := fun _ => (Int32 → Int32 → Int32 → pM → Option (Int32 × pM))) (fun _ _ _ _ => none) (fun _ G => (fun v1 v2 v3 σ => if ¬ (v1 < 0 ∨ 116 ≤ Int32.toNatClampNeg v1) then (dz_l (σ.2.2.1 12 (Int32.toNatClampNeg v1)) fun x2 => if ((9 * v1) + x2) ≤ v3 then (some (v2, σ)) else (if ¬ (v1 < 0 ∨ 116 ≤ Int32.toNatClampNeg v1) then (dz_l (σ.2.2.1 8 (Int32.toNatClampNeg v1)) fun x4 => dz_b (fnX1_costOf K (x4 - 1)) fun x5 => if ¬ (v1 < 0 ∨ 116 ≤ Int32.toNatClampNeg v1) then (dz_l (σ.2.2.1 8 (Int32.toNatClampNeg v1)) fun x7 => if ¬ (v3 < 0 ∨ 1044 ≤ Int32.toNatClampNeg v3) then (dz_l (σ.2.2.1 14 (Int32.toNatClampNeg v3)) fun x9 => if ¬ x9 = 0 then (dz_l ((x7 - 1) / x9) fun x11 => dz_b (fnX1_costOf K x11) fun x12 => dz_l (v2 + (x5 + x12)) fun x13 => dz_l (v3 + 1) fun x14 => G v1 x13 x14 σ) else none) else none) else none) else none)) else none))
noncomputable def fnX1_costsOf (K : Nat) (a0 : Int32) (σ : pM) : Option (Int32 × pM) := dz_l (9 * a0) fun x1 => (lfX1_costsOf K K) a0 0 x1 σ
set_option maxHeartbeats 4000000 in
set_option maxRecDepth 100000 in
theorem wlX1_costsOf {p : Program} {l : Launch} {e : Env} {s : State} {m : MethodId} {below : List Frame} {meth : Method} {c : Code} {D : va_G} {cl : List vw_C} {ci : Nat} (hci : cl[ci]? = some (RX1, TX1, 35)) {h : Nat} {ad : Nat → Nat} {cA : Nat → ClassId} {A : Nat → Prop} (hA : ∀ q : Nat, s.heap.size ≤ q → A q) (hK : va_K D cl (mtys cA) s) (K : Nat) (res : (Int32 × pM)) (a0 : Int32) (hx : p.tables.exec = Jvm.exec) (hb : c.code = cX1_costsOf) (hr : meth.sig.returnType = some .int) (hlocks : meth.locks = false) (hml : c.maxLocals = 4) (hown : s.vm.findClass RX1 = some m.cls) (hts : ∀ w ∈ lw_all, w.before ([.ref h, .int a0] : List Value).toArray s = true) : ∀ k : Nat, (∀ (v1 : Int32) (v2 : Int32) (v3 : Int32) (σ : pM) (H : Heap) (locs : List Loc), va_P D cl (mw ci h ad cA σ) H → va_D A (mw ci h ad cA σ) → va_S A s.heap H locs → ∀ (ls : Array Slot), lv_has ls 4 [(0, .ref h), (1, .int v1), (2, .int v2), (3, .int v3)] → (lfX1_costsOf K k) v1 v2 v3 σ = some res → W p l e (headSpec (ws_ yX1_costsOf cX1_costsOf 4 (some .int)) ({ frames := 1, cells := 0, slots := 0, locals := 22 })).room s m ([.ref h, .int a0] : List Value).toArray below meth c H locs 0 0 (MQ below (mQi D cl ci h ad cA A res) ([.ref h, .int a0] : List Value).toArray s 0 0 A) (F0 m 7 ls [])) := by
  intro k
  induction k with
  | zero =>
    exact fun _ _ _ _ _ _ _ _ _ _ _ hf => (by cases hf)
  | succ k ih =>
    · intro v1 v2 v3 σ H locs hP hD hS ls hl hf
      have hf : (if ¬ (v1 < 0 ∨ 116 ≤ Int32.toNatClampNeg v1) then (dz_l (σ.2.2.1 12 (Int32.toNatClampNeg v1)) fun x2 => if ((9 * v1) + x2) ≤ v3 then (some (v2, σ)) else (if ¬ (v1 < 0 ∨ 116 ≤ Int32.toNatClampNeg v1) then (dz_l (σ.2.2.1 8 (Int32.toNatClampNeg v1)) fun x4 => dz_b (fnX1_costOf K (x4 - 1)) fun x5 => if ¬ (v1 < 0 ∨ 116 ≤ Int32.toNatClampNeg v1) then (dz_l (σ.2.2.1 8 (Int32.toNatClampNeg v1)) fun x7 => if ¬ (v3 < 0 ∨ 1044 ≤ Int32.toNatClampNeg v3) then (dz_l (σ.2.2.1 14 (Int32.toNatClampNeg v3)) fun x9 => if ¬ x9 = 0 then (dz_l ((x7 - 1) / x9) fun x11 => dz_b (fnX1_costOf K x11) fun x12 => dz_l (v2 + (x5 + x12)) fun x13 => dz_l (v3 + 1) fun x14 => (lfX1_costsOf K k) v1 x13 x14 σ) else none) else none) else none) else none)) else none : Option (Int32 × pM)) = some res := hf
      refine lv_iload_n hx hb dX1_costsOf_7 rfl (lv_at hl 3 rfl) ?_
      refine lv_bipush (v := 9) hx hb dX1_costsOf_8 (by decide) ?_
      refine lv_iload_n hx hb dX1_costsOf_10 rfl (lv_at hl 1 rfl) ?_
      refine lv_imul hx hb dX1_costsOf_11 ?_
      refine lv_aload_n hx hb dX1_costsOf_12 rfl (lv_at hl 0 rfl) ?_
      refine va_get (C := RX1) (T := TX1) (N := 35) (fs := mwF ad σ) (v := .ref (ad 12)) hx hb hts in_X1 hown hK hP 0 rfl hci 12 (by decide) (hts _ q1683) (fun _ hq => hq) rfl dX1_costsOf_13 ?_
      refine lv_iload_n hx hb dX1_costsOf_16 rfl (lv_at hl 1 rfl) ?_
      obtain ⟨g1, hf⟩ := dz_go hf
      refine va_iald hx hb hK hP 10 0 rfl rfl g1 dX1_costsOf_17 ?_
      refine lv_topi (fun x2 e_x2 => ?_)
      have hf := dz_ls e_x2 hf
      refine lv_iadd hx hb dX1_costsOf_18 ?_
      refine lv_icmp_ge (tgt := 61) hx hb dX1_costsOf_19 (by decide) (fun c19 => ?_) (fun c19 => ?_)
      · have hf := dz_t c19 hf
        refine lv_iload_n hx hb dX1_costsOf_61 rfl (lv_at hl 2 rfl) ?_
        exact W.iret (v := v2) hx hb hr (fun t ht hW => ⟨⟨v2, σ, rfl, Option.some.inj hf, by rw [ht]; exact hP, va_K.moved hW.alike hK, hD⟩, hS.F ht⟩) hS.2.2 dX1_costsOf_62
      · have hf := dz_f c19 hf
        refine lv_iload_n hx hb dX1_costsOf_22 rfl (lv_at hl 2 rfl) ?_
        refine lv_aload_n hx hb dX1_costsOf_23 rfl (lv_at hl 0 rfl) ?_
        refine va_get (C := RX1) (T := TX1) (N := 35) (fs := mwF ad σ) (v := .ref (ad 8)) hx hb hts in_X1 hown hK hP 0 rfl hci 8 (by decide) (hts _ q1679) (fun _ hq => hq) rfl dX1_costsOf_24 ?_
        refine lv_iload_n hx hb dX1_costsOf_27 rfl (lv_at hl 1 rfl) ?_
        obtain ⟨g3, hf⟩ := dz_go hf
        refine va_iald hx hb hK hP 6 0 rfl rfl g3 dX1_costsOf_28 ?_
        refine lv_topi (fun x4 e_x4 => ?_)
        have hf := dz_ls e_x4 hf
        refine lv_iconst (v := 1) hx hb dX1_costsOf_29 (by decide) ?_
        refine lv_isub hx hb dX1_costsOf_30 ?_
        obtain ⟨x5, hx5, hf⟩ := dz_bo hf
        refine va_calli (va_runS (As := [.int (x4 - 1)]) (rest := [.int v2]) ⟨hx, hb, hml, hown, hts⟩ (mtX1_costOf l (x4 - 1) K x5 hx5) (va_cwS 1 hts (lw_S q2112 q2113 q88 q2114) rfl rfl rfl (by decide +kernel) ⟨Nat.le_of_ble_eq_true rfl, Nat.le_of_ble_eq_true rfl⟩) ⟨fun a U g mk q => q, fun U hU hW => ⟨rfl, trivial⟩⟩ rfl rfl hl.1 rfl (lv_room (Nat.le_of_ble_eq_true rfl)) dX1_costsOf_31 ⟨Nat.le_refl _, Nat.le_refl _⟩) hS (fun q _ hq => hq.elim) (fun q hq => hq.elim) (fun r u t H1 locs ht hvm hw hB hz hk hS => ?_)
        replace hw := hw.symm; subst hw
        replace hP := dz_keep hP hk
        clear hB hk hz hvm ht; generalize H1 = H at hP hS ⊢
        refine lv_aload_n hx hb dX1_costsOf_34 rfl (lv_at hl 0 rfl) ?_
        refine va_get (C := RX1) (T := TX1) (N := 35) (fs := mwF ad σ) (v := .ref (ad 8)) hx hb hts in_X1 hown hK hP 0 rfl hci 8 (by decide) (hts _ q1679) (fun _ hq => hq) rfl dX1_costsOf_35 ?_
        refine lv_iload_n hx hb dX1_costsOf_38 rfl (lv_at hl 1 rfl) ?_
        obtain ⟨g6, hf⟩ := dz_go hf
        refine va_iald hx hb hK hP 6 0 rfl rfl g6 dX1_costsOf_39 ?_
        refine lv_topi (fun x7 e_x7 => ?_)
        have hf := dz_ls e_x7 hf
        refine lv_iconst (v := 1) hx hb dX1_costsOf_40 (by decide) ?_
        refine lv_isub hx hb dX1_costsOf_41 ?_
        refine lv_aload_n hx hb dX1_costsOf_42 rfl (lv_at hl 0 rfl) ?_
        refine va_get (C := RX1) (T := TX1) (N := 35) (fs := mwF ad σ) (v := .ref (ad 14)) hx hb hts in_X1 hown hK hP 0 rfl hci 14 (by decide) (hts _ q1685) (fun _ hq => hq) rfl dX1_costsOf_43 ?_
        refine lv_iload_n hx hb dX1_costsOf_46 rfl (lv_at hl 3 rfl) ?_
        obtain ⟨g8, hf⟩ := dz_go hf
        refine va_iald hx hb hK hP 12 0 rfl rfl g8 dX1_costsOf_47 ?_
        refine lv_topi (fun x9 e_x9 => ?_)
        have hf := dz_ls e_x9 hf
        obtain ⟨g10, hf⟩ := dz_go hf
        refine lv_idiv hx hb dX1_costsOf_48 g10 ?_
        refine lv_topi (fun x11 e_x11 => ?_)
        have hf := dz_ls e_x11 hf
        obtain ⟨x12, hx12, hf⟩ := dz_bo hf
        refine va_calli (va_runS (As := [.int x11]) (rest := [.int x5, .int v2]) ⟨hx, hb, hml, hown, hts⟩ (mtX1_costOf l x11 K x12 hx12) (va_cwS 1 hts (lw_S q2112 q2113 q88 q2114) rfl rfl rfl (by decide +kernel) ⟨Nat.le_of_ble_eq_true rfl, Nat.le_of_ble_eq_true rfl⟩) ⟨fun a U g mk q => q, fun U hU hW => ⟨rfl, trivial⟩⟩ rfl rfl hl.1 rfl (lv_room (Nat.le_of_ble_eq_true rfl)) dX1_costsOf_49 ⟨Nat.le_refl _, Nat.le_refl _⟩) hS (fun q _ hq => hq.elim) (fun q hq => hq.elim) (fun r u t H1 locs ht hvm hw hB hz hk hS => ?_)
        replace hw := hw.symm; subst hw
        replace hP := dz_keep hP hk
        clear hB hk hz hvm ht; generalize H1 = H at hP hS ⊢
        refine lv_iadd hx hb dX1_costsOf_52 ?_
        refine lv_iadd hx hb dX1_costsOf_53 ?_
        refine lv_topi (fun x13 e_x13 => ?_)
        have hf := dz_ls e_x13 hf
        refine lv_istore_n (lv' := [(2, .int x13), (0, .ref h), (1, .int v1), (3, .int v3)]) hx hb dX1_costsOf_54 rfl hl (by decide) rfl (fun ls hl => ?_)
        obtain ⟨x14, e_x14, hf⟩ := dz_lo hf
        refine lv_iinc (v := x14) (lv' := [(3, .int x14), (2, .int x13), (0, .ref h), (1, .int v1)]) hx hb dX1_costsOf_55 hl (k := 3) rfl (by rw [e_x14]; rfl) (by decide) rfl (fun ls hl => ?_)
        refine lv_goto (tgt := 7) hx hb dX1_costsOf_58 (by decide) ?_
        exact ih v1 x13 x14 σ H locs hP hD hS ls (lv_sub hl [2, 3, 1, 0] rfl) hf
set_option maxHeartbeats 4000000 in
set_option maxRecDepth 100000 in
theorem mtX1_costsOf (l : Launch) (D : va_G) (cl : List vw_C) (ci : Nat) (hci : cl[ci]? = some (RX1, TX1, 35)) (h : Nat) (ad : Nat → Nat) (cA : Nat → ClassId) (sz : Nat) (σ : pM) (a0 : Int32) (K : Nat) (res : (Int32 × pM)) (hf : fnX1_costsOf K a0 σ = some res) : Met l yX1_costsOf (ws_ yX1_costsOf cX1_costsOf 4 (some .int)) ({ frames := 1, cells := 0, slots := 0, locals := 22 }) (mPc D cl ci h ad cA sz σ [.ref h, .int a0]) (mQi D cl ci h ad cA (va_A (mw ci h ad cA σ) sz) res) 0 0 (va_A (mw ci h ad cA σ) sz) := by
  refine Met.ofW (cc := cX1_costsOf) (maxL := 4) (ret := some .int) (by decide +kernel) rfl ?_
  intro p e s m args below meth c s₁ B hml hv
  obtain ⟨rfl, hsz, hP, hK, hD0⟩ := hv
  have hx := B.exec
  have hb := B.bytes
  have hr := B.returns
  have hts := atoms_spec (ws := ws_ yX1_costsOf cX1_costsOf 4 (some .int)) B.pre
  have hts : ∀ w ∈ lw_all, w.before _ s = true := fun w h => hts w (List.mem_cons_of_mem _ h)
  have hown : s.vm.findClass RX1 = some m.cls := findClass_of_methodNamed B.named
  have hlocks := B.notSynchronized
  subst hsz
  have hD := hD0.self (sz := s.heap.size)
  generalize hAe : va_A (mw ci h ad cA σ) s.heap.size = A at hD ⊢
  have hA : ∀ q : Nat, s.heap.size ≤ q → A q := fun q h => by rw [← hAe]; exact Or.inr h
  clear hAe hD0
  have hS : va_S A s.heap s.heap [] := va_S.rf
  generalize hHe : s.heap = H at hP hS ⊢
  have hS : va_S A s.heap H [] := by rw [hHe]; exact hS
  generalize ([] : List Loc) = locs at hS ⊢
  have hl := lv_entry ([.ref h, .int a0]) (n := 4) (Nat.le_of_ble_eq_true rfl)
  rw [lg_entry_eq]
  generalize (lg_sl ([.ref h, .int a0]) ++ List.replicate (4 - (lg_sl ([.ref h, .int a0])).length) Slot.unset).toArray = ls at hl ⊢
  have hl : lv_has ls 4 [(0, .ref h), (1, .int a0)] := hl
  have hf : (dz_l (9 * a0) fun x1 => (lfX1_costsOf K K) a0 0 x1 σ : Option (Int32 × pM)) = some res := hf
  have ih := wlX1_costsOf (l := l) (e := e) (below := below) (h := h) (ad := ad) (cA := cA) hci hA hK K res a0 hx hb hr hlocks hml hown hts K
  refine lv_iconst (v := 0) hx hb dX1_costsOf_0 (by decide) ?_
  refine lv_istore_n (lv' := [(2, .int 0), (0, .ref h), (1, .int a0)]) hx hb dX1_costsOf_1 rfl hl (by decide) rfl (fun ls hl => ?_)
  refine lv_bipush (v := 9) hx hb dX1_costsOf_2 (by decide) ?_
  refine lv_iload_n hx hb dX1_costsOf_4 rfl (lv_at hl 2 rfl) ?_
  refine lv_imul hx hb dX1_costsOf_5 ?_
  refine lv_topi (fun x1 e_x1 => ?_)
  have hf := dz_ls e_x1 hf
  refine lv_istore_n (lv' := [(3, .int x1), (2, .int 0), (0, .ref h), (1, .int a0)]) hx hb dX1_costsOf_6 rfl hl (by decide) rfl (fun ls hl => ?_)
  exact ih a0 0 x1 σ H locs hP hD hS ls (lv_sub hl [2, 3, 1, 0] rfl) hf

noncomputable def fnX1_cost (K : Nat) (a0 : Int32) (σ : pM) : Option (Int32 × pM) := dz_c (fnX1_isLine K a0 σ) fun x1 s2 => if x1 = (0 : Int32) then (some ((-1), s2)) else (dz_c (fnX1_isRightLine K a0 s2) fun x3 s4 => if x3 = (0 : Int32) then (some ((-2), s4)) else (dz_c (fnX1_costsOf K a0 s4) fun x5 s6 => some (x5, s6)))
set_option maxHeartbeats 4000000 in
set_option maxRecDepth 100000 in
theorem mtX1_cost (l : Launch) (D : va_G) (cl : List vw_C) (ci : Nat) (hci : cl[ci]? = some (RX1, TX1, 35)) (h : Nat) (ad : Nat → Nat) (cA : Nat → ClassId) (sz : Nat) (σ : pM) (a0 : Int32) (K : Nat) (res : (Int32 × pM)) (hf : fnX1_cost K a0 σ = some res) : Met l yX1_cost (ws_ yX1_cost cX1_cost 2 (some .int)) ({ frames := 6, cells := 0, slots := 0, locals := 151 }) (mPc D cl ci h ad cA sz σ [.ref h, .int a0]) (mQi D cl ci h ad cA (va_A (mw ci h ad cA σ) sz) res) 0 0 (va_A (mw ci h ad cA σ) sz) := by
  refine Met.ofW (cc := cX1_cost) (maxL := 2) (ret := some .int) (by decide +kernel) rfl ?_
  intro p e s m args below meth c s₁ B hml hv
  obtain ⟨rfl, hsz, hP, hK, hD0⟩ := hv
  have hx := B.exec
  have hb := B.bytes
  have hr := B.returns
  have hts := atoms_spec (ws := ws_ yX1_cost cX1_cost 2 (some .int)) B.pre
  have hts : ∀ w ∈ lw_all, w.before _ s = true := fun w h => hts w (List.mem_cons_of_mem _ h)
  have hown : s.vm.findClass RX1 = some m.cls := findClass_of_methodNamed B.named
  have hlocks := B.notSynchronized
  subst hsz
  have hD := hD0.self (sz := s.heap.size)
  generalize hAe : va_A (mw ci h ad cA σ) s.heap.size = A at hD ⊢
  have hA : ∀ q : Nat, s.heap.size ≤ q → A q := fun q h => by rw [← hAe]; exact Or.inr h
  clear hAe hD0
  have hS : va_S A s.heap s.heap [] := va_S.rf
  generalize hHe : s.heap = H at hP hS ⊢
  have hS : va_S A s.heap H [] := by rw [hHe]; exact hS
  generalize ([] : List Loc) = locs at hS ⊢
  have hl := lv_entry ([.ref h, .int a0]) (n := 2) (Nat.le_of_ble_eq_true rfl)
  rw [lg_entry_eq]
  generalize (lg_sl ([.ref h, .int a0]) ++ List.replicate (2 - (lg_sl ([.ref h, .int a0])).length) Slot.unset).toArray = ls at hl ⊢
  have hl : lv_has ls 2 [(0, .ref h), (1, .int a0)] := hl
  have hf : (dz_c (fnX1_isLine K a0 σ) fun x1 s2 => if x1 = (0 : Int32) then (some ((-1), s2)) else (dz_c (fnX1_isRightLine K a0 s2) fun x3 s4 => if x3 = (0 : Int32) then (some ((-2), s4)) else (dz_c (fnX1_costsOf K a0 s4) fun x5 s6 => some (x5, s6))) : Option (Int32 × pM)) = some res := hf
  refine lv_aload_n hx hb dX1_cost_0 rfl (lv_at hl 0 rfl) ?_
  refine lv_iload_n hx hb dX1_cost_1 rfl (lv_at hl 1 rfl) ?_
  obtain ⟨x1, s2, hx1, hf⟩ := dz_co hf
  have hFc := dz_free hD hS hA
  refine va_calli (va_runV (As := [.int a0]) (rest := []) ⟨hx, hb, hml, hown, hts⟩ (mtX1_isLine l D cl ci hci h ad cA H.size σ a0 K (x1, s2) hx1) (cwV 1 hts (lw_V q1923 q1925 qs60 q88 q1926) rfl rfl rfl (by decide +kernel) ⟨Nat.le_of_ble_eq_true rfl, Nat.le_of_ble_eq_true rfl⟩) (m_preV hci hK hP hD) rfl rfl hl.1 rfl (lv_room (Nat.le_of_ble_eq_true rfl)) dX1_cost_2 ⟨Nat.le_refl _, Nat.le_refl _⟩) hS (fun q _ hq => hFc q hq) hFc (fun r u t H1 locs ht hvm hw hB hz hk hS => ?_)
  obtain ⟨hw1, hw2⟩ := Prod.mk.inj hw.symm; subst hw1; subst hw2
  replace hP := m_back ht hB
  replace hD := mw_D s2 hD
  clear hB hk hz hvm ht hFc; generalize H1 = H at hP hS ⊢
  refine lv_if_ne (tgt := 10) hx hb dX1_cost_5 (by decide) (fun c5 => ?_) (fun c5 => ?_)
  · have hf := dz_f c5 hf
    refine lv_aload_n hx hb dX1_cost_10 rfl (lv_at hl 0 rfl) ?_
    refine lv_iload_n hx hb dX1_cost_11 rfl (lv_at hl 1 rfl) ?_
    obtain ⟨x3, s4, hx3, hf⟩ := dz_co hf
    have hFc := dz_free hD hS hA
    refine va_calli (va_runV (As := [.int a0]) (rest := []) ⟨hx, hb, hml, hown, hts⟩ (mtX1_isRightLine l D cl ci hci h ad cA H.size s2 a0 K (x3, s4) hx3) (cwV 1 hts (lw_V q2047 q2049 qs77 q88 q2050) rfl rfl rfl (by decide +kernel) ⟨Nat.le_of_ble_eq_true rfl, Nat.le_of_ble_eq_true rfl⟩) (m_preV hci hK hP hD) rfl rfl hl.1 rfl (lv_room (Nat.le_of_ble_eq_true rfl)) dX1_cost_12 ⟨Nat.le_refl _, Nat.le_refl _⟩) hS (fun q _ hq => hFc q hq) hFc (fun r u t H1 locs ht hvm hw hB hz hk hS => ?_)
    obtain ⟨hw1, hw2⟩ := Prod.mk.inj hw.symm; subst hw1; subst hw2
    replace hP := m_back ht hB
    replace hD := mw_D s4 hD
    clear hB hk hz hvm ht hFc; generalize H1 = H at hP hS ⊢
    refine lv_if_eq (tgt := 26) hx hb dX1_cost_15 (by decide) (fun c15 => ?_) (fun c15 => ?_)
    · have hf := dz_t c15 hf
      refine lv_bipush (v := (-2)) hx hb dX1_cost_26 (by decide) ?_
      exact W.iret (v := (-2)) hx hb hr (fun t ht hW => ⟨⟨(-2), s4, rfl, Option.some.inj hf, by rw [ht]; exact hP, va_K.moved hW.alike hK, hD⟩, hS.F ht⟩) hS.2.2 dX1_cost_28
    · have hf := dz_f c15 hf
      refine lv_aload_n hx hb dX1_cost_18 rfl (lv_at hl 0 rfl) ?_
      refine lv_iload_n hx hb dX1_cost_19 rfl (lv_at hl 1 rfl) ?_
      obtain ⟨x5, s6, hx5, hf⟩ := dz_co hf
      have hFc := dz_free hD hS hA
      refine va_calli (va_runV (As := [.int a0]) (rest := []) ⟨hx, hb, hml, hown, hts⟩ (mtX1_costsOf l D cl ci hci h ad cA H.size s4 a0 K (x5, s6) hx5) (cwV 1 hts (lw_V q2108 q2110 qs81 q88 q2111) rfl rfl rfl (by decide +kernel) ⟨Nat.le_of_ble_eq_true rfl, Nat.le_of_ble_eq_true rfl⟩) (m_preV hci hK hP hD) rfl rfl hl.1 rfl (lv_room (Nat.le_of_ble_eq_true rfl)) dX1_cost_20 ⟨Nat.le_refl _, Nat.le_refl _⟩) hS (fun q _ hq => hFc q hq) hFc (fun r u t H1 locs ht hvm hw hB hz hk hS => ?_)
      obtain ⟨hw1, hw2⟩ := Prod.mk.inj hw.symm; subst hw1; subst hw2
      replace hP := m_back ht hB
      replace hD := mw_D s6 hD
      clear hB hk hz hvm ht hFc; generalize H1 = H at hP hS ⊢
      refine lv_goto (tgt := 28) hx hb dX1_cost_23 (by decide) ?_
      exact W.iret (v := x5) hx hb hr (fun t ht hW => ⟨⟨x5, s6, rfl, Option.some.inj hf, by rw [ht]; exact hP, va_K.moved hW.alike hK, hD⟩, hS.F ht⟩) hS.2.2 dX1_cost_28
  · have hf := dz_t c5 hf
    refine lv_iconst (v := (-1)) hx hb dX1_cost_8 (by decide) ?_
    exact W.iret (v := (-1)) hx hb hr (fun t ht hW => ⟨⟨(-1), s2, rfl, Option.some.inj hf, by rw [ht]; exact hP, va_K.moved hW.alike hK, hD⟩, hS.F ht⟩) hS.2.2 dX1_cost_9

noncomputable def lfX1_loose (K : Nat) : Nat → (Int32 → Int32 → Int32 → Int32 → pM → Option (Int32 × pM)) × (Int32 → Int32 → Int32 → Int32 → pM → Option (Int32 × pM)) := Nat.rec (motive := fun _ => (Int32 → Int32 → Int32 → Int32 → pM → Option (Int32 × pM)) × (Int32 → Int32 → Int32 → Int32 → pM → Option (Int32 × pM))) ((fun _ _ _ _ _ => none), (fun _ _ _ _ _ => none)) (fun _ G => ((fun v1 v2 v3 v4 σ => if (999 : Int32) < v4 then (some (v3, σ)) else (if ¬ (v1 < 0 ∨ 116 ≤ Int32.toNatClampNeg v1) then (dz_l (σ.2.2.1 8 (Int32.toNatClampNeg v1)) fun x2 => dz_b (fnX1_isOneBy K (Int32.toInt64 x2) (Int32.toInt64 v4)) fun x3 => if x3 = (0 : Int32) then (G.2 v1 v2 v3 v4 σ) else (if ¬ (v1 < 0 ∨ 116 ≤ Int32.toNatClampNeg v1) then (dz_l (σ.2.2.1 8 (Int32.toNatClampNeg v1)) fun x5 => dz_l ((9 * v1) + v2) fun x6 => if ¬ (x6 < 0 ∨ 1044 ≤ Int32.toNatClampNeg x6) then (dz_l (σ.2.2.1 14 (Int32.toNatClampNeg x6)) fun x8 => dz_b (fnX1_isApartBy K (Int32.toInt64 x5) (Int32.toInt64 v4) (Int32.toInt64 x8)) fun x9 => if x9 = (0 : Int32) then (G.2 v1 v2 v3 v4 σ) else (dz_l (v3 + 1) fun x10 => G.2 v1 v2 x10 v4 σ)) else none) else none)) else none)), (fun v1 v2 v3 v4 σ => dz_l (v4 + 1) fun x1 => G.1 v1 v2 v3 x1 σ)))
noncomputable def fnX1_loose (K : Nat) (a0 : Int32) (a1 : Int32) (σ : pM) : Option (Int32 × pM) := dz_c (fnX1_isRow K a0 0 a1 σ) fun x1 s2 => if x1 = (0 : Int32) then (some ((-1), s2)) else (dz_c (fnX1_isRightLine K a0 s2) fun x3 s4 => if x3 = (0 : Int32) then (some ((-2), s4)) else ((lfX1_loose K K).1 a0 a1 0 2 s4))
set_option maxHeartbeats 4000000 in
set_option maxRecDepth 100000 in
theorem wlX1_loose {p : Program} {l : Launch} {e : Env} {s : State} {m : MethodId} {below : List Frame} {meth : Method} {c : Code} {D : va_G} {cl : List vw_C} {ci : Nat} (hci : cl[ci]? = some (RX1, TX1, 35)) {h : Nat} {ad : Nat → Nat} {cA : Nat → ClassId} {A : Nat → Prop} (hA : ∀ q : Nat, s.heap.size ≤ q → A q) (hK : va_K D cl (mtys cA) s) (K : Nat) (res : (Int32 × pM)) (a0 : Int32) (a1 : Int32) (hx : p.tables.exec = Jvm.exec) (hb : c.code = cX1_loose) (hr : meth.sig.returnType = some .int) (hlocks : meth.locks = false) (hml : c.maxLocals = 5) (hown : s.vm.findClass RX1 = some m.cls) (hts : ∀ w ∈ lw_all, w.before ([.ref h, .int a0, .int a1] : List Value).toArray s = true) : ∀ k : Nat, (∀ (v1 : Int32) (v2 : Int32) (v3 : Int32) (v4 : Int32) (σ : pM) (H : Heap) (locs : List Loc), va_P D cl (mw ci h ad cA σ) H → va_D A (mw ci h ad cA σ) → va_S A s.heap H locs → ∀ (ls : Array Slot), lv_has ls 5 [(0, .ref h), (1, .int v1), (2, .int v2), (3, .int v3), (4, .int v4)] → (lfX1_loose K k).1 v1 v2 v3 v4 σ = some res → W p l e (headSpec (ws_ yX1_loose cX1_loose 5 (some .int)) ({ frames := 6, cells := 0, slots := 0, locals := 151 })).room s m ([.ref h, .int a0, .int a1] : List Value).toArray below meth c H locs 0 0 (MQ below (mQi D cl ci h ad cA A res) ([.ref h, .int a0, .int a1] : List Value).toArray s 0 0 A) (F0 m 28 ls [])) ∧ (∀ (v1 : Int32) (v2 : Int32) (v3 : Int32) (v4 : Int32) (σ : pM) (H : Heap) (locs : List Loc), va_P D cl (mw ci h ad cA σ) H → va_D A (mw ci h ad cA σ) → va_S A s.heap H locs → ∀ (ls : Array Slot), lv_has ls 5 [(0, .ref h), (1, .int v1), (2, .int v2), (3, .int v3), (4, .int v4)] → (lfX1_loose K k).2 v1 v2 v3 v4 σ = some res → W p l e (headSpec (ws_ yX1_loose cX1_loose 5 (some .int)) ({ frames := 6, cells := 0, slots := 0, locals := 151 })).room s m ([.ref h, .int a0, .int a1] : List Value).toArray below meth c H locs 0 0 (MQ below (mQi D cl ci h ad cA A res) ([.ref h, .int a0, .int a1] : List Value).toArray s 0 0 A) (F0 m 83 ls [])) := by
  intro k
  induction k with
  | zero =>
    exact ⟨fun _ _ _ _ _ _ _ _ _ _ _ _ hf => (by cases hf), fun _ _ _ _ _ _ _ _ _ _ _ _ hf => (by cases hf)⟩
  | succ k ih =>
    refine ⟨?_, ?_⟩
    · intro v1 v2 v3 v4 σ H locs hP hD hS ls hl hf
      have hf : (if (999 : Int32) < v4 then (some (v3, σ)) else (if ¬ (v1 < 0 ∨ 116 ≤ Int32.toNatClampNeg v1) then (dz_l (σ.2.2.1 8 (Int32.toNatClampNeg v1)) fun x2 => dz_b (fnX1_isOneBy K (Int32.toInt64 x2) (Int32.toInt64 v4)) fun x3 => if x3 = (0 : Int32) then ((lfX1_loose K k).2 v1 v2 v3 v4 σ) else (if ¬ (v1 < 0 ∨ 116 ≤ Int32.toNatClampNeg v1) then (dz_l (σ.2.2.1 8 (Int32.toNatClampNeg v1)) fun x5 => dz_l ((9 * v1) + v2) fun x6 => if ¬ (x6 < 0 ∨ 1044 ≤ Int32.toNatClampNeg x6) then (dz_l (σ.2.2.1 14 (Int32.toNatClampNeg x6)) fun x8 => dz_b (fnX1_isApartBy K (Int32.toInt64 x5) (Int32.toInt64 v4) (Int32.toInt64 x8)) fun x9 => if x9 = (0 : Int32) then ((lfX1_loose K k).2 v1 v2 v3 v4 σ) else (dz_l (v3 + 1) fun x10 => (lfX1_loose K k).2 v1 v2 x10 v4 σ)) else none) else none)) else none) : Option (Int32 × pM)) = some res := hf
      refine lv_iload hx hb dX1_loose_28 (lv_at hl 4 rfl) ?_
      refine lv_sipush (v := 999) hx hb dX1_loose_30 (by decide) ?_
      refine lv_icmp_gt (tgt := 89) hx hb dX1_loose_33 (by decide) (fun c33 => ?_) (fun c33 => ?_)
      · have hf := dz_t c33 hf
        refine lv_iload_n hx hb dX1_loose_89 rfl (lv_at hl 3 rfl) ?_
        exact W.iret (v := v3) hx hb hr (fun t ht hW => ⟨⟨v3, σ, rfl, Option.some.inj hf, by rw [ht]; exact hP, va_K.moved hW.alike hK, hD⟩, hS.F ht⟩) hS.2.2 dX1_loose_90
      · have hf := dz_f c33 hf
        refine lv_aload_n hx hb dX1_loose_36 rfl (lv_at hl 0 rfl) ?_
        refine va_get (C := RX1) (T := TX1) (N := 35) (fs := mwF ad σ) (v := .ref (ad 8)) hx hb hts in_X1 hown hK hP 0 rfl hci 8 (by decide) (hts _ q1679) (fun _ hq => hq) rfl dX1_loose_37 ?_
        refine lv_iload_n hx hb dX1_loose_40 rfl (lv_at hl 1 rfl) ?_
        obtain ⟨g1, hf⟩ := dz_go hf
        refine va_iald hx hb hK hP 6 0 rfl rfl g1 dX1_loose_41 ?_
        refine lv_topi (fun x2 e_x2 => ?_)
        have hf := dz_ls e_x2 hf
        refine lv_i2l hx hb dX1_loose_42 (rfl : _ = Int32.toInt64 x2) ?_
        refine lv_iload hx hb dX1_loose_43 (lv_at hl 4 rfl) ?_
        refine lv_i2l hx hb dX1_loose_45 (rfl : _ = Int32.toInt64 v4) ?_
        obtain ⟨x3, hx3, hf⟩ := dz_bo hf
        refine va_calli (va_runS (As := [.long (Int32.toInt64 x2), .long (Int32.toInt64 v4)]) (rest := []) ⟨hx, hb, hml, hown, hts⟩ (mtX1_isOneBy l (Int32.toInt64 x2) (Int32.toInt64 v4) K x3 hx3) (va_cwS 2 hts (lw_S q1841 q1842 q88 q1843) rfl rfl rfl (by decide +kernel) ⟨Nat.le_of_ble_eq_true rfl, Nat.le_of_ble_eq_true rfl⟩) ⟨fun a U g mk q => q, fun U hU hW => ⟨rfl, trivial⟩⟩ rfl rfl hl.1 rfl (lv_room (Nat.le_of_ble_eq_true rfl)) dX1_loose_46 ⟨Nat.le_refl _, Nat.le_refl _⟩) hS (fun q _ hq => hq.elim) (fun q hq => hq.elim) (fun r u t H1 locs ht hvm hw hB hz hk hS => ?_)
        replace hw := hw.symm; subst hw
        replace hP := dz_keep hP hk
        clear hB hk hz hvm ht; generalize H1 = H at hP hS ⊢
        refine lv_if_eq (tgt := 83) hx hb dX1_loose_49 (by decide) (fun c49 => ?_) (fun c49 => ?_)
        · have hf := dz_t c49 hf
          exact ih.2 v1 v2 v3 v4 σ H locs hP hD hS ls (lv_sub hl [0, 1, 2, 3, 4] rfl) hf
        · have hf := dz_f c49 hf
          refine lv_aload_n hx hb dX1_loose_52 rfl (lv_at hl 0 rfl) ?_
          refine va_get (C := RX1) (T := TX1) (N := 35) (fs := mwF ad σ) (v := .ref (ad 8)) hx hb hts in_X1 hown hK hP 0 rfl hci 8 (by decide) (hts _ q1679) (fun _ hq => hq) rfl dX1_loose_53 ?_
          refine lv_iload_n hx hb dX1_loose_56 rfl (lv_at hl 1 rfl) ?_
          obtain ⟨g4, hf⟩ := dz_go hf
          refine va_iald hx hb hK hP 6 0 rfl rfl g4 dX1_loose_57 ?_
          refine lv_topi (fun x5 e_x5 => ?_)
          have hf := dz_ls e_x5 hf
          refine lv_i2l hx hb dX1_loose_58 (rfl : _ = Int32.toInt64 x5) ?_
          refine lv_iload hx hb dX1_loose_59 (lv_at hl 4 rfl) ?_
          refine lv_i2l hx hb dX1_loose_61 (rfl : _ = Int32.toInt64 v4) ?_
          refine lv_aload_n hx hb dX1_loose_62 rfl (lv_at hl 0 rfl) ?_
          refine va_get (C := RX1) (T := TX1) (N := 35) (fs := mwF ad σ) (v := .ref (ad 14)) hx hb hts in_X1 hown hK hP 0 rfl hci 14 (by decide) (hts _ q1685) (fun _ hq => hq) rfl dX1_loose_63 ?_
          refine lv_bipush (v := 9) hx hb dX1_loose_66 (by decide) ?_
          refine lv_iload_n hx hb dX1_loose_68 rfl (lv_at hl 1 rfl) ?_
          refine lv_imul hx hb dX1_loose_69 ?_
          refine lv_iload_n hx hb dX1_loose_70 rfl (lv_at hl 2 rfl) ?_
          refine lv_iadd hx hb dX1_loose_71 ?_
          refine lv_topi (fun x6 e_x6 => ?_)
          have hf := dz_ls e_x6 hf
          obtain ⟨g7, hf⟩ := dz_go hf
          refine va_iald hx hb hK hP 12 0 rfl rfl g7 dX1_loose_72 ?_
          refine lv_topi (fun x8 e_x8 => ?_)
          have hf := dz_ls e_x8 hf
          refine lv_i2l hx hb dX1_loose_73 (rfl : _ = Int32.toInt64 x8) ?_
          obtain ⟨x9, hx9, hf⟩ := dz_bo hf
          refine va_calli (va_runS (As := [.long (Int32.toInt64 x5), .long (Int32.toInt64 v4), .long (Int32.toInt64 x8)]) (rest := []) ⟨hx, hb, hml, hown, hts⟩ (mtX1_isApartBy l (Int32.toInt64 x5) (Int32.toInt64 v4) (Int32.toInt64 x8) K x9 hx9) (va_cwS 3 hts (lw_S q1847 q1848 q88 q1849) rfl rfl rfl (by decide +kernel) ⟨Nat.le_of_ble_eq_true rfl, Nat.le_of_ble_eq_true rfl⟩) ⟨fun a U g mk q => q, fun U hU hW => ⟨rfl, trivial⟩⟩ rfl rfl hl.1 rfl (lv_room (Nat.le_of_ble_eq_true rfl)) dX1_loose_74 ⟨Nat.le_refl _, Nat.le_refl _⟩) hS (fun q _ hq => hq.elim) (fun q hq => hq.elim) (fun r u t H1 locs ht hvm hw hB hz hk hS => ?_)
          replace hw := hw.symm; subst hw
          replace hP := dz_keep hP hk
          clear hB hk hz hvm ht; generalize H1 = H at hP hS ⊢
          refine lv_if_eq (tgt := 83) hx hb dX1_loose_77 (by decide) (fun c77 => ?_) (fun c77 => ?_)
          · have hf := dz_t c77 hf
            exact ih.2 v1 v2 v3 v4 σ H locs hP hD hS ls (lv_sub hl [0, 1, 2, 3, 4] rfl) hf
          · have hf := dz_f c77 hf
            obtain ⟨x10, e_x10, hf⟩ := dz_lo hf
            refine lv_iinc (v := x10) (lv' := [(3, .int x10), (0, .ref h), (1, .int v1), (2, .int v2), (4, .int v4)]) hx hb dX1_loose_80 hl (k := 3) rfl (by rw [e_x10]; rfl) (by decide) rfl (fun ls hl => ?_)
            exact ih.2 v1 v2 x10 v4 σ H locs hP hD hS ls (lv_sub hl [1, 2, 3, 0, 4] rfl) hf
    · intro v1 v2 v3 v4 σ H locs hP hD hS ls hl hf
      have hf : (dz_l (v4 + 1) fun x1 => (lfX1_loose K k).1 v1 v2 v3 x1 σ : Option (Int32 × pM)) = some res := hf
      obtain ⟨x1, e_x1, hf⟩ := dz_lo hf
      refine lv_iinc (v := x1) (lv' := [(4, .int x1), (0, .ref h), (1, .int v1), (2, .int v2), (3, .int v3)]) hx hb dX1_loose_83 hl (k := 4) rfl (by rw [e_x1]; rfl) (by decide) rfl (fun ls hl => ?_)
      refine lv_goto (tgt := 28) hx hb dX1_loose_86 (by decide) ?_
      exact ih.1 v1 v2 v3 x1 σ H locs hP hD hS ls (lv_sub hl [1, 2, 3, 4, 0] rfl) hf
set_option maxHeartbeats 4000000 in
set_option maxRecDepth 100000 in
theorem mtX1_loose (l : Launch) (D : va_G) (cl : List vw_C) (ci : Nat) (hci : cl[ci]? = some (RX1, TX1, 35)) (h : Nat) (ad : Nat → Nat) (cA : Nat → ClassId) (sz : Nat) (σ : pM) (a0 : Int32) (a1 : Int32) (K : Nat) (res : (Int32 × pM)) (hf : fnX1_loose K a0 a1 σ = some res) : Met l yX1_loose (ws_ yX1_loose cX1_loose 5 (some .int)) ({ frames := 6, cells := 0, slots := 0, locals := 151 }) (mPc D cl ci h ad cA sz σ [.ref h, .int a0, .int a1]) (mQi D cl ci h ad cA (va_A (mw ci h ad cA σ) sz) res) 0 0 (va_A (mw ci h ad cA σ) sz) := by
  refine Met.ofW (cc := cX1_loose) (maxL := 5) (ret := some .int) (by decide +kernel) rfl ?_
  intro p e s m args below meth c s₁ B hml hv
  obtain ⟨rfl, hsz, hP, hK, hD0⟩ := hv
  have hx := B.exec
  have hb := B.bytes
  have hr := B.returns
  have hts := atoms_spec (ws := ws_ yX1_loose cX1_loose 5 (some .int)) B.pre
  have hts : ∀ w ∈ lw_all, w.before _ s = true := fun w h => hts w (List.mem_cons_of_mem _ h)
  have hown : s.vm.findClass RX1 = some m.cls := findClass_of_methodNamed B.named
  have hlocks := B.notSynchronized
  subst hsz
  have hD := hD0.self (sz := s.heap.size)
  generalize hAe : va_A (mw ci h ad cA σ) s.heap.size = A at hD ⊢
  have hA : ∀ q : Nat, s.heap.size ≤ q → A q := fun q h => by rw [← hAe]; exact Or.inr h
  clear hAe hD0
  have hS : va_S A s.heap s.heap [] := va_S.rf
  generalize hHe : s.heap = H at hP hS ⊢
  have hS : va_S A s.heap H [] := by rw [hHe]; exact hS
  generalize ([] : List Loc) = locs at hS ⊢
  have hl := lv_entry ([.ref h, .int a0, .int a1]) (n := 5) (Nat.le_of_ble_eq_true rfl)
  rw [lg_entry_eq]
  generalize (lg_sl ([.ref h, .int a0, .int a1]) ++ List.replicate (5 - (lg_sl ([.ref h, .int a0, .int a1])).length) Slot.unset).toArray = ls at hl ⊢
  have hl : lv_has ls 5 [(0, .ref h), (1, .int a0), (2, .int a1)] := hl
  have hf : (dz_c (fnX1_isRow K a0 0 a1 σ) fun x1 s2 => if x1 = (0 : Int32) then (some ((-1), s2)) else (dz_c (fnX1_isRightLine K a0 s2) fun x3 s4 => if x3 = (0 : Int32) then (some ((-2), s4)) else ((lfX1_loose K K).1 a0 a1 0 2 s4)) : Option (Int32 × pM)) = some res := hf
  have ih := wlX1_loose (l := l) (e := e) (below := below) (h := h) (ad := ad) (cA := cA) hci hA hK K res a0 a1 hx hb hr hlocks hml hown hts K
  refine lv_aload_n hx hb dX1_loose_0 rfl (lv_at hl 0 rfl) ?_
  refine lv_iload_n hx hb dX1_loose_1 rfl (lv_at hl 1 rfl) ?_
  refine lv_iconst (v := 0) hx hb dX1_loose_2 (by decide) ?_
  refine lv_iload_n hx hb dX1_loose_3 rfl (lv_at hl 2 rfl) ?_
  obtain ⟨x1, s2, hx1, hf⟩ := dz_co hf
  have hFc := dz_free hD hS hA
  refine va_calli (va_runV (As := [.int a0, .int 0, .int a1]) (rest := []) ⟨hx, hb, hml, hown, hts⟩ (mtX1_isRow l D cl ci hci h ad cA H.size σ a0 0 a1 K (x1, s2) hx1) (cwV 3 hts (lw_V q2030 q2032 qs76 q88 q2033) rfl rfl rfl (by decide +kernel) ⟨Nat.le_of_ble_eq_true rfl, Nat.le_of_ble_eq_true rfl⟩) (m_preV hci hK hP hD) rfl rfl hl.1 rfl (lv_room (Nat.le_of_ble_eq_true rfl)) dX1_loose_4 ⟨Nat.le_refl _, Nat.le_refl _⟩) hS (fun q _ hq => hFc q hq) hFc (fun r u t H1 locs ht hvm hw hB hz hk hS => ?_)
  obtain ⟨hw1, hw2⟩ := Prod.mk.inj hw.symm; subst hw1; subst hw2
  replace hP := m_back ht hB
  replace hD := mw_D s2 hD
  clear hB hk hz hvm ht hFc; generalize H1 = H at hP hS ⊢
  refine lv_if_ne (tgt := 12) hx hb dX1_loose_7 (by decide) (fun c7 => ?_) (fun c7 => ?_)
  · have hf := dz_f c7 hf
    refine lv_aload_n hx hb dX1_loose_12 rfl (lv_at hl 0 rfl) ?_
    refine lv_iload_n hx hb dX1_loose_13 rfl (lv_at hl 1 rfl) ?_
    obtain ⟨x3, s4, hx3, hf⟩ := dz_co hf
    have hFc := dz_free hD hS hA
    refine va_calli (va_runV (As := [.int a0]) (rest := []) ⟨hx, hb, hml, hown, hts⟩ (mtX1_isRightLine l D cl ci hci h ad cA H.size s2 a0 K (x3, s4) hx3) (cwV 1 hts (lw_V q2047 q2049 qs77 q88 q2050) rfl rfl rfl (by decide +kernel) ⟨Nat.le_of_ble_eq_true rfl, Nat.le_of_ble_eq_true rfl⟩) (m_preV hci hK hP hD) rfl rfl hl.1 rfl (lv_room (Nat.le_of_ble_eq_true rfl)) dX1_loose_14 ⟨Nat.le_refl _, Nat.le_refl _⟩) hS (fun q _ hq => hFc q hq) hFc (fun r u t H1 locs ht hvm hw hB hz hk hS => ?_)
    obtain ⟨hw1, hw2⟩ := Prod.mk.inj hw.symm; subst hw1; subst hw2
    replace hP := m_back ht hB
    replace hD := mw_D s4 hD
    clear hB hk hz hvm ht hFc; generalize H1 = H at hP hS ⊢
    refine lv_if_ne (tgt := 23) hx hb dX1_loose_17 (by decide) (fun c17 => ?_) (fun c17 => ?_)
    · have hf := dz_f c17 hf
      refine lv_iconst (v := 0) hx hb dX1_loose_23 (by decide) ?_
      refine lv_istore_n (lv' := [(3, .int 0), (0, .ref h), (1, .int a0), (2, .int a1)]) hx hb dX1_loose_24 rfl hl (by decide) rfl (fun ls hl => ?_)
      refine lv_iconst (v := 2) hx hb dX1_loose_25 (by decide) ?_
      refine lv_istore (lv' := [(4, .int 2), (3, .int 0), (0, .ref h), (1, .int a0), (2, .int a1)]) hx hb dX1_loose_26 hl (by decide) rfl (fun ls hl => ?_)
      exact ih.1 a0 a1 0 2 s4 H locs hP hD hS ls (lv_sub hl [2, 3, 4, 1, 0] rfl) hf
    · have hf := dz_t c17 hf
      refine lv_bipush (v := (-2)) hx hb dX1_loose_20 (by decide) ?_
      exact W.iret (v := (-2)) hx hb hr (fun t ht hW => ⟨⟨(-2), s4, rfl, Option.some.inj hf, by rw [ht]; exact hP, va_K.moved hW.alike hK, hD⟩, hS.F ht⟩) hS.2.2 dX1_loose_22
  · have hf := dz_t c7 hf
    refine lv_iconst (v := (-1)) hx hb dX1_loose_10 (by decide) ?_
    exact W.iret (v := (-1)) hx hb hr (fun t ht hW => ⟨⟨(-1), s2, rfl, Option.some.inj hf, by rw [ht]; exact hP, va_K.moved hW.alike hK, hD⟩, hS.F ht⟩) hS.2.2 dX1_loose_11

noncomputable def fnX1_shared (K : Nat) (a0 : Int32) (a1 : Int32) (σ : pM) : Option (Int64 × pM) := dz_c (fnX1_isLine K a0 σ) fun x1 s2 => if x1 = (0 : Int32) then (some (-1, s2)) else (dz_c (fnX1_isLine K a1 s2) fun x3 s4 => if x3 = (0 : Int32) then (some (-1, s4)) else (dz_b (fnX1_laysRight K s4) fun s6 => if ¬ (a0 < 0 ∨ 60 ≤ Int32.toNatClampNeg a0) then (dz_l (s6.2.2.1 19 (Int32.toNatClampNeg a0)) fun x8 => if x8 = (0 : Int32) then (some (-2, s6)) else (if ¬ (a1 < 0 ∨ 60 ≤ Int32.toNatClampNeg a1) then (dz_l (s6.2.2.1 19 (Int32.toNatClampNeg a1)) fun x10 => if x10 = (0 : Int32) then (some (-2, s6)) else (dz_c (fnX1_restsOf K a0 s6) fun x11 s12 => dz_c (fnX1_restsOf K a1 s12) fun x13 s14 => some (x11 &&& x13, s14))) else none)) else none))
set_option maxHeartbeats 4000000 in
set_option maxRecDepth 100000 in
theorem mtX1_shared (l : Launch) (D : va_G) (cl : List vw_C) (ci : Nat) (hci : cl[ci]? = some (RX1, TX1, 35)) (h : Nat) (ad : Nat → Nat) (cA : Nat → ClassId) (sz : Nat) (σ : pM) (a0 : Int32) (a1 : Int32) (K : Nat) (res : (Int64 × pM)) (hf : fnX1_shared K a0 a1 σ = some res) : Met l yX1_shared (ws_ yX1_shared cX1_shared 3 (some .long)) ({ frames := 5, cells := 0, slots := 0, locals := 130 }) (mPc D cl ci h ad cA sz σ [.ref h, .int a0, .int a1]) (mQl D cl ci h ad cA (va_A (mw ci h ad cA σ) sz) res) 0 0 (va_A (mw ci h ad cA σ) sz) := by
  refine Met.ofW (cc := cX1_shared) (maxL := 3) (ret := some .long) (by decide +kernel) rfl ?_
  intro p e s m args below meth c s₁ B hml hv
  obtain ⟨rfl, hsz, hP, hK, hD0⟩ := hv
  have hx := B.exec
  have hb := B.bytes
  have hr := B.returns
  have hts := atoms_spec (ws := ws_ yX1_shared cX1_shared 3 (some .long)) B.pre
  have hts : ∀ w ∈ lw_all, w.before _ s = true := fun w h => hts w (List.mem_cons_of_mem _ h)
  have hown : s.vm.findClass RX1 = some m.cls := findClass_of_methodNamed B.named
  have hlocks := B.notSynchronized
  subst hsz
  have hD := hD0.self (sz := s.heap.size)
  generalize hAe : va_A (mw ci h ad cA σ) s.heap.size = A at hD ⊢
  have hA : ∀ q : Nat, s.heap.size ≤ q → A q := fun q h => by rw [← hAe]; exact Or.inr h
  clear hAe hD0
  have hS : va_S A s.heap s.heap [] := va_S.rf
  generalize hHe : s.heap = H at hP hS ⊢
  have hS : va_S A s.heap H [] := by rw [hHe]; exact hS
  generalize ([] : List Loc) = locs at hS ⊢
  have hl := lv_entry ([.ref h, .int a0, .int a1]) (n := 3) (Nat.le_of_ble_eq_true rfl)
  rw [lg_entry_eq]
  generalize (lg_sl ([.ref h, .int a0, .int a1]) ++ List.replicate (3 - (lg_sl ([.ref h, .int a0, .int a1])).length) Slot.unset).toArray = ls at hl ⊢
  have hl : lv_has ls 3 [(0, .ref h), (1, .int a0), (2, .int a1)] := hl
  have hf : (dz_c (fnX1_isLine K a0 σ) fun x1 s2 => if x1 = (0 : Int32) then (some (-1, s2)) else (dz_c (fnX1_isLine K a1 s2) fun x3 s4 => if x3 = (0 : Int32) then (some (-1, s4)) else (dz_b (fnX1_laysRight K s4) fun s6 => if ¬ (a0 < 0 ∨ 60 ≤ Int32.toNatClampNeg a0) then (dz_l (s6.2.2.1 19 (Int32.toNatClampNeg a0)) fun x8 => if x8 = (0 : Int32) then (some (-2, s6)) else (if ¬ (a1 < 0 ∨ 60 ≤ Int32.toNatClampNeg a1) then (dz_l (s6.2.2.1 19 (Int32.toNatClampNeg a1)) fun x10 => if x10 = (0 : Int32) then (some (-2, s6)) else (dz_c (fnX1_restsOf K a0 s6) fun x11 s12 => dz_c (fnX1_restsOf K a1 s12) fun x13 s14 => some (x11 &&& x13, s14))) else none)) else none)) : Option (Int64 × pM)) = some res := hf
  refine lv_aload_n hx hb dX1_shared_0 rfl (lv_at hl 0 rfl) ?_
  refine lv_iload_n hx hb dX1_shared_1 rfl (lv_at hl 1 rfl) ?_
  obtain ⟨x1, s2, hx1, hf⟩ := dz_co hf
  have hFc := dz_free hD hS hA
  refine va_calli (va_runV (As := [.int a0]) (rest := []) ⟨hx, hb, hml, hown, hts⟩ (mtX1_isLine l D cl ci hci h ad cA H.size σ a0 K (x1, s2) hx1) (cwV 1 hts (lw_V q1923 q1925 qs60 q88 q1926) rfl rfl rfl (by decide +kernel) ⟨Nat.le_of_ble_eq_true rfl, Nat.le_of_ble_eq_true rfl⟩) (m_preV hci hK hP hD) rfl rfl hl.1 rfl (lv_room (Nat.le_of_ble_eq_true rfl)) dX1_shared_2 ⟨Nat.le_refl _, Nat.le_refl _⟩) hS (fun q _ hq => hFc q hq) hFc (fun r u t H1 locs ht hvm hw hB hz hk hS => ?_)
  obtain ⟨hw1, hw2⟩ := Prod.mk.inj hw.symm; subst hw1; subst hw2
  replace hP := m_back ht hB
  replace hD := mw_D s2 hD
  clear hB hk hz hvm ht hFc; generalize H1 = H at hP hS ⊢
  refine lv_if_eq (tgt := 16) hx hb dX1_shared_5 (by decide) (fun c5 => ?_) (fun c5 => ?_)
  · have hf := dz_t c5 hf
    refine lv_ldc2 (v := -1) hx hb hown (hts _ q2090) dX1_shared_16 ?_
    exact W.lret (v := -1) hx hb hr (fun t ht hW => ⟨⟨-1, s2, rfl, Option.some.inj hf, by rw [ht]; exact hP, va_K.moved hW.alike hK, hD⟩, hS.F ht⟩) hS.2.2 dX1_shared_19
  · have hf := dz_f c5 hf
    refine lv_aload_n hx hb dX1_shared_8 rfl (lv_at hl 0 rfl) ?_
    refine lv_iload_n hx hb dX1_shared_9 rfl (lv_at hl 2 rfl) ?_
    obtain ⟨x3, s4, hx3, hf⟩ := dz_co hf
    have hFc := dz_free hD hS hA
    refine va_calli (va_runV (As := [.int a1]) (rest := []) ⟨hx, hb, hml, hown, hts⟩ (mtX1_isLine l D cl ci hci h ad cA H.size s2 a1 K (x3, s4) hx3) (cwV 1 hts (lw_V q1923 q1925 qs60 q88 q1926) rfl rfl rfl (by decide +kernel) ⟨Nat.le_of_ble_eq_true rfl, Nat.le_of_ble_eq_true rfl⟩) (m_preV hci hK hP hD) rfl rfl hl.1 rfl (lv_room (Nat.le_of_ble_eq_true rfl)) dX1_shared_10 ⟨Nat.le_refl _, Nat.le_refl _⟩) hS (fun q _ hq => hFc q hq) hFc (fun r u t H1 locs ht hvm hw hB hz hk hS => ?_)
    obtain ⟨hw1, hw2⟩ := Prod.mk.inj hw.symm; subst hw1; subst hw2
    replace hP := m_back ht hB
    replace hD := mw_D s4 hD
    clear hB hk hz hvm ht hFc; generalize H1 = H at hP hS ⊢
    refine lv_if_ne (tgt := 20) hx hb dX1_shared_13 (by decide) (fun c13 => ?_) (fun c13 => ?_)
    · have hf := dz_f c13 hf
      refine lv_aload_n hx hb dX1_shared_20 rfl (lv_at hl 0 rfl) ?_
      obtain ⟨s6, hx5, hf⟩ := dz_bo hf
      have hFc := dz_free hD hS hA
      refine va_callv (va_runV (As := []) (rest := []) ⟨hx, hb, hml, hown, hts⟩ (mtX1_laysRight l D cl ci hci h ad cA H.size s4 K s6 hx5) (cwV 0 hts (lw_V q1791 q1793 qs36 q88 q1794) rfl rfl rfl (by decide +kernel) ⟨Nat.le_of_ble_eq_true rfl, Nat.le_of_ble_eq_true rfl⟩) (m_preV hci hK hP hD) rfl rfl hl.1 rfl (lv_room (Nat.le_of_ble_eq_true rfl)) dX1_shared_21 ⟨Nat.le_refl _, Nat.le_refl _⟩) hS (fun q _ hq => hFc q hq) hFc (fun u t H1 locs ht hvm hw hB hz hk hS => ?_)
      replace hw := hw.symm; subst hw
      replace hP := m_back ht hB
      replace hD := mw_D s6 hD
      clear hB hk hz hvm ht hFc; generalize H1 = H at hP hS ⊢
      refine lv_aload_n hx hb dX1_shared_24 rfl (lv_at hl 0 rfl) ?_
      refine va_get (C := RX1) (T := TX1) (N := 35) (fs := mwF ad s6) (v := .ref (ad 19)) hx hb hts in_X1 hown hK hP 0 rfl hci 19 (by decide) (hts _ q1690) (fun _ hq => hq) rfl dX1_shared_25 ?_
      refine lv_iload_n hx hb dX1_shared_28 rfl (lv_at hl 1 rfl) ?_
      obtain ⟨g7, hf⟩ := dz_go hf
      refine va_zald hx hb hK hP 17 2 rfl rfl g7 dX1_shared_29 ?_
      refine lv_topi (fun x8 e_x8 => ?_)
      have hf := dz_ls e_x8 hf
      refine lv_if_eq (tgt := 56) hx hb dX1_shared_30 (by decide) (fun c30 => ?_) (fun c30 => ?_)
      · have hf := dz_t c30 hf
        refine lv_ldc2 (v := -2) hx hb hown (hts _ q2091) dX1_shared_56 ?_
        exact W.lret (v := -2) hx hb hr (fun t ht hW => ⟨⟨-2, s6, rfl, Option.some.inj hf, by rw [ht]; exact hP, va_K.moved hW.alike hK, hD⟩, hS.F ht⟩) hS.2.2 dX1_shared_59
      · have hf := dz_f c30 hf
        refine lv_aload_n hx hb dX1_shared_33 rfl (lv_at hl 0 rfl) ?_
        refine va_get (C := RX1) (T := TX1) (N := 35) (fs := mwF ad s6) (v := .ref (ad 19)) hx hb hts in_X1 hown hK hP 0 rfl hci 19 (by decide) (hts _ q1690) (fun _ hq => hq) rfl dX1_shared_34 ?_
        refine lv_iload_n hx hb dX1_shared_37 rfl (lv_at hl 2 rfl) ?_
        obtain ⟨g9, hf⟩ := dz_go hf
        refine va_zald hx hb hK hP 17 2 rfl rfl g9 dX1_shared_38 ?_
        refine lv_topi (fun x10 e_x10 => ?_)
        have hf := dz_ls e_x10 hf
        refine lv_if_eq (tgt := 56) hx hb dX1_shared_39 (by decide) (fun c39 => ?_) (fun c39 => ?_)
        · have hf := dz_t c39 hf
          refine lv_ldc2 (v := -2) hx hb hown (hts _ q2091) dX1_shared_56 ?_
          exact W.lret (v := -2) hx hb hr (fun t ht hW => ⟨⟨-2, s6, rfl, Option.some.inj hf, by rw [ht]; exact hP, va_K.moved hW.alike hK, hD⟩, hS.F ht⟩) hS.2.2 dX1_shared_59
        · have hf := dz_f c39 hf
          refine lv_aload_n hx hb dX1_shared_42 rfl (lv_at hl 0 rfl) ?_
          refine lv_iload_n hx hb dX1_shared_43 rfl (lv_at hl 1 rfl) ?_
          obtain ⟨x11, s12, hx11, hf⟩ := dz_co hf
          have hFc := dz_free hD hS hA
          refine va_calll (va_runV (As := [.int a0]) (rest := []) ⟨hx, hb, hml, hown, hts⟩ (mtX1_restsOf l D cl ci hci h ad cA H.size s6 a0 K (x11, s12) hx11) (cwV 1 hts (lw_V q2055 q2057 qs78 q88 q2058) rfl rfl rfl (by decide +kernel) ⟨Nat.le_of_ble_eq_true rfl, Nat.le_of_ble_eq_true rfl⟩) (m_preV hci hK hP hD) rfl rfl hl.1 rfl (lv_room (Nat.le_of_ble_eq_true rfl)) dX1_shared_44 ⟨Nat.le_refl _, Nat.le_refl _⟩) hS (fun q _ hq => hFc q hq) hFc (fun r u t H1 locs ht hvm hw hB hz hk hS => ?_)
          obtain ⟨hw1, hw2⟩ := Prod.mk.inj hw.symm; subst hw1; subst hw2
          replace hP := m_back ht hB
          replace hD := mw_D s12 hD
          clear hB hk hz hvm ht hFc; generalize H1 = H at hP hS ⊢
          refine lv_aload_n hx hb dX1_shared_47 rfl (lv_at hl 0 rfl) ?_
          refine lv_iload_n hx hb dX1_shared_48 rfl (lv_at hl 2 rfl) ?_
          obtain ⟨x13, s14, hx13, hf⟩ := dz_co hf
          have hFc := dz_free hD hS hA
          refine va_calll (va_runV (As := [.int a1]) (rest := [.long x11]) ⟨hx, hb, hml, hown, hts⟩ (mtX1_restsOf l D cl ci hci h ad cA H.size s12 a1 K (x13, s14) hx13) (cwV 1 hts (lw_V q2055 q2057 qs78 q88 q2058) rfl rfl rfl (by decide +kernel) ⟨Nat.le_of_ble_eq_true rfl, Nat.le_of_ble_eq_true rfl⟩) (m_preV hci hK hP hD) rfl rfl hl.1 rfl (lv_room (Nat.le_of_ble_eq_true rfl)) dX1_shared_49 ⟨Nat.le_refl _, Nat.le_refl _⟩) hS (fun q _ hq => hFc q hq) hFc (fun r u t H1 locs ht hvm hw hB hz hk hS => ?_)
          obtain ⟨hw1, hw2⟩ := Prod.mk.inj hw.symm; subst hw1; subst hw2
          replace hP := m_back ht hB
          replace hD := mw_D s14 hD
          clear hB hk hz hvm ht hFc; generalize H1 = H at hP hS ⊢
          refine lv_land hx hb dX1_shared_52 ?_
          refine lv_goto (tgt := 59) hx hb dX1_shared_53 (by decide) ?_
          exact W.lret (v := x11 &&& x13) hx hb hr (fun t ht hW => ⟨⟨x11 &&& x13, s14, rfl, Option.some.inj hf, by rw [ht]; exact hP, va_K.moved hW.alike hK, hD⟩, hS.F ht⟩) hS.2.2 dX1_shared_59
    · have hf := dz_t c13 hf
      refine lv_ldc2 (v := -1) hx hb hown (hts _ q2090) dX1_shared_16 ?_
      exact W.lret (v := -1) hx hb hr (fun t ht hW => ⟨⟨-1, s4, rfl, Option.some.inj hf, by rw [ht]; exact hP, va_K.moved hW.alike hK, hD⟩, hS.F ht⟩) hS.2.2 dX1_shared_19

noncomputable def fnX1_proof (K : Nat) (a0 : Int32) (σ : pM) : Option (Int32 × pM) := dz_b (fnX1_isNumber K (Int32.toInt64 a0)) fun x1 => if x1 = (0 : Int32) then (some ((-1), σ)) else (dz_b (fnX1_laysRight K σ) fun s3 => dz_l (s3.1 7) fun x4 => dz_c (fnX1_lineFor K a0 x4 s3) fun x5 s6 => if x5 = (-1 : Int32) then (some ((-2), s6)) else (some (x5, s6)))
set_option maxHeartbeats 4000000 in
set_option maxRecDepth 100000 in
theorem mtX1_proof (l : Launch) (D : va_G) (cl : List vw_C) (ci : Nat) (hci : cl[ci]? = some (RX1, TX1, 35)) (h : Nat) (ad : Nat → Nat) (cA : Nat → ClassId) (sz : Nat) (σ : pM) (a0 : Int32) (K : Nat) (res : (Int32 × pM)) (hf : fnX1_proof K a0 σ = some res) : Met l yX1_proof (ws_ yX1_proof cX1_proof 3 (some .int)) ({ frames := 5, cells := 0, slots := 0, locals := 130 }) (mPc D cl ci h ad cA sz σ [.ref h, .int a0]) (mQi D cl ci h ad cA (va_A (mw ci h ad cA σ) sz) res) 0 0 (va_A (mw ci h ad cA σ) sz) := by
  refine Met.ofW (cc := cX1_proof) (maxL := 3) (ret := some .int) (by decide +kernel) rfl ?_
  intro p e s m args below meth c s₁ B hml hv
  obtain ⟨rfl, hsz, hP, hK, hD0⟩ := hv
  have hx := B.exec
  have hb := B.bytes
  have hr := B.returns
  have hts := atoms_spec (ws := ws_ yX1_proof cX1_proof 3 (some .int)) B.pre
  have hts : ∀ w ∈ lw_all, w.before _ s = true := fun w h => hts w (List.mem_cons_of_mem _ h)
  have hown : s.vm.findClass RX1 = some m.cls := findClass_of_methodNamed B.named
  have hlocks := B.notSynchronized
  subst hsz
  have hD := hD0.self (sz := s.heap.size)
  generalize hAe : va_A (mw ci h ad cA σ) s.heap.size = A at hD ⊢
  have hA : ∀ q : Nat, s.heap.size ≤ q → A q := fun q h => by rw [← hAe]; exact Or.inr h
  clear hAe hD0
  have hS : va_S A s.heap s.heap [] := va_S.rf
  generalize hHe : s.heap = H at hP hS ⊢
  have hS : va_S A s.heap H [] := by rw [hHe]; exact hS
  generalize ([] : List Loc) = locs at hS ⊢
  have hl := lv_entry ([.ref h, .int a0]) (n := 3) (Nat.le_of_ble_eq_true rfl)
  rw [lg_entry_eq]
  generalize (lg_sl ([.ref h, .int a0]) ++ List.replicate (3 - (lg_sl ([.ref h, .int a0])).length) Slot.unset).toArray = ls at hl ⊢
  have hl : lv_has ls 3 [(0, .ref h), (1, .int a0)] := hl
  have hf : (dz_b (fnX1_isNumber K (Int32.toInt64 a0)) fun x1 => if x1 = (0 : Int32) then (some ((-1), σ)) else (dz_b (fnX1_laysRight K σ) fun s3 => dz_l (s3.1 7) fun x4 => dz_c (fnX1_lineFor K a0 x4 s3) fun x5 s6 => if x5 = (-1 : Int32) then (some ((-2), s6)) else (some (x5, s6))) : Option (Int32 × pM)) = some res := hf
  refine lv_iload_n hx hb dX1_proof_0 rfl (lv_at hl 1 rfl) ?_
  refine lv_i2l hx hb dX1_proof_1 (rfl : _ = Int32.toInt64 a0) ?_
  obtain ⟨x1, hx1, hf⟩ := dz_bo hf
  refine va_calli (va_runS (As := [.long (Int32.toInt64 a0)]) (rest := []) ⟨hx, hb, hml, hown, hts⟩ (mtX1_isNumber l (Int32.toInt64 a0) K x1 hx1) (va_cwS 1 hts (lw_S q1786 q1787 q88 q1788) rfl rfl rfl (by decide +kernel) ⟨Nat.le_of_ble_eq_true rfl, Nat.le_of_ble_eq_true rfl⟩) ⟨fun a U g mk q => q, fun U hU hW => ⟨rfl, trivial⟩⟩ rfl rfl hl.1 rfl (lv_room (Nat.le_of_ble_eq_true rfl)) dX1_proof_2 ⟨Nat.le_refl _, Nat.le_refl _⟩) hS (fun q _ hq => hq.elim) (fun q hq => hq.elim) (fun r u t H1 locs ht hvm hw hB hz hk hS => ?_)
  replace hw := hw.symm; subst hw
  replace hP := dz_keep hP hk
  clear hB hk hz hvm ht; generalize H1 = H at hP hS ⊢
  refine lv_if_ne (tgt := 10) hx hb dX1_proof_5 (by decide) (fun c5 => ?_) (fun c5 => ?_)
  · have hf := dz_f c5 hf
    refine lv_aload_n hx hb dX1_proof_10 rfl (lv_at hl 0 rfl) ?_
    obtain ⟨s3, hx2, hf⟩ := dz_bo hf
    have hFc := dz_free hD hS hA
    refine va_callv (va_runV (As := []) (rest := []) ⟨hx, hb, hml, hown, hts⟩ (mtX1_laysRight l D cl ci hci h ad cA H.size σ K s3 hx2) (cwV 0 hts (lw_V q1791 q1793 qs36 q88 q1794) rfl rfl rfl (by decide +kernel) ⟨Nat.le_of_ble_eq_true rfl, Nat.le_of_ble_eq_true rfl⟩) (m_preV hci hK hP hD) rfl rfl hl.1 rfl (lv_room (Nat.le_of_ble_eq_true rfl)) dX1_proof_11 ⟨Nat.le_refl _, Nat.le_refl _⟩) hS (fun q _ hq => hFc q hq) hFc (fun u t H1 locs ht hvm hw hB hz hk hS => ?_)
    replace hw := hw.symm; subst hw
    replace hP := m_back ht hB
    replace hD := mw_D s3 hD
    clear hB hk hz hvm ht hFc; generalize H1 = H at hP hS ⊢
    refine lv_aload_n hx hb dX1_proof_14 rfl (lv_at hl 0 rfl) ?_
    refine lv_iload_n hx hb dX1_proof_15 rfl (lv_at hl 1 rfl) ?_
    refine lv_aload_n hx hb dX1_proof_16 rfl (lv_at hl 0 rfl) ?_
    refine va_get (C := RX1) (T := TX1) (N := 35) (fs := mwF ad s3) (v := .int (s3.1 7)) hx hb hts in_X1 hown hK hP 0 rfl hci 7 (by decide) (hts _ q1678) (fun _ hq => hq) rfl dX1_proof_17 ?_
    refine lv_topi (fun x4 e_x4 => ?_)
    have hf := dz_ls e_x4 hf
    obtain ⟨x5, s6, hx5, hf⟩ := dz_co hf
    have hFc := dz_free hD hS hA
    refine va_calli (va_runV (As := [.int a0, .int x4]) (rest := []) ⟨hx, hb, hml, hown, hts⟩ (mtX1_lineFor l D cl ci hci h ad cA H.size s3 a0 x4 K (x5, s6) hx5) (cwV 2 hts (lw_V q1809 q1811 qs39 q88 q1812) rfl rfl rfl (by decide +kernel) ⟨Nat.le_of_ble_eq_true rfl, Nat.le_of_ble_eq_true rfl⟩) (m_preV hci hK hP hD) rfl rfl hl.1 rfl (lv_room (Nat.le_of_ble_eq_true rfl)) dX1_proof_20 ⟨Nat.le_refl _, Nat.le_refl _⟩) hS (fun q _ hq => hFc q hq) hFc (fun r u t H1 locs ht hvm hw hB hz hk hS => ?_)
    obtain ⟨hw1, hw2⟩ := Prod.mk.inj hw.symm; subst hw1; subst hw2
    replace hP := m_back ht hB
    replace hD := mw_D s6 hD
    clear hB hk hz hvm ht hFc; generalize H1 = H at hP hS ⊢
    refine lv_istore_n (lv' := [(2, .int x5), (0, .ref h), (1, .int a0)]) hx hb dX1_proof_23 rfl hl (by decide) rfl (fun ls hl => ?_)
    refine lv_iload_n hx hb dX1_proof_24 rfl (lv_at hl 0 rfl) ?_
    refine lv_iconst (v := (-1)) hx hb dX1_proof_25 (by decide) ?_
    refine lv_icmp_ne (tgt := 34) hx hb dX1_proof_26 (by decide) (fun c26 => ?_) (fun c26 => ?_)
    · have hf := dz_f c26 hf
      refine lv_iload_n hx hb dX1_proof_34 rfl (lv_at hl 0 rfl) ?_
      exact W.iret (v := x5) hx hb hr (fun t ht hW => ⟨⟨x5, s6, rfl, Option.some.inj hf, by rw [ht]; exact hP, va_K.moved hW.alike hK, hD⟩, hS.F ht⟩) hS.2.2 dX1_proof_35
    · have hf := dz_t c26 hf
      refine lv_bipush (v := (-2)) hx hb dX1_proof_29 (by decide) ?_
      refine lv_goto (tgt := 35) hx hb dX1_proof_31 (by decide) ?_
      exact W.iret (v := (-2)) hx hb hr (fun t ht hW => ⟨⟨(-2), s6, rfl, Option.some.inj hf, by rw [ht]; exact hP, va_K.moved hW.alike hK, hD⟩, hS.F ht⟩) hS.2.2 dX1_proof_35
  · have hf := dz_t c5 hf
    refine lv_iconst (v := (-1)) hx hb dX1_proof_8 (by decide) ?_
    exact W.iret (v := (-1)) hx hb hr (fun t ht hW => ⟨⟨(-1), σ, rfl, Option.some.inj hf, by rw [ht]; exact hP, va_K.moved hW.alike hK, hD⟩, hS.F ht⟩) hS.2.2 dX1_proof_9

noncomputable def fnX1_prime (K : Nat) (a0 : Int32) (a1 : Int32) (σ : pM) : Option (Int32 × pM) := dz_b (fnX1_isNumber K (Int32.toInt64 a0)) fun x1 => if x1 = (0 : Int32) then (some ((-1), σ)) else (if (-1 : Int32) ≤ a1 then (dz_b (fnX1_laysFactors K (Int32.toInt64 a0) σ) fun s3 => if a1 = (-1 : Int32) then (dz_l (s3.1 6) fun x7 => some (x7, s3)) else (dz_l (s3.1 6) fun x4 => if x4 ≤ a1 then (some ((-1), s3)) else (if ¬ (a1 < 0 ∨ 12 ≤ Int32.toNatClampNeg a1) then (dz_l (s3.2.2.1 4 (Int32.toNatClampNeg a1)) fun x6 => some (x6, s3)) else none))) else (some ((-1), σ)))
set_option maxHeartbeats 4000000 in
set_option maxRecDepth 100000 in
theorem mtX1_prime (l : Launch) (D : va_G) (cl : List vw_C) (ci : Nat) (hci : cl[ci]? = some (RX1, TX1, 35)) (h : Nat) (ad : Nat → Nat) (cA : Nat → ClassId) (sz : Nat) (σ : pM) (a0 : Int32) (a1 : Int32) (K : Nat) (res : (Int32 × pM)) (hf : fnX1_prime K a0 a1 σ = some res) : Met l yX1_prime (ws_ yX1_prime cX1_prime 3 (some .int)) ({ frames := 2, cells := 0, slots := 0, locals := 46 }) (mPc D cl ci h ad cA sz σ [.ref h, .int a0, .int a1]) (mQi D cl ci h ad cA (va_A (mw ci h ad cA σ) sz) res) 0 0 (va_A (mw ci h ad cA σ) sz) := by
  refine Met.ofW (cc := cX1_prime) (maxL := 3) (ret := some .int) (by decide +kernel) rfl ?_
  intro p e s m args below meth c s₁ B hml hv
  obtain ⟨rfl, hsz, hP, hK, hD0⟩ := hv
  have hx := B.exec
  have hb := B.bytes
  have hr := B.returns
  have hts := atoms_spec (ws := ws_ yX1_prime cX1_prime 3 (some .int)) B.pre
  have hts : ∀ w ∈ lw_all, w.before _ s = true := fun w h => hts w (List.mem_cons_of_mem _ h)
  have hown : s.vm.findClass RX1 = some m.cls := findClass_of_methodNamed B.named
  have hlocks := B.notSynchronized
  subst hsz
  have hD := hD0.self (sz := s.heap.size)
  generalize hAe : va_A (mw ci h ad cA σ) s.heap.size = A at hD ⊢
  have hA : ∀ q : Nat, s.heap.size ≤ q → A q := fun q h => by rw [← hAe]; exact Or.inr h
  clear hAe hD0
  have hS : va_S A s.heap s.heap [] := va_S.rf
  generalize hHe : s.heap = H at hP hS ⊢
  have hS : va_S A s.heap H [] := by rw [hHe]; exact hS
  generalize ([] : List Loc) = locs at hS ⊢
  have hl := lv_entry ([.ref h, .int a0, .int a1]) (n := 3) (Nat.le_of_ble_eq_true rfl)
  rw [lg_entry_eq]
  generalize (lg_sl ([.ref h, .int a0, .int a1]) ++ List.replicate (3 - (lg_sl ([.ref h, .int a0, .int a1])).length) Slot.unset).toArray = ls at hl ⊢
  have hl : lv_has ls 3 [(0, .ref h), (1, .int a0), (2, .int a1)] := hl
  have hf : (dz_b (fnX1_isNumber K (Int32.toInt64 a0)) fun x1 => if x1 = (0 : Int32) then (some ((-1), σ)) else (if (-1 : Int32) ≤ a1 then (dz_b (fnX1_laysFactors K (Int32.toInt64 a0) σ) fun s3 => if a1 = (-1 : Int32) then (dz_l (s3.1 6) fun x7 => some (x7, s3)) else (dz_l (s3.1 6) fun x4 => if x4 ≤ a1 then (some ((-1), s3)) else (if ¬ (a1 < 0 ∨ 12 ≤ Int32.toNatClampNeg a1) then (dz_l (s3.2.2.1 4 (Int32.toNatClampNeg a1)) fun x6 => some (x6, s3)) else none))) else (some ((-1), σ))) : Option (Int32 × pM)) = some res := hf
  refine lv_iload_n hx hb dX1_prime_0 rfl (lv_at hl 1 rfl) ?_
  refine lv_i2l hx hb dX1_prime_1 (rfl : _ = Int32.toInt64 a0) ?_
  obtain ⟨x1, hx1, hf⟩ := dz_bo hf
  refine va_calli (va_runS (As := [.long (Int32.toInt64 a0)]) (rest := []) ⟨hx, hb, hml, hown, hts⟩ (mtX1_isNumber l (Int32.toInt64 a0) K x1 hx1) (va_cwS 1 hts (lw_S q1786 q1787 q88 q1788) rfl rfl rfl (by decide +kernel) ⟨Nat.le_of_ble_eq_true rfl, Nat.le_of_ble_eq_true rfl⟩) ⟨fun a U g mk q => q, fun U hU hW => ⟨rfl, trivial⟩⟩ rfl rfl hl.1 rfl (lv_room (Nat.le_of_ble_eq_true rfl)) dX1_prime_2 ⟨Nat.le_refl _, Nat.le_refl _⟩) hS (fun q _ hq => hq.elim) (fun q hq => hq.elim) (fun r u t H1 locs ht hvm hw hB hz hk hS => ?_)
  replace hw := hw.symm; subst hw
  replace hP := dz_keep hP hk
  clear hB hk hz hvm ht; generalize H1 = H at hP hS ⊢
  refine lv_if_eq (tgt := 13) hx hb dX1_prime_5 (by decide) (fun c5 => ?_) (fun c5 => ?_)
  · have hf := dz_t c5 hf
    refine lv_iconst (v := (-1)) hx hb dX1_prime_13 (by decide) ?_
    exact W.iret (v := (-1)) hx hb hr (fun t ht hW => ⟨⟨(-1), σ, rfl, Option.some.inj hf, by rw [ht]; exact hP, va_K.moved hW.alike hK, hD⟩, hS.F ht⟩) hS.2.2 dX1_prime_14
  · have hf := dz_f c5 hf
    refine lv_iload_n hx hb dX1_prime_8 rfl (lv_at hl 2 rfl) ?_
    refine lv_iconst (v := (-1)) hx hb dX1_prime_9 (by decide) ?_
    refine lv_icmp_ge (tgt := 15) hx hb dX1_prime_10 (by decide) (fun c10 => ?_) (fun c10 => ?_)
    · have hf := dz_t c10 hf
      refine lv_aload_n hx hb dX1_prime_15 rfl (lv_at hl 0 rfl) ?_
      refine lv_iload_n hx hb dX1_prime_16 rfl (lv_at hl 1 rfl) ?_
      refine lv_i2l hx hb dX1_prime_17 (rfl : _ = Int32.toInt64 a0) ?_
      obtain ⟨s3, hx2, hf⟩ := dz_bo hf
      have hFc := dz_free hD hS hA
      refine va_callv (va_runV (As := [.long (Int32.toInt64 a0)]) (rest := []) ⟨hx, hb, hml, hown, hts⟩ (mtX1_laysFactors l D cl ci hci h ad cA H.size σ (Int32.toInt64 a0) K s3 hx2) (cwV 1 hts (lw_V q1883 q1885 qs51 q88 q1886) rfl rfl rfl (by decide +kernel) ⟨Nat.le_of_ble_eq_true rfl, Nat.le_of_ble_eq_true rfl⟩) (m_preV hci hK hP hD) rfl rfl hl.1 rfl (lv_room (Nat.le_of_ble_eq_true rfl)) dX1_prime_18 ⟨Nat.le_refl _, Nat.le_refl _⟩) hS (fun q _ hq => hFc q hq) hFc (fun u t H1 locs ht hvm hw hB hz hk hS => ?_)
      replace hw := hw.symm; subst hw
      replace hP := m_back ht hB
      replace hD := mw_D s3 hD
      clear hB hk hz hvm ht hFc; generalize H1 = H at hP hS ⊢
      refine lv_iload_n hx hb dX1_prime_21 rfl (lv_at hl 2 rfl) ?_
      refine lv_iconst (v := (-1)) hx hb dX1_prime_22 (by decide) ?_
      refine lv_icmp_ne (tgt := 33) hx hb dX1_prime_23 (by decide) (fun c23 => ?_) (fun c23 => ?_)
      · have hf := dz_f c23 hf
        refine lv_iload_n hx hb dX1_prime_33 rfl (lv_at hl 2 rfl) ?_
        refine lv_aload_n hx hb dX1_prime_34 rfl (lv_at hl 0 rfl) ?_
        refine va_get (C := RX1) (T := TX1) (N := 35) (fs := mwF ad s3) (v := .int (s3.1 6)) hx hb hts in_X1 hown hK hP 0 rfl hci 6 (by decide) (hts _ q1677) (fun _ hq => hq) rfl dX1_prime_35 ?_
        refine lv_topi (fun x4 e_x4 => ?_)
        have hf := dz_ls e_x4 hf
        refine lv_icmp_ge (tgt := 50) hx hb dX1_prime_38 (by decide) (fun c38 => ?_) (fun c38 => ?_)
        · have hf := dz_t c38 hf
          refine lv_iconst (v := (-1)) hx hb dX1_prime_50 (by decide) ?_
          exact W.iret (v := (-1)) hx hb hr (fun t ht hW => ⟨⟨(-1), s3, rfl, Option.some.inj hf, by rw [ht]; exact hP, va_K.moved hW.alike hK, hD⟩, hS.F ht⟩) hS.2.2 dX1_prime_51
        · have hf := dz_f c38 hf
          refine lv_aload_n hx hb dX1_prime_41 rfl (lv_at hl 0 rfl) ?_
          refine va_get (C := RX1) (T := TX1) (N := 35) (fs := mwF ad s3) (v := .ref (ad 4)) hx hb hts in_X1 hown hK hP 0 rfl hci 4 (by decide) (hts _ q1675) (fun _ hq => hq) rfl dX1_prime_42 ?_
          refine lv_iload_n hx hb dX1_prime_45 rfl (lv_at hl 2 rfl) ?_
          obtain ⟨g5, hf⟩ := dz_go hf
          refine va_iald hx hb hK hP 4 0 rfl rfl g5 dX1_prime_46 ?_
          refine lv_topi (fun x6 e_x6 => ?_)
          have hf := dz_ls e_x6 hf
          refine lv_goto (tgt := 51) hx hb dX1_prime_47 (by decide) ?_
          exact W.iret (v := x6) hx hb hr (fun t ht hW => ⟨⟨x6, s3, rfl, Option.some.inj hf, by rw [ht]; exact hP, va_K.moved hW.alike hK, hD⟩, hS.F ht⟩) hS.2.2 dX1_prime_51
      · have hf := dz_t c23 hf
        refine lv_aload_n hx hb dX1_prime_26 rfl (lv_at hl 0 rfl) ?_
        refine va_get (C := RX1) (T := TX1) (N := 35) (fs := mwF ad s3) (v := .int (s3.1 6)) hx hb hts in_X1 hown hK hP 0 rfl hci 6 (by decide) (hts _ q1677) (fun _ hq => hq) rfl dX1_prime_27 ?_
        refine lv_topi (fun x7 e_x7 => ?_)
        have hf := dz_ls e_x7 hf
        refine lv_goto (tgt := 51) hx hb dX1_prime_30 (by decide) ?_
        exact W.iret (v := x7) hx hb hr (fun t ht hW => ⟨⟨x7, s3, rfl, Option.some.inj hf, by rw [ht]; exact hP, va_K.moved hW.alike hK, hD⟩, hS.F ht⟩) hS.2.2 dX1_prime_51
    · have hf := dz_f c10 hf
      refine lv_iconst (v := (-1)) hx hb dX1_prime_13 (by decide) ?_
      exact W.iret (v := (-1)) hx hb hr (fun t ht hW => ⟨⟨(-1), σ, rfl, Option.some.inj hf, by rw [ht]; exact hP, va_K.moved hW.alike hK, hD⟩, hS.F ht⟩) hS.2.2 dX1_prime_14

noncomputable def lfX1_often (K : Nat) : Nat → (Int32 → Int32 → Int32 → pM → Option (Int32 × pM)) := Nat.rec (motive := fun _ => (Int32 → Int32 → Int32 → pM → Option (Int32 × pM))) (fun _ _ _ _ => none) (fun _ G => (fun v2 v3 v4 σ => if ¬ v2 = 0 then (dz_l (v4 - v4 / v2 * v2) fun x2 => if x2 = (0 : Int32) then (dz_l (v3 + 1) fun x3 => if ¬ v2 = 0 then (dz_l (v4 / v2) fun x5 => G v2 x3 x5 σ) else none) else (some (v3, σ))) else none))
noncomputable def fnX1_often (K : Nat) (a0 : Int32) (a1 : Int32) (σ : pM) : Option (Int32 × pM) := dz_b (fnX1_isNumber K (Int32.toInt64 a0)) fun x1 => if x1 = (0 : Int32) then (some ((-1), σ)) else (dz_b (fnX1_isNumber K (Int32.toInt64 a1)) fun x2 => if x2 = (0 : Int32) then (some ((-1), σ)) else ((lfX1_often K K) a1 0 a0 σ))
set_option maxHeartbeats 4000000 in
set_option maxRecDepth 100000 in
theorem wlX1_often {p : Program} {l : Launch} {e : Env} {s : State} {m : MethodId} {below : List Frame} {meth : Method} {c : Code} {D : va_G} {cl : List vw_C} {ci : Nat} (hci : cl[ci]? = some (RX1, TX1, 35)) {h : Nat} {ad : Nat → Nat} {cA : Nat → ClassId} {A : Nat → Prop} (hA : ∀ q : Nat, s.heap.size ≤ q → A q) (hK : va_K D cl (mtys cA) s) (K : Nat) (res : (Int32 × pM)) (a0 : Int32) (a1 : Int32) (hx : p.tables.exec = Jvm.exec) (hb : c.code = cX1_often) (hr : meth.sig.returnType = some .int) (hlocks : meth.locks = false) (hml : c.maxLocals = 5) (hown : s.vm.findClass RX1 = some m.cls) (hts : ∀ w ∈ lw_all, w.before ([.ref h, .int a0, .int a1] : List Value).toArray s = true) : ∀ k : Nat, (∀ (v2 : Int32) (v3 : Int32) (v4 : Int32) (σ : pM) (H : Heap) (locs : List Loc), va_P D cl (mw ci h ad cA σ) H → va_D A (mw ci h ad cA σ) → va_S A s.heap H locs → ∀ (ls : Array Slot), lv_has ls 5 [(2, .int v2), (3, .int v3), (4, .int v4)] → (lfX1_often K k) v2 v3 v4 σ = some res → W p l e (headSpec (ws_ yX1_often cX1_often 5 (some .int)) ({ frames := 2, cells := 0, slots := 0, locals := 46 })).room s m ([.ref h, .int a0, .int a1] : List Value).toArray below meth c H locs 0 0 (MQ below (mQi D cl ci h ad cA A res) ([.ref h, .int a0, .int a1] : List Value).toArray s 0 0 A) (F0 m 23 ls [])) := by
  intro k
  induction k with
  | zero =>
    exact fun _ _ _ _ _ _ _ _ _ _ _ hf => (by cases hf)
  | succ k ih =>
    · intro v2 v3 v4 σ H locs hP hD hS ls hl hf
      have hf : (if ¬ v2 = 0 then (dz_l (v4 - v4 / v2 * v2) fun x2 => if x2 = (0 : Int32) then (dz_l (v3 + 1) fun x3 => if ¬ v2 = 0 then (dz_l (v4 / v2) fun x5 => (lfX1_often K k) v2 x3 x5 σ) else none) else (some (v3, σ))) else none : Option (Int32 × pM)) = some res := hf
      refine lv_iload hx hb dX1_often_23 (lv_at hl 2 rfl) ?_
      refine lv_iload_n hx hb dX1_often_25 rfl (lv_at hl 0 rfl) ?_
      obtain ⟨g1, hf⟩ := dz_go hf
      refine lv_irem hx hb dX1_often_26 g1 ?_
      refine lv_topi (fun x2 e_x2 => ?_)
      have hf := dz_ls e_x2 hf
      refine lv_if_ne (tgt := 42) hx hb dX1_often_27 (by decide) (fun c27 => ?_) (fun c27 => ?_)
      · have hf := dz_f c27 hf
        refine lv_iload_n hx hb dX1_often_42 rfl (lv_at hl 1 rfl) ?_
        exact W.iret (v := v3) hx hb hr (fun t ht hW => ⟨⟨v3, σ, rfl, Option.some.inj hf, by rw [ht]; exact hP, va_K.moved hW.alike hK, hD⟩, hS.F ht⟩) hS.2.2 dX1_often_43
      · have hf := dz_t c27 hf
        obtain ⟨x3, e_x3, hf⟩ := dz_lo hf
        refine lv_iinc (v := x3) (lv' := [(3, .int x3), (2, .int v2), (4, .int v4)]) hx hb dX1_often_30 hl (k := 1) rfl (by rw [e_x3]; rfl) (by decide) rfl (fun ls hl => ?_)
        refine lv_iload hx hb dX1_often_33 (lv_at hl 2 rfl) ?_
        refine lv_iload_n hx hb dX1_often_35 rfl (lv_at hl 1 rfl) ?_
        obtain ⟨g4, hf⟩ := dz_go hf
        refine lv_idiv hx hb dX1_often_36 g4 ?_
        refine lv_topi (fun x5 e_x5 => ?_)
        have hf := dz_ls e_x5 hf
        refine lv_istore (lv' := [(4, .int x5), (3, .int x3), (2, .int v2)]) hx hb dX1_often_37 hl (by decide) rfl (fun ls hl => ?_)
        refine lv_goto (tgt := 23) hx hb dX1_often_39 (by decide) ?_
        exact ih v2 x3 x5 σ H locs hP hD hS ls (lv_sub hl [2, 1, 0] rfl) hf
set_option maxHeartbeats 4000000 in
set_option maxRecDepth 100000 in
theorem mtX1_often (l : Launch) (D : va_G) (cl : List vw_C) (ci : Nat) (hci : cl[ci]? = some (RX1, TX1, 35)) (h : Nat) (ad : Nat → Nat) (cA : Nat → ClassId) (sz : Nat) (σ : pM) (a0 : Int32) (a1 : Int32) (K : Nat) (res : (Int32 × pM)) (hf : fnX1_often K a0 a1 σ = some res) : Met l yX1_often (ws_ yX1_often cX1_often 5 (some .int)) ({ frames := 2, cells := 0, slots := 0, locals := 46 }) (mPc D cl ci h ad cA sz σ [.ref h, .int a0, .int a1]) (mQi D cl ci h ad cA (va_A (mw ci h ad cA σ) sz) res) 0 0 (va_A (mw ci h ad cA σ) sz) := by
  refine Met.ofW (cc := cX1_often) (maxL := 5) (ret := some .int) (by decide +kernel) rfl ?_
  intro p e s m args below meth c s₁ B hml hv
  obtain ⟨rfl, hsz, hP, hK, hD0⟩ := hv
  have hx := B.exec
  have hb := B.bytes
  have hr := B.returns
  have hts := atoms_spec (ws := ws_ yX1_often cX1_often 5 (some .int)) B.pre
  have hts : ∀ w ∈ lw_all, w.before _ s = true := fun w h => hts w (List.mem_cons_of_mem _ h)
  have hown : s.vm.findClass RX1 = some m.cls := findClass_of_methodNamed B.named
  have hlocks := B.notSynchronized
  subst hsz
  have hD := hD0.self (sz := s.heap.size)
  generalize hAe : va_A (mw ci h ad cA σ) s.heap.size = A at hD ⊢
  have hA : ∀ q : Nat, s.heap.size ≤ q → A q := fun q h => by rw [← hAe]; exact Or.inr h
  clear hAe hD0
  have hS : va_S A s.heap s.heap [] := va_S.rf
  generalize hHe : s.heap = H at hP hS ⊢
  have hS : va_S A s.heap H [] := by rw [hHe]; exact hS
  generalize ([] : List Loc) = locs at hS ⊢
  have hl := lv_entry ([.ref h, .int a0, .int a1]) (n := 5) (Nat.le_of_ble_eq_true rfl)
  rw [lg_entry_eq]
  generalize (lg_sl ([.ref h, .int a0, .int a1]) ++ List.replicate (5 - (lg_sl ([.ref h, .int a0, .int a1])).length) Slot.unset).toArray = ls at hl ⊢
  have hl : lv_has ls 5 [(0, .ref h), (1, .int a0), (2, .int a1)] := hl
  have hf : (dz_b (fnX1_isNumber K (Int32.toInt64 a0)) fun x1 => if x1 = (0 : Int32) then (some ((-1), σ)) else (dz_b (fnX1_isNumber K (Int32.toInt64 a1)) fun x2 => if x2 = (0 : Int32) then (some ((-1), σ)) else ((lfX1_often K K) a1 0 a0 σ)) : Option (Int32 × pM)) = some res := hf
  have ih := wlX1_often (l := l) (e := e) (below := below) (h := h) (ad := ad) (cA := cA) hci hA hK K res a0 a1 hx hb hr hlocks hml hown hts K
  refine lv_iload_n hx hb dX1_often_0 rfl (lv_at hl 1 rfl) ?_
  refine lv_i2l hx hb dX1_often_1 (rfl : _ = Int32.toInt64 a0) ?_
  obtain ⟨x1, hx1, hf⟩ := dz_bo hf
  refine va_calli (va_runS (As := [.long (Int32.toInt64 a0)]) (rest := []) ⟨hx, hb, hml, hown, hts⟩ (mtX1_isNumber l (Int32.toInt64 a0) K x1 hx1) (va_cwS 1 hts (lw_S q1786 q1787 q88 q1788) rfl rfl rfl (by decide +kernel) ⟨Nat.le_of_ble_eq_true rfl, Nat.le_of_ble_eq_true rfl⟩) ⟨fun a U g mk q => q, fun U hU hW => ⟨rfl, trivial⟩⟩ rfl rfl hl.1 rfl (lv_room (Nat.le_of_ble_eq_true rfl)) dX1_often_2 ⟨Nat.le_refl _, Nat.le_refl _⟩) hS (fun q _ hq => hq.elim) (fun q hq => hq.elim) (fun r u t H1 locs ht hvm hw hB hz hk hS => ?_)
  replace hw := hw.symm; subst hw
  replace hP := dz_keep hP hk
  clear hB hk hz hvm ht; generalize H1 = H at hP hS ⊢
  refine lv_if_eq (tgt := 16) hx hb dX1_often_5 (by decide) (fun c5 => ?_) (fun c5 => ?_)
  · have hf := dz_t c5 hf
    refine lv_iconst (v := (-1)) hx hb dX1_often_16 (by decide) ?_
    exact W.iret (v := (-1)) hx hb hr (fun t ht hW => ⟨⟨(-1), σ, rfl, Option.some.inj hf, by rw [ht]; exact hP, va_K.moved hW.alike hK, hD⟩, hS.F ht⟩) hS.2.2 dX1_often_17
  · have hf := dz_f c5 hf
    refine lv_iload_n hx hb dX1_often_8 rfl (lv_at hl 2 rfl) ?_
    refine lv_i2l hx hb dX1_often_9 (rfl : _ = Int32.toInt64 a1) ?_
    obtain ⟨x2, hx2, hf⟩ := dz_bo hf
    refine va_calli (va_runS (As := [.long (Int32.toInt64 a1)]) (rest := []) ⟨hx, hb, hml, hown, hts⟩ (mtX1_isNumber l (Int32.toInt64 a1) K x2 hx2) (va_cwS 1 hts (lw_S q1786 q1787 q88 q1788) rfl rfl rfl (by decide +kernel) ⟨Nat.le_of_ble_eq_true rfl, Nat.le_of_ble_eq_true rfl⟩) ⟨fun a U g mk q => q, fun U hU hW => ⟨rfl, trivial⟩⟩ rfl rfl hl.1 rfl (lv_room (Nat.le_of_ble_eq_true rfl)) dX1_often_10 ⟨Nat.le_refl _, Nat.le_refl _⟩) hS (fun q _ hq => hq.elim) (fun q hq => hq.elim) (fun r u t H1 locs ht hvm hw hB hz hk hS => ?_)
    replace hw := hw.symm; subst hw
    replace hP := dz_keep hP hk
    clear hB hk hz hvm ht; generalize H1 = H at hP hS ⊢
    refine lv_if_ne (tgt := 18) hx hb dX1_often_13 (by decide) (fun c13 => ?_) (fun c13 => ?_)
    · have hf := dz_f c13 hf
      refine lv_iconst (v := 0) hx hb dX1_often_18 (by decide) ?_
      refine lv_istore_n (lv' := [(3, .int 0), (0, .ref h), (1, .int a0), (2, .int a1)]) hx hb dX1_often_19 rfl hl (by decide) rfl (fun ls hl => ?_)
      refine lv_iload_n hx hb dX1_often_20 rfl (lv_at hl 2 rfl) ?_
      refine lv_istore (lv' := [(4, .int a0), (3, .int 0), (0, .ref h), (1, .int a0), (2, .int a1)]) hx hb dX1_often_21 hl (by decide) rfl (fun ls hl => ?_)
      exact ih a1 0 a0 σ H locs hP hD hS ls (lv_sub hl [4, 1, 0] rfl) hf
    · have hf := dz_t c13 hf
      refine lv_iconst (v := (-1)) hx hb dX1_often_16 (by decide) ?_
      exact W.iret (v := (-1)) hx hb hr (fun t ht hW => ⟨⟨(-1), σ, rfl, Option.some.inj hf, by rw [ht]; exact hP, va_K.moved hW.alike hK, hD⟩, hS.F ht⟩) hS.2.2 dX1_often_17

noncomputable def lfX1_next (K : Nat) : Nat → (Int32 → pM → Option (Int32 × pM)) := Nat.rec (motive := fun _ => (Int32 → pM → Option (Int32 × pM))) (fun _ _ => none) (fun _ G => (fun v2 σ => dz_b (fnX1_isPrime K (Int32.toInt64 v2)) fun x1 => if x1 = (0 : Int32) then (dz_l (v2 + 1) fun x2 => G x2 σ) else (some (v2, σ))))
noncomputable def fnX1_next (K : Nat) (a0 : Int32) (σ : pM) : Option (Int32 × pM) := dz_b (fnX1_in K (Int32.toInt64 a0) 0 999999936) fun x1 => if x1 = (0 : Int32) then (some ((-1), σ)) else (dz_l (a0 + 1) fun x2 => (lfX1_next K K) x2 σ)
set_option maxHeartbeats 4000000 in
set_option maxRecDepth 100000 in
theorem wlX1_next {p : Program} {l : Launch} {e : Env} {s : State} {m : MethodId} {below : List Frame} {meth : Method} {c : Code} {D : va_G} {cl : List vw_C} {ci : Nat} (hci : cl[ci]? = some (RX1, TX1, 35)) {h : Nat} {ad : Nat → Nat} {cA : Nat → ClassId} {A : Nat → Prop} (hA : ∀ q : Nat, s.heap.size ≤ q → A q) (hK : va_K D cl (mtys cA) s) (K : Nat) (res : (Int32 × pM)) (a0 : Int32) (hx : p.tables.exec = Jvm.exec) (hb : c.code = cX1_next) (hr : meth.sig.returnType = some .int) (hlocks : meth.locks = false) (hml : c.maxLocals = 3) (hown : s.vm.findClass RX1 = some m.cls) (hts : ∀ w ∈ lw_all, w.before ([.ref h, .int a0] : List Value).toArray s = true) : ∀ k : Nat, (∀ (v2 : Int32) (σ : pM) (H : Heap) (locs : List Loc), va_P D cl (mw ci h ad cA σ) H → va_D A (mw ci h ad cA σ) → va_S A s.heap H locs → ∀ (ls : Array Slot), lv_has ls 3 [(2, .int v2)] → (lfX1_next K k) v2 σ = some res → W p l e (headSpec (ws_ yX1_next cX1_next 3 (some .int)) ({ frames := 1, cells := 0, slots := 0, locals := 25 })).room s m ([.ref h, .int a0] : List Value).toArray below meth c H locs 0 0 (MQ below (mQi D cl ci h ad cA A res) ([.ref h, .int a0] : List Value).toArray s 0 0 A) (F0 m 18 ls [])) := by
  intro k
  induction k with
  | zero =>
    exact fun _ _ _ _ _ _ _ _ _ hf => (by cases hf)
  | succ k ih =>
    · intro v2 σ H locs hP hD hS ls hl hf
      have hf : (dz_b (fnX1_isPrime K (Int32.toInt64 v2)) fun x1 => if x1 = (0 : Int32) then (dz_l (v2 + 1) fun x2 => (lfX1_next K k) x2 σ) else (some (v2, σ)) : Option (Int32 × pM)) = some res := hf
      refine lv_iload_n hx hb dX1_next_18 rfl (lv_at hl 0 rfl) ?_
      refine lv_i2l hx hb dX1_next_19 (rfl : _ = Int32.toInt64 v2) ?_
      obtain ⟨x1, hx1, hf⟩ := dz_bo hf
      refine va_calli (va_runS (As := [.long (Int32.toInt64 v2)]) (rest := []) ⟨hx, hb, hml, hown, hts⟩ (mtX1_isPrime l (Int32.toInt64 v2) K x1 hx1) (va_cwS 1 hts (lw_S q1799 q1800 q88 q1801) rfl rfl rfl (by decide +kernel) ⟨Nat.le_of_ble_eq_true rfl, Nat.le_of_ble_eq_true rfl⟩) ⟨fun a U g mk q => q, fun U hU hW => ⟨rfl, trivial⟩⟩ rfl rfl hl.1 rfl (lv_room (Nat.le_of_ble_eq_true rfl)) dX1_next_20 ⟨Nat.le_refl _, Nat.le_refl _⟩) hS (fun q _ hq => hq.elim) (fun q hq => hq.elim) (fun r u t H1 locs ht hvm hw hB hz hk hS => ?_)
      replace hw := hw.symm; subst hw
      replace hP := dz_keep hP hk
      clear hB hk hz hvm ht; generalize H1 = H at hP hS ⊢
      refine lv_if_ne (tgt := 32) hx hb dX1_next_23 (by decide) (fun c23 => ?_) (fun c23 => ?_)
      · have hf := dz_f c23 hf
        refine lv_iload_n hx hb dX1_next_32 rfl (lv_at hl 0 rfl) ?_
        exact W.iret (v := v2) hx hb hr (fun t ht hW => ⟨⟨v2, σ, rfl, Option.some.inj hf, by rw [ht]; exact hP, va_K.moved hW.alike hK, hD⟩, hS.F ht⟩) hS.2.2 dX1_next_33
      · have hf := dz_t c23 hf
        obtain ⟨x2, e_x2, hf⟩ := dz_lo hf
        refine lv_iinc (v := x2) (lv' := [(2, .int x2)]) hx hb dX1_next_26 hl (k := 0) rfl (by rw [e_x2]; rfl) (by decide) rfl (fun ls hl => ?_)
        refine lv_goto (tgt := 18) hx hb dX1_next_29 (by decide) ?_
        exact ih x2 σ H locs hP hD hS ls (lv_sub hl [0] rfl) hf
set_option maxHeartbeats 4000000 in
set_option maxRecDepth 100000 in
theorem mtX1_next (l : Launch) (D : va_G) (cl : List vw_C) (ci : Nat) (hci : cl[ci]? = some (RX1, TX1, 35)) (h : Nat) (ad : Nat → Nat) (cA : Nat → ClassId) (sz : Nat) (σ : pM) (a0 : Int32) (K : Nat) (res : (Int32 × pM)) (hf : fnX1_next K a0 σ = some res) : Met l yX1_next (ws_ yX1_next cX1_next 3 (some .int)) ({ frames := 1, cells := 0, slots := 0, locals := 25 }) (mPc D cl ci h ad cA sz σ [.ref h, .int a0]) (mQi D cl ci h ad cA (va_A (mw ci h ad cA σ) sz) res) 0 0 (va_A (mw ci h ad cA σ) sz) := by
  refine Met.ofW (cc := cX1_next) (maxL := 3) (ret := some .int) (by decide +kernel) rfl ?_
  intro p e s m args below meth c s₁ B hml hv
  obtain ⟨rfl, hsz, hP, hK, hD0⟩ := hv
  have hx := B.exec
  have hb := B.bytes
  have hr := B.returns
  have hts := atoms_spec (ws := ws_ yX1_next cX1_next 3 (some .int)) B.pre
  have hts : ∀ w ∈ lw_all, w.before _ s = true := fun w h => hts w (List.mem_cons_of_mem _ h)
  have hown : s.vm.findClass RX1 = some m.cls := findClass_of_methodNamed B.named
  have hlocks := B.notSynchronized
  subst hsz
  have hD := hD0.self (sz := s.heap.size)
  generalize hAe : va_A (mw ci h ad cA σ) s.heap.size = A at hD ⊢
  have hA : ∀ q : Nat, s.heap.size ≤ q → A q := fun q h => by rw [← hAe]; exact Or.inr h
  clear hAe hD0
  have hS : va_S A s.heap s.heap [] := va_S.rf
  generalize hHe : s.heap = H at hP hS ⊢
  have hS : va_S A s.heap H [] := by rw [hHe]; exact hS
  generalize ([] : List Loc) = locs at hS ⊢
  have hl := lv_entry ([.ref h, .int a0]) (n := 3) (Nat.le_of_ble_eq_true rfl)
  rw [lg_entry_eq]
  generalize (lg_sl ([.ref h, .int a0]) ++ List.replicate (3 - (lg_sl ([.ref h, .int a0])).length) Slot.unset).toArray = ls at hl ⊢
  have hl : lv_has ls 3 [(0, .ref h), (1, .int a0)] := hl
  have hf : (dz_b (fnX1_in K (Int32.toInt64 a0) 0 999999936) fun x1 => if x1 = (0 : Int32) then (some ((-1), σ)) else (dz_l (a0 + 1) fun x2 => (lfX1_next K K) x2 σ) : Option (Int32 × pM)) = some res := hf
  have ih := wlX1_next (l := l) (e := e) (below := below) (h := h) (ad := ad) (cA := cA) hci hA hK K res a0 hx hb hr hlocks hml hown hts K
  refine lv_iload_n hx hb dX1_next_0 rfl (lv_at hl 1 rfl) ?_
  refine lv_i2l hx hb dX1_next_1 (rfl : _ = Int32.toInt64 a0) ?_
  refine lv_lconst (v := 0) hx hb dX1_next_2 rfl ?_
  refine lv_ldc2 (v := 999999936) hx hb hown (hts _ q2139) dX1_next_3 ?_
  obtain ⟨x1, hx1, hf⟩ := dz_bo hf
  refine va_calli (va_runS (As := [.long (Int32.toInt64 a0), .long 0, .long 999999936]) (rest := []) ⟨hx, hb, hml, hown, hts⟩ (mtX1_in l (Int32.toInt64 a0) 0 999999936 K x1 hx1) (va_cwS 3 hts (lw_S q1783 q1784 q88 q1785) rfl rfl rfl (by decide +kernel) ⟨Nat.le_of_ble_eq_true rfl, Nat.le_of_ble_eq_true rfl⟩) ⟨fun a U g mk q => q, fun U hU hW => ⟨rfl, trivial⟩⟩ rfl rfl hl.1 rfl (lv_room (Nat.le_of_ble_eq_true rfl)) dX1_next_6 ⟨Nat.le_refl _, Nat.le_refl _⟩) hS (fun q _ hq => hq.elim) (fun q hq => hq.elim) (fun r u t H1 locs ht hvm hw hB hz hk hS => ?_)
  replace hw := hw.symm; subst hw
  replace hP := dz_keep hP hk
  clear hB hk hz hvm ht; generalize H1 = H at hP hS ⊢
  refine lv_if_ne (tgt := 14) hx hb dX1_next_9 (by decide) (fun c9 => ?_) (fun c9 => ?_)
  · have hf := dz_f c9 hf
    refine lv_iload_n hx hb dX1_next_14 rfl (lv_at hl 1 rfl) ?_
    refine lv_iconst (v := 1) hx hb dX1_next_15 (by decide) ?_
    refine lv_iadd hx hb dX1_next_16 ?_
    refine lv_topi (fun x2 e_x2 => ?_)
    have hf := dz_ls e_x2 hf
    refine lv_istore_n (lv' := [(2, .int x2), (0, .ref h), (1, .int a0)]) hx hb dX1_next_17 rfl hl (by decide) rfl (fun ls hl => ?_)
    exact ih x2 σ H locs hP hD hS ls (lv_sub hl [0] rfl) hf
  · have hf := dz_t c9 hf
    refine lv_iconst (v := (-1)) hx hb dX1_next_12 (by decide) ?_
    exact W.iret (v := (-1)) hx hb hr (fun t ht hW => ⟨⟨(-1), σ, rfl, Option.some.inj hf, by rw [ht]; exact hP, va_K.moved hW.alike hK, hD⟩, hS.F ht⟩) hS.2.2 dX1_next_13

noncomputable def lfX1_smoothBy (K : Nat) : Nat → (Int32 → Int64 → Int32 → pM → Option (Int64 × pM)) × (Int32 → Int64 → Int32 → Int32 → pM → Option (Int64 × pM)) × (Int32 → Int64 → Int32 → pM → Option (Int64 × pM)) := Nat.rec (motive := fun _ => (Int32 → Int64 → Int32 → pM → Option (Int64 × pM)) × (Int32 → Int64 → Int32 → Int32 → pM → Option (Int64 × pM)) × (Int32 → Int64 → Int32 → pM → Option (Int64 × pM))) ((fun _ _ _ _ => none), (fun _ _ _ _ _ => none), (fun _ _ _ _ => none)) (fun _ G => ((fun v1 v2 v4 σ => dz_l (σ.1 6) fun x1 => if x1 ≤ v4 then (some (v2, σ)) else (if ¬ (v4 < 0 ∨ 12 ≤ Int32.toNatClampNeg v4) then (dz_l (σ.2.2.1 4 (Int32.toNatClampNeg v4)) fun x3 => if v1 < x3 then (G.2.2 v1 v2 v4 σ) else (G.2.1 v1 v2 v4 0 σ)) else none)), (fun v1 v2 v4 v5 σ => if ¬ (v4 < 0 ∨ 12 ≤ Int32.toNatClampNeg v4) then (dz_l (σ.2.2.1 5 (Int32.toNatClampNeg v4)) fun x2 => if x2 ≤ v5 then (G.2.2 v1 v2 v4 σ) else (if ¬ (v4 < 0 ∨ 12 ≤ Int32.toNatClampNeg v4) then (dz_l (σ.2.2.1 4 (Int32.toNatClampNeg v4)) fun x4 => dz_l (v2 * (Int32.toInt64 x4)) fun x5 => dz_l (v5 + 1) fun x6 => G.2.1 v1 x5 v4 x6 σ) else none)) else none), (fun v1 v2 v4 σ => dz_l (v4 + 1) fun x1 => G.1 v1 v2 x1 σ)))
noncomputable def fnX1_smoothBy (K : Nat) (a0 : Int32) (σ : pM) : Option (Int64 × pM) := (lfX1_smoothBy K K).1 a0 1 0 σ
set_option maxHeartbeats 4000000 in
set_option maxRecDepth 100000 in
theorem wlX1_smoothBy {p : Program} {l : Launch} {e : Env} {s : State} {m : MethodId} {below : List Frame} {meth : Method} {c : Code} {D : va_G} {cl : List vw_C} {ci : Nat} (hci : cl[ci]? = some (RX1, TX1, 35)) {h : Nat} {ad : Nat → Nat} {cA : Nat → ClassId} {A : Nat → Prop} (hA : ∀ q : Nat, s.heap.size ≤ q → A q) (hK : va_K D cl (mtys cA) s) (K : Nat) (res : (Int64 × pM)) (a0 : Int32) (hx : p.tables.exec = Jvm.exec) (hb : c.code = cX1_smoothBy) (hr : meth.sig.returnType = some .long) (hlocks : meth.locks = false) (hml : c.maxLocals = 6) (hown : s.vm.findClass RX1 = some m.cls) (hts : ∀ w ∈ lw_all, w.before ([.ref h, .int a0] : List Value).toArray s = true) : ∀ k : Nat, (∀ (v1 : Int32) (v2 : Int64) (v4 : Int32) (σ : pM) (H : Heap) (locs : List Loc), va_P D cl (mw ci h ad cA σ) H → va_D A (mw ci h ad cA σ) → va_S A s.heap H locs → ∀ (ls : Array Slot), lv_has ls 6 [(0, .ref h), (1, .int v1), (2, .long v2), (4, .int v4)] → (lfX1_smoothBy K k).1 v1 v2 v4 σ = some res → W p l e (headSpec (ws_ yX1_smoothBy cX1_smoothBy 6 (some .long)) ({ frames := 0, cells := 0, slots := 0, locals := 0 })).room s m ([.ref h, .int a0] : List Value).toArray below meth c H locs 0 0 (MQ below (mQl D cl ci h ad cA A res) ([.ref h, .int a0] : List Value).toArray s 0 0 A) (F0 m 5 ls [])) ∧ (∀ (v1 : Int32) (v2 : Int64) (v4 : Int32) (v5 : Int32) (σ : pM) (H : Heap) (locs : List Loc), va_P D cl (mw ci h ad cA σ) H → va_D A (mw ci h ad cA σ) → va_S A s.heap H locs → ∀ (ls : Array Slot), lv_has ls 6 [(0, .ref h), (1, .int v1), (2, .long v2), (4, .int v4), (5, .int v5)] → (lfX1_smoothBy K k).2.1 v1 v2 v4 v5 σ = some res → W p l e (headSpec (ws_ yX1_smoothBy cX1_smoothBy 6 (some .long)) ({ frames := 0, cells := 0, slots := 0, locals := 0 })).room s m ([.ref h, .int a0] : List Value).toArray below meth c H locs 0 0 (MQ below (mQl D cl ci h ad cA A res) ([.ref h, .int a0] : List Value).toArray s 0 0 A) (F0 m 28 ls [])) ∧ (∀ (v1 : Int32) (v2 : Int64) (v4 : Int32) (σ : pM) (H : Heap) (locs : List Loc), va_P D cl (mw ci h ad cA σ) H → va_D A (mw ci h ad cA σ) → va_S A s.heap H locs → ∀ (ls : Array Slot), lv_has ls 6 [(0, .ref h), (1, .int v1), (2, .long v2), (4, .int v4)] → (lfX1_smoothBy K k).2.2 v1 v2 v4 σ = some res → W p l e (headSpec (ws_ yX1_smoothBy cX1_smoothBy 6 (some .long)) ({ frames := 0, cells := 0, slots := 0, locals := 0 })).room s m ([.ref h, .int a0] : List Value).toArray below meth c H locs 0 0 (MQ below (mQl D cl ci h ad cA A res) ([.ref h, .int a0] : List Value).toArray s 0 0 A) (F0 m 57 ls [])) := by
  intro k
  induction k with
  | zero =>
    exact ⟨fun _ _ _ _ _ _ _ _ _ _ _ hf => (by cases hf), fun _ _ _ _ _ _ _ _ _ _ _ _ hf => (by cases hf), fun _ _ _ _ _ _ _ _ _ _ _ hf => (by cases hf)⟩
  | succ k ih =>
    refine ⟨?_, ?_, ?_⟩
    · intro v1 v2 v4 σ H locs hP hD hS ls hl hf
      have hf : (dz_l (σ.1 6) fun x1 => if x1 ≤ v4 then (some (v2, σ)) else (if ¬ (v4 < 0 ∨ 12 ≤ Int32.toNatClampNeg v4) then (dz_l (σ.2.2.1 4 (Int32.toNatClampNeg v4)) fun x3 => if v1 < x3 then ((lfX1_smoothBy K k).2.2 v1 v2 v4 σ) else ((lfX1_smoothBy K k).2.1 v1 v2 v4 0 σ)) else none) : Option (Int64 × pM)) = some res := hf
      refine lv_iload hx hb dX1_smoothBy_5 (lv_at hl 3 rfl) ?_
      refine lv_aload_n hx hb dX1_smoothBy_7 rfl (lv_at hl 0 rfl) ?_
      refine va_get (C := RX1) (T := TX1) (N := 35) (fs := mwF ad σ) (v := .int (σ.1 6)) hx hb hts in_X1 hown hK hP 0 rfl hci 6 (by decide) (hts _ q1677) (fun _ hq => hq) rfl dX1_smoothBy_8 ?_
      refine lv_topi (fun x1 e_x1 => ?_)
      have hf := dz_ls e_x1 hf
      refine lv_icmp_ge (tgt := 63) hx hb dX1_smoothBy_11 (by decide) (fun c11 => ?_) (fun c11 => ?_)
      · have hf := dz_t c11 hf
        refine lv_lload_n hx hb dX1_smoothBy_63 rfl (lv_at hl 2 rfl) ?_
        exact W.lret (v := v2) hx hb hr (fun t ht hW => ⟨⟨v2, σ, rfl, Option.some.inj hf, by rw [ht]; exact hP, va_K.moved hW.alike hK, hD⟩, hS.F ht⟩) hS.2.2 dX1_smoothBy_64
      · have hf := dz_f c11 hf
        refine lv_aload_n hx hb dX1_smoothBy_14 rfl (lv_at hl 0 rfl) ?_
        refine va_get (C := RX1) (T := TX1) (N := 35) (fs := mwF ad σ) (v := .ref (ad 4)) hx hb hts in_X1 hown hK hP 0 rfl hci 4 (by decide) (hts _ q1675) (fun _ hq => hq) rfl dX1_smoothBy_15 ?_
        refine lv_iload hx hb dX1_smoothBy_18 (lv_at hl 3 rfl) ?_
        obtain ⟨g2, hf⟩ := dz_go hf
        refine va_iald hx hb hK hP 4 0 rfl rfl g2 dX1_smoothBy_20 ?_
        refine lv_topi (fun x3 e_x3 => ?_)
        have hf := dz_ls e_x3 hf
        refine lv_iload_n hx hb dX1_smoothBy_21 rfl (lv_at hl 1 rfl) ?_
        refine lv_icmp_gt (tgt := 57) hx hb dX1_smoothBy_22 (by decide) (fun c22 => ?_) (fun c22 => ?_)
        · have hf := dz_t c22 hf
          exact ih.2.2 v1 v2 v4 σ H locs hP hD hS ls (lv_sub hl [0, 1, 2, 3] rfl) hf
        · have hf := dz_f c22 hf
          refine lv_iconst (v := 0) hx hb dX1_smoothBy_25 (by decide) ?_
          refine lv_istore (lv' := [(5, .int 0), (0, .ref h), (1, .int v1), (2, .long v2), (4, .int v4)]) hx hb dX1_smoothBy_26 hl (by decide) rfl (fun ls hl => ?_)
          exact ih.2.1 v1 v2 v4 0 σ H locs hP hD hS ls (lv_sub hl [1, 2, 3, 4, 0] rfl) hf
    · intro v1 v2 v4 v5 σ H locs hP hD hS ls hl hf
      have hf : (if ¬ (v4 < 0 ∨ 12 ≤ Int32.toNatClampNeg v4) then (dz_l (σ.2.2.1 5 (Int32.toNatClampNeg v4)) fun x2 => if x2 ≤ v5 then ((lfX1_smoothBy K k).2.2 v1 v2 v4 σ) else (if ¬ (v4 < 0 ∨ 12 ≤ Int32.toNatClampNeg v4) then (dz_l (σ.2.2.1 4 (Int32.toNatClampNeg v4)) fun x4 => dz_l (v2 * (Int32.toInt64 x4)) fun x5 => dz_l (v5 + 1) fun x6 => (lfX1_smoothBy K k).2.1 v1 x5 v4 x6 σ) else none)) else none : Option (Int64 × pM)) = some res := hf
      refine lv_iload hx hb dX1_smoothBy_28 (lv_at hl 4 rfl) ?_
      refine lv_aload_n hx hb dX1_smoothBy_30 rfl (lv_at hl 0 rfl) ?_
      refine va_get (C := RX1) (T := TX1) (N := 35) (fs := mwF ad σ) (v := .ref (ad 5)) hx hb hts in_X1 hown hK hP 0 rfl hci 5 (by decide) (hts _ q1676) (fun _ hq => hq) rfl dX1_smoothBy_31 ?_
      refine lv_iload hx hb dX1_smoothBy_34 (lv_at hl 3 rfl) ?_
      obtain ⟨g1, hf⟩ := dz_go hf
      refine va_iald hx hb hK hP 5 0 rfl rfl g1 dX1_smoothBy_36 ?_
      refine lv_topi (fun x2 e_x2 => ?_)
      have hf := dz_ls e_x2 hf
      refine lv_icmp_ge (tgt := 57) hx hb dX1_smoothBy_37 (by decide) (fun c37 => ?_) (fun c37 => ?_)
      · have hf := dz_t c37 hf
        exact ih.2.2 v1 v2 v4 σ H locs hP hD hS ls (lv_sub hl [0, 1, 2, 3] rfl) hf
      · have hf := dz_f c37 hf
        refine lv_lload_n hx hb dX1_smoothBy_40 rfl (lv_at hl 2 rfl) ?_
        refine lv_aload_n hx hb dX1_smoothBy_41 rfl (lv_at hl 0 rfl) ?_
        refine va_get (C := RX1) (T := TX1) (N := 35) (fs := mwF ad σ) (v := .ref (ad 4)) hx hb hts in_X1 hown hK hP 0 rfl hci 4 (by decide) (hts _ q1675) (fun _ hq => hq) rfl dX1_smoothBy_42 ?_
        refine lv_iload hx hb dX1_smoothBy_45 (lv_at hl 3 rfl) ?_
        obtain ⟨g3, hf⟩ := dz_go hf
        refine va_iald hx hb hK hP 4 0 rfl rfl g3 dX1_smoothBy_47 ?_
        refine lv_topi (fun x4 e_x4 => ?_)
        have hf := dz_ls e_x4 hf
        refine lv_i2l hx hb dX1_smoothBy_48 (rfl : _ = Int32.toInt64 x4) ?_
        refine lv_lmul hx hb dX1_smoothBy_49 ?_
        refine lv_topl (fun x5 e_x5 => ?_)
        have hf := dz_ls e_x5 hf
        refine lv_lstore_n (lv' := [(2, .long x5), (0, .ref h), (1, .int v1), (4, .int v4), (5, .int v5)]) hx hb dX1_smoothBy_50 rfl hl (by decide) rfl (fun ls hl => ?_)
        obtain ⟨x6, e_x6, hf⟩ := dz_lo hf
        refine lv_iinc (v := x6) (lv' := [(5, .int x6), (2, .long x5), (0, .ref h), (1, .int v1), (4, .int v4)]) hx hb dX1_smoothBy_51 hl (k := 4) rfl (by rw [e_x6]; rfl) (by decide) rfl (fun ls hl => ?_)
        refine lv_goto (tgt := 28) hx hb dX1_smoothBy_54 (by decide) ?_
        exact ih.2.1 v1 x5 v4 x6 σ H locs hP hD hS ls (lv_sub hl [2, 3, 1, 4, 0] rfl) hf
    · intro v1 v2 v4 σ H locs hP hD hS ls hl hf
      have hf : (dz_l (v4 + 1) fun x1 => (lfX1_smoothBy K k).1 v1 v2 x1 σ : Option (Int64 × pM)) = some res := hf
      obtain ⟨x1, e_x1, hf⟩ := dz_lo hf
      refine lv_iinc (v := x1) (lv' := [(4, .int x1), (0, .ref h), (1, .int v1), (2, .long v2)]) hx hb dX1_smoothBy_57 hl (k := 3) rfl (by rw [e_x1]; rfl) (by decide) rfl (fun ls hl => ?_)
      refine lv_goto (tgt := 5) hx hb dX1_smoothBy_60 (by decide) ?_
      exact ih.1 v1 v2 x1 σ H locs hP hD hS ls (lv_sub hl [1, 2, 3, 0] rfl) hf
set_option maxHeartbeats 4000000 in
set_option maxRecDepth 100000 in
theorem mtX1_smoothBy (l : Launch) (D : va_G) (cl : List vw_C) (ci : Nat) (hci : cl[ci]? = some (RX1, TX1, 35)) (h : Nat) (ad : Nat → Nat) (cA : Nat → ClassId) (sz : Nat) (σ : pM) (a0 : Int32) (K : Nat) (res : (Int64 × pM)) (hf : fnX1_smoothBy K a0 σ = some res) : Met l yX1_smoothBy (ws_ yX1_smoothBy cX1_smoothBy 6 (some .long)) ({ frames := 0, cells := 0, slots := 0, locals := 0 }) (mPc D cl ci h ad cA sz σ [.ref h, .int a0]) (mQl D cl ci h ad cA (va_A (mw ci h ad cA σ) sz) res) 0 0 (va_A (mw ci h ad cA σ) sz) := by
  refine Met.ofW (cc := cX1_smoothBy) (maxL := 6) (ret := some .long) (by decide +kernel) rfl ?_
  intro p e s m args below meth c s₁ B hml hv
  obtain ⟨rfl, hsz, hP, hK, hD0⟩ := hv
  have hx := B.exec
  have hb := B.bytes
  have hr := B.returns
  have hts := atoms_spec (ws := ws_ yX1_smoothBy cX1_smoothBy 6 (some .long)) B.pre
  have hts : ∀ w ∈ lw_all, w.before _ s = true := fun w h => hts w (List.mem_cons_of_mem _ h)
  have hown : s.vm.findClass RX1 = some m.cls := findClass_of_methodNamed B.named
  have hlocks := B.notSynchronized
  subst hsz
  have hD := hD0.self (sz := s.heap.size)
  generalize hAe : va_A (mw ci h ad cA σ) s.heap.size = A at hD ⊢
  have hA : ∀ q : Nat, s.heap.size ≤ q → A q := fun q h => by rw [← hAe]; exact Or.inr h
  clear hAe hD0
  have hS : va_S A s.heap s.heap [] := va_S.rf
  generalize hHe : s.heap = H at hP hS ⊢
  have hS : va_S A s.heap H [] := by rw [hHe]; exact hS
  generalize ([] : List Loc) = locs at hS ⊢
  have hl := lv_entry ([.ref h, .int a0]) (n := 6) (Nat.le_of_ble_eq_true rfl)
  rw [lg_entry_eq]
  generalize (lg_sl ([.ref h, .int a0]) ++ List.replicate (6 - (lg_sl ([.ref h, .int a0])).length) Slot.unset).toArray = ls at hl ⊢
  have hl : lv_has ls 6 [(0, .ref h), (1, .int a0)] := hl
  have hf : ((lfX1_smoothBy K K).1 a0 1 0 σ : Option (Int64 × pM)) = some res := hf
  have ih := wlX1_smoothBy (l := l) (e := e) (below := below) (h := h) (ad := ad) (cA := cA) hci hA hK K res a0 hx hb hr hlocks hml hown hts K
  refine lv_lconst (v := 1) hx hb dX1_smoothBy_0 rfl ?_
  refine lv_lstore_n (lv' := [(2, .long 1), (0, .ref h), (1, .int a0)]) hx hb dX1_smoothBy_1 rfl hl (by decide) rfl (fun ls hl => ?_)
  refine lv_iconst (v := 0) hx hb dX1_smoothBy_2 (by decide) ?_
  refine lv_istore (lv' := [(4, .int 0), (2, .long 1), (0, .ref h), (1, .int a0)]) hx hb dX1_smoothBy_3 hl (by decide) rfl (fun ls hl => ?_)
  exact ih.1 a0 1 0 σ H locs hP hD hS ls (lv_sub hl [2, 3, 1, 0] rfl) hf

noncomputable def fnX1_smooth (K : Nat) (a0 : Int32) (a1 : Int32) (σ : pM) : Option (Int32 × pM) := dz_b (fnX1_isNumber K (Int32.toInt64 a0)) fun x1 => if x1 = (0 : Int32) then (some ((-1), σ)) else (if (0 : Int32) ≤ a1 then (dz_b (fnX1_laysFactors K (Int32.toInt64 a0) σ) fun s3 => dz_c (fnX1_smoothBy K a1 s3) fun x4 s5 => some (Int64.toInt32 x4, s5)) else (some ((-1), σ)))
set_option maxHeartbeats 4000000 in
set_option maxRecDepth 100000 in
theorem mtX1_smooth (l : Launch) (D : va_G) (cl : List vw_C) (ci : Nat) (hci : cl[ci]? = some (RX1, TX1, 35)) (h : Nat) (ad : Nat → Nat) (cA : Nat → ClassId) (sz : Nat) (σ : pM) (a0 : Int32) (a1 : Int32) (K : Nat) (res : (Int32 × pM)) (hf : fnX1_smooth K a0 a1 σ = some res) : Met l yX1_smooth (ws_ yX1_smooth cX1_smooth 3 (some .int)) ({ frames := 2, cells := 0, slots := 0, locals := 46 }) (mPc D cl ci h ad cA sz σ [.ref h, .int a0, .int a1]) (mQi D cl ci h ad cA (va_A (mw ci h ad cA σ) sz) res) 0 0 (va_A (mw ci h ad cA σ) sz) := by
  refine Met.ofW (cc := cX1_smooth) (maxL := 3) (ret := some .int) (by decide +kernel) rfl ?_
  intro p e s m args below meth c s₁ B hml hv
  obtain ⟨rfl, hsz, hP, hK, hD0⟩ := hv
  have hx := B.exec
  have hb := B.bytes
  have hr := B.returns
  have hts := atoms_spec (ws := ws_ yX1_smooth cX1_smooth 3 (some .int)) B.pre
  have hts : ∀ w ∈ lw_all, w.before _ s = true := fun w h => hts w (List.mem_cons_of_mem _ h)
  have hown : s.vm.findClass RX1 = some m.cls := findClass_of_methodNamed B.named
  have hlocks := B.notSynchronized
  subst hsz
  have hD := hD0.self (sz := s.heap.size)
  generalize hAe : va_A (mw ci h ad cA σ) s.heap.size = A at hD ⊢
  have hA : ∀ q : Nat, s.heap.size ≤ q → A q := fun q h => by rw [← hAe]; exact Or.inr h
  clear hAe hD0
  have hS : va_S A s.heap s.heap [] := va_S.rf
  generalize hHe : s.heap = H at hP hS ⊢
  have hS : va_S A s.heap H [] := by rw [hHe]; exact hS
  generalize ([] : List Loc) = locs at hS ⊢
  have hl := lv_entry ([.ref h, .int a0, .int a1]) (n := 3) (Nat.le_of_ble_eq_true rfl)
  rw [lg_entry_eq]
  generalize (lg_sl ([.ref h, .int a0, .int a1]) ++ List.replicate (3 - (lg_sl ([.ref h, .int a0, .int a1])).length) Slot.unset).toArray = ls at hl ⊢
  have hl : lv_has ls 3 [(0, .ref h), (1, .int a0), (2, .int a1)] := hl
  have hf : (dz_b (fnX1_isNumber K (Int32.toInt64 a0)) fun x1 => if x1 = (0 : Int32) then (some ((-1), σ)) else (if (0 : Int32) ≤ a1 then (dz_b (fnX1_laysFactors K (Int32.toInt64 a0) σ) fun s3 => dz_c (fnX1_smoothBy K a1 s3) fun x4 s5 => some (Int64.toInt32 x4, s5)) else (some ((-1), σ))) : Option (Int32 × pM)) = some res := hf
  refine lv_iload_n hx hb dX1_smooth_0 rfl (lv_at hl 1 rfl) ?_
  refine lv_i2l hx hb dX1_smooth_1 (rfl : _ = Int32.toInt64 a0) ?_
  obtain ⟨x1, hx1, hf⟩ := dz_bo hf
  refine va_calli (va_runS (As := [.long (Int32.toInt64 a0)]) (rest := []) ⟨hx, hb, hml, hown, hts⟩ (mtX1_isNumber l (Int32.toInt64 a0) K x1 hx1) (va_cwS 1 hts (lw_S q1786 q1787 q88 q1788) rfl rfl rfl (by decide +kernel) ⟨Nat.le_of_ble_eq_true rfl, Nat.le_of_ble_eq_true rfl⟩) ⟨fun a U g mk q => q, fun U hU hW => ⟨rfl, trivial⟩⟩ rfl rfl hl.1 rfl (lv_room (Nat.le_of_ble_eq_true rfl)) dX1_smooth_2 ⟨Nat.le_refl _, Nat.le_refl _⟩) hS (fun q _ hq => hq.elim) (fun q hq => hq.elim) (fun r u t H1 locs ht hvm hw hB hz hk hS => ?_)
  replace hw := hw.symm; subst hw
  replace hP := dz_keep hP hk
  clear hB hk hz hvm ht; generalize H1 = H at hP hS ⊢
  refine lv_if_eq (tgt := 12) hx hb dX1_smooth_5 (by decide) (fun c5 => ?_) (fun c5 => ?_)
  · have hf := dz_t c5 hf
    refine lv_iconst (v := (-1)) hx hb dX1_smooth_12 (by decide) ?_
    exact W.iret (v := (-1)) hx hb hr (fun t ht hW => ⟨⟨(-1), σ, rfl, Option.some.inj hf, by rw [ht]; exact hP, va_K.moved hW.alike hK, hD⟩, hS.F ht⟩) hS.2.2 dX1_smooth_13
  · have hf := dz_f c5 hf
    refine lv_iload_n hx hb dX1_smooth_8 rfl (lv_at hl 2 rfl) ?_
    refine lv_if_ge (tgt := 14) hx hb dX1_smooth_9 (by decide) (fun c9 => ?_) (fun c9 => ?_)
    · have hf := dz_t c9 hf
      refine lv_aload_n hx hb dX1_smooth_14 rfl (lv_at hl 0 rfl) ?_
      refine lv_iload_n hx hb dX1_smooth_15 rfl (lv_at hl 1 rfl) ?_
      refine lv_i2l hx hb dX1_smooth_16 (rfl : _ = Int32.toInt64 a0) ?_
      obtain ⟨s3, hx2, hf⟩ := dz_bo hf
      have hFc := dz_free hD hS hA
      refine va_callv (va_runV (As := [.long (Int32.toInt64 a0)]) (rest := []) ⟨hx, hb, hml, hown, hts⟩ (mtX1_laysFactors l D cl ci hci h ad cA H.size σ (Int32.toInt64 a0) K s3 hx2) (cwV 1 hts (lw_V q1883 q1885 qs51 q88 q1886) rfl rfl rfl (by decide +kernel) ⟨Nat.le_of_ble_eq_true rfl, Nat.le_of_ble_eq_true rfl⟩) (m_preV hci hK hP hD) rfl rfl hl.1 rfl (lv_room (Nat.le_of_ble_eq_true rfl)) dX1_smooth_17 ⟨Nat.le_refl _, Nat.le_refl _⟩) hS (fun q _ hq => hFc q hq) hFc (fun u t H1 locs ht hvm hw hB hz hk hS => ?_)
      replace hw := hw.symm; subst hw
      replace hP := m_back ht hB
      replace hD := mw_D s3 hD
      clear hB hk hz hvm ht hFc; generalize H1 = H at hP hS ⊢
      refine lv_aload_n hx hb dX1_smooth_20 rfl (lv_at hl 0 rfl) ?_
      refine lv_iload_n hx hb dX1_smooth_21 rfl (lv_at hl 2 rfl) ?_
      obtain ⟨x4, s5, hx4, hf⟩ := dz_co hf
      have hFc := dz_free hD hS hA
      refine va_calll (va_runV (As := [.int a1]) (rest := []) ⟨hx, hb, hml, hown, hts⟩ (mtX1_smoothBy l D cl ci hci h ad cA H.size s3 a1 K (x4, s5) hx4) (cwV 1 hts (lw_V q2144 q2146 qs82 q88 q2147) rfl rfl rfl (by decide +kernel) ⟨Nat.le_of_ble_eq_true rfl, Nat.le_of_ble_eq_true rfl⟩) (m_preV hci hK hP hD) rfl rfl hl.1 rfl (lv_room (Nat.le_of_ble_eq_true rfl)) dX1_smooth_22 ⟨Nat.le_refl _, Nat.le_refl _⟩) hS (fun q _ hq => hFc q hq) hFc (fun r u t H1 locs ht hvm hw hB hz hk hS => ?_)
      obtain ⟨hw1, hw2⟩ := Prod.mk.inj hw.symm; subst hw1; subst hw2
      replace hP := m_back ht hB
      replace hD := mw_D s5 hD
      clear hB hk hz hvm ht hFc; generalize H1 = H at hP hS ⊢
      refine lv_l2i hx hb dX1_smooth_25 (rfl : _ = Int64.toInt32 x4) ?_
      exact W.iret (v := Int64.toInt32 x4) hx hb hr (fun t ht hW => ⟨⟨Int64.toInt32 x4, s5, rfl, Option.some.inj hf, by rw [ht]; exact hP, va_K.moved hW.alike hK, hD⟩, hS.F ht⟩) hS.2.2 dX1_smooth_26
    · have hf := dz_f c9 hf
      refine lv_iconst (v := (-1)) hx hb dX1_smooth_12 (by decide) ?_
      exact W.iret (v := (-1)) hx hb hr (fun t ht hW => ⟨⟨(-1), σ, rfl, Option.some.inj hf, by rw [ht]; exact hP, va_K.moved hW.alike hK, hD⟩, hS.F ht⟩) hS.2.2 dX1_smooth_13

noncomputable def lfX1_bound (K : Nat) : Nat → (Int32 → Int32 → pM → Option (Int32 × pM)) := Nat.rec (motive := fun _ => (Int32 → Int32 → pM → Option (Int32 × pM))) (fun _ _ _ => none) (fun _ G => (fun v1 v2 σ => if ¬ (v2 < 0 ∨ 12 ≤ Int32.toNatClampNeg v2) then (dz_l (σ.2.2.1 4 (Int32.toNatClampNeg v2)) fun x2 => dz_c (fnX1_smoothBy K x2 σ) fun x3 s4 => if ¬ (v2 < 0 ∨ 12 ≤ Int32.toNatClampNeg v2) then (dz_l (s4.2.2.1 4 (Int32.toNatClampNeg v2)) fun x6 => dz_c (fnX1_smoothBy K x6 s4) fun x7 s8 => if (Int32.toInt64 v1) < (x3 * x7) then (if ¬ (v2 < 0 ∨ 12 ≤ Int32.toNatClampNeg v2) then (dz_l (s8.2.2.1 4 (Int32.toNatClampNeg v2)) fun x10 => some (x10, s8)) else none) else (dz_l (v2 + 1) fun x11 => G v1 x11 s8)) else none) else none))
noncomputable def fnX1_bound (K : Nat) (a0 : Int32) (σ : pM) : Option (Int32 × pM) := dz_b (fnX1_in K (Int32.toInt64 a0) 3 1000000000) fun x1 => if x1 = (0 : Int32) then (some ((-1), σ)) else (dz_b (fnX1_laysFactors K ((Int32.toInt64 a0) - 1) σ) fun s3 => (lfX1_bound K K) a0 0 s3)
set_option maxHeartbeats 4000000 in
set_option maxRecDepth 100000 in
theorem wlX1_bound {p : Program} {l : Launch} {e : Env} {s : State} {m : MethodId} {below : List Frame} {meth : Method} {c : Code} {D : va_G} {cl : List vw_C} {ci : Nat} (hci : cl[ci]? = some (RX1, TX1, 35)) {h : Nat} {ad : Nat → Nat} {cA : Nat → ClassId} {A : Nat → Prop} (hA : ∀ q : Nat, s.heap.size ≤ q → A q) (hK : va_K D cl (mtys cA) s) (K : Nat) (res : (Int32 × pM)) (a0 : Int32) (hx : p.tables.exec = Jvm.exec) (hb : c.code = cX1_bound) (hr : meth.sig.returnType = some .int) (hlocks : meth.locks = false) (hml : c.maxLocals = 3) (hown : s.vm.findClass RX1 = some m.cls) (hts : ∀ w ∈ lw_all, w.before ([.ref h, .int a0] : List Value).toArray s = true) : ∀ k : Nat, (∀ (v1 : Int32) (v2 : Int32) (σ : pM) (H : Heap) (locs : List Loc), va_P D cl (mw ci h ad cA σ) H → va_D A (mw ci h ad cA σ) → va_S A s.heap H locs → ∀ (ls : Array Slot), lv_has ls 3 [(0, .ref h), (1, .int v1), (2, .int v2)] → (lfX1_bound K k) v1 v2 σ = some res → W p l e (headSpec (ws_ yX1_bound cX1_bound 3 (some .int)) ({ frames := 1, cells := 0, slots := 0, locals := 26 })).room s m ([.ref h, .int a0] : List Value).toArray below meth c H locs 0 0 (MQ below (mQi D cl ci h ad cA A res) ([.ref h, .int a0] : List Value).toArray s 0 0 A) (F0 m 26 ls [])) := by
  intro k
  induction k with
  | zero =>
    exact fun _ _ _ _ _ _ _ _ _ _ hf => (by cases hf)
  | succ k ih =>
    · intro v1 v2 σ H locs hP hD hS ls hl hf
      have hf : (if ¬ (v2 < 0 ∨ 12 ≤ Int32.toNatClampNeg v2) then (dz_l (σ.2.2.1 4 (Int32.toNatClampNeg v2)) fun x2 => dz_c (fnX1_smoothBy K x2 σ) fun x3 s4 => if ¬ (v2 < 0 ∨ 12 ≤ Int32.toNatClampNeg v2) then (dz_l (s4.2.2.1 4 (Int32.toNatClampNeg v2)) fun x6 => dz_c (fnX1_smoothBy K x6 s4) fun x7 s8 => if (Int32.toInt64 v1) < (x3 * x7) then (if ¬ (v2 < 0 ∨ 12 ≤ Int32.toNatClampNeg v2) then (dz_l (s8.2.2.1 4 (Int32.toNatClampNeg v2)) fun x10 => some (x10, s8)) else none) else (dz_l (v2 + 1) fun x11 => (lfX1_bound K k) v1 x11 s8)) else none) else none : Option (Int32 × pM)) = some res := hf
      refine lv_aload_n hx hb dX1_bound_26 rfl (lv_at hl 0 rfl) ?_
      refine lv_aload_n hx hb dX1_bound_27 rfl (lv_at hl 0 rfl) ?_
      refine va_get (C := RX1) (T := TX1) (N := 35) (fs := mwF ad σ) (v := .ref (ad 4)) hx hb hts in_X1 hown hK hP 0 rfl hci 4 (by decide) (hts _ q1675) (fun _ hq => hq) rfl dX1_bound_28 ?_
      refine lv_iload_n hx hb dX1_bound_31 rfl (lv_at hl 2 rfl) ?_
      obtain ⟨g1, hf⟩ := dz_go hf
      refine va_iald hx hb hK hP 4 0 rfl rfl g1 dX1_bound_32 ?_
      refine lv_topi (fun x2 e_x2 => ?_)
      have hf := dz_ls e_x2 hf
      obtain ⟨x3, s4, hx3, hf⟩ := dz_co hf
      have hFc := dz_free hD hS hA
      refine va_calll (va_runV (As := [.int x2]) (rest := []) ⟨hx, hb, hml, hown, hts⟩ (mtX1_smoothBy l D cl ci hci h ad cA H.size σ x2 K (x3, s4) hx3) (cwV 1 hts (lw_V q2144 q2146 qs82 q88 q2147) rfl rfl rfl (by decide +kernel) ⟨Nat.le_of_ble_eq_true rfl, Nat.le_of_ble_eq_true rfl⟩) (m_preV hci hK hP hD) rfl rfl hl.1 rfl (lv_room (Nat.le_of_ble_eq_true rfl)) dX1_bound_33 ⟨Nat.le_refl _, Nat.le_refl _⟩) hS (fun q _ hq => hFc q hq) hFc (fun r u t H1 locs ht hvm hw hB hz hk hS => ?_)
      obtain ⟨hw1, hw2⟩ := Prod.mk.inj hw.symm; subst hw1; subst hw2
      replace hP := m_back ht hB
      replace hD := mw_D s4 hD
      clear hB hk hz hvm ht hFc; generalize H1 = H at hP hS ⊢
      refine lv_aload_n hx hb dX1_bound_36 rfl (lv_at hl 0 rfl) ?_
      refine lv_aload_n hx hb dX1_bound_37 rfl (lv_at hl 0 rfl) ?_
      refine va_get (C := RX1) (T := TX1) (N := 35) (fs := mwF ad s4) (v := .ref (ad 4)) hx hb hts in_X1 hown hK hP 0 rfl hci 4 (by decide) (hts _ q1675) (fun _ hq => hq) rfl dX1_bound_38 ?_
      refine lv_iload_n hx hb dX1_bound_41 rfl (lv_at hl 2 rfl) ?_
      obtain ⟨g5, hf⟩ := dz_go hf
      refine va_iald hx hb hK hP 4 0 rfl rfl g5 dX1_bound_42 ?_
      refine lv_topi (fun x6 e_x6 => ?_)
      have hf := dz_ls e_x6 hf
      obtain ⟨x7, s8, hx7, hf⟩ := dz_co hf
      have hFc := dz_free hD hS hA
      refine va_calll (va_runV (As := [.int x6]) (rest := [.long x3]) ⟨hx, hb, hml, hown, hts⟩ (mtX1_smoothBy l D cl ci hci h ad cA H.size s4 x6 K (x7, s8) hx7) (cwV 1 hts (lw_V q2144 q2146 qs82 q88 q2147) rfl rfl rfl (by decide +kernel) ⟨Nat.le_of_ble_eq_true rfl, Nat.le_of_ble_eq_true rfl⟩) (m_preV hci hK hP hD) rfl rfl hl.1 rfl (lv_room (Nat.le_of_ble_eq_true rfl)) dX1_bound_43 ⟨Nat.le_refl _, Nat.le_refl _⟩) hS (fun q _ hq => hFc q hq) hFc (fun r u t H1 locs ht hvm hw hB hz hk hS => ?_)
      obtain ⟨hw1, hw2⟩ := Prod.mk.inj hw.symm; subst hw1; subst hw2
      replace hP := m_back ht hB
      replace hD := mw_D s8 hD
      clear hB hk hz hvm ht hFc; generalize H1 = H at hP hS ⊢
      refine lv_lmul hx hb dX1_bound_46 ?_
      refine lv_iload_n hx hb dX1_bound_47 rfl (lv_at hl 1 rfl) ?_
      refine lv_i2l hx hb dX1_bound_48 (rfl : _ = Int32.toInt64 v1) ?_
      refine W.lcmp hx hb dX1_bound_49 ?_
      refine lv_if_gt (tgt := 59) hx hb dX1_bound_50 (by decide) (fun c50 => ?_) (fun c50 => ?_)
      · have c50 : (Int32.toInt64 v1) < (x3 * x7) := (lg_cmp_gt _ _).mp c50
        have hf := dz_t c50 hf
        refine lv_aload_n hx hb dX1_bound_59 rfl (lv_at hl 0 rfl) ?_
        refine va_get (C := RX1) (T := TX1) (N := 35) (fs := mwF ad s8) (v := .ref (ad 4)) hx hb hts in_X1 hown hK hP 0 rfl hci 4 (by decide) (hts _ q1675) (fun _ hq => hq) rfl dX1_bound_60 ?_
        refine lv_iload_n hx hb dX1_bound_63 rfl (lv_at hl 2 rfl) ?_
        obtain ⟨g9, hf⟩ := dz_go hf
        refine va_iald hx hb hK hP 4 0 rfl rfl g9 dX1_bound_64 ?_
        refine lv_topi (fun x10 e_x10 => ?_)
        have hf := dz_ls e_x10 hf
        exact W.iret (v := x10) hx hb hr (fun t ht hW => ⟨⟨x10, s8, rfl, Option.some.inj hf, by rw [ht]; exact hP, va_K.moved hW.alike hK, hD⟩, hS.F ht⟩) hS.2.2 dX1_bound_65
      · have c50 : ¬ (Int32.toInt64 v1) < (x3 * x7) := fun hq => c50 ((lg_cmp_gt _ _).mpr hq)
        have hf := dz_f c50 hf
        obtain ⟨x11, e_x11, hf⟩ := dz_lo hf
        refine lv_iinc (v := x11) (lv' := [(2, .int x11), (0, .ref h), (1, .int v1)]) hx hb dX1_bound_53 hl (k := 2) rfl (by rw [e_x11]; rfl) (by decide) rfl (fun ls hl => ?_)
        refine lv_goto (tgt := 26) hx hb dX1_bound_56 (by decide) ?_
        exact ih v1 x11 s8 H locs hP hD hS ls (lv_sub hl [1, 2, 0] rfl) hf
set_option maxHeartbeats 4000000 in
set_option maxRecDepth 100000 in
theorem mtX1_bound (l : Launch) (D : va_G) (cl : List vw_C) (ci : Nat) (hci : cl[ci]? = some (RX1, TX1, 35)) (h : Nat) (ad : Nat → Nat) (cA : Nat → ClassId) (sz : Nat) (σ : pM) (a0 : Int32) (K : Nat) (res : (Int32 × pM)) (hf : fnX1_bound K a0 σ = some res) : Met l yX1_bound (ws_ yX1_bound cX1_bound 3 (some .int)) ({ frames := 1, cells := 0, slots := 0, locals := 26 }) (mPc D cl ci h ad cA sz σ [.ref h, .int a0]) (mQi D cl ci h ad cA (va_A (mw ci h ad cA σ) sz) res) 0 0 (va_A (mw ci h ad cA σ) sz) := by
  refine Met.ofW (cc := cX1_bound) (maxL := 3) (ret := some .int) (by decide +kernel) rfl ?_
  intro p e s m args below meth c s₁ B hml hv
  obtain ⟨rfl, hsz, hP, hK, hD0⟩ := hv
  have hx := B.exec
  have hb := B.bytes
  have hr := B.returns
  have hts := atoms_spec (ws := ws_ yX1_bound cX1_bound 3 (some .int)) B.pre
  have hts : ∀ w ∈ lw_all, w.before _ s = true := fun w h => hts w (List.mem_cons_of_mem _ h)
  have hown : s.vm.findClass RX1 = some m.cls := findClass_of_methodNamed B.named
  have hlocks := B.notSynchronized
  subst hsz
  have hD := hD0.self (sz := s.heap.size)
  generalize hAe : va_A (mw ci h ad cA σ) s.heap.size = A at hD ⊢
  have hA : ∀ q : Nat, s.heap.size ≤ q → A q := fun q h => by rw [← hAe]; exact Or.inr h
  clear hAe hD0
  have hS : va_S A s.heap s.heap [] := va_S.rf
  generalize hHe : s.heap = H at hP hS ⊢
  have hS : va_S A s.heap H [] := by rw [hHe]; exact hS
  generalize ([] : List Loc) = locs at hS ⊢
  have hl := lv_entry ([.ref h, .int a0]) (n := 3) (Nat.le_of_ble_eq_true rfl)
  rw [lg_entry_eq]
  generalize (lg_sl ([.ref h, .int a0]) ++ List.replicate (3 - (lg_sl ([.ref h, .int a0])).length) Slot.unset).toArray = ls at hl ⊢
  have hl : lv_has ls 3 [(0, .ref h), (1, .int a0)] := hl
  have hf : (dz_b (fnX1_in K (Int32.toInt64 a0) 3 1000000000) fun x1 => if x1 = (0 : Int32) then (some ((-1), σ)) else (dz_b (fnX1_laysFactors K ((Int32.toInt64 a0) - 1) σ) fun s3 => (lfX1_bound K K) a0 0 s3) : Option (Int32 × pM)) = some res := hf
  have ih := wlX1_bound (l := l) (e := e) (below := below) (h := h) (ad := ad) (cA := cA) hci hA hK K res a0 hx hb hr hlocks hml hown hts K
  refine lv_iload_n hx hb dX1_bound_0 rfl (lv_at hl 1 rfl) ?_
  refine lv_i2l hx hb dX1_bound_1 (rfl : _ = Int32.toInt64 a0) ?_
  refine lv_ldc2 (v := 3) hx hb hown (hts _ q1861) dX1_bound_2 ?_
  refine lv_ldc2 (v := 1000000000) hx hb hown (hts _ q1790) dX1_bound_5 ?_
  obtain ⟨x1, hx1, hf⟩ := dz_bo hf
  refine va_calli (va_runS (As := [.long (Int32.toInt64 a0), .long 3, .long 1000000000]) (rest := []) ⟨hx, hb, hml, hown, hts⟩ (mtX1_in l (Int32.toInt64 a0) 3 1000000000 K x1 hx1) (va_cwS 3 hts (lw_S q1783 q1784 q88 q1785) rfl rfl rfl (by decide +kernel) ⟨Nat.le_of_ble_eq_true rfl, Nat.le_of_ble_eq_true rfl⟩) ⟨fun a U g mk q => q, fun U hU hW => ⟨rfl, trivial⟩⟩ rfl rfl hl.1 rfl (lv_room (Nat.le_of_ble_eq_true rfl)) dX1_bound_8 ⟨Nat.le_refl _, Nat.le_refl _⟩) hS (fun q _ hq => hq.elim) (fun q hq => hq.elim) (fun r u t H1 locs ht hvm hw hB hz hk hS => ?_)
  replace hw := hw.symm; subst hw
  replace hP := dz_keep hP hk
  clear hB hk hz hvm ht; generalize H1 = H at hP hS ⊢
  refine lv_if_ne (tgt := 16) hx hb dX1_bound_11 (by decide) (fun c11 => ?_) (fun c11 => ?_)
  · have hf := dz_f c11 hf
    refine lv_aload_n hx hb dX1_bound_16 rfl (lv_at hl 0 rfl) ?_
    refine lv_iload_n hx hb dX1_bound_17 rfl (lv_at hl 1 rfl) ?_
    refine lv_i2l hx hb dX1_bound_18 (rfl : _ = Int32.toInt64 a0) ?_
    refine lv_lconst (v := 1) hx hb dX1_bound_19 rfl ?_
    refine lv_lsub hx hb dX1_bound_20 ?_
    obtain ⟨s3, hx2, hf⟩ := dz_bo hf
    have hFc := dz_free hD hS hA
    refine va_callv (va_runV (As := [.long ((Int32.toInt64 a0) - 1)]) (rest := []) ⟨hx, hb, hml, hown, hts⟩ (mtX1_laysFactors l D cl ci hci h ad cA H.size σ ((Int32.toInt64 a0) - 1) K s3 hx2) (cwV 1 hts (lw_V q1883 q1885 qs51 q88 q1886) rfl rfl rfl (by decide +kernel) ⟨Nat.le_of_ble_eq_true rfl, Nat.le_of_ble_eq_true rfl⟩) (m_preV hci hK hP hD) rfl rfl hl.1 rfl (lv_room (Nat.le_of_ble_eq_true rfl)) dX1_bound_21 ⟨Nat.le_refl _, Nat.le_refl _⟩) hS (fun q _ hq => hFc q hq) hFc (fun u t H1 locs ht hvm hw hB hz hk hS => ?_)
    replace hw := hw.symm; subst hw
    replace hP := m_back ht hB
    replace hD := mw_D s3 hD
    clear hB hk hz hvm ht hFc; generalize H1 = H at hP hS ⊢
    refine lv_iconst (v := 0) hx hb dX1_bound_24 (by decide) ?_
    refine lv_istore_n (lv' := [(2, .int 0), (0, .ref h), (1, .int a0)]) hx hb dX1_bound_25 rfl hl (by decide) rfl (fun ls hl => ?_)
    exact ih a0 0 s3 H locs hP hD hS ls (lv_sub hl [1, 2, 0] rfl) hf
  · have hf := dz_t c11 hf
    refine lv_iconst (v := (-1)) hx hb dX1_bound_14 (by decide) ?_
    exact W.iret (v := (-1)) hx hb hr (fun t ht hW => ⟨⟨(-1), σ, rfl, Option.some.inj hf, by rw [ht]; exact hP, va_K.moved hW.alike hK, hD⟩, hS.F ht⟩) hS.2.2 dX1_bound_15

noncomputable def lfX1_chase (K : Nat) : Nat → (Int32 → Int32 → Int64 → Int64 → Int32 → pM → Option (Int32 × pM)) := Nat.rec (motive := fun _ => (Int32 → Int32 → Int64 → Int64 → Int32 → pM → Option (Int32 × pM))) (fun _ _ _ _ _ _ => none) (fun _ G => (fun v1 v2 v3 v5 v7 σ => if (1000 : Int32) ≤ v7 then (some ((-2), σ)) else (dz_l (Int32.toInt64 v1) fun x1 => if ¬ x1 = 0 then (dz_l (((v3 * v3) + (Int32.toInt64 v2)) - ((v3 * v3) + (Int32.toInt64 v2)) / x1 * x1) fun x3 => dz_l (Int32.toInt64 v1) fun x4 => if ¬ x4 = 0 then (dz_l (((v5 * v5) + (Int32.toInt64 v2)) - ((v5 * v5) + (Int32.toInt64 v2)) / x4 * x4) fun x6 => dz_l (Int32.toInt64 v1) fun x7 => if ¬ x7 = 0 then (dz_l (((x6 * x6) + (Int32.toInt64 v2)) - ((x6 * x6) + (Int32.toInt64 v2)) / x7 * x7) fun x9 => if x3 ≤ x9 then (dz_b (fnX1_common K (x9 - x3) (Int32.toInt64 v1)) fun x10 => if x10 = (1 : Int64) then (dz_l (v7 + 1) fun x11 => G v1 v2 x3 x9 x11 σ) else (some (Int64.toInt32 x10, σ))) else (dz_b (fnX1_common K (x3 - x9) (Int32.toInt64 v1)) fun x12 => if x12 = (1 : Int64) then (dz_l (v7 + 1) fun x13 => G v1 v2 x3 x9 x13 σ) else (some (Int64.toInt32 x12, σ)))) else none) else none) else none)))
noncomputable def fnX1_chase (K : Nat) (a0 : Int32) (a1 : Int32) (σ : pM) : Option (Int32 × pM) := dz_b (fnX1_isNumber K (Int32.toInt64 a0)) fun x1 => if x1 = (0 : Int32) then (some ((-1), σ)) else (dz_b (fnX1_in K (Int32.toInt64 a1) 1 99) fun x2 => if x2 = (0 : Int32) then (some ((-1), σ)) else ((lfX1_chase K K) a0 a1 2 2 0 σ))
set_option maxHeartbeats 4000000 in
set_option maxRecDepth 100000 in
theorem wlX1_chase {p : Program} {l : Launch} {e : Env} {s : State} {m : MethodId} {below : List Frame} {meth : Method} {c : Code} {D : va_G} {cl : List vw_C} {ci : Nat} (hci : cl[ci]? = some (RX1, TX1, 35)) {h : Nat} {ad : Nat → Nat} {cA : Nat → ClassId} {A : Nat → Prop} (hA : ∀ q : Nat, s.heap.size ≤ q → A q) (hK : va_K D cl (mtys cA) s) (K : Nat) (res : (Int32 × pM)) (a0 : Int32) (a1 : Int32) (hx : p.tables.exec = Jvm.exec) (hb : c.code = cX1_chase) (hr : meth.sig.returnType = some .int) (hlocks : meth.locks = false) (hml : c.maxLocals = 10) (hown : s.vm.findClass RX1 = some m.cls) (hts : ∀ w ∈ lw_all, w.before ([.ref h, .int a0, .int a1] : List Value).toArray s = true) : ∀ k : Nat, (∀ (v1 : Int32) (v2 : Int32) (v3 : Int64) (v5 : Int64) (v7 : Int32) (σ : pM) (H : Heap) (locs : List Loc), va_P D cl (mw ci h ad cA σ) H → va_D A (mw ci h ad cA σ) → va_S A s.heap H locs → ∀ (ls : Array Slot), lv_has ls 10 [(1, .int v1), (2, .int v2), (3, .long v3), (5, .long v5), (7, .int v7)] → (lfX1_chase K k) v1 v2 v3 v5 v7 σ = some res → W p l e (headSpec (ws_ yX1_chase cX1_chase 10 (some .int)) ({ frames := 2, cells := 0, slots := 0, locals := 46 })).room s m ([.ref h, .int a0, .int a1] : List Value).toArray below meth c H locs 0 0 (MQ below (mQi D cl ci h ad cA A res) ([.ref h, .int a0, .int a1] : List Value).toArray s 0 0 A) (F0 m 34 ls [])) := by
  intro k
  induction k with
  | zero =>
    exact fun _ _ _ _ _ _ _ _ _ _ _ _ _ hf => (by cases hf)
  | succ k ih =>
    · intro v1 v2 v3 v5 v7 σ H locs hP hD hS ls hl hf
      have hf : (if (1000 : Int32) ≤ v7 then (some ((-2), σ)) else (dz_l (Int32.toInt64 v1) fun x1 => if ¬ x1 = 0 then (dz_l (((v3 * v3) + (Int32.toInt64 v2)) - ((v3 * v3) + (Int32.toInt64 v2)) / x1 * x1) fun x3 => dz_l (Int32.toInt64 v1) fun x4 => if ¬ x4 = 0 then (dz_l (((v5 * v5) + (Int32.toInt64 v2)) - ((v5 * v5) + (Int32.toInt64 v2)) / x4 * x4) fun x6 => dz_l (Int32.toInt64 v1) fun x7 => if ¬ x7 = 0 then (dz_l (((x6 * x6) + (Int32.toInt64 v2)) - ((x6 * x6) + (Int32.toInt64 v2)) / x7 * x7) fun x9 => if x3 ≤ x9 then (dz_b (fnX1_common K (x9 - x3) (Int32.toInt64 v1)) fun x10 => if x10 = (1 : Int64) then (dz_l (v7 + 1) fun x11 => (lfX1_chase K k) v1 v2 x3 x9 x11 σ) else (some (Int64.toInt32 x10, σ))) else (dz_b (fnX1_common K (x3 - x9) (Int32.toInt64 v1)) fun x12 => if x12 = (1 : Int64) then (dz_l (v7 + 1) fun x13 => (lfX1_chase K k) v1 v2 x3 x9 x13 σ) else (some (Int64.toInt32 x12, σ)))) else none) else none) else none) : Option (Int32 × pM)) = some res := hf
      refine lv_iload hx hb dX1_chase_34 (lv_at hl 4 rfl) ?_
      refine lv_sipush (v := 1000) hx hb dX1_chase_36 (by decide) ?_
      refine lv_icmp_ge (tgt := 120) hx hb dX1_chase_39 (by decide) (fun c39 => ?_) (fun c39 => ?_)
      · have hf := dz_t c39 hf
        refine lv_bipush (v := (-2)) hx hb dX1_chase_120 (by decide) ?_
        exact W.iret (v := (-2)) hx hb hr (fun t ht hW => ⟨⟨(-2), σ, rfl, Option.some.inj hf, by rw [ht]; exact hP, va_K.moved hW.alike hK, hD⟩, hS.F ht⟩) hS.2.2 dX1_chase_122
      · have hf := dz_f c39 hf
        refine lv_lload_n hx hb dX1_chase_42 rfl (lv_at hl 2 rfl) ?_
        refine lv_lload_n hx hb dX1_chase_43 rfl (lv_at hl 2 rfl) ?_
        refine lv_lmul hx hb dX1_chase_44 ?_
        refine lv_iload_n hx hb dX1_chase_45 rfl (lv_at hl 1 rfl) ?_
        refine lv_i2l hx hb dX1_chase_46 (rfl : _ = Int32.toInt64 v2) ?_
        refine lv_ladd hx hb dX1_chase_47 ?_
        refine lv_iload_n hx hb dX1_chase_48 rfl (lv_at hl 0 rfl) ?_
        refine lv_i2l hx hb dX1_chase_49 (rfl : _ = Int32.toInt64 v1) ?_
        refine lv_topl (fun x1 e_x1 => ?_)
        have hf := dz_ls e_x1 hf
        obtain ⟨g2, hf⟩ := dz_go hf
        refine lv_lrem hx hb dX1_chase_50 g2 ?_
        refine lv_topl (fun x3 e_x3 => ?_)
        have hf := dz_ls e_x3 hf
        refine lv_lstore_n (lv' := [(3, .long x3), (1, .int v1), (2, .int v2), (5, .long v5), (7, .int v7)]) hx hb dX1_chase_51 rfl hl (by decide) rfl (fun ls hl => ?_)
        refine lv_lload hx hb dX1_chase_52 (lv_at hl 3 rfl) ?_
        refine lv_lload hx hb dX1_chase_54 (lv_at hl 3 rfl) ?_
        refine lv_lmul hx hb dX1_chase_56 ?_
        refine lv_iload_n hx hb dX1_chase_57 rfl (lv_at hl 2 rfl) ?_
        refine lv_i2l hx hb dX1_chase_58 (rfl : _ = Int32.toInt64 v2) ?_
        refine lv_ladd hx hb dX1_chase_59 ?_
        refine lv_iload_n hx hb dX1_chase_60 rfl (lv_at hl 1 rfl) ?_
        refine lv_i2l hx hb dX1_chase_61 (rfl : _ = Int32.toInt64 v1) ?_
        refine lv_topl (fun x4 e_x4 => ?_)
        have hf := dz_ls e_x4 hf
        obtain ⟨g5, hf⟩ := dz_go hf
        refine lv_lrem hx hb dX1_chase_62 g5 ?_
        refine lv_topl (fun x6 e_x6 => ?_)
        have hf := dz_ls e_x6 hf
        refine lv_lstore (lv' := [(5, .long x6), (3, .long x3), (1, .int v1), (2, .int v2), (7, .int v7)]) hx hb dX1_chase_63 hl (by decide) rfl (fun ls hl => ?_)
        refine lv_lload hx hb dX1_chase_65 (lv_at hl 0 rfl) ?_
        refine lv_lload hx hb dX1_chase_67 (lv_at hl 0 rfl) ?_
        refine lv_lmul hx hb dX1_chase_69 ?_
        refine lv_iload_n hx hb dX1_chase_70 rfl (lv_at hl 3 rfl) ?_
        refine lv_i2l hx hb dX1_chase_71 (rfl : _ = Int32.toInt64 v2) ?_
        refine lv_ladd hx hb dX1_chase_72 ?_
        refine lv_iload_n hx hb dX1_chase_73 rfl (lv_at hl 2 rfl) ?_
        refine lv_i2l hx hb dX1_chase_74 (rfl : _ = Int32.toInt64 v1) ?_
        refine lv_topl (fun x7 e_x7 => ?_)
        have hf := dz_ls e_x7 hf
        obtain ⟨g8, hf⟩ := dz_go hf
        refine lv_lrem hx hb dX1_chase_75 g8 ?_
        refine lv_topl (fun x9 e_x9 => ?_)
        have hf := dz_ls e_x9 hf
        refine lv_lstore (lv' := [(5, .long x9), (3, .long x3), (1, .int v1), (2, .int v2), (7, .int v7)]) hx hb dX1_chase_76 hl (by decide) rfl (fun ls hl => ?_)
        refine lv_lload_n hx hb dX1_chase_78 rfl (lv_at hl 1 rfl) ?_
        refine lv_lload hx hb dX1_chase_79 (lv_at hl 0 rfl) ?_
        refine W.lcmp hx hb dX1_chase_81 ?_
        refine lv_if_le (tgt := 92) hx hb dX1_chase_82 (by decide) (fun c82 => ?_) (fun c82 => ?_)
        · have c82 : x3 ≤ x9 := (lg_cmp_le _ _).mp c82
          have hf := dz_t c82 hf
          refine lv_lload hx hb dX1_chase_92 (lv_at hl 0 rfl) ?_
          refine lv_lload_n hx hb dX1_chase_94 rfl (lv_at hl 1 rfl) ?_
          refine lv_lsub hx hb dX1_chase_95 ?_
          refine lv_iload_n hx hb dX1_chase_96 rfl (lv_at hl 2 rfl) ?_
          refine lv_i2l hx hb dX1_chase_97 (rfl : _ = Int32.toInt64 v1) ?_
          obtain ⟨x10, hx10, hf⟩ := dz_bo hf
          refine va_calll (va_runS (As := [.long (x9 - x3), .long (Int32.toInt64 v1)]) (rest := []) ⟨hx, hb, hml, hown, hts⟩ (mtX1_common l (x9 - x3) (Int32.toInt64 v1) K x10 hx10) (va_cwS 2 hts (lw_S q1837 q1838 q88 q1839) rfl rfl rfl (by decide +kernel) ⟨Nat.le_of_ble_eq_true rfl, Nat.le_of_ble_eq_true rfl⟩) ⟨fun a U g mk q => q, fun U hU hW => ⟨rfl, trivial⟩⟩ rfl rfl hl.1 rfl (lv_room (Nat.le_of_ble_eq_true rfl)) dX1_chase_98 ⟨Nat.le_refl _, Nat.le_refl _⟩) hS (fun q _ hq => hq.elim) (fun q hq => hq.elim) (fun r u t H1 locs ht hvm hw hB hz hk hS => ?_)
          replace hw := hw.symm; subst hw
          replace hP := dz_keep hP hk
          clear hB hk hz hvm ht; generalize H1 = H at hP hS ⊢
          refine lv_lstore (lv' := [(8, .long x10), (5, .long x9), (3, .long x3), (1, .int v1), (2, .int v2), (7, .int v7)]) hx hb dX1_chase_101 hl (by decide) rfl (fun ls hl => ?_)
          refine lv_lload hx hb dX1_chase_103 (lv_at hl 0 rfl) ?_
          refine lv_lconst (v := 1) hx hb dX1_chase_105 rfl ?_
          refine W.lcmp hx hb dX1_chase_106 ?_
          refine lv_if_eq (tgt := 114) hx hb dX1_chase_107 (by decide) (fun c107 => ?_) (fun c107 => ?_)
          · have c107 : x10 = (1 : Int64) := (lg_cmp_eq _ _).mp c107
            have hf := dz_t c107 hf
            obtain ⟨x11, e_x11, hf⟩ := dz_lo hf
            refine lv_iinc (v := x11) (lv' := [(7, .int x11), (8, .long x10), (5, .long x9), (3, .long x3), (1, .int v1), (2, .int v2)]) hx hb dX1_chase_114 hl (k := 5) rfl (by rw [e_x11]; rfl) (by decide) rfl (fun ls hl => ?_)
            refine lv_goto (tgt := 34) hx hb dX1_chase_117 (by decide) ?_
            exact ih v1 v2 x3 x9 x11 σ H locs hP hD hS ls (lv_sub hl [4, 5, 3, 2, 0] rfl) hf
          · have c107 : ¬ x10 = (1 : Int64) := fun hq => c107 ((lg_cmp_eq _ _).mpr hq)
            have hf := dz_f c107 hf
            refine lv_lload hx hb dX1_chase_110 (lv_at hl 0 rfl) ?_
            refine lv_l2i hx hb dX1_chase_112 (rfl : _ = Int64.toInt32 x10) ?_
            exact W.iret (v := Int64.toInt32 x10) hx hb hr (fun t ht hW => ⟨⟨Int64.toInt32 x10, σ, rfl, Option.some.inj hf, by rw [ht]; exact hP, va_K.moved hW.alike hK, hD⟩, hS.F ht⟩) hS.2.2 dX1_chase_113
        · have c82 : ¬ x3 ≤ x9 := fun hq => c82 ((lg_cmp_le _ _).mpr hq)
          have hf := dz_f c82 hf
          refine lv_lload_n hx hb dX1_chase_85 rfl (lv_at hl 1 rfl) ?_
          refine lv_lload hx hb dX1_chase_86 (lv_at hl 0 rfl) ?_
          refine lv_lsub hx hb dX1_chase_88 ?_
          refine lv_goto (tgt := 96) hx hb dX1_chase_89 (by decide) ?_
          refine lv_iload_n hx hb dX1_chase_96 rfl (lv_at hl 2 rfl) ?_
          refine lv_i2l hx hb dX1_chase_97 (rfl : _ = Int32.toInt64 v1) ?_
          obtain ⟨x12, hx12, hf⟩ := dz_bo hf
          refine va_calll (va_runS (As := [.long (x3 - x9), .long (Int32.toInt64 v1)]) (rest := []) ⟨hx, hb, hml, hown, hts⟩ (mtX1_common l (x3 - x9) (Int32.toInt64 v1) K x12 hx12) (va_cwS 2 hts (lw_S q1837 q1838 q88 q1839) rfl rfl rfl (by decide +kernel) ⟨Nat.le_of_ble_eq_true rfl, Nat.le_of_ble_eq_true rfl⟩) ⟨fun a U g mk q => q, fun U hU hW => ⟨rfl, trivial⟩⟩ rfl rfl hl.1 rfl (lv_room (Nat.le_of_ble_eq_true rfl)) dX1_chase_98 ⟨Nat.le_refl _, Nat.le_refl _⟩) hS (fun q _ hq => hq.elim) (fun q hq => hq.elim) (fun r u t H1 locs ht hvm hw hB hz hk hS => ?_)
          replace hw := hw.symm; subst hw
          replace hP := dz_keep hP hk
          clear hB hk hz hvm ht; generalize H1 = H at hP hS ⊢
          refine lv_lstore (lv' := [(8, .long x12), (5, .long x9), (3, .long x3), (1, .int v1), (2, .int v2), (7, .int v7)]) hx hb dX1_chase_101 hl (by decide) rfl (fun ls hl => ?_)
          refine lv_lload hx hb dX1_chase_103 (lv_at hl 0 rfl) ?_
          refine lv_lconst (v := 1) hx hb dX1_chase_105 rfl ?_
          refine W.lcmp hx hb dX1_chase_106 ?_
          refine lv_if_eq (tgt := 114) hx hb dX1_chase_107 (by decide) (fun c107 => ?_) (fun c107 => ?_)
          · have c107 : x12 = (1 : Int64) := (lg_cmp_eq _ _).mp c107
            have hf := dz_t c107 hf
            obtain ⟨x13, e_x13, hf⟩ := dz_lo hf
            refine lv_iinc (v := x13) (lv' := [(7, .int x13), (8, .long x12), (5, .long x9), (3, .long x3), (1, .int v1), (2, .int v2)]) hx hb dX1_chase_114 hl (k := 5) rfl (by rw [e_x13]; rfl) (by decide) rfl (fun ls hl => ?_)
            refine lv_goto (tgt := 34) hx hb dX1_chase_117 (by decide) ?_
            exact ih v1 v2 x3 x9 x13 σ H locs hP hD hS ls (lv_sub hl [4, 5, 3, 2, 0] rfl) hf
          · have c107 : ¬ x12 = (1 : Int64) := fun hq => c107 ((lg_cmp_eq _ _).mpr hq)
            have hf := dz_f c107 hf
            refine lv_lload hx hb dX1_chase_110 (lv_at hl 0 rfl) ?_
            refine lv_l2i hx hb dX1_chase_112 (rfl : _ = Int64.toInt32 x12) ?_
            exact W.iret (v := Int64.toInt32 x12) hx hb hr (fun t ht hW => ⟨⟨Int64.toInt32 x12, σ, rfl, Option.some.inj hf, by rw [ht]; exact hP, va_K.moved hW.alike hK, hD⟩, hS.F ht⟩) hS.2.2 dX1_chase_113
set_option maxHeartbeats 4000000 in
set_option maxRecDepth 100000 in
theorem mtX1_chase (l : Launch) (D : va_G) (cl : List vw_C) (ci : Nat) (hci : cl[ci]? = some (RX1, TX1, 35)) (h : Nat) (ad : Nat → Nat) (cA : Nat → ClassId) (sz : Nat) (σ : pM) (a0 : Int32) (a1 : Int32) (K : Nat) (res : (Int32 × pM)) (hf : fnX1_chase K a0 a1 σ = some res) : Met l yX1_chase (ws_ yX1_chase cX1_chase 10 (some .int)) ({ frames := 2, cells := 0, slots := 0, locals := 46 }) (mPc D cl ci h ad cA sz σ [.ref h, .int a0, .int a1]) (mQi D cl ci h ad cA (va_A (mw ci h ad cA σ) sz) res) 0 0 (va_A (mw ci h ad cA σ) sz) := by
  refine Met.ofW (cc := cX1_chase) (maxL := 10) (ret := some .int) (by decide +kernel) rfl ?_
  intro p e s m args below meth c s₁ B hml hv
  obtain ⟨rfl, hsz, hP, hK, hD0⟩ := hv
  have hx := B.exec
  have hb := B.bytes
  have hr := B.returns
  have hts := atoms_spec (ws := ws_ yX1_chase cX1_chase 10 (some .int)) B.pre
  have hts : ∀ w ∈ lw_all, w.before _ s = true := fun w h => hts w (List.mem_cons_of_mem _ h)
  have hown : s.vm.findClass RX1 = some m.cls := findClass_of_methodNamed B.named
  have hlocks := B.notSynchronized
  subst hsz
  have hD := hD0.self (sz := s.heap.size)
  generalize hAe : va_A (mw ci h ad cA σ) s.heap.size = A at hD ⊢
  have hA : ∀ q : Nat, s.heap.size ≤ q → A q := fun q h => by rw [← hAe]; exact Or.inr h
  clear hAe hD0
  have hS : va_S A s.heap s.heap [] := va_S.rf
  generalize hHe : s.heap = H at hP hS ⊢
  have hS : va_S A s.heap H [] := by rw [hHe]; exact hS
  generalize ([] : List Loc) = locs at hS ⊢
  have hl := lv_entry ([.ref h, .int a0, .int a1]) (n := 10) (Nat.le_of_ble_eq_true rfl)
  rw [lg_entry_eq]
  generalize (lg_sl ([.ref h, .int a0, .int a1]) ++ List.replicate (10 - (lg_sl ([.ref h, .int a0, .int a1])).length) Slot.unset).toArray = ls at hl ⊢
  have hl : lv_has ls 10 [(0, .ref h), (1, .int a0), (2, .int a1)] := hl
  have hf : (dz_b (fnX1_isNumber K (Int32.toInt64 a0)) fun x1 => if x1 = (0 : Int32) then (some ((-1), σ)) else (dz_b (fnX1_in K (Int32.toInt64 a1) 1 99) fun x2 => if x2 = (0 : Int32) then (some ((-1), σ)) else ((lfX1_chase K K) a0 a1 2 2 0 σ)) : Option (Int32 × pM)) = some res := hf
  have ih := wlX1_chase (l := l) (e := e) (below := below) (h := h) (ad := ad) (cA := cA) hci hA hK K res a0 a1 hx hb hr hlocks hml hown hts K
  refine lv_iload_n hx hb dX1_chase_0 rfl (lv_at hl 1 rfl) ?_
  refine lv_i2l hx hb dX1_chase_1 (rfl : _ = Int32.toInt64 a0) ?_
  obtain ⟨x1, hx1, hf⟩ := dz_bo hf
  refine va_calli (va_runS (As := [.long (Int32.toInt64 a0)]) (rest := []) ⟨hx, hb, hml, hown, hts⟩ (mtX1_isNumber l (Int32.toInt64 a0) K x1 hx1) (va_cwS 1 hts (lw_S q1786 q1787 q88 q1788) rfl rfl rfl (by decide +kernel) ⟨Nat.le_of_ble_eq_true rfl, Nat.le_of_ble_eq_true rfl⟩) ⟨fun a U g mk q => q, fun U hU hW => ⟨rfl, trivial⟩⟩ rfl rfl hl.1 rfl (lv_room (Nat.le_of_ble_eq_true rfl)) dX1_chase_2 ⟨Nat.le_refl _, Nat.le_refl _⟩) hS (fun q _ hq => hq.elim) (fun q hq => hq.elim) (fun r u t H1 locs ht hvm hw hB hz hk hS => ?_)
  replace hw := hw.symm; subst hw
  replace hP := dz_keep hP hk
  clear hB hk hz hvm ht; generalize H1 = H at hP hS ⊢
  refine lv_if_eq (tgt := 20) hx hb dX1_chase_5 (by decide) (fun c5 => ?_) (fun c5 => ?_)
  · have hf := dz_t c5 hf
    refine lv_iconst (v := (-1)) hx hb dX1_chase_20 (by decide) ?_
    exact W.iret (v := (-1)) hx hb hr (fun t ht hW => ⟨⟨(-1), σ, rfl, Option.some.inj hf, by rw [ht]; exact hP, va_K.moved hW.alike hK, hD⟩, hS.F ht⟩) hS.2.2 dX1_chase_21
  · have hf := dz_f c5 hf
    refine lv_iload_n hx hb dX1_chase_8 rfl (lv_at hl 2 rfl) ?_
    refine lv_i2l hx hb dX1_chase_9 (rfl : _ = Int32.toInt64 a1) ?_
    refine lv_lconst (v := 1) hx hb dX1_chase_10 rfl ?_
    refine lv_ldc2 (v := 99) hx hb hown (hts _ q2025) dX1_chase_11 ?_
    obtain ⟨x2, hx2, hf⟩ := dz_bo hf
    refine va_calli (va_runS (As := [.long (Int32.toInt64 a1), .long 1, .long 99]) (rest := []) ⟨hx, hb, hml, hown, hts⟩ (mtX1_in l (Int32.toInt64 a1) 1 99 K x2 hx2) (va_cwS 3 hts (lw_S q1783 q1784 q88 q1785) rfl rfl rfl (by decide +kernel) ⟨Nat.le_of_ble_eq_true rfl, Nat.le_of_ble_eq_true rfl⟩) ⟨fun a U g mk q => q, fun U hU hW => ⟨rfl, trivial⟩⟩ rfl rfl hl.1 rfl (lv_room (Nat.le_of_ble_eq_true rfl)) dX1_chase_14 ⟨Nat.le_refl _, Nat.le_refl _⟩) hS (fun q _ hq => hq.elim) (fun q hq => hq.elim) (fun r u t H1 locs ht hvm hw hB hz hk hS => ?_)
    replace hw := hw.symm; subst hw
    replace hP := dz_keep hP hk
    clear hB hk hz hvm ht; generalize H1 = H at hP hS ⊢
    refine lv_if_ne (tgt := 22) hx hb dX1_chase_17 (by decide) (fun c17 => ?_) (fun c17 => ?_)
    · have hf := dz_f c17 hf
      refine lv_ldc2 (v := 2) hx hb hown (hts _ q1789) dX1_chase_22 ?_
      refine lv_lstore_n (lv' := [(3, .long 2), (0, .ref h), (1, .int a0), (2, .int a1)]) hx hb dX1_chase_25 rfl hl (by decide) rfl (fun ls hl => ?_)
      refine lv_ldc2 (v := 2) hx hb hown (hts _ q1789) dX1_chase_26 ?_
      refine lv_lstore (lv' := [(5, .long 2), (3, .long 2), (0, .ref h), (1, .int a0), (2, .int a1)]) hx hb dX1_chase_29 hl (by decide) rfl (fun ls hl => ?_)
      refine lv_iconst (v := 0) hx hb dX1_chase_31 (by decide) ?_
      refine lv_istore (lv' := [(7, .int 0), (5, .long 2), (3, .long 2), (0, .ref h), (1, .int a0), (2, .int a1)]) hx hb dX1_chase_32 hl (by decide) rfl (fun ls hl => ?_)
      exact ih a0 a1 2 2 0 σ H locs hP hD hS ls (lv_sub hl [4, 5, 2, 1, 0] rfl) hf
    · have hf := dz_t c17 hf
      refine lv_iconst (v := (-1)) hx hb dX1_chase_20 (by decide) ?_
      exact W.iret (v := (-1)) hx hb hr (fun t ht hW => ⟨⟨(-1), σ, rfl, Option.some.inj hf, by rw [ht]; exact hP, va_K.moved hW.alike hK, hD⟩, hS.F ht⟩) hS.2.2 dX1_chase_21

noncomputable def lfX1_primes (K : Nat) : Nat → (Int32 → Int32 → Int32 → pM → Option (Int32 × pM)) × (Int32 → Int32 → Int32 → pM → Option (Int32 × pM)) := Nat.rec (motive := fun _ => (Int32 → Int32 → Int32 → pM → Option (Int32 × pM)) × (Int32 → Int32 → Int32 → pM → Option (Int32 × pM))) ((fun _ _ _ _ => none), (fun _ _ _ _ => none)) (fun _ G => ((fun v2 v3 v4 σ => if v2 < v4 then (some (v3, σ)) else (dz_b (fnX1_isPrime K (Int32.toInt64 v4)) fun x1 => if x1 = (0 : Int32) then (G.2 v2 v3 v4 σ) else (dz_l (v3 + 1) fun x2 => G.2 v2 x2 v4 σ))), (fun v2 v3 v4 σ => dz_l (v4 + 1) fun x1 => G.1 v2 v3 x1 σ)))
noncomputable def fnX1_primes (K : Nat) (a0 : Int32) (a1 : Int32) (σ : pM) : Option (Int32 × pM) := if a0 < (0 : Int32) then (some ((-1), σ)) else (if a1 < a0 then (some ((-1), σ)) else (if (1000000000 : Int32) < a1 then (some ((-1), σ)) else (if (a1 - a0) < (1000 : Int32) then ((lfX1_primes K K).1 a1 0 a0 σ) else (some ((-1), σ)))))
set_option maxHeartbeats 4000000 in
set_option maxRecDepth 100000 in
theorem wlX1_primes {p : Program} {l : Launch} {e : Env} {s : State} {m : MethodId} {below : List Frame} {meth : Method} {c : Code} {D : va_G} {cl : List vw_C} {ci : Nat} (hci : cl[ci]? = some (RX1, TX1, 35)) {h : Nat} {ad : Nat → Nat} {cA : Nat → ClassId} {A : Nat → Prop} (hA : ∀ q : Nat, s.heap.size ≤ q → A q) (hK : va_K D cl (mtys cA) s) (K : Nat) (res : (Int32 × pM)) (a0 : Int32) (a1 : Int32) (hx : p.tables.exec = Jvm.exec) (hb : c.code = cX1_primes) (hr : meth.sig.returnType = some .int) (hlocks : meth.locks = false) (hml : c.maxLocals = 5) (hown : s.vm.findClass RX1 = some m.cls) (hts : ∀ w ∈ lw_all, w.before ([.ref h, .int a0, .int a1] : List Value).toArray s = true) : ∀ k : Nat, (∀ (v2 : Int32) (v3 : Int32) (v4 : Int32) (σ : pM) (H : Heap) (locs : List Loc), va_P D cl (mw ci h ad cA σ) H → va_D A (mw ci h ad cA σ) → va_S A s.heap H locs → ∀ (ls : Array Slot), lv_has ls 5 [(2, .int v2), (3, .int v3), (4, .int v4)] → (lfX1_primes K k).1 v2 v3 v4 σ = some res → W p l e (headSpec (ws_ yX1_primes cX1_primes 5 (some .int)) ({ frames := 1, cells := 0, slots := 0, locals := 23 })).room s m ([.ref h, .int a0, .int a1] : List Value).toArray below meth c H locs 0 0 (MQ below (mQi D cl ci h ad cA A res) ([.ref h, .int a0, .int a1] : List Value).toArray s 0 0 A) (F0 m 32 ls [])) ∧ (∀ (v2 : Int32) (v3 : Int32) (v4 : Int32) (σ : pM) (H : Heap) (locs : List Loc), va_P D cl (mw ci h ad cA σ) H → va_D A (mw ci h ad cA σ) → va_S A s.heap H locs → ∀ (ls : Array Slot), lv_has ls 5 [(2, .int v2), (3, .int v3), (4, .int v4)] → (lfX1_primes K k).2 v2 v3 v4 σ = some res → W p l e (headSpec (ws_ yX1_primes cX1_primes 5 (some .int)) ({ frames := 1, cells := 0, slots := 0, locals := 23 })).room s m ([.ref h, .int a0, .int a1] : List Value).toArray below meth c H locs 0 0 (MQ below (mQi D cl ci h ad cA A res) ([.ref h, .int a0, .int a1] : List Value).toArray s 0 0 A) (F0 m 50 ls [])) := by
  intro k
  induction k with
  | zero =>
    exact ⟨fun _ _ _ _ _ _ _ _ _ _ _ hf => (by cases hf), fun _ _ _ _ _ _ _ _ _ _ _ hf => (by cases hf)⟩
  | succ k ih =>
    refine ⟨?_, ?_⟩
    · intro v2 v3 v4 σ H locs hP hD hS ls hl hf
      have hf : (if v2 < v4 then (some (v3, σ)) else (dz_b (fnX1_isPrime K (Int32.toInt64 v4)) fun x1 => if x1 = (0 : Int32) then ((lfX1_primes K k).2 v2 v3 v4 σ) else (dz_l (v3 + 1) fun x2 => (lfX1_primes K k).2 v2 x2 v4 σ)) : Option (Int32 × pM)) = some res := hf
      refine lv_iload hx hb dX1_primes_32 (lv_at hl 2 rfl) ?_
      refine lv_iload_n hx hb dX1_primes_34 rfl (lv_at hl 0 rfl) ?_
      refine lv_icmp_gt (tgt := 56) hx hb dX1_primes_35 (by decide) (fun c35 => ?_) (fun c35 => ?_)
      · have hf := dz_t c35 hf
        refine lv_iload_n hx hb dX1_primes_56 rfl (lv_at hl 1 rfl) ?_
        exact W.iret (v := v3) hx hb hr (fun t ht hW => ⟨⟨v3, σ, rfl, Option.some.inj hf, by rw [ht]; exact hP, va_K.moved hW.alike hK, hD⟩, hS.F ht⟩) hS.2.2 dX1_primes_57
      · have hf := dz_f c35 hf
        refine lv_iload hx hb dX1_primes_38 (lv_at hl 2 rfl) ?_
        refine lv_i2l hx hb dX1_primes_40 (rfl : _ = Int32.toInt64 v4) ?_
        obtain ⟨x1, hx1, hf⟩ := dz_bo hf
        refine va_calli (va_runS (As := [.long (Int32.toInt64 v4)]) (rest := []) ⟨hx, hb, hml, hown, hts⟩ (mtX1_isPrime l (Int32.toInt64 v4) K x1 hx1) (va_cwS 1 hts (lw_S q1799 q1800 q88 q1801) rfl rfl rfl (by decide +kernel) ⟨Nat.le_of_ble_eq_true rfl, Nat.le_of_ble_eq_true rfl⟩) ⟨fun a U g mk q => q, fun U hU hW => ⟨rfl, trivial⟩⟩ rfl rfl hl.1 rfl (lv_room (Nat.le_of_ble_eq_true rfl)) dX1_primes_41 ⟨Nat.le_refl _, Nat.le_refl _⟩) hS (fun q _ hq => hq.elim) (fun q hq => hq.elim) (fun r u t H1 locs ht hvm hw hB hz hk hS => ?_)
        replace hw := hw.symm; subst hw
        replace hP := dz_keep hP hk
        clear hB hk hz hvm ht; generalize H1 = H at hP hS ⊢
        refine lv_if_eq (tgt := 50) hx hb dX1_primes_44 (by decide) (fun c44 => ?_) (fun c44 => ?_)
        · have hf := dz_t c44 hf
          exact ih.2 v2 v3 v4 σ H locs hP hD hS ls (lv_sub hl [0, 1, 2] rfl) hf
        · have hf := dz_f c44 hf
          obtain ⟨x2, e_x2, hf⟩ := dz_lo hf
          refine lv_iinc (v := x2) (lv' := [(3, .int x2), (2, .int v2), (4, .int v4)]) hx hb dX1_primes_47 hl (k := 1) rfl (by rw [e_x2]; rfl) (by decide) rfl (fun ls hl => ?_)
          exact ih.2 v2 x2 v4 σ H locs hP hD hS ls (lv_sub hl [1, 0, 2] rfl) hf
    · intro v2 v3 v4 σ H locs hP hD hS ls hl hf
      have hf : (dz_l (v4 + 1) fun x1 => (lfX1_primes K k).1 v2 v3 x1 σ : Option (Int32 × pM)) = some res := hf
      obtain ⟨x1, e_x1, hf⟩ := dz_lo hf
      refine lv_iinc (v := x1) (lv' := [(4, .int x1), (2, .int v2), (3, .int v3)]) hx hb dX1_primes_50 hl (k := 2) rfl (by rw [e_x1]; rfl) (by decide) rfl (fun ls hl => ?_)
      refine lv_goto (tgt := 32) hx hb dX1_primes_53 (by decide) ?_
      exact ih.1 v2 v3 x1 σ H locs hP hD hS ls (lv_sub hl [1, 2, 0] rfl) hf
set_option maxHeartbeats 4000000 in
set_option maxRecDepth 100000 in
theorem mtX1_primes (l : Launch) (D : va_G) (cl : List vw_C) (ci : Nat) (hci : cl[ci]? = some (RX1, TX1, 35)) (h : Nat) (ad : Nat → Nat) (cA : Nat → ClassId) (sz : Nat) (σ : pM) (a0 : Int32) (a1 : Int32) (K : Nat) (res : (Int32 × pM)) (hf : fnX1_primes K a0 a1 σ = some res) : Met l yX1_primes (ws_ yX1_primes cX1_primes 5 (some .int)) ({ frames := 1, cells := 0, slots := 0, locals := 23 }) (mPc D cl ci h ad cA sz σ [.ref h, .int a0, .int a1]) (mQi D cl ci h ad cA (va_A (mw ci h ad cA σ) sz) res) 0 0 (va_A (mw ci h ad cA σ) sz) := by
  refine Met.ofW (cc := cX1_primes) (maxL := 5) (ret := some .int) (by decide +kernel) rfl ?_
  intro p e s m args below meth c s₁ B hml hv
  obtain ⟨rfl, hsz, hP, hK, hD0⟩ := hv
  have hx := B.exec
  have hb := B.bytes
  have hr := B.returns
  have hts := atoms_spec (ws := ws_ yX1_primes cX1_primes 5 (some .int)) B.pre
  have hts : ∀ w ∈ lw_all, w.before _ s = true := fun w h => hts w (List.mem_cons_of_mem _ h)
  have hown : s.vm.findClass RX1 = some m.cls := findClass_of_methodNamed B.named
  have hlocks := B.notSynchronized
  subst hsz
  have hD := hD0.self (sz := s.heap.size)
  generalize hAe : va_A (mw ci h ad cA σ) s.heap.size = A at hD ⊢
  have hA : ∀ q : Nat, s.heap.size ≤ q → A q := fun q h => by rw [← hAe]; exact Or.inr h
  clear hAe hD0
  have hS : va_S A s.heap s.heap [] := va_S.rf
  generalize hHe : s.heap = H at hP hS ⊢
  have hS : va_S A s.heap H [] := by rw [hHe]; exact hS
  generalize ([] : List Loc) = locs at hS ⊢
  have hl := lv_entry ([.ref h, .int a0, .int a1]) (n := 5) (Nat.le_of_ble_eq_true rfl)
  rw [lg_entry_eq]
  generalize (lg_sl ([.ref h, .int a0, .int a1]) ++ List.replicate (5 - (lg_sl ([.ref h, .int a0, .int a1])).length) Slot.unset).toArray = ls at hl ⊢
  have hl : lv_has ls 5 [(0, .ref h), (1, .int a0), (2, .int a1)] := hl
  have hf : (if a0 < (0 : Int32) then (some ((-1), σ)) else (if a1 < a0 then (some ((-1), σ)) else (if (1000000000 : Int32) < a1 then (some ((-1), σ)) else (if (a1 - a0) < (1000 : Int32) then ((lfX1_primes K K).1 a1 0 a0 σ) else (some ((-1), σ))))) : Option (Int32 × pM)) = some res := hf
  have ih := wlX1_primes (l := l) (e := e) (below := below) (h := h) (ad := ad) (cA := cA) hci hA hK K res a0 a1 hx hb hr hlocks hml hown hts K
  refine lv_iload_n hx hb dX1_primes_0 rfl (lv_at hl 1 rfl) ?_
  refine lv_if_lt (tgt := 25) hx hb dX1_primes_1 (by decide) (fun c1 => ?_) (fun c1 => ?_)
  · have hf := dz_t c1 hf
    refine lv_iconst (v := (-1)) hx hb dX1_primes_25 (by decide) ?_
    exact W.iret (v := (-1)) hx hb hr (fun t ht hW => ⟨⟨(-1), σ, rfl, Option.some.inj hf, by rw [ht]; exact hP, va_K.moved hW.alike hK, hD⟩, hS.F ht⟩) hS.2.2 dX1_primes_26
  · have hf := dz_f c1 hf
    refine lv_iload_n hx hb dX1_primes_4 rfl (lv_at hl 2 rfl) ?_
    refine lv_iload_n hx hb dX1_primes_5 rfl (lv_at hl 1 rfl) ?_
    refine lv_icmp_lt (tgt := 25) hx hb dX1_primes_6 (by decide) (fun c6 => ?_) (fun c6 => ?_)
    · have hf := dz_t c6 hf
      refine lv_iconst (v := (-1)) hx hb dX1_primes_25 (by decide) ?_
      exact W.iret (v := (-1)) hx hb hr (fun t ht hW => ⟨⟨(-1), σ, rfl, Option.some.inj hf, by rw [ht]; exact hP, va_K.moved hW.alike hK, hD⟩, hS.F ht⟩) hS.2.2 dX1_primes_26
    · have hf := dz_f c6 hf
      refine lv_iload_n hx hb dX1_primes_9 rfl (lv_at hl 2 rfl) ?_
      refine lv_ldcw (v := 1000000000) hx hb hown (hts _ q1981) dX1_primes_10 ?_
      refine lv_icmp_gt (tgt := 25) hx hb dX1_primes_13 (by decide) (fun c13 => ?_) (fun c13 => ?_)
      · have hf := dz_t c13 hf
        refine lv_iconst (v := (-1)) hx hb dX1_primes_25 (by decide) ?_
        exact W.iret (v := (-1)) hx hb hr (fun t ht hW => ⟨⟨(-1), σ, rfl, Option.some.inj hf, by rw [ht]; exact hP, va_K.moved hW.alike hK, hD⟩, hS.F ht⟩) hS.2.2 dX1_primes_26
      · have hf := dz_f c13 hf
        refine lv_iload_n hx hb dX1_primes_16 rfl (lv_at hl 2 rfl) ?_
        refine lv_iload_n hx hb dX1_primes_17 rfl (lv_at hl 1 rfl) ?_
        refine lv_isub hx hb dX1_primes_18 ?_
        refine lv_sipush (v := 1000) hx hb dX1_primes_19 (by decide) ?_
        refine lv_icmp_lt (tgt := 27) hx hb dX1_primes_22 (by decide) (fun c22 => ?_) (fun c22 => ?_)
        · have hf := dz_t c22 hf
          refine lv_iconst (v := 0) hx hb dX1_primes_27 (by decide) ?_
          refine lv_istore_n (lv' := [(3, .int 0), (0, .ref h), (1, .int a0), (2, .int a1)]) hx hb dX1_primes_28 rfl hl (by decide) rfl (fun ls hl => ?_)
          refine lv_iload_n hx hb dX1_primes_29 rfl (lv_at hl 2 rfl) ?_
          refine lv_istore (lv' := [(4, .int a0), (3, .int 0), (0, .ref h), (1, .int a0), (2, .int a1)]) hx hb dX1_primes_30 hl (by decide) rfl (fun ls hl => ?_)
          exact ih.1 a1 0 a0 σ H locs hP hD hS ls (lv_sub hl [4, 1, 0] rfl) hf
        · have hf := dz_f c22 hf
          refine lv_iconst (v := (-1)) hx hb dX1_primes_25 (by decide) ?_
          exact W.iret (v := (-1)) hx hb hr (fun t ht hW => ⟨⟨(-1), σ, rfl, Option.some.inj hf, by rw [ht]; exact hP, va_K.moved hW.alike hK, hD⟩, hS.F ht⟩) hS.2.2 dX1_primes_26

noncomputable def fnX1_isOdd (K : Nat) (a0 : Int32) : Option Int32 := dz_b (fnX1_in K (Int32.toInt64 a0) 3 1000000000) fun x1 => if x1 = (0 : Int32) then (some 0) else (dz_l (a0 - a0 / 2 * 2) fun x2 => if x2 = (1 : Int32) then (some 1) else (some 0))
set_option maxHeartbeats 4000000 in
set_option maxRecDepth 100000 in
theorem mtX1_isOdd (l : Launch) (a0 : Int32) (K : Nat) (res : Int32) (hf : fnX1_isOdd K a0 = some res) : Met l yX1_isOdd (ws_ yX1_isOdd cX1_isOdd 1 (some .boolean)) ({ frames := 1, cells := 0, slots := 0, locals := 25 }) (dz_P [.int a0]) (dz_Qi res) 0 0 (fun _ => False) := by
  refine Met.ofW (cc := cX1_isOdd) (maxL := 1) (ret := some .boolean) (by decide +kernel) rfl ?_
  intro p e s m args below meth c s₁ B hml hv
  obtain ⟨rfl, -⟩ := hv
  have hx := B.exec
  have hb := B.bytes
  have hr := B.returns
  have hts := atoms_spec (ws := ws_ yX1_isOdd cX1_isOdd 1 (some .boolean)) B.pre
  have hts : ∀ w ∈ lw_all, w.before _ s = true := fun w h => hts w (List.mem_cons_of_mem _ h)
  have hown : s.vm.findClass RX1 = some m.cls := findClass_of_methodNamed B.named
  have hlocks := B.notSynchronized
  have hS : va_S (fun _ => False) s.heap s.heap [] := va_S.rf
  generalize hHe : s.heap = H at hS ⊢
  have hS : va_S (fun _ => False) s.heap H [] := by rw [hHe]; exact hS
  generalize ([] : List Loc) = locs at hS ⊢
  have hl := lv_entry ([.int a0]) (n := 1) (Nat.le_of_ble_eq_true rfl)
  rw [lg_entry_eq]
  generalize (lg_sl ([.int a0]) ++ List.replicate (1 - (lg_sl ([.int a0])).length) Slot.unset).toArray = ls at hl ⊢
  have hl : lv_has ls 1 [(0, .int a0)] := hl
  have hf : (dz_b (fnX1_in K (Int32.toInt64 a0) 3 1000000000) fun x1 => if x1 = (0 : Int32) then (some 0) else (dz_l (a0 - a0 / 2 * 2) fun x2 => if x2 = (1 : Int32) then (some 1) else (some 0)) : Option Int32) = some res := hf
  refine lv_iload_n hx hb dX1_isOdd_0 rfl (lv_at hl 0 rfl) ?_
  refine lv_i2l hx hb dX1_isOdd_1 (rfl : _ = Int32.toInt64 a0) ?_
  refine lv_ldc2 (v := 3) hx hb hown (hts _ q1861) dX1_isOdd_2 ?_
  refine lv_ldc2 (v := 1000000000) hx hb hown (hts _ q1790) dX1_isOdd_5 ?_
  obtain ⟨x1, hx1, hf⟩ := dz_bo hf
  refine va_calli (va_runS (As := [.long (Int32.toInt64 a0), .long 3, .long 1000000000]) (rest := []) ⟨hx, hb, hml, hown, hts⟩ (mtX1_in l (Int32.toInt64 a0) 3 1000000000 K x1 hx1) (va_cwS 3 hts (lw_S q1783 q1784 q88 q1785) rfl rfl rfl (by decide +kernel) ⟨Nat.le_of_ble_eq_true rfl, Nat.le_of_ble_eq_true rfl⟩) ⟨fun a U g mk q => q, fun U hU hW => ⟨rfl, trivial⟩⟩ rfl rfl hl.1 rfl (lv_room (Nat.le_of_ble_eq_true rfl)) dX1_isOdd_8 ⟨Nat.le_refl _, Nat.le_refl _⟩) hS (fun q _ hq => hq.elim) (fun q hq => hq.elim) (fun r u t H1 locs ht hvm hw hB hz hk hS => ?_)
  replace hw := hw.symm; subst hw
  clear hB hk hz hvm ht; generalize H1 = H at hS ⊢
  refine lv_if_eq (tgt := 25) hx hb dX1_isOdd_11 (by decide) (fun c11 => ?_) (fun c11 => ?_)
  · have hf := dz_t c11 hf
    refine lv_iconst (v := 0) hx hb dX1_isOdd_25 (by decide) ?_
    exact W.zret (v := 0) hx hb hr rfl (fun t ht hW => ⟨⟨0, (), rfl, Option.some.inj hf, trivial⟩, hS.F ht⟩) hS.2.2 dX1_isOdd_26
  · have hf := dz_f c11 hf
    refine lv_iload_n hx hb dX1_isOdd_14 rfl (lv_at hl 0 rfl) ?_
    refine lv_iconst (v := 2) hx hb dX1_isOdd_15 (by decide) ?_
    refine lv_irem hx hb dX1_isOdd_16 (by decide) ?_
    refine lv_topi (fun x2 e_x2 => ?_)
    have hf := dz_ls e_x2 hf
    refine lv_iconst (v := 1) hx hb dX1_isOdd_17 (by decide) ?_
    refine lv_icmp_ne (tgt := 25) hx hb dX1_isOdd_18 (by decide) (fun c18 => ?_) (fun c18 => ?_)
    · have hf := dz_f c18 hf
      refine lv_iconst (v := 0) hx hb dX1_isOdd_25 (by decide) ?_
      exact W.zret (v := 0) hx hb hr rfl (fun t ht hW => ⟨⟨0, (), rfl, Option.some.inj hf, trivial⟩, hS.F ht⟩) hS.2.2 dX1_isOdd_26
    · have hf := dz_t c18 hf
      refine lv_iconst (v := 1) hx hb dX1_isOdd_21 (by decide) ?_
      refine lv_goto (tgt := 26) hx hb dX1_isOdd_22 (by decide) ?_
      exact W.zret (v := 1) hx hb hr rfl (fun t ht hW => ⟨⟨1, (), rfl, Option.some.inj hf, trivial⟩, hS.F ht⟩) hS.2.2 dX1_isOdd_26

