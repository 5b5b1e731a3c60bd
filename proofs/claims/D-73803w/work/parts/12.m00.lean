noncomputable def fnX1_begins (K : Nat) (a0 : Int32) (a1 : Int32) (a2 : Int32) (σ : pM) : Option pM := if ¬ (a0 < 0 ∨ 116 ≤ Int32.toNatClampNeg a0) then (dz_l (mI σ 8 (Int32.toNatClampNeg a0) a1) fun s2 => if ¬ (a0 < 0 ∨ 116 ≤ Int32.toNatClampNeg a0) then (dz_l (mI s2 9 (Int32.toNatClampNeg a0) a2) fun s4 => if ¬ (a0 < 0 ∨ 116 ≤ Int32.toNatClampNeg a0) then (dz_l (mI s4 10 (Int32.toNatClampNeg a0) 0) fun s6 => if ¬ (a0 < 0 ∨ 116 ≤ Int32.toNatClampNeg a0) then (dz_l (mI s6 11 (Int32.toNatClampNeg a0) 0) fun s8 => if ¬ (a0 < 0 ∨ 116 ≤ Int32.toNatClampNeg a0) then (dz_l (mI s8 12 (Int32.toNatClampNeg a0) 0) fun s10 => if ¬ (a0 < 0 ∨ 116 ≤ Int32.toNatClampNeg a0) then (dz_l (mI s10 13 (Int32.toNatClampNeg a0) 0) fun s12 => some s12) else none) else none) else none) else none) else none) else none
set_option maxHeartbeats 4000000 in
set_option maxRecDepth 100000 in
theorem mtX1_begins (l : Launch) (D : va_G) (cl : List vw_C) (ci : Nat) (hci : cl[ci]? = some (RX1, TX1, 35)) (h : Nat) (ad : Nat → Nat) (cA : Nat → ClassId) (sz : Nat) (σ : pM) (a0 : Int32) (a1 : Int32) (a2 : Int32) (K : Nat) (res : pM) (hf : fnX1_begins K a0 a1 a2 σ = some res) : Met l yX1_begins (ws_ yX1_begins cX1_begins 4 (none)) ({ frames := 0, cells := 0, slots := 0, locals := 0 }) (mPc D cl ci h ad cA sz σ [.ref h, .int a0, .int a1, .int a2]) (mQv D cl ci h ad cA (va_A (mw ci h ad cA σ) sz) res) 0 0 (va_A (mw ci h ad cA σ) sz) := by
  refine Met.ofW (cc := cX1_begins) (maxL := 4) (ret := none) (by decide +kernel) rfl ?_
  intro p e s m args below meth c s₁ B hml hv
  obtain ⟨rfl, hsz, hP, hK, hD0⟩ := hv
  have hx := B.exec
  have hb := B.bytes
  have hr := B.returns
  have hts := atoms_spec (ws := ws_ yX1_begins cX1_begins 4 (none)) B.pre
  have hts : ∀ w ∈ lw_all, w.before _ s = true := fun w h => hts w (List.mem_cons_of_mem _ h)
  have hown : s.vm.findClass RX1 = some m.cls := findClass_of_methodNamed B.named
  have hlocks := B.notSynchronized
  subst hsz
  have hD := hD0.self (sz := s.heap.size)
  generalize hAe : va_A (mw ci h ad cA σ) s.heap.size = A at hD ⊢
  have hA : ∀ q : Nat, s.heap.size ≤ q → A q := fun q h => by rw [← hAe]; exact Or.inr h
  clear hAe hD0
  have hS : va_S A s.heap s.heap [] := va_S.rf
  generalize hHe : s.heap = H at hP hS ⊢
  have hS : va_S A s.heap H [] := by rw [hHe]; exact hS
  generalize ([] : List Loc) = locs at hS ⊢
  have hl := lv_entry ([.ref h, .int a0, .int a1, .int a2]) (n := 4) (Nat.le_of_ble_eq_true rfl)
  rw [lg_entry_eq]
  generalize (lg_sl ([.ref h, .int a0, .int a1, .int a2]) ++ List.replicate (4 - (lg_sl ([.ref h, .int a0, .int a1, .int a2])).length) Slot.unset).toArray = ls at hl ⊢
  have hl : lv_has ls 4 [(0, .ref h), (1, .int a0), (2, .int a1), (3, .int a2)] := hl
  have hf : (if ¬ (a0 < 0 ∨ 116 ≤ Int32.toNatClampNeg a0) then (dz_l (mI σ 8 (Int32.toNatClampNeg a0) a1) fun s2 => if ¬ (a0 < 0 ∨ 116 ≤ Int32.toNatClampNeg a0) then (dz_l (mI s2 9 (Int32.toNatClampNeg a0) a2) fun s4 => if ¬ (a0 < 0 ∨ 116 ≤ Int32.toNatClampNeg a0) then (dz_l (mI s4 10 (Int32.toNatClampNeg a0) 0) fun s6 => if ¬ (a0 < 0 ∨ 116 ≤ Int32.toNatClampNeg a0) then (dz_l (mI s6 11 (Int32.toNatClampNeg a0) 0) fun s8 => if ¬ (a0 < 0 ∨ 116 ≤ Int32.toNatClampNeg a0) then (dz_l (mI s8 12 (Int32.toNatClampNeg a0) 0) fun s10 => if ¬ (a0 < 0 ∨ 116 ≤ Int32.toNatClampNeg a0) then (dz_l (mI s10 13 (Int32.toNatClampNeg a0) 0) fun s12 => some s12) else none) else none) else none) else none) else none) else none : Option pM) = some res := hf
  refine lv_aload_n hx hb dX1_begins_0 rfl (lv_at hl 0 rfl) ?_
  refine va_get (C := RX1) (T := TX1) (N := 35) (fs := mwF ad σ) (v := .ref (ad 8)) hx hb hts in_X1 hown hK hP 0 rfl hci 8 (by decide) (hts _ q1679) (fun _ hq => hq) rfl dX1_begins_1 ?_
  refine lv_iload_n hx hb dX1_begins_4 rfl (lv_at hl 1 rfl) ?_
  refine lv_iload_n hx hb dX1_begins_5 rfl (lv_at hl 2 rfl) ?_
  obtain ⟨g1, hf⟩ := dz_go hf
  refine va_iast hx hb hK hP hD hS 6 0 rfl rfl g1 dX1_begins_6 (fun H locs hP1 _ hS => ?_)
  obtain ⟨s2, e_s2, hf⟩ := dz_lo hf
  have hP : va_P D cl (mw ci h ad cA s2) H := by rw [e_s2]; exact hP1
  clear hP1; replace hD := mw_D s2 hD
  refine lv_aload_n hx hb dX1_begins_7 rfl (lv_at hl 0 rfl) ?_
  refine va_get (C := RX1) (T := TX1) (N := 35) (fs := mwF ad s2) (v := .ref (ad 9)) hx hb hts in_X1 hown hK hP 0 rfl hci 9 (by decide) (hts _ q1680) (fun _ hq => hq) rfl dX1_begins_8 ?_
  refine lv_iload_n hx hb dX1_begins_11 rfl (lv_at hl 1 rfl) ?_
  refine lv_iload_n hx hb dX1_begins_12 rfl (lv_at hl 3 rfl) ?_
  obtain ⟨g3, hf⟩ := dz_go hf
  refine va_iast hx hb hK hP hD hS 7 0 rfl rfl g3 dX1_begins_13 (fun H locs hP1 _ hS => ?_)
  obtain ⟨s4, e_s4, hf⟩ := dz_lo hf
  have hP : va_P D cl (mw ci h ad cA s4) H := by rw [e_s4]; exact hP1
  clear hP1; replace hD := mw_D s4 hD
  refine lv_aload_n hx hb dX1_begins_14 rfl (lv_at hl 0 rfl) ?_
  refine va_get (C := RX1) (T := TX1) (N := 35) (fs := mwF ad s4) (v := .ref (ad 10)) hx hb hts in_X1 hown hK hP 0 rfl hci 10 (by decide) (hts _ q1681) (fun _ hq => hq) rfl dX1_begins_15 ?_
  refine lv_iload_n hx hb dX1_begins_18 rfl (lv_at hl 1 rfl) ?_
  refine lv_iconst (v := 0) hx hb dX1_begins_19 (by decide) ?_
  obtain ⟨g5, hf⟩ := dz_go hf
  refine va_iast hx hb hK hP hD hS 8 0 rfl rfl g5 dX1_begins_20 (fun H locs hP1 _ hS => ?_)
  obtain ⟨s6, e_s6, hf⟩ := dz_lo hf
  have hP : va_P D cl (mw ci h ad cA s6) H := by rw [e_s6]; exact hP1
  clear hP1; replace hD := mw_D s6 hD
  refine lv_aload_n hx hb dX1_begins_21 rfl (lv_at hl 0 rfl) ?_
  refine va_get (C := RX1) (T := TX1) (N := 35) (fs := mwF ad s6) (v := .ref (ad 11)) hx hb hts in_X1 hown hK hP 0 rfl hci 11 (by decide) (hts _ q1682) (fun _ hq => hq) rfl dX1_begins_22 ?_
  refine lv_iload_n hx hb dX1_begins_25 rfl (lv_at hl 1 rfl) ?_
  refine lv_iconst (v := 0) hx hb dX1_begins_26 (by decide) ?_
  obtain ⟨g7, hf⟩ := dz_go hf
  refine va_iast hx hb hK hP hD hS 9 0 rfl rfl g7 dX1_begins_27 (fun H locs hP1 _ hS => ?_)
  obtain ⟨s8, e_s8, hf⟩ := dz_lo hf
  have hP : va_P D cl (mw ci h ad cA s8) H := by rw [e_s8]; exact hP1
  clear hP1; replace hD := mw_D s8 hD
  refine lv_aload_n hx hb dX1_begins_28 rfl (lv_at hl 0 rfl) ?_
  refine va_get (C := RX1) (T := TX1) (N := 35) (fs := mwF ad s8) (v := .ref (ad 12)) hx hb hts in_X1 hown hK hP 0 rfl hci 12 (by decide) (hts _ q1683) (fun _ hq => hq) rfl dX1_begins_29 ?_
  refine lv_iload_n hx hb dX1_begins_32 rfl (lv_at hl 1 rfl) ?_
  refine lv_iconst (v := 0) hx hb dX1_begins_33 (by decide) ?_
  obtain ⟨g9, hf⟩ := dz_go hf
  refine va_iast hx hb hK hP hD hS 10 0 rfl rfl g9 dX1_begins_34 (fun H locs hP1 _ hS => ?_)
  obtain ⟨s10, e_s10, hf⟩ := dz_lo hf
  have hP : va_P D cl (mw ci h ad cA s10) H := by rw [e_s10]; exact hP1
  clear hP1; replace hD := mw_D s10 hD
  refine lv_aload_n hx hb dX1_begins_35 rfl (lv_at hl 0 rfl) ?_
  refine va_get (C := RX1) (T := TX1) (N := 35) (fs := mwF ad s10) (v := .ref (ad 13)) hx hb hts in_X1 hown hK hP 0 rfl hci 13 (by decide) (hts _ q1684) (fun _ hq => hq) rfl dX1_begins_36 ?_
  refine lv_iload_n hx hb dX1_begins_39 rfl (lv_at hl 1 rfl) ?_
  refine lv_iconst (v := 0) hx hb dX1_begins_40 (by decide) ?_
  obtain ⟨g11, hf⟩ := dz_go hf
  refine va_iast hx hb hK hP hD hS 11 0 rfl rfl g11 dX1_begins_41 (fun H locs hP1 _ hS => ?_)
  obtain ⟨s12, e_s12, hf⟩ := dz_lo hf
  have hP : va_P D cl (mw ci h ad cA s12) H := by rw [e_s12]; exact hP1
  clear hP1; replace hD := mw_D s12 hD
  exact W.vret hx hb hr (fun t ht hW => ⟨⟨s12, rfl, Option.some.inj hf, by rw [ht]; exact hP, va_K.moved hW.alike hK, hD⟩, hS.F ht⟩) hS.2.2 dX1_begins_42

noncomputable def lfX1_isPrime (K : Nat) : Nat → (Int64 → Int64 → Option Int32) := Nat.rec (motive := fun _ => (Int64 → Int64 → Option Int32)) (fun _ _ => none) (fun _ G => (fun v0 v2 => if v0 < (v2 * v2) then (some 1) else (if ¬ v2 = 0 then (dz_l (v0 - v0 / v2 * v2) fun x2 => if x2 = (0 : Int64) then (some 0) else (dz_l (v2 + 1) fun x3 => G v0 x3)) else none)))
noncomputable def fnX1_isPrime (K : Nat) (a0 : Int64) : Option Int32 := if (2 : Int64) ≤ a0 then ((lfX1_isPrime K K) a0 2) else (some 0)
set_option maxHeartbeats 4000000 in
set_option maxRecDepth 100000 in
theorem wlX1_isPrime {p : Program} {l : Launch} {e : Env} {s : State} {m : MethodId} {below : List Frame} {meth : Method} {c : Code}  (K : Nat) (res : Int32) (a0 : Int64) (hx : p.tables.exec = Jvm.exec) (hb : c.code = cX1_isPrime) (hr : meth.sig.returnType = some .boolean) (hlocks : meth.locks = false) (hml : c.maxLocals = 4) (hown : s.vm.findClass RX1 = some m.cls) (hts : ∀ w ∈ lw_all, w.before ([.long a0] : List Value).toArray s = true) : ∀ k : Nat, (∀ (v0 : Int64) (v2 : Int64) (H : Heap) (locs : List Loc), va_S (fun _ => False) s.heap H locs → ∀ (ls : Array Slot), lv_has ls 4 [(0, .long v0), (2, .long v2)] → (lfX1_isPrime K k) v0 v2 = some res → W p l e (headSpec (ws_ yX1_isPrime cX1_isPrime 4 (some .boolean)) ({ frames := 0, cells := 0, slots := 0, locals := 0 })).room s m ([.long a0] : List Value).toArray below meth c H locs 0 0 (MQ below (dz_Qi res) ([.long a0] : List Value).toArray s 0 0 (fun _ => False)) (F0 m 14 ls [])) := by
  intro k
  induction k with
  | zero =>
    exact fun _ _ _ _ _ _ _ hf => (by cases hf)
  | succ k ih =>
    · intro v0 v2 H locs hS ls hl hf
      have hf : (if v0 < (v2 * v2) then (some 1) else (if ¬ v2 = 0 then (dz_l (v0 - v0 / v2 * v2) fun x2 => if x2 = (0 : Int64) then (some 0) else (dz_l (v2 + 1) fun x3 => (lfX1_isPrime K k) v0 x3)) else none) : Option Int32) = some res := hf
      refine lv_lload_n hx hb dX1_isPrime_14 rfl (lv_at hl 1 rfl) ?_
      refine lv_lload_n hx hb dX1_isPrime_15 rfl (lv_at hl 1 rfl) ?_
      refine lv_lmul hx hb dX1_isPrime_16 ?_
      refine lv_lload_n hx hb dX1_isPrime_17 rfl (lv_at hl 0 rfl) ?_
      refine W.lcmp hx hb dX1_isPrime_18 ?_
      refine lv_if_gt (tgt := 39) hx hb dX1_isPrime_19 (by decide) (fun c19 => ?_) (fun c19 => ?_)
      · have c19 : v0 < (v2 * v2) := (lg_cmp_gt _ _).mp c19
        have hf := dz_t c19 hf
        refine lv_iconst (v := 1) hx hb dX1_isPrime_39 (by decide) ?_
        exact W.zret (v := 1) hx hb hr rfl (fun t ht hW => ⟨⟨1, (), rfl, Option.some.inj hf, trivial⟩, hS.F ht⟩) hS.2.2 dX1_isPrime_40
      · have c19 : ¬ v0 < (v2 * v2) := fun hq => c19 ((lg_cmp_gt _ _).mpr hq)
        have hf := dz_f c19 hf
        refine lv_lload_n hx hb dX1_isPrime_22 rfl (lv_at hl 0 rfl) ?_
        refine lv_lload_n hx hb dX1_isPrime_23 rfl (lv_at hl 1 rfl) ?_
        obtain ⟨g1, hf⟩ := dz_go hf
        refine lv_lrem hx hb dX1_isPrime_24 g1 ?_
        refine lv_topl (fun x2 e_x2 => ?_)
        have hf := dz_ls e_x2 hf
        refine lv_lconst (v := 0) hx hb dX1_isPrime_25 rfl ?_
        refine W.lcmp hx hb dX1_isPrime_26 ?_
        refine lv_if_ne (tgt := 32) hx hb dX1_isPrime_27 (by decide) (fun c27 => ?_) (fun c27 => ?_)
        · have c27 : ¬ x2 = (0 : Int64) := fun hq => c27 ((lg_cmp_eq _ _).mpr hq)
          have hf := dz_f c27 hf
          refine lv_lload_n hx hb dX1_isPrime_32 rfl (lv_at hl 1 rfl) ?_
          refine lv_lconst (v := 1) hx hb dX1_isPrime_33 rfl ?_
          refine lv_ladd hx hb dX1_isPrime_34 ?_
          refine lv_topl (fun x3 e_x3 => ?_)
          have hf := dz_ls e_x3 hf
          refine lv_lstore_n (lv' := [(2, .long x3), (0, .long v0)]) hx hb dX1_isPrime_35 rfl hl (by decide) rfl (fun ls hl => ?_)
          refine lv_goto (tgt := 14) hx hb dX1_isPrime_36 (by decide) ?_
          exact ih v0 x3 H locs hS ls (lv_sub hl [1, 0] rfl) hf
        · have c27 : x2 = (0 : Int64) := (lg_cmp_eq _ _).mp c27
          have hf := dz_t c27 hf
          refine lv_iconst (v := 0) hx hb dX1_isPrime_30 (by decide) ?_
          exact W.zret (v := 0) hx hb hr rfl (fun t ht hW => ⟨⟨0, (), rfl, Option.some.inj hf, trivial⟩, hS.F ht⟩) hS.2.2 dX1_isPrime_31
set_option maxHeartbeats 4000000 in
set_option maxRecDepth 100000 in
theorem mtX1_isPrime (l : Launch) (a0 : Int64) (K : Nat) (res : Int32) (hf : fnX1_isPrime K a0 = some res) : Met l yX1_isPrime (ws_ yX1_isPrime cX1_isPrime 4 (some .boolean)) ({ frames := 0, cells := 0, slots := 0, locals := 0 }) (dz_P [.long a0]) (dz_Qi res) 0 0 (fun _ => False) := by
  refine Met.ofW (cc := cX1_isPrime) (maxL := 4) (ret := some .boolean) (by decide +kernel) rfl ?_
  intro p e s m args below meth c s₁ B hml hv
  obtain ⟨rfl, -⟩ := hv
  have hx := B.exec
  have hb := B.bytes
  have hr := B.returns
  have hts := atoms_spec (ws := ws_ yX1_isPrime cX1_isPrime 4 (some .boolean)) B.pre
  have hts : ∀ w ∈ lw_all, w.before _ s = true := fun w h => hts w (List.mem_cons_of_mem _ h)
  have hown : s.vm.findClass RX1 = some m.cls := findClass_of_methodNamed B.named
  have hlocks := B.notSynchronized
  have hS : va_S (fun _ => False) s.heap s.heap [] := va_S.rf
  generalize hHe : s.heap = H at hS ⊢
  have hS : va_S (fun _ => False) s.heap H [] := by rw [hHe]; exact hS
  generalize ([] : List Loc) = locs at hS ⊢
  have hl := lv_entry ([.long a0]) (n := 4) (Nat.le_of_ble_eq_true rfl)
  rw [lg_entry_eq]
  generalize (lg_sl ([.long a0]) ++ List.replicate (4 - (lg_sl ([.long a0])).length) Slot.unset).toArray = ls at hl ⊢
  have hl : lv_has ls 4 [(0, .long a0)] := hl
  have hf : (if (2 : Int64) ≤ a0 then ((lfX1_isPrime K K) a0 2) else (some 0) : Option Int32) = some res := hf
  have ih := wlX1_isPrime (l := l) (e := e) (below := below) K res a0 hx hb hr hlocks hml hown hts K
  refine lv_lload_n hx hb dX1_isPrime_0 rfl (lv_at hl 0 rfl) ?_
  refine lv_ldc2 (v := 2) hx hb hown (hts _ q1789) dX1_isPrime_1 ?_
  refine W.lcmp hx hb dX1_isPrime_4 ?_
  refine lv_if_ge (tgt := 10) hx hb dX1_isPrime_5 (by decide) (fun c5 => ?_) (fun c5 => ?_)
  · have c5 : (2 : Int64) ≤ a0 := (lg_cmp_ge _ _).mp c5
    have hf := dz_t c5 hf
    refine lv_ldc2 (v := 2) hx hb hown (hts _ q1789) dX1_isPrime_10 ?_
    refine lv_lstore_n (lv' := [(2, .long 2), (0, .long a0)]) hx hb dX1_isPrime_13 rfl hl (by decide) rfl (fun ls hl => ?_)
    exact ih a0 2 H locs hS ls (lv_sub hl [1, 0] rfl) hf
  · have c5 : ¬ (2 : Int64) ≤ a0 := fun hq => c5 ((lg_cmp_ge _ _).mpr hq)
    have hf := dz_f c5 hf
    refine lv_iconst (v := 0) hx hb dX1_isPrime_8 (by decide) ?_
    exact W.zret (v := 0) hx hb hr rfl (fun t ht hW => ⟨⟨0, (), rfl, Option.some.inj hf, trivial⟩, hS.F ht⟩) hS.2.2 dX1_isPrime_9

noncomputable def lfX1_laysFactors (K : Nat) : Nat → (Int64 → Int64 → pM → Option pM) × (Int64 → Int64 → pM → Option pM) × (Int64 → Int64 → pM → Option pM) := Nat.rec (motive := fun _ => (Int64 → Int64 → pM → Option pM) × (Int64 → Int64 → pM → Option pM) × (Int64 → Int64 → pM → Option pM)) ((fun _ _ _ => none), (fun _ _ _ => none), (fun _ _ _ => none)) (fun _ G => ((fun v3 v5 σ => if v3 < (v5 * v5) then (if (2 : Int64) ≤ v3 then (dz_l (σ.1 6) fun x1 => dz_l (Int64.toInt32 v3) fun x2 => if ¬ (x1 < 0 ∨ 12 ≤ Int32.toNatClampNeg x1) then (dz_l (mI σ 4 (Int32.toNatClampNeg x1) x2) fun s4 => dz_l (s4.1 6) fun x5 => if ¬ (x5 < 0 ∨ 12 ≤ Int32.toNatClampNeg x5) then (dz_l (mI s4 5 (Int32.toNatClampNeg x5) 1) fun s7 => dz_l (s7.1 6) fun x8 => dz_l (x8 + 1) fun x9 => dz_l (mF s7 6 x9) fun s10 => some s10) else none) else none) else (some σ)) else (if ¬ v5 = 0 then (dz_l (v3 - v3 / v5 * v5) fun x12 => if x12 = (0 : Int64) then (dz_l (σ.1 6) fun x13 => dz_l (Int64.toInt32 v5) fun x14 => if ¬ (x13 < 0 ∨ 12 ≤ Int32.toNatClampNeg x13) then (dz_l (mI σ 4 (Int32.toNatClampNeg x13) x14) fun s16 => dz_l (s16.1 6) fun x17 => if ¬ (x17 < 0 ∨ 12 ≤ Int32.toNatClampNeg x17) then (dz_l (mI s16 5 (Int32.toNatClampNeg x17) 0) fun s19 => G.2.1 v3 v5 s19) else none) else none) else (G.2.2 v3 v5 σ)) else none)), (fun v3 v5 σ => if ¬ v5 = 0 then (dz_l (v3 - v3 / v5 * v5) fun x2 => if x2 = (0 : Int64) then (if ¬ v5 = 0 then (dz_l (v3 / v5) fun x7 => dz_l (σ.1 6) fun x8 => if ¬ (x8 < 0 ∨ 12 ≤ Int32.toNatClampNeg x8) then (dz_l (σ.2.2.1 5 (Int32.toNatClampNeg x8)) fun x10 => dz_l (x10 + 1) fun x11 => if ¬ (x8 < 0 ∨ 12 ≤ Int32.toNatClampNeg x8) then (dz_l (mI σ 5 (Int32.toNatClampNeg x8) x11) fun s13 => G.2.1 x7 v5 s13) else none) else none) else none) else (dz_l (σ.1 6) fun x3 => dz_l (x3 + 1) fun x4 => dz_l (mF σ 6 x4) fun s5 => G.2.2 v3 v5 s5)) else none), (fun v3 v5 σ => dz_l (v5 + 1) fun x1 => G.1 v3 x1 σ)))
noncomputable def fnX1_laysFactors (K : Nat) (a0 : Int64) (σ : pM) : Option pM := dz_l (mF σ 6 0) fun s1 => (lfX1_laysFactors K K).1 a0 2 s1
set_option maxHeartbeats 4000000 in
set_option maxRecDepth 100000 in
theorem wlX1_laysFactors {p : Program} {l : Launch} {e : Env} {s : State} {m : MethodId} {below : List Frame} {meth : Method} {c : Code} {D : va_G} {cl : List vw_C} {ci : Nat} (hci : cl[ci]? = some (RX1, TX1, 35)) {h : Nat} {ad : Nat → Nat} {cA : Nat → ClassId} {A : Nat → Prop} (hA : ∀ q : Nat, s.heap.size ≤ q → A q) (hK : va_K D cl (mtys cA) s) (K : Nat) (res : pM) (a0 : Int64) (hx : p.tables.exec = Jvm.exec) (hb : c.code = cX1_laysFactors) (hr : meth.sig.returnType = none) (hlocks : meth.locks = false) (hml : c.maxLocals = 7) (hown : s.vm.findClass RX1 = some m.cls) (hts : ∀ w ∈ lw_all, w.before ([.ref h, .long a0] : List Value).toArray s = true) : ∀ k : Nat, (∀ (v3 : Int64) (v5 : Int64) (σ : pM) (H : Heap) (locs : List Loc), va_P D cl (mw ci h ad cA σ) H → va_D A (mw ci h ad cA σ) → va_S A s.heap H locs → ∀ (ls : Array Slot), lv_has ls 7 [(0, .ref h), (3, .long v3), (5, .long v5)] → (lfX1_laysFactors K k).1 v3 v5 σ = some res → W p l e (headSpec (ws_ yX1_laysFactors cX1_laysFactors 7 (none)) ({ frames := 0, cells := 0, slots := 0, locals := 0 })).room s m ([.ref h, .long a0] : List Value).toArray below meth c H locs 0 0 (MQ below (mQv D cl ci h ad cA A res) ([.ref h, .long a0] : List Value).toArray s 0 0 A) (F0 m 12 ls [])) ∧ (∀ (v3 : Int64) (v5 : Int64) (σ : pM) (H : Heap) (locs : List Loc), va_P D cl (mw ci h ad cA σ) H → va_D A (mw ci h ad cA σ) → va_S A s.heap H locs → ∀ (ls : Array Slot), lv_has ls 7 [(0, .ref h), (3, .long v3), (5, .long v5)] → (lfX1_laysFactors K k).2.1 v3 v5 σ = some res → W p l e (headSpec (ws_ yX1_laysFactors cX1_laysFactors 7 (none)) ({ frames := 0, cells := 0, slots := 0, locals := 0 })).room s m ([.ref h, .long a0] : List Value).toArray below meth c H locs 0 0 (MQ below (mQv D cl ci h ad cA A res) ([.ref h, .long a0] : List Value).toArray s 0 0 A) (F0 m 56 ls [])) ∧ (∀ (v3 : Int64) (v5 : Int64) (σ : pM) (H : Heap) (locs : List Loc), va_P D cl (mw ci h ad cA σ) H → va_D A (mw ci h ad cA σ) → va_S A s.heap H locs → ∀ (ls : Array Slot), lv_has ls 7 [(0, .ref h), (3, .long v3), (5, .long v5)] → (lfX1_laysFactors K k).2.2 v3 v5 σ = some res → W p l e (headSpec (ws_ yX1_laysFactors cX1_laysFactors 7 (none)) ({ frames := 0, cells := 0, slots := 0, locals := 0 })).room s m ([.ref h, .long a0] : List Value).toArray below meth c H locs 0 0 (MQ below (mQv D cl ci h ad cA A res) ([.ref h, .long a0] : List Value).toArray s 0 0 A) (F0 m 96 ls [])) := by
  intro k
  induction k with
  | zero =>
    exact ⟨fun _ _ _ _ _ _ _ _ _ _ hf => (by cases hf), fun _ _ _ _ _ _ _ _ _ _ hf => (by cases hf), fun _ _ _ _ _ _ _ _ _ _ hf => (by cases hf)⟩
  | succ k ih =>
    refine ⟨?_, ?_, ?_⟩
    · intro v3 v5 σ H locs hP hD hS ls hl hf
      have hf : (if v3 < (v5 * v5) then (if (2 : Int64) ≤ v3 then (dz_l (σ.1 6) fun x1 => dz_l (Int64.toInt32 v3) fun x2 => if ¬ (x1 < 0 ∨ 12 ≤ Int32.toNatClampNeg x1) then (dz_l (mI σ 4 (Int32.toNatClampNeg x1) x2) fun s4 => dz_l (s4.1 6) fun x5 => if ¬ (x5 < 0 ∨ 12 ≤ Int32.toNatClampNeg x5) then (dz_l (mI s4 5 (Int32.toNatClampNeg x5) 1) fun s7 => dz_l (s7.1 6) fun x8 => dz_l (x8 + 1) fun x9 => dz_l (mF s7 6 x9) fun s10 => some s10) else none) else none) else (some σ)) else (if ¬ v5 = 0 then (dz_l (v3 - v3 / v5 * v5) fun x12 => if x12 = (0 : Int64) then (dz_l (σ.1 6) fun x13 => dz_l (Int64.toInt32 v5) fun x14 => if ¬ (x13 < 0 ∨ 12 ≤ Int32.toNatClampNeg x13) then (dz_l (mI σ 4 (Int32.toNatClampNeg x13) x14) fun s16 => dz_l (s16.1 6) fun x17 => if ¬ (x17 < 0 ∨ 12 ≤ Int32.toNatClampNeg x17) then (dz_l (mI s16 5 (Int32.toNatClampNeg x17) 0) fun s19 => (lfX1_laysFactors K k).2.1 v3 v5 s19) else none) else none) else ((lfX1_laysFactors K k).2.2 v3 v5 σ)) else none) : Option pM) = some res := hf
      refine lv_lload hx hb dX1_laysFactors_12 (lv_at hl 2 rfl) ?_
      refine lv_lload hx hb dX1_laysFactors_14 (lv_at hl 2 rfl) ?_
      refine lv_lmul hx hb dX1_laysFactors_16 ?_
      refine lv_lload_n hx hb dX1_laysFactors_17 rfl (lv_at hl 1 rfl) ?_
      refine W.lcmp hx hb dX1_laysFactors_18 ?_
      refine lv_if_gt (tgt := 105) hx hb dX1_laysFactors_19 (by decide) (fun c19 => ?_) (fun c19 => ?_)
      · have c19 : v3 < (v5 * v5) := (lg_cmp_gt _ _).mp c19
        have hf := dz_t c19 hf
        refine lv_lload_n hx hb dX1_laysFactors_105 rfl (lv_at hl 1 rfl) ?_
        refine lv_ldc2 (v := 2) hx hb hown (hts _ q1789) dX1_laysFactors_106 ?_
        refine W.lcmp hx hb dX1_laysFactors_109 ?_
        refine lv_if_ge (tgt := 114) hx hb dX1_laysFactors_110 (by decide) (fun c110 => ?_) (fun c110 => ?_)
        · have c110 : (2 : Int64) ≤ v3 := (lg_cmp_ge _ _).mp c110
          have hf := dz_t c110 hf
          refine lv_aload_n hx hb dX1_laysFactors_114 rfl (lv_at hl 0 rfl) ?_
          refine va_get (C := RX1) (T := TX1) (N := 35) (fs := mwF ad σ) (v := .ref (ad 4)) hx hb hts in_X1 hown hK hP 0 rfl hci 4 (by decide) (hts _ q1675) (fun _ hq => hq) rfl dX1_laysFactors_115 ?_
          refine lv_aload_n hx hb dX1_laysFactors_118 rfl (lv_at hl 0 rfl) ?_
          refine va_get (C := RX1) (T := TX1) (N := 35) (fs := mwF ad σ) (v := .int (σ.1 6)) hx hb hts in_X1 hown hK hP 0 rfl hci 6 (by decide) (hts _ q1677) (fun _ hq => hq) rfl dX1_laysFactors_119 ?_
          refine lv_topi (fun x1 e_x1 => ?_)
          have hf := dz_ls e_x1 hf
          refine lv_lload_n hx hb dX1_laysFactors_122 rfl (lv_at hl 1 rfl) ?_
          refine lv_l2i hx hb dX1_laysFactors_123 (rfl : _ = Int64.toInt32 v3) ?_
          refine lv_topi (fun x2 e_x2 => ?_)
          have hf := dz_ls e_x2 hf
          obtain ⟨g3, hf⟩ := dz_go hf
          refine va_iast hx hb hK hP hD hS 4 0 rfl rfl g3 dX1_laysFactors_124 (fun H locs hP1 _ hS => ?_)
          obtain ⟨s4, e_s4, hf⟩ := dz_lo hf
          have hP : va_P D cl (mw ci h ad cA s4) H := by rw [e_s4]; exact hP1
          clear hP1; replace hD := mw_D s4 hD
          refine lv_aload_n hx hb dX1_laysFactors_125 rfl (lv_at hl 0 rfl) ?_
          refine va_get (C := RX1) (T := TX1) (N := 35) (fs := mwF ad s4) (v := .ref (ad 5)) hx hb hts in_X1 hown hK hP 0 rfl hci 5 (by decide) (hts _ q1676) (fun _ hq => hq) rfl dX1_laysFactors_126 ?_
          refine lv_aload_n hx hb dX1_laysFactors_129 rfl (lv_at hl 0 rfl) ?_
          refine va_get (C := RX1) (T := TX1) (N := 35) (fs := mwF ad s4) (v := .int (s4.1 6)) hx hb hts in_X1 hown hK hP 0 rfl hci 6 (by decide) (hts _ q1677) (fun _ hq => hq) rfl dX1_laysFactors_130 ?_
          refine lv_topi (fun x5 e_x5 => ?_)
          have hf := dz_ls e_x5 hf
          refine lv_iconst (v := 1) hx hb dX1_laysFactors_133 (by decide) ?_
          obtain ⟨g6, hf⟩ := dz_go hf
          refine va_iast hx hb hK hP hD hS 5 0 rfl rfl g6 dX1_laysFactors_134 (fun H locs hP1 _ hS => ?_)
          obtain ⟨s7, e_s7, hf⟩ := dz_lo hf
          have hP : va_P D cl (mw ci h ad cA s7) H := by rw [e_s7]; exact hP1
          clear hP1; replace hD := mw_D s7 hD
          refine lv_aload_n hx hb dX1_laysFactors_135 rfl (lv_at hl 0 rfl) ?_
          refine lv_dup hx hb dX1_laysFactors_136 rfl ?_
          refine va_get (C := RX1) (T := TX1) (N := 35) (fs := mwF ad s7) (v := .int (s7.1 6)) hx hb hts in_X1 hown hK hP 0 rfl hci 6 (by decide) (hts _ q1677) (fun _ hq => hq) rfl dX1_laysFactors_137 ?_
          refine lv_topi (fun x8 e_x8 => ?_)
          have hf := dz_ls e_x8 hf
          refine lv_iconst (v := 1) hx hb dX1_laysFactors_140 (by decide) ?_
          refine lv_iadd hx hb dX1_laysFactors_141 ?_
          refine lv_topi (fun x9 e_x9 => ?_)
          have hf := dz_ls e_x9 hf
          refine va_put (C := RX1) (T := TX1) (N := 35) (fs := mwF ad s7) hx hb hts in_X1 tyX1 tyX1_ok nmX1 hown hK hP hD hS 0 rfl hci 6 (by decide) (hts _ q1677) (fun _ hq => hq) rfl rfl rfl rfl (Nat.le_of_ble_eq_true rfl) dX1_laysFactors_142 (fun H locs hP1 _ hS => ?_)
          obtain ⟨s10, e_s10, hf⟩ := dz_lo hf
          have hP : va_P D cl (mw ci h ad cA s10) H := by rw [e_s10]; exact hP1
          clear hP1; replace hD := mw_D s10 hD
          exact W.vret hx hb hr (fun t ht hW => ⟨⟨s10, rfl, Option.some.inj hf, by rw [ht]; exact hP, va_K.moved hW.alike hK, hD⟩, hS.F ht⟩) hS.2.2 dX1_laysFactors_145
        · have c110 : ¬ (2 : Int64) ≤ v3 := fun hq => c110 ((lg_cmp_ge _ _).mpr hq)
          have hf := dz_f c110 hf
          exact W.vret hx hb hr (fun t ht hW => ⟨⟨σ, rfl, Option.some.inj hf, by rw [ht]; exact hP, va_K.moved hW.alike hK, hD⟩, hS.F ht⟩) hS.2.2 dX1_laysFactors_113
      · have c19 : ¬ v3 < (v5 * v5) := fun hq => c19 ((lg_cmp_gt _ _).mpr hq)
        have hf := dz_f c19 hf
        refine lv_lload_n hx hb dX1_laysFactors_22 rfl (lv_at hl 1 rfl) ?_
        refine lv_lload hx hb dX1_laysFactors_23 (lv_at hl 2 rfl) ?_
        obtain ⟨g11, hf⟩ := dz_go hf
        refine lv_lrem hx hb dX1_laysFactors_25 g11 ?_
        refine lv_topl (fun x12 e_x12 => ?_)
        have hf := dz_ls e_x12 hf
        refine lv_lconst (v := 0) hx hb dX1_laysFactors_26 rfl ?_
        refine W.lcmp hx hb dX1_laysFactors_27 ?_
        refine lv_if_eq (tgt := 34) hx hb dX1_laysFactors_28 (by decide) (fun c28 => ?_) (fun c28 => ?_)
        · have c28 : x12 = (0 : Int64) := (lg_cmp_eq _ _).mp c28
          have hf := dz_t c28 hf
          refine lv_aload_n hx hb dX1_laysFactors_34 rfl (lv_at hl 0 rfl) ?_
          refine va_get (C := RX1) (T := TX1) (N := 35) (fs := mwF ad σ) (v := .ref (ad 4)) hx hb hts in_X1 hown hK hP 0 rfl hci 4 (by decide) (hts _ q1675) (fun _ hq => hq) rfl dX1_laysFactors_35 ?_
          refine lv_aload_n hx hb dX1_laysFactors_38 rfl (lv_at hl 0 rfl) ?_
          refine va_get (C := RX1) (T := TX1) (N := 35) (fs := mwF ad σ) (v := .int (σ.1 6)) hx hb hts in_X1 hown hK hP 0 rfl hci 6 (by decide) (hts _ q1677) (fun _ hq => hq) rfl dX1_laysFactors_39 ?_
          refine lv_topi (fun x13 e_x13 => ?_)
          have hf := dz_ls e_x13 hf
          refine lv_lload hx hb dX1_laysFactors_42 (lv_at hl 2 rfl) ?_
          refine lv_l2i hx hb dX1_laysFactors_44 (rfl : _ = Int64.toInt32 v5) ?_
          refine lv_topi (fun x14 e_x14 => ?_)
          have hf := dz_ls e_x14 hf
          obtain ⟨g15, hf⟩ := dz_go hf
          refine va_iast hx hb hK hP hD hS 4 0 rfl rfl g15 dX1_laysFactors_45 (fun H locs hP1 _ hS => ?_)
          obtain ⟨s16, e_s16, hf⟩ := dz_lo hf
          have hP : va_P D cl (mw ci h ad cA s16) H := by rw [e_s16]; exact hP1
          clear hP1; replace hD := mw_D s16 hD
          refine lv_aload_n hx hb dX1_laysFactors_46 rfl (lv_at hl 0 rfl) ?_
          refine va_get (C := RX1) (T := TX1) (N := 35) (fs := mwF ad s16) (v := .ref (ad 5)) hx hb hts in_X1 hown hK hP 0 rfl hci 5 (by decide) (hts _ q1676) (fun _ hq => hq) rfl dX1_laysFactors_47 ?_
          refine lv_aload_n hx hb dX1_laysFactors_50 rfl (lv_at hl 0 rfl) ?_
          refine va_get (C := RX1) (T := TX1) (N := 35) (fs := mwF ad s16) (v := .int (s16.1 6)) hx hb hts in_X1 hown hK hP 0 rfl hci 6 (by decide) (hts _ q1677) (fun _ hq => hq) rfl dX1_laysFactors_51 ?_
          refine lv_topi (fun x17 e_x17 => ?_)
          have hf := dz_ls e_x17 hf
          refine lv_iconst (v := 0) hx hb dX1_laysFactors_54 (by decide) ?_
          obtain ⟨g18, hf⟩ := dz_go hf
          refine va_iast hx hb hK hP hD hS 5 0 rfl rfl g18 dX1_laysFactors_55 (fun H locs hP1 _ hS => ?_)
          obtain ⟨s19, e_s19, hf⟩ := dz_lo hf
          have hP : va_P D cl (mw ci h ad cA s19) H := by rw [e_s19]; exact hP1
          clear hP1; replace hD := mw_D s19 hD
          exact ih.2.1 v3 v5 s19 H locs hP hD hS ls (lv_sub hl [0, 1, 2] rfl) hf
        · have c28 : ¬ x12 = (0 : Int64) := fun hq => c28 ((lg_cmp_eq _ _).mpr hq)
          have hf := dz_f c28 hf
          refine lv_goto (tgt := 96) hx hb dX1_laysFactors_31 (by decide) ?_
          exact ih.2.2 v3 v5 σ H locs hP hD hS ls (lv_sub hl [0, 1, 2] rfl) hf
    · intro v3 v5 σ H locs hP hD hS ls hl hf
      have hf : (if ¬ v5 = 0 then (dz_l (v3 - v3 / v5 * v5) fun x2 => if x2 = (0 : Int64) then (if ¬ v5 = 0 then (dz_l (v3 / v5) fun x7 => dz_l (σ.1 6) fun x8 => if ¬ (x8 < 0 ∨ 12 ≤ Int32.toNatClampNeg x8) then (dz_l (σ.2.2.1 5 (Int32.toNatClampNeg x8)) fun x10 => dz_l (x10 + 1) fun x11 => if ¬ (x8 < 0 ∨ 12 ≤ Int32.toNatClampNeg x8) then (dz_l (mI σ 5 (Int32.toNatClampNeg x8) x11) fun s13 => (lfX1_laysFactors K k).2.1 x7 v5 s13) else none) else none) else none) else (dz_l (σ.1 6) fun x3 => dz_l (x3 + 1) fun x4 => dz_l (mF σ 6 x4) fun s5 => (lfX1_laysFactors K k).2.2 v3 v5 s5)) else none : Option pM) = some res := hf
      refine lv_lload_n hx hb dX1_laysFactors_56 rfl (lv_at hl 1 rfl) ?_
      refine lv_lload hx hb dX1_laysFactors_57 (lv_at hl 2 rfl) ?_
      obtain ⟨g1, hf⟩ := dz_go hf
      refine lv_lrem hx hb dX1_laysFactors_59 g1 ?_
      refine lv_topl (fun x2 e_x2 => ?_)
      have hf := dz_ls e_x2 hf
      refine lv_lconst (v := 0) hx hb dX1_laysFactors_60 rfl ?_
      refine W.lcmp hx hb dX1_laysFactors_61 ?_
      refine lv_if_ne (tgt := 86) hx hb dX1_laysFactors_62 (by decide) (fun c62 => ?_) (fun c62 => ?_)
      · have c62 : ¬ x2 = (0 : Int64) := fun hq => c62 ((lg_cmp_eq _ _).mpr hq)
        have hf := dz_f c62 hf
        refine lv_aload_n hx hb dX1_laysFactors_86 rfl (lv_at hl 0 rfl) ?_
        refine lv_dup hx hb dX1_laysFactors_87 rfl ?_
        refine va_get (C := RX1) (T := TX1) (N := 35) (fs := mwF ad σ) (v := .int (σ.1 6)) hx hb hts in_X1 hown hK hP 0 rfl hci 6 (by decide) (hts _ q1677) (fun _ hq => hq) rfl dX1_laysFactors_88 ?_
        refine lv_topi (fun x3 e_x3 => ?_)
        have hf := dz_ls e_x3 hf
        refine lv_iconst (v := 1) hx hb dX1_laysFactors_91 (by decide) ?_
        refine lv_iadd hx hb dX1_laysFactors_92 ?_
        refine lv_topi (fun x4 e_x4 => ?_)
        have hf := dz_ls e_x4 hf
        refine va_put (C := RX1) (T := TX1) (N := 35) (fs := mwF ad σ) hx hb hts in_X1 tyX1 tyX1_ok nmX1 hown hK hP hD hS 0 rfl hci 6 (by decide) (hts _ q1677) (fun _ hq => hq) rfl rfl rfl rfl (Nat.le_of_ble_eq_true rfl) dX1_laysFactors_93 (fun H locs hP1 _ hS => ?_)
        obtain ⟨s5, e_s5, hf⟩ := dz_lo hf
        have hP : va_P D cl (mw ci h ad cA s5) H := by rw [e_s5]; exact hP1
        clear hP1; replace hD := mw_D s5 hD
        exact ih.2.2 v3 v5 s5 H locs hP hD hS ls (lv_sub hl [0, 1, 2] rfl) hf
      · have c62 : x2 = (0 : Int64) := (lg_cmp_eq _ _).mp c62
        have hf := dz_t c62 hf
        refine lv_lload_n hx hb dX1_laysFactors_65 rfl (lv_at hl 1 rfl) ?_
        refine lv_lload hx hb dX1_laysFactors_66 (lv_at hl 2 rfl) ?_
        obtain ⟨g6, hf⟩ := dz_go hf
        refine lv_ldiv hx hb dX1_laysFactors_68 g6 ?_
        refine lv_topl (fun x7 e_x7 => ?_)
        have hf := dz_ls e_x7 hf
        refine lv_lstore_n (lv' := [(3, .long x7), (0, .ref h), (5, .long v5)]) hx hb dX1_laysFactors_69 rfl hl (by decide) rfl (fun ls hl => ?_)
        refine lv_aload_n hx hb dX1_laysFactors_70 rfl (lv_at hl 1 rfl) ?_
        refine va_get (C := RX1) (T := TX1) (N := 35) (fs := mwF ad σ) (v := .ref (ad 5)) hx hb hts in_X1 hown hK hP 0 rfl hci 5 (by decide) (hts _ q1676) (fun _ hq => hq) rfl dX1_laysFactors_71 ?_
        refine lv_aload_n hx hb dX1_laysFactors_74 rfl (lv_at hl 1 rfl) ?_
        refine va_get (C := RX1) (T := TX1) (N := 35) (fs := mwF ad σ) (v := .int (σ.1 6)) hx hb hts in_X1 hown hK hP 0 rfl hci 6 (by decide) (hts _ q1677) (fun _ hq => hq) rfl dX1_laysFactors_75 ?_
        refine lv_topi (fun x8 e_x8 => ?_)
        have hf := dz_ls e_x8 hf
        refine lv_dup2_11 hx hb dX1_laysFactors_78 rfl rfl ?_
        obtain ⟨g9, hf⟩ := dz_go hf
        refine va_iald hx hb hK hP 5 0 rfl rfl g9 dX1_laysFactors_79 ?_
        refine lv_topi (fun x10 e_x10 => ?_)
        have hf := dz_ls e_x10 hf
        refine lv_iconst (v := 1) hx hb dX1_laysFactors_80 (by decide) ?_
        refine lv_iadd hx hb dX1_laysFactors_81 ?_
        refine lv_topi (fun x11 e_x11 => ?_)
        have hf := dz_ls e_x11 hf
        obtain ⟨g12, hf⟩ := dz_go hf
        refine va_iast hx hb hK hP hD hS 5 0 rfl rfl g12 dX1_laysFactors_82 (fun H locs hP1 _ hS => ?_)
        obtain ⟨s13, e_s13, hf⟩ := dz_lo hf
        have hP : va_P D cl (mw ci h ad cA s13) H := by rw [e_s13]; exact hP1
        clear hP1; replace hD := mw_D s13 hD
        refine lv_goto (tgt := 56) hx hb dX1_laysFactors_83 (by decide) ?_
        exact ih.2.1 x7 v5 s13 H locs hP hD hS ls (lv_sub hl [1, 0, 2] rfl) hf
    · intro v3 v5 σ H locs hP hD hS ls hl hf
      have hf : (dz_l (v5 + 1) fun x1 => (lfX1_laysFactors K k).1 v3 x1 σ : Option pM) = some res := hf
      refine lv_lload hx hb dX1_laysFactors_96 (lv_at hl 2 rfl) ?_
      refine lv_lconst (v := 1) hx hb dX1_laysFactors_98 rfl ?_
      refine lv_ladd hx hb dX1_laysFactors_99 ?_
      refine lv_topl (fun x1 e_x1 => ?_)
      have hf := dz_ls e_x1 hf
      refine lv_lstore (lv' := [(5, .long x1), (0, .ref h), (3, .long v3)]) hx hb dX1_laysFactors_100 hl (by decide) rfl (fun ls hl => ?_)
      refine lv_goto (tgt := 12) hx hb dX1_laysFactors_102 (by decide) ?_
      exact ih.1 v3 x1 σ H locs hP hD hS ls (lv_sub hl [1, 2, 0] rfl) hf
set_option maxHeartbeats 4000000 in
set_option maxRecDepth 100000 in
theorem mtX1_laysFactors (l : Launch) (D : va_G) (cl : List vw_C) (ci : Nat) (hci : cl[ci]? = some (RX1, TX1, 35)) (h : Nat) (ad : Nat → Nat) (cA : Nat → ClassId) (sz : Nat) (σ : pM) (a0 : Int64) (K : Nat) (res : pM) (hf : fnX1_laysFactors K a0 σ = some res) : Met l yX1_laysFactors (ws_ yX1_laysFactors cX1_laysFactors 7 (none)) ({ frames := 0, cells := 0, slots := 0, locals := 0 }) (mPc D cl ci h ad cA sz σ [.ref h, .long a0]) (mQv D cl ci h ad cA (va_A (mw ci h ad cA σ) sz) res) 0 0 (va_A (mw ci h ad cA σ) sz) := by
  refine Met.ofW (cc := cX1_laysFactors) (maxL := 7) (ret := none) (by decide +kernel) rfl ?_
  intro p e s m args below meth c s₁ B hml hv
  obtain ⟨rfl, hsz, hP, hK, hD0⟩ := hv
  have hx := B.exec
  have hb := B.bytes
  have hr := B.returns
  have hts := atoms_spec (ws := ws_ yX1_laysFactors cX1_laysFactors 7 (none)) B.pre
  have hts : ∀ w ∈ lw_all, w.before _ s = true := fun w h => hts w (List.mem_cons_of_mem _ h)
  have hown : s.vm.findClass RX1 = some m.cls := findClass_of_methodNamed B.named
  have hlocks := B.notSynchronized
  subst hsz
  have hD := hD0.self (sz := s.heap.size)
  generalize hAe : va_A (mw ci h ad cA σ) s.heap.size = A at hD ⊢
  have hA : ∀ q : Nat, s.heap.size ≤ q → A q := fun q h => by rw [← hAe]; exact Or.inr h
  clear hAe hD0
  have hS : va_S A s.heap s.heap [] := va_S.rf
  generalize hHe : s.heap = H at hP hS ⊢
  have hS : va_S A s.heap H [] := by rw [hHe]; exact hS
  generalize ([] : List Loc) = locs at hS ⊢
  have hl := lv_entry ([.ref h, .long a0]) (n := 7) (Nat.le_of_ble_eq_true rfl)
  rw [lg_entry_eq]
  generalize (lg_sl ([.ref h, .long a0]) ++ List.replicate (7 - (lg_sl ([.ref h, .long a0])).length) Slot.unset).toArray = ls at hl ⊢
  have hl : lv_has ls 7 [(0, .ref h), (1, .long a0)] := hl
  have hf : (dz_l (mF σ 6 0) fun s1 => (lfX1_laysFactors K K).1 a0 2 s1 : Option pM) = some res := hf
  have ih := wlX1_laysFactors (l := l) (e := e) (below := below) (h := h) (ad := ad) (cA := cA) hci hA hK K res a0 hx hb hr hlocks hml hown hts K
  refine lv_aload_n hx hb dX1_laysFactors_0 rfl (lv_at hl 0 rfl) ?_
  refine lv_iconst (v := 0) hx hb dX1_laysFactors_1 (by decide) ?_
  refine va_put (C := RX1) (T := TX1) (N := 35) (fs := mwF ad σ) hx hb hts in_X1 tyX1 tyX1_ok nmX1 hown hK hP hD hS 0 rfl hci 6 (by decide) (hts _ q1677) (fun _ hq => hq) rfl rfl rfl rfl (Nat.le_of_ble_eq_true rfl) dX1_laysFactors_2 (fun H locs hP1 _ hS => ?_)
  obtain ⟨s1, e_s1, hf⟩ := dz_lo hf
  have hP : va_P D cl (mw ci h ad cA s1) H := by rw [e_s1]; exact hP1
  clear hP1; replace hD := mw_D s1 hD
  refine lv_lload_n hx hb dX1_laysFactors_5 rfl (lv_at hl 1 rfl) ?_
  refine lv_lstore_n (lv' := [(3, .long a0), (0, .ref h), (1, .long a0)]) hx hb dX1_laysFactors_6 rfl hl (by decide) rfl (fun ls hl => ?_)
  refine lv_ldc2 (v := 2) hx hb hown (hts _ q1789) dX1_laysFactors_7 ?_
  refine lv_lstore (lv' := [(5, .long 2), (3, .long a0), (0, .ref h), (1, .long a0)]) hx hb dX1_laysFactors_10 hl (by decide) rfl (fun ls hl => ?_)
  exact ih.1 a0 2 s1 H locs hP hD hS ls (lv_sub hl [2, 1, 0] rfl) hf

noncomputable def fnX1_addsDown (K : Nat) (a0 : Int32) (a1 : Int32) (a2 : Int32) (a3 : Int32) (σ : pM) : Option pM := if ¬ (a0 < 0 ∨ 116 ≤ Int32.toNatClampNeg a0) then (dz_l (σ.2.2.1 12 (Int32.toNatClampNeg a0)) fun x2 => dz_l ((9 * a0) + x2) fun x3 => if ¬ (x3 < 0 ∨ 1044 ≤ Int32.toNatClampNeg x3) then (dz_l (mI σ 14 (Int32.toNatClampNeg x3) a1) fun s5 => if ¬ (x3 < 0 ∨ 1044 ≤ Int32.toNatClampNeg x3) then (dz_l (mI s5 15 (Int32.toNatClampNeg x3) a2) fun s7 => if ¬ (x3 < 0 ∨ 1044 ≤ Int32.toNatClampNeg x3) then (dz_l (mI s7 16 (Int32.toNatClampNeg x3) a3) fun s9 => if ¬ (a0 < 0 ∨ 116 ≤ Int32.toNatClampNeg a0) then (dz_l (s9.2.2.1 12 (Int32.toNatClampNeg a0)) fun x11 => dz_l (x11 + 1) fun x12 => if ¬ (a0 < 0 ∨ 116 ≤ Int32.toNatClampNeg a0) then (dz_l (mI s9 12 (Int32.toNatClampNeg a0) x12) fun s14 => some s14) else none) else none) else none) else none) else none) else none
set_option maxHeartbeats 4000000 in
set_option maxRecDepth 100000 in
theorem mtX1_addsDown (l : Launch) (D : va_G) (cl : List vw_C) (ci : Nat) (hci : cl[ci]? = some (RX1, TX1, 35)) (h : Nat) (ad : Nat → Nat) (cA : Nat → ClassId) (sz : Nat) (σ : pM) (a0 : Int32) (a1 : Int32) (a2 : Int32) (a3 : Int32) (K : Nat) (res : pM) (hf : fnX1_addsDown K a0 a1 a2 a3 σ = some res) : Met l yX1_addsDown (ws_ yX1_addsDown cX1_addsDown 6 (none)) ({ frames := 0, cells := 0, slots := 0, locals := 0 }) (mPc D cl ci h ad cA sz σ [.ref h, .int a0, .int a1, .int a2, .int a3]) (mQv D cl ci h ad cA (va_A (mw ci h ad cA σ) sz) res) 0 0 (va_A (mw ci h ad cA σ) sz) := by
  refine Met.ofW (cc := cX1_addsDown) (maxL := 6) (ret := none) (by decide +kernel) rfl ?_
  intro p e s m args below meth c s₁ B hml hv
  obtain ⟨rfl, hsz, hP, hK, hD0⟩ := hv
  have hx := B.exec
  have hb := B.bytes
  have hr := B.returns
  have hts := atoms_spec (ws := ws_ yX1_addsDown cX1_addsDown 6 (none)) B.pre
  have hts : ∀ w ∈ lw_all, w.before _ s = true := fun w h => hts w (List.mem_cons_of_mem _ h)
  have hown : s.vm.findClass RX1 = some m.cls := findClass_of_methodNamed B.named
  have hlocks := B.notSynchronized
  subst hsz
  have hD := hD0.self (sz := s.heap.size)
  generalize hAe : va_A (mw ci h ad cA σ) s.heap.size = A at hD ⊢
  have hA : ∀ q : Nat, s.heap.size ≤ q → A q := fun q h => by rw [← hAe]; exact Or.inr h
  clear hAe hD0
  have hS : va_S A s.heap s.heap [] := va_S.rf
  generalize hHe : s.heap = H at hP hS ⊢
  have hS : va_S A s.heap H [] := by rw [hHe]; exact hS
  generalize ([] : List Loc) = locs at hS ⊢
  have hl := lv_entry ([.ref h, .int a0, .int a1, .int a2, .int a3]) (n := 6) (Nat.le_of_ble_eq_true rfl)
  rw [lg_entry_eq]
  generalize (lg_sl ([.ref h, .int a0, .int a1, .int a2, .int a3]) ++ List.replicate (6 - (lg_sl ([.ref h, .int a0, .int a1, .int a2, .int a3])).length) Slot.unset).toArray = ls at hl ⊢
  have hl : lv_has ls 6 [(0, .ref h), (1, .int a0), (2, .int a1), (3, .int a2), (4, .int a3)] := hl
  have hf : (if ¬ (a0 < 0 ∨ 116 ≤ Int32.toNatClampNeg a0) then (dz_l (σ.2.2.1 12 (Int32.toNatClampNeg a0)) fun x2 => dz_l ((9 * a0) + x2) fun x3 => if ¬ (x3 < 0 ∨ 1044 ≤ Int32.toNatClampNeg x3) then (dz_l (mI σ 14 (Int32.toNatClampNeg x3) a1) fun s5 => if ¬ (x3 < 0 ∨ 1044 ≤ Int32.toNatClampNeg x3) then (dz_l (mI s5 15 (Int32.toNatClampNeg x3) a2) fun s7 => if ¬ (x3 < 0 ∨ 1044 ≤ Int32.toNatClampNeg x3) then (dz_l (mI s7 16 (Int32.toNatClampNeg x3) a3) fun s9 => if ¬ (a0 < 0 ∨ 116 ≤ Int32.toNatClampNeg a0) then (dz_l (s9.2.2.1 12 (Int32.toNatClampNeg a0)) fun x11 => dz_l (x11 + 1) fun x12 => if ¬ (a0 < 0 ∨ 116 ≤ Int32.toNatClampNeg a0) then (dz_l (mI s9 12 (Int32.toNatClampNeg a0) x12) fun s14 => some s14) else none) else none) else none) else none) else none) else none : Option pM) = some res := hf
  refine lv_bipush (v := 9) hx hb dX1_addsDown_0 (by decide) ?_
  refine lv_iload_n hx hb dX1_addsDown_2 rfl (lv_at hl 1 rfl) ?_
  refine lv_imul hx hb dX1_addsDown_3 ?_
  refine lv_aload_n hx hb dX1_addsDown_4 rfl (lv_at hl 0 rfl) ?_
  refine va_get (C := RX1) (T := TX1) (N := 35) (fs := mwF ad σ) (v := .ref (ad 12)) hx hb hts in_X1 hown hK hP 0 rfl hci 12 (by decide) (hts _ q1683) (fun _ hq => hq) rfl dX1_addsDown_5 ?_
  refine lv_iload_n hx hb dX1_addsDown_8 rfl (lv_at hl 1 rfl) ?_
  obtain ⟨g1, hf⟩ := dz_go hf
  refine va_iald hx hb hK hP 10 0 rfl rfl g1 dX1_addsDown_9 ?_
  refine lv_topi (fun x2 e_x2 => ?_)
  have hf := dz_ls e_x2 hf
  refine lv_iadd hx hb dX1_addsDown_10 ?_
  refine lv_topi (fun x3 e_x3 => ?_)
  have hf := dz_ls e_x3 hf
  refine lv_istore (lv' := [(5, .int x3), (0, .ref h), (1, .int a0), (2, .int a1), (3, .int a2), (4, .int a3)]) hx hb dX1_addsDown_11 hl (by decide) rfl (fun ls hl => ?_)
  refine lv_aload_n hx hb dX1_addsDown_13 rfl (lv_at hl 1 rfl) ?_
  refine va_get (C := RX1) (T := TX1) (N := 35) (fs := mwF ad σ) (v := .ref (ad 14)) hx hb hts in_X1 hown hK hP 0 rfl hci 14 (by decide) (hts _ q1685) (fun _ hq => hq) rfl dX1_addsDown_14 ?_
  refine lv_iload hx hb dX1_addsDown_17 (lv_at hl 0 rfl) ?_
  refine lv_iload_n hx hb dX1_addsDown_19 rfl (lv_at hl 3 rfl) ?_
  obtain ⟨g4, hf⟩ := dz_go hf
  refine va_iast hx hb hK hP hD hS 12 0 rfl rfl g4 dX1_addsDown_20 (fun H locs hP1 _ hS => ?_)
  obtain ⟨s5, e_s5, hf⟩ := dz_lo hf
  have hP : va_P D cl (mw ci h ad cA s5) H := by rw [e_s5]; exact hP1
  clear hP1; replace hD := mw_D s5 hD
  refine lv_aload_n hx hb dX1_addsDown_21 rfl (lv_at hl 1 rfl) ?_
  refine va_get (C := RX1) (T := TX1) (N := 35) (fs := mwF ad s5) (v := .ref (ad 15)) hx hb hts in_X1 hown hK hP 0 rfl hci 15 (by decide) (hts _ q1686) (fun _ hq => hq) rfl dX1_addsDown_22 ?_
  refine lv_iload hx hb dX1_addsDown_25 (lv_at hl 0 rfl) ?_
  refine lv_iload_n hx hb dX1_addsDown_27 rfl (lv_at hl 4 rfl) ?_
  obtain ⟨g6, hf⟩ := dz_go hf
  refine va_iast hx hb hK hP hD hS 13 0 rfl rfl g6 dX1_addsDown_28 (fun H locs hP1 _ hS => ?_)
  obtain ⟨s7, e_s7, hf⟩ := dz_lo hf
  have hP : va_P D cl (mw ci h ad cA s7) H := by rw [e_s7]; exact hP1
  clear hP1; replace hD := mw_D s7 hD
  refine lv_aload_n hx hb dX1_addsDown_29 rfl (lv_at hl 1 rfl) ?_
  refine va_get (C := RX1) (T := TX1) (N := 35) (fs := mwF ad s7) (v := .ref (ad 16)) hx hb hts in_X1 hown hK hP 0 rfl hci 16 (by decide) (hts _ q1687) (fun _ hq => hq) rfl dX1_addsDown_30 ?_
  refine lv_iload hx hb dX1_addsDown_33 (lv_at hl 0 rfl) ?_
  refine lv_iload hx hb dX1_addsDown_35 (lv_at hl 5 rfl) ?_
  obtain ⟨g8, hf⟩ := dz_go hf
  refine va_iast hx hb hK hP hD hS 14 0 rfl rfl g8 dX1_addsDown_37 (fun H locs hP1 _ hS => ?_)
  obtain ⟨s9, e_s9, hf⟩ := dz_lo hf
  have hP : va_P D cl (mw ci h ad cA s9) H := by rw [e_s9]; exact hP1
  clear hP1; replace hD := mw_D s9 hD
  refine lv_aload_n hx hb dX1_addsDown_38 rfl (lv_at hl 1 rfl) ?_
  refine va_get (C := RX1) (T := TX1) (N := 35) (fs := mwF ad s9) (v := .ref (ad 12)) hx hb hts in_X1 hown hK hP 0 rfl hci 12 (by decide) (hts _ q1683) (fun _ hq => hq) rfl dX1_addsDown_39 ?_
  refine lv_iload_n hx hb dX1_addsDown_42 rfl (lv_at hl 2 rfl) ?_
  refine lv_dup2_11 hx hb dX1_addsDown_43 rfl rfl ?_
  obtain ⟨g10, hf⟩ := dz_go hf
  refine va_iald hx hb hK hP 10 0 rfl rfl g10 dX1_addsDown_44 ?_
  refine lv_topi (fun x11 e_x11 => ?_)
  have hf := dz_ls e_x11 hf
  refine lv_iconst (v := 1) hx hb dX1_addsDown_45 (by decide) ?_
  refine lv_iadd hx hb dX1_addsDown_46 ?_
  refine lv_topi (fun x12 e_x12 => ?_)
  have hf := dz_ls e_x12 hf
  obtain ⟨g13, hf⟩ := dz_go hf
  refine va_iast hx hb hK hP hD hS 10 0 rfl rfl g13 dX1_addsDown_47 (fun H locs hP1 _ hS => ?_)
  obtain ⟨s14, e_s14, hf⟩ := dz_lo hf
  have hP : va_P D cl (mw ci h ad cA s14) H := by rw [e_s14]; exact hP1
  clear hP1; replace hD := mw_D s14 hD
  exact W.vret hx hb hr (fun t ht hW => ⟨⟨s14, rfl, Option.some.inj hf, by rw [ht]; exact hP, va_K.moved hW.alike hK, hD⟩, hS.F ht⟩) hS.2.2 dX1_addsDown_48

noncomputable def fnX1_addsUp (K : Nat) (a0 : Int32) (a1 : Int32) (a2 : Int32) (σ : pM) : Option pM := if ¬ (a0 < 0 ∨ 116 ≤ Int32.toNatClampNeg a0) then (dz_l (σ.2.2.1 13 (Int32.toNatClampNeg a0)) fun x2 => dz_l ((9 * a0) + x2) fun x3 => if ¬ (x3 < 0 ∨ 1044 ≤ Int32.toNatClampNeg x3) then (dz_l (mI σ 17 (Int32.toNatClampNeg x3) a1) fun s5 => if ¬ (x3 < 0 ∨ 1044 ≤ Int32.toNatClampNeg x3) then (dz_l (mI s5 18 (Int32.toNatClampNeg x3) a2) fun s7 => if ¬ (a0 < 0 ∨ 116 ≤ Int32.toNatClampNeg a0) then (dz_l (s7.2.2.1 13 (Int32.toNatClampNeg a0)) fun x9 => dz_l (x9 + 1) fun x10 => if ¬ (a0 < 0 ∨ 116 ≤ Int32.toNatClampNeg a0) then (dz_l (mI s7 13 (Int32.toNatClampNeg a0) x10) fun s12 => some s12) else none) else none) else none) else none) else none
set_option maxHeartbeats 4000000 in
set_option maxRecDepth 100000 in
theorem mtX1_addsUp (l : Launch) (D : va_G) (cl : List vw_C) (ci : Nat) (hci : cl[ci]? = some (RX1, TX1, 35)) (h : Nat) (ad : Nat → Nat) (cA : Nat → ClassId) (sz : Nat) (σ : pM) (a0 : Int32) (a1 : Int32) (a2 : Int32) (K : Nat) (res : pM) (hf : fnX1_addsUp K a0 a1 a2 σ = some res) : Met l yX1_addsUp (ws_ yX1_addsUp cX1_addsUp 5 (none)) ({ frames := 0, cells := 0, slots := 0, locals := 0 }) (mPc D cl ci h ad cA sz σ [.ref h, .int a0, .int a1, .int a2]) (mQv D cl ci h ad cA (va_A (mw ci h ad cA σ) sz) res) 0 0 (va_A (mw ci h ad cA σ) sz) := by
  refine Met.ofW (cc := cX1_addsUp) (maxL := 5) (ret := none) (by decide +kernel) rfl ?_
  intro p e s m args below meth c s₁ B hml hv
  obtain ⟨rfl, hsz, hP, hK, hD0⟩ := hv
  have hx := B.exec
  have hb := B.bytes
  have hr := B.returns
  have hts := atoms_spec (ws := ws_ yX1_addsUp cX1_addsUp 5 (none)) B.pre
  have hts : ∀ w ∈ lw_all, w.before _ s = true := fun w h => hts w (List.mem_cons_of_mem _ h)
  have hown : s.vm.findClass RX1 = some m.cls := findClass_of_methodNamed B.named
  have hlocks := B.notSynchronized
  subst hsz
  have hD := hD0.self (sz := s.heap.size)
  generalize hAe : va_A (mw ci h ad cA σ) s.heap.size = A at hD ⊢
  have hA : ∀ q : Nat, s.heap.size ≤ q → A q := fun q h => by rw [← hAe]; exact Or.inr h
  clear hAe hD0
  have hS : va_S A s.heap s.heap [] := va_S.rf
  generalize hHe : s.heap = H at hP hS ⊢
  have hS : va_S A s.heap H [] := by rw [hHe]; exact hS
  generalize ([] : List Loc) = locs at hS ⊢
  have hl := lv_entry ([.ref h, .int a0, .int a1, .int a2]) (n := 5) (Nat.le_of_ble_eq_true rfl)
  rw [lg_entry_eq]
  generalize (lg_sl ([.ref h, .int a0, .int a1, .int a2]) ++ List.replicate (5 - (lg_sl ([.ref h, .int a0, .int a1, .int a2])).length) Slot.unset).toArray = ls at hl ⊢
  have hl : lv_has ls 5 [(0, .ref h), (1, .int a0), (2, .int a1), (3, .int a2)] := hl
  have hf : (if ¬ (a0 < 0 ∨ 116 ≤ Int32.toNatClampNeg a0) then (dz_l (σ.2.2.1 13 (Int32.toNatClampNeg a0)) fun x2 => dz_l ((9 * a0) + x2) fun x3 => if ¬ (x3 < 0 ∨ 1044 ≤ Int32.toNatClampNeg x3) then (dz_l (mI σ 17 (Int32.toNatClampNeg x3) a1) fun s5 => if ¬ (x3 < 0 ∨ 1044 ≤ Int32.toNatClampNeg x3) then (dz_l (mI s5 18 (Int32.toNatClampNeg x3) a2) fun s7 => if ¬ (a0 < 0 ∨ 116 ≤ Int32.toNatClampNeg a0) then (dz_l (s7.2.2.1 13 (Int32.toNatClampNeg a0)) fun x9 => dz_l (x9 + 1) fun x10 => if ¬ (a0 < 0 ∨ 116 ≤ Int32.toNatClampNeg a0) then (dz_l (mI s7 13 (Int32.toNatClampNeg a0) x10) fun s12 => some s12) else none) else none) else none) else none) else none : Option pM) = some res := hf
  refine lv_bipush (v := 9) hx hb dX1_addsUp_0 (by decide) ?_
  refine lv_iload_n hx hb dX1_addsUp_2 rfl (lv_at hl 1 rfl) ?_
  refine lv_imul hx hb dX1_addsUp_3 ?_
  refine lv_aload_n hx hb dX1_addsUp_4 rfl (lv_at hl 0 rfl) ?_
  refine va_get (C := RX1) (T := TX1) (N := 35) (fs := mwF ad σ) (v := .ref (ad 13)) hx hb hts in_X1 hown hK hP 0 rfl hci 13 (by decide) (hts _ q1684) (fun _ hq => hq) rfl dX1_addsUp_5 ?_
  refine lv_iload_n hx hb dX1_addsUp_8 rfl (lv_at hl 1 rfl) ?_
  obtain ⟨g1, hf⟩ := dz_go hf
  refine va_iald hx hb hK hP 11 0 rfl rfl g1 dX1_addsUp_9 ?_
  refine lv_topi (fun x2 e_x2 => ?_)
  have hf := dz_ls e_x2 hf
  refine lv_iadd hx hb dX1_addsUp_10 ?_
  refine lv_topi (fun x3 e_x3 => ?_)
  have hf := dz_ls e_x3 hf
  refine lv_istore (lv' := [(4, .int x3), (0, .ref h), (1, .int a0), (2, .int a1), (3, .int a2)]) hx hb dX1_addsUp_11 hl (by decide) rfl (fun ls hl => ?_)
  refine lv_aload_n hx hb dX1_addsUp_13 rfl (lv_at hl 1 rfl) ?_
  refine va_get (C := RX1) (T := TX1) (N := 35) (fs := mwF ad σ) (v := .ref (ad 17)) hx hb hts in_X1 hown hK hP 0 rfl hci 17 (by decide) (hts _ q1688) (fun _ hq => hq) rfl dX1_addsUp_14 ?_
  refine lv_iload hx hb dX1_addsUp_17 (lv_at hl 0 rfl) ?_
  refine lv_iload_n hx hb dX1_addsUp_19 rfl (lv_at hl 3 rfl) ?_
  obtain ⟨g4, hf⟩ := dz_go hf
  refine va_iast hx hb hK hP hD hS 15 0 rfl rfl g4 dX1_addsUp_20 (fun H locs hP1 _ hS => ?_)
  obtain ⟨s5, e_s5, hf⟩ := dz_lo hf
  have hP : va_P D cl (mw ci h ad cA s5) H := by rw [e_s5]; exact hP1
  clear hP1; replace hD := mw_D s5 hD
  refine lv_aload_n hx hb dX1_addsUp_21 rfl (lv_at hl 1 rfl) ?_
  refine va_get (C := RX1) (T := TX1) (N := 35) (fs := mwF ad s5) (v := .ref (ad 18)) hx hb hts in_X1 hown hK hP 0 rfl hci 18 (by decide) (hts _ q1689) (fun _ hq => hq) rfl dX1_addsUp_22 ?_
  refine lv_iload hx hb dX1_addsUp_25 (lv_at hl 0 rfl) ?_
  refine lv_iload_n hx hb dX1_addsUp_27 rfl (lv_at hl 4 rfl) ?_
  obtain ⟨g6, hf⟩ := dz_go hf
  refine va_iast hx hb hK hP hD hS 16 0 rfl rfl g6 dX1_addsUp_28 (fun H locs hP1 _ hS => ?_)
  obtain ⟨s7, e_s7, hf⟩ := dz_lo hf
  have hP : va_P D cl (mw ci h ad cA s7) H := by rw [e_s7]; exact hP1
  clear hP1; replace hD := mw_D s7 hD
  refine lv_aload_n hx hb dX1_addsUp_29 rfl (lv_at hl 1 rfl) ?_
  refine va_get (C := RX1) (T := TX1) (N := 35) (fs := mwF ad s7) (v := .ref (ad 13)) hx hb hts in_X1 hown hK hP 0 rfl hci 13 (by decide) (hts _ q1684) (fun _ hq => hq) rfl dX1_addsUp_30 ?_
  refine lv_iload_n hx hb dX1_addsUp_33 rfl (lv_at hl 2 rfl) ?_
  refine lv_dup2_11 hx hb dX1_addsUp_34 rfl rfl ?_
  obtain ⟨g8, hf⟩ := dz_go hf
  refine va_iald hx hb hK hP 11 0 rfl rfl g8 dX1_addsUp_35 ?_
  refine lv_topi (fun x9 e_x9 => ?_)
  have hf := dz_ls e_x9 hf
  refine lv_iconst (v := 1) hx hb dX1_addsUp_36 (by decide) ?_
  refine lv_iadd hx hb dX1_addsUp_37 ?_
  refine lv_topi (fun x10 e_x10 => ?_)
  have hf := dz_ls e_x10 hf
  obtain ⟨g11, hf⟩ := dz_go hf
  refine va_iast hx hb hK hP hD hS 11 0 rfl rfl g11 dX1_addsUp_38 (fun H locs hP1 _ hS => ?_)
  obtain ⟨s12, e_s12, hf⟩ := dz_lo hf
  have hP : va_P D cl (mw ci h ad cA s12) H := by rw [e_s12]; exact hP1
  clear hP1; replace hD := mw_D s12 hD
  exact W.vret hx hb hr (fun t ht hW => ⟨⟨s12, rfl, Option.some.inj hf, by rw [ht]; exact hP, va_K.moved hW.alike hK, hD⟩, hS.F ht⟩) hS.2.2 dX1_addsUp_39

noncomputable def fnX1_rowsOf (K : Nat) (a0 : Int32) (a1 : Int32) (a2 : Int32) (a3 : Int32) (σ : pM) : Option pM := if a1 = (0 : Int32) then (if ¬ (a2 < 0 ∨ 12 ≤ Int32.toNatClampNeg a2) then (dz_l (σ.2.2.1 4 (Int32.toNatClampNeg a2)) fun x2 => if ¬ (a2 < 0 ∨ 12 ≤ Int32.toNatClampNeg a2) then (dz_l (σ.2.2.1 5 (Int32.toNatClampNeg a2)) fun x4 => dz_b (fnX1_addsDown K a0 x2 x4 a3 σ) fun s6 => some s6) else none) else none) else (if ¬ (a2 < 0 ∨ 12 ≤ Int32.toNatClampNeg a2) then (dz_l (σ.2.2.1 4 (Int32.toNatClampNeg a2)) fun x8 => if ¬ (a2 < 0 ∨ 12 ≤ Int32.toNatClampNeg a2) then (dz_l (σ.2.2.1 5 (Int32.toNatClampNeg a2)) fun x10 => dz_b (fnX1_addsUp K a0 x8 x10 σ) fun s12 => some s12) else none) else none)
set_option maxHeartbeats 4000000 in
set_option maxRecDepth 100000 in
theorem mtX1_rowsOf (l : Launch) (D : va_G) (cl : List vw_C) (ci : Nat) (hci : cl[ci]? = some (RX1, TX1, 35)) (h : Nat) (ad : Nat → Nat) (cA : Nat → ClassId) (sz : Nat) (σ : pM) (a0 : Int32) (a1 : Int32) (a2 : Int32) (a3 : Int32) (K : Nat) (res : pM) (hf : fnX1_rowsOf K a0 a1 a2 a3 σ = some res) : Met l yX1_rowsOf (ws_ yX1_rowsOf cX1_rowsOf 5 (none)) ({ frames := 1, cells := 0, slots := 0, locals := 25 }) (mPc D cl ci h ad cA sz σ [.ref h, .int a0, .int a1, .int a2, .int a3]) (mQv D cl ci h ad cA (va_A (mw ci h ad cA σ) sz) res) 0 0 (va_A (mw ci h ad cA σ) sz) := by
  refine Met.ofW (cc := cX1_rowsOf) (maxL := 5) (ret := none) (by decide +kernel) rfl ?_
  intro p e s m args below meth c s₁ B hml hv
  obtain ⟨rfl, hsz, hP, hK, hD0⟩ := hv
  have hx := B.exec
  have hb := B.bytes
  have hr := B.returns
  have hts := atoms_spec (ws := ws_ yX1_rowsOf cX1_rowsOf 5 (none)) B.pre
  have hts : ∀ w ∈ lw_all, w.before _ s = true := fun w h => hts w (List.mem_cons_of_mem _ h)
  have hown : s.vm.findClass RX1 = some m.cls := findClass_of_methodNamed B.named
  have hlocks := B.notSynchronized
  subst hsz
  have hD := hD0.self (sz := s.heap.size)
  generalize hAe : va_A (mw ci h ad cA σ) s.heap.size = A at hD ⊢
  have hA : ∀ q : Nat, s.heap.size ≤ q → A q := fun q h => by rw [← hAe]; exact Or.inr h
  clear hAe hD0
  have hS : va_S A s.heap s.heap [] := va_S.rf
  generalize hHe : s.heap = H at hP hS ⊢
  have hS : va_S A s.heap H [] := by rw [hHe]; exact hS
  generalize ([] : List Loc) = locs at hS ⊢
  have hl := lv_entry ([.ref h, .int a0, .int a1, .int a2, .int a3]) (n := 5) (Nat.le_of_ble_eq_true rfl)
  rw [lg_entry_eq]
  generalize (lg_sl ([.ref h, .int a0, .int a1, .int a2, .int a3]) ++ List.replicate (5 - (lg_sl ([.ref h, .int a0, .int a1, .int a2, .int a3])).length) Slot.unset).toArray = ls at hl ⊢
  have hl : lv_has ls 5 [(0, .ref h), (1, .int a0), (2, .int a1), (3, .int a2), (4, .int a3)] := hl
  have hf : (if a1 = (0 : Int32) then (if ¬ (a2 < 0 ∨ 12 ≤ Int32.toNatClampNeg a2) then (dz_l (σ.2.2.1 4 (Int32.toNatClampNeg a2)) fun x2 => if ¬ (a2 < 0 ∨ 12 ≤ Int32.toNatClampNeg a2) then (dz_l (σ.2.2.1 5 (Int32.toNatClampNeg a2)) fun x4 => dz_b (fnX1_addsDown K a0 x2 x4 a3 σ) fun s6 => some s6) else none) else none) else (if ¬ (a2 < 0 ∨ 12 ≤ Int32.toNatClampNeg a2) then (dz_l (σ.2.2.1 4 (Int32.toNatClampNeg a2)) fun x8 => if ¬ (a2 < 0 ∨ 12 ≤ Int32.toNatClampNeg a2) then (dz_l (σ.2.2.1 5 (Int32.toNatClampNeg a2)) fun x10 => dz_b (fnX1_addsUp K a0 x8 x10 σ) fun s12 => some s12) else none) else none) : Option pM) = some res := hf
  refine lv_iload_n hx hb dX1_rowsOf_0 rfl (lv_at hl 2 rfl) ?_
  refine lv_if_eq (tgt := 24) hx hb dX1_rowsOf_1 (by decide) (fun c1 => ?_) (fun c1 => ?_)
  · have hf := dz_t c1 hf
    refine lv_aload_n hx hb dX1_rowsOf_24 rfl (lv_at hl 0 rfl) ?_
    refine lv_iload_n hx hb dX1_rowsOf_25 rfl (lv_at hl 1 rfl) ?_
    refine lv_aload_n hx hb dX1_rowsOf_26 rfl (lv_at hl 0 rfl) ?_
    refine va_get (C := RX1) (T := TX1) (N := 35) (fs := mwF ad σ) (v := .ref (ad 4)) hx hb hts in_X1 hown hK hP 0 rfl hci 4 (by decide) (hts _ q1675) (fun _ hq => hq) rfl dX1_rowsOf_27 ?_
    refine lv_iload_n hx hb dX1_rowsOf_30 rfl (lv_at hl 3 rfl) ?_
    obtain ⟨g1, hf⟩ := dz_go hf
    refine va_iald hx hb hK hP 4 0 rfl rfl g1 dX1_rowsOf_31 ?_
    refine lv_topi (fun x2 e_x2 => ?_)
    have hf := dz_ls e_x2 hf
    refine lv_aload_n hx hb dX1_rowsOf_32 rfl (lv_at hl 0 rfl) ?_
    refine va_get (C := RX1) (T := TX1) (N := 35) (fs := mwF ad σ) (v := .ref (ad 5)) hx hb hts in_X1 hown hK hP 0 rfl hci 5 (by decide) (hts _ q1676) (fun _ hq => hq) rfl dX1_rowsOf_33 ?_
    refine lv_iload_n hx hb dX1_rowsOf_36 rfl (lv_at hl 3 rfl) ?_
    obtain ⟨g3, hf⟩ := dz_go hf
    refine va_iald hx hb hK hP 5 0 rfl rfl g3 dX1_rowsOf_37 ?_
    refine lv_topi (fun x4 e_x4 => ?_)
    have hf := dz_ls e_x4 hf
    refine lv_iload hx hb dX1_rowsOf_38 (lv_at hl 4 rfl) ?_
    obtain ⟨s6, hx5, hf⟩ := dz_bo hf
    have hFc := dz_free hD hS hA
    refine va_callv (va_runV (As := [.int a0, .int x2, .int x4, .int a3]) (rest := []) ⟨hx, hb, hml, hown, hts⟩ (mtX1_addsDown l D cl ci hci h ad cA H.size σ a0 x2 x4 a3 K s6 hx5) (cwV 4 hts (lw_V q1895 q1897 qs54 q88 q1898) rfl rfl rfl (by decide +kernel) ⟨Nat.le_of_ble_eq_true rfl, Nat.le_of_ble_eq_true rfl⟩) (m_preV hci hK hP hD) rfl rfl hl.1 rfl (lv_room (Nat.le_of_ble_eq_true rfl)) dX1_rowsOf_40 ⟨Nat.le_refl _, Nat.le_refl _⟩) hS (fun q _ hq => hFc q hq) hFc (fun u t H1 locs ht hvm hw hB hz hk hS => ?_)
    replace hw := hw.symm; subst hw
    replace hP := m_back ht hB
    replace hD := mw_D s6 hD
    clear hB hk hz hvm ht hFc; generalize H1 = H at hP hS ⊢
    exact W.vret hx hb hr (fun t ht hW => ⟨⟨s6, rfl, Option.some.inj hf, by rw [ht]; exact hP, va_K.moved hW.alike hK, hD⟩, hS.F ht⟩) hS.2.2 dX1_rowsOf_43
  · have hf := dz_f c1 hf
    refine lv_aload_n hx hb dX1_rowsOf_4 rfl (lv_at hl 0 rfl) ?_
    refine lv_iload_n hx hb dX1_rowsOf_5 rfl (lv_at hl 1 rfl) ?_
    refine lv_aload_n hx hb dX1_rowsOf_6 rfl (lv_at hl 0 rfl) ?_
    refine va_get (C := RX1) (T := TX1) (N := 35) (fs := mwF ad σ) (v := .ref (ad 4)) hx hb hts in_X1 hown hK hP 0 rfl hci 4 (by decide) (hts _ q1675) (fun _ hq => hq) rfl dX1_rowsOf_7 ?_
    refine lv_iload_n hx hb dX1_rowsOf_10 rfl (lv_at hl 3 rfl) ?_
    obtain ⟨g7, hf⟩ := dz_go hf
    refine va_iald hx hb hK hP 4 0 rfl rfl g7 dX1_rowsOf_11 ?_
    refine lv_topi (fun x8 e_x8 => ?_)
    have hf := dz_ls e_x8 hf
    refine lv_aload_n hx hb dX1_rowsOf_12 rfl (lv_at hl 0 rfl) ?_
    refine va_get (C := RX1) (T := TX1) (N := 35) (fs := mwF ad σ) (v := .ref (ad 5)) hx hb hts in_X1 hown hK hP 0 rfl hci 5 (by decide) (hts _ q1676) (fun _ hq => hq) rfl dX1_rowsOf_13 ?_
    refine lv_iload_n hx hb dX1_rowsOf_16 rfl (lv_at hl 3 rfl) ?_
    obtain ⟨g9, hf⟩ := dz_go hf
    refine va_iald hx hb hK hP 5 0 rfl rfl g9 dX1_rowsOf_17 ?_
    refine lv_topi (fun x10 e_x10 => ?_)
    have hf := dz_ls e_x10 hf
    obtain ⟨s12, hx11, hf⟩ := dz_bo hf
    have hFc := dz_free hD hS hA
    refine va_callv (va_runV (As := [.int a0, .int x8, .int x10]) (rest := []) ⟨hx, hb, hml, hown, hts⟩ (mtX1_addsUp l D cl ci hci h ad cA H.size σ a0 x8 x10 K s12 hx11) (cwV 3 hts (lw_V q1891 q1893 qs53 q88 q1894) rfl rfl rfl (by decide +kernel) ⟨Nat.le_of_ble_eq_true rfl, Nat.le_of_ble_eq_true rfl⟩) (m_preV hci hK hP hD) rfl rfl hl.1 rfl (lv_room (Nat.le_of_ble_eq_true rfl)) dX1_rowsOf_18 ⟨Nat.le_refl _, Nat.le_refl _⟩) hS (fun q _ hq => hFc q hq) hFc (fun u t H1 locs ht hvm hw hB hz hk hS => ?_)
    replace hw := hw.symm; subst hw
    replace hP := m_back ht hB
    replace hD := mw_D s12 hD
    clear hB hk hz hvm ht hFc; generalize H1 = H at hP hS ⊢
    refine lv_goto (tgt := 43) hx hb dX1_rowsOf_21 (by decide) ?_
    exact W.vret hx hb hr (fun t ht hW => ⟨⟨s12, rfl, Option.some.inj hf, by rw [ht]; exact hP, va_K.moved hW.alike hK, hD⟩, hS.F ht⟩) hS.2.2 dX1_rowsOf_43

noncomputable def lfX1_product_14_15 (K : Nat) : Nat → (Int32 → Int32 → Int64 → Int32 → pM → Option (Int64 × pM)) × (Int32 → Int32 → Int64 → Int32 → Int32 → pM → Option (Int64 × pM)) := Nat.rec (motive := fun _ => (Int32 → Int32 → Int64 → Int32 → pM → Option (Int64 × pM)) × (Int32 → Int32 → Int64 → Int32 → Int32 → pM → Option (Int64 × pM))) ((fun _ _ _ _ _ => none), (fun _ _ _ _ _ _ => none)) (fun _ G => ((fun v3 v4 v5 v7 σ => if (v3 + v4) ≤ v7 then (some (v5, σ)) else (G.2 v3 v4 v5 v7 0 σ)), (fun v3 v4 v5 v7 v8 σ => if ¬ (v7 < 0 ∨ 1044 ≤ Int32.toNatClampNeg v7) then (dz_l (σ.2.2.1 15 (Int32.toNatClampNeg v7)) fun x2 => if x2 ≤ v8 then (dz_l (v7 + 1) fun x3 => G.1 v3 v4 v5 x3 σ) else (if ¬ (v7 < 0 ∨ 1044 ≤ Int32.toNatClampNeg v7) then (dz_l (σ.2.2.1 14 (Int32.toNatClampNeg v7)) fun x5 => dz_l (Int32.toInt64 x5) fun x6 => if ¬ x6 = 0 then (dz_l (4000000000 / x6) fun x8 => if v5 ≤ x8 then (if ¬ (v7 < 0 ∨ 1044 ≤ Int32.toNatClampNeg v7) then (dz_l (σ.2.2.1 14 (Int32.toNatClampNeg v7)) fun x10 => dz_l (v5 * (Int32.toInt64 x10)) fun x11 => dz_l (v8 + 1) fun x12 => G.2 v3 v4 x11 v7 x12 σ) else none) else (dz_l (v8 + 1) fun x13 => G.2 v3 v4 4000000000 v7 x13 σ)) else none) else none)) else none)))
noncomputable def fnX1_product_14_15 (K : Nat) (a0 : Int32) (a1 : Int32) (σ : pM) : Option (Int64 × pM) := (lfX1_product_14_15 K K).1 a0 a1 1 a0 σ
set_option maxHeartbeats 4000000 in
set_option maxRecDepth 100000 in
theorem wlX1_product_14_15 {p : Program} {l : Launch} {e : Env} {s : State} {m : MethodId} {below : List Frame} {meth : Method} {c : Code} {D : va_G} {cl : List vw_C} {ci : Nat} (hci : cl[ci]? = some (RX1, TX1, 35)) {h : Nat} {ad : Nat → Nat} {cA : Nat → ClassId} {A : Nat → Prop} (hA : ∀ q : Nat, s.heap.size ≤ q → A q) (hK : va_K D cl (mtys cA) s) (K : Nat) (res : (Int64 × pM)) (a0 : Int32) (a1 : Int32) (hx : p.tables.exec = Jvm.exec) (hb : c.code = cX1_product) (hr : meth.sig.returnType = some .long) (hlocks : meth.locks = false) (hml : c.maxLocals = 9) (hown : s.vm.findClass RX1 = some m.cls) (hts : ∀ w ∈ lw_all, w.before ([.ref h, .ref (ad 14), .ref (ad 15), .int a0, .int a1] : List Value).toArray s = true) : ∀ k : Nat, (∀ (v3 : Int32) (v4 : Int32) (v5 : Int64) (v7 : Int32) (σ : pM) (H : Heap) (locs : List Loc), va_P D cl (mw ci h ad cA σ) H → va_D A (mw ci h ad cA σ) → va_S A s.heap H locs → ∀ (ls : Array Slot), lv_has ls 9 [(1, .ref (ad 14)), (2, .ref (ad 15)), (3, .int v3), (4, .int v4), (5, .long v5), (7, .int v7)] → (lfX1_product_14_15 K k).1 v3 v4 v5 v7 σ = some res → W p l e (headSpec (ws_ yX1_product cX1_product 9 (some .long)) ({ frames := 0, cells := 0, slots := 0, locals := 0 })).room s m ([.ref h, .ref (ad 14), .ref (ad 15), .int a0, .int a1] : List Value).toArray below meth c H locs 0 0 (MQ below (mQl D cl ci h ad cA A res) ([.ref h, .ref (ad 14), .ref (ad 15), .int a0, .int a1] : List Value).toArray s 0 0 A) (F0 m 6 ls [])) ∧ (∀ (v3 : Int32) (v4 : Int32) (v5 : Int64) (v7 : Int32) (v8 : Int32) (σ : pM) (H : Heap) (locs : List Loc), va_P D cl (mw ci h ad cA σ) H → va_D A (mw ci h ad cA σ) → va_S A s.heap H locs → ∀ (ls : Array Slot), lv_has ls 9 [(1, .ref (ad 14)), (2, .ref (ad 15)), (3, .int v3), (4, .int v4), (5, .long v5), (7, .int v7), (8, .int v8)] → (lfX1_product_14_15 K k).2 v3 v4 v5 v7 v8 σ = some res → W p l e (headSpec (ws_ yX1_product cX1_product 9 (some .long)) ({ frames := 0, cells := 0, slots := 0, locals := 0 })).room s m ([.ref h, .ref (ad 14), .ref (ad 15), .int a0, .int a1] : List Value).toArray below meth c H locs 0 0 (MQ below (mQl D cl ci h ad cA A res) ([.ref h, .ref (ad 14), .ref (ad 15), .int a0, .int a1] : List Value).toArray s 0 0 A) (F0 m 18 ls [])) := by
  intro k
  induction k with
  | zero =>
    exact ⟨fun _ _ _ _ _ _ _ _ _ _ _ _ hf => (by cases hf), fun _ _ _ _ _ _ _ _ _ _ _ _ _ hf => (by cases hf)⟩
  | succ k ih =>
    refine ⟨?_, ?_⟩
    · intro v3 v4 v5 v7 σ H locs hP hD hS ls hl hf
      have hf : (if (v3 + v4) ≤ v7 then (some (v5, σ)) else ((lfX1_product_14_15 K k).2 v3 v4 v5 v7 0 σ) : Option (Int64 × pM)) = some res := hf
      refine lv_iload hx hb dX1_product_6 (lv_at hl 5 rfl) ?_
      refine lv_iload_n hx hb dX1_product_8 rfl (lv_at hl 2 rfl) ?_
      refine lv_iload hx hb dX1_product_9 (lv_at hl 3 rfl) ?_
      refine lv_iadd hx hb dX1_product_11 ?_
      refine lv_icmp_ge (tgt := 70) hx hb dX1_product_12 (by decide) (fun c12 => ?_) (fun c12 => ?_)
      · have hf := dz_t c12 hf
        refine lv_lload hx hb dX1_product_70 (lv_at hl 4 rfl) ?_
        exact W.lret (v := v5) hx hb hr (fun t ht hW => ⟨⟨v5, σ, rfl, Option.some.inj hf, by rw [ht]; exact hP, va_K.moved hW.alike hK, hD⟩, hS.F ht⟩) hS.2.2 dX1_product_72
      · have hf := dz_f c12 hf
        refine lv_iconst (v := 0) hx hb dX1_product_15 (by decide) ?_
        refine lv_istore (lv' := [(8, .int 0), (1, .ref (ad 14)), (2, .ref (ad 15)), (3, .int v3), (4, .int v4), (5, .long v5), (7, .int v7)]) hx hb dX1_product_16 hl (by decide) rfl (fun ls hl => ?_)
        exact ih.2 v3 v4 v5 v7 0 σ H locs hP hD hS ls (lv_sub hl [1, 2, 3, 4, 5, 6, 0] rfl) hf
    · intro v3 v4 v5 v7 v8 σ H locs hP hD hS ls hl hf
      have hf : (if ¬ (v7 < 0 ∨ 1044 ≤ Int32.toNatClampNeg v7) then (dz_l (σ.2.2.1 15 (Int32.toNatClampNeg v7)) fun x2 => if x2 ≤ v8 then (dz_l (v7 + 1) fun x3 => (lfX1_product_14_15 K k).1 v3 v4 v5 x3 σ) else (if ¬ (v7 < 0 ∨ 1044 ≤ Int32.toNatClampNeg v7) then (dz_l (σ.2.2.1 14 (Int32.toNatClampNeg v7)) fun x5 => dz_l (Int32.toInt64 x5) fun x6 => if ¬ x6 = 0 then (dz_l (4000000000 / x6) fun x8 => if v5 ≤ x8 then (if ¬ (v7 < 0 ∨ 1044 ≤ Int32.toNatClampNeg v7) then (dz_l (σ.2.2.1 14 (Int32.toNatClampNeg v7)) fun x10 => dz_l (v5 * (Int32.toInt64 x10)) fun x11 => dz_l (v8 + 1) fun x12 => (lfX1_product_14_15 K k).2 v3 v4 x11 v7 x12 σ) else none) else (dz_l (v8 + 1) fun x13 => (lfX1_product_14_15 K k).2 v3 v4 4000000000 v7 x13 σ)) else none) else none)) else none : Option (Int64 × pM)) = some res := hf
      refine lv_iload hx hb dX1_product_18 (lv_at hl 6 rfl) ?_
      refine lv_aload_n hx hb dX1_product_20 rfl (lv_at hl 1 rfl) ?_
      refine lv_iload hx hb dX1_product_21 (lv_at hl 5 rfl) ?_
      obtain ⟨g1, hf⟩ := dz_go hf
      refine va_iald hx hb hK hP 13 0 rfl rfl g1 dX1_product_23 ?_
      refine lv_topi (fun x2 e_x2 => ?_)
      have hf := dz_ls e_x2 hf
      refine lv_icmp_ge (tgt := 64) hx hb dX1_product_24 (by decide) (fun c24 => ?_) (fun c24 => ?_)
      · have hf := dz_t c24 hf
        obtain ⟨x3, e_x3, hf⟩ := dz_lo hf
        refine lv_iinc (v := x3) (lv' := [(7, .int x3), (1, .ref (ad 14)), (2, .ref (ad 15)), (3, .int v3), (4, .int v4), (5, .long v5), (8, .int v8)]) hx hb dX1_product_64 hl (k := 5) rfl (by rw [e_x3]; rfl) (by decide) rfl (fun ls hl => ?_)
        refine lv_goto (tgt := 6) hx hb dX1_product_67 (by decide) ?_
        exact ih.1 v3 v4 v5 x3 σ H locs hP hD hS ls (lv_sub hl [1, 2, 3, 4, 5, 0] rfl) hf
      · have hf := dz_f c24 hf
        refine lv_lload hx hb dX1_product_27 (lv_at hl 4 rfl) ?_
        refine lv_ldc2 (v := 4000000000) hx hb hown (hts _ q1825) dX1_product_29 ?_
        refine lv_aload_n hx hb dX1_product_32 rfl (lv_at hl 0 rfl) ?_
        refine lv_iload hx hb dX1_product_33 (lv_at hl 5 rfl) ?_
        obtain ⟨g4, hf⟩ := dz_go hf
        refine va_iald hx hb hK hP 12 0 rfl rfl g4 dX1_product_35 ?_
        refine lv_topi (fun x5 e_x5 => ?_)
        have hf := dz_ls e_x5 hf
        refine lv_i2l hx hb dX1_product_36 (rfl : _ = Int32.toInt64 x5) ?_
        refine lv_topl (fun x6 e_x6 => ?_)
        have hf := dz_ls e_x6 hf
        obtain ⟨g7, hf⟩ := dz_go hf
        refine lv_ldiv hx hb dX1_product_37 g7 ?_
        refine lv_topl (fun x8 e_x8 => ?_)
        have hf := dz_ls e_x8 hf
        refine W.lcmp hx hb dX1_product_38 ?_
        refine lv_if_le (tgt := 48) hx hb dX1_product_39 (by decide) (fun c39 => ?_) (fun c39 => ?_)
        · have c39 : v5 ≤ x8 := (lg_cmp_le _ _).mp c39
          have hf := dz_t c39 hf
          refine lv_lload hx hb dX1_product_48 (lv_at hl 4 rfl) ?_
          refine lv_aload_n hx hb dX1_product_50 rfl (lv_at hl 0 rfl) ?_
          refine lv_iload hx hb dX1_product_51 (lv_at hl 5 rfl) ?_
          obtain ⟨g9, hf⟩ := dz_go hf
          refine va_iald hx hb hK hP 12 0 rfl rfl g9 dX1_product_53 ?_
          refine lv_topi (fun x10 e_x10 => ?_)
          have hf := dz_ls e_x10 hf
          refine lv_i2l hx hb dX1_product_54 (rfl : _ = Int32.toInt64 x10) ?_
          refine lv_lmul hx hb dX1_product_55 ?_
          refine lv_topl (fun x11 e_x11 => ?_)
          have hf := dz_ls e_x11 hf
          refine lv_lstore (lv' := [(5, .long x11), (1, .ref (ad 14)), (2, .ref (ad 15)), (3, .int v3), (4, .int v4), (7, .int v7), (8, .int v8)]) hx hb dX1_product_56 hl (by decide) rfl (fun ls hl => ?_)
          obtain ⟨x12, e_x12, hf⟩ := dz_lo hf
          refine lv_iinc (v := x12) (lv' := [(8, .int x12), (5, .long x11), (1, .ref (ad 14)), (2, .ref (ad 15)), (3, .int v3), (4, .int v4), (7, .int v7)]) hx hb dX1_product_58 hl (k := 6) rfl (by rw [e_x12]; rfl) (by decide) rfl (fun ls hl => ?_)
          refine lv_goto (tgt := 18) hx hb dX1_product_61 (by decide) ?_
          exact ih.2 v3 v4 x11 v7 x12 σ H locs hP hD hS ls (lv_sub hl [2, 3, 4, 5, 1, 6, 0] rfl) hf
        · have c39 : ¬ v5 ≤ x8 := fun hq => c39 ((lg_cmp_le _ _).mpr hq)
          have hf := dz_f c39 hf
          refine lv_ldc2 (v := 4000000000) hx hb hown (hts _ q1825) dX1_product_42 ?_
          refine lv_goto (tgt := 56) hx hb dX1_product_45 (by decide) ?_
          refine lv_lstore (lv' := [(5, .long 4000000000), (1, .ref (ad 14)), (2, .ref (ad 15)), (3, .int v3), (4, .int v4), (7, .int v7), (8, .int v8)]) hx hb dX1_product_56 hl (by decide) rfl (fun ls hl => ?_)
          obtain ⟨x13, e_x13, hf⟩ := dz_lo hf
          refine lv_iinc (v := x13) (lv' := [(8, .int x13), (5, .long 4000000000), (1, .ref (ad 14)), (2, .ref (ad 15)), (3, .int v3), (4, .int v4), (7, .int v7)]) hx hb dX1_product_58 hl (k := 6) rfl (by rw [e_x13]; rfl) (by decide) rfl (fun ls hl => ?_)
          refine lv_goto (tgt := 18) hx hb dX1_product_61 (by decide) ?_
          exact ih.2 v3 v4 4000000000 v7 x13 σ H locs hP hD hS ls (lv_sub hl [2, 3, 4, 5, 1, 6, 0] rfl) hf
set_option maxHeartbeats 4000000 in
set_option maxRecDepth 100000 in
theorem mtX1_product_14_15 (l : Launch) (D : va_G) (cl : List vw_C) (ci : Nat) (hci : cl[ci]? = some (RX1, TX1, 35)) (h : Nat) (ad : Nat → Nat) (cA : Nat → ClassId) (sz : Nat) (σ : pM) (a0 : Int32) (a1 : Int32) (K : Nat) (res : (Int64 × pM)) (hf : fnX1_product_14_15 K a0 a1 σ = some res) : Met l yX1_product (ws_ yX1_product cX1_product 9 (some .long)) ({ frames := 0, cells := 0, slots := 0, locals := 0 }) (mPc D cl ci h ad cA sz σ [.ref h, .ref (ad 14), .ref (ad 15), .int a0, .int a1]) (mQl D cl ci h ad cA (va_A (mw ci h ad cA σ) sz) res) 0 0 (va_A (mw ci h ad cA σ) sz) := by
  refine Met.ofW (cc := cX1_product) (maxL := 9) (ret := some .long) (by decide +kernel) rfl ?_
  intro p e s m args below meth c s₁ B hml hv
  obtain ⟨rfl, hsz, hP, hK, hD0⟩ := hv
  have hx := B.exec
  have hb := B.bytes
  have hr := B.returns
  have hts := atoms_spec (ws := ws_ yX1_product cX1_product 9 (some .long)) B.pre
  have hts : ∀ w ∈ lw_all, w.before _ s = true := fun w h => hts w (List.mem_cons_of_mem _ h)
  have hown : s.vm.findClass RX1 = some m.cls := findClass_of_methodNamed B.named
  have hlocks := B.notSynchronized
  subst hsz
  have hD := hD0.self (sz := s.heap.size)
  generalize hAe : va_A (mw ci h ad cA σ) s.heap.size = A at hD ⊢
  have hA : ∀ q : Nat, s.heap.size ≤ q → A q := fun q h => by rw [← hAe]; exact Or.inr h
  clear hAe hD0
  have hS : va_S A s.heap s.heap [] := va_S.rf
  generalize hHe : s.heap = H at hP hS ⊢
  have hS : va_S A s.heap H [] := by rw [hHe]; exact hS
  generalize ([] : List Loc) = locs at hS ⊢
  have hl := lv_entry ([.ref h, .ref (ad 14), .ref (ad 15), .int a0, .int a1]) (n := 9) (Nat.le_of_ble_eq_true rfl)
  rw [lg_entry_eq]
  generalize (lg_sl ([.ref h, .ref (ad 14), .ref (ad 15), .int a0, .int a1]) ++ List.replicate (9 - (lg_sl ([.ref h, .ref (ad 14), .ref (ad 15), .int a0, .int a1])).length) Slot.unset).toArray = ls at hl ⊢
  have hl : lv_has ls 9 [(0, .ref h), (1, .ref (ad 14)), (2, .ref (ad 15)), (3, .int a0), (4, .int a1)] := hl
  have hf : ((lfX1_product_14_15 K K).1 a0 a1 1 a0 σ : Option (Int64 × pM)) = some res := hf
  have ih := wlX1_product_14_15 (l := l) (e := e) (below := below) (h := h) (ad := ad) (cA := cA) hci hA hK K res a0 a1 hx hb hr hlocks hml hown hts K
  refine lv_lconst (v := 1) hx hb dX1_product_0 rfl ?_
  refine lv_lstore (lv' := [(5, .long 1), (0, .ref h), (1, .ref (ad 14)), (2, .ref (ad 15)), (3, .int a0), (4, .int a1)]) hx hb dX1_product_1 hl (by decide) rfl (fun ls hl => ?_)
  refine lv_iload_n hx hb dX1_product_3 rfl (lv_at hl 4 rfl) ?_
  refine lv_istore (lv' := [(7, .int a0), (5, .long 1), (0, .ref h), (1, .ref (ad 14)), (2, .ref (ad 15)), (3, .int a0), (4, .int a1)]) hx hb dX1_product_4 hl (by decide) rfl (fun ls hl => ?_)
  exact ih.1 a0 a1 1 a0 σ H locs hP hD hS ls (lv_sub hl [3, 4, 5, 6, 1, 0] rfl) hf

noncomputable def fnX1_below (K : Nat) (a0 : Int32) (σ : pM) : Option (Int64 × pM) := if ¬ (a0 < 0 ∨ 116 ≤ Int32.toNatClampNeg a0) then (dz_l (σ.2.2.1 12 (Int32.toNatClampNeg a0)) fun x2 => dz_c (fnX1_product_14_15 K (9 * a0) x2 σ) fun x3 s4 => some (x3, s4)) else none
set_option maxHeartbeats 4000000 in
set_option maxRecDepth 100000 in
theorem mtX1_below (l : Launch) (D : va_G) (cl : List vw_C) (ci : Nat) (hci : cl[ci]? = some (RX1, TX1, 35)) (h : Nat) (ad : Nat → Nat) (cA : Nat → ClassId) (sz : Nat) (σ : pM) (a0 : Int32) (K : Nat) (res : (Int64 × pM)) (hf : fnX1_below K a0 σ = some res) : Met l yX1_below (ws_ yX1_below cX1_below 2 (some .long)) ({ frames := 1, cells := 0, slots := 0, locals := 28 }) (mPc D cl ci h ad cA sz σ [.ref h, .int a0]) (mQl D cl ci h ad cA (va_A (mw ci h ad cA σ) sz) res) 0 0 (va_A (mw ci h ad cA σ) sz) := by
  refine Met.ofW (cc := cX1_below) (maxL := 2) (ret := some .long) (by decide +kernel) rfl ?_
  intro p e s m args below meth c s₁ B hml hv
  obtain ⟨rfl, hsz, hP, hK, hD0⟩ := hv
  have hx := B.exec
  have hb := B.bytes
  have hr := B.returns
  have hts := atoms_spec (ws := ws_ yX1_below cX1_below 2 (some .long)) B.pre
  have hts : ∀ w ∈ lw_all, w.before _ s = true := fun w h => hts w (List.mem_cons_of_mem _ h)
  have hown : s.vm.findClass RX1 = some m.cls := findClass_of_methodNamed B.named
  have hlocks := B.notSynchronized
  subst hsz
  have hD := hD0.self (sz := s.heap.size)
  generalize hAe : va_A (mw ci h ad cA σ) s.heap.size = A at hD ⊢
  have hA : ∀ q : Nat, s.heap.size ≤ q → A q := fun q h => by rw [← hAe]; exact Or.inr h
  clear hAe hD0
  have hS : va_S A s.heap s.heap [] := va_S.rf
  generalize hHe : s.heap = H at hP hS ⊢
  have hS : va_S A s.heap H [] := by rw [hHe]; exact hS
  generalize ([] : List Loc) = locs at hS ⊢
  have hl := lv_entry ([.ref h, .int a0]) (n := 2) (Nat.le_of_ble_eq_true rfl)
  rw [lg_entry_eq]
  generalize (lg_sl ([.ref h, .int a0]) ++ List.replicate (2 - (lg_sl ([.ref h, .int a0])).length) Slot.unset).toArray = ls at hl ⊢
  have hl : lv_has ls 2 [(0, .ref h), (1, .int a0)] := hl
  have hf : (if ¬ (a0 < 0 ∨ 116 ≤ Int32.toNatClampNeg a0) then (dz_l (σ.2.2.1 12 (Int32.toNatClampNeg a0)) fun x2 => dz_c (fnX1_product_14_15 K (9 * a0) x2 σ) fun x3 s4 => some (x3, s4)) else none : Option (Int64 × pM)) = some res := hf
  refine lv_aload_n hx hb dX1_below_0 rfl (lv_at hl 0 rfl) ?_
  refine lv_aload_n hx hb dX1_below_1 rfl (lv_at hl 0 rfl) ?_
  refine va_get (C := RX1) (T := TX1) (N := 35) (fs := mwF ad σ) (v := .ref (ad 14)) hx hb hts in_X1 hown hK hP 0 rfl hci 14 (by decide) (hts _ q1685) (fun _ hq => hq) rfl dX1_below_2 ?_
  refine lv_aload_n hx hb dX1_below_5 rfl (lv_at hl 0 rfl) ?_
  refine va_get (C := RX1) (T := TX1) (N := 35) (fs := mwF ad σ) (v := .ref (ad 15)) hx hb hts in_X1 hown hK hP 0 rfl hci 15 (by decide) (hts _ q1686) (fun _ hq => hq) rfl dX1_below_6 ?_
  refine lv_bipush (v := 9) hx hb dX1_below_9 (by decide) ?_
  refine lv_iload_n hx hb dX1_below_11 rfl (lv_at hl 1 rfl) ?_
  refine lv_imul hx hb dX1_below_12 ?_
  refine lv_aload_n hx hb dX1_below_13 rfl (lv_at hl 0 rfl) ?_
  refine va_get (C := RX1) (T := TX1) (N := 35) (fs := mwF ad σ) (v := .ref (ad 12)) hx hb hts in_X1 hown hK hP 0 rfl hci 12 (by decide) (hts _ q1683) (fun _ hq => hq) rfl dX1_below_14 ?_
  refine lv_iload_n hx hb dX1_below_17 rfl (lv_at hl 1 rfl) ?_
  obtain ⟨g1, hf⟩ := dz_go hf
  refine va_iald hx hb hK hP 10 0 rfl rfl g1 dX1_below_18 ?_
  refine lv_topi (fun x2 e_x2 => ?_)
  have hf := dz_ls e_x2 hf
  obtain ⟨x3, s4, hx3, hf⟩ := dz_co hf
  have hFc := dz_free hD hS hA
  refine va_calll (va_runV (As := [.ref (ad 14), .ref (ad 15), .int (9 * a0), .int x2]) (rest := []) ⟨hx, hb, hml, hown, hts⟩ (mtX1_product_14_15 l D cl ci hci h ad cA H.size σ (9 * a0) x2 K (x3, s4) hx3) (cwV 4 hts (lw_V q1821 q1823 qs42 q88 q1824) rfl rfl rfl (by decide +kernel) ⟨Nat.le_of_ble_eq_true rfl, Nat.le_of_ble_eq_true rfl⟩) (m_preV hci hK hP hD) rfl rfl hl.1 rfl (lv_room (Nat.le_of_ble_eq_true rfl)) dX1_below_19 ⟨Nat.le_refl _, Nat.le_refl _⟩) hS (fun q _ hq => hFc q hq) hFc (fun r u t H1 locs ht hvm hw hB hz hk hS => ?_)
  obtain ⟨hw1, hw2⟩ := Prod.mk.inj hw.symm; subst hw1; subst hw2
  replace hP := m_back ht hB
  replace hD := mw_D s4 hD
  clear hB hk hz hvm ht hFc; generalize H1 = H at hP hS ⊢
  exact W.lret (v := x3) hx hb hr (fun t ht hW => ⟨⟨x3, s4, rfl, Option.some.inj hf, by rw [ht]; exact hP, va_K.moved hW.alike hK, hD⟩, hS.F ht⟩) hS.2.2 dX1_below_22

noncomputable def lfX1_product_17_18 (K : Nat) : Nat → (Int32 → Int32 → Int64 → Int32 → pM → Option (Int64 × pM)) × (Int32 → Int32 → Int64 → Int32 → Int32 → pM → Option (Int64 × pM)) := Nat.rec (motive := fun _ => (Int32 → Int32 → Int64 → Int32 → pM → Option (Int64 × pM)) × (Int32 → Int32 → Int64 → Int32 → Int32 → pM → Option (Int64 × pM))) ((fun _ _ _ _ _ => none), (fun _ _ _ _ _ _ => none)) (fun _ G => ((fun v3 v4 v5 v7 σ => if (v3 + v4) ≤ v7 then (some (v5, σ)) else (G.2 v3 v4 v5 v7 0 σ)), (fun v3 v4 v5 v7 v8 σ => if ¬ (v7 < 0 ∨ 1044 ≤ Int32.toNatClampNeg v7) then (dz_l (σ.2.2.1 18 (Int32.toNatClampNeg v7)) fun x2 => if x2 ≤ v8 then (dz_l (v7 + 1) fun x3 => G.1 v3 v4 v5 x3 σ) else (if ¬ (v7 < 0 ∨ 1044 ≤ Int32.toNatClampNeg v7) then (dz_l (σ.2.2.1 17 (Int32.toNatClampNeg v7)) fun x5 => dz_l (Int32.toInt64 x5) fun x6 => if ¬ x6 = 0 then (dz_l (4000000000 / x6) fun x8 => if v5 ≤ x8 then (if ¬ (v7 < 0 ∨ 1044 ≤ Int32.toNatClampNeg v7) then (dz_l (σ.2.2.1 17 (Int32.toNatClampNeg v7)) fun x10 => dz_l (v5 * (Int32.toInt64 x10)) fun x11 => dz_l (v8 + 1) fun x12 => G.2 v3 v4 x11 v7 x12 σ) else none) else (dz_l (v8 + 1) fun x13 => G.2 v3 v4 4000000000 v7 x13 σ)) else none) else none)) else none)))
noncomputable def fnX1_product_17_18 (K : Nat) (a0 : Int32) (a1 : Int32) (σ : pM) : Option (Int64 × pM) := (lfX1_product_17_18 K K).1 a0 a1 1 a0 σ
set_option maxHeartbeats 4000000 in
set_option maxRecDepth 100000 in
theorem wlX1_product_17_18 {p : Program} {l : Launch} {e : Env} {s : State} {m : MethodId} {below : List Frame} {meth : Method} {c : Code} {D : va_G} {cl : List vw_C} {ci : Nat} (hci : cl[ci]? = some (RX1, TX1, 35)) {h : Nat} {ad : Nat → Nat} {cA : Nat → ClassId} {A : Nat → Prop} (hA : ∀ q : Nat, s.heap.size ≤ q → A q) (hK : va_K D cl (mtys cA) s) (K : Nat) (res : (Int64 × pM)) (a0 : Int32) (a1 : Int32) (hx : p.tables.exec = Jvm.exec) (hb : c.code = cX1_product) (hr : meth.sig.returnType = some .long) (hlocks : meth.locks = false) (hml : c.maxLocals = 9) (hown : s.vm.findClass RX1 = some m.cls) (hts : ∀ w ∈ lw_all, w.before ([.ref h, .ref (ad 17), .ref (ad 18), .int a0, .int a1] : List Value).toArray s = true) : ∀ k : Nat, (∀ (v3 : Int32) (v4 : Int32) (v5 : Int64) (v7 : Int32) (σ : pM) (H : Heap) (locs : List Loc), va_P D cl (mw ci h ad cA σ) H → va_D A (mw ci h ad cA σ) → va_S A s.heap H locs → ∀ (ls : Array Slot), lv_has ls 9 [(1, .ref (ad 17)), (2, .ref (ad 18)), (3, .int v3), (4, .int v4), (5, .long v5), (7, .int v7)] → (lfX1_product_17_18 K k).1 v3 v4 v5 v7 σ = some res → W p l e (headSpec (ws_ yX1_product cX1_product 9 (some .long)) ({ frames := 0, cells := 0, slots := 0, locals := 0 })).room s m ([.ref h, .ref (ad 17), .ref (ad 18), .int a0, .int a1] : List Value).toArray below meth c H locs 0 0 (MQ below (mQl D cl ci h ad cA A res) ([.ref h, .ref (ad 17), .ref (ad 18), .int a0, .int a1] : List Value).toArray s 0 0 A) (F0 m 6 ls [])) ∧ (∀ (v3 : Int32) (v4 : Int32) (v5 : Int64) (v7 : Int32) (v8 : Int32) (σ : pM) (H : Heap) (locs : List Loc), va_P D cl (mw ci h ad cA σ) H → va_D A (mw ci h ad cA σ) → va_S A s.heap H locs → ∀ (ls : Array Slot), lv_has ls 9 [(1, .ref (ad 17)), (2, .ref (ad 18)), (3, .int v3), (4, .int v4), (5, .long v5), (7, .int v7), (8, .int v8)] → (lfX1_product_17_18 K k).2 v3 v4 v5 v7 v8 σ = some res → W p l e (headSpec (ws_ yX1_product cX1_product 9 (some .long)) ({ frames := 0, cells := 0, slots := 0, locals := 0 })).room s m ([.ref h, .ref (ad 17), .ref (ad 18), .int a0, .int a1] : List Value).toArray below meth c H locs 0 0 (MQ below (mQl D cl ci h ad cA A res) ([.ref h, .ref (ad 17), .ref (ad 18), .int a0, .int a1] : List Value).toArray s 0 0 A) (F0 m 18 ls [])) := by
  intro k
  induction k with
  | zero =>
    exact ⟨fun _ _ _ _ _ _ _ _ _ _ _ _ hf => (by cases hf), fun _ _ _ _ _ _ _ _ _ _ _ _ _ hf => (by cases hf)⟩
  | succ k ih =>
    refine ⟨?_, ?_⟩
    · intro v3 v4 v5 v7 σ H locs hP hD hS ls hl hf
      have hf : (if (v3 + v4) ≤ v7 then (some (v5, σ)) else ((lfX1_product_17_18 K k).2 v3 v4 v5 v7 0 σ) : Option (Int64 × pM)) = some res := hf
      refine lv_iload hx hb dX1_product_6 (lv_at hl 5 rfl) ?_
      refine lv_iload_n hx hb dX1_product_8 rfl (lv_at hl 2 rfl) ?_
      refine lv_iload hx hb dX1_product_9 (lv_at hl 3 rfl) ?_
      refine lv_iadd hx hb dX1_product_11 ?_
      refine lv_icmp_ge (tgt := 70) hx hb dX1_product_12 (by decide) (fun c12 => ?_) (fun c12 => ?_)
      · have hf := dz_t c12 hf
        refine lv_lload hx hb dX1_product_70 (lv_at hl 4 rfl) ?_
        exact W.lret (v := v5) hx hb hr (fun t ht hW => ⟨⟨v5, σ, rfl, Option.some.inj hf, by rw [ht]; exact hP, va_K.moved hW.alike hK, hD⟩, hS.F ht⟩) hS.2.2 dX1_product_72
      · have hf := dz_f c12 hf
        refine lv_iconst (v := 0) hx hb dX1_product_15 (by decide) ?_
        refine lv_istore (lv' := [(8, .int 0), (1, .ref (ad 17)), (2, .ref (ad 18)), (3, .int v3), (4, .int v4), (5, .long v5), (7, .int v7)]) hx hb dX1_product_16 hl (by decide) rfl (fun ls hl => ?_)
        exact ih.2 v3 v4 v5 v7 0 σ H locs hP hD hS ls (lv_sub hl [1, 2, 3, 4, 5, 6, 0] rfl) hf
    · intro v3 v4 v5 v7 v8 σ H locs hP hD hS ls hl hf
      have hf : (if ¬ (v7 < 0 ∨ 1044 ≤ Int32.toNatClampNeg v7) then (dz_l (σ.2.2.1 18 (Int32.toNatClampNeg v7)) fun x2 => if x2 ≤ v8 then (dz_l (v7 + 1) fun x3 => (lfX1_product_17_18 K k).1 v3 v4 v5 x3 σ) else (if ¬ (v7 < 0 ∨ 1044 ≤ Int32.toNatClampNeg v7) then (dz_l (σ.2.2.1 17 (Int32.toNatClampNeg v7)) fun x5 => dz_l (Int32.toInt64 x5) fun x6 => if ¬ x6 = 0 then (dz_l (4000000000 / x6) fun x8 => if v5 ≤ x8 then (if ¬ (v7 < 0 ∨ 1044 ≤ Int32.toNatClampNeg v7) then (dz_l (σ.2.2.1 17 (Int32.toNatClampNeg v7)) fun x10 => dz_l (v5 * (Int32.toInt64 x10)) fun x11 => dz_l (v8 + 1) fun x12 => (lfX1_product_17_18 K k).2 v3 v4 x11 v7 x12 σ) else none) else (dz_l (v8 + 1) fun x13 => (lfX1_product_17_18 K k).2 v3 v4 4000000000 v7 x13 σ)) else none) else none)) else none : Option (Int64 × pM)) = some res := hf
      refine lv_iload hx hb dX1_product_18 (lv_at hl 6 rfl) ?_
      refine lv_aload_n hx hb dX1_product_20 rfl (lv_at hl 1 rfl) ?_
      refine lv_iload hx hb dX1_product_21 (lv_at hl 5 rfl) ?_
      obtain ⟨g1, hf⟩ := dz_go hf
      refine va_iald hx hb hK hP 16 0 rfl rfl g1 dX1_product_23 ?_
      refine lv_topi (fun x2 e_x2 => ?_)
      have hf := dz_ls e_x2 hf
      refine lv_icmp_ge (tgt := 64) hx hb dX1_product_24 (by decide) (fun c24 => ?_) (fun c24 => ?_)
      · have hf := dz_t c24 hf
        obtain ⟨x3, e_x3, hf⟩ := dz_lo hf
        refine lv_iinc (v := x3) (lv' := [(7, .int x3), (1, .ref (ad 17)), (2, .ref (ad 18)), (3, .int v3), (4, .int v4), (5, .long v5), (8, .int v8)]) hx hb dX1_product_64 hl (k := 5) rfl (by rw [e_x3]; rfl) (by decide) rfl (fun ls hl => ?_)
        refine lv_goto (tgt := 6) hx hb dX1_product_67 (by decide) ?_
        exact ih.1 v3 v4 v5 x3 σ H locs hP hD hS ls (lv_sub hl [1, 2, 3, 4, 5, 0] rfl) hf
      · have hf := dz_f c24 hf
        refine lv_lload hx hb dX1_product_27 (lv_at hl 4 rfl) ?_
        refine lv_ldc2 (v := 4000000000) hx hb hown (hts _ q1825) dX1_product_29 ?_
        refine lv_aload_n hx hb dX1_product_32 rfl (lv_at hl 0 rfl) ?_
        refine lv_iload hx hb dX1_product_33 (lv_at hl 5 rfl) ?_
        obtain ⟨g4, hf⟩ := dz_go hf
        refine va_iald hx hb hK hP 15 0 rfl rfl g4 dX1_product_35 ?_
        refine lv_topi (fun x5 e_x5 => ?_)
        have hf := dz_ls e_x5 hf
        refine lv_i2l hx hb dX1_product_36 (rfl : _ = Int32.toInt64 x5) ?_
        refine lv_topl (fun x6 e_x6 => ?_)
        have hf := dz_ls e_x6 hf
        obtain ⟨g7, hf⟩ := dz_go hf
        refine lv_ldiv hx hb dX1_product_37 g7 ?_
        refine lv_topl (fun x8 e_x8 => ?_)
        have hf := dz_ls e_x8 hf
        refine W.lcmp hx hb dX1_product_38 ?_
        refine lv_if_le (tgt := 48) hx hb dX1_product_39 (by decide) (fun c39 => ?_) (fun c39 => ?_)
        · have c39 : v5 ≤ x8 := (lg_cmp_le _ _).mp c39
          have hf := dz_t c39 hf
          refine lv_lload hx hb dX1_product_48 (lv_at hl 4 rfl) ?_
          refine lv_aload_n hx hb dX1_product_50 rfl (lv_at hl 0 rfl) ?_
          refine lv_iload hx hb dX1_product_51 (lv_at hl 5 rfl) ?_
          obtain ⟨g9, hf⟩ := dz_go hf
          refine va_iald hx hb hK hP 15 0 rfl rfl g9 dX1_product_53 ?_
          refine lv_topi (fun x10 e_x10 => ?_)
          have hf := dz_ls e_x10 hf
          refine lv_i2l hx hb dX1_product_54 (rfl : _ = Int32.toInt64 x10) ?_
          refine lv_lmul hx hb dX1_product_55 ?_
          refine lv_topl (fun x11 e_x11 => ?_)
          have hf := dz_ls e_x11 hf
          refine lv_lstore (lv' := [(5, .long x11), (1, .ref (ad 17)), (2, .ref (ad 18)), (3, .int v3), (4, .int v4), (7, .int v7), (8, .int v8)]) hx hb dX1_product_56 hl (by decide) rfl (fun ls hl => ?_)
          obtain ⟨x12, e_x12, hf⟩ := dz_lo hf
          refine lv_iinc (v := x12) (lv' := [(8, .int x12), (5, .long x11), (1, .ref (ad 17)), (2, .ref (ad 18)), (3, .int v3), (4, .int v4), (7, .int v7)]) hx hb dX1_product_58 hl (k := 6) rfl (by rw [e_x12]; rfl) (by decide) rfl (fun ls hl => ?_)
          refine lv_goto (tgt := 18) hx hb dX1_product_61 (by decide) ?_
          exact ih.2 v3 v4 x11 v7 x12 σ H locs hP hD hS ls (lv_sub hl [2, 3, 4, 5, 1, 6, 0] rfl) hf
        · have c39 : ¬ v5 ≤ x8 := fun hq => c39 ((lg_cmp_le _ _).mpr hq)
          have hf := dz_f c39 hf
          refine lv_ldc2 (v := 4000000000) hx hb hown (hts _ q1825) dX1_product_42 ?_
          refine lv_goto (tgt := 56) hx hb dX1_product_45 (by decide) ?_
          refine lv_lstore (lv' := [(5, .long 4000000000), (1, .ref (ad 17)), (2, .ref (ad 18)), (3, .int v3), (4, .int v4), (7, .int v7), (8, .int v8)]) hx hb dX1_product_56 hl (by decide) rfl (fun ls hl => ?_)
          obtain ⟨x13, e_x13, hf⟩ := dz_lo hf
          refine lv_iinc (v := x13) (lv' := [(8, .int x13), (5, .long 4000000000), (1, .ref (ad 17)), (2, .ref (ad 18)), (3, .int v3), (4, .int v4), (7, .int v7)]) hx hb dX1_product_58 hl (k := 6) rfl (by rw [e_x13]; rfl) (by decide) rfl (fun ls hl => ?_)
          refine lv_goto (tgt := 18) hx hb dX1_product_61 (by decide) ?_
          exact ih.2 v3 v4 4000000000 v7 x13 σ H locs hP hD hS ls (lv_sub hl [2, 3, 4, 5, 1, 6, 0] rfl) hf
set_option maxHeartbeats 4000000 in
set_option maxRecDepth 100000 in
theorem mtX1_product_17_18 (l : Launch) (D : va_G) (cl : List vw_C) (ci : Nat) (hci : cl[ci]? = some (RX1, TX1, 35)) (h : Nat) (ad : Nat → Nat) (cA : Nat → ClassId) (sz : Nat) (σ : pM) (a0 : Int32) (a1 : Int32) (K : Nat) (res : (Int64 × pM)) (hf : fnX1_product_17_18 K a0 a1 σ = some res) : Met l yX1_product (ws_ yX1_product cX1_product 9 (some .long)) ({ frames := 0, cells := 0, slots := 0, locals := 0 }) (mPc D cl ci h ad cA sz σ [.ref h, .ref (ad 17), .ref (ad 18), .int a0, .int a1]) (mQl D cl ci h ad cA (va_A (mw ci h ad cA σ) sz) res) 0 0 (va_A (mw ci h ad cA σ) sz) := by
  refine Met.ofW (cc := cX1_product) (maxL := 9) (ret := some .long) (by decide +kernel) rfl ?_
  intro p e s m args below meth c s₁ B hml hv
  obtain ⟨rfl, hsz, hP, hK, hD0⟩ := hv
  have hx := B.exec
  have hb := B.bytes
  have hr := B.returns
  have hts := atoms_spec (ws := ws_ yX1_product cX1_product 9 (some .long)) B.pre
  have hts : ∀ w ∈ lw_all, w.before _ s = true := fun w h => hts w (List.mem_cons_of_mem _ h)
  have hown : s.vm.findClass RX1 = some m.cls := findClass_of_methodNamed B.named
  have hlocks := B.notSynchronized
  subst hsz
  have hD := hD0.self (sz := s.heap.size)
  generalize hAe : va_A (mw ci h ad cA σ) s.heap.size = A at hD ⊢
  have hA : ∀ q : Nat, s.heap.size ≤ q → A q := fun q h => by rw [← hAe]; exact Or.inr h
  clear hAe hD0
  have hS : va_S A s.heap s.heap [] := va_S.rf
  generalize hHe : s.heap = H at hP hS ⊢
  have hS : va_S A s.heap H [] := by rw [hHe]; exact hS
  generalize ([] : List Loc) = locs at hS ⊢
  have hl := lv_entry ([.ref h, .ref (ad 17), .ref (ad 18), .int a0, .int a1]) (n := 9) (Nat.le_of_ble_eq_true rfl)
  rw [lg_entry_eq]
  generalize (lg_sl ([.ref h, .ref (ad 17), .ref (ad 18), .int a0, .int a1]) ++ List.replicate (9 - (lg_sl ([.ref h, .ref (ad 17), .ref (ad 18), .int a0, .int a1])).length) Slot.unset).toArray = ls at hl ⊢
  have hl : lv_has ls 9 [(0, .ref h), (1, .ref (ad 17)), (2, .ref (ad 18)), (3, .int a0), (4, .int a1)] := hl
  have hf : ((lfX1_product_17_18 K K).1 a0 a1 1 a0 σ : Option (Int64 × pM)) = some res := hf
  have ih := wlX1_product_17_18 (l := l) (e := e) (below := below) (h := h) (ad := ad) (cA := cA) hci hA hK K res a0 a1 hx hb hr hlocks hml hown hts K
  refine lv_lconst (v := 1) hx hb dX1_product_0 rfl ?_
  refine lv_lstore (lv' := [(5, .long 1), (0, .ref h), (1, .ref (ad 17)), (2, .ref (ad 18)), (3, .int a0), (4, .int a1)]) hx hb dX1_product_1 hl (by decide) rfl (fun ls hl => ?_)
  refine lv_iload_n hx hb dX1_product_3 rfl (lv_at hl 4 rfl) ?_
  refine lv_istore (lv' := [(7, .int a0), (5, .long 1), (0, .ref h), (1, .ref (ad 17)), (2, .ref (ad 18)), (3, .int a0), (4, .int a1)]) hx hb dX1_product_4 hl (by decide) rfl (fun ls hl => ?_)
  exact ih.1 a0 a1 1 a0 σ H locs hP hD hS ls (lv_sub hl [3, 4, 5, 6, 1, 0] rfl) hf

noncomputable def fnX1_above (K : Nat) (a0 : Int32) (σ : pM) : Option (Int64 × pM) := if ¬ (a0 < 0 ∨ 116 ≤ Int32.toNatClampNeg a0) then (dz_l (σ.2.2.1 13 (Int32.toNatClampNeg a0)) fun x2 => dz_c (fnX1_product_17_18 K (9 * a0) x2 σ) fun x3 s4 => some (x3, s4)) else none
set_option maxHeartbeats 4000000 in
set_option maxRecDepth 100000 in
theorem mtX1_above (l : Launch) (D : va_G) (cl : List vw_C) (ci : Nat) (hci : cl[ci]? = some (RX1, TX1, 35)) (h : Nat) (ad : Nat → Nat) (cA : Nat → ClassId) (sz : Nat) (σ : pM) (a0 : Int32) (K : Nat) (res : (Int64 × pM)) (hf : fnX1_above K a0 σ = some res) : Met l yX1_above (ws_ yX1_above cX1_above 2 (some .long)) ({ frames := 1, cells := 0, slots := 0, locals := 28 }) (mPc D cl ci h ad cA sz σ [.ref h, .int a0]) (mQl D cl ci h ad cA (va_A (mw ci h ad cA σ) sz) res) 0 0 (va_A (mw ci h ad cA σ) sz) := by
  refine Met.ofW (cc := cX1_above) (maxL := 2) (ret := some .long) (by decide +kernel) rfl ?_
  intro p e s m args below meth c s₁ B hml hv
  obtain ⟨rfl, hsz, hP, hK, hD0⟩ := hv
  have hx := B.exec
  have hb := B.bytes
  have hr := B.returns
  have hts := atoms_spec (ws := ws_ yX1_above cX1_above 2 (some .long)) B.pre
  have hts : ∀ w ∈ lw_all, w.before _ s = true := fun w h => hts w (List.mem_cons_of_mem _ h)
  have hown : s.vm.findClass RX1 = some m.cls := findClass_of_methodNamed B.named
  have hlocks := B.notSynchronized
  subst hsz
  have hD := hD0.self (sz := s.heap.size)
  generalize hAe : va_A (mw ci h ad cA σ) s.heap.size = A at hD ⊢
  have hA : ∀ q : Nat, s.heap.size ≤ q → A q := fun q h => by rw [← hAe]; exact Or.inr h
  clear hAe hD0
  have hS : va_S A s.heap s.heap [] := va_S.rf
  generalize hHe : s.heap = H at hP hS ⊢
  have hS : va_S A s.heap H [] := by rw [hHe]; exact hS
  generalize ([] : List Loc) = locs at hS ⊢
  have hl := lv_entry ([.ref h, .int a0]) (n := 2) (Nat.le_of_ble_eq_true rfl)
  rw [lg_entry_eq]
  generalize (lg_sl ([.ref h, .int a0]) ++ List.replicate (2 - (lg_sl ([.ref h, .int a0])).length) Slot.unset).toArray = ls at hl ⊢
  have hl : lv_has ls 2 [(0, .ref h), (1, .int a0)] := hl
  have hf : (if ¬ (a0 < 0 ∨ 116 ≤ Int32.toNatClampNeg a0) then (dz_l (σ.2.2.1 13 (Int32.toNatClampNeg a0)) fun x2 => dz_c (fnX1_product_17_18 K (9 * a0) x2 σ) fun x3 s4 => some (x3, s4)) else none : Option (Int64 × pM)) = some res := hf
  refine lv_aload_n hx hb dX1_above_0 rfl (lv_at hl 0 rfl) ?_
  refine lv_aload_n hx hb dX1_above_1 rfl (lv_at hl 0 rfl) ?_
  refine va_get (C := RX1) (T := TX1) (N := 35) (fs := mwF ad σ) (v := .ref (ad 17)) hx hb hts in_X1 hown hK hP 0 rfl hci 17 (by decide) (hts _ q1688) (fun _ hq => hq) rfl dX1_above_2 ?_
  refine lv_aload_n hx hb dX1_above_5 rfl (lv_at hl 0 rfl) ?_
  refine va_get (C := RX1) (T := TX1) (N := 35) (fs := mwF ad σ) (v := .ref (ad 18)) hx hb hts in_X1 hown hK hP 0 rfl hci 18 (by decide) (hts _ q1689) (fun _ hq => hq) rfl dX1_above_6 ?_
  refine lv_bipush (v := 9) hx hb dX1_above_9 (by decide) ?_
  refine lv_iload_n hx hb dX1_above_11 rfl (lv_at hl 1 rfl) ?_
  refine lv_imul hx hb dX1_above_12 ?_
  refine lv_aload_n hx hb dX1_above_13 rfl (lv_at hl 0 rfl) ?_
  refine va_get (C := RX1) (T := TX1) (N := 35) (fs := mwF ad σ) (v := .ref (ad 13)) hx hb hts in_X1 hown hK hP 0 rfl hci 13 (by decide) (hts _ q1684) (fun _ hq => hq) rfl dX1_above_14 ?_
  refine lv_iload_n hx hb dX1_above_17 rfl (lv_at hl 1 rfl) ?_
  obtain ⟨g1, hf⟩ := dz_go hf
  refine va_iald hx hb hK hP 11 0 rfl rfl g1 dX1_above_18 ?_
  refine lv_topi (fun x2 e_x2 => ?_)
  have hf := dz_ls e_x2 hf
  obtain ⟨x3, s4, hx3, hf⟩ := dz_co hf
  have hFc := dz_free hD hS hA
  refine va_calll (va_runV (As := [.ref (ad 17), .ref (ad 18), .int (9 * a0), .int x2]) (rest := []) ⟨hx, hb, hml, hown, hts⟩ (mtX1_product_17_18 l D cl ci hci h ad cA H.size σ (9 * a0) x2 K (x3, s4) hx3) (cwV 4 hts (lw_V q1821 q1823 qs42 q88 q1824) rfl rfl rfl (by decide +kernel) ⟨Nat.le_of_ble_eq_true rfl, Nat.le_of_ble_eq_true rfl⟩) (m_preV hci hK hP hD) rfl rfl hl.1 rfl (lv_room (Nat.le_of_ble_eq_true rfl)) dX1_above_19 ⟨Nat.le_refl _, Nat.le_refl _⟩) hS (fun q _ hq => hFc q hq) hFc (fun r u t H1 locs ht hvm hw hB hz hk hS => ?_)
  obtain ⟨hw1, hw2⟩ := Prod.mk.inj hw.symm; subst hw1; subst hw2
  replace hP := m_back ht hB
  replace hD := mw_D s4 hD
  clear hB hk hz hvm ht hFc; generalize H1 = H at hP hS ⊢
  exact W.lret (v := x3) hx hb hr (fun t ht hW => ⟨⟨x3, s4, rfl, Option.some.inj hf, by rw [ht]; exact hP, va_K.moved hW.alike hK, hD⟩, hS.F ht⟩) hS.2.2 dX1_above_22

noncomputable def lfX1_common (K : Nat) : Nat → (Int64 → Int64 → Option Int64) := Nat.rec (motive := fun _ => (Int64 → Int64 → Option Int64)) (fun _ _ => none) (fun _ G => (fun v4 v6 => if v6 = (0 : Int64) then (some v4) else (if ¬ v6 = 0 then (dz_l (v4 - v4 / v6 * v6) fun x2 => G v6 x2) else none)))
noncomputable def fnX1_common (K : Nat) (a0 : Int64) (a1 : Int64) : Option Int64 := (lfX1_common K K) a0 a1
set_option maxHeartbeats 4000000 in
set_option maxRecDepth 100000 in
theorem wlX1_common {p : Program} {l : Launch} {e : Env} {s : State} {m : MethodId} {below : List Frame} {meth : Method} {c : Code}  (K : Nat) (res : Int64) (a0 : Int64) (a1 : Int64) (hx : p.tables.exec = Jvm.exec) (hb : c.code = cX1_common) (hr : meth.sig.returnType = some .long) (hlocks : meth.locks = false) (hml : c.maxLocals = 10) (hown : s.vm.findClass RX1 = some m.cls) (hts : ∀ w ∈ lw_all, w.before ([.long a0, .long a1] : List Value).toArray s = true) : ∀ k : Nat, (∀ (v4 : Int64) (v6 : Int64) (H : Heap) (locs : List Loc), va_S (fun _ => False) s.heap H locs → ∀ (ls : Array Slot), lv_has ls 10 [(4, .long v4), (6, .long v6)] → (lfX1_common K k) v4 v6 = some res → W p l e (headSpec (ws_ yX1_common cX1_common 10 (some .long)) ({ frames := 0, cells := 0, slots := 0, locals := 0 })).room s m ([.long a0, .long a1] : List Value).toArray below meth c H locs 0 0 (MQ below (dz_Ql res) ([.long a0, .long a1] : List Value).toArray s 0 0 (fun _ => False)) (F0 m 6 ls [])) := by
  intro k
  induction k with
  | zero =>
    exact fun _ _ _ _ _ _ _ hf => (by cases hf)
  | succ k ih =>
    · intro v4 v6 H locs hS ls hl hf
      have hf : (if v6 = (0 : Int64) then (some v4) else (if ¬ v6 = 0 then (dz_l (v4 - v4 / v6 * v6) fun x2 => (lfX1_common K k) v6 x2) else none) : Option Int64) = some res := hf
      refine lv_lload hx hb dX1_common_6 (lv_at hl 1 rfl) ?_
      refine lv_lconst (v := 0) hx hb dX1_common_8 rfl ?_
      refine W.lcmp hx hb dX1_common_9 ?_
      refine lv_if_eq (tgt := 31) hx hb dX1_common_10 (by decide) (fun c10 => ?_) (fun c10 => ?_)
      · have c10 : v6 = (0 : Int64) := (lg_cmp_eq _ _).mp c10
        have hf := dz_t c10 hf
        refine lv_lload hx hb dX1_common_31 (lv_at hl 0 rfl) ?_
        exact W.lret (v := v4) hx hb hr (fun t ht hW => ⟨⟨v4, (), rfl, Option.some.inj hf, trivial⟩, hS.F ht⟩) hS.2.2 dX1_common_33
      · have c10 : ¬ v6 = (0 : Int64) := fun hq => c10 ((lg_cmp_eq _ _).mpr hq)
        have hf := dz_f c10 hf
        refine lv_lload hx hb dX1_common_13 (lv_at hl 0 rfl) ?_
        refine lv_lload hx hb dX1_common_15 (lv_at hl 1 rfl) ?_
        obtain ⟨g1, hf⟩ := dz_go hf
        refine lv_lrem hx hb dX1_common_17 g1 ?_
        refine lv_topl (fun x2 e_x2 => ?_)
        have hf := dz_ls e_x2 hf
        refine lv_lstore (lv' := [(8, .long x2), (4, .long v4), (6, .long v6)]) hx hb dX1_common_18 hl (by decide) rfl (fun ls hl => ?_)
        refine lv_lload hx hb dX1_common_20 (lv_at hl 2 rfl) ?_
        refine lv_lstore (lv' := [(4, .long v6), (8, .long x2), (6, .long v6)]) hx hb dX1_common_22 hl (by decide) rfl (fun ls hl => ?_)
        refine lv_lload hx hb dX1_common_24 (lv_at hl 1 rfl) ?_
        refine lv_lstore (lv' := [(6, .long x2), (4, .long v6), (8, .long x2)]) hx hb dX1_common_26 hl (by decide) rfl (fun ls hl => ?_)
        refine lv_goto (tgt := 6) hx hb dX1_common_28 (by decide) ?_
        exact ih v6 x2 H locs hS ls (lv_sub hl [1, 0] rfl) hf
set_option maxHeartbeats 4000000 in
set_option maxRecDepth 100000 in
theorem mtX1_common (l : Launch) (a0 : Int64) (a1 : Int64) (K : Nat) (res : Int64) (hf : fnX1_common K a0 a1 = some res) : Met l yX1_common (ws_ yX1_common cX1_common 10 (some .long)) ({ frames := 0, cells := 0, slots := 0, locals := 0 }) (dz_P [.long a0, .long a1]) (dz_Ql res) 0 0 (fun _ => False) := by
  refine Met.ofW (cc := cX1_common) (maxL := 10) (ret := some .long) (by decide +kernel) rfl ?_
  intro p e s m args below meth c s₁ B hml hv
  obtain ⟨rfl, -⟩ := hv
  have hx := B.exec
  have hb := B.bytes
  have hr := B.returns
  have hts := atoms_spec (ws := ws_ yX1_common cX1_common 10 (some .long)) B.pre
  have hts : ∀ w ∈ lw_all, w.before _ s = true := fun w h => hts w (List.mem_cons_of_mem _ h)
  have hown : s.vm.findClass RX1 = some m.cls := findClass_of_methodNamed B.named
  have hlocks := B.notSynchronized
  have hS : va_S (fun _ => False) s.heap s.heap [] := va_S.rf
  generalize hHe : s.heap = H at hS ⊢
  have hS : va_S (fun _ => False) s.heap H [] := by rw [hHe]; exact hS
  generalize ([] : List Loc) = locs at hS ⊢
  have hl := lv_entry ([.long a0, .long a1]) (n := 10) (Nat.le_of_ble_eq_true rfl)
  rw [lg_entry_eq]
  generalize (lg_sl ([.long a0, .long a1]) ++ List.replicate (10 - (lg_sl ([.long a0, .long a1])).length) Slot.unset).toArray = ls at hl ⊢
  have hl : lv_has ls 10 [(0, .long a0), (2, .long a1)] := hl
  have hf : ((lfX1_common K K) a0 a1 : Option Int64) = some res := hf
  have ih := wlX1_common (l := l) (e := e) (below := below) K res a0 a1 hx hb hr hlocks hml hown hts K
  refine lv_lload_n hx hb dX1_common_0 rfl (lv_at hl 0 rfl) ?_
  refine lv_lstore (lv' := [(4, .long a0), (0, .long a0), (2, .long a1)]) hx hb dX1_common_1 hl (by decide) rfl (fun ls hl => ?_)
  refine lv_lload_n hx hb dX1_common_3 rfl (lv_at hl 2 rfl) ?_
  refine lv_lstore (lv' := [(6, .long a1), (4, .long a0), (0, .long a0), (2, .long a1)]) hx hb dX1_common_4 hl (by decide) rfl (fun ls hl => ?_)
  exact ih a0 a1 H locs hS ls (lv_sub hl [1, 0] rfl) hf

noncomputable def lfX1_isLittle (K : Nat) : Nat → (Int64 → Int64 → Option Int32) := Nat.rec (motive := fun _ => (Int64 → Int64 → Option Int32)) (fun _ _ => none) (fun _ G => (fun v0 v6 => if ¬ v6 = 0 then (dz_l (v0 - v0 / v6 * v6) fun x2 => if x2 ≤ (1 : Int64) then (some 0) else (if v0 ≤ x2 then (some 0) else (if ¬ x2 = 0 then (dz_l (v0 - v0 / x2 * x2) fun x4 => if x4 = (0 : Int64) then (some 1) else (some 0)) else none))) else none))
noncomputable def fnX1_isLittle (K : Nat) (a0 : Int64) (a1 : Int64) (a2 : Int64) : Option Int32 := dz_b (fnX1_common K a1 a2) fun x1 => if ¬ x1 = 0 then (dz_l (a1 / x1) fun x3 => dz_l (x3 * a2) fun x4 => if (40000 : Int64) < x4 then ((lfX1_isLittle K K) a0 x4) else (if a0 < (x4 * x4) then ((lfX1_isLittle K K) a0 x4) else (some 1))) else none
set_option maxHeartbeats 4000000 in
set_option maxRecDepth 100000 in
theorem wlX1_isLittle {p : Program} {l : Launch} {e : Env} {s : State} {m : MethodId} {below : List Frame} {meth : Method} {c : Code}  (K : Nat) (res : Int32) (a0 : Int64) (a1 : Int64) (a2 : Int64) (hx : p.tables.exec = Jvm.exec) (hb : c.code = cX1_isLittle) (hr : meth.sig.returnType = some .boolean) (hlocks : meth.locks = false) (hml : c.maxLocals = 10) (hown : s.vm.findClass RX1 = some m.cls) (hts : ∀ w ∈ lw_all, w.before ([.long a0, .long a1, .long a2] : List Value).toArray s = true) : ∀ k : Nat, (∀ (v0 : Int64) (v6 : Int64) (H : Heap) (locs : List Loc), va_S (fun _ => False) s.heap H locs → ∀ (ls : Array Slot), lv_has ls 10 [(0, .long v0), (6, .long v6)] → (lfX1_isLittle K k) v0 v6 = some res → W p l e (headSpec (ws_ yX1_isLittle cX1_isLittle 10 (some .boolean)) ({ frames := 1, cells := 0, slots := 0, locals := 29 })).room s m ([.long a0, .long a1, .long a2] : List Value).toArray below meth c H locs 0 0 (MQ below (dz_Qi res) ([.long a0, .long a1, .long a2] : List Value).toArray s 0 0 (fun _ => False)) (F0 m 34 ls [])) := by
  intro k
  induction k with
  | zero =>
    exact fun _ _ _ _ _ _ _ hf => (by cases hf)
  | succ k ih =>
    · intro v0 v6 H locs hS ls hl hf
      have hf : (if ¬ v6 = 0 then (dz_l (v0 - v0 / v6 * v6) fun x2 => if x2 ≤ (1 : Int64) then (some 0) else (if v0 ≤ x2 then (some 0) else (if ¬ x2 = 0 then (dz_l (v0 - v0 / x2 * x2) fun x4 => if x4 = (0 : Int64) then (some 1) else (some 0)) else none))) else none : Option Int32) = some res := hf
      refine lv_lload_n hx hb dX1_isLittle_34 rfl (lv_at hl 0 rfl) ?_
      refine lv_lload hx hb dX1_isLittle_35 (lv_at hl 1 rfl) ?_
      obtain ⟨g1, hf⟩ := dz_go hf
      refine lv_lrem hx hb dX1_isLittle_37 g1 ?_
      refine lv_topl (fun x2 e_x2 => ?_)
      have hf := dz_ls e_x2 hf
      refine lv_lstore (lv' := [(8, .long x2), (0, .long v0), (6, .long v6)]) hx hb dX1_isLittle_38 hl (by decide) rfl (fun ls hl => ?_)
      refine lv_lload hx hb dX1_isLittle_40 (lv_at hl 0 rfl) ?_
      refine lv_lconst (v := 1) hx hb dX1_isLittle_42 rfl ?_
      refine W.lcmp hx hb dX1_isLittle_43 ?_
      refine lv_if_le (tgt := 67) hx hb dX1_isLittle_44 (by decide) (fun c44 => ?_) (fun c44 => ?_)
      · have c44 : x2 ≤ (1 : Int64) := (lg_cmp_le _ _).mp c44
        have hf := dz_t c44 hf
        refine lv_iconst (v := 0) hx hb dX1_isLittle_67 (by decide) ?_
        exact W.zret (v := 0) hx hb hr rfl (fun t ht hW => ⟨⟨0, (), rfl, Option.some.inj hf, trivial⟩, hS.F ht⟩) hS.2.2 dX1_isLittle_68
      · have c44 : ¬ x2 ≤ (1 : Int64) := fun hq => c44 ((lg_cmp_le _ _).mpr hq)
        have hf := dz_f c44 hf
        refine lv_lload hx hb dX1_isLittle_47 (lv_at hl 0 rfl) ?_
        refine lv_lload_n hx hb dX1_isLittle_49 rfl (lv_at hl 1 rfl) ?_
        refine W.lcmp hx hb dX1_isLittle_50 ?_
        refine lv_if_ge (tgt := 67) hx hb dX1_isLittle_51 (by decide) (fun c51 => ?_) (fun c51 => ?_)
        · have c51 : v0 ≤ x2 := (lg_cmp_ge _ _).mp c51
          have hf := dz_t c51 hf
          refine lv_iconst (v := 0) hx hb dX1_isLittle_67 (by decide) ?_
          exact W.zret (v := 0) hx hb hr rfl (fun t ht hW => ⟨⟨0, (), rfl, Option.some.inj hf, trivial⟩, hS.F ht⟩) hS.2.2 dX1_isLittle_68
        · have c51 : ¬ v0 ≤ x2 := fun hq => c51 ((lg_cmp_ge _ _).mpr hq)
          have hf := dz_f c51 hf
          refine lv_lload_n hx hb dX1_isLittle_54 rfl (lv_at hl 1 rfl) ?_
          refine lv_lload hx hb dX1_isLittle_55 (lv_at hl 0 rfl) ?_
          obtain ⟨g3, hf⟩ := dz_go hf
          refine lv_lrem hx hb dX1_isLittle_57 g3 ?_
          refine lv_topl (fun x4 e_x4 => ?_)
          have hf := dz_ls e_x4 hf
          refine lv_lconst (v := 0) hx hb dX1_isLittle_58 rfl ?_
          refine W.lcmp hx hb dX1_isLittle_59 ?_
          refine lv_if_ne (tgt := 67) hx hb dX1_isLittle_60 (by decide) (fun c60 => ?_) (fun c60 => ?_)
          · have c60 : ¬ x4 = (0 : Int64) := fun hq => c60 ((lg_cmp_eq _ _).mpr hq)
            have hf := dz_f c60 hf
            refine lv_iconst (v := 0) hx hb dX1_isLittle_67 (by decide) ?_
            exact W.zret (v := 0) hx hb hr rfl (fun t ht hW => ⟨⟨0, (), rfl, Option.some.inj hf, trivial⟩, hS.F ht⟩) hS.2.2 dX1_isLittle_68
          · have c60 : x4 = (0 : Int64) := (lg_cmp_eq _ _).mp c60
            have hf := dz_t c60 hf
            refine lv_iconst (v := 1) hx hb dX1_isLittle_63 (by decide) ?_
            refine lv_goto (tgt := 68) hx hb dX1_isLittle_64 (by decide) ?_
            exact W.zret (v := 1) hx hb hr rfl (fun t ht hW => ⟨⟨1, (), rfl, Option.some.inj hf, trivial⟩, hS.F ht⟩) hS.2.2 dX1_isLittle_68
set_option maxHeartbeats 4000000 in
set_option maxRecDepth 100000 in
theorem mtX1_isLittle (l : Launch) (a0 : Int64) (a1 : Int64) (a2 : Int64) (K : Nat) (res : Int32) (hf : fnX1_isLittle K a0 a1 a2 = some res) : Met l yX1_isLittle (ws_ yX1_isLittle cX1_isLittle 10 (some .boolean)) ({ frames := 1, cells := 0, slots := 0, locals := 29 }) (dz_P [.long a0, .long a1, .long a2]) (dz_Qi res) 0 0 (fun _ => False) := by
  refine Met.ofW (cc := cX1_isLittle) (maxL := 10) (ret := some .boolean) (by decide +kernel) rfl ?_
  intro p e s m args below meth c s₁ B hml hv
  obtain ⟨rfl, -⟩ := hv
  have hx := B.exec
  have hb := B.bytes
  have hr := B.returns
  have hts := atoms_spec (ws := ws_ yX1_isLittle cX1_isLittle 10 (some .boolean)) B.pre
  have hts : ∀ w ∈ lw_all, w.before _ s = true := fun w h => hts w (List.mem_cons_of_mem _ h)
  have hown : s.vm.findClass RX1 = some m.cls := findClass_of_methodNamed B.named
  have hlocks := B.notSynchronized
  have hS : va_S (fun _ => False) s.heap s.heap [] := va_S.rf
  generalize hHe : s.heap = H at hS ⊢
  have hS : va_S (fun _ => False) s.heap H [] := by rw [hHe]; exact hS
  generalize ([] : List Loc) = locs at hS ⊢
  have hl := lv_entry ([.long a0, .long a1, .long a2]) (n := 10) (Nat.le_of_ble_eq_true rfl)
  rw [lg_entry_eq]
  generalize (lg_sl ([.long a0, .long a1, .long a2]) ++ List.replicate (10 - (lg_sl ([.long a0, .long a1, .long a2])).length) Slot.unset).toArray = ls at hl ⊢
  have hl : lv_has ls 10 [(0, .long a0), (2, .long a1), (4, .long a2)] := hl
  have hf : (dz_b (fnX1_common K a1 a2) fun x1 => if ¬ x1 = 0 then (dz_l (a1 / x1) fun x3 => dz_l (x3 * a2) fun x4 => if (40000 : Int64) < x4 then ((lfX1_isLittle K K) a0 x4) else (if a0 < (x4 * x4) then ((lfX1_isLittle K K) a0 x4) else (some 1))) else none : Option Int32) = some res := hf
  have ih := wlX1_isLittle (l := l) (e := e) (below := below) K res a0 a1 a2 hx hb hr hlocks hml hown hts K
  refine lv_lload_n hx hb dX1_isLittle_0 rfl (lv_at hl 1 rfl) ?_
  refine lv_lload_n hx hb dX1_isLittle_1 rfl (lv_at hl 1 rfl) ?_
  refine lv_lload hx hb dX1_isLittle_2 (lv_at hl 2 rfl) ?_
  obtain ⟨x1, hx1, hf⟩ := dz_bo hf
  refine va_calll (va_runS (As := [.long a1, .long a2]) (rest := [.long a1]) ⟨hx, hb, hml, hown, hts⟩ (mtX1_common l a1 a2 K x1 hx1) (va_cwS 2 hts (lw_S q1837 q1838 q88 q1839) rfl rfl rfl (by decide +kernel) ⟨Nat.le_of_ble_eq_true rfl, Nat.le_of_ble_eq_true rfl⟩) ⟨fun a U g mk q => q, fun U hU hW => ⟨rfl, trivial⟩⟩ rfl rfl hl.1 rfl (lv_room (Nat.le_of_ble_eq_true rfl)) dX1_isLittle_4 ⟨Nat.le_refl _, Nat.le_refl _⟩) hS (fun q _ hq => hq.elim) (fun q hq => hq.elim) (fun r u t H1 locs ht hvm hw hB hz hk hS => ?_)
  replace hw := hw.symm; subst hw
  clear hB hk hz hvm ht; generalize H1 = H at hS ⊢
  obtain ⟨g2, hf⟩ := dz_go hf
  refine lv_ldiv hx hb dX1_isLittle_7 g2 ?_
  refine lv_topl (fun x3 e_x3 => ?_)
  have hf := dz_ls e_x3 hf
  refine lv_lload hx hb dX1_isLittle_8 (lv_at hl 2 rfl) ?_
  refine lv_lmul hx hb dX1_isLittle_10 ?_
  refine lv_topl (fun x4 e_x4 => ?_)
  have hf := dz_ls e_x4 hf
  refine lv_lstore (lv' := [(6, .long x4), (0, .long a0), (2, .long a1), (4, .long a2)]) hx hb dX1_isLittle_11 hl (by decide) rfl (fun ls hl => ?_)
  refine lv_lload hx hb dX1_isLittle_13 (lv_at hl 0 rfl) ?_
  refine lv_ldc2 (v := 40000) hx hb hown (hts _ q1840) dX1_isLittle_15 ?_
  refine W.lcmp hx hb dX1_isLittle_18 ?_
  refine lv_if_gt (tgt := 34) hx hb dX1_isLittle_19 (by decide) (fun c19 => ?_) (fun c19 => ?_)
  · have c19 : (40000 : Int64) < x4 := (lg_cmp_gt _ _).mp c19
    have hf := dz_t c19 hf
    exact ih a0 x4 H locs hS ls (lv_sub hl [1, 0] rfl) hf
  · have c19 : ¬ (40000 : Int64) < x4 := fun hq => c19 ((lg_cmp_gt _ _).mpr hq)
    have hf := dz_f c19 hf
    refine lv_lload hx hb dX1_isLittle_22 (lv_at hl 0 rfl) ?_
    refine lv_lload hx hb dX1_isLittle_24 (lv_at hl 0 rfl) ?_
    refine lv_lmul hx hb dX1_isLittle_26 ?_
    refine lv_lload_n hx hb dX1_isLittle_27 rfl (lv_at hl 1 rfl) ?_
    refine W.lcmp hx hb dX1_isLittle_28 ?_
    refine lv_if_gt (tgt := 34) hx hb dX1_isLittle_29 (by decide) (fun c29 => ?_) (fun c29 => ?_)
    · have c29 : a0 < (x4 * x4) := (lg_cmp_gt _ _).mp c29
      have hf := dz_t c29 hf
      exact ih a0 x4 H locs hS ls (lv_sub hl [1, 0] rfl) hf
    · have c29 : ¬ a0 < (x4 * x4) := fun hq => c29 ((lg_cmp_gt _ _).mpr hq)
      have hf := dz_f c29 hf
      refine lv_iconst (v := 1) hx hb dX1_isLittle_32 (by decide) ?_
      exact W.zret (v := 1) hx hb hr rfl (fun t ht hW => ⟨⟨1, (), rfl, Option.some.inj hf, trivial⟩, hS.F ht⟩) hS.2.2 dX1_isLittle_33

noncomputable def lfX1_isEnough (K : Nat) : Nat → (pM → Option (Int32 × pM)) := Nat.rec (motive := fun _ => (pM → Option (Int32 × pM))) (fun _ => none) (fun _ G => (fun σ => some (1, σ)))
noncomputable def fnX1_isEnough (K : Nat) (a0 : Int32) (σ : pM) : Option (Int32 × pM) := dz_c (fnX1_below K a0 σ) fun x1 s2 => if ¬ (a0 < 0 ∨ 116 ≤ Int32.toNatClampNeg a0) then (dz_l (s2.2.2.1 9 (Int32.toNatClampNeg a0)) fun x4 => if x4 = (2 : Int32) then (if ¬ (a0 < 0 ∨ 116 ≤ Int32.toNatClampNeg a0) then (dz_l (s2.2.2.1 8 (Int32.toNatClampNeg a0)) fun x13 => if (x1 * x1) ≤ (Int32.toInt64 x13) then (some (0, s2)) else (some (1, s2))) else none) else (if ¬ (a0 < 0 ∨ 116 ≤ Int32.toNatClampNeg a0) then (dz_l (s2.2.2.1 9 (Int32.toNatClampNeg a0)) fun x6 => if x6 = (4 : Int32) then (if ¬ (a0 < 0 ∨ 116 ≤ Int32.toNatClampNeg a0) then (dz_l (s2.2.2.1 8 (Int32.toNatClampNeg a0)) fun x8 => dz_c (fnX1_above K a0 s2) fun x9 s10 => dz_b (fnX1_isLittle K (Int32.toInt64 x8) x1 x9) fun x11 => if x11 = (0 : Int32) then ((lfX1_isEnough K K) s10) else (some (0, s10))) else none) else ((lfX1_isEnough K K) s2)) else none)) else none
set_option maxHeartbeats 4000000 in
set_option maxRecDepth 100000 in
theorem wlX1_isEnough {p : Program} {l : Launch} {e : Env} {s : State} {m : MethodId} {below : List Frame} {meth : Method} {c : Code} {D : va_G} {cl : List vw_C} {ci : Nat} (hci : cl[ci]? = some (RX1, TX1, 35)) {h : Nat} {ad : Nat → Nat} {cA : Nat → ClassId} {A : Nat → Prop} (hA : ∀ q : Nat, s.heap.size ≤ q → A q) (hK : va_K D cl (mtys cA) s) (K : Nat) (res : (Int32 × pM)) (a0 : Int32) (hx : p.tables.exec = Jvm.exec) (hb : c.code = cX1_isEnough) (hr : meth.sig.returnType = some .boolean) (hlocks : meth.locks = false) (hml : c.maxLocals = 4) (hown : s.vm.findClass RX1 = some m.cls) (hts : ∀ w ∈ lw_all, w.before ([.ref h, .int a0] : List Value).toArray s = true) : ∀ k : Nat, (∀  (σ : pM) (H : Heap) (locs : List Loc), va_P D cl (mw ci h ad cA σ) H → va_D A (mw ci h ad cA σ) → va_S A s.heap H locs → ∀ (ls : Array Slot), lv_has ls 4 [] → (lfX1_isEnough K k) σ = some res → W p l e (headSpec (ws_ yX1_isEnough cX1_isEnough 4 (some .boolean)) ({ frames := 2, cells := 0, slots := 0, locals := 58 })).room s m ([.ref h, .int a0] : List Value).toArray below meth c H locs 0 0 (MQ below (mQi D cl ci h ad cA A res) ([.ref h, .int a0] : List Value).toArray s 0 0 A) (F0 m 65 ls [])) := by
  intro k
  induction k with
  | zero =>
    exact fun _ _ _ _ _ _ _ _ hf => (by cases hf)
  | succ k ih =>
    · intro σ H locs hP hD hS ls hl hf
      have hf : (some (1, σ) : Option (Int32 × pM)) = some res := hf
      refine lv_iconst (v := 1) hx hb dX1_isEnough_65 (by decide) ?_
      refine lv_goto (tgt := 70) hx hb dX1_isEnough_66 (by decide) ?_
      exact W.zret (v := 1) hx hb hr rfl (fun t ht hW => ⟨⟨1, σ, rfl, Option.some.inj hf, by rw [ht]; exact hP, va_K.moved hW.alike hK, hD⟩, hS.F ht⟩) hS.2.2 dX1_isEnough_70
set_option maxHeartbeats 4000000 in
set_option maxRecDepth 100000 in
theorem mtX1_isEnough (l : Launch) (D : va_G) (cl : List vw_C) (ci : Nat) (hci : cl[ci]? = some (RX1, TX1, 35)) (h : Nat) (ad : Nat → Nat) (cA : Nat → ClassId) (sz : Nat) (σ : pM) (a0 : Int32) (K : Nat) (res : (Int32 × pM)) (hf : fnX1_isEnough K a0 σ = some res) : Met l yX1_isEnough (ws_ yX1_isEnough cX1_isEnough 4 (some .boolean)) ({ frames := 2, cells := 0, slots := 0, locals := 58 }) (mPc D cl ci h ad cA sz σ [.ref h, .int a0]) (mQi D cl ci h ad cA (va_A (mw ci h ad cA σ) sz) res) 0 0 (va_A (mw ci h ad cA σ) sz) := by
  refine Met.ofW (cc := cX1_isEnough) (maxL := 4) (ret := some .boolean) (by decide +kernel) rfl ?_
  intro p e s m args below meth c s₁ B hml hv
  obtain ⟨rfl, hsz, hP, hK, hD0⟩ := hv
  have hx := B.exec
  have hb := B.bytes
  have hr := B.returns
  have hts := atoms_spec (ws := ws_ yX1_isEnough cX1_isEnough 4 (some .boolean)) B.pre
  have hts : ∀ w ∈ lw_all, w.before _ s = true := fun w h => hts w (List.mem_cons_of_mem _ h)
  have hown : s.vm.findClass RX1 = some m.cls := findClass_of_methodNamed B.named
  have hlocks := B.notSynchronized
  subst hsz
  have hD := hD0.self (sz := s.heap.size)
  generalize hAe : va_A (mw ci h ad cA σ) s.heap.size = A at hD ⊢
  have hA : ∀ q : Nat, s.heap.size ≤ q → A q := fun q h => by rw [← hAe]; exact Or.inr h
  clear hAe hD0
  have hS : va_S A s.heap s.heap [] := va_S.rf
  generalize hHe : s.heap = H at hP hS ⊢
  have hS : va_S A s.heap H [] := by rw [hHe]; exact hS
  generalize ([] : List Loc) = locs at hS ⊢
  have hl := lv_entry ([.ref h, .int a0]) (n := 4) (Nat.le_of_ble_eq_true rfl)
  rw [lg_entry_eq]
  generalize (lg_sl ([.ref h, .int a0]) ++ List.replicate (4 - (lg_sl ([.ref h, .int a0])).length) Slot.unset).toArray = ls at hl ⊢
  have hl : lv_has ls 4 [(0, .ref h), (1, .int a0)] := hl
  have hf : (dz_c (fnX1_below K a0 σ) fun x1 s2 => if ¬ (a0 < 0 ∨ 116 ≤ Int32.toNatClampNeg a0) then (dz_l (s2.2.2.1 9 (Int32.toNatClampNeg a0)) fun x4 => if x4 = (2 : Int32) then (if ¬ (a0 < 0 ∨ 116 ≤ Int32.toNatClampNeg a0) then (dz_l (s2.2.2.1 8 (Int32.toNatClampNeg a0)) fun x13 => if (x1 * x1) ≤ (Int32.toInt64 x13) then (some (0, s2)) else (some (1, s2))) else none) else (if ¬ (a0 < 0 ∨ 116 ≤ Int32.toNatClampNeg a0) then (dz_l (s2.2.2.1 9 (Int32.toNatClampNeg a0)) fun x6 => if x6 = (4 : Int32) then (if ¬ (a0 < 0 ∨ 116 ≤ Int32.toNatClampNeg a0) then (dz_l (s2.2.2.1 8 (Int32.toNatClampNeg a0)) fun x8 => dz_c (fnX1_above K a0 s2) fun x9 s10 => dz_b (fnX1_isLittle K (Int32.toInt64 x8) x1 x9) fun x11 => if x11 = (0 : Int32) then ((lfX1_isEnough K K) s10) else (some (0, s10))) else none) else ((lfX1_isEnough K K) s2)) else none)) else none : Option (Int32 × pM)) = some res := hf
  have ih := wlX1_isEnough (l := l) (e := e) (below := below) (h := h) (ad := ad) (cA := cA) hci hA hK K res a0 hx hb hr hlocks hml hown hts K
  refine lv_aload_n hx hb dX1_isEnough_0 rfl (lv_at hl 0 rfl) ?_
  refine lv_iload_n hx hb dX1_isEnough_1 rfl (lv_at hl 1 rfl) ?_
  obtain ⟨x1, s2, hx1, hf⟩ := dz_co hf
  have hFc := dz_free hD hS hA
  refine va_calll (va_runV (As := [.int a0]) (rest := []) ⟨hx, hb, hml, hown, hts⟩ (mtX1_below l D cl ci hci h ad cA H.size σ a0 K (x1, s2) hx1) (cwV 1 hts (lw_V q1817 q1819 qs41 q88 q1820) rfl rfl rfl (by decide +kernel) ⟨Nat.le_of_ble_eq_true rfl, Nat.le_of_ble_eq_true rfl⟩) (m_preV hci hK hP hD) rfl rfl hl.1 rfl (lv_room (Nat.le_of_ble_eq_true rfl)) dX1_isEnough_2 ⟨Nat.le_refl _, Nat.le_refl _⟩) hS (fun q _ hq => hFc q hq) hFc (fun r u t H1 locs ht hvm hw hB hz hk hS => ?_)
  obtain ⟨hw1, hw2⟩ := Prod.mk.inj hw.symm; subst hw1; subst hw2
  replace hP := m_back ht hB
  replace hD := mw_D s2 hD
  clear hB hk hz hvm ht hFc; generalize H1 = H at hP hS ⊢
  refine lv_lstore_n (lv' := [(2, .long x1), (0, .ref h), (1, .int a0)]) hx hb dX1_isEnough_5 rfl hl (by decide) rfl (fun ls hl => ?_)
  refine lv_aload_n hx hb dX1_isEnough_6 rfl (lv_at hl 1 rfl) ?_
  refine va_get (C := RX1) (T := TX1) (N := 35) (fs := mwF ad s2) (v := .ref (ad 9)) hx hb hts in_X1 hown hK hP 0 rfl hci 9 (by decide) (hts _ q1680) (fun _ hq => hq) rfl dX1_isEnough_7 ?_
  refine lv_iload_n hx hb dX1_isEnough_10 rfl (lv_at hl 2 rfl) ?_
  obtain ⟨g3, hf⟩ := dz_go hf
  refine va_iald hx hb hK hP 7 0 rfl rfl g3 dX1_isEnough_11 ?_
  refine lv_topi (fun x4 e_x4 => ?_)
  have hf := dz_ls e_x4 hf
  refine lv_iconst (v := 2) hx hb dX1_isEnough_12 (by decide) ?_
  refine lv_icmp_ne (tgt := 36) hx hb dX1_isEnough_13 (by decide) (fun c13 => ?_) (fun c13 => ?_)
  · have hf := dz_f c13 hf
    refine lv_aload_n hx hb dX1_isEnough_36 rfl (lv_at hl 1 rfl) ?_
    refine va_get (C := RX1) (T := TX1) (N := 35) (fs := mwF ad s2) (v := .ref (ad 9)) hx hb hts in_X1 hown hK hP 0 rfl hci 9 (by decide) (hts _ q1680) (fun _ hq => hq) rfl dX1_isEnough_37 ?_
    refine lv_iload_n hx hb dX1_isEnough_40 rfl (lv_at hl 2 rfl) ?_
    obtain ⟨g5, hf⟩ := dz_go hf
    refine va_iald hx hb hK hP 7 0 rfl rfl g5 dX1_isEnough_41 ?_
    refine lv_topi (fun x6 e_x6 => ?_)
    have hf := dz_ls e_x6 hf
    refine lv_iconst (v := 4) hx hb dX1_isEnough_42 (by decide) ?_
    refine lv_icmp_ne (tgt := 65) hx hb dX1_isEnough_43 (by decide) (fun c43 => ?_) (fun c43 => ?_)
    · have hf := dz_f c43 hf
      exact ih s2 H locs hP hD hS ls (lv_sub hl [] rfl) hf
    · have hf := dz_t c43 hf
      refine lv_aload_n hx hb dX1_isEnough_46 rfl (lv_at hl 1 rfl) ?_
      refine va_get (C := RX1) (T := TX1) (N := 35) (fs := mwF ad s2) (v := .ref (ad 8)) hx hb hts in_X1 hown hK hP 0 rfl hci 8 (by decide) (hts _ q1679) (fun _ hq => hq) rfl dX1_isEnough_47 ?_
      refine lv_iload_n hx hb dX1_isEnough_50 rfl (lv_at hl 2 rfl) ?_
      obtain ⟨g7, hf⟩ := dz_go hf
      refine va_iald hx hb hK hP 6 0 rfl rfl g7 dX1_isEnough_51 ?_
      refine lv_topi (fun x8 e_x8 => ?_)
      have hf := dz_ls e_x8 hf
      refine lv_i2l hx hb dX1_isEnough_52 (rfl : _ = Int32.toInt64 x8) ?_
      refine lv_lload_n hx hb dX1_isEnough_53 rfl (lv_at hl 0 rfl) ?_
      refine lv_aload_n hx hb dX1_isEnough_54 rfl (lv_at hl 1 rfl) ?_
      refine lv_iload_n hx hb dX1_isEnough_55 rfl (lv_at hl 2 rfl) ?_
      obtain ⟨x9, s10, hx9, hf⟩ := dz_co hf
      have hFc := dz_free hD hS hA
      refine va_calll (va_runV (As := [.int a0]) (rest := [.long x1, .long (Int32.toInt64 x8)]) ⟨hx, hb, hml, hown, hts⟩ (mtX1_above l D cl ci hci h ad cA H.size s2 a0 K (x9, s10) hx9) (cwV 1 hts (lw_V q1826 q1828 qs43 q88 q1829) rfl rfl rfl (by decide +kernel) ⟨Nat.le_of_ble_eq_true rfl, Nat.le_of_ble_eq_true rfl⟩) (m_preV hci hK hP hD) rfl rfl hl.1 rfl (lv_room (Nat.le_of_ble_eq_true rfl)) dX1_isEnough_56 ⟨Nat.le_refl _, Nat.le_refl _⟩) hS (fun q _ hq => hFc q hq) hFc (fun r u t H1 locs ht hvm hw hB hz hk hS => ?_)
      obtain ⟨hw1, hw2⟩ := Prod.mk.inj hw.symm; subst hw1; subst hw2
      replace hP := m_back ht hB
      replace hD := mw_D s10 hD
      clear hB hk hz hvm ht hFc; generalize H1 = H at hP hS ⊢
      obtain ⟨x11, hx11, hf⟩ := dz_bo hf
      refine va_calli (va_runS (As := [.long (Int32.toInt64 x8), .long x1, .long x9]) (rest := []) ⟨hx, hb, hml, hown, hts⟩ (mtX1_isLittle l (Int32.toInt64 x8) x1 x9 K x11 hx11) (va_cwS 3 hts (lw_S q1834 q1835 q88 q1836) rfl rfl rfl (by decide +kernel) ⟨Nat.le_of_ble_eq_true rfl, Nat.le_of_ble_eq_true rfl⟩) ⟨fun a U g mk q => q, fun U hU hW => ⟨rfl, trivial⟩⟩ rfl rfl hl.1 rfl (lv_room (Nat.le_of_ble_eq_true rfl)) dX1_isEnough_59 ⟨Nat.le_refl _, Nat.le_refl _⟩) hS (fun q _ hq => hq.elim) (fun q hq => hq.elim) (fun r u t H1 locs ht hvm hw hB hz hk hS => ?_)
      replace hw := hw.symm; subst hw
      replace hP := dz_keep hP hk
      clear hB hk hz hvm ht; generalize H1 = H at hP hS ⊢
      refine lv_if_ne (tgt := 69) hx hb dX1_isEnough_62 (by decide) (fun c62 => ?_) (fun c62 => ?_)
      · have hf := dz_f c62 hf
        refine lv_iconst (v := 0) hx hb dX1_isEnough_69 (by decide) ?_
        exact W.zret (v := 0) hx hb hr rfl (fun t ht hW => ⟨⟨0, s10, rfl, Option.some.inj hf, by rw [ht]; exact hP, va_K.moved hW.alike hK, hD⟩, hS.F ht⟩) hS.2.2 dX1_isEnough_70
      · have hf := dz_t c62 hf
        exact ih s10 H locs hP hD hS ls (lv_sub hl [] rfl) hf
  · have hf := dz_t c13 hf
    refine lv_lload_n hx hb dX1_isEnough_16 rfl (lv_at hl 0 rfl) ?_
    refine lv_lload_n hx hb dX1_isEnough_17 rfl (lv_at hl 0 rfl) ?_
    refine lv_lmul hx hb dX1_isEnough_18 ?_
    refine lv_aload_n hx hb dX1_isEnough_19 rfl (lv_at hl 1 rfl) ?_
    refine va_get (C := RX1) (T := TX1) (N := 35) (fs := mwF ad s2) (v := .ref (ad 8)) hx hb hts in_X1 hown hK hP 0 rfl hci 8 (by decide) (hts _ q1679) (fun _ hq => hq) rfl dX1_isEnough_20 ?_
    refine lv_iload_n hx hb dX1_isEnough_23 rfl (lv_at hl 2 rfl) ?_
    obtain ⟨g12, hf⟩ := dz_go hf
    refine va_iald hx hb hK hP 6 0 rfl rfl g12 dX1_isEnough_24 ?_
    refine lv_topi (fun x13 e_x13 => ?_)
    have hf := dz_ls e_x13 hf
    refine lv_i2l hx hb dX1_isEnough_25 (rfl : _ = Int32.toInt64 x13) ?_
    refine W.lcmp hx hb dX1_isEnough_26 ?_
    refine lv_if_le (tgt := 34) hx hb dX1_isEnough_27 (by decide) (fun c27 => ?_) (fun c27 => ?_)
    · have c27 : (x1 * x1) ≤ (Int32.toInt64 x13) := (lg_cmp_le _ _).mp c27
      have hf := dz_t c27 hf
      refine lv_iconst (v := 0) hx hb dX1_isEnough_34 (by decide) ?_
      exact W.zret (v := 0) hx hb hr rfl (fun t ht hW => ⟨⟨0, s2, rfl, Option.some.inj hf, by rw [ht]; exact hP, va_K.moved hW.alike hK, hD⟩, hS.F ht⟩) hS.2.2 dX1_isEnough_35
    · have c27 : ¬ (x1 * x1) ≤ (Int32.toInt64 x13) := fun hq => c27 ((lg_cmp_le _ _).mpr hq)
      have hf := dz_f c27 hf
      refine lv_iconst (v := 1) hx hb dX1_isEnough_30 (by decide) ?_
      refine lv_goto (tgt := 35) hx hb dX1_isEnough_31 (by decide) ?_
      exact W.zret (v := 1) hx hb hr rfl (fun t ht hW => ⟨⟨1, s2, rfl, Option.some.inj hf, by rw [ht]; exact hP, va_K.moved hW.alike hK, hD⟩, hS.F ht⟩) hS.2.2 dX1_isEnough_35

