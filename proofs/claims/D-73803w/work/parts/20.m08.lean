noncomputable def lfX1_props (K : Nat) : Nat → (Int32 → Int64 → Int32 → pM → Option (Int64 × pM)) × (Int32 → Int64 → Int32 → pM → Option (Int64 × pM)) := Nat.rec (motive := fun _ => (Int32 → Int64 → Int32 → pM → Option (Int64 × pM)) × (Int32 → Int64 → Int32 → pM → Option (Int64 × pM))) ((fun _ _ _ _ => none), (fun _ _ _ _ => none)) (fun _ G => ((fun v1 v2 v4 σ => if ¬ (v1 < 0 ∨ 116 ≤ Int32.toNatClampNeg v1) then (dz_l (σ.2.2.1 12 (Int32.toNatClampNeg v1)) fun x2 => if ((9 * v1) + x2) ≤ v4 then (dz_l (9 * v1) fun x3 => G.2 v1 v2 x3 σ) else (if ¬ (v4 < 0 ∨ 1044 ≤ Int32.toNatClampNeg v4) then (dz_l (σ.2.2.1 14 (Int32.toNatClampNeg v4)) fun x5 => dz_c (fnX1_lineFor K x5 v1 σ) fun x6 s7 => dz_l (v2 ||| (1 <<< (Int32.toInt64 x6 &&& 63))) fun x8 => dz_l (v4 + 1) fun x9 => G.1 v1 x8 x9 s7) else none)) else none), (fun v1 v2 v4 σ => if ¬ (v1 < 0 ∨ 116 ≤ Int32.toNatClampNeg v1) then (dz_l (σ.2.2.1 13 (Int32.toNatClampNeg v1)) fun x2 => if ((9 * v1) + x2) ≤ v4 then (some (v2, σ)) else (if ¬ (v4 < 0 ∨ 1044 ≤ Int32.toNatClampNeg v4) then (dz_l (σ.2.2.1 17 (Int32.toNatClampNeg v4)) fun x4 => dz_c (fnX1_lineFor K x4 v1 σ) fun x5 s6 => dz_l (v2 ||| (1 <<< (Int32.toInt64 x5 &&& 63))) fun x7 => dz_l (v4 + 1) fun x8 => G.2 v1 x7 x8 s6) else none)) else none)))
noncomputable def fnX1_props (K : Nat) (a0 : Int32) (σ : pM) : Option (Int64 × pM) := dz_l (9 * a0) fun x1 => (lfX1_props K K).1 a0 0 x1 σ
set_option maxHeartbeats 4000000 in
set_option maxRecDepth 100000 in
theorem wlX1_props {p : Program} {l : Launch} {e : Env} {s : State} {m : MethodId} {below : List Frame} {meth : Method} {c : Code} {D : va_G} {cl : List vw_C} {ci : Nat} (hci : cl[ci]? = some (RX1, TX1, 35)) {h : Nat} {ad : Nat → Nat} {cA : Nat → ClassId} {A : Nat → Prop} (hA : ∀ q : Nat, s.heap.size ≤ q → A q) (hK : va_K D cl (mtys cA) s) (K : Nat) (res : (Int64 × pM)) (a0 : Int32) (hx : p.tables.exec = Jvm.exec) (hb : c.code = cX1_props) (hr : meth.sig.returnType = some .long) (hlocks : meth.locks = false) (hml : c.maxLocals = 5) (hown : s.vm.findClass RX1 = some m.cls) (hts : ∀ w ∈ lw_all, w.before ([.ref h, .int a0] : List Value).toArray s = true) : ∀ k : Nat, (∀ (v1 : Int32) (v2 : Int64) (v4 : Int32) (σ : pM) (H : Heap) (locs : List Loc), va_P D cl (mw ci h ad cA σ) H → va_D A (mw ci h ad cA σ) → va_S A s.heap H locs → ∀ (ls : Array Slot), lv_has ls 5 [(0, .ref h), (1, .int v1), (2, .long v2), (4, .int v4)] → (lfX1_props K k).1 v1 v2 v4 σ = some res → W p l e (headSpec (ws_ yX1_props cX1_props 5 (some .long)) ({ frames := 1, cells := 0, slots := 0, locals := 23 })).room s m ([.ref h, .int a0] : List Value).toArray below meth c H locs 0 0 (MQ below (mQl D cl ci h ad cA A res) ([.ref h, .int a0] : List Value).toArray s 0 0 A) (F0 m 8 ls [])) ∧ (∀ (v1 : Int32) (v2 : Int64) (v4 : Int32) (σ : pM) (H : Heap) (locs : List Loc), va_P D cl (mw ci h ad cA σ) H → va_D A (mw ci h ad cA σ) → va_S A s.heap H locs → ∀ (ls : Array Slot), lv_has ls 5 [(0, .ref h), (1, .int v1), (2, .long v2), (4, .int v4)] → (lfX1_props K k).2 v1 v2 v4 σ = some res → W p l e (headSpec (ws_ yX1_props cX1_props 5 (some .long)) ({ frames := 1, cells := 0, slots := 0, locals := 23 })).room s m ([.ref h, .int a0] : List Value).toArray below meth c H locs 0 0 (MQ below (mQl D cl ci h ad cA A res) ([.ref h, .int a0] : List Value).toArray s 0 0 A) (F0 m 53 ls [])) := by
  intro k
  induction k with
  | zero =>
    exact ⟨fun _ _ _ _ _ _ _ _ _ _ _ hf => (by cases hf), fun _ _ _ _ _ _ _ _ _ _ _ hf => (by cases hf)⟩
  | succ k ih =>
    refine ⟨?_, ?_⟩
    · intro v1 v2 v4 σ H locs hP hD hS ls hl hf
      have hf : (if ¬ (v1 < 0 ∨ 116 ≤ Int32.toNatClampNeg v1) then (dz_l (σ.2.2.1 12 (Int32.toNatClampNeg v1)) fun x2 => if ((9 * v1) + x2) ≤ v4 then (dz_l (9 * v1) fun x3 => (lfX1_props K k).2 v1 v2 x3 σ) else (if ¬ (v4 < 0 ∨ 1044 ≤ Int32.toNatClampNeg v4) then (dz_l (σ.2.2.1 14 (Int32.toNatClampNeg v4)) fun x5 => dz_c (fnX1_lineFor K x5 v1 σ) fun x6 s7 => dz_l (v2 ||| (1 <<< (Int32.toInt64 x6 &&& 63))) fun x8 => dz_l (v4 + 1) fun x9 => (lfX1_props K k).1 v1 x8 x9 s7) else none)) else none : Option (Int64 × pM)) = some res := hf
      refine lv_iload hx hb dX1_props_8 (lv_at hl 3 rfl) ?_
      refine lv_bipush (v := 9) hx hb dX1_props_10 (by decide) ?_
      refine lv_iload_n hx hb dX1_props_12 rfl (lv_at hl 1 rfl) ?_
      refine lv_imul hx hb dX1_props_13 ?_
      refine lv_aload_n hx hb dX1_props_14 rfl (lv_at hl 0 rfl) ?_
      refine va_get (C := RX1) (T := TX1) (N := 35) (fs := mwF ad σ) (v := .ref (ad 12)) hx hb hts in_X1 hown hK hP 0 rfl hci 12 (by decide) (hts _ q1683) (fun _ hq => hq) rfl dX1_props_15 ?_
      refine lv_iload_n hx hb dX1_props_18 rfl (lv_at hl 1 rfl) ?_
      obtain ⟨g1, hf⟩ := dz_go hf
      refine va_iald hx hb hK hP 10 0 rfl rfl g1 dX1_props_19 ?_
      refine lv_topi (fun x2 e_x2 => ?_)
      have hf := dz_ls e_x2 hf
      refine lv_iadd hx hb dX1_props_20 ?_
      refine lv_icmp_ge (tgt := 47) hx hb dX1_props_21 (by decide) (fun c21 => ?_) (fun c21 => ?_)
      · have hf := dz_t c21 hf
        refine lv_bipush (v := 9) hx hb dX1_props_47 (by decide) ?_
        refine lv_iload_n hx hb dX1_props_49 rfl (lv_at hl 1 rfl) ?_
        refine lv_imul hx hb dX1_props_50 ?_
        refine lv_topi (fun x3 e_x3 => ?_)
        have hf := dz_ls e_x3 hf
        refine lv_istore (lv' := [(4, .int x3), (0, .ref h), (1, .int v1), (2, .long v2)]) hx hb dX1_props_51 hl (by decide) rfl (fun ls hl => ?_)
        exact ih.2 v1 v2 x3 σ H locs hP hD hS ls (lv_sub hl [1, 2, 3, 0] rfl) hf
      · have hf := dz_f c21 hf
        refine lv_lload_n hx hb dX1_props_24 rfl (lv_at hl 2 rfl) ?_
        refine lv_lconst (v := 1) hx hb dX1_props_25 rfl ?_
        refine lv_aload_n hx hb dX1_props_26 rfl (lv_at hl 0 rfl) ?_
        refine lv_aload_n hx hb dX1_props_27 rfl (lv_at hl 0 rfl) ?_
        refine va_get (C := RX1) (T := TX1) (N := 35) (fs := mwF ad σ) (v := .ref (ad 14)) hx hb hts in_X1 hown hK hP 0 rfl hci 14 (by decide) (hts _ q1685) (fun _ hq => hq) rfl dX1_props_28 ?_
        refine lv_iload hx hb dX1_props_31 (lv_at hl 3 rfl) ?_
        obtain ⟨g4, hf⟩ := dz_go hf
        refine va_iald hx hb hK hP 12 0 rfl rfl g4 dX1_props_33 ?_
        refine lv_topi (fun x5 e_x5 => ?_)
        have hf := dz_ls e_x5 hf
        refine lv_iload_n hx hb dX1_props_34 rfl (lv_at hl 1 rfl) ?_
        obtain ⟨x6, s7, hx6, hf⟩ := dz_co hf
        have hFc := dz_free hD hS hA
        refine va_calli (va_runV (As := [.int x5, .int v1]) (rest := [.long 1, .long v2]) ⟨hx, hb, hml, hown, hts⟩ (mtX1_lineFor l D cl ci hci h ad cA H.size σ x5 v1 K (x6, s7) hx6) (cwV 2 hts (lw_V q1809 q1811 qs39 q88 q1812) rfl rfl rfl (by decide +kernel) ⟨Nat.le_of_ble_eq_true rfl, Nat.le_of_ble_eq_true rfl⟩) (m_preV hci hK hP hD) rfl rfl hl.1 rfl (lv_room (Nat.le_of_ble_eq_true rfl)) dX1_props_35 ⟨Nat.le_refl _, Nat.le_refl _⟩) hS (fun q _ hq => hFc q hq) hFc (fun r u t H1 locs ht hvm hw hB hz hk hS => ?_)
        obtain ⟨hw1, hw2⟩ := Prod.mk.inj hw.symm; subst hw1; subst hw2
        replace hP := m_back ht hB
        replace hD := mw_D s7 hD
        clear hB hk hz hvm ht hFc; generalize H1 = H at hP hS ⊢
        refine lv_lshl hx hb dX1_props_38 (rfl : _ = 1 <<< (Int32.toInt64 x6 &&& 63)) ?_
        refine lv_lor hx hb dX1_props_39 ?_
        refine lv_topl (fun x8 e_x8 => ?_)
        have hf := dz_ls e_x8 hf
        refine lv_lstore_n (lv' := [(2, .long x8), (0, .ref h), (1, .int v1), (4, .int v4)]) hx hb dX1_props_40 rfl hl (by decide) rfl (fun ls hl => ?_)
        obtain ⟨x9, e_x9, hf⟩ := dz_lo hf
        refine lv_iinc (v := x9) (lv' := [(4, .int x9), (2, .long x8), (0, .ref h), (1, .int v1)]) hx hb dX1_props_41 hl (k := 3) rfl (by rw [e_x9]; rfl) (by decide) rfl (fun ls hl => ?_)
        refine lv_goto (tgt := 8) hx hb dX1_props_44 (by decide) ?_
        exact ih.1 v1 x8 x9 s7 H locs hP hD hS ls (lv_sub hl [2, 3, 1, 0] rfl) hf
    · intro v1 v2 v4 σ H locs hP hD hS ls hl hf
      have hf : (if ¬ (v1 < 0 ∨ 116 ≤ Int32.toNatClampNeg v1) then (dz_l (σ.2.2.1 13 (Int32.toNatClampNeg v1)) fun x2 => if ((9 * v1) + x2) ≤ v4 then (some (v2, σ)) else (if ¬ (v4 < 0 ∨ 1044 ≤ Int32.toNatClampNeg v4) then (dz_l (σ.2.2.1 17 (Int32.toNatClampNeg v4)) fun x4 => dz_c (fnX1_lineFor K x4 v1 σ) fun x5 s6 => dz_l (v2 ||| (1 <<< (Int32.toInt64 x5 &&& 63))) fun x7 => dz_l (v4 + 1) fun x8 => (lfX1_props K k).2 v1 x7 x8 s6) else none)) else none : Option (Int64 × pM)) = some res := hf
      refine lv_iload hx hb dX1_props_53 (lv_at hl 3 rfl) ?_
      refine lv_bipush (v := 9) hx hb dX1_props_55 (by decide) ?_
      refine lv_iload_n hx hb dX1_props_57 rfl (lv_at hl 1 rfl) ?_
      refine lv_imul hx hb dX1_props_58 ?_
      refine lv_aload_n hx hb dX1_props_59 rfl (lv_at hl 0 rfl) ?_
      refine va_get (C := RX1) (T := TX1) (N := 35) (fs := mwF ad σ) (v := .ref (ad 13)) hx hb hts in_X1 hown hK hP 0 rfl hci 13 (by decide) (hts _ q1684) (fun _ hq => hq) rfl dX1_props_60 ?_
      refine lv_iload_n hx hb dX1_props_63 rfl (lv_at hl 1 rfl) ?_
      obtain ⟨g1, hf⟩ := dz_go hf
      refine va_iald hx hb hK hP 11 0 rfl rfl g1 dX1_props_64 ?_
      refine lv_topi (fun x2 e_x2 => ?_)
      have hf := dz_ls e_x2 hf
      refine lv_iadd hx hb dX1_props_65 ?_
      refine lv_icmp_ge (tgt := 92) hx hb dX1_props_66 (by decide) (fun c66 => ?_) (fun c66 => ?_)
      · have hf := dz_t c66 hf
        refine lv_lload_n hx hb dX1_props_92 rfl (lv_at hl 2 rfl) ?_
        exact W.lret (v := v2) hx hb hr (fun t ht hW => ⟨⟨v2, σ, rfl, Option.some.inj hf, by rw [ht]; exact hP, va_K.moved hW.alike hK, hD⟩, hS.F ht⟩) hS.2.2 dX1_props_93
      · have hf := dz_f c66 hf
        refine lv_lload_n hx hb dX1_props_69 rfl (lv_at hl 2 rfl) ?_
        refine lv_lconst (v := 1) hx hb dX1_props_70 rfl ?_
        refine lv_aload_n hx hb dX1_props_71 rfl (lv_at hl 0 rfl) ?_
        refine lv_aload_n hx hb dX1_props_72 rfl (lv_at hl 0 rfl) ?_
        refine va_get (C := RX1) (T := TX1) (N := 35) (fs := mwF ad σ) (v := .ref (ad 17)) hx hb hts in_X1 hown hK hP 0 rfl hci 17 (by decide) (hts _ q1688) (fun _ hq => hq) rfl dX1_props_73 ?_
        refine lv_iload hx hb dX1_props_76 (lv_at hl 3 rfl) ?_
        obtain ⟨g3, hf⟩ := dz_go hf
        refine va_iald hx hb hK hP 15 0 rfl rfl g3 dX1_props_78 ?_
        refine lv_topi (fun x4 e_x4 => ?_)
        have hf := dz_ls e_x4 hf
        refine lv_iload_n hx hb dX1_props_79 rfl (lv_at hl 1 rfl) ?_
        obtain ⟨x5, s6, hx5, hf⟩ := dz_co hf
        have hFc := dz_free hD hS hA
        refine va_calli (va_runV (As := [.int x4, .int v1]) (rest := [.long 1, .long v2]) ⟨hx, hb, hml, hown, hts⟩ (mtX1_lineFor l D cl ci hci h ad cA H.size σ x4 v1 K (x5, s6) hx5) (cwV 2 hts (lw_V q1809 q1811 qs39 q88 q1812) rfl rfl rfl (by decide +kernel) ⟨Nat.le_of_ble_eq_true rfl, Nat.le_of_ble_eq_true rfl⟩) (m_preV hci hK hP hD) rfl rfl hl.1 rfl (lv_room (Nat.le_of_ble_eq_true rfl)) dX1_props_80 ⟨Nat.le_refl _, Nat.le_refl _⟩) hS (fun q _ hq => hFc q hq) hFc (fun r u t H1 locs ht hvm hw hB hz hk hS => ?_)
        obtain ⟨hw1, hw2⟩ := Prod.mk.inj hw.symm; subst hw1; subst hw2
        replace hP := m_back ht hB
        replace hD := mw_D s6 hD
        clear hB hk hz hvm ht hFc; generalize H1 = H at hP hS ⊢
        refine lv_lshl hx hb dX1_props_83 (rfl : _ = 1 <<< (Int32.toInt64 x5 &&& 63)) ?_
        refine lv_lor hx hb dX1_props_84 ?_
        refine lv_topl (fun x7 e_x7 => ?_)
        have hf := dz_ls e_x7 hf
        refine lv_lstore_n (lv' := [(2, .long x7), (0, .ref h), (1, .int v1), (4, .int v4)]) hx hb dX1_props_85 rfl hl (by decide) rfl (fun ls hl => ?_)
        obtain ⟨x8, e_x8, hf⟩ := dz_lo hf
        refine lv_iinc (v := x8) (lv' := [(4, .int x8), (2, .long x7), (0, .ref h), (1, .int v1)]) hx hb dX1_props_86 hl (k := 3) rfl (by rw [e_x8]; rfl) (by decide) rfl (fun ls hl => ?_)
        refine lv_goto (tgt := 53) hx hb dX1_props_89 (by decide) ?_
        exact ih.2 v1 x7 x8 s6 H locs hP hD hS ls (lv_sub hl [2, 3, 1, 0] rfl) hf
set_option maxHeartbeats 4000000 in
set_option maxRecDepth 100000 in
theorem mtX1_props (l : Launch) (D : va_G) (cl : List vw_C) (ci : Nat) (hci : cl[ci]? = some (RX1, TX1, 35)) (h : Nat) (ad : Nat → Nat) (cA : Nat → ClassId) (sz : Nat) (σ : pM) (a0 : Int32) (K : Nat) (res : (Int64 × pM)) (hf : fnX1_props K a0 σ = some res) : Met l yX1_props (ws_ yX1_props cX1_props 5 (some .long)) ({ frames := 1, cells := 0, slots := 0, locals := 23 }) (mPc D cl ci h ad cA sz σ [.ref h, .int a0]) (mQl D cl ci h ad cA (va_A (mw ci h ad cA σ) sz) res) 0 0 (va_A (mw ci h ad cA σ) sz) := by
  refine Met.ofW (cc := cX1_props) (maxL := 5) (ret := some .long) (by decide +kernel) rfl ?_
  intro p e s m args below meth c s₁ B hml hv
  obtain ⟨rfl, hsz, hP, hK, hD0⟩ := hv
  have hx := B.exec
  have hb := B.bytes
  have hr := B.returns
  have hts := atoms_spec (ws := ws_ yX1_props cX1_props 5 (some .long)) B.pre
  have hts : ∀ w ∈ lw_all, w.before _ s = true := fun w h => hts w (List.mem_cons_of_mem _ h)
  have hown : s.vm.findClass RX1 = some m.cls := findClass_of_methodNamed B.named
  have hlocks := B.notSynchronized
  subst hsz
  have hD := hD0.self (sz := s.heap.size)
  generalize hAe : va_A (mw ci h ad cA σ) s.heap.size = A at hD ⊢
  have hA : ∀ q : Nat, s.heap.size ≤ q → A q := fun q h => by rw [← hAe]; exact Or.inr h
  clear hAe hD0
  have hS : va_S A s.heap s.heap [] := va_S.rf
  generalize hHe : s.heap = H at hP hS ⊢
  have hS : va_S A s.heap H [] := by rw [hHe]; exact hS
  generalize ([] : List Loc) = locs at hS ⊢
  have hl := lv_entry ([.ref h, .int a0]) (n := 5) (Nat.le_of_ble_eq_true rfl)
  rw [lg_entry_eq]
  generalize (lg_sl ([.ref h, .int a0]) ++ List.replicate (5 - (lg_sl ([.ref h, .int a0])).length) Slot.unset).toArray = ls at hl ⊢
  have hl : lv_has ls 5 [(0, .ref h), (1, .int a0)] := hl
  have hf : (dz_l (9 * a0) fun x1 => (lfX1_props K K).1 a0 0 x1 σ : Option (Int64 × pM)) = some res := hf
  have ih := wlX1_props (l := l) (e := e) (below := below) (h := h) (ad := ad) (cA := cA) hci hA hK K res a0 hx hb hr hlocks hml hown hts K
  refine lv_lconst (v := 0) hx hb dX1_props_0 rfl ?_
  refine lv_lstore_n (lv' := [(2, .long 0), (0, .ref h), (1, .int a0)]) hx hb dX1_props_1 rfl hl (by decide) rfl (fun ls hl => ?_)
  refine lv_bipush (v := 9) hx hb dX1_props_2 (by decide) ?_
  refine lv_iload_n hx hb dX1_props_4 rfl (lv_at hl 2 rfl) ?_
  refine lv_imul hx hb dX1_props_5 ?_
  refine lv_topi (fun x1 e_x1 => ?_)
  have hf := dz_ls e_x1 hf
  refine lv_istore (lv' := [(4, .int x1), (2, .long 0), (0, .ref h), (1, .int a0)]) hx hb dX1_props_6 hl (by decide) rfl (fun ls hl => ?_)
  exact ih.1 a0 0 x1 σ H locs hP hD hS ls (lv_sub hl [2, 3, 1, 0] rfl) hf

noncomputable def lfX1_restsOf (K : Nat) : Nat → (Int64 → Int32 → pM → Option (Int64 × pM)) × (Int64 → Int32 → pM → Option (Int64 × pM)) := Nat.rec (motive := fun _ => (Int64 → Int32 → pM → Option (Int64 × pM)) × (Int64 → Int32 → pM → Option (Int64 × pM))) ((fun _ _ _ => none), (fun _ _ _ => none)) (fun _ G => ((fun v2 v4 σ => if v4 < (0 : Int32) then (some (v2, σ)) else (dz_b (fnX1_has K v2 v4) fun x1 => if x1 = (0 : Int32) then (G.2 v2 v4 σ) else (dz_c (fnX1_props K v4 σ) fun x2 s3 => dz_l (v2 ||| x2) fun x4 => G.2 x4 v4 s3))), (fun v2 v4 σ => dz_l (v4 + (-1)) fun x1 => G.1 v2 x1 σ)))
noncomputable def fnX1_restsOf (K : Nat) (a0 : Int32) (σ : pM) : Option (Int64 × pM) := dz_l (1 <<< (Int32.toInt64 a0 &&& 63)) fun x1 => (lfX1_restsOf K K).1 x1 a0 σ
set_option maxHeartbeats 4000000 in
set_option maxRecDepth 100000 in
theorem wlX1_restsOf {p : Program} {l : Launch} {e : Env} {s : State} {m : MethodId} {below : List Frame} {meth : Method} {c : Code} {D : va_G} {cl : List vw_C} {ci : Nat} (hci : cl[ci]? = some (RX1, TX1, 35)) {h : Nat} {ad : Nat → Nat} {cA : Nat → ClassId} {A : Nat → Prop} (hA : ∀ q : Nat, s.heap.size ≤ q → A q) (hK : va_K D cl (mtys cA) s) (K : Nat) (res : (Int64 × pM)) (a0 : Int32) (hx : p.tables.exec = Jvm.exec) (hb : c.code = cX1_restsOf) (hr : meth.sig.returnType = some .long) (hlocks : meth.locks = false) (hml : c.maxLocals = 5) (hown : s.vm.findClass RX1 = some m.cls) (hts : ∀ w ∈ lw_all, w.before ([.ref h, .int a0] : List Value).toArray s = true) : ∀ k : Nat, (∀ (v2 : Int64) (v4 : Int32) (σ : pM) (H : Heap) (locs : List Loc), va_P D cl (mw ci h ad cA σ) H → va_D A (mw ci h ad cA σ) → va_S A s.heap H locs → ∀ (ls : Array Slot), lv_has ls 5 [(0, .ref h), (2, .long v2), (4, .int v4)] → (lfX1_restsOf K k).1 v2 v4 σ = some res → W p l e (headSpec (ws_ yX1_restsOf cX1_restsOf 5 (some .long)) ({ frames := 2, cells := 0, slots := 0, locals := 47 })).room s m ([.ref h, .int a0] : List Value).toArray below meth c H locs 0 0 (MQ below (mQl D cl ci h ad cA A res) ([.ref h, .int a0] : List Value).toArray s 0 0 A) (F0 m 7 ls [])) ∧ (∀ (v2 : Int64) (v4 : Int32) (σ : pM) (H : Heap) (locs : List Loc), va_P D cl (mw ci h ad cA σ) H → va_D A (mw ci h ad cA σ) → va_S A s.heap H locs → ∀ (ls : Array Slot), lv_has ls 5 [(0, .ref h), (2, .long v2), (4, .int v4)] → (lfX1_restsOf K k).2 v2 v4 σ = some res → W p l e (headSpec (ws_ yX1_restsOf cX1_restsOf 5 (some .long)) ({ frames := 2, cells := 0, slots := 0, locals := 47 })).room s m ([.ref h, .int a0] : List Value).toArray below meth c H locs 0 0 (MQ below (mQl D cl ci h ad cA A res) ([.ref h, .int a0] : List Value).toArray s 0 0 A) (F0 m 30 ls [])) := by
  intro k
  induction k with
  | zero =>
    exact ⟨fun _ _ _ _ _ _ _ _ _ _ hf => (by cases hf), fun _ _ _ _ _ _ _ _ _ _ hf => (by cases hf)⟩
  | succ k ih =>
    refine ⟨?_, ?_⟩
    · intro v2 v4 σ H locs hP hD hS ls hl hf
      have hf : (if v4 < (0 : Int32) then (some (v2, σ)) else (dz_b (fnX1_has K v2 v4) fun x1 => if x1 = (0 : Int32) then ((lfX1_restsOf K k).2 v2 v4 σ) else (dz_c (fnX1_props K v4 σ) fun x2 s3 => dz_l (v2 ||| x2) fun x4 => (lfX1_restsOf K k).2 x4 v4 s3)) : Option (Int64 × pM)) = some res := hf
      refine lv_iload hx hb dX1_restsOf_7 (lv_at hl 2 rfl) ?_
      refine lv_if_lt (tgt := 36) hx hb dX1_restsOf_9 (by decide) (fun c9 => ?_) (fun c9 => ?_)
      · have hf := dz_t c9 hf
        refine lv_lload_n hx hb dX1_restsOf_36 rfl (lv_at hl 1 rfl) ?_
        exact W.lret (v := v2) hx hb hr (fun t ht hW => ⟨⟨v2, σ, rfl, Option.some.inj hf, by rw [ht]; exact hP, va_K.moved hW.alike hK, hD⟩, hS.F ht⟩) hS.2.2 dX1_restsOf_37
      · have hf := dz_f c9 hf
        refine lv_lload_n hx hb dX1_restsOf_12 rfl (lv_at hl 1 rfl) ?_
        refine lv_iload hx hb dX1_restsOf_13 (lv_at hl 2 rfl) ?_
        obtain ⟨x1, hx1, hf⟩ := dz_bo hf
        refine va_calli (va_runS (As := [.long v2, .int v4]) (rest := []) ⟨hx, hb, hml, hown, hts⟩ (mtX1_has l v2 v4 K x1 hx1) (va_cwS 2 hts (lw_S q2059 q2060 q88 q2061) rfl rfl rfl (by decide +kernel) ⟨Nat.le_of_ble_eq_true rfl, Nat.le_of_ble_eq_true rfl⟩) ⟨fun a U g mk q => q, fun U hU hW => ⟨rfl, trivial⟩⟩ rfl rfl hl.1 rfl (lv_room (Nat.le_of_ble_eq_true rfl)) dX1_restsOf_15 ⟨Nat.le_refl _, Nat.le_refl _⟩) hS (fun q _ hq => hq.elim) (fun q hq => hq.elim) (fun r u t H1 locs ht hvm hw hB hz hk hS => ?_)
        replace hw := hw.symm; subst hw
        replace hP := dz_keep hP hk
        clear hB hk hz hvm ht; generalize H1 = H at hP hS ⊢
        refine lv_if_eq (tgt := 30) hx hb dX1_restsOf_18 (by decide) (fun c18 => ?_) (fun c18 => ?_)
        · have hf := dz_t c18 hf
          exact ih.2 v2 v4 σ H locs hP hD hS ls (lv_sub hl [0, 1, 2] rfl) hf
        · have hf := dz_f c18 hf
          refine lv_lload_n hx hb dX1_restsOf_21 rfl (lv_at hl 1 rfl) ?_
          refine lv_aload_n hx hb dX1_restsOf_22 rfl (lv_at hl 0 rfl) ?_
          refine lv_iload hx hb dX1_restsOf_23 (lv_at hl 2 rfl) ?_
          obtain ⟨x2, s3, hx2, hf⟩ := dz_co hf
          have hFc := dz_free hD hS hA
          refine va_calll (va_runV (As := [.int v4]) (rest := [.long v2]) ⟨hx, hb, hml, hown, hts⟩ (mtX1_props l D cl ci hci h ad cA H.size σ v4 K (x2, s3) hx2) (cwV 1 hts (lw_V q2062 q2064 qs79 q88 q2065) rfl rfl rfl (by decide +kernel) ⟨Nat.le_of_ble_eq_true rfl, Nat.le_of_ble_eq_true rfl⟩) (m_preV hci hK hP hD) rfl rfl hl.1 rfl (lv_room (Nat.le_of_ble_eq_true rfl)) dX1_restsOf_25 ⟨Nat.le_refl _, Nat.le_refl _⟩) hS (fun q _ hq => hFc q hq) hFc (fun r u t H1 locs ht hvm hw hB hz hk hS => ?_)
          obtain ⟨hw1, hw2⟩ := Prod.mk.inj hw.symm; subst hw1; subst hw2
          replace hP := m_back ht hB
          replace hD := mw_D s3 hD
          clear hB hk hz hvm ht hFc; generalize H1 = H at hP hS ⊢
          refine lv_lor hx hb dX1_restsOf_28 ?_
          refine lv_topl (fun x4 e_x4 => ?_)
          have hf := dz_ls e_x4 hf
          refine lv_lstore_n (lv' := [(2, .long x4), (0, .ref h), (4, .int v4)]) hx hb dX1_restsOf_29 rfl hl (by decide) rfl (fun ls hl => ?_)
          exact ih.2 x4 v4 s3 H locs hP hD hS ls (lv_sub hl [1, 0, 2] rfl) hf
    · intro v2 v4 σ H locs hP hD hS ls hl hf
      have hf : (dz_l (v4 + (-1)) fun x1 => (lfX1_restsOf K k).1 v2 x1 σ : Option (Int64 × pM)) = some res := hf
      obtain ⟨x1, e_x1, hf⟩ := dz_lo hf
      refine lv_iinc (v := x1) (lv' := [(4, .int x1), (0, .ref h), (2, .long v2)]) hx hb dX1_restsOf_30 hl (k := 2) rfl (by rw [e_x1]; rfl) (by decide) rfl (fun ls hl => ?_)
      refine lv_goto (tgt := 7) hx hb dX1_restsOf_33 (by decide) ?_
      exact ih.1 v2 x1 σ H locs hP hD hS ls (lv_sub hl [1, 2, 0] rfl) hf
set_option maxHeartbeats 4000000 in
set_option maxRecDepth 100000 in
theorem mtX1_restsOf (l : Launch) (D : va_G) (cl : List vw_C) (ci : Nat) (hci : cl[ci]? = some (RX1, TX1, 35)) (h : Nat) (ad : Nat → Nat) (cA : Nat → ClassId) (sz : Nat) (σ : pM) (a0 : Int32) (K : Nat) (res : (Int64 × pM)) (hf : fnX1_restsOf K a0 σ = some res) : Met l yX1_restsOf (ws_ yX1_restsOf cX1_restsOf 5 (some .long)) ({ frames := 2, cells := 0, slots := 0, locals := 47 }) (mPc D cl ci h ad cA sz σ [.ref h, .int a0]) (mQl D cl ci h ad cA (va_A (mw ci h ad cA σ) sz) res) 0 0 (va_A (mw ci h ad cA σ) sz) := by
  refine Met.ofW (cc := cX1_restsOf) (maxL := 5) (ret := some .long) (by decide +kernel) rfl ?_
  intro p e s m args below meth c s₁ B hml hv
  obtain ⟨rfl, hsz, hP, hK, hD0⟩ := hv
  have hx := B.exec
  have hb := B.bytes
  have hr := B.returns
  have hts := atoms_spec (ws := ws_ yX1_restsOf cX1_restsOf 5 (some .long)) B.pre
  have hts : ∀ w ∈ lw_all, w.before _ s = true := fun w h => hts w (List.mem_cons_of_mem _ h)
  have hown : s.vm.findClass RX1 = some m.cls := findClass_of_methodNamed B.named
  have hlocks := B.notSynchronized
  subst hsz
  have hD := hD0.self (sz := s.heap.size)
  generalize hAe : va_A (mw ci h ad cA σ) s.heap.size = A at hD ⊢
  have hA : ∀ q : Nat, s.heap.size ≤ q → A q := fun q h => by rw [← hAe]; exact Or.inr h
  clear hAe hD0
  have hS : va_S A s.heap s.heap [] := va_S.rf
  generalize hHe : s.heap = H at hP hS ⊢
  have hS : va_S A s.heap H [] := by rw [hHe]; exact hS
  generalize ([] : List Loc) = locs at hS ⊢
  have hl := lv_entry ([.ref h, .int a0]) (n := 5) (Nat.le_of_ble_eq_true rfl)
  rw [lg_entry_eq]
  generalize (lg_sl ([.ref h, .int a0]) ++ List.replicate (5 - (lg_sl ([.ref h, .int a0])).length) Slot.unset).toArray = ls at hl ⊢
  have hl : lv_has ls 5 [(0, .ref h), (1, .int a0)] := hl
  have hf : (dz_l (1 <<< (Int32.toInt64 a0 &&& 63)) fun x1 => (lfX1_restsOf K K).1 x1 a0 σ : Option (Int64 × pM)) = some res := hf
  have ih := wlX1_restsOf (l := l) (e := e) (below := below) (h := h) (ad := ad) (cA := cA) hci hA hK K res a0 hx hb hr hlocks hml hown hts K
  refine lv_lconst (v := 1) hx hb dX1_restsOf_0 rfl ?_
  refine lv_iload_n hx hb dX1_restsOf_1 rfl (lv_at hl 1 rfl) ?_
  refine lv_lshl hx hb dX1_restsOf_2 (rfl : _ = 1 <<< (Int32.toInt64 a0 &&& 63)) ?_
  refine lv_topl (fun x1 e_x1 => ?_)
  have hf := dz_ls e_x1 hf
  refine lv_lstore_n (lv' := [(2, .long x1), (0, .ref h), (1, .int a0)]) hx hb dX1_restsOf_3 rfl hl (by decide) rfl (fun ls hl => ?_)
  refine lv_iload_n hx hb dX1_restsOf_4 rfl (lv_at hl 2 rfl) ?_
  refine lv_istore (lv' := [(4, .int a0), (2, .long x1), (0, .ref h), (1, .int a0)]) hx hb dX1_restsOf_5 hl (by decide) rfl (fun ls hl => ?_)
  exact ih.1 x1 a0 σ H locs hP hD hS ls (lv_sub hl [2, 1, 0] rfl) hf

noncomputable def lfX1_prune (K : Nat) : Nat → (Int64 → Int32 → Int32 → pM → Option (Int32 × pM)) × (Int64 → Int32 → Int32 → pM → Option (Int32 × pM)) × (Int64 → Int32 → Int32 → pM → Option (Int32 × pM)) := Nat.rec (motive := fun _ => (Int64 → Int32 → Int32 → pM → Option (Int32 × pM)) × (Int64 → Int32 → Int32 → pM → Option (Int32 × pM)) × (Int64 → Int32 → Int32 → pM → Option (Int32 × pM))) ((fun _ _ _ _ => none), (fun _ _ _ _ => none), (fun _ _ _ _ => none)) (fun _ G => ((fun v2 v4 v5 σ => dz_l (σ.1 7) fun x1 => if x1 ≤ v5 then (dz_l (mF σ 7 v4) fun s2 => dz_l (s2.1 7) fun x3 => some (x3, s2)) else (dz_b (fnX1_has K v2 v5) fun x4 => if x4 = (0 : Int32) then (G.2.2 v2 v4 v5 σ) else (if v4 = v5 then (G.2.1 v2 v4 v5 σ) else (dz_b (fnX1_becomes K v4 v5 σ) fun s6 => G.2.1 v2 v4 v5 s6)))), (fun v2 v4 v5 σ => dz_l (v4 + 1) fun x1 => G.2.2 v2 x1 v5 σ), (fun v2 v4 v5 σ => dz_l (v5 + 1) fun x1 => G.1 v2 v4 x1 σ)))
noncomputable def fnX1_prune (K : Nat) (a0 : Int32) (σ : pM) : Option (Int32 × pM) := dz_c (fnX1_isLine K a0 σ) fun x1 s2 => if x1 = (0 : Int32) then (some ((-1), s2)) else (dz_c (fnX1_isRightLine K a0 s2) fun x3 s4 => if x3 = (0 : Int32) then (some ((-2), s4)) else (dz_c (fnX1_restsOf K a0 s4) fun x5 s6 => (lfX1_prune K K).1 x5 0 0 s6))
set_option maxHeartbeats 4000000 in
set_option maxRecDepth 100000 in
theorem wlX1_prune {p : Program} {l : Launch} {e : Env} {s : State} {m : MethodId} {below : List Frame} {meth : Method} {c : Code} {D : va_G} {cl : List vw_C} {ci : Nat} (hci : cl[ci]? = some (RX1, TX1, 35)) {h : Nat} {ad : Nat → Nat} {cA : Nat → ClassId} {A : Nat → Prop} (hA : ∀ q : Nat, s.heap.size ≤ q → A q) (hK : va_K D cl (mtys cA) s) (K : Nat) (res : (Int32 × pM)) (a0 : Int32) (hx : p.tables.exec = Jvm.exec) (hb : c.code = cX1_prune) (hr : meth.sig.returnType = some .int) (hlocks : meth.locks = false) (hml : c.maxLocals = 6) (hown : s.vm.findClass RX1 = some m.cls) (hts : ∀ w ∈ lw_all, w.before ([.ref h, .int a0] : List Value).toArray s = true) : ∀ k : Nat, (∀ (v2 : Int64) (v4 : Int32) (v5 : Int32) (σ : pM) (H : Heap) (locs : List Loc), va_P D cl (mw ci h ad cA σ) H → va_D A (mw ci h ad cA σ) → va_S A s.heap H locs → ∀ (ls : Array Slot), lv_has ls 6 [(0, .ref h), (2, .long v2), (4, .int v4), (5, .int v5)] → (lfX1_prune K k).1 v2 v4 v5 σ = some res → W p l e (headSpec (ws_ yX1_prune cX1_prune 6 (some .int)) ({ frames := 6, cells := 0, slots := 0, locals := 151 })).room s m ([.ref h, .int a0] : List Value).toArray below meth c H locs 0 0 (MQ below (mQi D cl ci h ad cA A res) ([.ref h, .int a0] : List Value).toArray s 0 0 A) (F0 m 33 ls [])) ∧ (∀ (v2 : Int64) (v4 : Int32) (v5 : Int32) (σ : pM) (H : Heap) (locs : List Loc), va_P D cl (mw ci h ad cA σ) H → va_D A (mw ci h ad cA σ) → va_S A s.heap H locs → ∀ (ls : Array Slot), lv_has ls 6 [(0, .ref h), (2, .long v2), (4, .int v4), (5, .int v5)] → (lfX1_prune K k).2.1 v2 v4 v5 σ = some res → W p l e (headSpec (ws_ yX1_prune cX1_prune 6 (some .int)) ({ frames := 6, cells := 0, slots := 0, locals := 151 })).room s m ([.ref h, .int a0] : List Value).toArray below meth c H locs 0 0 (MQ below (mQi D cl ci h ad cA A res) ([.ref h, .int a0] : List Value).toArray s 0 0 A) (F0 m 69 ls [])) ∧ (∀ (v2 : Int64) (v4 : Int32) (v5 : Int32) (σ : pM) (H : Heap) (locs : List Loc), va_P D cl (mw ci h ad cA σ) H → va_D A (mw ci h ad cA σ) → va_S A s.heap H locs → ∀ (ls : Array Slot), lv_has ls 6 [(0, .ref h), (2, .long v2), (4, .int v4), (5, .int v5)] → (lfX1_prune K k).2.2 v2 v4 v5 σ = some res → W p l e (headSpec (ws_ yX1_prune cX1_prune 6 (some .int)) ({ frames := 6, cells := 0, slots := 0, locals := 151 })).room s m ([.ref h, .int a0] : List Value).toArray below meth c H locs 0 0 (MQ below (mQi D cl ci h ad cA A res) ([.ref h, .int a0] : List Value).toArray s 0 0 A) (F0 m 72 ls [])) := by
  intro k
  induction k with
  | zero =>
    exact ⟨fun _ _ _ _ _ _ _ _ _ _ _ hf => (by cases hf), fun _ _ _ _ _ _ _ _ _ _ _ hf => (by cases hf), fun _ _ _ _ _ _ _ _ _ _ _ hf => (by cases hf)⟩
  | succ k ih =>
    refine ⟨?_, ?_, ?_⟩
    · intro v2 v4 v5 σ H locs hP hD hS ls hl hf
      have hf : (dz_l (σ.1 7) fun x1 => if x1 ≤ v5 then (dz_l (mF σ 7 v4) fun s2 => dz_l (s2.1 7) fun x3 => some (x3, s2)) else (dz_b (fnX1_has K v2 v5) fun x4 => if x4 = (0 : Int32) then ((lfX1_prune K k).2.2 v2 v4 v5 σ) else (if v4 = v5 then ((lfX1_prune K k).2.1 v2 v4 v5 σ) else (dz_b (fnX1_becomes K v4 v5 σ) fun s6 => (lfX1_prune K k).2.1 v2 v4 v5 s6))) : Option (Int32 × pM)) = some res := hf
      refine lv_iload hx hb dX1_prune_33 (lv_at hl 3 rfl) ?_
      refine lv_aload_n hx hb dX1_prune_35 rfl (lv_at hl 0 rfl) ?_
      refine va_get (C := RX1) (T := TX1) (N := 35) (fs := mwF ad σ) (v := .int (σ.1 7)) hx hb hts in_X1 hown hK hP 0 rfl hci 7 (by decide) (hts _ q1678) (fun _ hq => hq) rfl dX1_prune_36 ?_
      refine lv_topi (fun x1 e_x1 => ?_)
      have hf := dz_ls e_x1 hf
      refine lv_icmp_ge (tgt := 78) hx hb dX1_prune_39 (by decide) (fun c39 => ?_) (fun c39 => ?_)
      · have hf := dz_t c39 hf
        refine lv_aload_n hx hb dX1_prune_78 rfl (lv_at hl 0 rfl) ?_
        refine lv_iload hx hb dX1_prune_79 (lv_at hl 2 rfl) ?_
        refine va_put (C := RX1) (T := TX1) (N := 35) (fs := mwF ad σ) hx hb hts in_X1 tyX1 tyX1_ok nmX1 hown hK hP hD hS 0 rfl hci 7 (by decide) (hts _ q1678) (fun _ hq => hq) rfl rfl rfl rfl (Nat.le_of_ble_eq_true rfl) dX1_prune_81 (fun H locs hP1 _ hS => ?_)
        obtain ⟨s2, e_s2, hf⟩ := dz_lo hf
        have hP : va_P D cl (mw ci h ad cA s2) H := by rw [e_s2]; exact hP1
        clear hP1; replace hD := mw_D s2 hD
        refine lv_aload_n hx hb dX1_prune_84 rfl (lv_at hl 0 rfl) ?_
        refine va_get (C := RX1) (T := TX1) (N := 35) (fs := mwF ad s2) (v := .int (s2.1 7)) hx hb hts in_X1 hown hK hP 0 rfl hci 7 (by decide) (hts _ q1678) (fun _ hq => hq) rfl dX1_prune_85 ?_
        refine lv_topi (fun x3 e_x3 => ?_)
        have hf := dz_ls e_x3 hf
        exact W.iret (v := x3) hx hb hr (fun t ht hW => ⟨⟨x3, s2, rfl, Option.some.inj hf, by rw [ht]; exact hP, va_K.moved hW.alike hK, hD⟩, hS.F ht⟩) hS.2.2 dX1_prune_88
      · have hf := dz_f c39 hf
        refine lv_lload_n hx hb dX1_prune_42 rfl (lv_at hl 1 rfl) ?_
        refine lv_iload hx hb dX1_prune_43 (lv_at hl 3 rfl) ?_
        obtain ⟨x4, hx4, hf⟩ := dz_bo hf
        refine va_calli (va_runS (As := [.long v2, .int v5]) (rest := []) ⟨hx, hb, hml, hown, hts⟩ (mtX1_has l v2 v5 K x4 hx4) (va_cwS 2 hts (lw_S q2059 q2060 q88 q2061) rfl rfl rfl (by decide +kernel) ⟨Nat.le_of_ble_eq_true rfl, Nat.le_of_ble_eq_true rfl⟩) ⟨fun a U g mk q => q, fun U hU hW => ⟨rfl, trivial⟩⟩ rfl rfl hl.1 rfl (lv_room (Nat.le_of_ble_eq_true rfl)) dX1_prune_45 ⟨Nat.le_refl _, Nat.le_refl _⟩) hS (fun q _ hq => hq.elim) (fun q hq => hq.elim) (fun r u t H1 locs ht hvm hw hB hz hk hS => ?_)
        replace hw := hw.symm; subst hw
        replace hP := dz_keep hP hk
        clear hB hk hz hvm ht; generalize H1 = H at hP hS ⊢
        refine lv_if_ne (tgt := 54) hx hb dX1_prune_48 (by decide) (fun c48 => ?_) (fun c48 => ?_)
        · have hf := dz_f c48 hf
          refine lv_iload hx hb dX1_prune_54 (lv_at hl 2 rfl) ?_
          refine lv_iload hx hb dX1_prune_56 (lv_at hl 3 rfl) ?_
          refine lv_icmp_eq (tgt := 69) hx hb dX1_prune_58 (by decide) (fun c58 => ?_) (fun c58 => ?_)
          · have hf := dz_t c58 hf
            exact ih.2.1 v2 v4 v5 σ H locs hP hD hS ls (lv_sub hl [0, 1, 2, 3] rfl) hf
          · have hf := dz_f c58 hf
            refine lv_aload_n hx hb dX1_prune_61 rfl (lv_at hl 0 rfl) ?_
            refine lv_iload hx hb dX1_prune_62 (lv_at hl 2 rfl) ?_
            refine lv_iload hx hb dX1_prune_64 (lv_at hl 3 rfl) ?_
            obtain ⟨s6, hx5, hf⟩ := dz_bo hf
            have hFc := dz_free hD hS hA
            refine va_callv (va_runV (As := [.int v4, .int v5]) (rest := []) ⟨hx, hb, hml, hown, hts⟩ (mtX1_becomes l D cl ci hci h ad cA H.size σ v4 v5 K s6 hx5) (cwV 2 hts (lw_V q1915 q1917 qs59 q88 q1918) rfl rfl rfl (by decide +kernel) ⟨Nat.le_of_ble_eq_true rfl, Nat.le_of_ble_eq_true rfl⟩) (m_preV hci hK hP hD) rfl rfl hl.1 rfl (lv_room (Nat.le_of_ble_eq_true rfl)) dX1_prune_66 ⟨Nat.le_refl _, Nat.le_refl _⟩) hS (fun q _ hq => hFc q hq) hFc (fun u t H1 locs ht hvm hw hB hz hk hS => ?_)
            replace hw := hw.symm; subst hw
            replace hP := m_back ht hB
            replace hD := mw_D s6 hD
            clear hB hk hz hvm ht hFc; generalize H1 = H at hP hS ⊢
            exact ih.2.1 v2 v4 v5 s6 H locs hP hD hS ls (lv_sub hl [0, 1, 2, 3] rfl) hf
        · have hf := dz_t c48 hf
          refine lv_goto (tgt := 72) hx hb dX1_prune_51 (by decide) ?_
          exact ih.2.2 v2 v4 v5 σ H locs hP hD hS ls (lv_sub hl [0, 1, 2, 3] rfl) hf
    · intro v2 v4 v5 σ H locs hP hD hS ls hl hf
      have hf : (dz_l (v4 + 1) fun x1 => (lfX1_prune K k).2.2 v2 x1 v5 σ : Option (Int32 × pM)) = some res := hf
      obtain ⟨x1, e_x1, hf⟩ := dz_lo hf
      refine lv_iinc (v := x1) (lv' := [(4, .int x1), (0, .ref h), (2, .long v2), (5, .int v5)]) hx hb dX1_prune_69 hl (k := 2) rfl (by rw [e_x1]; rfl) (by decide) rfl (fun ls hl => ?_)
      exact ih.2.2 v2 x1 v5 σ H locs hP hD hS ls (lv_sub hl [1, 2, 0, 3] rfl) hf
    · intro v2 v4 v5 σ H locs hP hD hS ls hl hf
      have hf : (dz_l (v5 + 1) fun x1 => (lfX1_prune K k).1 v2 v4 x1 σ : Option (Int32 × pM)) = some res := hf
      obtain ⟨x1, e_x1, hf⟩ := dz_lo hf
      refine lv_iinc (v := x1) (lv' := [(5, .int x1), (0, .ref h), (2, .long v2), (4, .int v4)]) hx hb dX1_prune_72 hl (k := 3) rfl (by rw [e_x1]; rfl) (by decide) rfl (fun ls hl => ?_)
      refine lv_goto (tgt := 33) hx hb dX1_prune_75 (by decide) ?_
      exact ih.1 v2 v4 x1 σ H locs hP hD hS ls (lv_sub hl [1, 2, 3, 0] rfl) hf
set_option maxHeartbeats 4000000 in
set_option maxRecDepth 100000 in
theorem mtX1_prune (l : Launch) (D : va_G) (cl : List vw_C) (ci : Nat) (hci : cl[ci]? = some (RX1, TX1, 35)) (h : Nat) (ad : Nat → Nat) (cA : Nat → ClassId) (sz : Nat) (σ : pM) (a0 : Int32) (K : Nat) (res : (Int32 × pM)) (hf : fnX1_prune K a0 σ = some res) : Met l yX1_prune (ws_ yX1_prune cX1_prune 6 (some .int)) ({ frames := 6, cells := 0, slots := 0, locals := 151 }) (mPc D cl ci h ad cA sz σ [.ref h, .int a0]) (mQi D cl ci h ad cA (va_A (mw ci h ad cA σ) sz) res) 0 0 (va_A (mw ci h ad cA σ) sz) := by
  refine Met.ofW (cc := cX1_prune) (maxL := 6) (ret := some .int) (by decide +kernel) rfl ?_
  intro p e s m args below meth c s₁ B hml hv
  obtain ⟨rfl, hsz, hP, hK, hD0⟩ := hv
  have hx := B.exec
  have hb := B.bytes
  have hr := B.returns
  have hts := atoms_spec (ws := ws_ yX1_prune cX1_prune 6 (some .int)) B.pre
  have hts : ∀ w ∈ lw_all, w.before _ s = true := fun w h => hts w (List.mem_cons_of_mem _ h)
  have hown : s.vm.findClass RX1 = some m.cls := findClass_of_methodNamed B.named
  have hlocks := B.notSynchronized
  subst hsz
  have hD := hD0.self (sz := s.heap.size)
  generalize hAe : va_A (mw ci h ad cA σ) s.heap.size = A at hD ⊢
  have hA : ∀ q : Nat, s.heap.size ≤ q → A q := fun q h => by rw [← hAe]; exact Or.inr h
  clear hAe hD0
  have hS : va_S A s.heap s.heap [] := va_S.rf
  generalize hHe : s.heap = H at hP hS ⊢
  have hS : va_S A s.heap H [] := by rw [hHe]; exact hS
  generalize ([] : List Loc) = locs at hS ⊢
  have hl := lv_entry ([.ref h, .int a0]) (n := 6) (Nat.le_of_ble_eq_true rfl)
  rw [lg_entry_eq]
  generalize (lg_sl ([.ref h, .int a0]) ++ List.replicate (6 - (lg_sl ([.ref h, .int a0])).length) Slot.unset).toArray = ls at hl ⊢
  have hl : lv_has ls 6 [(0, .ref h), (1, .int a0)] := hl
  have hf : (dz_c (fnX1_isLine K a0 σ) fun x1 s2 => if x1 = (0 : Int32) then (some ((-1), s2)) else (dz_c (fnX1_isRightLine K a0 s2) fun x3 s4 => if x3 = (0 : Int32) then (some ((-2), s4)) else (dz_c (fnX1_restsOf K a0 s4) fun x5 s6 => (lfX1_prune K K).1 x5 0 0 s6)) : Option (Int32 × pM)) = some res := hf
  have ih := wlX1_prune (l := l) (e := e) (below := below) (h := h) (ad := ad) (cA := cA) hci hA hK K res a0 hx hb hr hlocks hml hown hts K
  refine lv_aload_n hx hb dX1_prune_0 rfl (lv_at hl 0 rfl) ?_
  refine lv_iload_n hx hb dX1_prune_1 rfl (lv_at hl 1 rfl) ?_
  obtain ⟨x1, s2, hx1, hf⟩ := dz_co hf
  have hFc := dz_free hD hS hA
  refine va_calli (va_runV (As := [.int a0]) (rest := []) ⟨hx, hb, hml, hown, hts⟩ (mtX1_isLine l D cl ci hci h ad cA H.size σ a0 K (x1, s2) hx1) (cwV 1 hts (lw_V q1923 q1925 qs60 q88 q1926) rfl rfl rfl (by decide +kernel) ⟨Nat.le_of_ble_eq_true rfl, Nat.le_of_ble_eq_true rfl⟩) (m_preV hci hK hP hD) rfl rfl hl.1 rfl (lv_room (Nat.le_of_ble_eq_true rfl)) dX1_prune_2 ⟨Nat.le_refl _, Nat.le_refl _⟩) hS (fun q _ hq => hFc q hq) hFc (fun r u t H1 locs ht hvm hw hB hz hk hS => ?_)
  obtain ⟨hw1, hw2⟩ := Prod.mk.inj hw.symm; subst hw1; subst hw2
  replace hP := m_back ht hB
  replace hD := mw_D s2 hD
  clear hB hk hz hvm ht hFc; generalize H1 = H at hP hS ⊢
  refine lv_if_ne (tgt := 10) hx hb dX1_prune_5 (by decide) (fun c5 => ?_) (fun c5 => ?_)
  · have hf := dz_f c5 hf
    refine lv_aload_n hx hb dX1_prune_10 rfl (lv_at hl 0 rfl) ?_
    refine lv_iload_n hx hb dX1_prune_11 rfl (lv_at hl 1 rfl) ?_
    obtain ⟨x3, s4, hx3, hf⟩ := dz_co hf
    have hFc := dz_free hD hS hA
    refine va_calli (va_runV (As := [.int a0]) (rest := []) ⟨hx, hb, hml, hown, hts⟩ (mtX1_isRightLine l D cl ci hci h ad cA H.size s2 a0 K (x3, s4) hx3) (cwV 1 hts (lw_V q2047 q2049 qs77 q88 q2050) rfl rfl rfl (by decide +kernel) ⟨Nat.le_of_ble_eq_true rfl, Nat.le_of_ble_eq_true rfl⟩) (m_preV hci hK hP hD) rfl rfl hl.1 rfl (lv_room (Nat.le_of_ble_eq_true rfl)) dX1_prune_12 ⟨Nat.le_refl _, Nat.le_refl _⟩) hS (fun q _ hq => hFc q hq) hFc (fun r u t H1 locs ht hvm hw hB hz hk hS => ?_)
    obtain ⟨hw1, hw2⟩ := Prod.mk.inj hw.symm; subst hw1; subst hw2
    replace hP := m_back ht hB
    replace hD := mw_D s4 hD
    clear hB hk hz hvm ht hFc; generalize H1 = H at hP hS ⊢
    refine lv_if_ne (tgt := 21) hx hb dX1_prune_15 (by decide) (fun c15 => ?_) (fun c15 => ?_)
    · have hf := dz_f c15 hf
      refine lv_aload_n hx hb dX1_prune_21 rfl (lv_at hl 0 rfl) ?_
      refine lv_iload_n hx hb dX1_prune_22 rfl (lv_at hl 1 rfl) ?_
      obtain ⟨x5, s6, hx5, hf⟩ := dz_co hf
      have hFc := dz_free hD hS hA
      refine va_calll (va_runV (As := [.int a0]) (rest := []) ⟨hx, hb, hml, hown, hts⟩ (mtX1_restsOf l D cl ci hci h ad cA H.size s4 a0 K (x5, s6) hx5) (cwV 1 hts (lw_V q2055 q2057 qs78 q88 q2058) rfl rfl rfl (by decide +kernel) ⟨Nat.le_of_ble_eq_true rfl, Nat.le_of_ble_eq_true rfl⟩) (m_preV hci hK hP hD) rfl rfl hl.1 rfl (lv_room (Nat.le_of_ble_eq_true rfl)) dX1_prune_23 ⟨Nat.le_refl _, Nat.le_refl _⟩) hS (fun q _ hq => hFc q hq) hFc (fun r u t H1 locs ht hvm hw hB hz hk hS => ?_)
      obtain ⟨hw1, hw2⟩ := Prod.mk.inj hw.symm; subst hw1; subst hw2
      replace hP := m_back ht hB
      replace hD := mw_D s6 hD
      clear hB hk hz hvm ht hFc; generalize H1 = H at hP hS ⊢
      refine lv_lstore_n (lv' := [(2, .long x5), (0, .ref h), (1, .int a0)]) hx hb dX1_prune_26 rfl hl (by decide) rfl (fun ls hl => ?_)
      refine lv_iconst (v := 0) hx hb dX1_prune_27 (by decide) ?_
      refine lv_istore (lv' := [(4, .int 0), (2, .long x5), (0, .ref h), (1, .int a0)]) hx hb dX1_prune_28 hl (by decide) rfl (fun ls hl => ?_)
      refine lv_iconst (v := 0) hx hb dX1_prune_30 (by decide) ?_
      refine lv_istore (lv' := [(5, .int 0), (4, .int 0), (2, .long x5), (0, .ref h), (1, .int a0)]) hx hb dX1_prune_31 hl (by decide) rfl (fun ls hl => ?_)
      exact ih.1 x5 0 0 s6 H locs hP hD hS ls (lv_sub hl [3, 2, 1, 0] rfl) hf
    · have hf := dz_t c15 hf
      refine lv_bipush (v := (-2)) hx hb dX1_prune_18 (by decide) ?_
      exact W.iret (v := (-2)) hx hb hr (fun t ht hW => ⟨⟨(-2), s4, rfl, Option.some.inj hf, by rw [ht]; exact hP, va_K.moved hW.alike hK, hD⟩, hS.F ht⟩) hS.2.2 dX1_prune_20
  · have hf := dz_t c5 hf
    refine lv_iconst (v := (-1)) hx hb dX1_prune_8 (by decide) ?_
    exact W.iret (v := (-1)) hx hb hr (fun t ht hW => ⟨⟨(-1), s2, rfl, Option.some.inj hf, by rw [ht]; exact hP, va_K.moved hW.alike hK, hD⟩, hS.F ht⟩) hS.2.2 dX1_prune_9

noncomputable def fnX1_drop (K : Nat)  (σ : pM) : Option (Int32 × pM) := dz_l (σ.1 7) fun x1 => if x1 = (0 : Int32) then (some ((-1), σ)) else (dz_l (σ.1 7) fun x2 => dz_l (x2 - 1) fun x3 => dz_l (mF σ 7 x3) fun s4 => dz_l (s4.1 7) fun x5 => some (x5, s4))
set_option maxHeartbeats 4000000 in
set_option maxRecDepth 100000 in
theorem mtX1_drop (l : Launch) (D : va_G) (cl : List vw_C) (ci : Nat) (hci : cl[ci]? = some (RX1, TX1, 35)) (h : Nat) (ad : Nat → Nat) (cA : Nat → ClassId) (sz : Nat) (σ : pM)  (K : Nat) (res : (Int32 × pM)) (hf : fnX1_drop K  σ = some res) : Met l yX1_drop (ws_ yX1_drop cX1_drop 1 (some .int)) ({ frames := 0, cells := 0, slots := 0, locals := 0 }) (mPc D cl ci h ad cA sz σ [.ref h]) (mQi D cl ci h ad cA (va_A (mw ci h ad cA σ) sz) res) 0 0 (va_A (mw ci h ad cA σ) sz) := by
  refine Met.ofW (cc := cX1_drop) (maxL := 1) (ret := some .int) (by decide +kernel) rfl ?_
  intro p e s m args below meth c s₁ B hml hv
  obtain ⟨rfl, hsz, hP, hK, hD0⟩ := hv
  have hx := B.exec
  have hb := B.bytes
  have hr := B.returns
  have hts := atoms_spec (ws := ws_ yX1_drop cX1_drop 1 (some .int)) B.pre
  have hts : ∀ w ∈ lw_all, w.before _ s = true := fun w h => hts w (List.mem_cons_of_mem _ h)
  have hown : s.vm.findClass RX1 = some m.cls := findClass_of_methodNamed B.named
  have hlocks := B.notSynchronized
  subst hsz
  have hD := hD0.self (sz := s.heap.size)
  generalize hAe : va_A (mw ci h ad cA σ) s.heap.size = A at hD ⊢
  have hA : ∀ q : Nat, s.heap.size ≤ q → A q := fun q h => by rw [← hAe]; exact Or.inr h
  clear hAe hD0
  have hS : va_S A s.heap s.heap [] := va_S.rf
  generalize hHe : s.heap = H at hP hS ⊢
  have hS : va_S A s.heap H [] := by rw [hHe]; exact hS
  generalize ([] : List Loc) = locs at hS ⊢
  have hl := lv_entry ([.ref h]) (n := 1) (Nat.le_of_ble_eq_true rfl)
  rw [lg_entry_eq]
  generalize (lg_sl ([.ref h]) ++ List.replicate (1 - (lg_sl ([.ref h])).length) Slot.unset).toArray = ls at hl ⊢
  have hl : lv_has ls 1 [(0, .ref h)] := hl
  have hf : (dz_l (σ.1 7) fun x1 => if x1 = (0 : Int32) then (some ((-1), σ)) else (dz_l (σ.1 7) fun x2 => dz_l (x2 - 1) fun x3 => dz_l (mF σ 7 x3) fun s4 => dz_l (s4.1 7) fun x5 => some (x5, s4)) : Option (Int32 × pM)) = some res := hf
  refine lv_aload_n hx hb dX1_drop_0 rfl (lv_at hl 0 rfl) ?_
  refine va_get (C := RX1) (T := TX1) (N := 35) (fs := mwF ad σ) (v := .int (σ.1 7)) hx hb hts in_X1 hown hK hP 0 rfl hci 7 (by decide) (hts _ q1678) (fun _ hq => hq) rfl dX1_drop_1 ?_
  refine lv_topi (fun x1 e_x1 => ?_)
  have hf := dz_ls e_x1 hf
  refine lv_if_ne (tgt := 9) hx hb dX1_drop_4 (by decide) (fun c4 => ?_) (fun c4 => ?_)
  · have hf := dz_f c4 hf
    refine lv_aload_n hx hb dX1_drop_9 rfl (lv_at hl 0 rfl) ?_
    refine lv_dup hx hb dX1_drop_10 rfl ?_
    refine va_get (C := RX1) (T := TX1) (N := 35) (fs := mwF ad σ) (v := .int (σ.1 7)) hx hb hts in_X1 hown hK hP 0 rfl hci 7 (by decide) (hts _ q1678) (fun _ hq => hq) rfl dX1_drop_11 ?_
    refine lv_topi (fun x2 e_x2 => ?_)
    have hf := dz_ls e_x2 hf
    refine lv_iconst (v := 1) hx hb dX1_drop_14 (by decide) ?_
    refine lv_isub hx hb dX1_drop_15 ?_
    refine lv_topi (fun x3 e_x3 => ?_)
    have hf := dz_ls e_x3 hf
    refine va_put (C := RX1) (T := TX1) (N := 35) (fs := mwF ad σ) hx hb hts in_X1 tyX1 tyX1_ok nmX1 hown hK hP hD hS 0 rfl hci 7 (by decide) (hts _ q1678) (fun _ hq => hq) rfl rfl rfl rfl (Nat.le_of_ble_eq_true rfl) dX1_drop_16 (fun H locs hP1 _ hS => ?_)
    obtain ⟨s4, e_s4, hf⟩ := dz_lo hf
    have hP : va_P D cl (mw ci h ad cA s4) H := by rw [e_s4]; exact hP1
    clear hP1; replace hD := mw_D s4 hD
    refine lv_aload_n hx hb dX1_drop_19 rfl (lv_at hl 0 rfl) ?_
    refine va_get (C := RX1) (T := TX1) (N := 35) (fs := mwF ad s4) (v := .int (s4.1 7)) hx hb hts in_X1 hown hK hP 0 rfl hci 7 (by decide) (hts _ q1678) (fun _ hq => hq) rfl dX1_drop_20 ?_
    refine lv_topi (fun x5 e_x5 => ?_)
    have hf := dz_ls e_x5 hf
    exact W.iret (v := x5) hx hb hr (fun t ht hW => ⟨⟨x5, s4, rfl, Option.some.inj hf, by rw [ht]; exact hP, va_K.moved hW.alike hK, hD⟩, hS.F ht⟩) hS.2.2 dX1_drop_23
  · have hf := dz_t c4 hf
    refine lv_iconst (v := (-1)) hx hb dX1_drop_7 (by decide) ?_
    exact W.iret (v := (-1)) hx hb hr (fun t ht hW => ⟨⟨(-1), σ, rfl, Option.some.inj hf, by rw [ht]; exact hP, va_K.moved hW.alike hK, hD⟩, hS.F ht⟩) hS.2.2 dX1_drop_8

noncomputable def fnX1_clear (K : Nat)  (σ : pM) : Option (Int32 × pM) := dz_l (σ.1 7) fun x1 => dz_l (mF σ 7 0) fun s2 => some (x1, s2)
set_option maxHeartbeats 4000000 in
set_option maxRecDepth 100000 in
theorem mtX1_clear (l : Launch) (D : va_G) (cl : List vw_C) (ci : Nat) (hci : cl[ci]? = some (RX1, TX1, 35)) (h : Nat) (ad : Nat → Nat) (cA : Nat → ClassId) (sz : Nat) (σ : pM)  (K : Nat) (res : (Int32 × pM)) (hf : fnX1_clear K  σ = some res) : Met l yX1_clear (ws_ yX1_clear cX1_clear 2 (some .int)) ({ frames := 0, cells := 0, slots := 0, locals := 0 }) (mPc D cl ci h ad cA sz σ [.ref h]) (mQi D cl ci h ad cA (va_A (mw ci h ad cA σ) sz) res) 0 0 (va_A (mw ci h ad cA σ) sz) := by
  refine Met.ofW (cc := cX1_clear) (maxL := 2) (ret := some .int) (by decide +kernel) rfl ?_
  intro p e s m args below meth c s₁ B hml hv
  obtain ⟨rfl, hsz, hP, hK, hD0⟩ := hv
  have hx := B.exec
  have hb := B.bytes
  have hr := B.returns
  have hts := atoms_spec (ws := ws_ yX1_clear cX1_clear 2 (some .int)) B.pre
  have hts : ∀ w ∈ lw_all, w.before _ s = true := fun w h => hts w (List.mem_cons_of_mem _ h)
  have hown : s.vm.findClass RX1 = some m.cls := findClass_of_methodNamed B.named
  have hlocks := B.notSynchronized
  subst hsz
  have hD := hD0.self (sz := s.heap.size)
  generalize hAe : va_A (mw ci h ad cA σ) s.heap.size = A at hD ⊢
  have hA : ∀ q : Nat, s.heap.size ≤ q → A q := fun q h => by rw [← hAe]; exact Or.inr h
  clear hAe hD0
  have hS : va_S A s.heap s.heap [] := va_S.rf
  generalize hHe : s.heap = H at hP hS ⊢
  have hS : va_S A s.heap H [] := by rw [hHe]; exact hS
  generalize ([] : List Loc) = locs at hS ⊢
  have hl := lv_entry ([.ref h]) (n := 2) (Nat.le_of_ble_eq_true rfl)
  rw [lg_entry_eq]
  generalize (lg_sl ([.ref h]) ++ List.replicate (2 - (lg_sl ([.ref h])).length) Slot.unset).toArray = ls at hl ⊢
  have hl : lv_has ls 2 [(0, .ref h)] := hl
  have hf : (dz_l (σ.1 7) fun x1 => dz_l (mF σ 7 0) fun s2 => some (x1, s2) : Option (Int32 × pM)) = some res := hf
  refine lv_aload_n hx hb dX1_clear_0 rfl (lv_at hl 0 rfl) ?_
  refine va_get (C := RX1) (T := TX1) (N := 35) (fs := mwF ad σ) (v := .int (σ.1 7)) hx hb hts in_X1 hown hK hP 0 rfl hci 7 (by decide) (hts _ q1678) (fun _ hq => hq) rfl dX1_clear_1 ?_
  refine lv_topi (fun x1 e_x1 => ?_)
  have hf := dz_ls e_x1 hf
  refine lv_istore_n (lv' := [(1, .int x1), (0, .ref h)]) hx hb dX1_clear_4 rfl hl (by decide) rfl (fun ls hl => ?_)
  refine lv_aload_n hx hb dX1_clear_5 rfl (lv_at hl 1 rfl) ?_
  refine lv_iconst (v := 0) hx hb dX1_clear_6 (by decide) ?_
  refine va_put (C := RX1) (T := TX1) (N := 35) (fs := mwF ad σ) hx hb hts in_X1 tyX1 tyX1_ok nmX1 hown hK hP hD hS 0 rfl hci 7 (by decide) (hts _ q1678) (fun _ hq => hq) rfl rfl rfl rfl (Nat.le_of_ble_eq_true rfl) dX1_clear_7 (fun H locs hP1 _ hS => ?_)
  obtain ⟨s2, e_s2, hf⟩ := dz_lo hf
  have hP : va_P D cl (mw ci h ad cA s2) H := by rw [e_s2]; exact hP1
  clear hP1; replace hD := mw_D s2 hD
  refine lv_iload_n hx hb dX1_clear_10 rfl (lv_at hl 0 rfl) ?_
  exact W.iret (v := x1) hx hb hr (fun t ht hW => ⟨⟨x1, s2, rfl, Option.some.inj hf, by rw [ht]; exact hP, va_K.moved hW.alike hK, hD⟩, hS.F ht⟩) hS.2.2 dX1_clear_11

noncomputable def fnX1_line (K : Nat) (a0 : Int32) (a1 : Int32) (σ : pM) : Option (Int32 × pM) := dz_c (fnX1_isLine K a0 σ) fun x1 s2 => if x1 = (0 : Int32) then (some ((-1), s2)) else (if a1 = (0 : Int32) then (if ¬ (a0 < 0 ∨ 116 ≤ Int32.toNatClampNeg a0) then (dz_l (s2.2.2.1 8 (Int32.toNatClampNeg a0)) fun x4 => some (x4, s2)) else none) else (if a1 = (1 : Int32) then (if ¬ (a0 < 0 ∨ 116 ≤ Int32.toNatClampNeg a0) then (dz_l (s2.2.2.1 9 (Int32.toNatClampNeg a0)) fun x6 => some (x6, s2)) else none) else (if a1 = (2 : Int32) then (if ¬ (a0 < 0 ∨ 116 ≤ Int32.toNatClampNeg a0) then (dz_l (s2.2.2.1 10 (Int32.toNatClampNeg a0)) fun x8 => some (x8, s2)) else none) else (if a1 = (3 : Int32) then (if ¬ (a0 < 0 ∨ 116 ≤ Int32.toNatClampNeg a0) then (dz_l (s2.2.2.1 11 (Int32.toNatClampNeg a0)) fun x10 => some (x10, s2)) else none) else (if a1 = (4 : Int32) then (if ¬ (a0 < 0 ∨ 116 ≤ Int32.toNatClampNeg a0) then (dz_l (s2.2.2.1 12 (Int32.toNatClampNeg a0)) fun x12 => some (x12, s2)) else none) else (if a1 = (5 : Int32) then (if ¬ (a0 < 0 ∨ 116 ≤ Int32.toNatClampNeg a0) then (dz_l (s2.2.2.1 13 (Int32.toNatClampNeg a0)) fun x14 => some (x14, s2)) else none) else (if a1 = (6 : Int32) then (dz_b (fnX1_laysRight K s2) fun s16 => if ¬ (a0 < 0 ∨ 60 ≤ Int32.toNatClampNeg a0) then (dz_l (s16.2.2.1 20 (Int32.toNatClampNeg a0)) fun x18 => some (x18, s16)) else none) else (some ((-1), s2)))))))))
set_option maxHeartbeats 4000000 in
set_option maxRecDepth 100000 in
theorem mtX1_line (l : Launch) (D : va_G) (cl : List vw_C) (ci : Nat) (hci : cl[ci]? = some (RX1, TX1, 35)) (h : Nat) (ad : Nat → Nat) (cA : Nat → ClassId) (sz : Nat) (σ : pM) (a0 : Int32) (a1 : Int32) (K : Nat) (res : (Int32 × pM)) (hf : fnX1_line K a0 a1 σ = some res) : Met l yX1_line (ws_ yX1_line cX1_line 3 (some .int)) ({ frames := 5, cells := 0, slots := 0, locals := 130 }) (mPc D cl ci h ad cA sz σ [.ref h, .int a0, .int a1]) (mQi D cl ci h ad cA (va_A (mw ci h ad cA σ) sz) res) 0 0 (va_A (mw ci h ad cA σ) sz) := by
  refine Met.ofW (cc := cX1_line) (maxL := 3) (ret := some .int) (by decide +kernel) rfl ?_
  intro p e s m args below meth c s₁ B hml hv
  obtain ⟨rfl, hsz, hP, hK, hD0⟩ := hv
  have hx := B.exec
  have hb := B.bytes
  have hr := B.returns
  have hts := atoms_spec (ws := ws_ yX1_line cX1_line 3 (some .int)) B.pre
  have hts : ∀ w ∈ lw_all, w.before _ s = true := fun w h => hts w (List.mem_cons_of_mem _ h)
  have hown : s.vm.findClass RX1 = some m.cls := findClass_of_methodNamed B.named
  have hlocks := B.notSynchronized
  subst hsz
  have hD := hD0.self (sz := s.heap.size)
  generalize hAe : va_A (mw ci h ad cA σ) s.heap.size = A at hD ⊢
  have hA : ∀ q : Nat, s.heap.size ≤ q → A q := fun q h => by rw [← hAe]; exact Or.inr h
  clear hAe hD0
  have hS : va_S A s.heap s.heap [] := va_S.rf
  generalize hHe : s.heap = H at hP hS ⊢
  have hS : va_S A s.heap H [] := by rw [hHe]; exact hS
  generalize ([] : List Loc) = locs at hS ⊢
  have hl := lv_entry ([.ref h, .int a0, .int a1]) (n := 3) (Nat.le_of_ble_eq_true rfl)
  rw [lg_entry_eq]
  generalize (lg_sl ([.ref h, .int a0, .int a1]) ++ List.replicate (3 - (lg_sl ([.ref h, .int a0, .int a1])).length) Slot.unset).toArray = ls at hl ⊢
  have hl : lv_has ls 3 [(0, .ref h), (1, .int a0), (2, .int a1)] := hl
  have hf : (dz_c (fnX1_isLine K a0 σ) fun x1 s2 => if x1 = (0 : Int32) then (some ((-1), s2)) else (if a1 = (0 : Int32) then (if ¬ (a0 < 0 ∨ 116 ≤ Int32.toNatClampNeg a0) then (dz_l (s2.2.2.1 8 (Int32.toNatClampNeg a0)) fun x4 => some (x4, s2)) else none) else (if a1 = (1 : Int32) then (if ¬ (a0 < 0 ∨ 116 ≤ Int32.toNatClampNeg a0) then (dz_l (s2.2.2.1 9 (Int32.toNatClampNeg a0)) fun x6 => some (x6, s2)) else none) else (if a1 = (2 : Int32) then (if ¬ (a0 < 0 ∨ 116 ≤ Int32.toNatClampNeg a0) then (dz_l (s2.2.2.1 10 (Int32.toNatClampNeg a0)) fun x8 => some (x8, s2)) else none) else (if a1 = (3 : Int32) then (if ¬ (a0 < 0 ∨ 116 ≤ Int32.toNatClampNeg a0) then (dz_l (s2.2.2.1 11 (Int32.toNatClampNeg a0)) fun x10 => some (x10, s2)) else none) else (if a1 = (4 : Int32) then (if ¬ (a0 < 0 ∨ 116 ≤ Int32.toNatClampNeg a0) then (dz_l (s2.2.2.1 12 (Int32.toNatClampNeg a0)) fun x12 => some (x12, s2)) else none) else (if a1 = (5 : Int32) then (if ¬ (a0 < 0 ∨ 116 ≤ Int32.toNatClampNeg a0) then (dz_l (s2.2.2.1 13 (Int32.toNatClampNeg a0)) fun x14 => some (x14, s2)) else none) else (if a1 = (6 : Int32) then (dz_b (fnX1_laysRight K s2) fun s16 => if ¬ (a0 < 0 ∨ 60 ≤ Int32.toNatClampNeg a0) then (dz_l (s16.2.2.1 20 (Int32.toNatClampNeg a0)) fun x18 => some (x18, s16)) else none) else (some ((-1), s2))))))))) : Option (Int32 × pM)) = some res := hf
  refine lv_aload_n hx hb dX1_line_0 rfl (lv_at hl 0 rfl) ?_
  refine lv_iload_n hx hb dX1_line_1 rfl (lv_at hl 1 rfl) ?_
  obtain ⟨x1, s2, hx1, hf⟩ := dz_co hf
  have hFc := dz_free hD hS hA
  refine va_calli (va_runV (As := [.int a0]) (rest := []) ⟨hx, hb, hml, hown, hts⟩ (mtX1_isLine l D cl ci hci h ad cA H.size σ a0 K (x1, s2) hx1) (cwV 1 hts (lw_V q1923 q1925 qs60 q88 q1926) rfl rfl rfl (by decide +kernel) ⟨Nat.le_of_ble_eq_true rfl, Nat.le_of_ble_eq_true rfl⟩) (m_preV hci hK hP hD) rfl rfl hl.1 rfl (lv_room (Nat.le_of_ble_eq_true rfl)) dX1_line_2 ⟨Nat.le_refl _, Nat.le_refl _⟩) hS (fun q _ hq => hFc q hq) hFc (fun r u t H1 locs ht hvm hw hB hz hk hS => ?_)
  obtain ⟨hw1, hw2⟩ := Prod.mk.inj hw.symm; subst hw1; subst hw2
  replace hP := m_back ht hB
  replace hD := mw_D s2 hD
  clear hB hk hz hvm ht hFc; generalize H1 = H at hP hS ⊢
  refine lv_if_ne (tgt := 10) hx hb dX1_line_5 (by decide) (fun c5 => ?_) (fun c5 => ?_)
  · have hf := dz_f c5 hf
    refine lv_iload_n hx hb dX1_line_10 rfl (lv_at hl 2 rfl) ?_
    refine dz_case hf (fun t11_0 hf => ?_) (fun t11_0 hf => ?_)
    · refine lv_tableIn (off := 41) (tgt := 52) hx hb dX1_line_11 (by rw [t11_0]; decide) (by rw [t11_0]; decide) (by rw [t11_0]; rfl) (by decide) ?_
      refine lv_aload_n hx hb dX1_line_52 rfl (lv_at hl 0 rfl) ?_
      refine va_get (C := RX1) (T := TX1) (N := 35) (fs := mwF ad s2) (v := .ref (ad 8)) hx hb hts in_X1 hown hK hP 0 rfl hci 8 (by decide) (hts _ q1679) (fun _ hq => hq) rfl dX1_line_53 ?_
      refine lv_iload_n hx hb dX1_line_56 rfl (lv_at hl 1 rfl) ?_
      obtain ⟨g3, hf⟩ := dz_go hf
      refine va_iald hx hb hK hP 6 0 rfl rfl g3 dX1_line_57 ?_
      refine lv_topi (fun x4 e_x4 => ?_)
      have hf := dz_ls e_x4 hf
      exact W.iret (v := x4) hx hb hr (fun t ht hW => ⟨⟨x4, s2, rfl, Option.some.inj hf, by rw [ht]; exact hP, va_K.moved hW.alike hK, hD⟩, hS.F ht⟩) hS.2.2 dX1_line_58
    · skip
      refine dz_case hf (fun t11_1 hf => ?_) (fun t11_1 hf => ?_)
      · refine lv_tableIn (off := 48) (tgt := 59) hx hb dX1_line_11 (by rw [t11_1]; decide) (by rw [t11_1]; decide) (by rw [t11_1]; rfl) (by decide) ?_
        refine lv_aload_n hx hb dX1_line_59 rfl (lv_at hl 0 rfl) ?_
        refine va_get (C := RX1) (T := TX1) (N := 35) (fs := mwF ad s2) (v := .ref (ad 9)) hx hb hts in_X1 hown hK hP 0 rfl hci 9 (by decide) (hts _ q1680) (fun _ hq => hq) rfl dX1_line_60 ?_
        refine lv_iload_n hx hb dX1_line_63 rfl (lv_at hl 1 rfl) ?_
        obtain ⟨g5, hf⟩ := dz_go hf
        refine va_iald hx hb hK hP 7 0 rfl rfl g5 dX1_line_64 ?_
        refine lv_topi (fun x6 e_x6 => ?_)
        have hf := dz_ls e_x6 hf
        exact W.iret (v := x6) hx hb hr (fun t ht hW => ⟨⟨x6, s2, rfl, Option.some.inj hf, by rw [ht]; exact hP, va_K.moved hW.alike hK, hD⟩, hS.F ht⟩) hS.2.2 dX1_line_65
      · skip
        refine dz_case hf (fun t11_2 hf => ?_) (fun t11_2 hf => ?_)
        · refine lv_tableIn (off := 55) (tgt := 66) hx hb dX1_line_11 (by rw [t11_2]; decide) (by rw [t11_2]; decide) (by rw [t11_2]; rfl) (by decide) ?_
          refine lv_aload_n hx hb dX1_line_66 rfl (lv_at hl 0 rfl) ?_
          refine va_get (C := RX1) (T := TX1) (N := 35) (fs := mwF ad s2) (v := .ref (ad 10)) hx hb hts in_X1 hown hK hP 0 rfl hci 10 (by decide) (hts _ q1681) (fun _ hq => hq) rfl dX1_line_67 ?_
          refine lv_iload_n hx hb dX1_line_70 rfl (lv_at hl 1 rfl) ?_
          obtain ⟨g7, hf⟩ := dz_go hf
          refine va_iald hx hb hK hP 8 0 rfl rfl g7 dX1_line_71 ?_
          refine lv_topi (fun x8 e_x8 => ?_)
          have hf := dz_ls e_x8 hf
          exact W.iret (v := x8) hx hb hr (fun t ht hW => ⟨⟨x8, s2, rfl, Option.some.inj hf, by rw [ht]; exact hP, va_K.moved hW.alike hK, hD⟩, hS.F ht⟩) hS.2.2 dX1_line_72
        · skip
          refine dz_case hf (fun t11_3 hf => ?_) (fun t11_3 hf => ?_)
          · refine lv_tableIn (off := 62) (tgt := 73) hx hb dX1_line_11 (by rw [t11_3]; decide) (by rw [t11_3]; decide) (by rw [t11_3]; rfl) (by decide) ?_
            refine lv_aload_n hx hb dX1_line_73 rfl (lv_at hl 0 rfl) ?_
            refine va_get (C := RX1) (T := TX1) (N := 35) (fs := mwF ad s2) (v := .ref (ad 11)) hx hb hts in_X1 hown hK hP 0 rfl hci 11 (by decide) (hts _ q1682) (fun _ hq => hq) rfl dX1_line_74 ?_
            refine lv_iload_n hx hb dX1_line_77 rfl (lv_at hl 1 rfl) ?_
            obtain ⟨g9, hf⟩ := dz_go hf
            refine va_iald hx hb hK hP 9 0 rfl rfl g9 dX1_line_78 ?_
            refine lv_topi (fun x10 e_x10 => ?_)
            have hf := dz_ls e_x10 hf
            exact W.iret (v := x10) hx hb hr (fun t ht hW => ⟨⟨x10, s2, rfl, Option.some.inj hf, by rw [ht]; exact hP, va_K.moved hW.alike hK, hD⟩, hS.F ht⟩) hS.2.2 dX1_line_79
          · skip
            refine dz_case hf (fun t11_4 hf => ?_) (fun t11_4 hf => ?_)
            · refine lv_tableIn (off := 69) (tgt := 80) hx hb dX1_line_11 (by rw [t11_4]; decide) (by rw [t11_4]; decide) (by rw [t11_4]; rfl) (by decide) ?_
              refine lv_aload_n hx hb dX1_line_80 rfl (lv_at hl 0 rfl) ?_
              refine va_get (C := RX1) (T := TX1) (N := 35) (fs := mwF ad s2) (v := .ref (ad 12)) hx hb hts in_X1 hown hK hP 0 rfl hci 12 (by decide) (hts _ q1683) (fun _ hq => hq) rfl dX1_line_81 ?_
              refine lv_iload_n hx hb dX1_line_84 rfl (lv_at hl 1 rfl) ?_
              obtain ⟨g11, hf⟩ := dz_go hf
              refine va_iald hx hb hK hP 10 0 rfl rfl g11 dX1_line_85 ?_
              refine lv_topi (fun x12 e_x12 => ?_)
              have hf := dz_ls e_x12 hf
              exact W.iret (v := x12) hx hb hr (fun t ht hW => ⟨⟨x12, s2, rfl, Option.some.inj hf, by rw [ht]; exact hP, va_K.moved hW.alike hK, hD⟩, hS.F ht⟩) hS.2.2 dX1_line_86
            · skip
              refine dz_case hf (fun t11_5 hf => ?_) (fun t11_5 hf => ?_)
              · refine lv_tableIn (off := 76) (tgt := 87) hx hb dX1_line_11 (by rw [t11_5]; decide) (by rw [t11_5]; decide) (by rw [t11_5]; rfl) (by decide) ?_
                refine lv_aload_n hx hb dX1_line_87 rfl (lv_at hl 0 rfl) ?_
                refine va_get (C := RX1) (T := TX1) (N := 35) (fs := mwF ad s2) (v := .ref (ad 13)) hx hb hts in_X1 hown hK hP 0 rfl hci 13 (by decide) (hts _ q1684) (fun _ hq => hq) rfl dX1_line_88 ?_
                refine lv_iload_n hx hb dX1_line_91 rfl (lv_at hl 1 rfl) ?_
                obtain ⟨g13, hf⟩ := dz_go hf
                refine va_iald hx hb hK hP 11 0 rfl rfl g13 dX1_line_92 ?_
                refine lv_topi (fun x14 e_x14 => ?_)
                have hf := dz_ls e_x14 hf
                exact W.iret (v := x14) hx hb hr (fun t ht hW => ⟨⟨x14, s2, rfl, Option.some.inj hf, by rw [ht]; exact hP, va_K.moved hW.alike hK, hD⟩, hS.F ht⟩) hS.2.2 dX1_line_93
              · skip
                refine dz_case hf (fun t11_6 hf => ?_) (fun t11_6 hf => ?_)
                · refine lv_tableIn (off := 83) (tgt := 94) hx hb dX1_line_11 (by rw [t11_6]; decide) (by rw [t11_6]; decide) (by rw [t11_6]; rfl) (by decide) ?_
                  refine lv_aload_n hx hb dX1_line_94 rfl (lv_at hl 0 rfl) ?_
                  obtain ⟨s16, hx15, hf⟩ := dz_bo hf
                  have hFc := dz_free hD hS hA
                  refine va_callv (va_runV (As := []) (rest := []) ⟨hx, hb, hml, hown, hts⟩ (mtX1_laysRight l D cl ci hci h ad cA H.size s2 K s16 hx15) (cwV 0 hts (lw_V q1791 q1793 qs36 q88 q1794) rfl rfl rfl (by decide +kernel) ⟨Nat.le_of_ble_eq_true rfl, Nat.le_of_ble_eq_true rfl⟩) (m_preV hci hK hP hD) rfl rfl hl.1 rfl (lv_room (Nat.le_of_ble_eq_true rfl)) dX1_line_95 ⟨Nat.le_refl _, Nat.le_refl _⟩) hS (fun q _ hq => hFc q hq) hFc (fun u t H1 locs ht hvm hw hB hz hk hS => ?_)
                  replace hw := hw.symm; subst hw
                  replace hP := m_back ht hB
                  replace hD := mw_D s16 hD
                  clear hB hk hz hvm ht hFc; generalize H1 = H at hP hS ⊢
                  refine lv_aload_n hx hb dX1_line_98 rfl (lv_at hl 0 rfl) ?_
                  refine va_get (C := RX1) (T := TX1) (N := 35) (fs := mwF ad s16) (v := .ref (ad 20)) hx hb hts in_X1 hown hK hP 0 rfl hci 20 (by decide) (hts _ q1691) (fun _ hq => hq) rfl dX1_line_99 ?_
                  refine lv_iload_n hx hb dX1_line_102 rfl (lv_at hl 1 rfl) ?_
                  obtain ⟨g17, hf⟩ := dz_go hf
                  refine va_iald hx hb hK hP 18 0 rfl rfl g17 dX1_line_103 ?_
                  refine lv_topi (fun x18 e_x18 => ?_)
                  have hf := dz_ls e_x18 hf
                  exact W.iret (v := x18) hx hb hr (fun t ht hW => ⟨⟨x18, s16, rfl, Option.some.inj hf, by rw [ht]; exact hP, va_K.moved hW.alike hK, hD⟩, hS.F ht⟩) hS.2.2 dX1_line_104
                · skip
                  have u11_0 := dz_ne (z := 0) t11_0 (by decide)
                  have u11_1 := dz_ne (z := 1) t11_1 (by decide)
                  have u11_2 := dz_ne (z := 2) t11_2 (by decide)
                  have u11_3 := dz_ne (z := 3) t11_3 (by decide)
                  have u11_4 := dz_ne (z := 4) t11_4 (by decide)
                  have u11_5 := dz_ne (z := 5) t11_5 (by decide)
                  have u11_6 := dz_ne (z := 6) t11_6 (by decide)
                  refine lv_tableOut (tgt := 105) hx hb dX1_line_11 (by omega) (by decide) ?_
                  refine lv_iconst (v := (-1)) hx hb dX1_line_105 (by decide) ?_
                  exact W.iret (v := (-1)) hx hb hr (fun t ht hW => ⟨⟨(-1), s2, rfl, Option.some.inj hf, by rw [ht]; exact hP, va_K.moved hW.alike hK, hD⟩, hS.F ht⟩) hS.2.2 dX1_line_106
  · have hf := dz_t c5 hf
    refine lv_iconst (v := (-1)) hx hb dX1_line_8 (by decide) ?_
    exact W.iret (v := (-1)) hx hb hr (fun t ht hW => ⟨⟨(-1), s2, rfl, Option.some.inj hf, by rw [ht]; exact hP, va_K.moved hW.alike hK, hD⟩, hS.F ht⟩) hS.2.2 dX1_line_9

noncomputable def fnX1_row (K : Nat) (a0 : Int32) (a1 : Int32) (a2 : Int32) (a3 : Int32) (σ : pM) : Option (Int32 × pM) := dz_c (fnX1_isRow K a0 a1 a2 σ) fun x1 s2 => if x1 = (0 : Int32) then (some ((-1), s2)) else (dz_l ((9 * a0) + a2) fun x3 => if a3 = (0 : Int32) then (if a1 = (0 : Int32) then (if ¬ (x3 < 0 ∨ 1044 ≤ Int32.toNatClampNeg x3) then (dz_l (s2.2.2.1 14 (Int32.toNatClampNeg x3)) fun x5 => some (x5, s2)) else none) else (if ¬ (x3 < 0 ∨ 1044 ≤ Int32.toNatClampNeg x3) then (dz_l (s2.2.2.1 17 (Int32.toNatClampNeg x3)) fun x7 => some (x7, s2)) else none)) else (if a3 = (1 : Int32) then (if a1 = (0 : Int32) then (if ¬ (x3 < 0 ∨ 1044 ≤ Int32.toNatClampNeg x3) then (dz_l (s2.2.2.1 15 (Int32.toNatClampNeg x3)) fun x9 => some (x9, s2)) else none) else (if ¬ (x3 < 0 ∨ 1044 ≤ Int32.toNatClampNeg x3) then (dz_l (s2.2.2.1 18 (Int32.toNatClampNeg x3)) fun x11 => some (x11, s2)) else none)) else (if a3 = (2 : Int32) then (if a1 = (0 : Int32) then (if ¬ (x3 < 0 ∨ 1044 ≤ Int32.toNatClampNeg x3) then (dz_l (s2.2.2.1 16 (Int32.toNatClampNeg x3)) fun x13 => some (x13, s2)) else none) else (some (0, s2))) else (if a3 = (3 : Int32) then (dz_b (fnX1_laysRight K s2) fun s15 => if a1 = (0 : Int32) then (if ¬ (x3 < 0 ∨ 1044 ≤ Int32.toNatClampNeg x3) then (dz_l (s15.2.2.1 14 (Int32.toNatClampNeg x3)) fun x17 => dz_c (fnX1_lineFor K x17 a0 s15) fun x18 s19 => if x18 = (-1 : Int32) then (some ((-2), s19)) else (some (x18, s19))) else none) else (if ¬ (x3 < 0 ∨ 1044 ≤ Int32.toNatClampNeg x3) then (dz_l (s15.2.2.1 17 (Int32.toNatClampNeg x3)) fun x21 => dz_c (fnX1_lineFor K x21 a0 s15) fun x22 s23 => if x22 = (-1 : Int32) then (some ((-2), s23)) else (some (x22, s23))) else none)) else (some ((-1), s2))))))
set_option maxHeartbeats 4000000 in
set_option maxRecDepth 100000 in
theorem mtX1_row (l : Launch) (D : va_G) (cl : List vw_C) (ci : Nat) (hci : cl[ci]? = some (RX1, TX1, 35)) (h : Nat) (ad : Nat → Nat) (cA : Nat → ClassId) (sz : Nat) (σ : pM) (a0 : Int32) (a1 : Int32) (a2 : Int32) (a3 : Int32) (K : Nat) (res : (Int32 × pM)) (hf : fnX1_row K a0 a1 a2 a3 σ = some res) : Met l yX1_row (ws_ yX1_row cX1_row 7 (some .int)) ({ frames := 5, cells := 0, slots := 0, locals := 130 }) (mPc D cl ci h ad cA sz σ [.ref h, .int a0, .int a1, .int a2, .int a3]) (mQi D cl ci h ad cA (va_A (mw ci h ad cA σ) sz) res) 0 0 (va_A (mw ci h ad cA σ) sz) := by
  refine Met.ofW (cc := cX1_row) (maxL := 7) (ret := some .int) (by decide +kernel) rfl ?_
  intro p e s m args below meth c s₁ B hml hv
  obtain ⟨rfl, hsz, hP, hK, hD0⟩ := hv
  have hx := B.exec
  have hb := B.bytes
  have hr := B.returns
  have hts := atoms_spec (ws := ws_ yX1_row cX1_row 7 (some .int)) B.pre
  have hts : ∀ w ∈ lw_all, w.before _ s = true := fun w h => hts w (List.mem_cons_of_mem _ h)
  have hown : s.vm.findClass RX1 = some m.cls := findClass_of_methodNamed B.named
  have hlocks := B.notSynchronized
  subst hsz
  have hD := hD0.self (sz := s.heap.size)
  generalize hAe : va_A (mw ci h ad cA σ) s.heap.size = A at hD ⊢
  have hA : ∀ q : Nat, s.heap.size ≤ q → A q := fun q h => by rw [← hAe]; exact Or.inr h
  clear hAe hD0
  have hS : va_S A s.heap s.heap [] := va_S.rf
  generalize hHe : s.heap = H at hP hS ⊢
  have hS : va_S A s.heap H [] := by rw [hHe]; exact hS
  generalize ([] : List Loc) = locs at hS ⊢
  have hl := lv_entry ([.ref h, .int a0, .int a1, .int a2, .int a3]) (n := 7) (Nat.le_of_ble_eq_true rfl)
  rw [lg_entry_eq]
  generalize (lg_sl ([.ref h, .int a0, .int a1, .int a2, .int a3]) ++ List.replicate (7 - (lg_sl ([.ref h, .int a0, .int a1, .int a2, .int a3])).length) Slot.unset).toArray = ls at hl ⊢
  have hl : lv_has ls 7 [(0, .ref h), (1, .int a0), (2, .int a1), (3, .int a2), (4, .int a3)] := hl
  have hf : (dz_c (fnX1_isRow K a0 a1 a2 σ) fun x1 s2 => if x1 = (0 : Int32) then (some ((-1), s2)) else (dz_l ((9 * a0) + a2) fun x3 => if a3 = (0 : Int32) then (if a1 = (0 : Int32) then (if ¬ (x3 < 0 ∨ 1044 ≤ Int32.toNatClampNeg x3) then (dz_l (s2.2.2.1 14 (Int32.toNatClampNeg x3)) fun x5 => some (x5, s2)) else none) else (if ¬ (x3 < 0 ∨ 1044 ≤ Int32.toNatClampNeg x3) then (dz_l (s2.2.2.1 17 (Int32.toNatClampNeg x3)) fun x7 => some (x7, s2)) else none)) else (if a3 = (1 : Int32) then (if a1 = (0 : Int32) then (if ¬ (x3 < 0 ∨ 1044 ≤ Int32.toNatClampNeg x3) then (dz_l (s2.2.2.1 15 (Int32.toNatClampNeg x3)) fun x9 => some (x9, s2)) else none) else (if ¬ (x3 < 0 ∨ 1044 ≤ Int32.toNatClampNeg x3) then (dz_l (s2.2.2.1 18 (Int32.toNatClampNeg x3)) fun x11 => some (x11, s2)) else none)) else (if a3 = (2 : Int32) then (if a1 = (0 : Int32) then (if ¬ (x3 < 0 ∨ 1044 ≤ Int32.toNatClampNeg x3) then (dz_l (s2.2.2.1 16 (Int32.toNatClampNeg x3)) fun x13 => some (x13, s2)) else none) else (some (0, s2))) else (if a3 = (3 : Int32) then (dz_b (fnX1_laysRight K s2) fun s15 => if a1 = (0 : Int32) then (if ¬ (x3 < 0 ∨ 1044 ≤ Int32.toNatClampNeg x3) then (dz_l (s15.2.2.1 14 (Int32.toNatClampNeg x3)) fun x17 => dz_c (fnX1_lineFor K x17 a0 s15) fun x18 s19 => if x18 = (-1 : Int32) then (some ((-2), s19)) else (some (x18, s19))) else none) else (if ¬ (x3 < 0 ∨ 1044 ≤ Int32.toNatClampNeg x3) then (dz_l (s15.2.2.1 17 (Int32.toNatClampNeg x3)) fun x21 => dz_c (fnX1_lineFor K x21 a0 s15) fun x22 s23 => if x22 = (-1 : Int32) then (some ((-2), s23)) else (some (x22, s23))) else none)) else (some ((-1), s2)))))) : Option (Int32 × pM)) = some res := hf
  refine lv_aload_n hx hb dX1_row_0 rfl (lv_at hl 0 rfl) ?_
  refine lv_iload_n hx hb dX1_row_1 rfl (lv_at hl 1 rfl) ?_
  refine lv_iload_n hx hb dX1_row_2 rfl (lv_at hl 2 rfl) ?_
  refine lv_iload_n hx hb dX1_row_3 rfl (lv_at hl 3 rfl) ?_
  obtain ⟨x1, s2, hx1, hf⟩ := dz_co hf
  have hFc := dz_free hD hS hA
  refine va_calli (va_runV (As := [.int a0, .int a1, .int a2]) (rest := []) ⟨hx, hb, hml, hown, hts⟩ (mtX1_isRow l D cl ci hci h ad cA H.size σ a0 a1 a2 K (x1, s2) hx1) (cwV 3 hts (lw_V q2030 q2032 qs76 q88 q2033) rfl rfl rfl (by decide +kernel) ⟨Nat.le_of_ble_eq_true rfl, Nat.le_of_ble_eq_true rfl⟩) (m_preV hci hK hP hD) rfl rfl hl.1 rfl (lv_room (Nat.le_of_ble_eq_true rfl)) dX1_row_4 ⟨Nat.le_refl _, Nat.le_refl _⟩) hS (fun q _ hq => hFc q hq) hFc (fun r u t H1 locs ht hvm hw hB hz hk hS => ?_)
  obtain ⟨hw1, hw2⟩ := Prod.mk.inj hw.symm; subst hw1; subst hw2
  replace hP := m_back ht hB
  replace hD := mw_D s2 hD
  clear hB hk hz hvm ht hFc; generalize H1 = H at hP hS ⊢
  refine lv_if_ne (tgt := 12) hx hb dX1_row_7 (by decide) (fun c7 => ?_) (fun c7 => ?_)
  · have hf := dz_f c7 hf
    refine lv_bipush (v := 9) hx hb dX1_row_12 (by decide) ?_
    refine lv_iload_n hx hb dX1_row_14 rfl (lv_at hl 1 rfl) ?_
    refine lv_imul hx hb dX1_row_15 ?_
    refine lv_iload_n hx hb dX1_row_16 rfl (lv_at hl 3 rfl) ?_
    refine lv_iadd hx hb dX1_row_17 ?_
    refine lv_topi (fun x3 e_x3 => ?_)
    have hf := dz_ls e_x3 hf
    refine lv_istore (lv' := [(5, .int x3), (0, .ref h), (1, .int a0), (2, .int a1), (3, .int a2), (4, .int a3)]) hx hb dX1_row_18 hl (by decide) rfl (fun ls hl => ?_)
    refine lv_iload hx hb dX1_row_20 (lv_at hl 5 rfl) ?_
    refine dz_case hf (fun t22_0 hf => ?_) (fun t22_0 hf => ?_)
    · refine lv_tableIn (off := 30) (tgt := 52) hx hb dX1_row_22 (by rw [t22_0]; decide) (by rw [t22_0]; decide) (by rw [t22_0]; rfl) (by decide) ?_
      refine lv_iload_n hx hb dX1_row_52 rfl (lv_at hl 3 rfl) ?_
      refine lv_if_eq (tgt := 66) hx hb dX1_row_53 (by decide) (fun c53 => ?_) (fun c53 => ?_)
      · have hf := dz_t c53 hf
        refine lv_aload_n hx hb dX1_row_66 rfl (lv_at hl 1 rfl) ?_
        refine va_get (C := RX1) (T := TX1) (N := 35) (fs := mwF ad s2) (v := .ref (ad 14)) hx hb hts in_X1 hown hK hP 0 rfl hci 14 (by decide) (hts _ q1685) (fun _ hq => hq) rfl dX1_row_67 ?_
        refine lv_iload hx hb dX1_row_70 (lv_at hl 0 rfl) ?_
        obtain ⟨g4, hf⟩ := dz_go hf
        refine va_iald hx hb hK hP 12 0 rfl rfl g4 dX1_row_72 ?_
        refine lv_topi (fun x5 e_x5 => ?_)
        have hf := dz_ls e_x5 hf
        exact W.iret (v := x5) hx hb hr (fun t ht hW => ⟨⟨x5, s2, rfl, Option.some.inj hf, by rw [ht]; exact hP, va_K.moved hW.alike hK, hD⟩, hS.F ht⟩) hS.2.2 dX1_row_73
      · have hf := dz_f c53 hf
        refine lv_aload_n hx hb dX1_row_56 rfl (lv_at hl 1 rfl) ?_
        refine va_get (C := RX1) (T := TX1) (N := 35) (fs := mwF ad s2) (v := .ref (ad 17)) hx hb hts in_X1 hown hK hP 0 rfl hci 17 (by decide) (hts _ q1688) (fun _ hq => hq) rfl dX1_row_57 ?_
        refine lv_iload hx hb dX1_row_60 (lv_at hl 0 rfl) ?_
        obtain ⟨g6, hf⟩ := dz_go hf
        refine va_iald hx hb hK hP 15 0 rfl rfl g6 dX1_row_62 ?_
        refine lv_topi (fun x7 e_x7 => ?_)
        have hf := dz_ls e_x7 hf
        refine lv_goto (tgt := 73) hx hb dX1_row_63 (by decide) ?_
        exact W.iret (v := x7) hx hb hr (fun t ht hW => ⟨⟨x7, s2, rfl, Option.some.inj hf, by rw [ht]; exact hP, va_K.moved hW.alike hK, hD⟩, hS.F ht⟩) hS.2.2 dX1_row_73
    · skip
      refine dz_case hf (fun t22_1 hf => ?_) (fun t22_1 hf => ?_)
      · refine lv_tableIn (off := 52) (tgt := 74) hx hb dX1_row_22 (by rw [t22_1]; decide) (by rw [t22_1]; decide) (by rw [t22_1]; rfl) (by decide) ?_
        refine lv_iload_n hx hb dX1_row_74 rfl (lv_at hl 3 rfl) ?_
        refine lv_if_eq (tgt := 88) hx hb dX1_row_75 (by decide) (fun c75 => ?_) (fun c75 => ?_)
        · have hf := dz_t c75 hf
          refine lv_aload_n hx hb dX1_row_88 rfl (lv_at hl 1 rfl) ?_
          refine va_get (C := RX1) (T := TX1) (N := 35) (fs := mwF ad s2) (v := .ref (ad 15)) hx hb hts in_X1 hown hK hP 0 rfl hci 15 (by decide) (hts _ q1686) (fun _ hq => hq) rfl dX1_row_89 ?_
          refine lv_iload hx hb dX1_row_92 (lv_at hl 0 rfl) ?_
          obtain ⟨g8, hf⟩ := dz_go hf
          refine va_iald hx hb hK hP 13 0 rfl rfl g8 dX1_row_94 ?_
          refine lv_topi (fun x9 e_x9 => ?_)
          have hf := dz_ls e_x9 hf
          exact W.iret (v := x9) hx hb hr (fun t ht hW => ⟨⟨x9, s2, rfl, Option.some.inj hf, by rw [ht]; exact hP, va_K.moved hW.alike hK, hD⟩, hS.F ht⟩) hS.2.2 dX1_row_95
        · have hf := dz_f c75 hf
          refine lv_aload_n hx hb dX1_row_78 rfl (lv_at hl 1 rfl) ?_
          refine va_get (C := RX1) (T := TX1) (N := 35) (fs := mwF ad s2) (v := .ref (ad 18)) hx hb hts in_X1 hown hK hP 0 rfl hci 18 (by decide) (hts _ q1689) (fun _ hq => hq) rfl dX1_row_79 ?_
          refine lv_iload hx hb dX1_row_82 (lv_at hl 0 rfl) ?_
          obtain ⟨g10, hf⟩ := dz_go hf
          refine va_iald hx hb hK hP 16 0 rfl rfl g10 dX1_row_84 ?_
          refine lv_topi (fun x11 e_x11 => ?_)
          have hf := dz_ls e_x11 hf
          refine lv_goto (tgt := 95) hx hb dX1_row_85 (by decide) ?_
          exact W.iret (v := x11) hx hb hr (fun t ht hW => ⟨⟨x11, s2, rfl, Option.some.inj hf, by rw [ht]; exact hP, va_K.moved hW.alike hK, hD⟩, hS.F ht⟩) hS.2.2 dX1_row_95
      · skip
        refine dz_case hf (fun t22_2 hf => ?_) (fun t22_2 hf => ?_)
        · refine lv_tableIn (off := 74) (tgt := 96) hx hb dX1_row_22 (by rw [t22_2]; decide) (by rw [t22_2]; decide) (by rw [t22_2]; rfl) (by decide) ?_
          refine lv_iload_n hx hb dX1_row_96 rfl (lv_at hl 3 rfl) ?_
          refine lv_if_eq (tgt := 104) hx hb dX1_row_97 (by decide) (fun c97 => ?_) (fun c97 => ?_)
          · have hf := dz_t c97 hf
            refine lv_aload_n hx hb dX1_row_104 rfl (lv_at hl 1 rfl) ?_
            refine va_get (C := RX1) (T := TX1) (N := 35) (fs := mwF ad s2) (v := .ref (ad 16)) hx hb hts in_X1 hown hK hP 0 rfl hci 16 (by decide) (hts _ q1687) (fun _ hq => hq) rfl dX1_row_105 ?_
            refine lv_iload hx hb dX1_row_108 (lv_at hl 0 rfl) ?_
            obtain ⟨g12, hf⟩ := dz_go hf
            refine va_iald hx hb hK hP 14 0 rfl rfl g12 dX1_row_110 ?_
            refine lv_topi (fun x13 e_x13 => ?_)
            have hf := dz_ls e_x13 hf
            exact W.iret (v := x13) hx hb hr (fun t ht hW => ⟨⟨x13, s2, rfl, Option.some.inj hf, by rw [ht]; exact hP, va_K.moved hW.alike hK, hD⟩, hS.F ht⟩) hS.2.2 dX1_row_111
          · have hf := dz_f c97 hf
            refine lv_iconst (v := 0) hx hb dX1_row_100 (by decide) ?_
            refine lv_goto (tgt := 111) hx hb dX1_row_101 (by decide) ?_
            exact W.iret (v := 0) hx hb hr (fun t ht hW => ⟨⟨0, s2, rfl, Option.some.inj hf, by rw [ht]; exact hP, va_K.moved hW.alike hK, hD⟩, hS.F ht⟩) hS.2.2 dX1_row_111
        · skip
          refine dz_case hf (fun t22_3 hf => ?_) (fun t22_3 hf => ?_)
          · refine lv_tableIn (off := 90) (tgt := 112) hx hb dX1_row_22 (by rw [t22_3]; decide) (by rw [t22_3]; decide) (by rw [t22_3]; rfl) (by decide) ?_
            refine lv_aload_n hx hb dX1_row_112 rfl (lv_at hl 1 rfl) ?_
            obtain ⟨s15, hx14, hf⟩ := dz_bo hf
            have hFc := dz_free hD hS hA
            refine va_callv (va_runV (As := []) (rest := []) ⟨hx, hb, hml, hown, hts⟩ (mtX1_laysRight l D cl ci hci h ad cA H.size s2 K s15 hx14) (cwV 0 hts (lw_V q1791 q1793 qs36 q88 q1794) rfl rfl rfl (by decide +kernel) ⟨Nat.le_of_ble_eq_true rfl, Nat.le_of_ble_eq_true rfl⟩) (m_preV hci hK hP hD) rfl rfl hl.1 rfl (lv_room (Nat.le_of_ble_eq_true rfl)) dX1_row_113 ⟨Nat.le_refl _, Nat.le_refl _⟩) hS (fun q _ hq => hFc q hq) hFc (fun u t H1 locs ht hvm hw hB hz hk hS => ?_)
            replace hw := hw.symm; subst hw
            replace hP := m_back ht hB
            replace hD := mw_D s15 hD
            clear hB hk hz hvm ht hFc; generalize H1 = H at hP hS ⊢
            refine lv_aload_n hx hb dX1_row_116 rfl (lv_at hl 1 rfl) ?_
            refine lv_iload_n hx hb dX1_row_117 rfl (lv_at hl 3 rfl) ?_
            refine lv_if_eq (tgt := 131) hx hb dX1_row_118 (by decide) (fun c118 => ?_) (fun c118 => ?_)
            · have hf := dz_t c118 hf
              refine lv_aload_n hx hb dX1_row_131 rfl (lv_at hl 1 rfl) ?_
              refine va_get (C := RX1) (T := TX1) (N := 35) (fs := mwF ad s15) (v := .ref (ad 14)) hx hb hts in_X1 hown hK hP 0 rfl hci 14 (by decide) (hts _ q1685) (fun _ hq => hq) rfl dX1_row_132 ?_
              refine lv_iload hx hb dX1_row_135 (lv_at hl 0 rfl) ?_
              obtain ⟨g16, hf⟩ := dz_go hf
              refine va_iald hx hb hK hP 12 0 rfl rfl g16 dX1_row_137 ?_
              refine lv_topi (fun x17 e_x17 => ?_)
              have hf := dz_ls e_x17 hf
              refine lv_iload_n hx hb dX1_row_138 rfl (lv_at hl 2 rfl) ?_
              obtain ⟨x18, s19, hx18, hf⟩ := dz_co hf
              have hFc := dz_free hD hS hA
              refine va_calli (va_runV (As := [.int x17, .int a0]) (rest := []) ⟨hx, hb, hml, hown, hts⟩ (mtX1_lineFor l D cl ci hci h ad cA H.size s15 x17 a0 K (x18, s19) hx18) (cwV 2 hts (lw_V q1809 q1811 qs39 q88 q1812) rfl rfl rfl (by decide +kernel) ⟨Nat.le_of_ble_eq_true rfl, Nat.le_of_ble_eq_true rfl⟩) (m_preV hci hK hP hD) rfl rfl hl.1 rfl (lv_room (Nat.le_of_ble_eq_true rfl)) dX1_row_139 ⟨Nat.le_refl _, Nat.le_refl _⟩) hS (fun q _ hq => hFc q hq) hFc (fun r u t H1 locs ht hvm hw hB hz hk hS => ?_)
              obtain ⟨hw1, hw2⟩ := Prod.mk.inj hw.symm; subst hw1; subst hw2
              replace hP := m_back ht hB
              replace hD := mw_D s19 hD
              clear hB hk hz hvm ht hFc; generalize H1 = H at hP hS ⊢
              refine lv_istore (lv' := [(6, .int x18), (5, .int x3), (0, .ref h), (1, .int a0), (2, .int a1), (3, .int a2), (4, .int a3)]) hx hb dX1_row_142 hl (by decide) rfl (fun ls hl => ?_)
              refine lv_iload hx hb dX1_row_144 (lv_at hl 0 rfl) ?_
              refine lv_iconst (v := (-1)) hx hb dX1_row_146 (by decide) ?_
              refine lv_icmp_ne (tgt := 155) hx hb dX1_row_147 (by decide) (fun c147 => ?_) (fun c147 => ?_)
              · have hf := dz_f c147 hf
                refine lv_iload hx hb dX1_row_155 (lv_at hl 0 rfl) ?_
                exact W.iret (v := x18) hx hb hr (fun t ht hW => ⟨⟨x18, s19, rfl, Option.some.inj hf, by rw [ht]; exact hP, va_K.moved hW.alike hK, hD⟩, hS.F ht⟩) hS.2.2 dX1_row_157
              · have hf := dz_t c147 hf
                refine lv_bipush (v := (-2)) hx hb dX1_row_150 (by decide) ?_
                refine lv_goto (tgt := 157) hx hb dX1_row_152 (by decide) ?_
                exact W.iret (v := (-2)) hx hb hr (fun t ht hW => ⟨⟨(-2), s19, rfl, Option.some.inj hf, by rw [ht]; exact hP, va_K.moved hW.alike hK, hD⟩, hS.F ht⟩) hS.2.2 dX1_row_157
            · have hf := dz_f c118 hf
              refine lv_aload_n hx hb dX1_row_121 rfl (lv_at hl 1 rfl) ?_
              refine va_get (C := RX1) (T := TX1) (N := 35) (fs := mwF ad s15) (v := .ref (ad 17)) hx hb hts in_X1 hown hK hP 0 rfl hci 17 (by decide) (hts _ q1688) (fun _ hq => hq) rfl dX1_row_122 ?_
              refine lv_iload hx hb dX1_row_125 (lv_at hl 0 rfl) ?_
              obtain ⟨g20, hf⟩ := dz_go hf
              refine va_iald hx hb hK hP 15 0 rfl rfl g20 dX1_row_127 ?_
              refine lv_topi (fun x21 e_x21 => ?_)
              have hf := dz_ls e_x21 hf
              refine lv_goto (tgt := 138) hx hb dX1_row_128 (by decide) ?_
              refine lv_iload_n hx hb dX1_row_138 rfl (lv_at hl 2 rfl) ?_
              obtain ⟨x22, s23, hx22, hf⟩ := dz_co hf
              have hFc := dz_free hD hS hA
              refine va_calli (va_runV (As := [.int x21, .int a0]) (rest := []) ⟨hx, hb, hml, hown, hts⟩ (mtX1_lineFor l D cl ci hci h ad cA H.size s15 x21 a0 K (x22, s23) hx22) (cwV 2 hts (lw_V q1809 q1811 qs39 q88 q1812) rfl rfl rfl (by decide +kernel) ⟨Nat.le_of_ble_eq_true rfl, Nat.le_of_ble_eq_true rfl⟩) (m_preV hci hK hP hD) rfl rfl hl.1 rfl (lv_room (Nat.le_of_ble_eq_true rfl)) dX1_row_139 ⟨Nat.le_refl _, Nat.le_refl _⟩) hS (fun q _ hq => hFc q hq) hFc (fun r u t H1 locs ht hvm hw hB hz hk hS => ?_)
              obtain ⟨hw1, hw2⟩ := Prod.mk.inj hw.symm; subst hw1; subst hw2
              replace hP := m_back ht hB
              replace hD := mw_D s23 hD
              clear hB hk hz hvm ht hFc; generalize H1 = H at hP hS ⊢
              refine lv_istore (lv' := [(6, .int x22), (5, .int x3), (0, .ref h), (1, .int a0), (2, .int a1), (3, .int a2), (4, .int a3)]) hx hb dX1_row_142 hl (by decide) rfl (fun ls hl => ?_)
              refine lv_iload hx hb dX1_row_144 (lv_at hl 0 rfl) ?_
              refine lv_iconst (v := (-1)) hx hb dX1_row_146 (by decide) ?_
              refine lv_icmp_ne (tgt := 155) hx hb dX1_row_147 (by decide) (fun c147 => ?_) (fun c147 => ?_)
              · have hf := dz_f c147 hf
                refine lv_iload hx hb dX1_row_155 (lv_at hl 0 rfl) ?_
                exact W.iret (v := x22) hx hb hr (fun t ht hW => ⟨⟨x22, s23, rfl, Option.some.inj hf, by rw [ht]; exact hP, va_K.moved hW.alike hK, hD⟩, hS.F ht⟩) hS.2.2 dX1_row_157
              · have hf := dz_t c147 hf
                refine lv_bipush (v := (-2)) hx hb dX1_row_150 (by decide) ?_
                refine lv_goto (tgt := 157) hx hb dX1_row_152 (by decide) ?_
                exact W.iret (v := (-2)) hx hb hr (fun t ht hW => ⟨⟨(-2), s23, rfl, Option.some.inj hf, by rw [ht]; exact hP, va_K.moved hW.alike hK, hD⟩, hS.F ht⟩) hS.2.2 dX1_row_157
          · skip
            have u22_0 := dz_ne (z := 0) t22_0 (by decide)
            have u22_1 := dz_ne (z := 1) t22_1 (by decide)
            have u22_2 := dz_ne (z := 2) t22_2 (by decide)
            have u22_3 := dz_ne (z := 3) t22_3 (by decide)
            refine lv_tableOut (tgt := 158) hx hb dX1_row_22 (by omega) (by decide) ?_
            refine lv_iconst (v := (-1)) hx hb dX1_row_158 (by decide) ?_
            exact W.iret (v := (-1)) hx hb hr (fun t ht hW => ⟨⟨(-1), s2, rfl, Option.some.inj hf, by rw [ht]; exact hP, va_K.moved hW.alike hK, hD⟩, hS.F ht⟩) hS.2.2 dX1_row_159
  · have hf := dz_t c7 hf
    refine lv_iconst (v := (-1)) hx hb dX1_row_10 (by decide) ?_
    exact W.iret (v := (-1)) hx hb hr (fun t ht hW => ⟨⟨(-1), s2, rfl, Option.some.inj hf, by rw [ht]; exact hP, va_K.moved hW.alike hK, hD⟩, hS.F ht⟩) hS.2.2 dX1_row_11

noncomputable def lfX1_right (K : Nat) : Nat → (Int64 → Int32 → pM → Option (Int64 × pM)) × (Int64 → Int32 → pM → Option (Int64 × pM)) := Nat.rec (motive := fun _ => (Int64 → Int32 → pM → Option (Int64 × pM)) × (Int64 → Int32 → pM → Option (Int64 × pM))) ((fun _ _ _ => none), (fun _ _ _ => none)) (fun _ G => ((fun v1 v3 σ => dz_l (σ.1 7) fun x1 => if x1 ≤ v3 then (some (v1, σ)) else (if ¬ (v3 < 0 ∨ 60 ≤ Int32.toNatClampNeg v3) then (dz_l (σ.2.2.1 19 (Int32.toNatClampNeg v3)) fun x3 => if x3 = (0 : Int32) then (G.2 v1 v3 σ) else (dz_l (v1 ||| (1 <<< (Int32.toInt64 v3 &&& 63))) fun x4 => G.2 x4 v3 σ)) else none)), (fun v1 v3 σ => dz_l (v3 + 1) fun x1 => G.1 v1 x1 σ)))
noncomputable def fnX1_right (K : Nat)  (σ : pM) : Option (Int64 × pM) := dz_b (fnX1_laysRight K σ) fun s2 => (lfX1_right K K).1 0 0 s2
set_option maxHeartbeats 4000000 in
set_option maxRecDepth 100000 in
theorem wlX1_right {p : Program} {l : Launch} {e : Env} {s : State} {m : MethodId} {below : List Frame} {meth : Method} {c : Code} {D : va_G} {cl : List vw_C} {ci : Nat} (hci : cl[ci]? = some (RX1, TX1, 35)) {h : Nat} {ad : Nat → Nat} {cA : Nat → ClassId} {A : Nat → Prop} (hA : ∀ q : Nat, s.heap.size ≤ q → A q) (hK : va_K D cl (mtys cA) s) (K : Nat) (res : (Int64 × pM))  (hx : p.tables.exec = Jvm.exec) (hb : c.code = cX1_right) (hr : meth.sig.returnType = some .long) (hlocks : meth.locks = false) (hml : c.maxLocals = 4) (hown : s.vm.findClass RX1 = some m.cls) (hts : ∀ w ∈ lw_all, w.before ([.ref h] : List Value).toArray s = true) : ∀ k : Nat, (∀ (v1 : Int64) (v3 : Int32) (σ : pM) (H : Heap) (locs : List Loc), va_P D cl (mw ci h ad cA σ) H → va_D A (mw ci h ad cA σ) → va_S A s.heap H locs → ∀ (ls : Array Slot), lv_has ls 4 [(0, .ref h), (1, .long v1), (3, .int v3)] → (lfX1_right K k).1 v1 v3 σ = some res → W p l e (headSpec (ws_ yX1_right cX1_right 4 (some .long)) ({ frames := 5, cells := 0, slots := 0, locals := 130 })).room s m ([.ref h] : List Value).toArray below meth c H locs 0 0 (MQ below (mQl D cl ci h ad cA A res) ([.ref h] : List Value).toArray s 0 0 A) (F0 m 8 ls [])) ∧ (∀ (v1 : Int64) (v3 : Int32) (σ : pM) (H : Heap) (locs : List Loc), va_P D cl (mw ci h ad cA σ) H → va_D A (mw ci h ad cA σ) → va_S A s.heap H locs → ∀ (ls : Array Slot), lv_has ls 4 [(0, .ref h), (1, .long v1), (3, .int v3)] → (lfX1_right K k).2 v1 v3 σ = some res → W p l e (headSpec (ws_ yX1_right cX1_right 4 (some .long)) ({ frames := 5, cells := 0, slots := 0, locals := 130 })).room s m ([.ref h] : List Value).toArray below meth c H locs 0 0 (MQ below (mQl D cl ci h ad cA A res) ([.ref h] : List Value).toArray s 0 0 A) (F0 m 31 ls [])) := by
  intro k
  induction k with
  | zero =>
    exact ⟨fun _ _ _ _ _ _ _ _ _ _ hf => (by cases hf), fun _ _ _ _ _ _ _ _ _ _ hf => (by cases hf)⟩
  | succ k ih =>
    refine ⟨?_, ?_⟩
    · intro v1 v3 σ H locs hP hD hS ls hl hf
      have hf : (dz_l (σ.1 7) fun x1 => if x1 ≤ v3 then (some (v1, σ)) else (if ¬ (v3 < 0 ∨ 60 ≤ Int32.toNatClampNeg v3) then (dz_l (σ.2.2.1 19 (Int32.toNatClampNeg v3)) fun x3 => if x3 = (0 : Int32) then ((lfX1_right K k).2 v1 v3 σ) else (dz_l (v1 ||| (1 <<< (Int32.toInt64 v3 &&& 63))) fun x4 => (lfX1_right K k).2 x4 v3 σ)) else none) : Option (Int64 × pM)) = some res := hf
      refine lv_iload_n hx hb dX1_right_8 rfl (lv_at hl 2 rfl) ?_
      refine lv_aload_n hx hb dX1_right_9 rfl (lv_at hl 0 rfl) ?_
      refine va_get (C := RX1) (T := TX1) (N := 35) (fs := mwF ad σ) (v := .int (σ.1 7)) hx hb hts in_X1 hown hK hP 0 rfl hci 7 (by decide) (hts _ q1678) (fun _ hq => hq) rfl dX1_right_10 ?_
      refine lv_topi (fun x1 e_x1 => ?_)
      have hf := dz_ls e_x1 hf
      refine lv_icmp_ge (tgt := 37) hx hb dX1_right_13 (by decide) (fun c13 => ?_) (fun c13 => ?_)
      · have hf := dz_t c13 hf
        refine lv_lload_n hx hb dX1_right_37 rfl (lv_at hl 1 rfl) ?_
        exact W.lret (v := v1) hx hb hr (fun t ht hW => ⟨⟨v1, σ, rfl, Option.some.inj hf, by rw [ht]; exact hP, va_K.moved hW.alike hK, hD⟩, hS.F ht⟩) hS.2.2 dX1_right_38
      · have hf := dz_f c13 hf
        refine lv_aload_n hx hb dX1_right_16 rfl (lv_at hl 0 rfl) ?_
        refine va_get (C := RX1) (T := TX1) (N := 35) (fs := mwF ad σ) (v := .ref (ad 19)) hx hb hts in_X1 hown hK hP 0 rfl hci 19 (by decide) (hts _ q1690) (fun _ hq => hq) rfl dX1_right_17 ?_
        refine lv_iload_n hx hb dX1_right_20 rfl (lv_at hl 2 rfl) ?_
        obtain ⟨g2, hf⟩ := dz_go hf
        refine va_zald hx hb hK hP 17 2 rfl rfl g2 dX1_right_21 ?_
        refine lv_topi (fun x3 e_x3 => ?_)
        have hf := dz_ls e_x3 hf
        refine lv_if_eq (tgt := 31) hx hb dX1_right_22 (by decide) (fun c22 => ?_) (fun c22 => ?_)
        · have hf := dz_t c22 hf
          exact ih.2 v1 v3 σ H locs hP hD hS ls (lv_sub hl [0, 1, 2] rfl) hf
        · have hf := dz_f c22 hf
          refine lv_lload_n hx hb dX1_right_25 rfl (lv_at hl 1 rfl) ?_
          refine lv_lconst (v := 1) hx hb dX1_right_26 rfl ?_
          refine lv_iload_n hx hb dX1_right_27 rfl (lv_at hl 2 rfl) ?_
          refine lv_lshl hx hb dX1_right_28 (rfl : _ = 1 <<< (Int32.toInt64 v3 &&& 63)) ?_
          refine lv_lor hx hb dX1_right_29 ?_
          refine lv_topl (fun x4 e_x4 => ?_)
          have hf := dz_ls e_x4 hf
          refine lv_lstore_n (lv' := [(1, .long x4), (0, .ref h), (3, .int v3)]) hx hb dX1_right_30 rfl hl (by decide) rfl (fun ls hl => ?_)
          exact ih.2 x4 v3 σ H locs hP hD hS ls (lv_sub hl [1, 0, 2] rfl) hf
    · intro v1 v3 σ H locs hP hD hS ls hl hf
      have hf : (dz_l (v3 + 1) fun x1 => (lfX1_right K k).1 v1 x1 σ : Option (Int64 × pM)) = some res := hf
      obtain ⟨x1, e_x1, hf⟩ := dz_lo hf
      refine lv_iinc (v := x1) (lv' := [(3, .int x1), (0, .ref h), (1, .long v1)]) hx hb dX1_right_31 hl (k := 2) rfl (by rw [e_x1]; rfl) (by decide) rfl (fun ls hl => ?_)
      refine lv_goto (tgt := 8) hx hb dX1_right_34 (by decide) ?_
      exact ih.1 v1 x1 σ H locs hP hD hS ls (lv_sub hl [1, 2, 0] rfl) hf
set_option maxHeartbeats 4000000 in
set_option maxRecDepth 100000 in
theorem mtX1_right (l : Launch) (D : va_G) (cl : List vw_C) (ci : Nat) (hci : cl[ci]? = some (RX1, TX1, 35)) (h : Nat) (ad : Nat → Nat) (cA : Nat → ClassId) (sz : Nat) (σ : pM)  (K : Nat) (res : (Int64 × pM)) (hf : fnX1_right K  σ = some res) : Met l yX1_right (ws_ yX1_right cX1_right 4 (some .long)) ({ frames := 5, cells := 0, slots := 0, locals := 130 }) (mPc D cl ci h ad cA sz σ [.ref h]) (mQl D cl ci h ad cA (va_A (mw ci h ad cA σ) sz) res) 0 0 (va_A (mw ci h ad cA σ) sz) := by
  refine Met.ofW (cc := cX1_right) (maxL := 4) (ret := some .long) (by decide +kernel) rfl ?_
  intro p e s m args below meth c s₁ B hml hv
  obtain ⟨rfl, hsz, hP, hK, hD0⟩ := hv
  have hx := B.exec
  have hb := B.bytes
  have hr := B.returns
  have hts := atoms_spec (ws := ws_ yX1_right cX1_right 4 (some .long)) B.pre
  have hts : ∀ w ∈ lw_all, w.before _ s = true := fun w h => hts w (List.mem_cons_of_mem _ h)
  have hown : s.vm.findClass RX1 = some m.cls := findClass_of_methodNamed B.named
  have hlocks := B.notSynchronized
  subst hsz
  have hD := hD0.self (sz := s.heap.size)
  generalize hAe : va_A (mw ci h ad cA σ) s.heap.size = A at hD ⊢
  have hA : ∀ q : Nat, s.heap.size ≤ q → A q := fun q h => by rw [← hAe]; exact Or.inr h
  clear hAe hD0
  have hS : va_S A s.heap s.heap [] := va_S.rf
  generalize hHe : s.heap = H at hP hS ⊢
  have hS : va_S A s.heap H [] := by rw [hHe]; exact hS
  generalize ([] : List Loc) = locs at hS ⊢
  have hl := lv_entry ([.ref h]) (n := 4) (Nat.le_of_ble_eq_true rfl)
  rw [lg_entry_eq]
  generalize (lg_sl ([.ref h]) ++ List.replicate (4 - (lg_sl ([.ref h])).length) Slot.unset).toArray = ls at hl ⊢
  have hl : lv_has ls 4 [(0, .ref h)] := hl
  have hf : (dz_b (fnX1_laysRight K σ) fun s2 => (lfX1_right K K).1 0 0 s2 : Option (Int64 × pM)) = some res := hf
  have ih := wlX1_right (l := l) (e := e) (below := below) (h := h) (ad := ad) (cA := cA) hci hA hK K res  hx hb hr hlocks hml hown hts K
  refine lv_aload_n hx hb dX1_right_0 rfl (lv_at hl 0 rfl) ?_
  obtain ⟨s2, hx1, hf⟩ := dz_bo hf
  have hFc := dz_free hD hS hA
  refine va_callv (va_runV (As := []) (rest := []) ⟨hx, hb, hml, hown, hts⟩ (mtX1_laysRight l D cl ci hci h ad cA H.size σ K s2 hx1) (cwV 0 hts (lw_V q1791 q1793 qs36 q88 q1794) rfl rfl rfl (by decide +kernel) ⟨Nat.le_of_ble_eq_true rfl, Nat.le_of_ble_eq_true rfl⟩) (m_preV hci hK hP hD) rfl rfl hl.1 rfl (lv_room (Nat.le_of_ble_eq_true rfl)) dX1_right_1 ⟨Nat.le_refl _, Nat.le_refl _⟩) hS (fun q _ hq => hFc q hq) hFc (fun u t H1 locs ht hvm hw hB hz hk hS => ?_)
  replace hw := hw.symm; subst hw
  replace hP := m_back ht hB
  replace hD := mw_D s2 hD
  clear hB hk hz hvm ht hFc; generalize H1 = H at hP hS ⊢
  refine lv_lconst (v := 0) hx hb dX1_right_4 rfl ?_
  refine lv_lstore_n (lv' := [(1, .long 0), (0, .ref h)]) hx hb dX1_right_5 rfl hl (by decide) rfl (fun ls hl => ?_)
  refine lv_iconst (v := 0) hx hb dX1_right_6 (by decide) ?_
  refine lv_istore_n (lv' := [(3, .int 0), (1, .long 0), (0, .ref h)]) hx hb dX1_right_7 rfl hl (by decide) rfl (fun ls hl => ?_)
  exact ih.1 0 0 s2 H locs hP hD hS ls (lv_sub hl [2, 1, 0] rfl) hf

noncomputable def fnX1_rests (K : Nat) (a0 : Int32) (σ : pM) : Option (Int64 × pM) := dz_c (fnX1_isLine K a0 σ) fun x1 s2 => if x1 = (0 : Int32) then (some (-1, s2)) else (dz_c (fnX1_isRightLine K a0 s2) fun x3 s4 => if x3 = (0 : Int32) then (some (-2, s4)) else (dz_c (fnX1_restsOf K a0 s4) fun x5 s6 => some (x5, s6)))
set_option maxHeartbeats 4000000 in
set_option maxRecDepth 100000 in
theorem mtX1_rests (l : Launch) (D : va_G) (cl : List vw_C) (ci : Nat) (hci : cl[ci]? = some (RX1, TX1, 35)) (h : Nat) (ad : Nat → Nat) (cA : Nat → ClassId) (sz : Nat) (σ : pM) (a0 : Int32) (K : Nat) (res : (Int64 × pM)) (hf : fnX1_rests K a0 σ = some res) : Met l yX1_rests (ws_ yX1_rests cX1_rests 2 (some .long)) ({ frames := 6, cells := 0, slots := 0, locals := 151 }) (mPc D cl ci h ad cA sz σ [.ref h, .int a0]) (mQl D cl ci h ad cA (va_A (mw ci h ad cA σ) sz) res) 0 0 (va_A (mw ci h ad cA σ) sz) := by
  refine Met.ofW (cc := cX1_rests) (maxL := 2) (ret := some .long) (by decide +kernel) rfl ?_
  intro p e s m args below meth c s₁ B hml hv
  obtain ⟨rfl, hsz, hP, hK, hD0⟩ := hv
  have hx := B.exec
  have hb := B.bytes
  have hr := B.returns
  have hts := atoms_spec (ws := ws_ yX1_rests cX1_rests 2 (some .long)) B.pre
  have hts : ∀ w ∈ lw_all, w.before _ s = true := fun w h => hts w (List.mem_cons_of_mem _ h)
  have hown : s.vm.findClass RX1 = some m.cls := findClass_of_methodNamed B.named
  have hlocks := B.notSynchronized
  subst hsz
  have hD := hD0.self (sz := s.heap.size)
  generalize hAe : va_A (mw ci h ad cA σ) s.heap.size = A at hD ⊢
  have hA : ∀ q : Nat, s.heap.size ≤ q → A q := fun q h => by rw [← hAe]; exact Or.inr h
  clear hAe hD0
  have hS : va_S A s.heap s.heap [] := va_S.rf
  generalize hHe : s.heap = H at hP hS ⊢
  have hS : va_S A s.heap H [] := by rw [hHe]; exact hS
  generalize ([] : List Loc) = locs at hS ⊢
  have hl := lv_entry ([.ref h, .int a0]) (n := 2) (Nat.le_of_ble_eq_true rfl)
  rw [lg_entry_eq]
  generalize (lg_sl ([.ref h, .int a0]) ++ List.replicate (2 - (lg_sl ([.ref h, .int a0])).length) Slot.unset).toArray = ls at hl ⊢
  have hl : lv_has ls 2 [(0, .ref h), (1, .int a0)] := hl
  have hf : (dz_c (fnX1_isLine K a0 σ) fun x1 s2 => if x1 = (0 : Int32) then (some (-1, s2)) else (dz_c (fnX1_isRightLine K a0 s2) fun x3 s4 => if x3 = (0 : Int32) then (some (-2, s4)) else (dz_c (fnX1_restsOf K a0 s4) fun x5 s6 => some (x5, s6))) : Option (Int64 × pM)) = some res := hf
  refine lv_aload_n hx hb dX1_rests_0 rfl (lv_at hl 0 rfl) ?_
  refine lv_iload_n hx hb dX1_rests_1 rfl (lv_at hl 1 rfl) ?_
  obtain ⟨x1, s2, hx1, hf⟩ := dz_co hf
  have hFc := dz_free hD hS hA
  refine va_calli (va_runV (As := [.int a0]) (rest := []) ⟨hx, hb, hml, hown, hts⟩ (mtX1_isLine l D cl ci hci h ad cA H.size σ a0 K (x1, s2) hx1) (cwV 1 hts (lw_V q1923 q1925 qs60 q88 q1926) rfl rfl rfl (by decide +kernel) ⟨Nat.le_of_ble_eq_true rfl, Nat.le_of_ble_eq_true rfl⟩) (m_preV hci hK hP hD) rfl rfl hl.1 rfl (lv_room (Nat.le_of_ble_eq_true rfl)) dX1_rests_2 ⟨Nat.le_refl _, Nat.le_refl _⟩) hS (fun q _ hq => hFc q hq) hFc (fun r u t H1 locs ht hvm hw hB hz hk hS => ?_)
  obtain ⟨hw1, hw2⟩ := Prod.mk.inj hw.symm; subst hw1; subst hw2
  replace hP := m_back ht hB
  replace hD := mw_D s2 hD
  clear hB hk hz hvm ht hFc; generalize H1 = H at hP hS ⊢
  refine lv_if_ne (tgt := 12) hx hb dX1_rests_5 (by decide) (fun c5 => ?_) (fun c5 => ?_)
  · have hf := dz_f c5 hf
    refine lv_aload_n hx hb dX1_rests_12 rfl (lv_at hl 0 rfl) ?_
    refine lv_iload_n hx hb dX1_rests_13 rfl (lv_at hl 1 rfl) ?_
    obtain ⟨x3, s4, hx3, hf⟩ := dz_co hf
    have hFc := dz_free hD hS hA
    refine va_calli (va_runV (As := [.int a0]) (rest := []) ⟨hx, hb, hml, hown, hts⟩ (mtX1_isRightLine l D cl ci hci h ad cA H.size s2 a0 K (x3, s4) hx3) (cwV 1 hts (lw_V q2047 q2049 qs77 q88 q2050) rfl rfl rfl (by decide +kernel) ⟨Nat.le_of_ble_eq_true rfl, Nat.le_of_ble_eq_true rfl⟩) (m_preV hci hK hP hD) rfl rfl hl.1 rfl (lv_room (Nat.le_of_ble_eq_true rfl)) dX1_rests_14 ⟨Nat.le_refl _, Nat.le_refl _⟩) hS (fun q _ hq => hFc q hq) hFc (fun r u t H1 locs ht hvm hw hB hz hk hS => ?_)
    obtain ⟨hw1, hw2⟩ := Prod.mk.inj hw.symm; subst hw1; subst hw2
    replace hP := m_back ht hB
    replace hD := mw_D s4 hD
    clear hB hk hz hvm ht hFc; generalize H1 = H at hP hS ⊢
    refine lv_if_eq (tgt := 28) hx hb dX1_rests_17 (by decide) (fun c17 => ?_) (fun c17 => ?_)
    · have hf := dz_t c17 hf
      refine lv_ldc2 (v := -2) hx hb hown (hts _ q2091) dX1_rests_28 ?_
      exact W.lret (v := -2) hx hb hr (fun t ht hW => ⟨⟨-2, s4, rfl, Option.some.inj hf, by rw [ht]; exact hP, va_K.moved hW.alike hK, hD⟩, hS.F ht⟩) hS.2.2 dX1_rests_31
    · have hf := dz_f c17 hf
      refine lv_aload_n hx hb dX1_rests_20 rfl (lv_at hl 0 rfl) ?_
      refine lv_iload_n hx hb dX1_rests_21 rfl (lv_at hl 1 rfl) ?_
      obtain ⟨x5, s6, hx5, hf⟩ := dz_co hf
      have hFc := dz_free hD hS hA
      refine va_calll (va_runV (As := [.int a0]) (rest := []) ⟨hx, hb, hml, hown, hts⟩ (mtX1_restsOf l D cl ci hci h ad cA H.size s4 a0 K (x5, s6) hx5) (cwV 1 hts (lw_V q2055 q2057 qs78 q88 q2058) rfl rfl rfl (by decide +kernel) ⟨Nat.le_of_ble_eq_true rfl, Nat.le_of_ble_eq_true rfl⟩) (m_preV hci hK hP hD) rfl rfl hl.1 rfl (lv_room (Nat.le_of_ble_eq_true rfl)) dX1_rests_22 ⟨Nat.le_refl _, Nat.le_refl _⟩) hS (fun q _ hq => hFc q hq) hFc (fun r u t H1 locs ht hvm hw hB hz hk hS => ?_)
      obtain ⟨hw1, hw2⟩ := Prod.mk.inj hw.symm; subst hw1; subst hw2
      replace hP := m_back ht hB
      replace hD := mw_D s6 hD
      clear hB hk hz hvm ht hFc; generalize H1 = H at hP hS ⊢
      refine lv_goto (tgt := 31) hx hb dX1_rests_25 (by decide) ?_
      exact W.lret (v := x5) hx hb hr (fun t ht hW => ⟨⟨x5, s6, rfl, Option.some.inj hf, by rw [ht]; exact hP, va_K.moved hW.alike hK, hD⟩, hS.F ht⟩) hS.2.2 dX1_rests_31
  · have hf := dz_t c5 hf
    refine lv_ldc2 (v := -1) hx hb hown (hts _ q2090) dX1_rests_8 ?_
    exact W.lret (v := -1) hx hb hr (fun t ht hW => ⟨⟨-1, s2, rfl, Option.some.inj hf, by rw [ht]; exact hP, va_K.moved hW.alike hK, hD⟩, hS.F ht⟩) hS.2.2 dX1_rests_11

noncomputable def lfX1_deepOf (K : Nat) : Nat → (Int32 → Int64 → Int32 → pM → Option (Int32 × pM)) × (Int32 → Int64 → Int32 → Int64 → Int32 → pM → Option (Int32 × pM)) × (Int32 → Int64 → Int32 → Int64 → Int32 → pM → Option (Int32 × pM)) × (Int32 → Int64 → Int32 → pM → Option (Int32 × pM)) := Nat.rec (motive := fun _ => (Int32 → Int64 → Int32 → pM → Option (Int32 × pM)) × (Int32 → Int64 → Int32 → Int64 → Int32 → pM → Option (Int32 × pM)) × (Int32 → Int64 → Int32 → Int64 → Int32 → pM → Option (Int32 × pM)) × (Int32 → Int64 → Int32 → pM → Option (Int32 × pM))) ((fun _ _ _ _ => none), (fun _ _ _ _ _ _ => none), (fun _ _ _ _ _ _ => none), (fun _ _ _ _ => none)) (fun _ G => ((fun v1 v2 v4 σ => if v1 < v4 then (if ¬ (v1 < 0 ∨ 60 ≤ Int32.toNatClampNeg v1) then (dz_l (σ.2.2.1 34 (Int32.toNatClampNeg v1)) fun x2 => some (x2, σ)) else none) else (dz_b (fnX1_has K v2 v4) fun x3 => if x3 = (0 : Int32) then (G.2.2.2 v1 v2 v4 σ) else (dz_c (fnX1_props K v4 σ) fun x4 s5 => if ¬ (v4 < 0 ∨ 60 ≤ Int32.toNatClampNeg v4) then (dz_l (mI s5 34 (Int32.toNatClampNeg v4) 0) fun s7 => G.2.1 v1 v2 v4 x4 0 s7) else none))), (fun v1 v2 v4 v5 v7 σ => if v4 ≤ v7 then (G.2.2.2 v1 v2 v4 σ) else (dz_b (fnX1_has K v5 v7) fun x1 => if x1 = (0 : Int32) then (G.2.2.1 v1 v2 v4 v5 v7 σ) else (if ¬ (v7 < 0 ∨ 60 ≤ Int32.toNatClampNeg v7) then (dz_l (σ.2.2.1 34 (Int32.toNatClampNeg v7)) fun x3 => if ¬ (v4 < 0 ∨ 60 ≤ Int32.toNatClampNeg v4) then (dz_l (σ.2.2.1 34 (Int32.toNatClampNeg v4)) fun x5 => if (x3 + 1) ≤ x5 then (G.2.2.1 v1 v2 v4 v5 v7 σ) else (if ¬ (v7 < 0 ∨ 60 ≤ Int32.toNatClampNeg v7) then (dz_l (σ.2.2.1 34 (Int32.toNatClampNeg v7)) fun x7 => dz_l (x7 + 1) fun x8 => if ¬ (v4 < 0 ∨ 60 ≤ Int32.toNatClampNeg v4) then (dz_l (mI σ 34 (Int32.toNatClampNeg v4) x8) fun s10 => G.2.2.1 v1 v2 v4 v5 v7 s10) else none) else none)) else none) else none))), (fun v1 v2 v4 v5 v7 σ => dz_l (v7 + 1) fun x1 => G.2.1 v1 v2 v4 v5 x1 σ), (fun v1 v2 v4 σ => dz_l (v4 + 1) fun x1 => G.1 v1 v2 x1 σ)))
noncomputable def fnX1_deepOf (K : Nat) (a0 : Int32) (σ : pM) : Option (Int32 × pM) := dz_c (fnX1_restsOf K a0 σ) fun x1 s2 => (lfX1_deepOf K K).1 a0 x1 0 s2
set_option maxHeartbeats 4000000 in
set_option maxRecDepth 100000 in
theorem wlX1_deepOf {p : Program} {l : Launch} {e : Env} {s : State} {m : MethodId} {below : List Frame} {meth : Method} {c : Code} {D : va_G} {cl : List vw_C} {ci : Nat} (hci : cl[ci]? = some (RX1, TX1, 35)) {h : Nat} {ad : Nat → Nat} {cA : Nat → ClassId} {A : Nat → Prop} (hA : ∀ q : Nat, s.heap.size ≤ q → A q) (hK : va_K D cl (mtys cA) s) (K : Nat) (res : (Int32 × pM)) (a0 : Int32) (hx : p.tables.exec = Jvm.exec) (hb : c.code = cX1_deepOf) (hr : meth.sig.returnType = some .int) (hlocks : meth.locks = false) (hml : c.maxLocals = 8) (hown : s.vm.findClass RX1 = some m.cls) (hts : ∀ w ∈ lw_all, w.before ([.ref h, .int a0] : List Value).toArray s = true) : ∀ k : Nat, (∀ (v1 : Int32) (v2 : Int64) (v4 : Int32) (σ : pM) (H : Heap) (locs : List Loc), va_P D cl (mw ci h ad cA σ) H → va_D A (mw ci h ad cA σ) → va_S A s.heap H locs → ∀ (ls : Array Slot), lv_has ls 8 [(0, .ref h), (1, .int v1), (2, .long v2), (4, .int v4)] → (lfX1_deepOf K k).1 v1 v2 v4 σ = some res → W p l e (headSpec (ws_ yX1_deepOf cX1_deepOf 8 (some .int)) ({ frames := 3, cells := 0, slots := 0, locals := 71 })).room s m ([.ref h, .int a0] : List Value).toArray below meth c H locs 0 0 (MQ below (mQi D cl ci h ad cA A res) ([.ref h, .int a0] : List Value).toArray s 0 0 A) (F0 m 9 ls [])) ∧ (∀ (v1 : Int32) (v2 : Int64) (v4 : Int32) (v5 : Int64) (v7 : Int32) (σ : pM) (H : Heap) (locs : List Loc), va_P D cl (mw ci h ad cA σ) H → va_D A (mw ci h ad cA σ) → va_S A s.heap H locs → ∀ (ls : Array Slot), lv_has ls 8 [(0, .ref h), (1, .int v1), (2, .long v2), (4, .int v4), (5, .long v5), (7, .int v7)] → (lfX1_deepOf K k).2.1 v1 v2 v4 v5 v7 σ = some res → W p l e (headSpec (ws_ yX1_deepOf cX1_deepOf 8 (some .int)) ({ frames := 3, cells := 0, slots := 0, locals := 71 })).room s m ([.ref h, .int a0] : List Value).toArray below meth c H locs 0 0 (MQ below (mQi D cl ci h ad cA A res) ([.ref h, .int a0] : List Value).toArray s 0 0 A) (F0 m 46 ls [])) ∧ (∀ (v1 : Int32) (v2 : Int64) (v4 : Int32) (v5 : Int64) (v7 : Int32) (σ : pM) (H : Heap) (locs : List Loc), va_P D cl (mw ci h ad cA σ) H → va_D A (mw ci h ad cA σ) → va_S A s.heap H locs → ∀ (ls : Array Slot), lv_has ls 8 [(0, .ref h), (1, .int v1), (2, .long v2), (4, .int v4), (5, .long v5), (7, .int v7)] → (lfX1_deepOf K k).2.2.1 v1 v2 v4 v5 v7 σ = some res → W p l e (headSpec (ws_ yX1_deepOf cX1_deepOf 8 (some .int)) ({ frames := 3, cells := 0, slots := 0, locals := 71 })).room s m ([.ref h, .int a0] : List Value).toArray below meth c H locs 0 0 (MQ below (mQi D cl ci h ad cA A res) ([.ref h, .int a0] : List Value).toArray s 0 0 A) (F0 m 98 ls [])) ∧ (∀ (v1 : Int32) (v2 : Int64) (v4 : Int32) (σ : pM) (H : Heap) (locs : List Loc), va_P D cl (mw ci h ad cA σ) H → va_D A (mw ci h ad cA σ) → va_S A s.heap H locs → ∀ (ls : Array Slot), lv_has ls 8 [(0, .ref h), (1, .int v1), (2, .long v2), (4, .int v4)] → (lfX1_deepOf K k).2.2.2 v1 v2 v4 σ = some res → W p l e (headSpec (ws_ yX1_deepOf cX1_deepOf 8 (some .int)) ({ frames := 3, cells := 0, slots := 0, locals := 71 })).room s m ([.ref h, .int a0] : List Value).toArray below meth c H locs 0 0 (MQ below (mQi D cl ci h ad cA A res) ([.ref h, .int a0] : List Value).toArray s 0 0 A) (F0 m 104 ls [])) := by
  intro k
  induction k with
  | zero =>
    exact ⟨fun _ _ _ _ _ _ _ _ _ _ _ hf => (by cases hf), fun _ _ _ _ _ _ _ _ _ _ _ _ _ hf => (by cases hf), fun _ _ _ _ _ _ _ _ _ _ _ _ _ hf => (by cases hf), fun _ _ _ _ _ _ _ _ _ _ _ hf => (by cases hf)⟩
  | succ k ih =>
    refine ⟨?_, ?_, ?_, ?_⟩
    · intro v1 v2 v4 σ H locs hP hD hS ls hl hf
      have hf : (if v1 < v4 then (if ¬ (v1 < 0 ∨ 60 ≤ Int32.toNatClampNeg v1) then (dz_l (σ.2.2.1 34 (Int32.toNatClampNeg v1)) fun x2 => some (x2, σ)) else none) else (dz_b (fnX1_has K v2 v4) fun x3 => if x3 = (0 : Int32) then ((lfX1_deepOf K k).2.2.2 v1 v2 v4 σ) else (dz_c (fnX1_props K v4 σ) fun x4 s5 => if ¬ (v4 < 0 ∨ 60 ≤ Int32.toNatClampNeg v4) then (dz_l (mI s5 34 (Int32.toNatClampNeg v4) 0) fun s7 => (lfX1_deepOf K k).2.1 v1 v2 v4 x4 0 s7) else none)) : Option (Int32 × pM)) = some res := hf
      refine lv_iload hx hb dX1_deepOf_9 (lv_at hl 3 rfl) ?_
      refine lv_iload_n hx hb dX1_deepOf_11 rfl (lv_at hl 1 rfl) ?_
      refine lv_icmp_gt (tgt := 110) hx hb dX1_deepOf_12 (by decide) (fun c12 => ?_) (fun c12 => ?_)
      · have hf := dz_t c12 hf
        refine lv_aload_n hx hb dX1_deepOf_110 rfl (lv_at hl 0 rfl) ?_
        refine va_get (C := RX1) (T := TX1) (N := 35) (fs := mwF ad σ) (v := .ref (ad 34)) hx hb hts in_X1 hown hK hP 0 rfl hci 34 (by decide) (hts _ q1705) (fun _ hq => hq) rfl dX1_deepOf_111 ?_
        refine lv_iload_n hx hb dX1_deepOf_114 rfl (lv_at hl 1 rfl) ?_
        obtain ⟨g1, hf⟩ := dz_go hf
        refine va_iald hx hb hK hP 24 0 rfl rfl g1 dX1_deepOf_115 ?_
        refine lv_topi (fun x2 e_x2 => ?_)
        have hf := dz_ls e_x2 hf
        exact W.iret (v := x2) hx hb hr (fun t ht hW => ⟨⟨x2, σ, rfl, Option.some.inj hf, by rw [ht]; exact hP, va_K.moved hW.alike hK, hD⟩, hS.F ht⟩) hS.2.2 dX1_deepOf_116
      · have hf := dz_f c12 hf
        refine lv_lload_n hx hb dX1_deepOf_15 rfl (lv_at hl 2 rfl) ?_
        refine lv_iload hx hb dX1_deepOf_16 (lv_at hl 3 rfl) ?_
        obtain ⟨x3, hx3, hf⟩ := dz_bo hf
        refine va_calli (va_runS (As := [.long v2, .int v4]) (rest := []) ⟨hx, hb, hml, hown, hts⟩ (mtX1_has l v2 v4 K x3 hx3) (va_cwS 2 hts (lw_S q2059 q2060 q88 q2061) rfl rfl rfl (by decide +kernel) ⟨Nat.le_of_ble_eq_true rfl, Nat.le_of_ble_eq_true rfl⟩) ⟨fun a U g mk q => q, fun U hU hW => ⟨rfl, trivial⟩⟩ rfl rfl hl.1 rfl (lv_room (Nat.le_of_ble_eq_true rfl)) dX1_deepOf_18 ⟨Nat.le_refl _, Nat.le_refl _⟩) hS (fun q _ hq => hq.elim) (fun q hq => hq.elim) (fun r u t H1 locs ht hvm hw hB hz hk hS => ?_)
        replace hw := hw.symm; subst hw
        replace hP := dz_keep hP hk
        clear hB hk hz hvm ht; generalize H1 = H at hP hS ⊢
        refine lv_if_ne (tgt := 27) hx hb dX1_deepOf_21 (by decide) (fun c21 => ?_) (fun c21 => ?_)
        · have hf := dz_f c21 hf
          refine lv_aload_n hx hb dX1_deepOf_27 rfl (lv_at hl 0 rfl) ?_
          refine lv_iload hx hb dX1_deepOf_28 (lv_at hl 3 rfl) ?_
          obtain ⟨x4, s5, hx4, hf⟩ := dz_co hf
          have hFc := dz_free hD hS hA
          refine va_calll (va_runV (As := [.int v4]) (rest := []) ⟨hx, hb, hml, hown, hts⟩ (mtX1_props l D cl ci hci h ad cA H.size σ v4 K (x4, s5) hx4) (cwV 1 hts (lw_V q2062 q2064 qs79 q88 q2065) rfl rfl rfl (by decide +kernel) ⟨Nat.le_of_ble_eq_true rfl, Nat.le_of_ble_eq_true rfl⟩) (m_preV hci hK hP hD) rfl rfl hl.1 rfl (lv_room (Nat.le_of_ble_eq_true rfl)) dX1_deepOf_30 ⟨Nat.le_refl _, Nat.le_refl _⟩) hS (fun q _ hq => hFc q hq) hFc (fun r u t H1 locs ht hvm hw hB hz hk hS => ?_)
          obtain ⟨hw1, hw2⟩ := Prod.mk.inj hw.symm; subst hw1; subst hw2
          replace hP := m_back ht hB
          replace hD := mw_D s5 hD
          clear hB hk hz hvm ht hFc; generalize H1 = H at hP hS ⊢
          refine lv_lstore (lv' := [(5, .long x4), (0, .ref h), (1, .int v1), (2, .long v2), (4, .int v4)]) hx hb dX1_deepOf_33 hl (by decide) rfl (fun ls hl => ?_)
          refine lv_aload_n hx hb dX1_deepOf_35 rfl (lv_at hl 1 rfl) ?_
          refine va_get (C := RX1) (T := TX1) (N := 35) (fs := mwF ad s5) (v := .ref (ad 34)) hx hb hts in_X1 hown hK hP 0 rfl hci 34 (by decide) (hts _ q1705) (fun _ hq => hq) rfl dX1_deepOf_36 ?_
          refine lv_iload hx hb dX1_deepOf_39 (lv_at hl 4 rfl) ?_
          refine lv_iconst (v := 0) hx hb dX1_deepOf_41 (by decide) ?_
          obtain ⟨g6, hf⟩ := dz_go hf
          refine va_iast hx hb hK hP hD hS 24 0 rfl rfl g6 dX1_deepOf_42 (fun H locs hP1 _ hS => ?_)
          obtain ⟨s7, e_s7, hf⟩ := dz_lo hf
          have hP : va_P D cl (mw ci h ad cA s7) H := by rw [e_s7]; exact hP1
          clear hP1; replace hD := mw_D s7 hD
          refine lv_iconst (v := 0) hx hb dX1_deepOf_43 (by decide) ?_
          refine lv_istore (lv' := [(7, .int 0), (5, .long x4), (0, .ref h), (1, .int v1), (2, .long v2), (4, .int v4)]) hx hb dX1_deepOf_44 hl (by decide) rfl (fun ls hl => ?_)
          exact ih.2.1 v1 v2 v4 x4 0 s7 H locs hP hD hS ls (lv_sub hl [2, 3, 4, 5, 1, 0] rfl) hf
        · have hf := dz_t c21 hf
          refine lv_goto (tgt := 104) hx hb dX1_deepOf_24 (by decide) ?_
          exact ih.2.2.2 v1 v2 v4 σ H locs hP hD hS ls (lv_sub hl [0, 1, 2, 3] rfl) hf
    · intro v1 v2 v4 v5 v7 σ H locs hP hD hS ls hl hf
      have hf : (if v4 ≤ v7 then ((lfX1_deepOf K k).2.2.2 v1 v2 v4 σ) else (dz_b (fnX1_has K v5 v7) fun x1 => if x1 = (0 : Int32) then ((lfX1_deepOf K k).2.2.1 v1 v2 v4 v5 v7 σ) else (if ¬ (v7 < 0 ∨ 60 ≤ Int32.toNatClampNeg v7) then (dz_l (σ.2.2.1 34 (Int32.toNatClampNeg v7)) fun x3 => if ¬ (v4 < 0 ∨ 60 ≤ Int32.toNatClampNeg v4) then (dz_l (σ.2.2.1 34 (Int32.toNatClampNeg v4)) fun x5 => if (x3 + 1) ≤ x5 then ((lfX1_deepOf K k).2.2.1 v1 v2 v4 v5 v7 σ) else (if ¬ (v7 < 0 ∨ 60 ≤ Int32.toNatClampNeg v7) then (dz_l (σ.2.2.1 34 (Int32.toNatClampNeg v7)) fun x7 => dz_l (x7 + 1) fun x8 => if ¬ (v4 < 0 ∨ 60 ≤ Int32.toNatClampNeg v4) then (dz_l (mI σ 34 (Int32.toNatClampNeg v4) x8) fun s10 => (lfX1_deepOf K k).2.2.1 v1 v2 v4 v5 v7 s10) else none) else none)) else none) else none)) : Option (Int32 × pM)) = some res := hf
      refine lv_iload hx hb dX1_deepOf_46 (lv_at hl 5 rfl) ?_
      refine lv_iload hx hb dX1_deepOf_48 (lv_at hl 3 rfl) ?_
      refine lv_icmp_ge (tgt := 104) hx hb dX1_deepOf_50 (by decide) (fun c50 => ?_) (fun c50 => ?_)
      · have hf := dz_t c50 hf
        exact ih.2.2.2 v1 v2 v4 σ H locs hP hD hS ls (lv_sub hl [0, 1, 2, 3] rfl) hf
      · have hf := dz_f c50 hf
        refine lv_lload hx hb dX1_deepOf_53 (lv_at hl 4 rfl) ?_
        refine lv_iload hx hb dX1_deepOf_55 (lv_at hl 5 rfl) ?_
        obtain ⟨x1, hx1, hf⟩ := dz_bo hf
        refine va_calli (va_runS (As := [.long v5, .int v7]) (rest := []) ⟨hx, hb, hml, hown, hts⟩ (mtX1_has l v5 v7 K x1 hx1) (va_cwS 2 hts (lw_S q2059 q2060 q88 q2061) rfl rfl rfl (by decide +kernel) ⟨Nat.le_of_ble_eq_true rfl, Nat.le_of_ble_eq_true rfl⟩) ⟨fun a U g mk q => q, fun U hU hW => ⟨rfl, trivial⟩⟩ rfl rfl hl.1 rfl (lv_room (Nat.le_of_ble_eq_true rfl)) dX1_deepOf_57 ⟨Nat.le_refl _, Nat.le_refl _⟩) hS (fun q _ hq => hq.elim) (fun q hq => hq.elim) (fun r u t H1 locs ht hvm hw hB hz hk hS => ?_)
        replace hw := hw.symm; subst hw
        replace hP := dz_keep hP hk
        clear hB hk hz hvm ht; generalize H1 = H at hP hS ⊢
        refine lv_if_eq (tgt := 98) hx hb dX1_deepOf_60 (by decide) (fun c60 => ?_) (fun c60 => ?_)
        · have hf := dz_t c60 hf
          exact ih.2.2.1 v1 v2 v4 v5 v7 σ H locs hP hD hS ls (lv_sub hl [0, 1, 2, 3, 4, 5] rfl) hf
        · have hf := dz_f c60 hf
          refine lv_aload_n hx hb dX1_deepOf_63 rfl (lv_at hl 0 rfl) ?_
          refine va_get (C := RX1) (T := TX1) (N := 35) (fs := mwF ad σ) (v := .ref (ad 34)) hx hb hts in_X1 hown hK hP 0 rfl hci 34 (by decide) (hts _ q1705) (fun _ hq => hq) rfl dX1_deepOf_64 ?_
          refine lv_iload hx hb dX1_deepOf_67 (lv_at hl 5 rfl) ?_
          obtain ⟨g2, hf⟩ := dz_go hf
          refine va_iald hx hb hK hP 24 0 rfl rfl g2 dX1_deepOf_69 ?_
          refine lv_topi (fun x3 e_x3 => ?_)
          have hf := dz_ls e_x3 hf
          refine lv_iconst (v := 1) hx hb dX1_deepOf_70 (by decide) ?_
          refine lv_iadd hx hb dX1_deepOf_71 ?_
          refine lv_aload_n hx hb dX1_deepOf_72 rfl (lv_at hl 0 rfl) ?_
          refine va_get (C := RX1) (T := TX1) (N := 35) (fs := mwF ad σ) (v := .ref (ad 34)) hx hb hts in_X1 hown hK hP 0 rfl hci 34 (by decide) (hts _ q1705) (fun _ hq => hq) rfl dX1_deepOf_73 ?_
          refine lv_iload hx hb dX1_deepOf_76 (lv_at hl 3 rfl) ?_
          obtain ⟨g4, hf⟩ := dz_go hf
          refine va_iald hx hb hK hP 24 0 rfl rfl g4 dX1_deepOf_78 ?_
          refine lv_topi (fun x5 e_x5 => ?_)
          have hf := dz_ls e_x5 hf
          refine lv_icmp_le (tgt := 98) hx hb dX1_deepOf_79 (by decide) (fun c79 => ?_) (fun c79 => ?_)
          · have hf := dz_t c79 hf
            exact ih.2.2.1 v1 v2 v4 v5 v7 σ H locs hP hD hS ls (lv_sub hl [0, 1, 2, 3, 4, 5] rfl) hf
          · have hf := dz_f c79 hf
            refine lv_aload_n hx hb dX1_deepOf_82 rfl (lv_at hl 0 rfl) ?_
            refine va_get (C := RX1) (T := TX1) (N := 35) (fs := mwF ad σ) (v := .ref (ad 34)) hx hb hts in_X1 hown hK hP 0 rfl hci 34 (by decide) (hts _ q1705) (fun _ hq => hq) rfl dX1_deepOf_83 ?_
            refine lv_iload hx hb dX1_deepOf_86 (lv_at hl 3 rfl) ?_
            refine lv_aload_n hx hb dX1_deepOf_88 rfl (lv_at hl 0 rfl) ?_
            refine va_get (C := RX1) (T := TX1) (N := 35) (fs := mwF ad σ) (v := .ref (ad 34)) hx hb hts in_X1 hown hK hP 0 rfl hci 34 (by decide) (hts _ q1705) (fun _ hq => hq) rfl dX1_deepOf_89 ?_
            refine lv_iload hx hb dX1_deepOf_92 (lv_at hl 5 rfl) ?_
            obtain ⟨g6, hf⟩ := dz_go hf
            refine va_iald hx hb hK hP 24 0 rfl rfl g6 dX1_deepOf_94 ?_
            refine lv_topi (fun x7 e_x7 => ?_)
            have hf := dz_ls e_x7 hf
            refine lv_iconst (v := 1) hx hb dX1_deepOf_95 (by decide) ?_
            refine lv_iadd hx hb dX1_deepOf_96 ?_
            refine lv_topi (fun x8 e_x8 => ?_)
            have hf := dz_ls e_x8 hf
            obtain ⟨g9, hf⟩ := dz_go hf
            refine va_iast hx hb hK hP hD hS 24 0 rfl rfl g9 dX1_deepOf_97 (fun H locs hP1 _ hS => ?_)
            obtain ⟨s10, e_s10, hf⟩ := dz_lo hf
            have hP : va_P D cl (mw ci h ad cA s10) H := by rw [e_s10]; exact hP1
            clear hP1; replace hD := mw_D s10 hD
            exact ih.2.2.1 v1 v2 v4 v5 v7 s10 H locs hP hD hS ls (lv_sub hl [0, 1, 2, 3, 4, 5] rfl) hf
    · intro v1 v2 v4 v5 v7 σ H locs hP hD hS ls hl hf
      have hf : (dz_l (v7 + 1) fun x1 => (lfX1_deepOf K k).2.1 v1 v2 v4 v5 x1 σ : Option (Int32 × pM)) = some res := hf
      obtain ⟨x1, e_x1, hf⟩ := dz_lo hf
      refine lv_iinc (v := x1) (lv' := [(7, .int x1), (0, .ref h), (1, .int v1), (2, .long v2), (4, .int v4), (5, .long v5)]) hx hb dX1_deepOf_98 hl (k := 5) rfl (by rw [e_x1]; rfl) (by decide) rfl (fun ls hl => ?_)
      refine lv_goto (tgt := 46) hx hb dX1_deepOf_101 (by decide) ?_
      exact ih.2.1 v1 v2 v4 v5 x1 σ H locs hP hD hS ls (lv_sub hl [1, 2, 3, 4, 5, 0] rfl) hf
    · intro v1 v2 v4 σ H locs hP hD hS ls hl hf
      have hf : (dz_l (v4 + 1) fun x1 => (lfX1_deepOf K k).1 v1 v2 x1 σ : Option (Int32 × pM)) = some res := hf
      obtain ⟨x1, e_x1, hf⟩ := dz_lo hf
      refine lv_iinc (v := x1) (lv' := [(4, .int x1), (0, .ref h), (1, .int v1), (2, .long v2)]) hx hb dX1_deepOf_104 hl (k := 3) rfl (by rw [e_x1]; rfl) (by decide) rfl (fun ls hl => ?_)
      refine lv_goto (tgt := 9) hx hb dX1_deepOf_107 (by decide) ?_
      exact ih.1 v1 v2 x1 σ H locs hP hD hS ls (lv_sub hl [1, 2, 3, 0] rfl) hf
set_option maxHeartbeats 4000000 in
set_option maxRecDepth 100000 in
theorem mtX1_deepOf (l : Launch) (D : va_G) (cl : List vw_C) (ci : Nat) (hci : cl[ci]? = some (RX1, TX1, 35)) (h : Nat) (ad : Nat → Nat) (cA : Nat → ClassId) (sz : Nat) (σ : pM) (a0 : Int32) (K : Nat) (res : (Int32 × pM)) (hf : fnX1_deepOf K a0 σ = some res) : Met l yX1_deepOf (ws_ yX1_deepOf cX1_deepOf 8 (some .int)) ({ frames := 3, cells := 0, slots := 0, locals := 71 }) (mPc D cl ci h ad cA sz σ [.ref h, .int a0]) (mQi D cl ci h ad cA (va_A (mw ci h ad cA σ) sz) res) 0 0 (va_A (mw ci h ad cA σ) sz) := by
  refine Met.ofW (cc := cX1_deepOf) (maxL := 8) (ret := some .int) (by decide +kernel) rfl ?_
  intro p e s m args below meth c s₁ B hml hv
  obtain ⟨rfl, hsz, hP, hK, hD0⟩ := hv
  have hx := B.exec
  have hb := B.bytes
  have hr := B.returns
  have hts := atoms_spec (ws := ws_ yX1_deepOf cX1_deepOf 8 (some .int)) B.pre
  have hts : ∀ w ∈ lw_all, w.before _ s = true := fun w h => hts w (List.mem_cons_of_mem _ h)
  have hown : s.vm.findClass RX1 = some m.cls := findClass_of_methodNamed B.named
  have hlocks := B.notSynchronized
  subst hsz
  have hD := hD0.self (sz := s.heap.size)
  generalize hAe : va_A (mw ci h ad cA σ) s.heap.size = A at hD ⊢
  have hA : ∀ q : Nat, s.heap.size ≤ q → A q := fun q h => by rw [← hAe]; exact Or.inr h
  clear hAe hD0
  have hS : va_S A s.heap s.heap [] := va_S.rf
  generalize hHe : s.heap = H at hP hS ⊢
  have hS : va_S A s.heap H [] := by rw [hHe]; exact hS
  generalize ([] : List Loc) = locs at hS ⊢
  have hl := lv_entry ([.ref h, .int a0]) (n := 8) (Nat.le_of_ble_eq_true rfl)
  rw [lg_entry_eq]
  generalize (lg_sl ([.ref h, .int a0]) ++ List.replicate (8 - (lg_sl ([.ref h, .int a0])).length) Slot.unset).toArray = ls at hl ⊢
  have hl : lv_has ls 8 [(0, .ref h), (1, .int a0)] := hl
  have hf : (dz_c (fnX1_restsOf K a0 σ) fun x1 s2 => (lfX1_deepOf K K).1 a0 x1 0 s2 : Option (Int32 × pM)) = some res := hf
  have ih := wlX1_deepOf (l := l) (e := e) (below := below) (h := h) (ad := ad) (cA := cA) hci hA hK K res a0 hx hb hr hlocks hml hown hts K
  refine lv_aload_n hx hb dX1_deepOf_0 rfl (lv_at hl 0 rfl) ?_
  refine lv_iload_n hx hb dX1_deepOf_1 rfl (lv_at hl 1 rfl) ?_
  obtain ⟨x1, s2, hx1, hf⟩ := dz_co hf
  have hFc := dz_free hD hS hA
  refine va_calll (va_runV (As := [.int a0]) (rest := []) ⟨hx, hb, hml, hown, hts⟩ (mtX1_restsOf l D cl ci hci h ad cA H.size σ a0 K (x1, s2) hx1) (cwV 1 hts (lw_V q2055 q2057 qs78 q88 q2058) rfl rfl rfl (by decide +kernel) ⟨Nat.le_of_ble_eq_true rfl, Nat.le_of_ble_eq_true rfl⟩) (m_preV hci hK hP hD) rfl rfl hl.1 rfl (lv_room (Nat.le_of_ble_eq_true rfl)) dX1_deepOf_2 ⟨Nat.le_refl _, Nat.le_refl _⟩) hS (fun q _ hq => hFc q hq) hFc (fun r u t H1 locs ht hvm hw hB hz hk hS => ?_)
  obtain ⟨hw1, hw2⟩ := Prod.mk.inj hw.symm; subst hw1; subst hw2
  replace hP := m_back ht hB
  replace hD := mw_D s2 hD
  clear hB hk hz hvm ht hFc; generalize H1 = H at hP hS ⊢
  refine lv_lstore_n (lv' := [(2, .long x1), (0, .ref h), (1, .int a0)]) hx hb dX1_deepOf_5 rfl hl (by decide) rfl (fun ls hl => ?_)
  refine lv_iconst (v := 0) hx hb dX1_deepOf_6 (by decide) ?_
  refine lv_istore (lv' := [(4, .int 0), (2, .long x1), (0, .ref h), (1, .int a0)]) hx hb dX1_deepOf_7 hl (by decide) rfl (fun ls hl => ?_)
  exact ih.1 a0 x1 0 s2 H locs hP hD hS ls (lv_sub hl [2, 3, 1, 0] rfl) hf

noncomputable def fnX1_deep (K : Nat) (a0 : Int32) (σ : pM) : Option (Int32 × pM) := dz_c (fnX1_isLine K a0 σ) fun x1 s2 => if x1 = (0 : Int32) then (some ((-1), s2)) else (dz_c (fnX1_isRightLine K a0 s2) fun x3 s4 => if x3 = (0 : Int32) then (some ((-2), s4)) else (dz_c (fnX1_deepOf K a0 s4) fun x5 s6 => some (x5, s6)))
set_option maxHeartbeats 4000000 in
set_option maxRecDepth 100000 in
theorem mtX1_deep (l : Launch) (D : va_G) (cl : List vw_C) (ci : Nat) (hci : cl[ci]? = some (RX1, TX1, 35)) (h : Nat) (ad : Nat → Nat) (cA : Nat → ClassId) (sz : Nat) (σ : pM) (a0 : Int32) (K : Nat) (res : (Int32 × pM)) (hf : fnX1_deep K a0 σ = some res) : Met l yX1_deep (ws_ yX1_deep cX1_deep 2 (some .int)) ({ frames := 6, cells := 0, slots := 0, locals := 151 }) (mPc D cl ci h ad cA sz σ [.ref h, .int a0]) (mQi D cl ci h ad cA (va_A (mw ci h ad cA σ) sz) res) 0 0 (va_A (mw ci h ad cA σ) sz) := by
  refine Met.ofW (cc := cX1_deep) (maxL := 2) (ret := some .int) (by decide +kernel) rfl ?_
  intro p e s m args below meth c s₁ B hml hv
  obtain ⟨rfl, hsz, hP, hK, hD0⟩ := hv
  have hx := B.exec
  have hb := B.bytes
  have hr := B.returns
  have hts := atoms_spec (ws := ws_ yX1_deep cX1_deep 2 (some .int)) B.pre
  have hts : ∀ w ∈ lw_all, w.before _ s = true := fun w h => hts w (List.mem_cons_of_mem _ h)
  have hown : s.vm.findClass RX1 = some m.cls := findClass_of_methodNamed B.named
  have hlocks := B.notSynchronized
  subst hsz
  have hD := hD0.self (sz := s.heap.size)
  generalize hAe : va_A (mw ci h ad cA σ) s.heap.size = A at hD ⊢
  have hA : ∀ q : Nat, s.heap.size ≤ q → A q := fun q h => by rw [← hAe]; exact Or.inr h
  clear hAe hD0
  have hS : va_S A s.heap s.heap [] := va_S.rf
  generalize hHe : s.heap = H at hP hS ⊢
  have hS : va_S A s.heap H [] := by rw [hHe]; exact hS
  generalize ([] : List Loc) = locs at hS ⊢
  have hl := lv_entry ([.ref h, .int a0]) (n := 2) (Nat.le_of_ble_eq_true rfl)
  rw [lg_entry_eq]
  generalize (lg_sl ([.ref h, .int a0]) ++ List.replicate (2 - (lg_sl ([.ref h, .int a0])).length) Slot.unset).toArray = ls at hl ⊢
  have hl : lv_has ls 2 [(0, .ref h), (1, .int a0)] := hl
  have hf : (dz_c (fnX1_isLine K a0 σ) fun x1 s2 => if x1 = (0 : Int32) then (some ((-1), s2)) else (dz_c (fnX1_isRightLine K a0 s2) fun x3 s4 => if x3 = (0 : Int32) then (some ((-2), s4)) else (dz_c (fnX1_deepOf K a0 s4) fun x5 s6 => some (x5, s6))) : Option (Int32 × pM)) = some res := hf
  refine lv_aload_n hx hb dX1_deep_0 rfl (lv_at hl 0 rfl) ?_
  refine lv_iload_n hx hb dX1_deep_1 rfl (lv_at hl 1 rfl) ?_
  obtain ⟨x1, s2, hx1, hf⟩ := dz_co hf
  have hFc := dz_free hD hS hA
  refine va_calli (va_runV (As := [.int a0]) (rest := []) ⟨hx, hb, hml, hown, hts⟩ (mtX1_isLine l D cl ci hci h ad cA H.size σ a0 K (x1, s2) hx1) (cwV 1 hts (lw_V q1923 q1925 qs60 q88 q1926) rfl rfl rfl (by decide +kernel) ⟨Nat.le_of_ble_eq_true rfl, Nat.le_of_ble_eq_true rfl⟩) (m_preV hci hK hP hD) rfl rfl hl.1 rfl (lv_room (Nat.le_of_ble_eq_true rfl)) dX1_deep_2 ⟨Nat.le_refl _, Nat.le_refl _⟩) hS (fun q _ hq => hFc q hq) hFc (fun r u t H1 locs ht hvm hw hB hz hk hS => ?_)
  obtain ⟨hw1, hw2⟩ := Prod.mk.inj hw.symm; subst hw1; subst hw2
  replace hP := m_back ht hB
  replace hD := mw_D s2 hD
  clear hB hk hz hvm ht hFc; generalize H1 = H at hP hS ⊢
  refine lv_if_ne (tgt := 10) hx hb dX1_deep_5 (by decide) (fun c5 => ?_) (fun c5 => ?_)
  · have hf := dz_f c5 hf
    refine lv_aload_n hx hb dX1_deep_10 rfl (lv_at hl 0 rfl) ?_
    refine lv_iload_n hx hb dX1_deep_11 rfl (lv_at hl 1 rfl) ?_
    obtain ⟨x3, s4, hx3, hf⟩ := dz_co hf
    have hFc := dz_free hD hS hA
    refine va_calli (va_runV (As := [.int a0]) (rest := []) ⟨hx, hb, hml, hown, hts⟩ (mtX1_isRightLine l D cl ci hci h ad cA H.size s2 a0 K (x3, s4) hx3) (cwV 1 hts (lw_V q2047 q2049 qs77 q88 q2050) rfl rfl rfl (by decide +kernel) ⟨Nat.le_of_ble_eq_true rfl, Nat.le_of_ble_eq_true rfl⟩) (m_preV hci hK hP hD) rfl rfl hl.1 rfl (lv_room (Nat.le_of_ble_eq_true rfl)) dX1_deep_12 ⟨Nat.le_refl _, Nat.le_refl _⟩) hS (fun q _ hq => hFc q hq) hFc (fun r u t H1 locs ht hvm hw hB hz hk hS => ?_)
    obtain ⟨hw1, hw2⟩ := Prod.mk.inj hw.symm; subst hw1; subst hw2
    replace hP := m_back ht hB
    replace hD := mw_D s4 hD
    clear hB hk hz hvm ht hFc; generalize H1 = H at hP hS ⊢
    refine lv_if_eq (tgt := 26) hx hb dX1_deep_15 (by decide) (fun c15 => ?_) (fun c15 => ?_)
    · have hf := dz_t c15 hf
      refine lv_bipush (v := (-2)) hx hb dX1_deep_26 (by decide) ?_
      exact W.iret (v := (-2)) hx hb hr (fun t ht hW => ⟨⟨(-2), s4, rfl, Option.some.inj hf, by rw [ht]; exact hP, va_K.moved hW.alike hK, hD⟩, hS.F ht⟩) hS.2.2 dX1_deep_28
    · have hf := dz_f c15 hf
      refine lv_aload_n hx hb dX1_deep_18 rfl (lv_at hl 0 rfl) ?_
      refine lv_iload_n hx hb dX1_deep_19 rfl (lv_at hl 1 rfl) ?_
      obtain ⟨x5, s6, hx5, hf⟩ := dz_co hf
      have hFc := dz_free hD hS hA
      refine va_calli (va_runV (As := [.int a0]) (rest := []) ⟨hx, hb, hml, hown, hts⟩ (mtX1_deepOf l D cl ci hci h ad cA H.size s4 a0 K (x5, s6) hx5) (cwV 1 hts (lw_V q2096 q2098 qs80 q88 q2099) rfl rfl rfl (by decide +kernel) ⟨Nat.le_of_ble_eq_true rfl, Nat.le_of_ble_eq_true rfl⟩) (m_preV hci hK hP hD) rfl rfl hl.1 rfl (lv_room (Nat.le_of_ble_eq_true rfl)) dX1_deep_20 ⟨Nat.le_refl _, Nat.le_refl _⟩) hS (fun q _ hq => hFc q hq) hFc (fun r u t H1 locs ht hvm hw hB hz hk hS => ?_)
      obtain ⟨hw1, hw2⟩ := Prod.mk.inj hw.symm; subst hw1; subst hw2
      replace hP := m_back ht hB
      replace hD := mw_D s6 hD
      clear hB hk hz hvm ht hFc; generalize H1 = H at hP hS ⊢
      refine lv_goto (tgt := 28) hx hb dX1_deep_23 (by decide) ?_
      exact W.iret (v := x5) hx hb hr (fun t ht hW => ⟨⟨x5, s6, rfl, Option.some.inj hf, by rw [ht]; exact hP, va_K.moved hW.alike hK, hD⟩, hS.F ht⟩) hS.2.2 dX1_deep_28
  · have hf := dz_t c5 hf
    refine lv_iconst (v := (-1)) hx hb dX1_deep_8 (by decide) ?_
    exact W.iret (v := (-1)) hx hb hr (fun t ht hW => ⟨⟨(-1), s2, rfl, Option.some.inj hf, by rw [ht]; exact hP, va_K.moved hW.alike hK, hD⟩, hS.F ht⟩) hS.2.2 dX1_deep_9

noncomputable def lfX1_falls (K : Nat) : Nat → (Int64 → Int32 → pM → Option (Int64 × pM)) × (Int64 → Int32 → pM → Option (Int64 × pM)) := Nat.rec (motive := fun _ => (Int64 → Int32 → pM → Option (Int64 × pM)) × (Int64 → Int32 → pM → Option (Int64 × pM))) ((fun _ _ _ => none), (fun _ _ _ => none)) (fun _ G => ((fun v2 v4 σ => dz_l (σ.1 7) fun x1 => if x1 ≤ v4 then (some (v2, σ)) else (if ¬ (v4 < 0 ∨ 60 ≤ Int32.toNatClampNeg v4) then (dz_l (σ.2.2.1 19 (Int32.toNatClampNeg v4)) fun x3 => if x3 = (0 : Int32) then (G.2 v2 v4 σ) else (if ¬ (v4 < 0 ∨ 116 ≤ Int32.toNatClampNeg v4) then (dz_l (σ.2.2.1 12 (Int32.toNatClampNeg v4)) fun x5 => dz_c (fnX1_hasAll_14 K (9 * v4) x5 v4 σ) fun x6 s7 => if x6 = (0 : Int32) then (if ¬ (v4 < 0 ∨ 60 ≤ Int32.toNatClampNeg v4) then (dz_l (mI s7 19 (Int32.toNatClampNeg v4) (vp_nar .boolean 0)) fun s9 => if ¬ (v4 < 0 ∨ 60 ≤ Int32.toNatClampNeg v4) then (dz_l (s9.2.2.1 19 (Int32.toNatClampNeg v4)) fun x11 => if x11 = (0 : Int32) then (dz_l (v2 ||| (1 <<< (Int32.toInt64 v4 &&& 63))) fun x12 => G.2 x12 v4 s9) else (G.2 v2 v4 s9)) else none) else none) else (if ¬ (v4 < 0 ∨ 116 ≤ Int32.toNatClampNeg v4) then (dz_l (s7.2.2.1 13 (Int32.toNatClampNeg v4)) fun x14 => dz_c (fnX1_hasAll_17 K (9 * v4) x14 v4 s7) fun x15 s16 => if x15 = (0 : Int32) then (if ¬ (v4 < 0 ∨ 60 ≤ Int32.toNatClampNeg v4) then (dz_l (mI s16 19 (Int32.toNatClampNeg v4) (vp_nar .boolean 0)) fun s18 => if ¬ (v4 < 0 ∨ 60 ≤ Int32.toNatClampNeg v4) then (dz_l (s18.2.2.1 19 (Int32.toNatClampNeg v4)) fun x20 => if x20 = (0 : Int32) then (dz_l (v2 ||| (1 <<< (Int32.toInt64 v4 &&& 63))) fun x21 => G.2 x21 v4 s18) else (G.2 v2 v4 s18)) else none) else none) else (if ¬ (v4 < 0 ∨ 60 ≤ Int32.toNatClampNeg v4) then (dz_l (mI s16 19 (Int32.toNatClampNeg v4) (vp_nar .boolean 1)) fun s23 => if ¬ (v4 < 0 ∨ 60 ≤ Int32.toNatClampNeg v4) then (dz_l (s23.2.2.1 19 (Int32.toNatClampNeg v4)) fun x25 => if x25 = (0 : Int32) then (dz_l (v2 ||| (1 <<< (Int32.toInt64 v4 &&& 63))) fun x26 => G.2 x26 v4 s23) else (G.2 v2 v4 s23)) else none) else none)) else none)) else none)) else none)), (fun v2 v4 σ => dz_l (v4 + 1) fun x1 => G.1 v2 x1 σ)))
noncomputable def fnX1_falls (K : Nat) (a0 : Int32) (σ : pM) : Option (Int64 × pM) := dz_c (fnX1_isLine K a0 σ) fun x1 s2 => if x1 = (0 : Int32) then (some (-1, s2)) else (dz_c (fnX1_isRightLine K a0 s2) fun x3 s4 => if x3 = (0 : Int32) then (some (-2, s4)) else (dz_l (1 <<< (Int32.toInt64 a0 &&& 63)) fun x5 => if ¬ (a0 < 0 ∨ 60 ≤ Int32.toNatClampNeg a0) then (dz_l (mI s4 19 (Int32.toNatClampNeg a0) (vp_nar .boolean 0)) fun s7 => dz_l (a0 + 1) fun x8 => (lfX1_falls K K).1 x5 x8 s7) else none))
set_option maxHeartbeats 4000000 in
set_option maxRecDepth 100000 in
theorem wlX1_falls {p : Program} {l : Launch} {e : Env} {s : State} {m : MethodId} {below : List Frame} {meth : Method} {c : Code} {D : va_G} {cl : List vw_C} {ci : Nat} (hci : cl[ci]? = some (RX1, TX1, 35)) {h : Nat} {ad : Nat → Nat} {cA : Nat → ClassId} {A : Nat → Prop} (hA : ∀ q : Nat, s.heap.size ≤ q → A q) (hK : va_K D cl (mtys cA) s) (K : Nat) (res : (Int64 × pM)) (a0 : Int32) (hx : p.tables.exec = Jvm.exec) (hb : c.code = cX1_falls) (hr : meth.sig.returnType = some .long) (hlocks : meth.locks = false) (hml : c.maxLocals = 5) (hown : s.vm.findClass RX1 = some m.cls) (hts : ∀ w ∈ lw_all, w.before ([.ref h, .int a0] : List Value).toArray s = true) : ∀ k : Nat, (∀ (v2 : Int64) (v4 : Int32) (σ : pM) (H : Heap) (locs : List Loc), va_P D cl (mw ci h ad cA σ) H → va_D A (mw ci h ad cA σ) → va_S A s.heap H locs → ∀ (ls : Array Slot), lv_has ls 5 [(0, .ref h), (2, .long v2), (4, .int v4)] → (lfX1_falls K k).1 v2 v4 σ = some res → W p l e (headSpec (ws_ yX1_falls cX1_falls 5 (some .long)) ({ frames := 6, cells := 0, slots := 0, locals := 151 })).room s m ([.ref h, .int a0] : List Value).toArray below meth c H locs 0 0 (MQ below (mQl D cl ci h ad cA A res) ([.ref h, .int a0] : List Value).toArray s 0 0 A) (F0 m 40 ls [])) ∧ (∀ (v2 : Int64) (v4 : Int32) (σ : pM) (H : Heap) (locs : List Loc), va_P D cl (mw ci h ad cA σ) H → va_D A (mw ci h ad cA σ) → va_S A s.heap H locs → ∀ (ls : Array Slot), lv_has ls 5 [(0, .ref h), (2, .long v2), (4, .int v4)] → (lfX1_falls K k).2 v2 v4 σ = some res → W p l e (headSpec (ws_ yX1_falls cX1_falls 5 (some .long)) ({ frames := 6, cells := 0, slots := 0, locals := 151 })).room s m ([.ref h, .int a0] : List Value).toArray below meth c H locs 0 0 (MQ below (mQl D cl ci h ad cA A res) ([.ref h, .int a0] : List Value).toArray s 0 0 A) (F0 m 141 ls [])) := by
  intro k
  induction k with
  | zero =>
    exact ⟨fun _ _ _ _ _ _ _ _ _ _ hf => (by cases hf), fun _ _ _ _ _ _ _ _ _ _ hf => (by cases hf)⟩
  | succ k ih =>
    refine ⟨?_, ?_⟩
    · intro v2 v4 σ H locs hP hD hS ls hl hf
      have hf : (dz_l (σ.1 7) fun x1 => if x1 ≤ v4 then (some (v2, σ)) else (if ¬ (v4 < 0 ∨ 60 ≤ Int32.toNatClampNeg v4) then (dz_l (σ.2.2.1 19 (Int32.toNatClampNeg v4)) fun x3 => if x3 = (0 : Int32) then ((lfX1_falls K k).2 v2 v4 σ) else (if ¬ (v4 < 0 ∨ 116 ≤ Int32.toNatClampNeg v4) then (dz_l (σ.2.2.1 12 (Int32.toNatClampNeg v4)) fun x5 => dz_c (fnX1_hasAll_14 K (9 * v4) x5 v4 σ) fun x6 s7 => if x6 = (0 : Int32) then (if ¬ (v4 < 0 ∨ 60 ≤ Int32.toNatClampNeg v4) then (dz_l (mI s7 19 (Int32.toNatClampNeg v4) (vp_nar .boolean 0)) fun s9 => if ¬ (v4 < 0 ∨ 60 ≤ Int32.toNatClampNeg v4) then (dz_l (s9.2.2.1 19 (Int32.toNatClampNeg v4)) fun x11 => if x11 = (0 : Int32) then (dz_l (v2 ||| (1 <<< (Int32.toInt64 v4 &&& 63))) fun x12 => (lfX1_falls K k).2 x12 v4 s9) else ((lfX1_falls K k).2 v2 v4 s9)) else none) else none) else (if ¬ (v4 < 0 ∨ 116 ≤ Int32.toNatClampNeg v4) then (dz_l (s7.2.2.1 13 (Int32.toNatClampNeg v4)) fun x14 => dz_c (fnX1_hasAll_17 K (9 * v4) x14 v4 s7) fun x15 s16 => if x15 = (0 : Int32) then (if ¬ (v4 < 0 ∨ 60 ≤ Int32.toNatClampNeg v4) then (dz_l (mI s16 19 (Int32.toNatClampNeg v4) (vp_nar .boolean 0)) fun s18 => if ¬ (v4 < 0 ∨ 60 ≤ Int32.toNatClampNeg v4) then (dz_l (s18.2.2.1 19 (Int32.toNatClampNeg v4)) fun x20 => if x20 = (0 : Int32) then (dz_l (v2 ||| (1 <<< (Int32.toInt64 v4 &&& 63))) fun x21 => (lfX1_falls K k).2 x21 v4 s18) else ((lfX1_falls K k).2 v2 v4 s18)) else none) else none) else (if ¬ (v4 < 0 ∨ 60 ≤ Int32.toNatClampNeg v4) then (dz_l (mI s16 19 (Int32.toNatClampNeg v4) (vp_nar .boolean 1)) fun s23 => if ¬ (v4 < 0 ∨ 60 ≤ Int32.toNatClampNeg v4) then (dz_l (s23.2.2.1 19 (Int32.toNatClampNeg v4)) fun x25 => if x25 = (0 : Int32) then (dz_l (v2 ||| (1 <<< (Int32.toInt64 v4 &&& 63))) fun x26 => (lfX1_falls K k).2 x26 v4 s23) else ((lfX1_falls K k).2 v2 v4 s23)) else none) else none)) else none)) else none)) else none) : Option (Int64 × pM)) = some res := hf
      refine lv_iload hx hb dX1_falls_40 (lv_at hl 2 rfl) ?_
      refine lv_aload_n hx hb dX1_falls_42 rfl (lv_at hl 0 rfl) ?_
      refine va_get (C := RX1) (T := TX1) (N := 35) (fs := mwF ad σ) (v := .int (σ.1 7)) hx hb hts in_X1 hown hK hP 0 rfl hci 7 (by decide) (hts _ q1678) (fun _ hq => hq) rfl dX1_falls_43 ?_
      refine lv_topi (fun x1 e_x1 => ?_)
      have hf := dz_ls e_x1 hf
      refine lv_icmp_ge (tgt := 147) hx hb dX1_falls_46 (by decide) (fun c46 => ?_) (fun c46 => ?_)
      · have hf := dz_t c46 hf
        refine lv_lload_n hx hb dX1_falls_147 rfl (lv_at hl 1 rfl) ?_
        exact W.lret (v := v2) hx hb hr (fun t ht hW => ⟨⟨v2, σ, rfl, Option.some.inj hf, by rw [ht]; exact hP, va_K.moved hW.alike hK, hD⟩, hS.F ht⟩) hS.2.2 dX1_falls_148
      · have hf := dz_f c46 hf
        refine lv_aload_n hx hb dX1_falls_49 rfl (lv_at hl 0 rfl) ?_
        refine va_get (C := RX1) (T := TX1) (N := 35) (fs := mwF ad σ) (v := .ref (ad 19)) hx hb hts in_X1 hown hK hP 0 rfl hci 19 (by decide) (hts _ q1690) (fun _ hq => hq) rfl dX1_falls_50 ?_
        refine lv_iload hx hb dX1_falls_53 (lv_at hl 2 rfl) ?_
        obtain ⟨g2, hf⟩ := dz_go hf
        refine va_zald hx hb hK hP 17 2 rfl rfl g2 dX1_falls_55 ?_
        refine lv_topi (fun x3 e_x3 => ?_)
        have hf := dz_ls e_x3 hf
        refine lv_if_ne (tgt := 62) hx hb dX1_falls_56 (by decide) (fun c56 => ?_) (fun c56 => ?_)
        · have hf := dz_f c56 hf
          refine lv_aload_n hx hb dX1_falls_62 rfl (lv_at hl 0 rfl) ?_
          refine va_get (C := RX1) (T := TX1) (N := 35) (fs := mwF ad σ) (v := .ref (ad 19)) hx hb hts in_X1 hown hK hP 0 rfl hci 19 (by decide) (hts _ q1690) (fun _ hq => hq) rfl dX1_falls_63 ?_
          refine lv_iload hx hb dX1_falls_66 (lv_at hl 2 rfl) ?_
          refine lv_aload_n hx hb dX1_falls_68 rfl (lv_at hl 0 rfl) ?_
          refine lv_aload_n hx hb dX1_falls_69 rfl (lv_at hl 0 rfl) ?_
          refine va_get (C := RX1) (T := TX1) (N := 35) (fs := mwF ad σ) (v := .ref (ad 14)) hx hb hts in_X1 hown hK hP 0 rfl hci 14 (by decide) (hts _ q1685) (fun _ hq => hq) rfl dX1_falls_70 ?_
          refine lv_bipush (v := 9) hx hb dX1_falls_73 (by decide) ?_
          refine lv_iload hx hb dX1_falls_75 (lv_at hl 2 rfl) ?_
          refine lv_imul hx hb dX1_falls_77 ?_
          refine lv_aload_n hx hb dX1_falls_78 rfl (lv_at hl 0 rfl) ?_
          refine va_get (C := RX1) (T := TX1) (N := 35) (fs := mwF ad σ) (v := .ref (ad 12)) hx hb hts in_X1 hown hK hP 0 rfl hci 12 (by decide) (hts _ q1683) (fun _ hq => hq) rfl dX1_falls_79 ?_
          refine lv_iload hx hb dX1_falls_82 (lv_at hl 2 rfl) ?_
          obtain ⟨g4, hf⟩ := dz_go hf
          refine va_iald hx hb hK hP 10 0 rfl rfl g4 dX1_falls_84 ?_
          refine lv_topi (fun x5 e_x5 => ?_)
          have hf := dz_ls e_x5 hf
          refine lv_iload hx hb dX1_falls_85 (lv_at hl 2 rfl) ?_
          obtain ⟨x6, s7, hx6, hf⟩ := dz_co hf
          have hFc := dz_free hD hS hA
          refine va_calli (va_runV (As := [.ref (ad 14), .int (9 * v4), .int x5, .int v4]) (rest := [.int v4, .ref (ad 19)]) ⟨hx, hb, hml, hown, hts⟩ (mtX1_hasAll_14 l D cl ci hci h ad cA H.size σ (9 * v4) x5 v4 K (x6, s7) hx6) (cwV 4 hts (lw_V q1805 q1807 qs38 q88 q1808) rfl rfl rfl (by decide +kernel) ⟨Nat.le_of_ble_eq_true rfl, Nat.le_of_ble_eq_true rfl⟩) (m_preV hci hK hP hD) rfl rfl hl.1 rfl (lv_room (Nat.le_of_ble_eq_true rfl)) dX1_falls_87 ⟨Nat.le_refl _, Nat.le_refl _⟩) hS (fun q _ hq => hFc q hq) hFc (fun r u t H1 locs ht hvm hw hB hz hk hS => ?_)
          obtain ⟨hw1, hw2⟩ := Prod.mk.inj hw.symm; subst hw1; subst hw2
          replace hP := m_back ht hB
          replace hD := mw_D s7 hD
          clear hB hk hz hvm ht hFc; generalize H1 = H at hP hS ⊢
          refine lv_if_eq (tgt := 122) hx hb dX1_falls_90 (by decide) (fun c90 => ?_) (fun c90 => ?_)
          · have hf := dz_t c90 hf
            refine lv_iconst (v := 0) hx hb dX1_falls_122 (by decide) ?_
            obtain ⟨g8, hf⟩ := dz_go hf
            refine va_zast hx hb hK hP hD hS 17 2 rfl rfl g8 dX1_falls_123 (fun H locs hP1 _ hS => ?_)
            obtain ⟨s9, e_s9, hf⟩ := dz_lo hf
            have hP : va_P D cl (mw ci h ad cA s9) H := by rw [e_s9]; exact hP1
            clear hP1; replace hD := mw_D s9 hD
            refine lv_aload_n hx hb dX1_falls_124 rfl (lv_at hl 0 rfl) ?_
            refine va_get (C := RX1) (T := TX1) (N := 35) (fs := mwF ad s9) (v := .ref (ad 19)) hx hb hts in_X1 hown hK hP 0 rfl hci 19 (by decide) (hts _ q1690) (fun _ hq => hq) rfl dX1_falls_125 ?_
            refine lv_iload hx hb dX1_falls_128 (lv_at hl 2 rfl) ?_
            obtain ⟨g10, hf⟩ := dz_go hf
            refine va_zald hx hb hK hP 17 2 rfl rfl g10 dX1_falls_130 ?_
            refine lv_topi (fun x11 e_x11 => ?_)
            have hf := dz_ls e_x11 hf
            refine lv_if_ne (tgt := 141) hx hb dX1_falls_131 (by decide) (fun c131 => ?_) (fun c131 => ?_)
            · have hf := dz_f c131 hf
              exact ih.2 v2 v4 s9 H locs hP hD hS ls (lv_sub hl [0, 1, 2] rfl) hf
            · have hf := dz_t c131 hf
              refine lv_lload_n hx hb dX1_falls_134 rfl (lv_at hl 1 rfl) ?_
              refine lv_lconst (v := 1) hx hb dX1_falls_135 rfl ?_
              refine lv_iload hx hb dX1_falls_136 (lv_at hl 2 rfl) ?_
              refine lv_lshl hx hb dX1_falls_138 (rfl : _ = 1 <<< (Int32.toInt64 v4 &&& 63)) ?_
              refine lv_lor hx hb dX1_falls_139 ?_
              refine lv_topl (fun x12 e_x12 => ?_)
              have hf := dz_ls e_x12 hf
              refine lv_lstore_n (lv' := [(2, .long x12), (0, .ref h), (4, .int v4)]) hx hb dX1_falls_140 rfl hl (by decide) rfl (fun ls hl => ?_)
              exact ih.2 x12 v4 s9 H locs hP hD hS ls (lv_sub hl [1, 0, 2] rfl) hf
          · have hf := dz_f c90 hf
            refine lv_aload_n hx hb dX1_falls_93 rfl (lv_at hl 0 rfl) ?_
            refine lv_aload_n hx hb dX1_falls_94 rfl (lv_at hl 0 rfl) ?_
            refine va_get (C := RX1) (T := TX1) (N := 35) (fs := mwF ad s7) (v := .ref (ad 17)) hx hb hts in_X1 hown hK hP 0 rfl hci 17 (by decide) (hts _ q1688) (fun _ hq => hq) rfl dX1_falls_95 ?_
            refine lv_bipush (v := 9) hx hb dX1_falls_98 (by decide) ?_
            refine lv_iload hx hb dX1_falls_100 (lv_at hl 2 rfl) ?_
            refine lv_imul hx hb dX1_falls_102 ?_
            refine lv_aload_n hx hb dX1_falls_103 rfl (lv_at hl 0 rfl) ?_
            refine va_get (C := RX1) (T := TX1) (N := 35) (fs := mwF ad s7) (v := .ref (ad 13)) hx hb hts in_X1 hown hK hP 0 rfl hci 13 (by decide) (hts _ q1684) (fun _ hq => hq) rfl dX1_falls_104 ?_
            refine lv_iload hx hb dX1_falls_107 (lv_at hl 2 rfl) ?_
            obtain ⟨g13, hf⟩ := dz_go hf
            refine va_iald hx hb hK hP 11 0 rfl rfl g13 dX1_falls_109 ?_
            refine lv_topi (fun x14 e_x14 => ?_)
            have hf := dz_ls e_x14 hf
            refine lv_iload hx hb dX1_falls_110 (lv_at hl 2 rfl) ?_
            obtain ⟨x15, s16, hx15, hf⟩ := dz_co hf
            have hFc := dz_free hD hS hA
            refine va_calli (va_runV (As := [.ref (ad 17), .int (9 * v4), .int x14, .int v4]) (rest := [.int v4, .ref (ad 19)]) ⟨hx, hb, hml, hown, hts⟩ (mtX1_hasAll_17 l D cl ci hci h ad cA H.size s7 (9 * v4) x14 v4 K (x15, s16) hx15) (cwV 4 hts (lw_V q1805 q1807 qs38 q88 q1808) rfl rfl rfl (by decide +kernel) ⟨Nat.le_of_ble_eq_true rfl, Nat.le_of_ble_eq_true rfl⟩) (m_preV hci hK hP hD) rfl rfl hl.1 rfl (lv_room (Nat.le_of_ble_eq_true rfl)) dX1_falls_112 ⟨Nat.le_refl _, Nat.le_refl _⟩) hS (fun q _ hq => hFc q hq) hFc (fun r u t H1 locs ht hvm hw hB hz hk hS => ?_)
            obtain ⟨hw1, hw2⟩ := Prod.mk.inj hw.symm; subst hw1; subst hw2
            replace hP := m_back ht hB
            replace hD := mw_D s16 hD
            clear hB hk hz hvm ht hFc; generalize H1 = H at hP hS ⊢
            refine lv_if_eq (tgt := 122) hx hb dX1_falls_115 (by decide) (fun c115 => ?_) (fun c115 => ?_)
            · have hf := dz_t c115 hf
              refine lv_iconst (v := 0) hx hb dX1_falls_122 (by decide) ?_
              obtain ⟨g17, hf⟩ := dz_go hf
              refine va_zast hx hb hK hP hD hS 17 2 rfl rfl g17 dX1_falls_123 (fun H locs hP1 _ hS => ?_)
              obtain ⟨s18, e_s18, hf⟩ := dz_lo hf
              have hP : va_P D cl (mw ci h ad cA s18) H := by rw [e_s18]; exact hP1
              clear hP1; replace hD := mw_D s18 hD
              refine lv_aload_n hx hb dX1_falls_124 rfl (lv_at hl 0 rfl) ?_
              refine va_get (C := RX1) (T := TX1) (N := 35) (fs := mwF ad s18) (v := .ref (ad 19)) hx hb hts in_X1 hown hK hP 0 rfl hci 19 (by decide) (hts _ q1690) (fun _ hq => hq) rfl dX1_falls_125 ?_
              refine lv_iload hx hb dX1_falls_128 (lv_at hl 2 rfl) ?_
              obtain ⟨g19, hf⟩ := dz_go hf
              refine va_zald hx hb hK hP 17 2 rfl rfl g19 dX1_falls_130 ?_
              refine lv_topi (fun x20 e_x20 => ?_)
              have hf := dz_ls e_x20 hf
              refine lv_if_ne (tgt := 141) hx hb dX1_falls_131 (by decide) (fun c131 => ?_) (fun c131 => ?_)
              · have hf := dz_f c131 hf
                exact ih.2 v2 v4 s18 H locs hP hD hS ls (lv_sub hl [0, 1, 2] rfl) hf
              · have hf := dz_t c131 hf
                refine lv_lload_n hx hb dX1_falls_134 rfl (lv_at hl 1 rfl) ?_
                refine lv_lconst (v := 1) hx hb dX1_falls_135 rfl ?_
                refine lv_iload hx hb dX1_falls_136 (lv_at hl 2 rfl) ?_
                refine lv_lshl hx hb dX1_falls_138 (rfl : _ = 1 <<< (Int32.toInt64 v4 &&& 63)) ?_
                refine lv_lor hx hb dX1_falls_139 ?_
                refine lv_topl (fun x21 e_x21 => ?_)
                have hf := dz_ls e_x21 hf
                refine lv_lstore_n (lv' := [(2, .long x21), (0, .ref h), (4, .int v4)]) hx hb dX1_falls_140 rfl hl (by decide) rfl (fun ls hl => ?_)
                exact ih.2 x21 v4 s18 H locs hP hD hS ls (lv_sub hl [1, 0, 2] rfl) hf
            · have hf := dz_f c115 hf
              refine lv_iconst (v := 1) hx hb dX1_falls_118 (by decide) ?_
              refine lv_goto (tgt := 123) hx hb dX1_falls_119 (by decide) ?_
              obtain ⟨g22, hf⟩ := dz_go hf
              refine va_zast hx hb hK hP hD hS 17 2 rfl rfl g22 dX1_falls_123 (fun H locs hP1 _ hS => ?_)
              obtain ⟨s23, e_s23, hf⟩ := dz_lo hf
              have hP : va_P D cl (mw ci h ad cA s23) H := by rw [e_s23]; exact hP1
              clear hP1; replace hD := mw_D s23 hD
              refine lv_aload_n hx hb dX1_falls_124 rfl (lv_at hl 0 rfl) ?_
              refine va_get (C := RX1) (T := TX1) (N := 35) (fs := mwF ad s23) (v := .ref (ad 19)) hx hb hts in_X1 hown hK hP 0 rfl hci 19 (by decide) (hts _ q1690) (fun _ hq => hq) rfl dX1_falls_125 ?_
              refine lv_iload hx hb dX1_falls_128 (lv_at hl 2 rfl) ?_
              obtain ⟨g24, hf⟩ := dz_go hf
              refine va_zald hx hb hK hP 17 2 rfl rfl g24 dX1_falls_130 ?_
              refine lv_topi (fun x25 e_x25 => ?_)
              have hf := dz_ls e_x25 hf
              refine lv_if_ne (tgt := 141) hx hb dX1_falls_131 (by decide) (fun c131 => ?_) (fun c131 => ?_)
              · have hf := dz_f c131 hf
                exact ih.2 v2 v4 s23 H locs hP hD hS ls (lv_sub hl [0, 1, 2] rfl) hf
              · have hf := dz_t c131 hf
                refine lv_lload_n hx hb dX1_falls_134 rfl (lv_at hl 1 rfl) ?_
                refine lv_lconst (v := 1) hx hb dX1_falls_135 rfl ?_
                refine lv_iload hx hb dX1_falls_136 (lv_at hl 2 rfl) ?_
                refine lv_lshl hx hb dX1_falls_138 (rfl : _ = 1 <<< (Int32.toInt64 v4 &&& 63)) ?_
                refine lv_lor hx hb dX1_falls_139 ?_
                refine lv_topl (fun x26 e_x26 => ?_)
                have hf := dz_ls e_x26 hf
                refine lv_lstore_n (lv' := [(2, .long x26), (0, .ref h), (4, .int v4)]) hx hb dX1_falls_140 rfl hl (by decide) rfl (fun ls hl => ?_)
                exact ih.2 x26 v4 s23 H locs hP hD hS ls (lv_sub hl [1, 0, 2] rfl) hf
        · have hf := dz_t c56 hf
          refine lv_goto (tgt := 141) hx hb dX1_falls_59 (by decide) ?_
          exact ih.2 v2 v4 σ H locs hP hD hS ls (lv_sub hl [0, 1, 2] rfl) hf
    · intro v2 v4 σ H locs hP hD hS ls hl hf
      have hf : (dz_l (v4 + 1) fun x1 => (lfX1_falls K k).1 v2 x1 σ : Option (Int64 × pM)) = some res := hf
      obtain ⟨x1, e_x1, hf⟩ := dz_lo hf
      refine lv_iinc (v := x1) (lv' := [(4, .int x1), (0, .ref h), (2, .long v2)]) hx hb dX1_falls_141 hl (k := 2) rfl (by rw [e_x1]; rfl) (by decide) rfl (fun ls hl => ?_)
      refine lv_goto (tgt := 40) hx hb dX1_falls_144 (by decide) ?_
      exact ih.1 v2 x1 σ H locs hP hD hS ls (lv_sub hl [1, 2, 0] rfl) hf
set_option maxHeartbeats 4000000 in
set_option maxRecDepth 100000 in
theorem mtX1_falls (l : Launch) (D : va_G) (cl : List vw_C) (ci : Nat) (hci : cl[ci]? = some (RX1, TX1, 35)) (h : Nat) (ad : Nat → Nat) (cA : Nat → ClassId) (sz : Nat) (σ : pM) (a0 : Int32) (K : Nat) (res : (Int64 × pM)) (hf : fnX1_falls K a0 σ = some res) : Met l yX1_falls (ws_ yX1_falls cX1_falls 5 (some .long)) ({ frames := 6, cells := 0, slots := 0, locals := 151 }) (mPc D cl ci h ad cA sz σ [.ref h, .int a0]) (mQl D cl ci h ad cA (va_A (mw ci h ad cA σ) sz) res) 0 0 (va_A (mw ci h ad cA σ) sz) := by
  refine Met.ofW (cc := cX1_falls) (maxL := 5) (ret := some .long) (by decide +kernel) rfl ?_
  intro p e s m args below meth c s₁ B hml hv
  obtain ⟨rfl, hsz, hP, hK, hD0⟩ := hv
  have hx := B.exec
  have hb := B.bytes
  have hr := B.returns
  have hts := atoms_spec (ws := ws_ yX1_falls cX1_falls 5 (some .long)) B.pre
  have hts : ∀ w ∈ lw_all, w.before _ s = true := fun w h => hts w (List.mem_cons_of_mem _ h)
  have hown : s.vm.findClass RX1 = some m.cls := findClass_of_methodNamed B.named
  have hlocks := B.notSynchronized
  subst hsz
  have hD := hD0.self (sz := s.heap.size)
  generalize hAe : va_A (mw ci h ad cA σ) s.heap.size = A at hD ⊢
  have hA : ∀ q : Nat, s.heap.size ≤ q → A q := fun q h => by rw [← hAe]; exact Or.inr h
  clear hAe hD0
  have hS : va_S A s.heap s.heap [] := va_S.rf
  generalize hHe : s.heap = H at hP hS ⊢
  have hS : va_S A s.heap H [] := by rw [hHe]; exact hS
  generalize ([] : List Loc) = locs at hS ⊢
  have hl := lv_entry ([.ref h, .int a0]) (n := 5) (Nat.le_of_ble_eq_true rfl)
  rw [lg_entry_eq]
  generalize (lg_sl ([.ref h, .int a0]) ++ List.replicate (5 - (lg_sl ([.ref h, .int a0])).length) Slot.unset).toArray = ls at hl ⊢
  have hl : lv_has ls 5 [(0, .ref h), (1, .int a0)] := hl
  have hf : (dz_c (fnX1_isLine K a0 σ) fun x1 s2 => if x1 = (0 : Int32) then (some (-1, s2)) else (dz_c (fnX1_isRightLine K a0 s2) fun x3 s4 => if x3 = (0 : Int32) then (some (-2, s4)) else (dz_l (1 <<< (Int32.toInt64 a0 &&& 63)) fun x5 => if ¬ (a0 < 0 ∨ 60 ≤ Int32.toNatClampNeg a0) then (dz_l (mI s4 19 (Int32.toNatClampNeg a0) (vp_nar .boolean 0)) fun s7 => dz_l (a0 + 1) fun x8 => (lfX1_falls K K).1 x5 x8 s7) else none)) : Option (Int64 × pM)) = some res := hf
  have ih := wlX1_falls (l := l) (e := e) (below := below) (h := h) (ad := ad) (cA := cA) hci hA hK K res a0 hx hb hr hlocks hml hown hts K
  refine lv_aload_n hx hb dX1_falls_0 rfl (lv_at hl 0 rfl) ?_
  refine lv_iload_n hx hb dX1_falls_1 rfl (lv_at hl 1 rfl) ?_
  obtain ⟨x1, s2, hx1, hf⟩ := dz_co hf
  have hFc := dz_free hD hS hA
  refine va_calli (va_runV (As := [.int a0]) (rest := []) ⟨hx, hb, hml, hown, hts⟩ (mtX1_isLine l D cl ci hci h ad cA H.size σ a0 K (x1, s2) hx1) (cwV 1 hts (lw_V q1923 q1925 qs60 q88 q1926) rfl rfl rfl (by decide +kernel) ⟨Nat.le_of_ble_eq_true rfl, Nat.le_of_ble_eq_true rfl⟩) (m_preV hci hK hP hD) rfl rfl hl.1 rfl (lv_room (Nat.le_of_ble_eq_true rfl)) dX1_falls_2 ⟨Nat.le_refl _, Nat.le_refl _⟩) hS (fun q _ hq => hFc q hq) hFc (fun r u t H1 locs ht hvm hw hB hz hk hS => ?_)
  obtain ⟨hw1, hw2⟩ := Prod.mk.inj hw.symm; subst hw1; subst hw2
  replace hP := m_back ht hB
  replace hD := mw_D s2 hD
  clear hB hk hz hvm ht hFc; generalize H1 = H at hP hS ⊢
  refine lv_if_ne (tgt := 12) hx hb dX1_falls_5 (by decide) (fun c5 => ?_) (fun c5 => ?_)
  · have hf := dz_f c5 hf
    refine lv_aload_n hx hb dX1_falls_12 rfl (lv_at hl 0 rfl) ?_
    refine lv_iload_n hx hb dX1_falls_13 rfl (lv_at hl 1 rfl) ?_
    obtain ⟨x3, s4, hx3, hf⟩ := dz_co hf
    have hFc := dz_free hD hS hA
    refine va_calli (va_runV (As := [.int a0]) (rest := []) ⟨hx, hb, hml, hown, hts⟩ (mtX1_isRightLine l D cl ci hci h ad cA H.size s2 a0 K (x3, s4) hx3) (cwV 1 hts (lw_V q2047 q2049 qs77 q88 q2050) rfl rfl rfl (by decide +kernel) ⟨Nat.le_of_ble_eq_true rfl, Nat.le_of_ble_eq_true rfl⟩) (m_preV hci hK hP hD) rfl rfl hl.1 rfl (lv_room (Nat.le_of_ble_eq_true rfl)) dX1_falls_14 ⟨Nat.le_refl _, Nat.le_refl _⟩) hS (fun q _ hq => hFc q hq) hFc (fun r u t H1 locs ht hvm hw hB hz hk hS => ?_)
    obtain ⟨hw1, hw2⟩ := Prod.mk.inj hw.symm; subst hw1; subst hw2
    replace hP := m_back ht hB
    replace hD := mw_D s4 hD
    clear hB hk hz hvm ht hFc; generalize H1 = H at hP hS ⊢
    refine lv_if_ne (tgt := 24) hx hb dX1_falls_17 (by decide) (fun c17 => ?_) (fun c17 => ?_)
    · have hf := dz_f c17 hf
      refine lv_lconst (v := 1) hx hb dX1_falls_24 rfl ?_
      refine lv_iload_n hx hb dX1_falls_25 rfl (lv_at hl 1 rfl) ?_
      refine lv_lshl hx hb dX1_falls_26 (rfl : _ = 1 <<< (Int32.toInt64 a0 &&& 63)) ?_
      refine lv_topl (fun x5 e_x5 => ?_)
      have hf := dz_ls e_x5 hf
      refine lv_lstore_n (lv' := [(2, .long x5), (0, .ref h), (1, .int a0)]) hx hb dX1_falls_27 rfl hl (by decide) rfl (fun ls hl => ?_)
      refine lv_aload_n hx hb dX1_falls_28 rfl (lv_at hl 1 rfl) ?_
      refine va_get (C := RX1) (T := TX1) (N := 35) (fs := mwF ad s4) (v := .ref (ad 19)) hx hb hts in_X1 hown hK hP 0 rfl hci 19 (by decide) (hts _ q1690) (fun _ hq => hq) rfl dX1_falls_29 ?_
      refine lv_iload_n hx hb dX1_falls_32 rfl (lv_at hl 2 rfl) ?_
      refine lv_iconst (v := 0) hx hb dX1_falls_33 (by decide) ?_
      obtain ⟨g6, hf⟩ := dz_go hf
      refine va_zast hx hb hK hP hD hS 17 2 rfl rfl g6 dX1_falls_34 (fun H locs hP1 _ hS => ?_)
      obtain ⟨s7, e_s7, hf⟩ := dz_lo hf
      have hP : va_P D cl (mw ci h ad cA s7) H := by rw [e_s7]; exact hP1
      clear hP1; replace hD := mw_D s7 hD
      refine lv_iload_n hx hb dX1_falls_35 rfl (lv_at hl 2 rfl) ?_
      refine lv_iconst (v := 1) hx hb dX1_falls_36 (by decide) ?_
      refine lv_iadd hx hb dX1_falls_37 ?_
      refine lv_topi (fun x8 e_x8 => ?_)
      have hf := dz_ls e_x8 hf
      refine lv_istore (lv' := [(4, .int x8), (2, .long x5), (0, .ref h), (1, .int a0)]) hx hb dX1_falls_38 hl (by decide) rfl (fun ls hl => ?_)
      exact ih.1 x5 x8 s7 H locs hP hD hS ls (lv_sub hl [2, 1, 0] rfl) hf
    · have hf := dz_t c17 hf
      refine lv_ldc2 (v := -2) hx hb hown (hts _ q2091) dX1_falls_20 ?_
      exact W.lret (v := -2) hx hb hr (fun t ht hW => ⟨⟨-2, s4, rfl, Option.some.inj hf, by rw [ht]; exact hP, va_K.moved hW.alike hK, hD⟩, hS.F ht⟩) hS.2.2 dX1_falls_23
  · have hf := dz_t c5 hf
    refine lv_ldc2 (v := -1) hx hb hown (hts _ q2090) dX1_falls_8 ?_
    exact W.lret (v := -1) hx hb hr (fun t ht hW => ⟨⟨-1, s2, rfl, Option.some.inj hf, by rw [ht]; exact hP, va_K.moved hW.alike hK, hD⟩, hS.F ht⟩) hS.2.2 dX1_falls_11

