noncomputable def lfX1_isWord (K : Nat) : Nat → (Int32 → Int32 → pM → Option (Int32 × pM)) × (Int32 → Int32 → pM → Option (Int32 × pM)) := Nat.rec (motive := fun _ => (Int32 → Int32 → pM → Option (Int32 × pM)) × (Int32 → Int32 → pM → Option (Int32 × pM))) ((fun _ _ _ => none), (fun _ _ _ => none)) (fun _ G => ((fun v2 v3 σ => dz_l (σ.1 26) fun x1 => dz_l (σ.1 29) fun x2 => if x2 ≤ (x1 + v3) then (G.2 v2 v3 σ) else (dz_l (v2 + v3) fun x3 => if ¬ (x3 < 0 ∨ 49 ≤ Int32.toNatClampNeg x3) then (dz_l (σ.2.2.1 31 (Int32.toNatClampNeg x3)) fun x5 => dz_l (σ.1 26) fun x6 => dz_l (x6 + v3) fun x7 => if ¬ (x7 < 0 ∨ 400 ≤ Int32.toNatClampNeg x7) then (dz_l (σ.2.2.1 23 (Int32.toNatClampNeg x7)) fun x9 => if x5 = x9 then (dz_l (v3 + 1) fun x10 => G.1 v2 x10 σ) else (G.2 v2 v3 σ)) else none) else none)), (fun v2 v3 σ => dz_l (σ.1 26) fun x1 => dz_l (σ.1 29) fun x2 => if (x1 + v3) = x2 then (dz_l (v2 + v3) fun x3 => if ¬ (x3 < 0 ∨ 49 ≤ Int32.toNatClampNeg x3) then (dz_l (σ.2.2.1 31 (Int32.toNatClampNeg x3)) fun x5 => if x5 = (0 : Int32) then (some (1, σ)) else (some (0, σ))) else none) else (some (0, σ)))))
noncomputable def fnX1_isWord (K : Nat) (a0 : Int32) (σ : pM) : Option (Int32 × pM) := dz_c (fnX1_wordFrom K a0 σ) fun x1 s2 => (lfX1_isWord K K).1 x1 0 s2
set_option maxHeartbeats 4000000 in
set_option maxRecDepth 100000 in
theorem wlX1_isWord {p : Program} {l : Launch} {e : Env} {s : State} {m : MethodId} {below : List Frame} {meth : Method} {c : Code} {D : va_G} {cl : List vw_C} {ci : Nat} (hci : cl[ci]? = some (RX1, TX1, 35)) {h : Nat} {ad : Nat → Nat} {cA : Nat → ClassId} {A : Nat → Prop} (hA : ∀ q : Nat, s.heap.size ≤ q → A q) (hK : va_K D cl (mtys cA) s) (K : Nat) (res : (Int32 × pM)) (a0 : Int32) (hx : p.tables.exec = Jvm.exec) (hb : c.code = cX1_isWord) (hr : meth.sig.returnType = some .boolean) (hlocks : meth.locks = false) (hml : c.maxLocals = 4) (hown : s.vm.findClass RX1 = some m.cls) (hts : ∀ w ∈ lw_all, w.before ([.ref h, .int a0] : List Value).toArray s = true) : ∀ k : Nat, (∀ (v2 : Int32) (v3 : Int32) (σ : pM) (H : Heap) (locs : List Loc), va_P D cl (mw ci h ad cA σ) H → va_D A (mw ci h ad cA σ) → va_S A s.heap H locs → ∀ (ls : Array Slot), lv_has ls 4 [(0, .ref h), (2, .int v2), (3, .int v3)] → (lfX1_isWord K k).1 v2 v3 σ = some res → W p l e (headSpec (ws_ yX1_isWord cX1_isWord 4 (some .boolean)) ({ frames := 1, cells := 0, slots := 0, locals := 23 })).room s m ([.ref h, .int a0] : List Value).toArray below meth c H locs 0 0 (MQ below (mQi D cl ci h ad cA A res) ([.ref h, .int a0] : List Value).toArray s 0 0 A) (F0 m 8 ls [])) ∧ (∀ (v2 : Int32) (v3 : Int32) (σ : pM) (H : Heap) (locs : List Loc), va_P D cl (mw ci h ad cA σ) H → va_D A (mw ci h ad cA σ) → va_S A s.heap H locs → ∀ (ls : Array Slot), lv_has ls 4 [(0, .ref h), (2, .int v2), (3, .int v3)] → (lfX1_isWord K k).2 v2 v3 σ = some res → W p l e (headSpec (ws_ yX1_isWord cX1_isWord 4 (some .boolean)) ({ frames := 1, cells := 0, slots := 0, locals := 23 })).room s m ([.ref h, .int a0] : List Value).toArray below meth c H locs 0 0 (MQ below (mQi D cl ci h ad cA A res) ([.ref h, .int a0] : List Value).toArray s 0 0 A) (F0 m 49 ls [])) := by
  intro k
  induction k with
  | zero =>
    exact ⟨fun _ _ _ _ _ _ _ _ _ _ hf => (by cases hf), fun _ _ _ _ _ _ _ _ _ _ hf => (by cases hf)⟩
  | succ k ih =>
    refine ⟨?_, ?_⟩
    · intro v2 v3 σ H locs hP hD hS ls hl hf
      have hf : (dz_l (σ.1 26) fun x1 => dz_l (σ.1 29) fun x2 => if x2 ≤ (x1 + v3) then ((lfX1_isWord K k).2 v2 v3 σ) else (dz_l (v2 + v3) fun x3 => if ¬ (x3 < 0 ∨ 49 ≤ Int32.toNatClampNeg x3) then (dz_l (σ.2.2.1 31 (Int32.toNatClampNeg x3)) fun x5 => dz_l (σ.1 26) fun x6 => dz_l (x6 + v3) fun x7 => if ¬ (x7 < 0 ∨ 400 ≤ Int32.toNatClampNeg x7) then (dz_l (σ.2.2.1 23 (Int32.toNatClampNeg x7)) fun x9 => if x5 = x9 then (dz_l (v3 + 1) fun x10 => (lfX1_isWord K k).1 v2 x10 σ) else ((lfX1_isWord K k).2 v2 v3 σ)) else none) else none) : Option (Int32 × pM)) = some res := hf
      refine lv_aload_n hx hb dX1_isWord_8 rfl (lv_at hl 0 rfl) ?_
      refine va_get (C := RX1) (T := TX1) (N := 35) (fs := mwF ad σ) (v := .int (σ.1 26)) hx hb hts in_X1 hown hK hP 0 rfl hci 26 (by decide) (hts _ q1697) (fun _ hq => hq) rfl dX1_isWord_9 ?_
      refine lv_topi (fun x1 e_x1 => ?_)
      have hf := dz_ls e_x1 hf
      refine lv_iload_n hx hb dX1_isWord_12 rfl (lv_at hl 2 rfl) ?_
      refine lv_iadd hx hb dX1_isWord_13 ?_
      refine lv_aload_n hx hb dX1_isWord_14 rfl (lv_at hl 0 rfl) ?_
      refine va_get (C := RX1) (T := TX1) (N := 35) (fs := mwF ad σ) (v := .int (σ.1 29)) hx hb hts in_X1 hown hK hP 0 rfl hci 29 (by decide) (hts _ q1700) (fun _ hq => hq) rfl dX1_isWord_15 ?_
      refine lv_topi (fun x2 e_x2 => ?_)
      have hf := dz_ls e_x2 hf
      refine lv_icmp_ge (tgt := 49) hx hb dX1_isWord_18 (by decide) (fun c18 => ?_) (fun c18 => ?_)
      · have hf := dz_t c18 hf
        exact ih.2 v2 v3 σ H locs hP hD hS ls (lv_sub hl [0, 1, 2] rfl) hf
      · have hf := dz_f c18 hf
        refine lv_aload_n hx hb dX1_isWord_21 rfl (lv_at hl 0 rfl) ?_
        refine va_get (C := RX1) (T := TX1) (N := 35) (fs := mwF ad σ) (v := .ref (ad 31)) hx hb hts in_X1 hown hK hP 0 rfl hci 31 (by decide) (hts _ q1702) (fun _ hq => hq) rfl dX1_isWord_22 ?_
        refine lv_iload_n hx hb dX1_isWord_25 rfl (lv_at hl 1 rfl) ?_
        refine lv_iload_n hx hb dX1_isWord_26 rfl (lv_at hl 2 rfl) ?_
        refine lv_iadd hx hb dX1_isWord_27 ?_
        refine lv_topi (fun x3 e_x3 => ?_)
        have hf := dz_ls e_x3 hf
        obtain ⟨g4, hf⟩ := dz_go hf
        refine va_bald hx hb hK hP 22 3 rfl rfl g4 dX1_isWord_28 ?_
        refine lv_topi (fun x5 e_x5 => ?_)
        have hf := dz_ls e_x5 hf
        refine lv_aload_n hx hb dX1_isWord_29 rfl (lv_at hl 0 rfl) ?_
        refine va_get (C := RX1) (T := TX1) (N := 35) (fs := mwF ad σ) (v := .ref (ad 23)) hx hb hts in_X1 hown hK hP 0 rfl hci 23 (by decide) (hts _ q1694) (fun _ hq => hq) rfl dX1_isWord_30 ?_
        refine lv_aload_n hx hb dX1_isWord_33 rfl (lv_at hl 0 rfl) ?_
        refine va_get (C := RX1) (T := TX1) (N := 35) (fs := mwF ad σ) (v := .int (σ.1 26)) hx hb hts in_X1 hown hK hP 0 rfl hci 26 (by decide) (hts _ q1697) (fun _ hq => hq) rfl dX1_isWord_34 ?_
        refine lv_topi (fun x6 e_x6 => ?_)
        have hf := dz_ls e_x6 hf
        refine lv_iload_n hx hb dX1_isWord_37 rfl (lv_at hl 2 rfl) ?_
        refine lv_iadd hx hb dX1_isWord_38 ?_
        refine lv_topi (fun x7 e_x7 => ?_)
        have hf := dz_ls e_x7 hf
        obtain ⟨g8, hf⟩ := dz_go hf
        refine va_iald hx hb hK hP 21 0 rfl rfl g8 dX1_isWord_39 ?_
        refine lv_topi (fun x9 e_x9 => ?_)
        have hf := dz_ls e_x9 hf
        refine lv_icmp_ne (tgt := 49) hx hb dX1_isWord_40 (by decide) (fun c40 => ?_) (fun c40 => ?_)
        · have hf := dz_f c40 hf
          exact ih.2 v2 v3 σ H locs hP hD hS ls (lv_sub hl [0, 1, 2] rfl) hf
        · have hf := dz_t c40 hf
          obtain ⟨x10, e_x10, hf⟩ := dz_lo hf
          refine lv_iinc (v := x10) (lv' := [(3, .int x10), (0, .ref h), (2, .int v2)]) hx hb dX1_isWord_43 hl (k := 2) rfl (by rw [e_x10]; rfl) (by decide) rfl (fun ls hl => ?_)
          refine lv_goto (tgt := 8) hx hb dX1_isWord_46 (by decide) ?_
          exact ih.1 v2 x10 σ H locs hP hD hS ls (lv_sub hl [1, 2, 0] rfl) hf
    · intro v2 v3 σ H locs hP hD hS ls hl hf
      have hf : (dz_l (σ.1 26) fun x1 => dz_l (σ.1 29) fun x2 => if (x1 + v3) = x2 then (dz_l (v2 + v3) fun x3 => if ¬ (x3 < 0 ∨ 49 ≤ Int32.toNatClampNeg x3) then (dz_l (σ.2.2.1 31 (Int32.toNatClampNeg x3)) fun x5 => if x5 = (0 : Int32) then (some (1, σ)) else (some (0, σ))) else none) else (some (0, σ)) : Option (Int32 × pM)) = some res := hf
      refine lv_aload_n hx hb dX1_isWord_49 rfl (lv_at hl 0 rfl) ?_
      refine va_get (C := RX1) (T := TX1) (N := 35) (fs := mwF ad σ) (v := .int (σ.1 26)) hx hb hts in_X1 hown hK hP 0 rfl hci 26 (by decide) (hts _ q1697) (fun _ hq => hq) rfl dX1_isWord_50 ?_
      refine lv_topi (fun x1 e_x1 => ?_)
      have hf := dz_ls e_x1 hf
      refine lv_iload_n hx hb dX1_isWord_53 rfl (lv_at hl 2 rfl) ?_
      refine lv_iadd hx hb dX1_isWord_54 ?_
      refine lv_aload_n hx hb dX1_isWord_55 rfl (lv_at hl 0 rfl) ?_
      refine va_get (C := RX1) (T := TX1) (N := 35) (fs := mwF ad σ) (v := .int (σ.1 29)) hx hb hts in_X1 hown hK hP 0 rfl hci 29 (by decide) (hts _ q1700) (fun _ hq => hq) rfl dX1_isWord_56 ?_
      refine lv_topi (fun x2 e_x2 => ?_)
      have hf := dz_ls e_x2 hf
      refine lv_icmp_ne (tgt := 77) hx hb dX1_isWord_59 (by decide) (fun c59 => ?_) (fun c59 => ?_)
      · have hf := dz_f c59 hf
        refine lv_iconst (v := 0) hx hb dX1_isWord_77 (by decide) ?_
        exact W.zret (v := 0) hx hb hr rfl (fun t ht hW => ⟨⟨0, σ, rfl, Option.some.inj hf, by rw [ht]; exact hP, va_K.moved hW.alike hK, hD⟩, hS.F ht⟩) hS.2.2 dX1_isWord_78
      · have hf := dz_t c59 hf
        refine lv_aload_n hx hb dX1_isWord_62 rfl (lv_at hl 0 rfl) ?_
        refine va_get (C := RX1) (T := TX1) (N := 35) (fs := mwF ad σ) (v := .ref (ad 31)) hx hb hts in_X1 hown hK hP 0 rfl hci 31 (by decide) (hts _ q1702) (fun _ hq => hq) rfl dX1_isWord_63 ?_
        refine lv_iload_n hx hb dX1_isWord_66 rfl (lv_at hl 1 rfl) ?_
        refine lv_iload_n hx hb dX1_isWord_67 rfl (lv_at hl 2 rfl) ?_
        refine lv_iadd hx hb dX1_isWord_68 ?_
        refine lv_topi (fun x3 e_x3 => ?_)
        have hf := dz_ls e_x3 hf
        obtain ⟨g4, hf⟩ := dz_go hf
        refine va_bald hx hb hK hP 22 3 rfl rfl g4 dX1_isWord_69 ?_
        refine lv_topi (fun x5 e_x5 => ?_)
        have hf := dz_ls e_x5 hf
        refine lv_if_ne (tgt := 77) hx hb dX1_isWord_70 (by decide) (fun c70 => ?_) (fun c70 => ?_)
        · have hf := dz_f c70 hf
          refine lv_iconst (v := 0) hx hb dX1_isWord_77 (by decide) ?_
          exact W.zret (v := 0) hx hb hr rfl (fun t ht hW => ⟨⟨0, σ, rfl, Option.some.inj hf, by rw [ht]; exact hP, va_K.moved hW.alike hK, hD⟩, hS.F ht⟩) hS.2.2 dX1_isWord_78
        · have hf := dz_t c70 hf
          refine lv_iconst (v := 1) hx hb dX1_isWord_73 (by decide) ?_
          refine lv_goto (tgt := 78) hx hb dX1_isWord_74 (by decide) ?_
          exact W.zret (v := 1) hx hb hr rfl (fun t ht hW => ⟨⟨1, σ, rfl, Option.some.inj hf, by rw [ht]; exact hP, va_K.moved hW.alike hK, hD⟩, hS.F ht⟩) hS.2.2 dX1_isWord_78
set_option maxHeartbeats 4000000 in
set_option maxRecDepth 100000 in
theorem mtX1_isWord (l : Launch) (D : va_G) (cl : List vw_C) (ci : Nat) (hci : cl[ci]? = some (RX1, TX1, 35)) (h : Nat) (ad : Nat → Nat) (cA : Nat → ClassId) (sz : Nat) (σ : pM) (a0 : Int32) (K : Nat) (res : (Int32 × pM)) (hf : fnX1_isWord K a0 σ = some res) : Met l yX1_isWord (ws_ yX1_isWord cX1_isWord 4 (some .boolean)) ({ frames := 1, cells := 0, slots := 0, locals := 23 }) (mPc D cl ci h ad cA sz σ [.ref h, .int a0]) (mQi D cl ci h ad cA (va_A (mw ci h ad cA σ) sz) res) 0 0 (va_A (mw ci h ad cA σ) sz) := by
  refine Met.ofW (cc := cX1_isWord) (maxL := 4) (ret := some .boolean) (by decide +kernel) rfl ?_
  intro p e s m args below meth c s₁ B hml hv
  obtain ⟨rfl, hsz, hP, hK, hD0⟩ := hv
  have hx := B.exec
  have hb := B.bytes
  have hr := B.returns
  have hts := atoms_spec (ws := ws_ yX1_isWord cX1_isWord 4 (some .boolean)) B.pre
  have hts : ∀ w ∈ lw_all, w.before _ s = true := fun w h => hts w (List.mem_cons_of_mem _ h)
  have hown : s.vm.findClass RX1 = some m.cls := findClass_of_methodNamed B.named
  have hlocks := B.notSynchronized
  subst hsz
  have hD := hD0.self (sz := s.heap.size)
  generalize hAe : va_A (mw ci h ad cA σ) s.heap.size = A at hD ⊢
  have hA : ∀ q : Nat, s.heap.size ≤ q → A q := fun q h => by rw [← hAe]; exact Or.inr h
  clear hAe hD0
  have hS : va_S A s.heap s.heap [] := va_S.rf
  generalize hHe : s.heap = H at hP hS ⊢
  have hS : va_S A s.heap H [] := by rw [hHe]; exact hS
  generalize ([] : List Loc) = locs at hS ⊢
  have hl := lv_entry ([.ref h, .int a0]) (n := 4) (Nat.le_of_ble_eq_true rfl)
  rw [lg_entry_eq]
  generalize (lg_sl ([.ref h, .int a0]) ++ List.replicate (4 - (lg_sl ([.ref h, .int a0])).length) Slot.unset).toArray = ls at hl ⊢
  have hl : lv_has ls 4 [(0, .ref h), (1, .int a0)] := hl
  have hf : (dz_c (fnX1_wordFrom K a0 σ) fun x1 s2 => (lfX1_isWord K K).1 x1 0 s2 : Option (Int32 × pM)) = some res := hf
  have ih := wlX1_isWord (l := l) (e := e) (below := below) (h := h) (ad := ad) (cA := cA) hci hA hK K res a0 hx hb hr hlocks hml hown hts K
  refine lv_aload_n hx hb dX1_isWord_0 rfl (lv_at hl 0 rfl) ?_
  refine lv_iload_n hx hb dX1_isWord_1 rfl (lv_at hl 1 rfl) ?_
  obtain ⟨x1, s2, hx1, hf⟩ := dz_co hf
  have hFc := dz_free hD hS hA
  refine va_calli (va_runV (As := [.int a0]) (rest := []) ⟨hx, hb, hml, hown, hts⟩ (mtX1_wordFrom l D cl ci hci h ad cA H.size σ a0 K (x1, s2) hx1) (cwV 1 hts (lw_V q1962 q1964 qs64 q88 q1965) rfl rfl rfl (by decide +kernel) ⟨Nat.le_of_ble_eq_true rfl, Nat.le_of_ble_eq_true rfl⟩) (m_preV hci hK hP hD) rfl rfl hl.1 rfl (lv_room (Nat.le_of_ble_eq_true rfl)) dX1_isWord_2 ⟨Nat.le_refl _, Nat.le_refl _⟩) hS (fun q _ hq => hFc q hq) hFc (fun r u t H1 locs ht hvm hw hB hz hk hS => ?_)
  obtain ⟨hw1, hw2⟩ := Prod.mk.inj hw.symm; subst hw1; subst hw2
  replace hP := m_back ht hB
  replace hD := mw_D s2 hD
  clear hB hk hz hvm ht hFc; generalize H1 = H at hP hS ⊢
  refine lv_istore_n (lv' := [(2, .int x1), (0, .ref h), (1, .int a0)]) hx hb dX1_isWord_5 rfl hl (by decide) rfl (fun ls hl => ?_)
  refine lv_iconst (v := 0) hx hb dX1_isWord_6 (by decide) ?_
  refine lv_istore_n (lv' := [(3, .int 0), (2, .int x1), (0, .ref h), (1, .int a0)]) hx hb dX1_isWord_7 rfl hl (by decide) rfl (fun ls hl => ?_)
  exact ih.1 x1 0 s2 H locs hP hD hS ls (lv_sub hl [2, 1, 0] rfl) hf

noncomputable def lfX1_goesOn (K : Nat) : Nat → (pM → Option pM) × (Int32 → Int32 → pM → Option pM) × (Int32 → Int32 → pM → Option pM) × (pM → Option pM) × (Int32 → pM → Option pM) × (Int32 → pM → Option pM) × (Int32 → pM → Option pM) × (Int32 → pM → Option pM) × (Int32 → pM → Option pM) := Nat.rec (motive := fun _ => (pM → Option pM) × (Int32 → Int32 → pM → Option pM) × (Int32 → Int32 → pM → Option pM) × (pM → Option pM) × (Int32 → pM → Option pM) × (Int32 → pM → Option pM) × (Int32 → pM → Option pM) × (Int32 → pM → Option pM) × (Int32 → pM → Option pM)) ((fun _ => none), (fun _ _ _ => none), (fun _ _ _ => none), (fun _ => none), (fun _ _ => none), (fun _ _ => none), (fun _ _ => none), (fun _ _ => none), (fun _ _ => none)) (fun _ G => ((fun σ => dz_l (σ.1 29) fun x1 => G.2.1 1 x1 σ), (fun v1 v2 σ => dz_l (σ.1 29) fun x1 => dz_l (σ.1 24) fun x2 => if x2 ≤ x1 then (G.2.2.1 v1 v2 σ) else (dz_l (σ.1 29) fun x3 => if ¬ (x3 < 0 ∨ 400 ≤ Int32.toNatClampNeg x3) then (dz_l (σ.2.2.1 23 (Int32.toNatClampNeg x3)) fun x5 => if x5 = (32 : Int32) then (dz_l (σ.1 29) fun x6 => dz_l (x6 + 1) fun x7 => dz_l (mF σ 29 x7) fun s8 => G.2.1 v1 v2 s8) else (G.2.2.1 v1 v2 σ)) else none)), (fun v1 v2 σ => dz_l (σ.1 29) fun x1 => dz_l (mF σ 26 x1) fun s2 => if v1 = (0 : Int32) then (G.2.2.2.1 s2) else (dz_l (s2.1 26) fun x3 => if x3 = v2 then (dz_l (mF s2 27 10) fun s4 => dz_l (s4.1 26) fun x5 => dz_l (s4.1 24) fun x6 => if x5 = x6 then (dz_l (mF s4 25 0) fun s25 => some s25) else (dz_l (s4.1 26) fun x7 => dz_c (fnX1_isLetter K x7 s4) fun x8 s9 => if x8 = (0 : Int32) then (dz_l (s9.1 26) fun x10 => dz_c (fnX1_isDigit K x10 s9) fun x11 s12 => if x11 = (0 : Int32) then (dz_l (s12.1 26) fun x13 => if ¬ (x13 < 0 ∨ 400 ≤ Int32.toNatClampNeg x13) then (dz_l (s12.2.2.1 23 (Int32.toNatClampNeg x13)) fun x15 => if x15 = (59 : Int32) then (dz_l (mF s12 25 3) fun s20 => dz_l (s20.1 29) fun x21 => dz_l (x21 + 1) fun x22 => dz_l (mF s20 29 x22) fun s23 => some s23) else (dz_l (mF s12 25 4) fun s16 => dz_l (s16.1 29) fun x17 => dz_l (x17 + 1) fun x18 => dz_l (mF s16 29 x18) fun s19 => some s19)) else none) else (dz_l (mG s12 0) fun s24 => G.2.2.2.2.2.2.2.1 1 s24)) else (G.2.2.2.2.1 1 s9))) else (G.2.2.2.1 s2))), (fun σ => dz_l (mF σ 27 10) fun s1 => dz_l (s1.1 26) fun x2 => dz_l (s1.1 24) fun x3 => if x2 = x3 then (dz_l (mF s1 25 0) fun s22 => some s22) else (dz_l (s1.1 26) fun x4 => dz_c (fnX1_isLetter K x4 s1) fun x5 s6 => if x5 = (0 : Int32) then (dz_l (s6.1 26) fun x7 => dz_c (fnX1_isDigit K x7 s6) fun x8 s9 => if x8 = (0 : Int32) then (dz_l (s9.1 26) fun x10 => if ¬ (x10 < 0 ∨ 400 ≤ Int32.toNatClampNeg x10) then (dz_l (s9.2.2.1 23 (Int32.toNatClampNeg x10)) fun x12 => if x12 = (59 : Int32) then (dz_l (mF s9 25 3) fun s17 => dz_l (s17.1 29) fun x18 => dz_l (x18 + 1) fun x19 => dz_l (mF s17 29 x19) fun s20 => some s20) else (dz_l (mF s9 25 4) fun s13 => dz_l (s13.1 29) fun x14 => dz_l (x14 + 1) fun x15 => dz_l (mF s13 29 x15) fun s16 => some s16)) else none) else (dz_l (mG s9 0) fun s21 => G.2.2.2.2.2.2.2.1 0 s21)) else (G.2.2.2.2.1 0 s6))), (fun v1 σ => dz_l (σ.1 29) fun x1 => dz_c (fnX1_isLetter K x1 σ) fun x2 s3 => if x2 = (0 : Int32) then (if v1 = (0 : Int32) then (dz_l (mF s3 25 1) fun s4 => G.2.2.2.2.2.1 0 s4) else (dz_l (mF s3 25 4) fun s5 => G.2.2.2.2.2.1 0 s5)) else (dz_l (s3.1 29) fun x6 => dz_l (x6 + 1) fun x7 => dz_l (mF s3 29 x7) fun s8 => G.2.2.2.2.1 v1 s8)), (fun v3 σ => if (10 : Int32) ≤ v3 then (some σ) else (dz_c (fnX1_isWord K v3 σ) fun x1 s2 => if x1 = (0 : Int32) then (G.2.2.2.2.2.2.1 v3 s2) else (dz_l (mF s2 27 v3) fun s3 => G.2.2.2.2.2.2.1 v3 s3))), (fun v3 σ => dz_l (v3 + 1) fun x1 => G.2.2.2.2.2.1 x1 σ), (fun v1 σ => dz_l (σ.1 29) fun x1 => dz_c (fnX1_isDigit K x1 σ) fun x2 s3 => if x2 = (0 : Int32) then (if v1 = (0 : Int32) then (dz_l (s3.1 29) fun x5 => dz_l (s3.1 26) fun x6 => if (x5 - x6) ≤ (10 : Int32) then (dz_l (mF s3 25 2) fun s7 => some s7) else (dz_l (mF s3 25 4) fun s8 => some s8)) else (dz_l (mF s3 25 4) fun s4 => some s4)) else (dz_l (s3.1 29) fun x9 => dz_l (s3.1 26) fun x10 => if (10 : Int32) ≤ (x9 - x10) then (G.2.2.2.2.2.2.2.2 v1 s3) else (dz_l (s3.2.1) fun x11 => dz_l (s3.1 29) fun x12 => if ¬ (x12 < 0 ∨ 400 ≤ Int32.toNatClampNeg x12) then (dz_l (s3.2.2.1 23 (Int32.toNatClampNeg x12)) fun x14 => dz_l (((10 * x11) + (Int32.toInt64 x14)) - 48) fun x15 => dz_l (mG s3 x15) fun s16 => G.2.2.2.2.2.2.2.2 v1 s16) else none))), (fun v1 σ => dz_l (σ.1 29) fun x1 => dz_l (x1 + 1) fun x2 => dz_l (mF σ 29 x2) fun s3 => G.2.2.2.2.2.2.2.1 v1 s3)))
noncomputable def fnX1_goesOn (K : Nat)  (σ : pM) : Option pM := dz_l (σ.1 25) fun x1 => if x1 = (1 : Int32) then ((lfX1_goesOn K K).1 σ) else (dz_l (σ.1 25) fun x2 => if x2 = (2 : Int32) then ((lfX1_goesOn K K).1 σ) else (dz_l (σ.1 29) fun x3 => (lfX1_goesOn K K).2.1 0 x3 σ))
set_option maxHeartbeats 4000000 in
set_option maxRecDepth 100000 in
theorem wlX1_goesOn {p : Program} {l : Launch} {e : Env} {s : State} {m : MethodId} {below : List Frame} {meth : Method} {c : Code} {D : va_G} {cl : List vw_C} {ci : Nat} (hci : cl[ci]? = some (RX1, TX1, 35)) {h : Nat} {ad : Nat → Nat} {cA : Nat → ClassId} {A : Nat → Prop} (hA : ∀ q : Nat, s.heap.size ≤ q → A q) (hK : va_K D cl (mtys cA) s) (K : Nat) (res : pM)  (hx : p.tables.exec = Jvm.exec) (hb : c.code = cX1_goesOn) (hr : meth.sig.returnType = none) (hlocks : meth.locks = false) (hml : c.maxLocals = 4) (hown : s.vm.findClass RX1 = some m.cls) (hts : ∀ w ∈ lw_all, w.before ([.ref h] : List Value).toArray s = true) : ∀ k : Nat, (∀  (σ : pM) (H : Heap) (locs : List Loc), va_P D cl (mw ci h ad cA σ) H → va_D A (mw ci h ad cA σ) → va_S A s.heap H locs → ∀ (ls : Array Slot), lv_has ls 4 [(0, .ref h)] → (lfX1_goesOn K k).1 σ = some res → W p l e (headSpec (ws_ yX1_goesOn cX1_goesOn 4 (none)) ({ frames := 2, cells := 0, slots := 0, locals := 46 })).room s m ([.ref h] : List Value).toArray below meth c H locs 0 0 (MQ below (mQv D cl ci h ad cA A res) ([.ref h] : List Value).toArray s 0 0 A) (F0 m 16 ls [])) ∧ (∀ (v1 : Int32) (v2 : Int32) (σ : pM) (H : Heap) (locs : List Loc), va_P D cl (mw ci h ad cA σ) H → va_D A (mw ci h ad cA σ) → va_S A s.heap H locs → ∀ (ls : Array Slot), lv_has ls 4 [(0, .ref h), (1, .int v1), (2, .int v2)] → (lfX1_goesOn K k).2.1 v1 v2 σ = some res → W p l e (headSpec (ws_ yX1_goesOn cX1_goesOn 4 (none)) ({ frames := 2, cells := 0, slots := 0, locals := 46 })).room s m ([.ref h] : List Value).toArray below meth c H locs 0 0 (MQ below (mQv D cl ci h ad cA A res) ([.ref h] : List Value).toArray s 0 0 A) (F0 m 27 ls [])) ∧ (∀ (v1 : Int32) (v2 : Int32) (σ : pM) (H : Heap) (locs : List Loc), va_P D cl (mw ci h ad cA σ) H → va_D A (mw ci h ad cA σ) → va_S A s.heap H locs → ∀ (ls : Array Slot), lv_has ls 4 [(0, .ref h), (1, .int v1), (2, .int v2)] → (lfX1_goesOn K k).2.2.1 v1 v2 σ = some res → W p l e (headSpec (ws_ yX1_goesOn cX1_goesOn 4 (none)) ({ frames := 2, cells := 0, slots := 0, locals := 46 })).room s m ([.ref h] : List Value).toArray below meth c H locs 0 0 (MQ below (mQv D cl ci h ad cA A res) ([.ref h] : List Value).toArray s 0 0 A) (F0 m 65 ls [])) ∧ (∀  (σ : pM) (H : Heap) (locs : List Loc), va_P D cl (mw ci h ad cA σ) H → va_D A (mw ci h ad cA σ) → va_S A s.heap H locs → ∀ (ls : Array Slot), lv_has ls 4 [(0, .ref h)] → (lfX1_goesOn K k).2.2.2.1 σ = some res → W p l e (headSpec (ws_ yX1_goesOn cX1_goesOn 4 (none)) ({ frames := 2, cells := 0, slots := 0, locals := 46 })).room s m ([.ref h] : List Value).toArray below meth c H locs 0 0 (MQ below (mQv D cl ci h ad cA A res) ([.ref h] : List Value).toArray s 0 0 A) (F0 m 89 ls [])) ∧ (∀ (v1 : Int32) (σ : pM) (H : Heap) (locs : List Loc), va_P D cl (mw ci h ad cA σ) H → va_D A (mw ci h ad cA σ) → va_S A s.heap H locs → ∀ (ls : Array Slot), lv_has ls 4 [(0, .ref h), (1, .int v1)] → (lfX1_goesOn K k).2.2.2.2.1 v1 σ = some res → W p l e (headSpec (ws_ yX1_goesOn cX1_goesOn 4 (none)) ({ frames := 2, cells := 0, slots := 0, locals := 46 })).room s m ([.ref h] : List Value).toArray below meth c H locs 0 0 (MQ below (mQv D cl ci h ad cA A res) ([.ref h] : List Value).toArray s 0 0 A) (F0 m 127 ls [])) ∧ (∀ (v3 : Int32) (σ : pM) (H : Heap) (locs : List Loc), va_P D cl (mw ci h ad cA σ) H → va_D A (mw ci h ad cA σ) → va_S A s.heap H locs → ∀ (ls : Array Slot), lv_has ls 4 [(0, .ref h), (3, .int v3)] → (lfX1_goesOn K k).2.2.2.2.2.1 v3 σ = some res → W p l e (headSpec (ws_ yX1_goesOn cX1_goesOn 4 (none)) ({ frames := 2, cells := 0, slots := 0, locals := 46 })).room s m ([.ref h] : List Value).toArray below meth c H locs 0 0 (MQ below (mQv D cl ci h ad cA A res) ([.ref h] : List Value).toArray s 0 0 A) (F0 m 166 ls [])) ∧ (∀ (v3 : Int32) (σ : pM) (H : Heap) (locs : List Loc), va_P D cl (mw ci h ad cA σ) H → va_D A (mw ci h ad cA σ) → va_S A s.heap H locs → ∀ (ls : Array Slot), lv_has ls 4 [(0, .ref h), (3, .int v3)] → (lfX1_goesOn K k).2.2.2.2.2.2.1 v3 σ = some res → W p l e (headSpec (ws_ yX1_goesOn cX1_goesOn 4 (none)) ({ frames := 2, cells := 0, slots := 0, locals := 46 })).room s m ([.ref h] : List Value).toArray below meth c H locs 0 0 (MQ below (mQv D cl ci h ad cA A res) ([.ref h] : List Value).toArray s 0 0 A) (F0 m 185 ls [])) ∧ (∀ (v1 : Int32) (σ : pM) (H : Heap) (locs : List Loc), va_P D cl (mw ci h ad cA σ) H → va_D A (mw ci h ad cA σ) → va_S A s.heap H locs → ∀ (ls : Array Slot), lv_has ls 4 [(0, .ref h), (1, .int v1)] → (lfX1_goesOn K k).2.2.2.2.2.2.2.1 v1 σ = some res → W p l e (headSpec (ws_ yX1_goesOn cX1_goesOn 4 (none)) ({ frames := 2, cells := 0, slots := 0, locals := 46 })).room s m ([.ref h] : List Value).toArray below meth c H locs 0 0 (MQ below (mQv D cl ci h ad cA A res) ([.ref h] : List Value).toArray s 0 0 A) (F0 m 210 ls [])) ∧ (∀ (v1 : Int32) (σ : pM) (H : Heap) (locs : List Loc), va_P D cl (mw ci h ad cA σ) H → va_D A (mw ci h ad cA σ) → va_S A s.heap H locs → ∀ (ls : Array Slot), lv_has ls 4 [(0, .ref h), (1, .int v1)] → (lfX1_goesOn K k).2.2.2.2.2.2.2.2 v1 σ = some res → W p l e (headSpec (ws_ yX1_goesOn cX1_goesOn 4 (none)) ({ frames := 2, cells := 0, slots := 0, locals := 46 })).room s m ([.ref h] : List Value).toArray below meth c H locs 0 0 (MQ below (mQv D cl ci h ad cA A res) ([.ref h] : List Value).toArray s 0 0 A) (F0 m 262 ls [])) := by
  intro k
  induction k with
  | zero =>
    exact ⟨fun _ _ _ _ _ _ _ _ hf => (by cases hf), fun _ _ _ _ _ _ _ _ _ _ hf => (by cases hf), fun _ _ _ _ _ _ _ _ _ _ hf => (by cases hf), fun _ _ _ _ _ _ _ _ hf => (by cases hf), fun _ _ _ _ _ _ _ _ _ hf => (by cases hf), fun _ _ _ _ _ _ _ _ _ hf => (by cases hf), fun _ _ _ _ _ _ _ _ _ hf => (by cases hf), fun _ _ _ _ _ _ _ _ _ hf => (by cases hf), fun _ _ _ _ _ _ _ _ _ hf => (by cases hf)⟩
  | succ k ih =>
    refine ⟨?_, ?_, ?_, ?_, ?_, ?_, ?_, ?_, ?_⟩
    · intro σ H locs hP hD hS ls hl hf
      have hf : (dz_l (σ.1 29) fun x1 => (lfX1_goesOn K k).2.1 1 x1 σ : Option pM) = some res := hf
      refine lv_iconst (v := 1) hx hb dX1_goesOn_16 (by decide) ?_
      refine lv_goto (tgt := 21) hx hb dX1_goesOn_17 (by decide) ?_
      refine lv_istore_n (lv' := [(1, .int 1), (0, .ref h)]) hx hb dX1_goesOn_21 rfl hl (by decide) rfl (fun ls hl => ?_)
      refine lv_aload_n hx hb dX1_goesOn_22 rfl (lv_at hl 1 rfl) ?_
      refine va_get (C := RX1) (T := TX1) (N := 35) (fs := mwF ad σ) (v := .int (σ.1 29)) hx hb hts in_X1 hown hK hP 0 rfl hci 29 (by decide) (hts _ q1700) (fun _ hq => hq) rfl dX1_goesOn_23 ?_
      refine lv_topi (fun x1 e_x1 => ?_)
      have hf := dz_ls e_x1 hf
      refine lv_istore_n (lv' := [(2, .int x1), (1, .int 1), (0, .ref h)]) hx hb dX1_goesOn_26 rfl hl (by decide) rfl (fun ls hl => ?_)
      exact ih.2.1 1 x1 σ H locs hP hD hS ls (lv_sub hl [2, 1, 0] rfl) hf
    · intro v1 v2 σ H locs hP hD hS ls hl hf
      have hf : (dz_l (σ.1 29) fun x1 => dz_l (σ.1 24) fun x2 => if x2 ≤ x1 then ((lfX1_goesOn K k).2.2.1 v1 v2 σ) else (dz_l (σ.1 29) fun x3 => if ¬ (x3 < 0 ∨ 400 ≤ Int32.toNatClampNeg x3) then (dz_l (σ.2.2.1 23 (Int32.toNatClampNeg x3)) fun x5 => if x5 = (32 : Int32) then (dz_l (σ.1 29) fun x6 => dz_l (x6 + 1) fun x7 => dz_l (mF σ 29 x7) fun s8 => (lfX1_goesOn K k).2.1 v1 v2 s8) else ((lfX1_goesOn K k).2.2.1 v1 v2 σ)) else none) : Option pM) = some res := hf
      refine lv_aload_n hx hb dX1_goesOn_27 rfl (lv_at hl 0 rfl) ?_
      refine va_get (C := RX1) (T := TX1) (N := 35) (fs := mwF ad σ) (v := .int (σ.1 29)) hx hb hts in_X1 hown hK hP 0 rfl hci 29 (by decide) (hts _ q1700) (fun _ hq => hq) rfl dX1_goesOn_28 ?_
      refine lv_topi (fun x1 e_x1 => ?_)
      have hf := dz_ls e_x1 hf
      refine lv_aload_n hx hb dX1_goesOn_31 rfl (lv_at hl 0 rfl) ?_
      refine va_get (C := RX1) (T := TX1) (N := 35) (fs := mwF ad σ) (v := .int (σ.1 24)) hx hb hts in_X1 hown hK hP 0 rfl hci 24 (by decide) (hts _ q1695) (fun _ hq => hq) rfl dX1_goesOn_32 ?_
      refine lv_topi (fun x2 e_x2 => ?_)
      have hf := dz_ls e_x2 hf
      refine lv_icmp_ge (tgt := 65) hx hb dX1_goesOn_35 (by decide) (fun c35 => ?_) (fun c35 => ?_)
      · have hf := dz_t c35 hf
        exact ih.2.2.1 v1 v2 σ H locs hP hD hS ls (lv_sub hl [0, 1, 2] rfl) hf
      · have hf := dz_f c35 hf
        refine lv_aload_n hx hb dX1_goesOn_38 rfl (lv_at hl 0 rfl) ?_
        refine va_get (C := RX1) (T := TX1) (N := 35) (fs := mwF ad σ) (v := .ref (ad 23)) hx hb hts in_X1 hown hK hP 0 rfl hci 23 (by decide) (hts _ q1694) (fun _ hq => hq) rfl dX1_goesOn_39 ?_
        refine lv_aload_n hx hb dX1_goesOn_42 rfl (lv_at hl 0 rfl) ?_
        refine va_get (C := RX1) (T := TX1) (N := 35) (fs := mwF ad σ) (v := .int (σ.1 29)) hx hb hts in_X1 hown hK hP 0 rfl hci 29 (by decide) (hts _ q1700) (fun _ hq => hq) rfl dX1_goesOn_43 ?_
        refine lv_topi (fun x3 e_x3 => ?_)
        have hf := dz_ls e_x3 hf
        obtain ⟨g4, hf⟩ := dz_go hf
        refine va_iald hx hb hK hP 21 0 rfl rfl g4 dX1_goesOn_46 ?_
        refine lv_topi (fun x5 e_x5 => ?_)
        have hf := dz_ls e_x5 hf
        refine lv_bipush (v := 32) hx hb dX1_goesOn_47 (by decide) ?_
        refine lv_icmp_ne (tgt := 65) hx hb dX1_goesOn_49 (by decide) (fun c49 => ?_) (fun c49 => ?_)
        · have hf := dz_f c49 hf
          exact ih.2.2.1 v1 v2 σ H locs hP hD hS ls (lv_sub hl [0, 1, 2] rfl) hf
        · have hf := dz_t c49 hf
          refine lv_aload_n hx hb dX1_goesOn_52 rfl (lv_at hl 0 rfl) ?_
          refine lv_dup hx hb dX1_goesOn_53 rfl ?_
          refine va_get (C := RX1) (T := TX1) (N := 35) (fs := mwF ad σ) (v := .int (σ.1 29)) hx hb hts in_X1 hown hK hP 0 rfl hci 29 (by decide) (hts _ q1700) (fun _ hq => hq) rfl dX1_goesOn_54 ?_
          refine lv_topi (fun x6 e_x6 => ?_)
          have hf := dz_ls e_x6 hf
          refine lv_iconst (v := 1) hx hb dX1_goesOn_57 (by decide) ?_
          refine lv_iadd hx hb dX1_goesOn_58 ?_
          refine lv_topi (fun x7 e_x7 => ?_)
          have hf := dz_ls e_x7 hf
          refine va_put (C := RX1) (T := TX1) (N := 35) (fs := mwF ad σ) hx hb hts in_X1 tyX1 tyX1_ok nmX1 hown hK hP hD hS 0 rfl hci 29 (by decide) (hts _ q1700) (fun _ hq => hq) rfl rfl rfl rfl (Nat.le_of_ble_eq_true rfl) dX1_goesOn_59 (fun H locs hP1 _ hS => ?_)
          obtain ⟨s8, e_s8, hf⟩ := dz_lo hf
          have hP : va_P D cl (mw ci h ad cA s8) H := by rw [e_s8]; exact hP1
          clear hP1; replace hD := mw_D s8 hD
          refine lv_goto (tgt := 27) hx hb dX1_goesOn_62 (by decide) ?_
          exact ih.2.1 v1 v2 s8 H locs hP hD hS ls (lv_sub hl [0, 1, 2] rfl) hf
    · intro v1 v2 σ H locs hP hD hS ls hl hf
      have hf : (dz_l (σ.1 29) fun x1 => dz_l (mF σ 26 x1) fun s2 => if v1 = (0 : Int32) then ((lfX1_goesOn K k).2.2.2.1 s2) else (dz_l (s2.1 26) fun x3 => if x3 = v2 then (dz_l (mF s2 27 10) fun s4 => dz_l (s4.1 26) fun x5 => dz_l (s4.1 24) fun x6 => if x5 = x6 then (dz_l (mF s4 25 0) fun s25 => some s25) else (dz_l (s4.1 26) fun x7 => dz_c (fnX1_isLetter K x7 s4) fun x8 s9 => if x8 = (0 : Int32) then (dz_l (s9.1 26) fun x10 => dz_c (fnX1_isDigit K x10 s9) fun x11 s12 => if x11 = (0 : Int32) then (dz_l (s12.1 26) fun x13 => if ¬ (x13 < 0 ∨ 400 ≤ Int32.toNatClampNeg x13) then (dz_l (s12.2.2.1 23 (Int32.toNatClampNeg x13)) fun x15 => if x15 = (59 : Int32) then (dz_l (mF s12 25 3) fun s20 => dz_l (s20.1 29) fun x21 => dz_l (x21 + 1) fun x22 => dz_l (mF s20 29 x22) fun s23 => some s23) else (dz_l (mF s12 25 4) fun s16 => dz_l (s16.1 29) fun x17 => dz_l (x17 + 1) fun x18 => dz_l (mF s16 29 x18) fun s19 => some s19)) else none) else (dz_l (mG s12 0) fun s24 => (lfX1_goesOn K k).2.2.2.2.2.2.2.1 1 s24)) else ((lfX1_goesOn K k).2.2.2.2.1 1 s9))) else ((lfX1_goesOn K k).2.2.2.1 s2)) : Option pM) = some res := hf
      refine lv_aload_n hx hb dX1_goesOn_65 rfl (lv_at hl 0 rfl) ?_
      refine lv_aload_n hx hb dX1_goesOn_66 rfl (lv_at hl 0 rfl) ?_
      refine va_get (C := RX1) (T := TX1) (N := 35) (fs := mwF ad σ) (v := .int (σ.1 29)) hx hb hts in_X1 hown hK hP 0 rfl hci 29 (by decide) (hts _ q1700) (fun _ hq => hq) rfl dX1_goesOn_67 ?_
      refine lv_topi (fun x1 e_x1 => ?_)
      have hf := dz_ls e_x1 hf
      refine va_put (C := RX1) (T := TX1) (N := 35) (fs := mwF ad σ) hx hb hts in_X1 tyX1 tyX1_ok nmX1 hown hK hP hD hS 0 rfl hci 26 (by decide) (hts _ q1697) (fun _ hq => hq) rfl rfl rfl rfl (Nat.le_of_ble_eq_true rfl) dX1_goesOn_70 (fun H locs hP1 _ hS => ?_)
      obtain ⟨s2, e_s2, hf⟩ := dz_lo hf
      have hP : va_P D cl (mw ci h ad cA s2) H := by rw [e_s2]; exact hP1
      clear hP1; replace hD := mw_D s2 hD
      refine lv_iload_n hx hb dX1_goesOn_73 rfl (lv_at hl 1 rfl) ?_
      refine lv_if_eq (tgt := 89) hx hb dX1_goesOn_74 (by decide) (fun c74 => ?_) (fun c74 => ?_)
      · have hf := dz_t c74 hf
        exact ih.2.2.2.1 s2 H locs hP hD hS ls (lv_sub hl [0] rfl) hf
      · have hf := dz_f c74 hf
        refine lv_aload_n hx hb dX1_goesOn_77 rfl (lv_at hl 0 rfl) ?_
        refine va_get (C := RX1) (T := TX1) (N := 35) (fs := mwF ad s2) (v := .int (s2.1 26)) hx hb hts in_X1 hown hK hP 0 rfl hci 26 (by decide) (hts _ q1697) (fun _ hq => hq) rfl dX1_goesOn_78 ?_
        refine lv_topi (fun x3 e_x3 => ?_)
        have hf := dz_ls e_x3 hf
        refine lv_iload_n hx hb dX1_goesOn_81 rfl (lv_at hl 2 rfl) ?_
        refine lv_icmp_ne (tgt := 89) hx hb dX1_goesOn_82 (by decide) (fun c82 => ?_) (fun c82 => ?_)
        · have hf := dz_f c82 hf
          exact ih.2.2.2.1 s2 H locs hP hD hS ls (lv_sub hl [0] rfl) hf
        · have hf := dz_t c82 hf
          refine lv_iconst (v := 1) hx hb dX1_goesOn_85 (by decide) ?_
          refine lv_goto (tgt := 90) hx hb dX1_goesOn_86 (by decide) ?_
          refine lv_istore_n (lv' := [(1, .int 1), (0, .ref h), (2, .int v2)]) hx hb dX1_goesOn_90 rfl hl (by decide) rfl (fun ls hl => ?_)
          refine lv_aload_n hx hb dX1_goesOn_91 rfl (lv_at hl 1 rfl) ?_
          refine lv_bipush (v := 10) hx hb dX1_goesOn_92 (by decide) ?_
          refine va_put (C := RX1) (T := TX1) (N := 35) (fs := mwF ad s2) hx hb hts in_X1 tyX1 tyX1_ok nmX1 hown hK hP hD hS 0 rfl hci 27 (by decide) (hts _ q1698) (fun _ hq => hq) rfl rfl rfl rfl (Nat.le_of_ble_eq_true rfl) dX1_goesOn_94 (fun H locs hP1 _ hS => ?_)
          obtain ⟨s4, e_s4, hf⟩ := dz_lo hf
          have hP : va_P D cl (mw ci h ad cA s4) H := by rw [e_s4]; exact hP1
          clear hP1; replace hD := mw_D s4 hD
          refine lv_aload_n hx hb dX1_goesOn_97 rfl (lv_at hl 1 rfl) ?_
          refine va_get (C := RX1) (T := TX1) (N := 35) (fs := mwF ad s4) (v := .int (s4.1 26)) hx hb hts in_X1 hown hK hP 0 rfl hci 26 (by decide) (hts _ q1697) (fun _ hq => hq) rfl dX1_goesOn_98 ?_
          refine lv_topi (fun x5 e_x5 => ?_)
          have hf := dz_ls e_x5 hf
          refine lv_aload_n hx hb dX1_goesOn_101 rfl (lv_at hl 1 rfl) ?_
          refine va_get (C := RX1) (T := TX1) (N := 35) (fs := mwF ad s4) (v := .int (s4.1 24)) hx hb hts in_X1 hown hK hP 0 rfl hci 24 (by decide) (hts _ q1695) (fun _ hq => hq) rfl dX1_goesOn_102 ?_
          refine lv_topi (fun x6 e_x6 => ?_)
          have hf := dz_ls e_x6 hf
          refine lv_icmp_ne (tgt := 116) hx hb dX1_goesOn_105 (by decide) (fun c105 => ?_) (fun c105 => ?_)
          · have hf := dz_f c105 hf
            refine lv_aload_n hx hb dX1_goesOn_116 rfl (lv_at hl 1 rfl) ?_
            refine lv_aload_n hx hb dX1_goesOn_117 rfl (lv_at hl 1 rfl) ?_
            refine va_get (C := RX1) (T := TX1) (N := 35) (fs := mwF ad s4) (v := .int (s4.1 26)) hx hb hts in_X1 hown hK hP 0 rfl hci 26 (by decide) (hts _ q1697) (fun _ hq => hq) rfl dX1_goesOn_118 ?_
            refine lv_topi (fun x7 e_x7 => ?_)
            have hf := dz_ls e_x7 hf
            obtain ⟨x8, s9, hx8, hf⟩ := dz_co hf
            have hFc := dz_free hD hS hA
            refine va_calli (va_runV (As := [.int x7]) (rest := []) ⟨hx, hb, hml, hown, hts⟩ (mtX1_isLetter l D cl ci hci h ad cA H.size s4 x7 K (x8, s9) hx8) (cwV 1 hts (lw_V q1952 q1954 qs62 q88 q1955) rfl rfl rfl (by decide +kernel) ⟨Nat.le_of_ble_eq_true rfl, Nat.le_of_ble_eq_true rfl⟩) (m_preV hci hK hP hD) rfl rfl hl.1 rfl (lv_room (Nat.le_of_ble_eq_true rfl)) dX1_goesOn_121 ⟨Nat.le_refl _, Nat.le_refl _⟩) hS (fun q _ hq => hFc q hq) hFc (fun r u t H1 locs ht hvm hw hB hz hk hS => ?_)
            obtain ⟨hw1, hw2⟩ := Prod.mk.inj hw.symm; subst hw1; subst hw2
            replace hP := m_back ht hB
            replace hD := mw_D s9 hD
            clear hB hk hz hvm ht hFc; generalize H1 = H at hP hS ⊢
            refine lv_if_eq (tgt := 194) hx hb dX1_goesOn_124 (by decide) (fun c124 => ?_) (fun c124 => ?_)
            · have hf := dz_t c124 hf
              refine lv_aload_n hx hb dX1_goesOn_194 rfl (lv_at hl 1 rfl) ?_
              refine lv_aload_n hx hb dX1_goesOn_195 rfl (lv_at hl 1 rfl) ?_
              refine va_get (C := RX1) (T := TX1) (N := 35) (fs := mwF ad s9) (v := .int (s9.1 26)) hx hb hts in_X1 hown hK hP 0 rfl hci 26 (by decide) (hts _ q1697) (fun _ hq => hq) rfl dX1_goesOn_196 ?_
              refine lv_topi (fun x10 e_x10 => ?_)
              have hf := dz_ls e_x10 hf
              obtain ⟨x11, s12, hx11, hf⟩ := dz_co hf
              have hFc := dz_free hD hS hA
              refine va_calli (va_runV (As := [.int x10]) (rest := []) ⟨hx, hb, hml, hown, hts⟩ (mtX1_isDigit l D cl ci hci h ad cA H.size s9 x10 K (x11, s12) hx11) (cwV 1 hts (lw_V q1966 q1968 qs65 q88 q1969) rfl rfl rfl (by decide +kernel) ⟨Nat.le_of_ble_eq_true rfl, Nat.le_of_ble_eq_true rfl⟩) (m_preV hci hK hP hD) rfl rfl hl.1 rfl (lv_room (Nat.le_of_ble_eq_true rfl)) dX1_goesOn_199 ⟨Nat.le_refl _, Nat.le_refl _⟩) hS (fun q _ hq => hFc q hq) hFc (fun r u t H1 locs ht hvm hw hB hz hk hS => ?_)
              obtain ⟨hw1, hw2⟩ := Prod.mk.inj hw.symm; subst hw1; subst hw2
              replace hP := m_back ht hB
              replace hD := mw_D s12 hD
              clear hB hk hz hvm ht hFc; generalize H1 = H at hP hS ⊢
              refine lv_if_eq (tgt := 305) hx hb dX1_goesOn_202 (by decide) (fun c202 => ?_) (fun c202 => ?_)
              · have hf := dz_t c202 hf
                refine lv_aload_n hx hb dX1_goesOn_305 rfl (lv_at hl 1 rfl) ?_
                refine lv_aload_n hx hb dX1_goesOn_306 rfl (lv_at hl 1 rfl) ?_
                refine va_get (C := RX1) (T := TX1) (N := 35) (fs := mwF ad s12) (v := .ref (ad 23)) hx hb hts in_X1 hown hK hP 0 rfl hci 23 (by decide) (hts _ q1694) (fun _ hq => hq) rfl dX1_goesOn_307 ?_
                refine lv_aload_n hx hb dX1_goesOn_310 rfl (lv_at hl 1 rfl) ?_
                refine va_get (C := RX1) (T := TX1) (N := 35) (fs := mwF ad s12) (v := .int (s12.1 26)) hx hb hts in_X1 hown hK hP 0 rfl hci 26 (by decide) (hts _ q1697) (fun _ hq => hq) rfl dX1_goesOn_311 ?_
                refine lv_topi (fun x13 e_x13 => ?_)
                have hf := dz_ls e_x13 hf
                obtain ⟨g14, hf⟩ := dz_go hf
                refine va_iald hx hb hK hP 21 0 rfl rfl g14 dX1_goesOn_314 ?_
                refine lv_topi (fun x15 e_x15 => ?_)
                have hf := dz_ls e_x15 hf
                refine lv_bipush (v := 59) hx hb dX1_goesOn_315 (by decide) ?_
                refine lv_icmp_ne (tgt := 324) hx hb dX1_goesOn_317 (by decide) (fun c317 => ?_) (fun c317 => ?_)
                · have hf := dz_f c317 hf
                  refine lv_iconst (v := 4) hx hb dX1_goesOn_324 (by decide) ?_
                  refine va_put (C := RX1) (T := TX1) (N := 35) (fs := mwF ad s12) hx hb hts in_X1 tyX1 tyX1_ok nmX1 hown hK hP hD hS 0 rfl hci 25 (by decide) (hts _ q1696) (fun _ hq => hq) rfl rfl rfl rfl (Nat.le_of_ble_eq_true rfl) dX1_goesOn_325 (fun H locs hP1 _ hS => ?_)
                  obtain ⟨s16, e_s16, hf⟩ := dz_lo hf
                  have hP : va_P D cl (mw ci h ad cA s16) H := by rw [e_s16]; exact hP1
                  clear hP1; replace hD := mw_D s16 hD
                  refine lv_aload_n hx hb dX1_goesOn_328 rfl (lv_at hl 1 rfl) ?_
                  refine lv_dup hx hb dX1_goesOn_329 rfl ?_
                  refine va_get (C := RX1) (T := TX1) (N := 35) (fs := mwF ad s16) (v := .int (s16.1 29)) hx hb hts in_X1 hown hK hP 0 rfl hci 29 (by decide) (hts _ q1700) (fun _ hq => hq) rfl dX1_goesOn_330 ?_
                  refine lv_topi (fun x17 e_x17 => ?_)
                  have hf := dz_ls e_x17 hf
                  refine lv_iconst (v := 1) hx hb dX1_goesOn_333 (by decide) ?_
                  refine lv_iadd hx hb dX1_goesOn_334 ?_
                  refine lv_topi (fun x18 e_x18 => ?_)
                  have hf := dz_ls e_x18 hf
                  refine va_put (C := RX1) (T := TX1) (N := 35) (fs := mwF ad s16) hx hb hts in_X1 tyX1 tyX1_ok nmX1 hown hK hP hD hS 0 rfl hci 29 (by decide) (hts _ q1700) (fun _ hq => hq) rfl rfl rfl rfl (Nat.le_of_ble_eq_true rfl) dX1_goesOn_335 (fun H locs hP1 _ hS => ?_)
                  obtain ⟨s19, e_s19, hf⟩ := dz_lo hf
                  have hP : va_P D cl (mw ci h ad cA s19) H := by rw [e_s19]; exact hP1
                  clear hP1; replace hD := mw_D s19 hD
                  exact W.vret hx hb hr (fun t ht hW => ⟨⟨s19, rfl, Option.some.inj hf, by rw [ht]; exact hP, va_K.moved hW.alike hK, hD⟩, hS.F ht⟩) hS.2.2 dX1_goesOn_338
                · have hf := dz_t c317 hf
                  refine lv_iconst (v := 3) hx hb dX1_goesOn_320 (by decide) ?_
                  refine lv_goto (tgt := 325) hx hb dX1_goesOn_321 (by decide) ?_
                  refine va_put (C := RX1) (T := TX1) (N := 35) (fs := mwF ad s12) hx hb hts in_X1 tyX1 tyX1_ok nmX1 hown hK hP hD hS 0 rfl hci 25 (by decide) (hts _ q1696) (fun _ hq => hq) rfl rfl rfl rfl (Nat.le_of_ble_eq_true rfl) dX1_goesOn_325 (fun H locs hP1 _ hS => ?_)
                  obtain ⟨s20, e_s20, hf⟩ := dz_lo hf
                  have hP : va_P D cl (mw ci h ad cA s20) H := by rw [e_s20]; exact hP1
                  clear hP1; replace hD := mw_D s20 hD
                  refine lv_aload_n hx hb dX1_goesOn_328 rfl (lv_at hl 1 rfl) ?_
                  refine lv_dup hx hb dX1_goesOn_329 rfl ?_
                  refine va_get (C := RX1) (T := TX1) (N := 35) (fs := mwF ad s20) (v := .int (s20.1 29)) hx hb hts in_X1 hown hK hP 0 rfl hci 29 (by decide) (hts _ q1700) (fun _ hq => hq) rfl dX1_goesOn_330 ?_
                  refine lv_topi (fun x21 e_x21 => ?_)
                  have hf := dz_ls e_x21 hf
                  refine lv_iconst (v := 1) hx hb dX1_goesOn_333 (by decide) ?_
                  refine lv_iadd hx hb dX1_goesOn_334 ?_
                  refine lv_topi (fun x22 e_x22 => ?_)
                  have hf := dz_ls e_x22 hf
                  refine va_put (C := RX1) (T := TX1) (N := 35) (fs := mwF ad s20) hx hb hts in_X1 tyX1 tyX1_ok nmX1 hown hK hP hD hS 0 rfl hci 29 (by decide) (hts _ q1700) (fun _ hq => hq) rfl rfl rfl rfl (Nat.le_of_ble_eq_true rfl) dX1_goesOn_335 (fun H locs hP1 _ hS => ?_)
                  obtain ⟨s23, e_s23, hf⟩ := dz_lo hf
                  have hP : va_P D cl (mw ci h ad cA s23) H := by rw [e_s23]; exact hP1
                  clear hP1; replace hD := mw_D s23 hD
                  exact W.vret hx hb hr (fun t ht hW => ⟨⟨s23, rfl, Option.some.inj hf, by rw [ht]; exact hP, va_K.moved hW.alike hK, hD⟩, hS.F ht⟩) hS.2.2 dX1_goesOn_338
              · have hf := dz_f c202 hf
                refine lv_aload_n hx hb dX1_goesOn_205 rfl (lv_at hl 1 rfl) ?_
                refine lv_lconst (v := 0) hx hb dX1_goesOn_206 rfl ?_
                refine va_put (C := RX1) (T := TX1) (N := 35) (fs := mwF ad s12) hx hb hts in_X1 tyX1 tyX1_ok nmX1 hown hK hP hD hS 0 rfl hci 28 (by decide) (hts _ q1699) (fun _ hq => hq) rfl rfl rfl rfl (Nat.le_of_ble_eq_true rfl) dX1_goesOn_207 (fun H locs hP1 _ hS => ?_)
                obtain ⟨s24, e_s24, hf⟩ := dz_lo hf
                have hP : va_P D cl (mw ci h ad cA s24) H := by rw [e_s24]; exact hP1
                clear hP1; replace hD := mw_D s24 hD
                exact ih.2.2.2.2.2.2.2.1 1 s24 H locs hP hD hS ls (lv_sub hl [1, 0] rfl) hf
            · have hf := dz_f c124 hf
              exact ih.2.2.2.2.1 1 s9 H locs hP hD hS ls (lv_sub hl [1, 0] rfl) hf
          · have hf := dz_t c105 hf
            refine lv_aload_n hx hb dX1_goesOn_108 rfl (lv_at hl 1 rfl) ?_
            refine lv_iconst (v := 0) hx hb dX1_goesOn_109 (by decide) ?_
            refine va_put (C := RX1) (T := TX1) (N := 35) (fs := mwF ad s4) hx hb hts in_X1 tyX1 tyX1_ok nmX1 hown hK hP hD hS 0 rfl hci 25 (by decide) (hts _ q1696) (fun _ hq => hq) rfl rfl rfl rfl (Nat.le_of_ble_eq_true rfl) dX1_goesOn_110 (fun H locs hP1 _ hS => ?_)
            obtain ⟨s25, e_s25, hf⟩ := dz_lo hf
            have hP : va_P D cl (mw ci h ad cA s25) H := by rw [e_s25]; exact hP1
            clear hP1; replace hD := mw_D s25 hD
            refine lv_goto (tgt := 338) hx hb dX1_goesOn_113 (by decide) ?_
            exact W.vret hx hb hr (fun t ht hW => ⟨⟨s25, rfl, Option.some.inj hf, by rw [ht]; exact hP, va_K.moved hW.alike hK, hD⟩, hS.F ht⟩) hS.2.2 dX1_goesOn_338
    · intro σ H locs hP hD hS ls hl hf
      have hf : (dz_l (mF σ 27 10) fun s1 => dz_l (s1.1 26) fun x2 => dz_l (s1.1 24) fun x3 => if x2 = x3 then (dz_l (mF s1 25 0) fun s22 => some s22) else (dz_l (s1.1 26) fun x4 => dz_c (fnX1_isLetter K x4 s1) fun x5 s6 => if x5 = (0 : Int32) then (dz_l (s6.1 26) fun x7 => dz_c (fnX1_isDigit K x7 s6) fun x8 s9 => if x8 = (0 : Int32) then (dz_l (s9.1 26) fun x10 => if ¬ (x10 < 0 ∨ 400 ≤ Int32.toNatClampNeg x10) then (dz_l (s9.2.2.1 23 (Int32.toNatClampNeg x10)) fun x12 => if x12 = (59 : Int32) then (dz_l (mF s9 25 3) fun s17 => dz_l (s17.1 29) fun x18 => dz_l (x18 + 1) fun x19 => dz_l (mF s17 29 x19) fun s20 => some s20) else (dz_l (mF s9 25 4) fun s13 => dz_l (s13.1 29) fun x14 => dz_l (x14 + 1) fun x15 => dz_l (mF s13 29 x15) fun s16 => some s16)) else none) else (dz_l (mG s9 0) fun s21 => (lfX1_goesOn K k).2.2.2.2.2.2.2.1 0 s21)) else ((lfX1_goesOn K k).2.2.2.2.1 0 s6)) : Option pM) = some res := hf
      refine lv_iconst (v := 0) hx hb dX1_goesOn_89 (by decide) ?_
      refine lv_istore_n (lv' := [(1, .int 0), (0, .ref h)]) hx hb dX1_goesOn_90 rfl hl (by decide) rfl (fun ls hl => ?_)
      refine lv_aload_n hx hb dX1_goesOn_91 rfl (lv_at hl 1 rfl) ?_
      refine lv_bipush (v := 10) hx hb dX1_goesOn_92 (by decide) ?_
      refine va_put (C := RX1) (T := TX1) (N := 35) (fs := mwF ad σ) hx hb hts in_X1 tyX1 tyX1_ok nmX1 hown hK hP hD hS 0 rfl hci 27 (by decide) (hts _ q1698) (fun _ hq => hq) rfl rfl rfl rfl (Nat.le_of_ble_eq_true rfl) dX1_goesOn_94 (fun H locs hP1 _ hS => ?_)
      obtain ⟨s1, e_s1, hf⟩ := dz_lo hf
      have hP : va_P D cl (mw ci h ad cA s1) H := by rw [e_s1]; exact hP1
      clear hP1; replace hD := mw_D s1 hD
      refine lv_aload_n hx hb dX1_goesOn_97 rfl (lv_at hl 1 rfl) ?_
      refine va_get (C := RX1) (T := TX1) (N := 35) (fs := mwF ad s1) (v := .int (s1.1 26)) hx hb hts in_X1 hown hK hP 0 rfl hci 26 (by decide) (hts _ q1697) (fun _ hq => hq) rfl dX1_goesOn_98 ?_
      refine lv_topi (fun x2 e_x2 => ?_)
      have hf := dz_ls e_x2 hf
      refine lv_aload_n hx hb dX1_goesOn_101 rfl (lv_at hl 1 rfl) ?_
      refine va_get (C := RX1) (T := TX1) (N := 35) (fs := mwF ad s1) (v := .int (s1.1 24)) hx hb hts in_X1 hown hK hP 0 rfl hci 24 (by decide) (hts _ q1695) (fun _ hq => hq) rfl dX1_goesOn_102 ?_
      refine lv_topi (fun x3 e_x3 => ?_)
      have hf := dz_ls e_x3 hf
      refine lv_icmp_ne (tgt := 116) hx hb dX1_goesOn_105 (by decide) (fun c105 => ?_) (fun c105 => ?_)
      · have hf := dz_f c105 hf
        refine lv_aload_n hx hb dX1_goesOn_116 rfl (lv_at hl 1 rfl) ?_
        refine lv_aload_n hx hb dX1_goesOn_117 rfl (lv_at hl 1 rfl) ?_
        refine va_get (C := RX1) (T := TX1) (N := 35) (fs := mwF ad s1) (v := .int (s1.1 26)) hx hb hts in_X1 hown hK hP 0 rfl hci 26 (by decide) (hts _ q1697) (fun _ hq => hq) rfl dX1_goesOn_118 ?_
        refine lv_topi (fun x4 e_x4 => ?_)
        have hf := dz_ls e_x4 hf
        obtain ⟨x5, s6, hx5, hf⟩ := dz_co hf
        have hFc := dz_free hD hS hA
        refine va_calli (va_runV (As := [.int x4]) (rest := []) ⟨hx, hb, hml, hown, hts⟩ (mtX1_isLetter l D cl ci hci h ad cA H.size s1 x4 K (x5, s6) hx5) (cwV 1 hts (lw_V q1952 q1954 qs62 q88 q1955) rfl rfl rfl (by decide +kernel) ⟨Nat.le_of_ble_eq_true rfl, Nat.le_of_ble_eq_true rfl⟩) (m_preV hci hK hP hD) rfl rfl hl.1 rfl (lv_room (Nat.le_of_ble_eq_true rfl)) dX1_goesOn_121 ⟨Nat.le_refl _, Nat.le_refl _⟩) hS (fun q _ hq => hFc q hq) hFc (fun r u t H1 locs ht hvm hw hB hz hk hS => ?_)
        obtain ⟨hw1, hw2⟩ := Prod.mk.inj hw.symm; subst hw1; subst hw2
        replace hP := m_back ht hB
        replace hD := mw_D s6 hD
        clear hB hk hz hvm ht hFc; generalize H1 = H at hP hS ⊢
        refine lv_if_eq (tgt := 194) hx hb dX1_goesOn_124 (by decide) (fun c124 => ?_) (fun c124 => ?_)
        · have hf := dz_t c124 hf
          refine lv_aload_n hx hb dX1_goesOn_194 rfl (lv_at hl 1 rfl) ?_
          refine lv_aload_n hx hb dX1_goesOn_195 rfl (lv_at hl 1 rfl) ?_
          refine va_get (C := RX1) (T := TX1) (N := 35) (fs := mwF ad s6) (v := .int (s6.1 26)) hx hb hts in_X1 hown hK hP 0 rfl hci 26 (by decide) (hts _ q1697) (fun _ hq => hq) rfl dX1_goesOn_196 ?_
          refine lv_topi (fun x7 e_x7 => ?_)
          have hf := dz_ls e_x7 hf
          obtain ⟨x8, s9, hx8, hf⟩ := dz_co hf
          have hFc := dz_free hD hS hA
          refine va_calli (va_runV (As := [.int x7]) (rest := []) ⟨hx, hb, hml, hown, hts⟩ (mtX1_isDigit l D cl ci hci h ad cA H.size s6 x7 K (x8, s9) hx8) (cwV 1 hts (lw_V q1966 q1968 qs65 q88 q1969) rfl rfl rfl (by decide +kernel) ⟨Nat.le_of_ble_eq_true rfl, Nat.le_of_ble_eq_true rfl⟩) (m_preV hci hK hP hD) rfl rfl hl.1 rfl (lv_room (Nat.le_of_ble_eq_true rfl)) dX1_goesOn_199 ⟨Nat.le_refl _, Nat.le_refl _⟩) hS (fun q _ hq => hFc q hq) hFc (fun r u t H1 locs ht hvm hw hB hz hk hS => ?_)
          obtain ⟨hw1, hw2⟩ := Prod.mk.inj hw.symm; subst hw1; subst hw2
          replace hP := m_back ht hB
          replace hD := mw_D s9 hD
          clear hB hk hz hvm ht hFc; generalize H1 = H at hP hS ⊢
          refine lv_if_eq (tgt := 305) hx hb dX1_goesOn_202 (by decide) (fun c202 => ?_) (fun c202 => ?_)
          · have hf := dz_t c202 hf
            refine lv_aload_n hx hb dX1_goesOn_305 rfl (lv_at hl 1 rfl) ?_
            refine lv_aload_n hx hb dX1_goesOn_306 rfl (lv_at hl 1 rfl) ?_
            refine va_get (C := RX1) (T := TX1) (N := 35) (fs := mwF ad s9) (v := .ref (ad 23)) hx hb hts in_X1 hown hK hP 0 rfl hci 23 (by decide) (hts _ q1694) (fun _ hq => hq) rfl dX1_goesOn_307 ?_
            refine lv_aload_n hx hb dX1_goesOn_310 rfl (lv_at hl 1 rfl) ?_
            refine va_get (C := RX1) (T := TX1) (N := 35) (fs := mwF ad s9) (v := .int (s9.1 26)) hx hb hts in_X1 hown hK hP 0 rfl hci 26 (by decide) (hts _ q1697) (fun _ hq => hq) rfl dX1_goesOn_311 ?_
            refine lv_topi (fun x10 e_x10 => ?_)
            have hf := dz_ls e_x10 hf
            obtain ⟨g11, hf⟩ := dz_go hf
            refine va_iald hx hb hK hP 21 0 rfl rfl g11 dX1_goesOn_314 ?_
            refine lv_topi (fun x12 e_x12 => ?_)
            have hf := dz_ls e_x12 hf
            refine lv_bipush (v := 59) hx hb dX1_goesOn_315 (by decide) ?_
            refine lv_icmp_ne (tgt := 324) hx hb dX1_goesOn_317 (by decide) (fun c317 => ?_) (fun c317 => ?_)
            · have hf := dz_f c317 hf
              refine lv_iconst (v := 4) hx hb dX1_goesOn_324 (by decide) ?_
              refine va_put (C := RX1) (T := TX1) (N := 35) (fs := mwF ad s9) hx hb hts in_X1 tyX1 tyX1_ok nmX1 hown hK hP hD hS 0 rfl hci 25 (by decide) (hts _ q1696) (fun _ hq => hq) rfl rfl rfl rfl (Nat.le_of_ble_eq_true rfl) dX1_goesOn_325 (fun H locs hP1 _ hS => ?_)
              obtain ⟨s13, e_s13, hf⟩ := dz_lo hf
              have hP : va_P D cl (mw ci h ad cA s13) H := by rw [e_s13]; exact hP1
              clear hP1; replace hD := mw_D s13 hD
              refine lv_aload_n hx hb dX1_goesOn_328 rfl (lv_at hl 1 rfl) ?_
              refine lv_dup hx hb dX1_goesOn_329 rfl ?_
              refine va_get (C := RX1) (T := TX1) (N := 35) (fs := mwF ad s13) (v := .int (s13.1 29)) hx hb hts in_X1 hown hK hP 0 rfl hci 29 (by decide) (hts _ q1700) (fun _ hq => hq) rfl dX1_goesOn_330 ?_
              refine lv_topi (fun x14 e_x14 => ?_)
              have hf := dz_ls e_x14 hf
              refine lv_iconst (v := 1) hx hb dX1_goesOn_333 (by decide) ?_
              refine lv_iadd hx hb dX1_goesOn_334 ?_
              refine lv_topi (fun x15 e_x15 => ?_)
              have hf := dz_ls e_x15 hf
              refine va_put (C := RX1) (T := TX1) (N := 35) (fs := mwF ad s13) hx hb hts in_X1 tyX1 tyX1_ok nmX1 hown hK hP hD hS 0 rfl hci 29 (by decide) (hts _ q1700) (fun _ hq => hq) rfl rfl rfl rfl (Nat.le_of_ble_eq_true rfl) dX1_goesOn_335 (fun H locs hP1 _ hS => ?_)
              obtain ⟨s16, e_s16, hf⟩ := dz_lo hf
              have hP : va_P D cl (mw ci h ad cA s16) H := by rw [e_s16]; exact hP1
              clear hP1; replace hD := mw_D s16 hD
              exact W.vret hx hb hr (fun t ht hW => ⟨⟨s16, rfl, Option.some.inj hf, by rw [ht]; exact hP, va_K.moved hW.alike hK, hD⟩, hS.F ht⟩) hS.2.2 dX1_goesOn_338
            · have hf := dz_t c317 hf
              refine lv_iconst (v := 3) hx hb dX1_goesOn_320 (by decide) ?_
              refine lv_goto (tgt := 325) hx hb dX1_goesOn_321 (by decide) ?_
              refine va_put (C := RX1) (T := TX1) (N := 35) (fs := mwF ad s9) hx hb hts in_X1 tyX1 tyX1_ok nmX1 hown hK hP hD hS 0 rfl hci 25 (by decide) (hts _ q1696) (fun _ hq => hq) rfl rfl rfl rfl (Nat.le_of_ble_eq_true rfl) dX1_goesOn_325 (fun H locs hP1 _ hS => ?_)
              obtain ⟨s17, e_s17, hf⟩ := dz_lo hf
              have hP : va_P D cl (mw ci h ad cA s17) H := by rw [e_s17]; exact hP1
              clear hP1; replace hD := mw_D s17 hD
              refine lv_aload_n hx hb dX1_goesOn_328 rfl (lv_at hl 1 rfl) ?_
              refine lv_dup hx hb dX1_goesOn_329 rfl ?_
              refine va_get (C := RX1) (T := TX1) (N := 35) (fs := mwF ad s17) (v := .int (s17.1 29)) hx hb hts in_X1 hown hK hP 0 rfl hci 29 (by decide) (hts _ q1700) (fun _ hq => hq) rfl dX1_goesOn_330 ?_
              refine lv_topi (fun x18 e_x18 => ?_)
              have hf := dz_ls e_x18 hf
              refine lv_iconst (v := 1) hx hb dX1_goesOn_333 (by decide) ?_
              refine lv_iadd hx hb dX1_goesOn_334 ?_
              refine lv_topi (fun x19 e_x19 => ?_)
              have hf := dz_ls e_x19 hf
              refine va_put (C := RX1) (T := TX1) (N := 35) (fs := mwF ad s17) hx hb hts in_X1 tyX1 tyX1_ok nmX1 hown hK hP hD hS 0 rfl hci 29 (by decide) (hts _ q1700) (fun _ hq => hq) rfl rfl rfl rfl (Nat.le_of_ble_eq_true rfl) dX1_goesOn_335 (fun H locs hP1 _ hS => ?_)
              obtain ⟨s20, e_s20, hf⟩ := dz_lo hf
              have hP : va_P D cl (mw ci h ad cA s20) H := by rw [e_s20]; exact hP1
              clear hP1; replace hD := mw_D s20 hD
              exact W.vret hx hb hr (fun t ht hW => ⟨⟨s20, rfl, Option.some.inj hf, by rw [ht]; exact hP, va_K.moved hW.alike hK, hD⟩, hS.F ht⟩) hS.2.2 dX1_goesOn_338
          · have hf := dz_f c202 hf
            refine lv_aload_n hx hb dX1_goesOn_205 rfl (lv_at hl 1 rfl) ?_
            refine lv_lconst (v := 0) hx hb dX1_goesOn_206 rfl ?_
            refine va_put (C := RX1) (T := TX1) (N := 35) (fs := mwF ad s9) hx hb hts in_X1 tyX1 tyX1_ok nmX1 hown hK hP hD hS 0 rfl hci 28 (by decide) (hts _ q1699) (fun _ hq => hq) rfl rfl rfl rfl (Nat.le_of_ble_eq_true rfl) dX1_goesOn_207 (fun H locs hP1 _ hS => ?_)
            obtain ⟨s21, e_s21, hf⟩ := dz_lo hf
            have hP : va_P D cl (mw ci h ad cA s21) H := by rw [e_s21]; exact hP1
            clear hP1; replace hD := mw_D s21 hD
            exact ih.2.2.2.2.2.2.2.1 0 s21 H locs hP hD hS ls (lv_sub hl [1, 0] rfl) hf
        · have hf := dz_f c124 hf
          exact ih.2.2.2.2.1 0 s6 H locs hP hD hS ls (lv_sub hl [1, 0] rfl) hf
      · have hf := dz_t c105 hf
        refine lv_aload_n hx hb dX1_goesOn_108 rfl (lv_at hl 1 rfl) ?_
        refine lv_iconst (v := 0) hx hb dX1_goesOn_109 (by decide) ?_
        refine va_put (C := RX1) (T := TX1) (N := 35) (fs := mwF ad s1) hx hb hts in_X1 tyX1 tyX1_ok nmX1 hown hK hP hD hS 0 rfl hci 25 (by decide) (hts _ q1696) (fun _ hq => hq) rfl rfl rfl rfl (Nat.le_of_ble_eq_true rfl) dX1_goesOn_110 (fun H locs hP1 _ hS => ?_)
        obtain ⟨s22, e_s22, hf⟩ := dz_lo hf
        have hP : va_P D cl (mw ci h ad cA s22) H := by rw [e_s22]; exact hP1
        clear hP1; replace hD := mw_D s22 hD
        refine lv_goto (tgt := 338) hx hb dX1_goesOn_113 (by decide) ?_
        exact W.vret hx hb hr (fun t ht hW => ⟨⟨s22, rfl, Option.some.inj hf, by rw [ht]; exact hP, va_K.moved hW.alike hK, hD⟩, hS.F ht⟩) hS.2.2 dX1_goesOn_338
    · intro v1 σ H locs hP hD hS ls hl hf
      have hf : (dz_l (σ.1 29) fun x1 => dz_c (fnX1_isLetter K x1 σ) fun x2 s3 => if x2 = (0 : Int32) then (if v1 = (0 : Int32) then (dz_l (mF s3 25 1) fun s4 => (lfX1_goesOn K k).2.2.2.2.2.1 0 s4) else (dz_l (mF s3 25 4) fun s5 => (lfX1_goesOn K k).2.2.2.2.2.1 0 s5)) else (dz_l (s3.1 29) fun x6 => dz_l (x6 + 1) fun x7 => dz_l (mF s3 29 x7) fun s8 => (lfX1_goesOn K k).2.2.2.2.1 v1 s8) : Option pM) = some res := hf
      refine lv_aload_n hx hb dX1_goesOn_127 rfl (lv_at hl 0 rfl) ?_
      refine lv_aload_n hx hb dX1_goesOn_128 rfl (lv_at hl 0 rfl) ?_
      refine va_get (C := RX1) (T := TX1) (N := 35) (fs := mwF ad σ) (v := .int (σ.1 29)) hx hb hts in_X1 hown hK hP 0 rfl hci 29 (by decide) (hts _ q1700) (fun _ hq => hq) rfl dX1_goesOn_129 ?_
      refine lv_topi (fun x1 e_x1 => ?_)
      have hf := dz_ls e_x1 hf
      obtain ⟨x2, s3, hx2, hf⟩ := dz_co hf
      have hFc := dz_free hD hS hA
      refine va_calli (va_runV (As := [.int x1]) (rest := []) ⟨hx, hb, hml, hown, hts⟩ (mtX1_isLetter l D cl ci hci h ad cA H.size σ x1 K (x2, s3) hx2) (cwV 1 hts (lw_V q1952 q1954 qs62 q88 q1955) rfl rfl rfl (by decide +kernel) ⟨Nat.le_of_ble_eq_true rfl, Nat.le_of_ble_eq_true rfl⟩) (m_preV hci hK hP hD) rfl rfl hl.1 rfl (lv_room (Nat.le_of_ble_eq_true rfl)) dX1_goesOn_132 ⟨Nat.le_refl _, Nat.le_refl _⟩) hS (fun q _ hq => hFc q hq) hFc (fun r u t H1 locs ht hvm hw hB hz hk hS => ?_)
      obtain ⟨hw1, hw2⟩ := Prod.mk.inj hw.symm; subst hw1; subst hw2
      replace hP := m_back ht hB
      replace hD := mw_D s3 hD
      clear hB hk hz hvm ht hFc; generalize H1 = H at hP hS ⊢
      refine lv_if_eq (tgt := 151) hx hb dX1_goesOn_135 (by decide) (fun c135 => ?_) (fun c135 => ?_)
      · have hf := dz_t c135 hf
        refine lv_aload_n hx hb dX1_goesOn_151 rfl (lv_at hl 0 rfl) ?_
        refine lv_iload_n hx hb dX1_goesOn_152 rfl (lv_at hl 1 rfl) ?_
        refine lv_if_eq (tgt := 160) hx hb dX1_goesOn_153 (by decide) (fun c153 => ?_) (fun c153 => ?_)
        · have hf := dz_t c153 hf
          refine lv_iconst (v := 1) hx hb dX1_goesOn_160 (by decide) ?_
          refine va_put (C := RX1) (T := TX1) (N := 35) (fs := mwF ad s3) hx hb hts in_X1 tyX1 tyX1_ok nmX1 hown hK hP hD hS 0 rfl hci 25 (by decide) (hts _ q1696) (fun _ hq => hq) rfl rfl rfl rfl (Nat.le_of_ble_eq_true rfl) dX1_goesOn_161 (fun H locs hP1 _ hS => ?_)
          obtain ⟨s4, e_s4, hf⟩ := dz_lo hf
          have hP : va_P D cl (mw ci h ad cA s4) H := by rw [e_s4]; exact hP1
          clear hP1; replace hD := mw_D s4 hD
          refine lv_iconst (v := 0) hx hb dX1_goesOn_164 (by decide) ?_
          refine lv_istore_n (lv' := [(3, .int 0), (0, .ref h), (1, .int v1)]) hx hb dX1_goesOn_165 rfl hl (by decide) rfl (fun ls hl => ?_)
          exact ih.2.2.2.2.2.1 0 s4 H locs hP hD hS ls (lv_sub hl [1, 0] rfl) hf
        · have hf := dz_f c153 hf
          refine lv_iconst (v := 4) hx hb dX1_goesOn_156 (by decide) ?_
          refine lv_goto (tgt := 161) hx hb dX1_goesOn_157 (by decide) ?_
          refine va_put (C := RX1) (T := TX1) (N := 35) (fs := mwF ad s3) hx hb hts in_X1 tyX1 tyX1_ok nmX1 hown hK hP hD hS 0 rfl hci 25 (by decide) (hts _ q1696) (fun _ hq => hq) rfl rfl rfl rfl (Nat.le_of_ble_eq_true rfl) dX1_goesOn_161 (fun H locs hP1 _ hS => ?_)
          obtain ⟨s5, e_s5, hf⟩ := dz_lo hf
          have hP : va_P D cl (mw ci h ad cA s5) H := by rw [e_s5]; exact hP1
          clear hP1; replace hD := mw_D s5 hD
          refine lv_iconst (v := 0) hx hb dX1_goesOn_164 (by decide) ?_
          refine lv_istore_n (lv' := [(3, .int 0), (0, .ref h), (1, .int v1)]) hx hb dX1_goesOn_165 rfl hl (by decide) rfl (fun ls hl => ?_)
          exact ih.2.2.2.2.2.1 0 s5 H locs hP hD hS ls (lv_sub hl [1, 0] rfl) hf
      · have hf := dz_f c135 hf
        refine lv_aload_n hx hb dX1_goesOn_138 rfl (lv_at hl 0 rfl) ?_
        refine lv_dup hx hb dX1_goesOn_139 rfl ?_
        refine va_get (C := RX1) (T := TX1) (N := 35) (fs := mwF ad s3) (v := .int (s3.1 29)) hx hb hts in_X1 hown hK hP 0 rfl hci 29 (by decide) (hts _ q1700) (fun _ hq => hq) rfl dX1_goesOn_140 ?_
        refine lv_topi (fun x6 e_x6 => ?_)
        have hf := dz_ls e_x6 hf
        refine lv_iconst (v := 1) hx hb dX1_goesOn_143 (by decide) ?_
        refine lv_iadd hx hb dX1_goesOn_144 ?_
        refine lv_topi (fun x7 e_x7 => ?_)
        have hf := dz_ls e_x7 hf
        refine va_put (C := RX1) (T := TX1) (N := 35) (fs := mwF ad s3) hx hb hts in_X1 tyX1 tyX1_ok nmX1 hown hK hP hD hS 0 rfl hci 29 (by decide) (hts _ q1700) (fun _ hq => hq) rfl rfl rfl rfl (Nat.le_of_ble_eq_true rfl) dX1_goesOn_145 (fun H locs hP1 _ hS => ?_)
        obtain ⟨s8, e_s8, hf⟩ := dz_lo hf
        have hP : va_P D cl (mw ci h ad cA s8) H := by rw [e_s8]; exact hP1
        clear hP1; replace hD := mw_D s8 hD
        refine lv_goto (tgt := 127) hx hb dX1_goesOn_148 (by decide) ?_
        exact ih.2.2.2.2.1 v1 s8 H locs hP hD hS ls (lv_sub hl [0, 1] rfl) hf
    · intro v3 σ H locs hP hD hS ls hl hf
      have hf : (if (10 : Int32) ≤ v3 then (some σ) else (dz_c (fnX1_isWord K v3 σ) fun x1 s2 => if x1 = (0 : Int32) then ((lfX1_goesOn K k).2.2.2.2.2.2.1 v3 s2) else (dz_l (mF s2 27 v3) fun s3 => (lfX1_goesOn K k).2.2.2.2.2.2.1 v3 s3)) : Option pM) = some res := hf
      refine lv_iload_n hx hb dX1_goesOn_166 rfl (lv_at hl 1 rfl) ?_
      refine lv_bipush (v := 10) hx hb dX1_goesOn_167 (by decide) ?_
      refine lv_icmp_ge (tgt := 191) hx hb dX1_goesOn_169 (by decide) (fun c169 => ?_) (fun c169 => ?_)
      · have hf := dz_t c169 hf
        refine lv_goto (tgt := 338) hx hb dX1_goesOn_191 (by decide) ?_
        exact W.vret hx hb hr (fun t ht hW => ⟨⟨σ, rfl, Option.some.inj hf, by rw [ht]; exact hP, va_K.moved hW.alike hK, hD⟩, hS.F ht⟩) hS.2.2 dX1_goesOn_338
      · have hf := dz_f c169 hf
        refine lv_aload_n hx hb dX1_goesOn_172 rfl (lv_at hl 0 rfl) ?_
        refine lv_iload_n hx hb dX1_goesOn_173 rfl (lv_at hl 1 rfl) ?_
        obtain ⟨x1, s2, hx1, hf⟩ := dz_co hf
        have hFc := dz_free hD hS hA
        refine va_calli (va_runV (As := [.int v3]) (rest := []) ⟨hx, hb, hml, hown, hts⟩ (mtX1_isWord l D cl ci hci h ad cA H.size σ v3 K (x1, s2) hx1) (cwV 1 hts (lw_V q1958 q1960 qs63 q88 q1961) rfl rfl rfl (by decide +kernel) ⟨Nat.le_of_ble_eq_true rfl, Nat.le_of_ble_eq_true rfl⟩) (m_preV hci hK hP hD) rfl rfl hl.1 rfl (lv_room (Nat.le_of_ble_eq_true rfl)) dX1_goesOn_174 ⟨Nat.le_refl _, Nat.le_refl _⟩) hS (fun q _ hq => hFc q hq) hFc (fun r u t H1 locs ht hvm hw hB hz hk hS => ?_)
        obtain ⟨hw1, hw2⟩ := Prod.mk.inj hw.symm; subst hw1; subst hw2
        replace hP := m_back ht hB
        replace hD := mw_D s2 hD
        clear hB hk hz hvm ht hFc; generalize H1 = H at hP hS ⊢
        refine lv_if_eq (tgt := 185) hx hb dX1_goesOn_177 (by decide) (fun c177 => ?_) (fun c177 => ?_)
        · have hf := dz_t c177 hf
          exact ih.2.2.2.2.2.2.1 v3 s2 H locs hP hD hS ls (lv_sub hl [0, 1] rfl) hf
        · have hf := dz_f c177 hf
          refine lv_aload_n hx hb dX1_goesOn_180 rfl (lv_at hl 0 rfl) ?_
          refine lv_iload_n hx hb dX1_goesOn_181 rfl (lv_at hl 1 rfl) ?_
          refine va_put (C := RX1) (T := TX1) (N := 35) (fs := mwF ad s2) hx hb hts in_X1 tyX1 tyX1_ok nmX1 hown hK hP hD hS 0 rfl hci 27 (by decide) (hts _ q1698) (fun _ hq => hq) rfl rfl rfl rfl (Nat.le_of_ble_eq_true rfl) dX1_goesOn_182 (fun H locs hP1 _ hS => ?_)
          obtain ⟨s3, e_s3, hf⟩ := dz_lo hf
          have hP : va_P D cl (mw ci h ad cA s3) H := by rw [e_s3]; exact hP1
          clear hP1; replace hD := mw_D s3 hD
          exact ih.2.2.2.2.2.2.1 v3 s3 H locs hP hD hS ls (lv_sub hl [0, 1] rfl) hf
    · intro v3 σ H locs hP hD hS ls hl hf
      have hf : (dz_l (v3 + 1) fun x1 => (lfX1_goesOn K k).2.2.2.2.2.1 x1 σ : Option pM) = some res := hf
      obtain ⟨x1, e_x1, hf⟩ := dz_lo hf
      refine lv_iinc (v := x1) (lv' := [(3, .int x1), (0, .ref h)]) hx hb dX1_goesOn_185 hl (k := 1) rfl (by rw [e_x1]; rfl) (by decide) rfl (fun ls hl => ?_)
      refine lv_goto (tgt := 166) hx hb dX1_goesOn_188 (by decide) ?_
      exact ih.2.2.2.2.2.1 x1 σ H locs hP hD hS ls (lv_sub hl [1, 0] rfl) hf
    · intro v1 σ H locs hP hD hS ls hl hf
      have hf : (dz_l (σ.1 29) fun x1 => dz_c (fnX1_isDigit K x1 σ) fun x2 s3 => if x2 = (0 : Int32) then (if v1 = (0 : Int32) then (dz_l (s3.1 29) fun x5 => dz_l (s3.1 26) fun x6 => if (x5 - x6) ≤ (10 : Int32) then (dz_l (mF s3 25 2) fun s7 => some s7) else (dz_l (mF s3 25 4) fun s8 => some s8)) else (dz_l (mF s3 25 4) fun s4 => some s4)) else (dz_l (s3.1 29) fun x9 => dz_l (s3.1 26) fun x10 => if (10 : Int32) ≤ (x9 - x10) then ((lfX1_goesOn K k).2.2.2.2.2.2.2.2 v1 s3) else (dz_l (s3.2.1) fun x11 => dz_l (s3.1 29) fun x12 => if ¬ (x12 < 0 ∨ 400 ≤ Int32.toNatClampNeg x12) then (dz_l (s3.2.2.1 23 (Int32.toNatClampNeg x12)) fun x14 => dz_l (((10 * x11) + (Int32.toInt64 x14)) - 48) fun x15 => dz_l (mG s3 x15) fun s16 => (lfX1_goesOn K k).2.2.2.2.2.2.2.2 v1 s16) else none)) : Option pM) = some res := hf
      refine lv_aload_n hx hb dX1_goesOn_210 rfl (lv_at hl 0 rfl) ?_
      refine lv_aload_n hx hb dX1_goesOn_211 rfl (lv_at hl 0 rfl) ?_
      refine va_get (C := RX1) (T := TX1) (N := 35) (fs := mwF ad σ) (v := .int (σ.1 29)) hx hb hts in_X1 hown hK hP 0 rfl hci 29 (by decide) (hts _ q1700) (fun _ hq => hq) rfl dX1_goesOn_212 ?_
      refine lv_topi (fun x1 e_x1 => ?_)
      have hf := dz_ls e_x1 hf
      obtain ⟨x2, s3, hx2, hf⟩ := dz_co hf
      have hFc := dz_free hD hS hA
      refine va_calli (va_runV (As := [.int x1]) (rest := []) ⟨hx, hb, hml, hown, hts⟩ (mtX1_isDigit l D cl ci hci h ad cA H.size σ x1 K (x2, s3) hx2) (cwV 1 hts (lw_V q1966 q1968 qs65 q88 q1969) rfl rfl rfl (by decide +kernel) ⟨Nat.le_of_ble_eq_true rfl, Nat.le_of_ble_eq_true rfl⟩) (m_preV hci hK hP hD) rfl rfl hl.1 rfl (lv_room (Nat.le_of_ble_eq_true rfl)) dX1_goesOn_215 ⟨Nat.le_refl _, Nat.le_refl _⟩) hS (fun q _ hq => hFc q hq) hFc (fun r u t H1 locs ht hvm hw hB hz hk hS => ?_)
      obtain ⟨hw1, hw2⟩ := Prod.mk.inj hw.symm; subst hw1; subst hw2
      replace hP := m_back ht hB
      replace hD := mw_D s3 hD
      clear hB hk hz hvm ht hFc; generalize H1 = H at hP hS ⊢
      refine lv_if_eq (tgt := 275) hx hb dX1_goesOn_218 (by decide) (fun c218 => ?_) (fun c218 => ?_)
      · have hf := dz_t c218 hf
        refine lv_aload_n hx hb dX1_goesOn_275 rfl (lv_at hl 0 rfl) ?_
        refine lv_iload_n hx hb dX1_goesOn_276 rfl (lv_at hl 1 rfl) ?_
        refine lv_if_ne (tgt := 294) hx hb dX1_goesOn_277 (by decide) (fun c277 => ?_) (fun c277 => ?_)
        · have hf := dz_f c277 hf
          refine lv_iconst (v := 4) hx hb dX1_goesOn_294 (by decide) ?_
          refine lv_goto (tgt := 299) hx hb dX1_goesOn_295 (by decide) ?_
          refine va_put (C := RX1) (T := TX1) (N := 35) (fs := mwF ad s3) hx hb hts in_X1 tyX1 tyX1_ok nmX1 hown hK hP hD hS 0 rfl hci 25 (by decide) (hts _ q1696) (fun _ hq => hq) rfl rfl rfl rfl (Nat.le_of_ble_eq_true rfl) dX1_goesOn_299 (fun H locs hP1 _ hS => ?_)
          obtain ⟨s4, e_s4, hf⟩ := dz_lo hf
          have hP : va_P D cl (mw ci h ad cA s4) H := by rw [e_s4]; exact hP1
          clear hP1; replace hD := mw_D s4 hD
          refine lv_goto (tgt := 338) hx hb dX1_goesOn_302 (by decide) ?_
          exact W.vret hx hb hr (fun t ht hW => ⟨⟨s4, rfl, Option.some.inj hf, by rw [ht]; exact hP, va_K.moved hW.alike hK, hD⟩, hS.F ht⟩) hS.2.2 dX1_goesOn_338
        · have hf := dz_t c277 hf
          refine lv_aload_n hx hb dX1_goesOn_280 rfl (lv_at hl 0 rfl) ?_
          refine va_get (C := RX1) (T := TX1) (N := 35) (fs := mwF ad s3) (v := .int (s3.1 29)) hx hb hts in_X1 hown hK hP 0 rfl hci 29 (by decide) (hts _ q1700) (fun _ hq => hq) rfl dX1_goesOn_281 ?_
          refine lv_topi (fun x5 e_x5 => ?_)
          have hf := dz_ls e_x5 hf
          refine lv_aload_n hx hb dX1_goesOn_284 rfl (lv_at hl 0 rfl) ?_
          refine va_get (C := RX1) (T := TX1) (N := 35) (fs := mwF ad s3) (v := .int (s3.1 26)) hx hb hts in_X1 hown hK hP 0 rfl hci 26 (by decide) (hts _ q1697) (fun _ hq => hq) rfl dX1_goesOn_285 ?_
          refine lv_topi (fun x6 e_x6 => ?_)
          have hf := dz_ls e_x6 hf
          refine lv_isub hx hb dX1_goesOn_288 ?_
          refine lv_bipush (v := 10) hx hb dX1_goesOn_289 (by decide) ?_
          refine lv_icmp_le (tgt := 298) hx hb dX1_goesOn_291 (by decide) (fun c291 => ?_) (fun c291 => ?_)
          · have hf := dz_t c291 hf
            refine lv_iconst (v := 2) hx hb dX1_goesOn_298 (by decide) ?_
            refine va_put (C := RX1) (T := TX1) (N := 35) (fs := mwF ad s3) hx hb hts in_X1 tyX1 tyX1_ok nmX1 hown hK hP hD hS 0 rfl hci 25 (by decide) (hts _ q1696) (fun _ hq => hq) rfl rfl rfl rfl (Nat.le_of_ble_eq_true rfl) dX1_goesOn_299 (fun H locs hP1 _ hS => ?_)
            obtain ⟨s7, e_s7, hf⟩ := dz_lo hf
            have hP : va_P D cl (mw ci h ad cA s7) H := by rw [e_s7]; exact hP1
            clear hP1; replace hD := mw_D s7 hD
            refine lv_goto (tgt := 338) hx hb dX1_goesOn_302 (by decide) ?_
            exact W.vret hx hb hr (fun t ht hW => ⟨⟨s7, rfl, Option.some.inj hf, by rw [ht]; exact hP, va_K.moved hW.alike hK, hD⟩, hS.F ht⟩) hS.2.2 dX1_goesOn_338
          · have hf := dz_f c291 hf
            refine lv_iconst (v := 4) hx hb dX1_goesOn_294 (by decide) ?_
            refine lv_goto (tgt := 299) hx hb dX1_goesOn_295 (by decide) ?_
            refine va_put (C := RX1) (T := TX1) (N := 35) (fs := mwF ad s3) hx hb hts in_X1 tyX1 tyX1_ok nmX1 hown hK hP hD hS 0 rfl hci 25 (by decide) (hts _ q1696) (fun _ hq => hq) rfl rfl rfl rfl (Nat.le_of_ble_eq_true rfl) dX1_goesOn_299 (fun H locs hP1 _ hS => ?_)
            obtain ⟨s8, e_s8, hf⟩ := dz_lo hf
            have hP : va_P D cl (mw ci h ad cA s8) H := by rw [e_s8]; exact hP1
            clear hP1; replace hD := mw_D s8 hD
            refine lv_goto (tgt := 338) hx hb dX1_goesOn_302 (by decide) ?_
            exact W.vret hx hb hr (fun t ht hW => ⟨⟨s8, rfl, Option.some.inj hf, by rw [ht]; exact hP, va_K.moved hW.alike hK, hD⟩, hS.F ht⟩) hS.2.2 dX1_goesOn_338
      · have hf := dz_f c218 hf
        refine lv_aload_n hx hb dX1_goesOn_221 rfl (lv_at hl 0 rfl) ?_
        refine va_get (C := RX1) (T := TX1) (N := 35) (fs := mwF ad s3) (v := .int (s3.1 29)) hx hb hts in_X1 hown hK hP 0 rfl hci 29 (by decide) (hts _ q1700) (fun _ hq => hq) rfl dX1_goesOn_222 ?_
        refine lv_topi (fun x9 e_x9 => ?_)
        have hf := dz_ls e_x9 hf
        refine lv_aload_n hx hb dX1_goesOn_225 rfl (lv_at hl 0 rfl) ?_
        refine va_get (C := RX1) (T := TX1) (N := 35) (fs := mwF ad s3) (v := .int (s3.1 26)) hx hb hts in_X1 hown hK hP 0 rfl hci 26 (by decide) (hts _ q1697) (fun _ hq => hq) rfl dX1_goesOn_226 ?_
        refine lv_topi (fun x10 e_x10 => ?_)
        have hf := dz_ls e_x10 hf
        refine lv_isub hx hb dX1_goesOn_229 ?_
        refine lv_bipush (v := 10) hx hb dX1_goesOn_230 (by decide) ?_
        refine lv_icmp_ge (tgt := 262) hx hb dX1_goesOn_232 (by decide) (fun c232 => ?_) (fun c232 => ?_)
        · have hf := dz_t c232 hf
          exact ih.2.2.2.2.2.2.2.2 v1 s3 H locs hP hD hS ls (lv_sub hl [0, 1] rfl) hf
        · have hf := dz_f c232 hf
          refine lv_aload_n hx hb dX1_goesOn_235 rfl (lv_at hl 0 rfl) ?_
          refine lv_ldc2 (v := 10) hx hb hown (hts _ q1972) dX1_goesOn_236 ?_
          refine lv_aload_n hx hb dX1_goesOn_239 rfl (lv_at hl 0 rfl) ?_
          refine va_get (C := RX1) (T := TX1) (N := 35) (fs := mwF ad s3) (v := .long s3.2.1) hx hb hts in_X1 hown hK hP 0 rfl hci 28 (by decide) (hts _ q1699) (fun _ hq => hq) rfl dX1_goesOn_240 ?_
          refine lv_topl (fun x11 e_x11 => ?_)
          have hf := dz_ls e_x11 hf
          refine lv_lmul hx hb dX1_goesOn_243 ?_
          refine lv_aload_n hx hb dX1_goesOn_244 rfl (lv_at hl 0 rfl) ?_
          refine va_get (C := RX1) (T := TX1) (N := 35) (fs := mwF ad s3) (v := .ref (ad 23)) hx hb hts in_X1 hown hK hP 0 rfl hci 23 (by decide) (hts _ q1694) (fun _ hq => hq) rfl dX1_goesOn_245 ?_
          refine lv_aload_n hx hb dX1_goesOn_248 rfl (lv_at hl 0 rfl) ?_
          refine va_get (C := RX1) (T := TX1) (N := 35) (fs := mwF ad s3) (v := .int (s3.1 29)) hx hb hts in_X1 hown hK hP 0 rfl hci 29 (by decide) (hts _ q1700) (fun _ hq => hq) rfl dX1_goesOn_249 ?_
          refine lv_topi (fun x12 e_x12 => ?_)
          have hf := dz_ls e_x12 hf
          obtain ⟨g13, hf⟩ := dz_go hf
          refine va_iald hx hb hK hP 21 0 rfl rfl g13 dX1_goesOn_252 ?_
          refine lv_topi (fun x14 e_x14 => ?_)
          have hf := dz_ls e_x14 hf
          refine lv_i2l hx hb dX1_goesOn_253 (rfl : _ = Int32.toInt64 x14) ?_
          refine lv_ladd hx hb dX1_goesOn_254 ?_
          refine lv_ldc2 (v := 48) hx hb hown (hts _ q1970) dX1_goesOn_255 ?_
          refine lv_lsub hx hb dX1_goesOn_258 ?_
          refine lv_topl (fun x15 e_x15 => ?_)
          have hf := dz_ls e_x15 hf
          refine va_put (C := RX1) (T := TX1) (N := 35) (fs := mwF ad s3) hx hb hts in_X1 tyX1 tyX1_ok nmX1 hown hK hP hD hS 0 rfl hci 28 (by decide) (hts _ q1699) (fun _ hq => hq) rfl rfl rfl rfl (Nat.le_of_ble_eq_true rfl) dX1_goesOn_259 (fun H locs hP1 _ hS => ?_)
          obtain ⟨s16, e_s16, hf⟩ := dz_lo hf
          have hP : va_P D cl (mw ci h ad cA s16) H := by rw [e_s16]; exact hP1
          clear hP1; replace hD := mw_D s16 hD
          exact ih.2.2.2.2.2.2.2.2 v1 s16 H locs hP hD hS ls (lv_sub hl [0, 1] rfl) hf
    · intro v1 σ H locs hP hD hS ls hl hf
      have hf : (dz_l (σ.1 29) fun x1 => dz_l (x1 + 1) fun x2 => dz_l (mF σ 29 x2) fun s3 => (lfX1_goesOn K k).2.2.2.2.2.2.2.1 v1 s3 : Option pM) = some res := hf
      refine lv_aload_n hx hb dX1_goesOn_262 rfl (lv_at hl 0 rfl) ?_
      refine lv_dup hx hb dX1_goesOn_263 rfl ?_
      refine va_get (C := RX1) (T := TX1) (N := 35) (fs := mwF ad σ) (v := .int (σ.1 29)) hx hb hts in_X1 hown hK hP 0 rfl hci 29 (by decide) (hts _ q1700) (fun _ hq => hq) rfl dX1_goesOn_264 ?_
      refine lv_topi (fun x1 e_x1 => ?_)
      have hf := dz_ls e_x1 hf
      refine lv_iconst (v := 1) hx hb dX1_goesOn_267 (by decide) ?_
      refine lv_iadd hx hb dX1_goesOn_268 ?_
      refine lv_topi (fun x2 e_x2 => ?_)
      have hf := dz_ls e_x2 hf
      refine va_put (C := RX1) (T := TX1) (N := 35) (fs := mwF ad σ) hx hb hts in_X1 tyX1 tyX1_ok nmX1 hown hK hP hD hS 0 rfl hci 29 (by decide) (hts _ q1700) (fun _ hq => hq) rfl rfl rfl rfl (Nat.le_of_ble_eq_true rfl) dX1_goesOn_269 (fun H locs hP1 _ hS => ?_)
      obtain ⟨s3, e_s3, hf⟩ := dz_lo hf
      have hP : va_P D cl (mw ci h ad cA s3) H := by rw [e_s3]; exact hP1
      clear hP1; replace hD := mw_D s3 hD
      refine lv_goto (tgt := 210) hx hb dX1_goesOn_272 (by decide) ?_
      exact ih.2.2.2.2.2.2.2.1 v1 s3 H locs hP hD hS ls (lv_sub hl [0, 1] rfl) hf
set_option maxHeartbeats 4000000 in
set_option maxRecDepth 100000 in
theorem mtX1_goesOn (l : Launch) (D : va_G) (cl : List vw_C) (ci : Nat) (hci : cl[ci]? = some (RX1, TX1, 35)) (h : Nat) (ad : Nat → Nat) (cA : Nat → ClassId) (sz : Nat) (σ : pM)  (K : Nat) (res : pM) (hf : fnX1_goesOn K  σ = some res) : Met l yX1_goesOn (ws_ yX1_goesOn cX1_goesOn 4 (none)) ({ frames := 2, cells := 0, slots := 0, locals := 46 }) (mPc D cl ci h ad cA sz σ [.ref h]) (mQv D cl ci h ad cA (va_A (mw ci h ad cA σ) sz) res) 0 0 (va_A (mw ci h ad cA σ) sz) := by
  refine Met.ofW (cc := cX1_goesOn) (maxL := 4) (ret := none) (by decide +kernel) rfl ?_
  intro p e s m args below meth c s₁ B hml hv
  obtain ⟨rfl, hsz, hP, hK, hD0⟩ := hv
  have hx := B.exec
  have hb := B.bytes
  have hr := B.returns
  have hts := atoms_spec (ws := ws_ yX1_goesOn cX1_goesOn 4 (none)) B.pre
  have hts : ∀ w ∈ lw_all, w.before _ s = true := fun w h => hts w (List.mem_cons_of_mem _ h)
  have hown : s.vm.findClass RX1 = some m.cls := findClass_of_methodNamed B.named
  have hlocks := B.notSynchronized
  subst hsz
  have hD := hD0.self (sz := s.heap.size)
  generalize hAe : va_A (mw ci h ad cA σ) s.heap.size = A at hD ⊢
  have hA : ∀ q : Nat, s.heap.size ≤ q → A q := fun q h => by rw [← hAe]; exact Or.inr h
  clear hAe hD0
  have hS : va_S A s.heap s.heap [] := va_S.rf
  generalize hHe : s.heap = H at hP hS ⊢
  have hS : va_S A s.heap H [] := by rw [hHe]; exact hS
  generalize ([] : List Loc) = locs at hS ⊢
  have hl := lv_entry ([.ref h]) (n := 4) (Nat.le_of_ble_eq_true rfl)
  rw [lg_entry_eq]
  generalize (lg_sl ([.ref h]) ++ List.replicate (4 - (lg_sl ([.ref h])).length) Slot.unset).toArray = ls at hl ⊢
  have hl : lv_has ls 4 [(0, .ref h)] := hl
  have hf : (dz_l (σ.1 25) fun x1 => if x1 = (1 : Int32) then ((lfX1_goesOn K K).1 σ) else (dz_l (σ.1 25) fun x2 => if x2 = (2 : Int32) then ((lfX1_goesOn K K).1 σ) else (dz_l (σ.1 29) fun x3 => (lfX1_goesOn K K).2.1 0 x3 σ)) : Option pM) = some res := hf
  have ih := wlX1_goesOn (l := l) (e := e) (below := below) (h := h) (ad := ad) (cA := cA) hci hA hK K res  hx hb hr hlocks hml hown hts K
  refine lv_aload_n hx hb dX1_goesOn_0 rfl (lv_at hl 0 rfl) ?_
  refine va_get (C := RX1) (T := TX1) (N := 35) (fs := mwF ad σ) (v := .int (σ.1 25)) hx hb hts in_X1 hown hK hP 0 rfl hci 25 (by decide) (hts _ q1696) (fun _ hq => hq) rfl dX1_goesOn_1 ?_
  refine lv_topi (fun x1 e_x1 => ?_)
  have hf := dz_ls e_x1 hf
  refine lv_iconst (v := 1) hx hb dX1_goesOn_4 (by decide) ?_
  refine lv_icmp_eq (tgt := 16) hx hb dX1_goesOn_5 (by decide) (fun c5 => ?_) (fun c5 => ?_)
  · have hf := dz_t c5 hf
    exact ih.1 σ H locs hP hD hS ls (lv_sub hl [0] rfl) hf
  · have hf := dz_f c5 hf
    refine lv_aload_n hx hb dX1_goesOn_8 rfl (lv_at hl 0 rfl) ?_
    refine va_get (C := RX1) (T := TX1) (N := 35) (fs := mwF ad σ) (v := .int (σ.1 25)) hx hb hts in_X1 hown hK hP 0 rfl hci 25 (by decide) (hts _ q1696) (fun _ hq => hq) rfl dX1_goesOn_9 ?_
    refine lv_topi (fun x2 e_x2 => ?_)
    have hf := dz_ls e_x2 hf
    refine lv_iconst (v := 2) hx hb dX1_goesOn_12 (by decide) ?_
    refine lv_icmp_ne (tgt := 20) hx hb dX1_goesOn_13 (by decide) (fun c13 => ?_) (fun c13 => ?_)
    · have hf := dz_f c13 hf
      refine lv_iconst (v := 0) hx hb dX1_goesOn_20 (by decide) ?_
      refine lv_istore_n (lv' := [(1, .int 0), (0, .ref h)]) hx hb dX1_goesOn_21 rfl hl (by decide) rfl (fun ls hl => ?_)
      refine lv_aload_n hx hb dX1_goesOn_22 rfl (lv_at hl 1 rfl) ?_
      refine va_get (C := RX1) (T := TX1) (N := 35) (fs := mwF ad σ) (v := .int (σ.1 29)) hx hb hts in_X1 hown hK hP 0 rfl hci 29 (by decide) (hts _ q1700) (fun _ hq => hq) rfl dX1_goesOn_23 ?_
      refine lv_topi (fun x3 e_x3 => ?_)
      have hf := dz_ls e_x3 hf
      refine lv_istore_n (lv' := [(2, .int x3), (1, .int 0), (0, .ref h)]) hx hb dX1_goesOn_26 rfl hl (by decide) rfl (fun ls hl => ?_)
      exact ih.2.1 0 x3 σ H locs hP hD hS ls (lv_sub hl [2, 1, 0] rfl) hf
    · have hf := dz_t c13 hf
      exact ih.1 σ H locs hP hD hS ls (lv_sub hl [0] rfl) hf

noncomputable def lfX1_needsWord (K : Nat) : Nat → (pM → Option pM) := Nat.rec (motive := fun _ => (pM → Option pM)) (fun _ => none) (fun _ G => (fun σ => dz_b (fnX1_fails K σ) fun s2 => some s2))
noncomputable def fnX1_needsWord (K : Nat) (a0 : Int32) (σ : pM) : Option pM := dz_l (σ.1 30) fun x1 => if x1 = (-1 : Int32) then (dz_l (σ.1 25) fun x2 => if x2 = (1 : Int32) then (dz_l (σ.1 27) fun x3 => if x3 = a0 then (dz_b (fnX1_goesOn K σ) fun s5 => some s5) else ((lfX1_needsWord K K) σ)) else ((lfX1_needsWord K K) σ)) else (some σ)
set_option maxHeartbeats 4000000 in
set_option maxRecDepth 100000 in
theorem wlX1_needsWord {p : Program} {l : Launch} {e : Env} {s : State} {m : MethodId} {below : List Frame} {meth : Method} {c : Code} {D : va_G} {cl : List vw_C} {ci : Nat} (hci : cl[ci]? = some (RX1, TX1, 35)) {h : Nat} {ad : Nat → Nat} {cA : Nat → ClassId} {A : Nat → Prop} (hA : ∀ q : Nat, s.heap.size ≤ q → A q) (hK : va_K D cl (mtys cA) s) (K : Nat) (res : pM) (a0 : Int32) (hx : p.tables.exec = Jvm.exec) (hb : c.code = cX1_needsWord) (hr : meth.sig.returnType = none) (hlocks : meth.locks = false) (hml : c.maxLocals = 2) (hown : s.vm.findClass RX1 = some m.cls) (hts : ∀ w ∈ lw_all, w.before ([.ref h, .int a0] : List Value).toArray s = true) : ∀ k : Nat, (∀  (σ : pM) (H : Heap) (locs : List Loc), va_P D cl (mw ci h ad cA σ) H → va_D A (mw ci h ad cA σ) → va_S A s.heap H locs → ∀ (ls : Array Slot), lv_has ls 2 [(0, .ref h)] → (lfX1_needsWord K k) σ = some res → W p l e (headSpec (ws_ yX1_needsWord cX1_needsWord 2 (none)) ({ frames := 3, cells := 0, slots := 0, locals := 69 })).room s m ([.ref h, .int a0] : List Value).toArray below meth c H locs 0 0 (MQ below (mQv D cl ci h ad cA A res) ([.ref h, .int a0] : List Value).toArray s 0 0 A) (F0 m 25 ls [])) := by
  intro k
  induction k with
  | zero =>
    exact fun _ _ _ _ _ _ _ _ hf => (by cases hf)
  | succ k ih =>
    · intro σ H locs hP hD hS ls hl hf
      have hf : (dz_b (fnX1_fails K σ) fun s2 => some s2 : Option pM) = some res := hf
      refine lv_aload_n hx hb dX1_needsWord_25 rfl (lv_at hl 0 rfl) ?_
      obtain ⟨s2, hx1, hf⟩ := dz_bo hf
      have hFc := dz_free hD hS hA
      refine va_callv (va_runV (As := []) (rest := []) ⟨hx, hb, hml, hown, hts⟩ (mtX1_fails l D cl ci hci h ad cA H.size σ K s2 hx1) (cwV 0 hts (lw_V q1977 q1979 qs67 q88 q1980) rfl rfl rfl (by decide +kernel) ⟨Nat.le_of_ble_eq_true rfl, Nat.le_of_ble_eq_true rfl⟩) (m_preV hci hK hP hD) rfl rfl hl.1 rfl (lv_room (Nat.le_of_ble_eq_true rfl)) dX1_needsWord_26 ⟨Nat.le_refl _, Nat.le_refl _⟩) hS (fun q _ hq => hFc q hq) hFc (fun u t H1 locs ht hvm hw hB hz hk hS => ?_)
      replace hw := hw.symm; subst hw
      replace hP := m_back ht hB
      replace hD := mw_D s2 hD
      clear hB hk hz hvm ht hFc; generalize H1 = H at hP hS ⊢
      refine lv_goto (tgt := 36) hx hb dX1_needsWord_29 (by decide) ?_
      exact W.vret hx hb hr (fun t ht hW => ⟨⟨s2, rfl, Option.some.inj hf, by rw [ht]; exact hP, va_K.moved hW.alike hK, hD⟩, hS.F ht⟩) hS.2.2 dX1_needsWord_36
set_option maxHeartbeats 4000000 in
set_option maxRecDepth 100000 in
theorem mtX1_needsWord (l : Launch) (D : va_G) (cl : List vw_C) (ci : Nat) (hci : cl[ci]? = some (RX1, TX1, 35)) (h : Nat) (ad : Nat → Nat) (cA : Nat → ClassId) (sz : Nat) (σ : pM) (a0 : Int32) (K : Nat) (res : pM) (hf : fnX1_needsWord K a0 σ = some res) : Met l yX1_needsWord (ws_ yX1_needsWord cX1_needsWord 2 (none)) ({ frames := 3, cells := 0, slots := 0, locals := 69 }) (mPc D cl ci h ad cA sz σ [.ref h, .int a0]) (mQv D cl ci h ad cA (va_A (mw ci h ad cA σ) sz) res) 0 0 (va_A (mw ci h ad cA σ) sz) := by
  refine Met.ofW (cc := cX1_needsWord) (maxL := 2) (ret := none) (by decide +kernel) rfl ?_
  intro p e s m args below meth c s₁ B hml hv
  obtain ⟨rfl, hsz, hP, hK, hD0⟩ := hv
  have hx := B.exec
  have hb := B.bytes
  have hr := B.returns
  have hts := atoms_spec (ws := ws_ yX1_needsWord cX1_needsWord 2 (none)) B.pre
  have hts : ∀ w ∈ lw_all, w.before _ s = true := fun w h => hts w (List.mem_cons_of_mem _ h)
  have hown : s.vm.findClass RX1 = some m.cls := findClass_of_methodNamed B.named
  have hlocks := B.notSynchronized
  subst hsz
  have hD := hD0.self (sz := s.heap.size)
  generalize hAe : va_A (mw ci h ad cA σ) s.heap.size = A at hD ⊢
  have hA : ∀ q : Nat, s.heap.size ≤ q → A q := fun q h => by rw [← hAe]; exact Or.inr h
  clear hAe hD0
  have hS : va_S A s.heap s.heap [] := va_S.rf
  generalize hHe : s.heap = H at hP hS ⊢
  have hS : va_S A s.heap H [] := by rw [hHe]; exact hS
  generalize ([] : List Loc) = locs at hS ⊢
  have hl := lv_entry ([.ref h, .int a0]) (n := 2) (Nat.le_of_ble_eq_true rfl)
  rw [lg_entry_eq]
  generalize (lg_sl ([.ref h, .int a0]) ++ List.replicate (2 - (lg_sl ([.ref h, .int a0])).length) Slot.unset).toArray = ls at hl ⊢
  have hl : lv_has ls 2 [(0, .ref h), (1, .int a0)] := hl
  have hf : (dz_l (σ.1 30) fun x1 => if x1 = (-1 : Int32) then (dz_l (σ.1 25) fun x2 => if x2 = (1 : Int32) then (dz_l (σ.1 27) fun x3 => if x3 = a0 then (dz_b (fnX1_goesOn K σ) fun s5 => some s5) else ((lfX1_needsWord K K) σ)) else ((lfX1_needsWord K K) σ)) else (some σ) : Option pM) = some res := hf
  have ih := wlX1_needsWord (l := l) (e := e) (below := below) (h := h) (ad := ad) (cA := cA) hci hA hK K res a0 hx hb hr hlocks hml hown hts K
  refine lv_aload_n hx hb dX1_needsWord_0 rfl (lv_at hl 0 rfl) ?_
  refine va_get (C := RX1) (T := TX1) (N := 35) (fs := mwF ad σ) (v := .int (σ.1 30)) hx hb hts in_X1 hown hK hP 0 rfl hci 30 (by decide) (hts _ q1701) (fun _ hq => hq) rfl dX1_needsWord_1 ?_
  refine lv_topi (fun x1 e_x1 => ?_)
  have hf := dz_ls e_x1 hf
  refine lv_iconst (v := (-1)) hx hb dX1_needsWord_4 (by decide) ?_
  refine lv_icmp_eq (tgt := 9) hx hb dX1_needsWord_5 (by decide) (fun c5 => ?_) (fun c5 => ?_)
  · have hf := dz_t c5 hf
    refine lv_aload_n hx hb dX1_needsWord_9 rfl (lv_at hl 0 rfl) ?_
    refine va_get (C := RX1) (T := TX1) (N := 35) (fs := mwF ad σ) (v := .int (σ.1 25)) hx hb hts in_X1 hown hK hP 0 rfl hci 25 (by decide) (hts _ q1696) (fun _ hq => hq) rfl dX1_needsWord_10 ?_
    refine lv_topi (fun x2 e_x2 => ?_)
    have hf := dz_ls e_x2 hf
    refine lv_iconst (v := 1) hx hb dX1_needsWord_13 (by decide) ?_
    refine lv_icmp_ne (tgt := 25) hx hb dX1_needsWord_14 (by decide) (fun c14 => ?_) (fun c14 => ?_)
    · have hf := dz_f c14 hf
      exact ih σ H locs hP hD hS ls (lv_sub hl [0] rfl) hf
    · have hf := dz_t c14 hf
      refine lv_aload_n hx hb dX1_needsWord_17 rfl (lv_at hl 0 rfl) ?_
      refine va_get (C := RX1) (T := TX1) (N := 35) (fs := mwF ad σ) (v := .int (σ.1 27)) hx hb hts in_X1 hown hK hP 0 rfl hci 27 (by decide) (hts _ q1698) (fun _ hq => hq) rfl dX1_needsWord_18 ?_
      refine lv_topi (fun x3 e_x3 => ?_)
      have hf := dz_ls e_x3 hf
      refine lv_iload_n hx hb dX1_needsWord_21 rfl (lv_at hl 1 rfl) ?_
      refine lv_icmp_eq (tgt := 32) hx hb dX1_needsWord_22 (by decide) (fun c22 => ?_) (fun c22 => ?_)
      · have hf := dz_t c22 hf
        refine lv_aload_n hx hb dX1_needsWord_32 rfl (lv_at hl 0 rfl) ?_
        obtain ⟨s5, hx4, hf⟩ := dz_bo hf
        have hFc := dz_free hD hS hA
        refine va_callv (va_runV (As := []) (rest := []) ⟨hx, hb, hml, hown, hts⟩ (mtX1_goesOn l D cl ci hci h ad cA H.size σ K s5 hx4) (cwV 0 hts (lw_V q1948 q1950 qs61 q88 q1951) rfl rfl rfl (by decide +kernel) ⟨Nat.le_of_ble_eq_true rfl, Nat.le_of_ble_eq_true rfl⟩) (m_preV hci hK hP hD) rfl rfl hl.1 rfl (lv_room (Nat.le_of_ble_eq_true rfl)) dX1_needsWord_33 ⟨Nat.le_refl _, Nat.le_refl _⟩) hS (fun q _ hq => hFc q hq) hFc (fun u t H1 locs ht hvm hw hB hz hk hS => ?_)
        replace hw := hw.symm; subst hw
        replace hP := m_back ht hB
        replace hD := mw_D s5 hD
        clear hB hk hz hvm ht hFc; generalize H1 = H at hP hS ⊢
        exact W.vret hx hb hr (fun t ht hW => ⟨⟨s5, rfl, Option.some.inj hf, by rw [ht]; exact hP, va_K.moved hW.alike hK, hD⟩, hS.F ht⟩) hS.2.2 dX1_needsWord_36
      · have hf := dz_f c22 hf
        exact ih σ H locs hP hD hS ls (lv_sub hl [0] rfl) hf
  · have hf := dz_f c5 hf
    exact W.vret hx hb hr (fun t ht hW => ⟨⟨σ, rfl, Option.some.inj hf, by rw [ht]; exact hP, va_K.moved hW.alike hK, hD⟩, hS.F ht⟩) hS.2.2 dX1_needsWord_8

noncomputable def lfX1_needsInt (K : Nat) : Nat → (Int32 → pM → Option (Int32 × pM)) := Nat.rec (motive := fun _ => (Int32 → pM → Option (Int32 × pM))) (fun _ _ => none) (fun _ G => (fun v1 σ => dz_b (fnX1_fails K σ) fun s2 => some (v1, s2)))
noncomputable def fnX1_needsInt (K : Nat) (a0 : Int32) (a1 : Int32) (σ : pM) : Option (Int32 × pM) := dz_l (σ.1 30) fun x1 => if x1 = (-1 : Int32) then (dz_l (σ.1 25) fun x2 => if x2 = (2 : Int32) then (dz_l (σ.2.1) fun x3 => dz_b (fnX1_in K x3 (Int32.toInt64 a0) (Int32.toInt64 a1)) fun x4 => if x4 = (0 : Int32) then ((lfX1_needsInt K K) a0 σ) else (dz_l (σ.2.1) fun x5 => dz_l (Int64.toInt32 x5) fun x6 => dz_b (fnX1_goesOn K σ) fun s8 => some (x6, s8))) else ((lfX1_needsInt K K) a0 σ)) else (some (a0, σ))
set_option maxHeartbeats 4000000 in
set_option maxRecDepth 100000 in
theorem wlX1_needsInt {p : Program} {l : Launch} {e : Env} {s : State} {m : MethodId} {below : List Frame} {meth : Method} {c : Code} {D : va_G} {cl : List vw_C} {ci : Nat} (hci : cl[ci]? = some (RX1, TX1, 35)) {h : Nat} {ad : Nat → Nat} {cA : Nat → ClassId} {A : Nat → Prop} (hA : ∀ q : Nat, s.heap.size ≤ q → A q) (hK : va_K D cl (mtys cA) s) (K : Nat) (res : (Int32 × pM)) (a0 : Int32) (a1 : Int32) (hx : p.tables.exec = Jvm.exec) (hb : c.code = cX1_needsInt) (hr : meth.sig.returnType = some .int) (hlocks : meth.locks = false) (hml : c.maxLocals = 4) (hown : s.vm.findClass RX1 = some m.cls) (hts : ∀ w ∈ lw_all, w.before ([.ref h, .int a0, .int a1] : List Value).toArray s = true) : ∀ k : Nat, (∀ (v1 : Int32) (σ : pM) (H : Heap) (locs : List Loc), va_P D cl (mw ci h ad cA σ) H → va_D A (mw ci h ad cA σ) → va_S A s.heap H locs → ∀ (ls : Array Slot), lv_has ls 4 [(0, .ref h), (1, .int v1)] → (lfX1_needsInt K k) v1 σ = some res → W p l e (headSpec (ws_ yX1_needsInt cX1_needsInt 4 (some .int)) ({ frames := 3, cells := 0, slots := 0, locals := 69 })).room s m ([.ref h, .int a0, .int a1] : List Value).toArray below meth c H locs 0 0 (MQ below (mQi D cl ci h ad cA A res) ([.ref h, .int a0, .int a1] : List Value).toArray s 0 0 A) (F0 m 32 ls [])) := by
  intro k
  induction k with
  | zero =>
    exact fun _ _ _ _ _ _ _ _ _ hf => (by cases hf)
  | succ k ih =>
    · intro v1 σ H locs hP hD hS ls hl hf
      have hf : (dz_b (fnX1_fails K σ) fun s2 => some (v1, s2) : Option (Int32 × pM)) = some res := hf
      refine lv_aload_n hx hb dX1_needsInt_32 rfl (lv_at hl 0 rfl) ?_
      obtain ⟨s2, hx1, hf⟩ := dz_bo hf
      have hFc := dz_free hD hS hA
      refine va_callv (va_runV (As := []) (rest := []) ⟨hx, hb, hml, hown, hts⟩ (mtX1_fails l D cl ci hci h ad cA H.size σ K s2 hx1) (cwV 0 hts (lw_V q1977 q1979 qs67 q88 q1980) rfl rfl rfl (by decide +kernel) ⟨Nat.le_of_ble_eq_true rfl, Nat.le_of_ble_eq_true rfl⟩) (m_preV hci hK hP hD) rfl rfl hl.1 rfl (lv_room (Nat.le_of_ble_eq_true rfl)) dX1_needsInt_33 ⟨Nat.le_refl _, Nat.le_refl _⟩) hS (fun q _ hq => hFc q hq) hFc (fun u t H1 locs ht hvm hw hB hz hk hS => ?_)
      replace hw := hw.symm; subst hw
      replace hP := m_back ht hB
      replace hD := mw_D s2 hD
      clear hB hk hz hvm ht hFc; generalize H1 = H at hP hS ⊢
      refine lv_iload_n hx hb dX1_needsInt_36 rfl (lv_at hl 1 rfl) ?_
      exact W.iret (v := v1) hx hb hr (fun t ht hW => ⟨⟨v1, s2, rfl, Option.some.inj hf, by rw [ht]; exact hP, va_K.moved hW.alike hK, hD⟩, hS.F ht⟩) hS.2.2 dX1_needsInt_37
set_option maxHeartbeats 4000000 in
set_option maxRecDepth 100000 in
theorem mtX1_needsInt (l : Launch) (D : va_G) (cl : List vw_C) (ci : Nat) (hci : cl[ci]? = some (RX1, TX1, 35)) (h : Nat) (ad : Nat → Nat) (cA : Nat → ClassId) (sz : Nat) (σ : pM) (a0 : Int32) (a1 : Int32) (K : Nat) (res : (Int32 × pM)) (hf : fnX1_needsInt K a0 a1 σ = some res) : Met l yX1_needsInt (ws_ yX1_needsInt cX1_needsInt 4 (some .int)) ({ frames := 3, cells := 0, slots := 0, locals := 69 }) (mPc D cl ci h ad cA sz σ [.ref h, .int a0, .int a1]) (mQi D cl ci h ad cA (va_A (mw ci h ad cA σ) sz) res) 0 0 (va_A (mw ci h ad cA σ) sz) := by
  refine Met.ofW (cc := cX1_needsInt) (maxL := 4) (ret := some .int) (by decide +kernel) rfl ?_
  intro p e s m args below meth c s₁ B hml hv
  obtain ⟨rfl, hsz, hP, hK, hD0⟩ := hv
  have hx := B.exec
  have hb := B.bytes
  have hr := B.returns
  have hts := atoms_spec (ws := ws_ yX1_needsInt cX1_needsInt 4 (some .int)) B.pre
  have hts : ∀ w ∈ lw_all, w.before _ s = true := fun w h => hts w (List.mem_cons_of_mem _ h)
  have hown : s.vm.findClass RX1 = some m.cls := findClass_of_methodNamed B.named
  have hlocks := B.notSynchronized
  subst hsz
  have hD := hD0.self (sz := s.heap.size)
  generalize hAe : va_A (mw ci h ad cA σ) s.heap.size = A at hD ⊢
  have hA : ∀ q : Nat, s.heap.size ≤ q → A q := fun q h => by rw [← hAe]; exact Or.inr h
  clear hAe hD0
  have hS : va_S A s.heap s.heap [] := va_S.rf
  generalize hHe : s.heap = H at hP hS ⊢
  have hS : va_S A s.heap H [] := by rw [hHe]; exact hS
  generalize ([] : List Loc) = locs at hS ⊢
  have hl := lv_entry ([.ref h, .int a0, .int a1]) (n := 4) (Nat.le_of_ble_eq_true rfl)
  rw [lg_entry_eq]
  generalize (lg_sl ([.ref h, .int a0, .int a1]) ++ List.replicate (4 - (lg_sl ([.ref h, .int a0, .int a1])).length) Slot.unset).toArray = ls at hl ⊢
  have hl : lv_has ls 4 [(0, .ref h), (1, .int a0), (2, .int a1)] := hl
  have hf : (dz_l (σ.1 30) fun x1 => if x1 = (-1 : Int32) then (dz_l (σ.1 25) fun x2 => if x2 = (2 : Int32) then (dz_l (σ.2.1) fun x3 => dz_b (fnX1_in K x3 (Int32.toInt64 a0) (Int32.toInt64 a1)) fun x4 => if x4 = (0 : Int32) then ((lfX1_needsInt K K) a0 σ) else (dz_l (σ.2.1) fun x5 => dz_l (Int64.toInt32 x5) fun x6 => dz_b (fnX1_goesOn K σ) fun s8 => some (x6, s8))) else ((lfX1_needsInt K K) a0 σ)) else (some (a0, σ)) : Option (Int32 × pM)) = some res := hf
  have ih := wlX1_needsInt (l := l) (e := e) (below := below) (h := h) (ad := ad) (cA := cA) hci hA hK K res a0 a1 hx hb hr hlocks hml hown hts K
  refine lv_aload_n hx hb dX1_needsInt_0 rfl (lv_at hl 0 rfl) ?_
  refine va_get (C := RX1) (T := TX1) (N := 35) (fs := mwF ad σ) (v := .int (σ.1 30)) hx hb hts in_X1 hown hK hP 0 rfl hci 30 (by decide) (hts _ q1701) (fun _ hq => hq) rfl dX1_needsInt_1 ?_
  refine lv_topi (fun x1 e_x1 => ?_)
  have hf := dz_ls e_x1 hf
  refine lv_iconst (v := (-1)) hx hb dX1_needsInt_4 (by decide) ?_
  refine lv_icmp_eq (tgt := 10) hx hb dX1_needsInt_5 (by decide) (fun c5 => ?_) (fun c5 => ?_)
  · have hf := dz_t c5 hf
    refine lv_aload_n hx hb dX1_needsInt_10 rfl (lv_at hl 0 rfl) ?_
    refine va_get (C := RX1) (T := TX1) (N := 35) (fs := mwF ad σ) (v := .int (σ.1 25)) hx hb hts in_X1 hown hK hP 0 rfl hci 25 (by decide) (hts _ q1696) (fun _ hq => hq) rfl dX1_needsInt_11 ?_
    refine lv_topi (fun x2 e_x2 => ?_)
    have hf := dz_ls e_x2 hf
    refine lv_iconst (v := 2) hx hb dX1_needsInt_14 (by decide) ?_
    refine lv_icmp_ne (tgt := 32) hx hb dX1_needsInt_15 (by decide) (fun c15 => ?_) (fun c15 => ?_)
    · have hf := dz_f c15 hf
      exact ih a0 σ H locs hP hD hS ls (lv_sub hl [0, 1] rfl) hf
    · have hf := dz_t c15 hf
      refine lv_aload_n hx hb dX1_needsInt_18 rfl (lv_at hl 0 rfl) ?_
      refine va_get (C := RX1) (T := TX1) (N := 35) (fs := mwF ad σ) (v := .long σ.2.1) hx hb hts in_X1 hown hK hP 0 rfl hci 28 (by decide) (hts _ q1699) (fun _ hq => hq) rfl dX1_needsInt_19 ?_
      refine lv_topl (fun x3 e_x3 => ?_)
      have hf := dz_ls e_x3 hf
      refine lv_iload_n hx hb dX1_needsInt_22 rfl (lv_at hl 1 rfl) ?_
      refine lv_i2l hx hb dX1_needsInt_23 (rfl : _ = Int32.toInt64 a0) ?_
      refine lv_iload_n hx hb dX1_needsInt_24 rfl (lv_at hl 2 rfl) ?_
      refine lv_i2l hx hb dX1_needsInt_25 (rfl : _ = Int32.toInt64 a1) ?_
      obtain ⟨x4, hx4, hf⟩ := dz_bo hf
      refine va_calli (va_runS (As := [.long x3, .long (Int32.toInt64 a0), .long (Int32.toInt64 a1)]) (rest := []) ⟨hx, hb, hml, hown, hts⟩ (mtX1_in l x3 (Int32.toInt64 a0) (Int32.toInt64 a1) K x4 hx4) (va_cwS 3 hts (lw_S q1783 q1784 q88 q1785) rfl rfl rfl (by decide +kernel) ⟨Nat.le_of_ble_eq_true rfl, Nat.le_of_ble_eq_true rfl⟩) ⟨fun a U g mk q => q, fun U hU hW => ⟨rfl, trivial⟩⟩ rfl rfl hl.1 rfl (lv_room (Nat.le_of_ble_eq_true rfl)) dX1_needsInt_26 ⟨Nat.le_refl _, Nat.le_refl _⟩) hS (fun q _ hq => hq.elim) (fun q hq => hq.elim) (fun r u t H1 locs ht hvm hw hB hz hk hS => ?_)
      replace hw := hw.symm; subst hw
      replace hP := dz_keep hP hk
      clear hB hk hz hvm ht; generalize H1 = H at hP hS ⊢
      refine lv_if_ne (tgt := 38) hx hb dX1_needsInt_29 (by decide) (fun c29 => ?_) (fun c29 => ?_)
      · have hf := dz_f c29 hf
        refine lv_aload_n hx hb dX1_needsInt_38 rfl (lv_at hl 0 rfl) ?_
        refine va_get (C := RX1) (T := TX1) (N := 35) (fs := mwF ad σ) (v := .long σ.2.1) hx hb hts in_X1 hown hK hP 0 rfl hci 28 (by decide) (hts _ q1699) (fun _ hq => hq) rfl dX1_needsInt_39 ?_
        refine lv_topl (fun x5 e_x5 => ?_)
        have hf := dz_ls e_x5 hf
        refine lv_l2i hx hb dX1_needsInt_42 (rfl : _ = Int64.toInt32 x5) ?_
        refine lv_topi (fun x6 e_x6 => ?_)
        have hf := dz_ls e_x6 hf
        refine lv_istore_n (lv' := [(3, .int x6), (0, .ref h), (1, .int a0), (2, .int a1)]) hx hb dX1_needsInt_43 rfl hl (by decide) rfl (fun ls hl => ?_)
        refine lv_aload_n hx hb dX1_needsInt_44 rfl (lv_at hl 1 rfl) ?_
        obtain ⟨s8, hx7, hf⟩ := dz_bo hf
        have hFc := dz_free hD hS hA
        refine va_callv (va_runV (As := []) (rest := []) ⟨hx, hb, hml, hown, hts⟩ (mtX1_goesOn l D cl ci hci h ad cA H.size σ K s8 hx7) (cwV 0 hts (lw_V q1948 q1950 qs61 q88 q1951) rfl rfl rfl (by decide +kernel) ⟨Nat.le_of_ble_eq_true rfl, Nat.le_of_ble_eq_true rfl⟩) (m_preV hci hK hP hD) rfl rfl hl.1 rfl (lv_room (Nat.le_of_ble_eq_true rfl)) dX1_needsInt_45 ⟨Nat.le_refl _, Nat.le_refl _⟩) hS (fun q _ hq => hFc q hq) hFc (fun u t H1 locs ht hvm hw hB hz hk hS => ?_)
        replace hw := hw.symm; subst hw
        replace hP := m_back ht hB
        replace hD := mw_D s8 hD
        clear hB hk hz hvm ht hFc; generalize H1 = H at hP hS ⊢
        refine lv_iload_n hx hb dX1_needsInt_48 rfl (lv_at hl 0 rfl) ?_
        exact W.iret (v := x6) hx hb hr (fun t ht hW => ⟨⟨x6, s8, rfl, Option.some.inj hf, by rw [ht]; exact hP, va_K.moved hW.alike hK, hD⟩, hS.F ht⟩) hS.2.2 dX1_needsInt_49
      · have hf := dz_t c29 hf
        exact ih a0 σ H locs hP hD hS ls (lv_sub hl [0, 1] rfl) hf
  · have hf := dz_f c5 hf
    refine lv_iload_n hx hb dX1_needsInt_8 rfl (lv_at hl 1 rfl) ?_
    exact W.iret (v := a0) hx hb hr (fun t ht hW => ⟨⟨a0, σ, rfl, Option.some.inj hf, by rw [ht]; exact hP, va_K.moved hW.alike hK, hD⟩, hS.F ht⟩) hS.2.2 dX1_needsInt_9

noncomputable def lfX1_hasDowns (K : Nat) : Nat → (Option Int32) := Nat.rec (motive := fun _ => (Option Int32)) (none) (fun _ G => (some 1))
noncomputable def fnX1_hasDowns (K : Nat) (a0 : Int32) : Option Int32 := if a0 = (1 : Int32) then ((lfX1_hasDowns K K) ) else (if a0 = (2 : Int32) then ((lfX1_hasDowns K K) ) else (if a0 = (4 : Int32) then ((lfX1_hasDowns K K) ) else (some 0)))
set_option maxHeartbeats 4000000 in
set_option maxRecDepth 100000 in
theorem wlX1_hasDowns {p : Program} {l : Launch} {e : Env} {s : State} {m : MethodId} {below : List Frame} {meth : Method} {c : Code}  (K : Nat) (res : Int32) (a0 : Int32) (hx : p.tables.exec = Jvm.exec) (hb : c.code = cX1_hasDowns) (hr : meth.sig.returnType = some .boolean) (hlocks : meth.locks = false) (hml : c.maxLocals = 1) (hown : s.vm.findClass RX1 = some m.cls) (hts : ∀ w ∈ lw_all, w.before ([.int a0] : List Value).toArray s = true) : ∀ k : Nat, (∀  (H : Heap) (locs : List Loc), va_S (fun _ => False) s.heap H locs → ∀ (ls : Array Slot), lv_has ls 1 [] → (lfX1_hasDowns K k)  = some res → W p l e (headSpec (ws_ yX1_hasDowns cX1_hasDowns 1 (some .boolean)) ({ frames := 0, cells := 0, slots := 0, locals := 0 })).room s m ([.int a0] : List Value).toArray below meth c H locs 0 0 (MQ below (dz_Qi res) ([.int a0] : List Value).toArray s 0 0 (fun _ => False)) (F0 m 15 ls [])) := by
  intro k
  induction k with
  | zero =>
    exact fun _ _ _ _ _ hf => (by cases hf)
  | succ k ih =>
    · intro  H locs hS ls hl hf
      have hf : (some 1 : Option Int32) = some res := hf
      refine lv_iconst (v := 1) hx hb dX1_hasDowns_15 (by decide) ?_
      refine lv_goto (tgt := 20) hx hb dX1_hasDowns_16 (by decide) ?_
      exact W.zret (v := 1) hx hb hr rfl (fun t ht hW => ⟨⟨1, (), rfl, Option.some.inj hf, trivial⟩, hS.F ht⟩) hS.2.2 dX1_hasDowns_20
set_option maxHeartbeats 4000000 in
set_option maxRecDepth 100000 in
theorem mtX1_hasDowns (l : Launch) (a0 : Int32) (K : Nat) (res : Int32) (hf : fnX1_hasDowns K a0 = some res) : Met l yX1_hasDowns (ws_ yX1_hasDowns cX1_hasDowns 1 (some .boolean)) ({ frames := 0, cells := 0, slots := 0, locals := 0 }) (dz_P [.int a0]) (dz_Qi res) 0 0 (fun _ => False) := by
  refine Met.ofW (cc := cX1_hasDowns) (maxL := 1) (ret := some .boolean) (by decide +kernel) rfl ?_
  intro p e s m args below meth c s₁ B hml hv
  obtain ⟨rfl, -⟩ := hv
  have hx := B.exec
  have hb := B.bytes
  have hr := B.returns
  have hts := atoms_spec (ws := ws_ yX1_hasDowns cX1_hasDowns 1 (some .boolean)) B.pre
  have hts : ∀ w ∈ lw_all, w.before _ s = true := fun w h => hts w (List.mem_cons_of_mem _ h)
  have hown : s.vm.findClass RX1 = some m.cls := findClass_of_methodNamed B.named
  have hlocks := B.notSynchronized
  have hS : va_S (fun _ => False) s.heap s.heap [] := va_S.rf
  generalize hHe : s.heap = H at hS ⊢
  have hS : va_S (fun _ => False) s.heap H [] := by rw [hHe]; exact hS
  generalize ([] : List Loc) = locs at hS ⊢
  have hl := lv_entry ([.int a0]) (n := 1) (Nat.le_of_ble_eq_true rfl)
  rw [lg_entry_eq]
  generalize (lg_sl ([.int a0]) ++ List.replicate (1 - (lg_sl ([.int a0])).length) Slot.unset).toArray = ls at hl ⊢
  have hl : lv_has ls 1 [(0, .int a0)] := hl
  have hf : (if a0 = (1 : Int32) then ((lfX1_hasDowns K K) ) else (if a0 = (2 : Int32) then ((lfX1_hasDowns K K) ) else (if a0 = (4 : Int32) then ((lfX1_hasDowns K K) ) else (some 0))) : Option Int32) = some res := hf
  have ih := wlX1_hasDowns (l := l) (e := e) (below := below) K res a0 hx hb hr hlocks hml hown hts K
  refine lv_iload_n hx hb dX1_hasDowns_0 rfl (lv_at hl 0 rfl) ?_
  refine lv_iconst (v := 1) hx hb dX1_hasDowns_1 (by decide) ?_
  refine lv_icmp_eq (tgt := 15) hx hb dX1_hasDowns_2 (by decide) (fun c2 => ?_) (fun c2 => ?_)
  · have hf := dz_t c2 hf
    exact ih  H locs hS ls (lv_sub hl [] rfl) hf
  · have hf := dz_f c2 hf
    refine lv_iload_n hx hb dX1_hasDowns_5 rfl (lv_at hl 0 rfl) ?_
    refine lv_iconst (v := 2) hx hb dX1_hasDowns_6 (by decide) ?_
    refine lv_icmp_eq (tgt := 15) hx hb dX1_hasDowns_7 (by decide) (fun c7 => ?_) (fun c7 => ?_)
    · have hf := dz_t c7 hf
      exact ih  H locs hS ls (lv_sub hl [] rfl) hf
    · have hf := dz_f c7 hf
      refine lv_iload_n hx hb dX1_hasDowns_10 rfl (lv_at hl 0 rfl) ?_
      refine lv_iconst (v := 4) hx hb dX1_hasDowns_11 (by decide) ?_
      refine lv_icmp_ne (tgt := 19) hx hb dX1_hasDowns_12 (by decide) (fun c12 => ?_) (fun c12 => ?_)
      · have hf := dz_f c12 hf
        refine lv_iconst (v := 0) hx hb dX1_hasDowns_19 (by decide) ?_
        exact W.zret (v := 0) hx hb hr rfl (fun t ht hW => ⟨⟨0, (), rfl, Option.some.inj hf, trivial⟩, hS.F ht⟩) hS.2.2 dX1_hasDowns_20
      · have hf := dz_t c12 hf
        exact ih  H locs hS ls (lv_sub hl [] rfl) hf

noncomputable def lfX1_readsDowns (K : Nat) : Nat → (Int32 → Int32 → pM → Option pM) × (Int32 → Int32 → pM → Option pM) × (Int32 → Int32 → pM → Option pM) := Nat.rec (motive := fun _ => (Int32 → Int32 → pM → Option pM) × (Int32 → Int32 → pM → Option pM) × (Int32 → Int32 → pM → Option pM)) ((fun _ _ _ => none), (fun _ _ _ => none), (fun _ _ _ => none)) (fun _ G => ((fun v1 v2 σ => dz_l (σ.1 30) fun x1 => if x1 = (-1 : Int32) then (dz_l (σ.1 25) fun x2 => if x2 = (2 : Int32) then (if ¬ (v1 < 0 ∨ 116 ≤ Int32.toNatClampNeg v1) then (dz_l (σ.2.2.1 12 (Int32.toNatClampNeg v1)) fun x4 => if x4 = (9 : Int32) then (dz_b (fnX1_fails K σ) fun s6 => G.2.1 v1 v2 s6) else (G.2.1 v1 v2 σ)) else none) else (some σ)) else (some σ)), (fun v1 v2 σ => dz_c (fnX1_needsInt K 2 1000000000 σ) fun x1 s2 => dz_c (fnX1_needsInt K 1 30 s2) fun x3 s4 => if v2 ≤ (0 : Int32) then (dz_c (fnX1_needsInt K 2 999 s4) fun x5 s6 => dz_l (s6.1 30) fun x7 => if x7 = (-1 : Int32) then (dz_b (fnX1_addsDown K v1 x1 x3 x5 s6) fun s9 => G.2.2 v1 v2 s9) else (G.2.2 v1 v2 s6)) else (dz_l (s4.1 30) fun x10 => if x10 = (-1 : Int32) then (dz_b (fnX1_addsDown K v1 x1 x3 v2 s4) fun s12 => G.2.2 v1 v2 s12) else (G.2.2 v1 v2 s4))), (fun v1 v2 σ => G.1 v1 v2 σ)))
noncomputable def fnX1_readsDowns (K : Nat) (a0 : Int32) (a1 : Int32) (σ : pM) : Option pM := (lfX1_readsDowns K K).1 a0 a1 σ
set_option maxHeartbeats 4000000 in
set_option maxRecDepth 100000 in
theorem wlX1_readsDowns {p : Program} {l : Launch} {e : Env} {s : State} {m : MethodId} {below : List Frame} {meth : Method} {c : Code} {D : va_G} {cl : List vw_C} {ci : Nat} (hci : cl[ci]? = some (RX1, TX1, 35)) {h : Nat} {ad : Nat → Nat} {cA : Nat → ClassId} {A : Nat → Prop} (hA : ∀ q : Nat, s.heap.size ≤ q → A q) (hK : va_K D cl (mtys cA) s) (K : Nat) (res : pM) (a0 : Int32) (a1 : Int32) (hx : p.tables.exec = Jvm.exec) (hb : c.code = cX1_readsDowns) (hr : meth.sig.returnType = none) (hlocks : meth.locks = false) (hml : c.maxLocals = 6) (hown : s.vm.findClass RX1 = some m.cls) (hts : ∀ w ∈ lw_all, w.before ([.ref h, .int a0, .int a1] : List Value).toArray s = true) : ∀ k : Nat, (∀ (v1 : Int32) (v2 : Int32) (σ : pM) (H : Heap) (locs : List Loc), va_P D cl (mw ci h ad cA σ) H → va_D A (mw ci h ad cA σ) → va_S A s.heap H locs → ∀ (ls : Array Slot), lv_has ls 6 [(0, .ref h), (1, .int v1), (2, .int v2)] → (lfX1_readsDowns K k).1 v1 v2 σ = some res → W p l e (headSpec (ws_ yX1_readsDowns cX1_readsDowns 6 (none)) ({ frames := 4, cells := 0, slots := 0, locals := 92 })).room s m ([.ref h, .int a0, .int a1] : List Value).toArray below meth c H locs 0 0 (MQ below (mQv D cl ci h ad cA A res) ([.ref h, .int a0, .int a1] : List Value).toArray s 0 0 A) (F0 m 0 ls [])) ∧ (∀ (v1 : Int32) (v2 : Int32) (σ : pM) (H : Heap) (locs : List Loc), va_P D cl (mw ci h ad cA σ) H → va_D A (mw ci h ad cA σ) → va_S A s.heap H locs → ∀ (ls : Array Slot), lv_has ls 6 [(0, .ref h), (1, .int v1), (2, .int v2)] → (lfX1_readsDowns K k).2.1 v1 v2 σ = some res → W p l e (headSpec (ws_ yX1_readsDowns cX1_readsDowns 6 (none)) ({ frames := 4, cells := 0, slots := 0, locals := 92 })).room s m ([.ref h, .int a0, .int a1] : List Value).toArray below meth c H locs 0 0 (MQ below (mQv D cl ci h ad cA A res) ([.ref h, .int a0, .int a1] : List Value).toArray s 0 0 A) (F0 m 31 ls [])) ∧ (∀ (v1 : Int32) (v2 : Int32) (σ : pM) (H : Heap) (locs : List Loc), va_P D cl (mw ci h ad cA σ) H → va_D A (mw ci h ad cA σ) → va_S A s.heap H locs → ∀ (ls : Array Slot), lv_has ls 6 [(0, .ref h), (1, .int v1), (2, .int v2)] → (lfX1_readsDowns K k).2.2 v1 v2 σ = some res → W p l e (headSpec (ws_ yX1_readsDowns cX1_readsDowns 6 (none)) ({ frames := 4, cells := 0, slots := 0, locals := 92 })).room s m ([.ref h, .int a0, .int a1] : List Value).toArray below meth c H locs 0 0 (MQ below (mQv D cl ci h ad cA A res) ([.ref h, .int a0, .int a1] : List Value).toArray s 0 0 A) (F0 m 85 ls [])) := by
  intro k
  induction k with
  | zero =>
    exact ⟨fun _ _ _ _ _ _ _ _ _ _ hf => (by cases hf), fun _ _ _ _ _ _ _ _ _ _ hf => (by cases hf), fun _ _ _ _ _ _ _ _ _ _ hf => (by cases hf)⟩
  | succ k ih =>
    refine ⟨?_, ?_, ?_⟩
    · intro v1 v2 σ H locs hP hD hS ls hl hf
      have hf : (dz_l (σ.1 30) fun x1 => if x1 = (-1 : Int32) then (dz_l (σ.1 25) fun x2 => if x2 = (2 : Int32) then (if ¬ (v1 < 0 ∨ 116 ≤ Int32.toNatClampNeg v1) then (dz_l (σ.2.2.1 12 (Int32.toNatClampNeg v1)) fun x4 => if x4 = (9 : Int32) then (dz_b (fnX1_fails K σ) fun s6 => (lfX1_readsDowns K k).2.1 v1 v2 s6) else ((lfX1_readsDowns K k).2.1 v1 v2 σ)) else none) else (some σ)) else (some σ) : Option pM) = some res := hf
      refine lv_aload_n hx hb dX1_readsDowns_0 rfl (lv_at hl 0 rfl) ?_
      refine va_get (C := RX1) (T := TX1) (N := 35) (fs := mwF ad σ) (v := .int (σ.1 30)) hx hb hts in_X1 hown hK hP 0 rfl hci 30 (by decide) (hts _ q1701) (fun _ hq => hq) rfl dX1_readsDowns_1 ?_
      refine lv_topi (fun x1 e_x1 => ?_)
      have hf := dz_ls e_x1 hf
      refine lv_iconst (v := (-1)) hx hb dX1_readsDowns_4 (by decide) ?_
      refine lv_icmp_ne (tgt := 88) hx hb dX1_readsDowns_5 (by decide) (fun c5 => ?_) (fun c5 => ?_)
      · have hf := dz_f c5 hf
        exact W.vret hx hb hr (fun t ht hW => ⟨⟨σ, rfl, Option.some.inj hf, by rw [ht]; exact hP, va_K.moved hW.alike hK, hD⟩, hS.F ht⟩) hS.2.2 dX1_readsDowns_88
      · have hf := dz_t c5 hf
        refine lv_aload_n hx hb dX1_readsDowns_8 rfl (lv_at hl 0 rfl) ?_
        refine va_get (C := RX1) (T := TX1) (N := 35) (fs := mwF ad σ) (v := .int (σ.1 25)) hx hb hts in_X1 hown hK hP 0 rfl hci 25 (by decide) (hts _ q1696) (fun _ hq => hq) rfl dX1_readsDowns_9 ?_
        refine lv_topi (fun x2 e_x2 => ?_)
        have hf := dz_ls e_x2 hf
        refine lv_iconst (v := 2) hx hb dX1_readsDowns_12 (by decide) ?_
        refine lv_icmp_ne (tgt := 88) hx hb dX1_readsDowns_13 (by decide) (fun c13 => ?_) (fun c13 => ?_)
        · have hf := dz_f c13 hf
          exact W.vret hx hb hr (fun t ht hW => ⟨⟨σ, rfl, Option.some.inj hf, by rw [ht]; exact hP, va_K.moved hW.alike hK, hD⟩, hS.F ht⟩) hS.2.2 dX1_readsDowns_88
        · have hf := dz_t c13 hf
          refine lv_aload_n hx hb dX1_readsDowns_16 rfl (lv_at hl 0 rfl) ?_
          refine va_get (C := RX1) (T := TX1) (N := 35) (fs := mwF ad σ) (v := .ref (ad 12)) hx hb hts in_X1 hown hK hP 0 rfl hci 12 (by decide) (hts _ q1683) (fun _ hq => hq) rfl dX1_readsDowns_17 ?_
          refine lv_iload_n hx hb dX1_readsDowns_20 rfl (lv_at hl 1 rfl) ?_
          obtain ⟨g3, hf⟩ := dz_go hf
          refine va_iald hx hb hK hP 10 0 rfl rfl g3 dX1_readsDowns_21 ?_
          refine lv_topi (fun x4 e_x4 => ?_)
          have hf := dz_ls e_x4 hf
          refine lv_bipush (v := 9) hx hb dX1_readsDowns_22 (by decide) ?_
          refine lv_icmp_ne (tgt := 31) hx hb dX1_readsDowns_24 (by decide) (fun c24 => ?_) (fun c24 => ?_)
          · have hf := dz_f c24 hf
            exact ih.2.1 v1 v2 σ H locs hP hD hS ls (lv_sub hl [0, 1, 2] rfl) hf
          · have hf := dz_t c24 hf
            refine lv_aload_n hx hb dX1_readsDowns_27 rfl (lv_at hl 0 rfl) ?_
            obtain ⟨s6, hx5, hf⟩ := dz_bo hf
            have hFc := dz_free hD hS hA
            refine va_callv (va_runV (As := []) (rest := []) ⟨hx, hb, hml, hown, hts⟩ (mtX1_fails l D cl ci hci h ad cA H.size σ K s6 hx5) (cwV 0 hts (lw_V q1977 q1979 qs67 q88 q1980) rfl rfl rfl (by decide +kernel) ⟨Nat.le_of_ble_eq_true rfl, Nat.le_of_ble_eq_true rfl⟩) (m_preV hci hK hP hD) rfl rfl hl.1 rfl (lv_room (Nat.le_of_ble_eq_true rfl)) dX1_readsDowns_28 ⟨Nat.le_refl _, Nat.le_refl _⟩) hS (fun q _ hq => hFc q hq) hFc (fun u t H1 locs ht hvm hw hB hz hk hS => ?_)
            replace hw := hw.symm; subst hw
            replace hP := m_back ht hB
            replace hD := mw_D s6 hD
            clear hB hk hz hvm ht hFc; generalize H1 = H at hP hS ⊢
            exact ih.2.1 v1 v2 s6 H locs hP hD hS ls (lv_sub hl [0, 1, 2] rfl) hf
    · intro v1 v2 σ H locs hP hD hS ls hl hf
      have hf : (dz_c (fnX1_needsInt K 2 1000000000 σ) fun x1 s2 => dz_c (fnX1_needsInt K 1 30 s2) fun x3 s4 => if v2 ≤ (0 : Int32) then (dz_c (fnX1_needsInt K 2 999 s4) fun x5 s6 => dz_l (s6.1 30) fun x7 => if x7 = (-1 : Int32) then (dz_b (fnX1_addsDown K v1 x1 x3 x5 s6) fun s9 => (lfX1_readsDowns K k).2.2 v1 v2 s9) else ((lfX1_readsDowns K k).2.2 v1 v2 s6)) else (dz_l (s4.1 30) fun x10 => if x10 = (-1 : Int32) then (dz_b (fnX1_addsDown K v1 x1 x3 v2 s4) fun s12 => (lfX1_readsDowns K k).2.2 v1 v2 s12) else ((lfX1_readsDowns K k).2.2 v1 v2 s4)) : Option pM) = some res := hf
      refine lv_aload_n hx hb dX1_readsDowns_31 rfl (lv_at hl 0 rfl) ?_
      refine lv_iconst (v := 2) hx hb dX1_readsDowns_32 (by decide) ?_
      refine lv_ldcw (v := 1000000000) hx hb hown (hts _ q1981) dX1_readsDowns_33 ?_
      obtain ⟨x1, s2, hx1, hf⟩ := dz_co hf
      have hFc := dz_free hD hS hA
      refine va_calli (va_runV (As := [.int 2, .int 1000000000]) (rest := []) ⟨hx, hb, hml, hown, hts⟩ (mtX1_needsInt l D cl ci hci h ad cA H.size σ 2 1000000000 K (x1, s2) hx1) (cwV 2 hts (lw_V q1982 q1984 qs68 q88 q1985) rfl rfl rfl (by decide +kernel) ⟨Nat.le_of_ble_eq_true rfl, Nat.le_of_ble_eq_true rfl⟩) (m_preV hci hK hP hD) rfl rfl hl.1 rfl (lv_room (Nat.le_of_ble_eq_true rfl)) dX1_readsDowns_36 ⟨Nat.le_refl _, Nat.le_refl _⟩) hS (fun q _ hq => hFc q hq) hFc (fun r u t H1 locs ht hvm hw hB hz hk hS => ?_)
      obtain ⟨hw1, hw2⟩ := Prod.mk.inj hw.symm; subst hw1; subst hw2
      replace hP := m_back ht hB
      replace hD := mw_D s2 hD
      clear hB hk hz hvm ht hFc; generalize H1 = H at hP hS ⊢
      refine lv_istore_n (lv' := [(3, .int x1), (0, .ref h), (1, .int v1), (2, .int v2)]) hx hb dX1_readsDowns_39 rfl hl (by decide) rfl (fun ls hl => ?_)
      refine lv_aload_n hx hb dX1_readsDowns_40 rfl (lv_at hl 1 rfl) ?_
      refine lv_iconst (v := 1) hx hb dX1_readsDowns_41 (by decide) ?_
      refine lv_bipush (v := 30) hx hb dX1_readsDowns_42 (by decide) ?_
      obtain ⟨x3, s4, hx3, hf⟩ := dz_co hf
      have hFc := dz_free hD hS hA
      refine va_calli (va_runV (As := [.int 1, .int 30]) (rest := []) ⟨hx, hb, hml, hown, hts⟩ (mtX1_needsInt l D cl ci hci h ad cA H.size s2 1 30 K (x3, s4) hx3) (cwV 2 hts (lw_V q1982 q1984 qs68 q88 q1985) rfl rfl rfl (by decide +kernel) ⟨Nat.le_of_ble_eq_true rfl, Nat.le_of_ble_eq_true rfl⟩) (m_preV hci hK hP hD) rfl rfl hl.1 rfl (lv_room (Nat.le_of_ble_eq_true rfl)) dX1_readsDowns_44 ⟨Nat.le_refl _, Nat.le_refl _⟩) hS (fun q _ hq => hFc q hq) hFc (fun r u t H1 locs ht hvm hw hB hz hk hS => ?_)
      obtain ⟨hw1, hw2⟩ := Prod.mk.inj hw.symm; subst hw1; subst hw2
      replace hP := m_back ht hB
      replace hD := mw_D s4 hD
      clear hB hk hz hvm ht hFc; generalize H1 = H at hP hS ⊢
      refine lv_istore (lv' := [(4, .int x3), (3, .int x1), (0, .ref h), (1, .int v1), (2, .int v2)]) hx hb dX1_readsDowns_47 hl (by decide) rfl (fun ls hl => ?_)
      refine lv_iload_n hx hb dX1_readsDowns_49 rfl (lv_at hl 4 rfl) ?_
      refine lv_if_le (tgt := 57) hx hb dX1_readsDowns_50 (by decide) (fun c50 => ?_) (fun c50 => ?_)
      · have hf := dz_t c50 hf
        refine lv_aload_n hx hb dX1_readsDowns_57 rfl (lv_at hl 2 rfl) ?_
        refine lv_iconst (v := 2) hx hb dX1_readsDowns_58 (by decide) ?_
        refine lv_sipush (v := 999) hx hb dX1_readsDowns_59 (by decide) ?_
        obtain ⟨x5, s6, hx5, hf⟩ := dz_co hf
        have hFc := dz_free hD hS hA
        refine va_calli (va_runV (As := [.int 2, .int 999]) (rest := []) ⟨hx, hb, hml, hown, hts⟩ (mtX1_needsInt l D cl ci hci h ad cA H.size s4 2 999 K (x5, s6) hx5) (cwV 2 hts (lw_V q1982 q1984 qs68 q88 q1985) rfl rfl rfl (by decide +kernel) ⟨Nat.le_of_ble_eq_true rfl, Nat.le_of_ble_eq_true rfl⟩) (m_preV hci hK hP hD) rfl rfl hl.1 rfl (lv_room (Nat.le_of_ble_eq_true rfl)) dX1_readsDowns_62 ⟨Nat.le_refl _, Nat.le_refl _⟩) hS (fun q _ hq => hFc q hq) hFc (fun r u t H1 locs ht hvm hw hB hz hk hS => ?_)
        obtain ⟨hw1, hw2⟩ := Prod.mk.inj hw.symm; subst hw1; subst hw2
        replace hP := m_back ht hB
        replace hD := mw_D s6 hD
        clear hB hk hz hvm ht hFc; generalize H1 = H at hP hS ⊢
        refine lv_istore (lv' := [(5, .int x5), (4, .int x3), (3, .int x1), (0, .ref h), (1, .int v1), (2, .int v2)]) hx hb dX1_readsDowns_65 hl (by decide) rfl (fun ls hl => ?_)
        refine lv_aload_n hx hb dX1_readsDowns_67 rfl (lv_at hl 3 rfl) ?_
        refine va_get (C := RX1) (T := TX1) (N := 35) (fs := mwF ad s6) (v := .int (s6.1 30)) hx hb hts in_X1 hown hK hP 0 rfl hci 30 (by decide) (hts _ q1701) (fun _ hq => hq) rfl dX1_readsDowns_68 ?_
        refine lv_topi (fun x7 e_x7 => ?_)
        have hf := dz_ls e_x7 hf
        refine lv_iconst (v := (-1)) hx hb dX1_readsDowns_71 (by decide) ?_
        refine lv_icmp_ne (tgt := 85) hx hb dX1_readsDowns_72 (by decide) (fun c72 => ?_) (fun c72 => ?_)
        · have hf := dz_f c72 hf
          exact ih.2.2 v1 v2 s6 H locs hP hD hS ls (lv_sub hl [3, 4, 5] rfl) hf
        · have hf := dz_t c72 hf
          refine lv_aload_n hx hb dX1_readsDowns_75 rfl (lv_at hl 3 rfl) ?_
          refine lv_iload_n hx hb dX1_readsDowns_76 rfl (lv_at hl 4 rfl) ?_
          refine lv_iload_n hx hb dX1_readsDowns_77 rfl (lv_at hl 2 rfl) ?_
          refine lv_iload hx hb dX1_readsDowns_78 (lv_at hl 1 rfl) ?_
          refine lv_iload hx hb dX1_readsDowns_80 (lv_at hl 0 rfl) ?_
          obtain ⟨s9, hx8, hf⟩ := dz_bo hf
          have hFc := dz_free hD hS hA
          refine va_callv (va_runV (As := [.int v1, .int x1, .int x3, .int x5]) (rest := []) ⟨hx, hb, hml, hown, hts⟩ (mtX1_addsDown l D cl ci hci h ad cA H.size s6 v1 x1 x3 x5 K s9 hx8) (cwV 4 hts (lw_V q1895 q1897 qs54 q88 q1898) rfl rfl rfl (by decide +kernel) ⟨Nat.le_of_ble_eq_true rfl, Nat.le_of_ble_eq_true rfl⟩) (m_preV hci hK hP hD) rfl rfl hl.1 rfl (lv_room (Nat.le_of_ble_eq_true rfl)) dX1_readsDowns_82 ⟨Nat.le_refl _, Nat.le_refl _⟩) hS (fun q _ hq => hFc q hq) hFc (fun u t H1 locs ht hvm hw hB hz hk hS => ?_)
          replace hw := hw.symm; subst hw
          replace hP := m_back ht hB
          replace hD := mw_D s9 hD
          clear hB hk hz hvm ht hFc; generalize H1 = H at hP hS ⊢
          exact ih.2.2 v1 v2 s9 H locs hP hD hS ls (lv_sub hl [3, 4, 5] rfl) hf
      · have hf := dz_f c50 hf
        refine lv_iload_n hx hb dX1_readsDowns_53 rfl (lv_at hl 4 rfl) ?_
        refine lv_goto (tgt := 65) hx hb dX1_readsDowns_54 (by decide) ?_
        refine lv_istore (lv' := [(5, .int v2), (4, .int x3), (3, .int x1), (0, .ref h), (1, .int v1), (2, .int v2)]) hx hb dX1_readsDowns_65 hl (by decide) rfl (fun ls hl => ?_)
        refine lv_aload_n hx hb dX1_readsDowns_67 rfl (lv_at hl 3 rfl) ?_
        refine va_get (C := RX1) (T := TX1) (N := 35) (fs := mwF ad s4) (v := .int (s4.1 30)) hx hb hts in_X1 hown hK hP 0 rfl hci 30 (by decide) (hts _ q1701) (fun _ hq => hq) rfl dX1_readsDowns_68 ?_
        refine lv_topi (fun x10 e_x10 => ?_)
        have hf := dz_ls e_x10 hf
        refine lv_iconst (v := (-1)) hx hb dX1_readsDowns_71 (by decide) ?_
        refine lv_icmp_ne (tgt := 85) hx hb dX1_readsDowns_72 (by decide) (fun c72 => ?_) (fun c72 => ?_)
        · have hf := dz_f c72 hf
          exact ih.2.2 v1 v2 s4 H locs hP hD hS ls (lv_sub hl [3, 4, 5] rfl) hf
        · have hf := dz_t c72 hf
          refine lv_aload_n hx hb dX1_readsDowns_75 rfl (lv_at hl 3 rfl) ?_
          refine lv_iload_n hx hb dX1_readsDowns_76 rfl (lv_at hl 4 rfl) ?_
          refine lv_iload_n hx hb dX1_readsDowns_77 rfl (lv_at hl 2 rfl) ?_
          refine lv_iload hx hb dX1_readsDowns_78 (lv_at hl 1 rfl) ?_
          refine lv_iload hx hb dX1_readsDowns_80 (lv_at hl 0 rfl) ?_
          obtain ⟨s12, hx11, hf⟩ := dz_bo hf
          have hFc := dz_free hD hS hA
          refine va_callv (va_runV (As := [.int v1, .int x1, .int x3, .int v2]) (rest := []) ⟨hx, hb, hml, hown, hts⟩ (mtX1_addsDown l D cl ci hci h ad cA H.size s4 v1 x1 x3 v2 K s12 hx11) (cwV 4 hts (lw_V q1895 q1897 qs54 q88 q1898) rfl rfl rfl (by decide +kernel) ⟨Nat.le_of_ble_eq_true rfl, Nat.le_of_ble_eq_true rfl⟩) (m_preV hci hK hP hD) rfl rfl hl.1 rfl (lv_room (Nat.le_of_ble_eq_true rfl)) dX1_readsDowns_82 ⟨Nat.le_refl _, Nat.le_refl _⟩) hS (fun q _ hq => hFc q hq) hFc (fun u t H1 locs ht hvm hw hB hz hk hS => ?_)
          replace hw := hw.symm; subst hw
          replace hP := m_back ht hB
          replace hD := mw_D s12 hD
          clear hB hk hz hvm ht hFc; generalize H1 = H at hP hS ⊢
          exact ih.2.2 v1 v2 s12 H locs hP hD hS ls (lv_sub hl [3, 4, 5] rfl) hf
    · intro v1 v2 σ H locs hP hD hS ls hl hf
      have hf : ((lfX1_readsDowns K k).1 v1 v2 σ : Option pM) = some res := hf
      refine lv_goto (tgt := 0) hx hb dX1_readsDowns_85 (by decide) ?_
      exact ih.1 v1 v2 σ H locs hP hD hS ls (lv_sub hl [0, 1, 2] rfl) hf
set_option maxHeartbeats 4000000 in
set_option maxRecDepth 100000 in
theorem mtX1_readsDowns (l : Launch) (D : va_G) (cl : List vw_C) (ci : Nat) (hci : cl[ci]? = some (RX1, TX1, 35)) (h : Nat) (ad : Nat → Nat) (cA : Nat → ClassId) (sz : Nat) (σ : pM) (a0 : Int32) (a1 : Int32) (K : Nat) (res : pM) (hf : fnX1_readsDowns K a0 a1 σ = some res) : Met l yX1_readsDowns (ws_ yX1_readsDowns cX1_readsDowns 6 (none)) ({ frames := 4, cells := 0, slots := 0, locals := 92 }) (mPc D cl ci h ad cA sz σ [.ref h, .int a0, .int a1]) (mQv D cl ci h ad cA (va_A (mw ci h ad cA σ) sz) res) 0 0 (va_A (mw ci h ad cA σ) sz) := by
  refine Met.ofW (cc := cX1_readsDowns) (maxL := 6) (ret := none) (by decide +kernel) rfl ?_
  intro p e s m args below meth c s₁ B hml hv
  obtain ⟨rfl, hsz, hP, hK, hD0⟩ := hv
  have hx := B.exec
  have hb := B.bytes
  have hr := B.returns
  have hts := atoms_spec (ws := ws_ yX1_readsDowns cX1_readsDowns 6 (none)) B.pre
  have hts : ∀ w ∈ lw_all, w.before _ s = true := fun w h => hts w (List.mem_cons_of_mem _ h)
  have hown : s.vm.findClass RX1 = some m.cls := findClass_of_methodNamed B.named
  have hlocks := B.notSynchronized
  subst hsz
  have hD := hD0.self (sz := s.heap.size)
  generalize hAe : va_A (mw ci h ad cA σ) s.heap.size = A at hD ⊢
  have hA : ∀ q : Nat, s.heap.size ≤ q → A q := fun q h => by rw [← hAe]; exact Or.inr h
  clear hAe hD0
  have hS : va_S A s.heap s.heap [] := va_S.rf
  generalize hHe : s.heap = H at hP hS ⊢
  have hS : va_S A s.heap H [] := by rw [hHe]; exact hS
  generalize ([] : List Loc) = locs at hS ⊢
  have hl := lv_entry ([.ref h, .int a0, .int a1]) (n := 6) (Nat.le_of_ble_eq_true rfl)
  rw [lg_entry_eq]
  generalize (lg_sl ([.ref h, .int a0, .int a1]) ++ List.replicate (6 - (lg_sl ([.ref h, .int a0, .int a1])).length) Slot.unset).toArray = ls at hl ⊢
  have hl : lv_has ls 6 [(0, .ref h), (1, .int a0), (2, .int a1)] := hl
  have hf : ((lfX1_readsDowns K K).1 a0 a1 σ : Option pM) = some res := hf
  have ih := wlX1_readsDowns (l := l) (e := e) (below := below) (h := h) (ad := ad) (cA := cA) hci hA hK K res a0 a1 hx hb hr hlocks hml hown hts K
  exact ih.1 a0 a1 σ H locs hP hD hS ls (lv_sub hl [0, 1, 2] rfl) hf

noncomputable def lfX1_readsUps (K : Nat) : Nat → (Int32 → pM → Option pM) × (Int32 → pM → Option pM) × (Int32 → pM → Option pM) := Nat.rec (motive := fun _ => (Int32 → pM → Option pM) × (Int32 → pM → Option pM) × (Int32 → pM → Option pM)) ((fun _ _ => none), (fun _ _ => none), (fun _ _ => none)) (fun _ G => ((fun v1 σ => dz_l (σ.1 30) fun x1 => if x1 = (-1 : Int32) then (dz_l (σ.1 25) fun x2 => if x2 = (2 : Int32) then (if ¬ (v1 < 0 ∨ 116 ≤ Int32.toNatClampNeg v1) then (dz_l (σ.2.2.1 13 (Int32.toNatClampNeg v1)) fun x4 => if x4 = (9 : Int32) then (dz_b (fnX1_fails K σ) fun s6 => G.2.1 v1 s6) else (G.2.1 v1 σ)) else none) else (some σ)) else (some σ)), (fun v1 σ => dz_c (fnX1_needsInt K 2 1000000000 σ) fun x1 s2 => dz_c (fnX1_needsInt K 1 30 s2) fun x3 s4 => dz_l (s4.1 30) fun x5 => if x5 = (-1 : Int32) then (dz_b (fnX1_addsUp K v1 x1 x3 s4) fun s7 => G.2.2 v1 s7) else (G.2.2 v1 s4)), (fun v1 σ => G.1 v1 σ)))
noncomputable def fnX1_readsUps (K : Nat) (a0 : Int32) (σ : pM) : Option pM := (lfX1_readsUps K K).1 a0 σ
set_option maxHeartbeats 4000000 in
set_option maxRecDepth 100000 in
theorem wlX1_readsUps {p : Program} {l : Launch} {e : Env} {s : State} {m : MethodId} {below : List Frame} {meth : Method} {c : Code} {D : va_G} {cl : List vw_C} {ci : Nat} (hci : cl[ci]? = some (RX1, TX1, 35)) {h : Nat} {ad : Nat → Nat} {cA : Nat → ClassId} {A : Nat → Prop} (hA : ∀ q : Nat, s.heap.size ≤ q → A q) (hK : va_K D cl (mtys cA) s) (K : Nat) (res : pM) (a0 : Int32) (hx : p.tables.exec = Jvm.exec) (hb : c.code = cX1_readsUps) (hr : meth.sig.returnType = none) (hlocks : meth.locks = false) (hml : c.maxLocals = 4) (hown : s.vm.findClass RX1 = some m.cls) (hts : ∀ w ∈ lw_all, w.before ([.ref h, .int a0] : List Value).toArray s = true) : ∀ k : Nat, (∀ (v1 : Int32) (σ : pM) (H : Heap) (locs : List Loc), va_P D cl (mw ci h ad cA σ) H → va_D A (mw ci h ad cA σ) → va_S A s.heap H locs → ∀ (ls : Array Slot), lv_has ls 4 [(0, .ref h), (1, .int v1)] → (lfX1_readsUps K k).1 v1 σ = some res → W p l e (headSpec (ws_ yX1_readsUps cX1_readsUps 4 (none)) ({ frames := 4, cells := 0, slots := 0, locals := 92 })).room s m ([.ref h, .int a0] : List Value).toArray below meth c H locs 0 0 (MQ below (mQv D cl ci h ad cA A res) ([.ref h, .int a0] : List Value).toArray s 0 0 A) (F0 m 0 ls [])) ∧ (∀ (v1 : Int32) (σ : pM) (H : Heap) (locs : List Loc), va_P D cl (mw ci h ad cA σ) H → va_D A (mw ci h ad cA σ) → va_S A s.heap H locs → ∀ (ls : Array Slot), lv_has ls 4 [(0, .ref h), (1, .int v1)] → (lfX1_readsUps K k).2.1 v1 σ = some res → W p l e (headSpec (ws_ yX1_readsUps cX1_readsUps 4 (none)) ({ frames := 4, cells := 0, slots := 0, locals := 92 })).room s m ([.ref h, .int a0] : List Value).toArray below meth c H locs 0 0 (MQ below (mQv D cl ci h ad cA A res) ([.ref h, .int a0] : List Value).toArray s 0 0 A) (F0 m 31 ls [])) ∧ (∀ (v1 : Int32) (σ : pM) (H : Heap) (locs : List Loc), va_P D cl (mw ci h ad cA σ) H → va_D A (mw ci h ad cA σ) → va_S A s.heap H locs → ∀ (ls : Array Slot), lv_has ls 4 [(0, .ref h), (1, .int v1)] → (lfX1_readsUps K k).2.2 v1 σ = some res → W p l e (headSpec (ws_ yX1_readsUps cX1_readsUps 4 (none)) ({ frames := 4, cells := 0, slots := 0, locals := 92 })).room s m ([.ref h, .int a0] : List Value).toArray below meth c H locs 0 0 (MQ below (mQv D cl ci h ad cA A res) ([.ref h, .int a0] : List Value).toArray s 0 0 A) (F0 m 63 ls [])) := by
  intro k
  induction k with
  | zero =>
    exact ⟨fun _ _ _ _ _ _ _ _ _ hf => (by cases hf), fun _ _ _ _ _ _ _ _ _ hf => (by cases hf), fun _ _ _ _ _ _ _ _ _ hf => (by cases hf)⟩
  | succ k ih =>
    refine ⟨?_, ?_, ?_⟩
    · intro v1 σ H locs hP hD hS ls hl hf
      have hf : (dz_l (σ.1 30) fun x1 => if x1 = (-1 : Int32) then (dz_l (σ.1 25) fun x2 => if x2 = (2 : Int32) then (if ¬ (v1 < 0 ∨ 116 ≤ Int32.toNatClampNeg v1) then (dz_l (σ.2.2.1 13 (Int32.toNatClampNeg v1)) fun x4 => if x4 = (9 : Int32) then (dz_b (fnX1_fails K σ) fun s6 => (lfX1_readsUps K k).2.1 v1 s6) else ((lfX1_readsUps K k).2.1 v1 σ)) else none) else (some σ)) else (some σ) : Option pM) = some res := hf
      refine lv_aload_n hx hb dX1_readsUps_0 rfl (lv_at hl 0 rfl) ?_
      refine va_get (C := RX1) (T := TX1) (N := 35) (fs := mwF ad σ) (v := .int (σ.1 30)) hx hb hts in_X1 hown hK hP 0 rfl hci 30 (by decide) (hts _ q1701) (fun _ hq => hq) rfl dX1_readsUps_1 ?_
      refine lv_topi (fun x1 e_x1 => ?_)
      have hf := dz_ls e_x1 hf
      refine lv_iconst (v := (-1)) hx hb dX1_readsUps_4 (by decide) ?_
      refine lv_icmp_ne (tgt := 66) hx hb dX1_readsUps_5 (by decide) (fun c5 => ?_) (fun c5 => ?_)
      · have hf := dz_f c5 hf
        exact W.vret hx hb hr (fun t ht hW => ⟨⟨σ, rfl, Option.some.inj hf, by rw [ht]; exact hP, va_K.moved hW.alike hK, hD⟩, hS.F ht⟩) hS.2.2 dX1_readsUps_66
      · have hf := dz_t c5 hf
        refine lv_aload_n hx hb dX1_readsUps_8 rfl (lv_at hl 0 rfl) ?_
        refine va_get (C := RX1) (T := TX1) (N := 35) (fs := mwF ad σ) (v := .int (σ.1 25)) hx hb hts in_X1 hown hK hP 0 rfl hci 25 (by decide) (hts _ q1696) (fun _ hq => hq) rfl dX1_readsUps_9 ?_
        refine lv_topi (fun x2 e_x2 => ?_)
        have hf := dz_ls e_x2 hf
        refine lv_iconst (v := 2) hx hb dX1_readsUps_12 (by decide) ?_
        refine lv_icmp_ne (tgt := 66) hx hb dX1_readsUps_13 (by decide) (fun c13 => ?_) (fun c13 => ?_)
        · have hf := dz_f c13 hf
          exact W.vret hx hb hr (fun t ht hW => ⟨⟨σ, rfl, Option.some.inj hf, by rw [ht]; exact hP, va_K.moved hW.alike hK, hD⟩, hS.F ht⟩) hS.2.2 dX1_readsUps_66
        · have hf := dz_t c13 hf
          refine lv_aload_n hx hb dX1_readsUps_16 rfl (lv_at hl 0 rfl) ?_
          refine va_get (C := RX1) (T := TX1) (N := 35) (fs := mwF ad σ) (v := .ref (ad 13)) hx hb hts in_X1 hown hK hP 0 rfl hci 13 (by decide) (hts _ q1684) (fun _ hq => hq) rfl dX1_readsUps_17 ?_
          refine lv_iload_n hx hb dX1_readsUps_20 rfl (lv_at hl 1 rfl) ?_
          obtain ⟨g3, hf⟩ := dz_go hf
          refine va_iald hx hb hK hP 11 0 rfl rfl g3 dX1_readsUps_21 ?_
          refine lv_topi (fun x4 e_x4 => ?_)
          have hf := dz_ls e_x4 hf
          refine lv_bipush (v := 9) hx hb dX1_readsUps_22 (by decide) ?_
          refine lv_icmp_ne (tgt := 31) hx hb dX1_readsUps_24 (by decide) (fun c24 => ?_) (fun c24 => ?_)
          · have hf := dz_f c24 hf
            exact ih.2.1 v1 σ H locs hP hD hS ls (lv_sub hl [0, 1] rfl) hf
          · have hf := dz_t c24 hf
            refine lv_aload_n hx hb dX1_readsUps_27 rfl (lv_at hl 0 rfl) ?_
            obtain ⟨s6, hx5, hf⟩ := dz_bo hf
            have hFc := dz_free hD hS hA
            refine va_callv (va_runV (As := []) (rest := []) ⟨hx, hb, hml, hown, hts⟩ (mtX1_fails l D cl ci hci h ad cA H.size σ K s6 hx5) (cwV 0 hts (lw_V q1977 q1979 qs67 q88 q1980) rfl rfl rfl (by decide +kernel) ⟨Nat.le_of_ble_eq_true rfl, Nat.le_of_ble_eq_true rfl⟩) (m_preV hci hK hP hD) rfl rfl hl.1 rfl (lv_room (Nat.le_of_ble_eq_true rfl)) dX1_readsUps_28 ⟨Nat.le_refl _, Nat.le_refl _⟩) hS (fun q _ hq => hFc q hq) hFc (fun u t H1 locs ht hvm hw hB hz hk hS => ?_)
            replace hw := hw.symm; subst hw
            replace hP := m_back ht hB
            replace hD := mw_D s6 hD
            clear hB hk hz hvm ht hFc; generalize H1 = H at hP hS ⊢
            exact ih.2.1 v1 s6 H locs hP hD hS ls (lv_sub hl [0, 1] rfl) hf
    · intro v1 σ H locs hP hD hS ls hl hf
      have hf : (dz_c (fnX1_needsInt K 2 1000000000 σ) fun x1 s2 => dz_c (fnX1_needsInt K 1 30 s2) fun x3 s4 => dz_l (s4.1 30) fun x5 => if x5 = (-1 : Int32) then (dz_b (fnX1_addsUp K v1 x1 x3 s4) fun s7 => (lfX1_readsUps K k).2.2 v1 s7) else ((lfX1_readsUps K k).2.2 v1 s4) : Option pM) = some res := hf
      refine lv_aload_n hx hb dX1_readsUps_31 rfl (lv_at hl 0 rfl) ?_
      refine lv_iconst (v := 2) hx hb dX1_readsUps_32 (by decide) ?_
      refine lv_ldcw (v := 1000000000) hx hb hown (hts _ q1981) dX1_readsUps_33 ?_
      obtain ⟨x1, s2, hx1, hf⟩ := dz_co hf
      have hFc := dz_free hD hS hA
      refine va_calli (va_runV (As := [.int 2, .int 1000000000]) (rest := []) ⟨hx, hb, hml, hown, hts⟩ (mtX1_needsInt l D cl ci hci h ad cA H.size σ 2 1000000000 K (x1, s2) hx1) (cwV 2 hts (lw_V q1982 q1984 qs68 q88 q1985) rfl rfl rfl (by decide +kernel) ⟨Nat.le_of_ble_eq_true rfl, Nat.le_of_ble_eq_true rfl⟩) (m_preV hci hK hP hD) rfl rfl hl.1 rfl (lv_room (Nat.le_of_ble_eq_true rfl)) dX1_readsUps_36 ⟨Nat.le_refl _, Nat.le_refl _⟩) hS (fun q _ hq => hFc q hq) hFc (fun r u t H1 locs ht hvm hw hB hz hk hS => ?_)
      obtain ⟨hw1, hw2⟩ := Prod.mk.inj hw.symm; subst hw1; subst hw2
      replace hP := m_back ht hB
      replace hD := mw_D s2 hD
      clear hB hk hz hvm ht hFc; generalize H1 = H at hP hS ⊢
      refine lv_istore_n (lv' := [(2, .int x1), (0, .ref h), (1, .int v1)]) hx hb dX1_readsUps_39 rfl hl (by decide) rfl (fun ls hl => ?_)
      refine lv_aload_n hx hb dX1_readsUps_40 rfl (lv_at hl 1 rfl) ?_
      refine lv_iconst (v := 1) hx hb dX1_readsUps_41 (by decide) ?_
      refine lv_bipush (v := 30) hx hb dX1_readsUps_42 (by decide) ?_
      obtain ⟨x3, s4, hx3, hf⟩ := dz_co hf
      have hFc := dz_free hD hS hA
      refine va_calli (va_runV (As := [.int 1, .int 30]) (rest := []) ⟨hx, hb, hml, hown, hts⟩ (mtX1_needsInt l D cl ci hci h ad cA H.size s2 1 30 K (x3, s4) hx3) (cwV 2 hts (lw_V q1982 q1984 qs68 q88 q1985) rfl rfl rfl (by decide +kernel) ⟨Nat.le_of_ble_eq_true rfl, Nat.le_of_ble_eq_true rfl⟩) (m_preV hci hK hP hD) rfl rfl hl.1 rfl (lv_room (Nat.le_of_ble_eq_true rfl)) dX1_readsUps_44 ⟨Nat.le_refl _, Nat.le_refl _⟩) hS (fun q _ hq => hFc q hq) hFc (fun r u t H1 locs ht hvm hw hB hz hk hS => ?_)
      obtain ⟨hw1, hw2⟩ := Prod.mk.inj hw.symm; subst hw1; subst hw2
      replace hP := m_back ht hB
      replace hD := mw_D s4 hD
      clear hB hk hz hvm ht hFc; generalize H1 = H at hP hS ⊢
      refine lv_istore_n (lv' := [(3, .int x3), (2, .int x1), (0, .ref h), (1, .int v1)]) hx hb dX1_readsUps_47 rfl hl (by decide) rfl (fun ls hl => ?_)
      refine lv_aload_n hx hb dX1_readsUps_48 rfl (lv_at hl 2 rfl) ?_
      refine va_get (C := RX1) (T := TX1) (N := 35) (fs := mwF ad s4) (v := .int (s4.1 30)) hx hb hts in_X1 hown hK hP 0 rfl hci 30 (by decide) (hts _ q1701) (fun _ hq => hq) rfl dX1_readsUps_49 ?_
      refine lv_topi (fun x5 e_x5 => ?_)
      have hf := dz_ls e_x5 hf
      refine lv_iconst (v := (-1)) hx hb dX1_readsUps_52 (by decide) ?_
      refine lv_icmp_ne (tgt := 63) hx hb dX1_readsUps_53 (by decide) (fun c53 => ?_) (fun c53 => ?_)
      · have hf := dz_f c53 hf
        exact ih.2.2 v1 s4 H locs hP hD hS ls (lv_sub hl [2, 3] rfl) hf
      · have hf := dz_t c53 hf
        refine lv_aload_n hx hb dX1_readsUps_56 rfl (lv_at hl 2 rfl) ?_
        refine lv_iload_n hx hb dX1_readsUps_57 rfl (lv_at hl 3 rfl) ?_
        refine lv_iload_n hx hb dX1_readsUps_58 rfl (lv_at hl 1 rfl) ?_
        refine lv_iload_n hx hb dX1_readsUps_59 rfl (lv_at hl 0 rfl) ?_
        obtain ⟨s7, hx6, hf⟩ := dz_bo hf
        have hFc := dz_free hD hS hA
        refine va_callv (va_runV (As := [.int v1, .int x1, .int x3]) (rest := []) ⟨hx, hb, hml, hown, hts⟩ (mtX1_addsUp l D cl ci hci h ad cA H.size s4 v1 x1 x3 K s7 hx6) (cwV 3 hts (lw_V q1891 q1893 qs53 q88 q1894) rfl rfl rfl (by decide +kernel) ⟨Nat.le_of_ble_eq_true rfl, Nat.le_of_ble_eq_true rfl⟩) (m_preV hci hK hP hD) rfl rfl hl.1 rfl (lv_room (Nat.le_of_ble_eq_true rfl)) dX1_readsUps_60 ⟨Nat.le_refl _, Nat.le_refl _⟩) hS (fun q _ hq => hFc q hq) hFc (fun u t H1 locs ht hvm hw hB hz hk hS => ?_)
        replace hw := hw.symm; subst hw
        replace hP := m_back ht hB
        replace hD := mw_D s7 hD
        clear hB hk hz hvm ht hFc; generalize H1 = H at hP hS ⊢
        exact ih.2.2 v1 s7 H locs hP hD hS ls (lv_sub hl [2, 3] rfl) hf
    · intro v1 σ H locs hP hD hS ls hl hf
      have hf : ((lfX1_readsUps K k).1 v1 σ : Option pM) = some res := hf
      refine lv_goto (tgt := 0) hx hb dX1_readsUps_63 (by decide) ?_
      exact ih.1 v1 σ H locs hP hD hS ls (lv_sub hl [0, 1] rfl) hf
set_option maxHeartbeats 4000000 in
set_option maxRecDepth 100000 in
theorem mtX1_readsUps (l : Launch) (D : va_G) (cl : List vw_C) (ci : Nat) (hci : cl[ci]? = some (RX1, TX1, 35)) (h : Nat) (ad : Nat → Nat) (cA : Nat → ClassId) (sz : Nat) (σ : pM) (a0 : Int32) (K : Nat) (res : pM) (hf : fnX1_readsUps K a0 σ = some res) : Met l yX1_readsUps (ws_ yX1_readsUps cX1_readsUps 4 (none)) ({ frames := 4, cells := 0, slots := 0, locals := 92 }) (mPc D cl ci h ad cA sz σ [.ref h, .int a0]) (mQv D cl ci h ad cA (va_A (mw ci h ad cA σ) sz) res) 0 0 (va_A (mw ci h ad cA σ) sz) := by
  refine Met.ofW (cc := cX1_readsUps) (maxL := 4) (ret := none) (by decide +kernel) rfl ?_
  intro p e s m args below meth c s₁ B hml hv
  obtain ⟨rfl, hsz, hP, hK, hD0⟩ := hv
  have hx := B.exec
  have hb := B.bytes
  have hr := B.returns
  have hts := atoms_spec (ws := ws_ yX1_readsUps cX1_readsUps 4 (none)) B.pre
  have hts : ∀ w ∈ lw_all, w.before _ s = true := fun w h => hts w (List.mem_cons_of_mem _ h)
  have hown : s.vm.findClass RX1 = some m.cls := findClass_of_methodNamed B.named
  have hlocks := B.notSynchronized
  subst hsz
  have hD := hD0.self (sz := s.heap.size)
  generalize hAe : va_A (mw ci h ad cA σ) s.heap.size = A at hD ⊢
  have hA : ∀ q : Nat, s.heap.size ≤ q → A q := fun q h => by rw [← hAe]; exact Or.inr h
  clear hAe hD0
  have hS : va_S A s.heap s.heap [] := va_S.rf
  generalize hHe : s.heap = H at hP hS ⊢
  have hS : va_S A s.heap H [] := by rw [hHe]; exact hS
  generalize ([] : List Loc) = locs at hS ⊢
  have hl := lv_entry ([.ref h, .int a0]) (n := 4) (Nat.le_of_ble_eq_true rfl)
  rw [lg_entry_eq]
  generalize (lg_sl ([.ref h, .int a0]) ++ List.replicate (4 - (lg_sl ([.ref h, .int a0])).length) Slot.unset).toArray = ls at hl ⊢
  have hl : lv_has ls 4 [(0, .ref h), (1, .int a0)] := hl
  have hf : ((lfX1_readsUps K K).1 a0 σ : Option pM) = some res := hf
  have ih := wlX1_readsUps (l := l) (e := e) (below := below) (h := h) (ad := ad) (cA := cA) hci hA hK K res a0 hx hb hr hlocks hml hown hts K
  exact ih.1 a0 σ H locs hP hD hS ls (lv_sub hl [0, 1] rfl) hf

