noncomputable def lfX1_readsLine (K : Nat) : Nat → (pM → Option pM) × (Int32 → Int32 → Int32 → pM → Option pM) × (Int32 → Int32 → Int32 → pM → Option pM) × (Int32 → Int32 → Int32 → pM → Option pM) × (Int32 → Int32 → pM → Option pM) × (Int32 → Int32 → pM → Option pM) × (pM → Option pM) := Nat.rec (motive := fun _ => (pM → Option pM) × (Int32 → Int32 → Int32 → pM → Option pM) × (Int32 → Int32 → Int32 → pM → Option pM) × (Int32 → Int32 → Int32 → pM → Option pM) × (Int32 → Int32 → pM → Option pM) × (Int32 → Int32 → pM → Option pM) × (pM → Option pM)) ((fun _ => none), (fun _ _ _ _ => none), (fun _ _ _ _ => none), (fun _ _ _ _ => none), (fun _ _ _ => none), (fun _ _ _ => none), (fun _ => none)) (fun _ G => ((fun σ => dz_b (fnX1_fails K σ) fun s2 => some s2), (fun v1 v2 v4 σ => dz_b (fnX1_hasPair K v2) fun x1 => if x1 = (0 : Int32) then (G.2.2.1 v1 v2 v4 σ) else (dz_b (fnX1_needsWord K 7 σ) fun s3 => dz_c (fnX1_needsInt K 1 99 s3) fun x4 s5 => if ¬ (v1 < 0 ∨ 116 ≤ Int32.toNatClampNeg v1) then (dz_l (mI s5 10 (Int32.toNatClampNeg v1) x4) fun s7 => dz_c (fnX1_needsInt K 1 99 s7) fun x8 s9 => if ¬ (v1 < 0 ∨ 116 ≤ Int32.toNatClampNeg v1) then (dz_l (mI s9 11 (Int32.toNatClampNeg v1) x8) fun s11 => G.2.2.1 v1 v2 v4 s11) else none) else none)), (fun v1 v2 v4 σ => if v2 = (0 : Int32) then (G.2.2.2.1 v1 v2 v4 σ) else (if v2 = (4 : Int32) then (dz_b (fnX1_needsWord K 8 σ) fun s4 => G.2.2.2.1 v1 v2 v4 s4) else (dz_b (fnX1_needsWord K 6 σ) fun s2 => G.2.2.2.1 v1 v2 v4 s2))), (fun v1 v2 v4 σ => dz_b (fnX1_hasDowns K v2) fun x1 => if x1 = (0 : Int32) then (G.2.2.2.2.1 v1 v2 σ) else (dz_b (fnX1_readsDowns K v1 v4 σ) fun s3 => G.2.2.2.2.1 v1 v2 s3)), (fun v1 v2 σ => if v2 = (4 : Int32) then (dz_b (fnX1_needsWord K 9 σ) fun s2 => G.2.2.2.2.2.1 v1 v2 s2) else (G.2.2.2.2.2.1 v1 v2 σ)), (fun v1 v2 σ => dz_b (fnX1_hasPair K v2) fun x1 => if x1 = (0 : Int32) then (G.2.2.2.2.2.2 σ) else (dz_b (fnX1_readsUps K v1 σ) fun s3 => G.2.2.2.2.2.2 s3)), (fun σ => dz_l (σ.1 30) fun x1 => if x1 = (-1 : Int32) then (dz_l (σ.1 25) fun x2 => if x2 = (3 : Int32) then (dz_b (fnX1_goesOn K σ) fun s6 => some s6) else (dz_b (fnX1_fails K σ) fun s4 => some s4)) else (some σ))))
noncomputable def fnX1_readsLine (K : Nat) (a0 : Int32) (σ : pM) : Option pM := dz_l (σ.1 25) fun x1 => if x1 = (1 : Int32) then (dz_l (σ.1 27) fun x2 => if x2 ≤ (4 : Int32) then (dz_l (σ.1 27) fun x3 => dz_b (fnX1_goesOn K σ) fun s5 => dz_c (fnX1_needsInt K 2 1000000000 s5) fun x6 s7 => dz_b (fnX1_begins K a0 x6 x3 s7) fun s9 => if x3 = (1 : Int32) then (dz_b (fnX1_needsWord K 5 s9) fun s11 => dz_c (fnX1_needsInt K 2 999 s11) fun x12 s13 => (lfX1_readsLine K K).2.1 a0 x3 x12 s13) else ((lfX1_readsLine K K).2.1 a0 x3 0 s9)) else ((lfX1_readsLine K K).1 σ)) else ((lfX1_readsLine K K).1 σ)
set_option maxHeartbeats 4000000 in
set_option maxRecDepth 100000 in
theorem wlX1_readsLine {p : Program} {l : Launch} {e : Env} {s : State} {m : MethodId} {below : List Frame} {meth : Method} {c : Code} {D : va_G} {cl : List vw_C} {ci : Nat} (hci : cl[ci]? = some (RX1, TX1, 35)) {h : Nat} {ad : Nat → Nat} {cA : Nat → ClassId} {A : Nat → Prop} (hA : ∀ q : Nat, s.heap.size ≤ q → A q) (hK : va_K D cl (mtys cA) s) (K : Nat) (res : pM) (a0 : Int32) (hx : p.tables.exec = Jvm.exec) (hb : c.code = cX1_readsLine) (hr : meth.sig.returnType = none) (hlocks : meth.locks = false) (hml : c.maxLocals = 5) (hown : s.vm.findClass RX1 = some m.cls) (hts : ∀ w ∈ lw_all, w.before ([.ref h, .int a0] : List Value).toArray s = true) : ∀ k : Nat, (∀  (σ : pM) (H : Heap) (locs : List Loc), va_P D cl (mw ci h ad cA σ) H → va_D A (mw ci h ad cA σ) → va_S A s.heap H locs → ∀ (ls : Array Slot), lv_has ls 5 [(0, .ref h)] → (lfX1_readsLine K k).1 σ = some res → W p l e (headSpec (ws_ yX1_readsLine cX1_readsLine 5 (none)) ({ frames := 5, cells := 0, slots := 0, locals := 117 })).room s m ([.ref h, .int a0] : List Value).toArray below meth c H locs 0 0 (MQ below (mQv D cl ci h ad cA A res) ([.ref h, .int a0] : List Value).toArray s 0 0 A) (F0 m 16 ls [])) ∧ (∀ (v1 : Int32) (v2 : Int32) (v4 : Int32) (σ : pM) (H : Heap) (locs : List Loc), va_P D cl (mw ci h ad cA σ) H → va_D A (mw ci h ad cA σ) → va_S A s.heap H locs → ∀ (ls : Array Slot), lv_has ls 5 [(0, .ref h), (1, .int v1), (2, .int v2), (4, .int v4)] → (lfX1_readsLine K k).2.1 v1 v2 v4 σ = some res → W p l e (headSpec (ws_ yX1_readsLine cX1_readsLine 5 (none)) ({ frames := 5, cells := 0, slots := 0, locals := 117 })).room s m ([.ref h, .int a0] : List Value).toArray below meth c H locs 0 0 (MQ below (mQv D cl ci h ad cA A res) ([.ref h, .int a0] : List Value).toArray s 0 0 A) (F0 m 69 ls [])) ∧ (∀ (v1 : Int32) (v2 : Int32) (v4 : Int32) (σ : pM) (H : Heap) (locs : List Loc), va_P D cl (mw ci h ad cA σ) H → va_D A (mw ci h ad cA σ) → va_S A s.heap H locs → ∀ (ls : Array Slot), lv_has ls 5 [(0, .ref h), (1, .int v1), (2, .int v2), (4, .int v4)] → (lfX1_readsLine K k).2.2.1 v1 v2 v4 σ = some res → W p l e (headSpec (ws_ yX1_readsLine cX1_readsLine 5 (none)) ({ frames := 5, cells := 0, slots := 0, locals := 117 })).room s m ([.ref h, .int a0] : List Value).toArray below meth c H locs 0 0 (MQ below (mQv D cl ci h ad cA A res) ([.ref h, .int a0] : List Value).toArray s 0 0 A) (F0 m 108 ls [])) ∧ (∀ (v1 : Int32) (v2 : Int32) (v4 : Int32) (σ : pM) (H : Heap) (locs : List Loc), va_P D cl (mw ci h ad cA σ) H → va_D A (mw ci h ad cA σ) → va_S A s.heap H locs → ∀ (ls : Array Slot), lv_has ls 5 [(0, .ref h), (1, .int v1), (2, .int v2), (4, .int v4)] → (lfX1_readsLine K k).2.2.2.1 v1 v2 v4 σ = some res → W p l e (headSpec (ws_ yX1_readsLine cX1_readsLine 5 (none)) ({ frames := 5, cells := 0, slots := 0, locals := 117 })).room s m ([.ref h, .int a0] : List Value).toArray below meth c H locs 0 0 (MQ below (mQv D cl ci h ad cA A res) ([.ref h, .int a0] : List Value).toArray s 0 0 A) (F0 m 128 ls [])) ∧ (∀ (v1 : Int32) (v2 : Int32) (σ : pM) (H : Heap) (locs : List Loc), va_P D cl (mw ci h ad cA σ) H → va_D A (mw ci h ad cA σ) → va_S A s.heap H locs → ∀ (ls : Array Slot), lv_has ls 5 [(0, .ref h), (1, .int v1), (2, .int v2)] → (lfX1_readsLine K k).2.2.2.2.1 v1 v2 σ = some res → W p l e (headSpec (ws_ yX1_readsLine cX1_readsLine 5 (none)) ({ frames := 5, cells := 0, slots := 0, locals := 117 })).room s m ([.ref h, .int a0] : List Value).toArray below meth c H locs 0 0 (MQ below (mQv D cl ci h ad cA A res) ([.ref h, .int a0] : List Value).toArray s 0 0 A) (F0 m 142 ls [])) ∧ (∀ (v1 : Int32) (v2 : Int32) (σ : pM) (H : Heap) (locs : List Loc), va_P D cl (mw ci h ad cA σ) H → va_D A (mw ci h ad cA σ) → va_S A s.heap H locs → ∀ (ls : Array Slot), lv_has ls 5 [(0, .ref h), (1, .int v1), (2, .int v2)] → (lfX1_readsLine K k).2.2.2.2.2.1 v1 v2 σ = some res → W p l e (headSpec (ws_ yX1_readsLine cX1_readsLine 5 (none)) ({ frames := 5, cells := 0, slots := 0, locals := 117 })).room s m ([.ref h, .int a0] : List Value).toArray below meth c H locs 0 0 (MQ below (mQv D cl ci h ad cA A res) ([.ref h, .int a0] : List Value).toArray s 0 0 A) (F0 m 153 ls [])) ∧ (∀  (σ : pM) (H : Heap) (locs : List Loc), va_P D cl (mw ci h ad cA σ) H → va_D A (mw ci h ad cA σ) → va_S A s.heap H locs → ∀ (ls : Array Slot), lv_has ls 5 [(0, .ref h)] → (lfX1_readsLine K k).2.2.2.2.2.2 σ = some res → W p l e (headSpec (ws_ yX1_readsLine cX1_readsLine 5 (none)) ({ frames := 5, cells := 0, slots := 0, locals := 117 })).room s m ([.ref h, .int a0] : List Value).toArray below meth c H locs 0 0 (MQ below (mQv D cl ci h ad cA A res) ([.ref h, .int a0] : List Value).toArray s 0 0 A) (F0 m 165 ls [])) := by
  intro k
  induction k with
  | zero =>
    exact ⟨fun _ _ _ _ _ _ _ _ hf => (by cases hf), fun _ _ _ _ _ _ _ _ _ _ _ hf => (by cases hf), fun _ _ _ _ _ _ _ _ _ _ _ hf => (by cases hf), fun _ _ _ _ _ _ _ _ _ _ _ hf => (by cases hf), fun _ _ _ _ _ _ _ _ _ _ hf => (by cases hf), fun _ _ _ _ _ _ _ _ _ _ hf => (by cases hf), fun _ _ _ _ _ _ _ _ hf => (by cases hf)⟩
  | succ k ih =>
    refine ⟨?_, ?_, ?_, ?_, ?_, ?_, ?_⟩
    · intro σ H locs hP hD hS ls hl hf
      have hf : (dz_b (fnX1_fails K σ) fun s2 => some s2 : Option pM) = some res := hf
      refine lv_aload_n hx hb dX1_readsLine_16 rfl (lv_at hl 0 rfl) ?_
      obtain ⟨s2, hx1, hf⟩ := dz_bo hf
      have hFc := dz_free hD hS hA
      refine va_callv (va_runV (As := []) (rest := []) ⟨hx, hb, hml, hown, hts⟩ (mtX1_fails l D cl ci hci h ad cA H.size σ K s2 hx1) (cwV 0 hts (lw_V q1977 q1979 qs67 q88 q1980) rfl rfl rfl (by decide +kernel) ⟨Nat.le_of_ble_eq_true rfl, Nat.le_of_ble_eq_true rfl⟩) (m_preV hci hK hP hD) rfl rfl hl.1 rfl (lv_room (Nat.le_of_ble_eq_true rfl)) dX1_readsLine_17 ⟨Nat.le_refl _, Nat.le_refl _⟩) hS (fun q _ hq => hFc q hq) hFc (fun u t H1 locs ht hvm hw hB hz hk hS => ?_)
      replace hw := hw.symm; subst hw
      replace hP := m_back ht hB
      replace hD := mw_D s2 hD
      clear hB hk hz hvm ht hFc; generalize H1 = H at hP hS ⊢
      exact W.vret hx hb hr (fun t ht hW => ⟨⟨s2, rfl, Option.some.inj hf, by rw [ht]; exact hP, va_K.moved hW.alike hK, hD⟩, hS.F ht⟩) hS.2.2 dX1_readsLine_20
    · intro v1 v2 v4 σ H locs hP hD hS ls hl hf
      have hf : (dz_b (fnX1_hasPair K v2) fun x1 => if x1 = (0 : Int32) then ((lfX1_readsLine K k).2.2.1 v1 v2 v4 σ) else (dz_b (fnX1_needsWord K 7 σ) fun s3 => dz_c (fnX1_needsInt K 1 99 s3) fun x4 s5 => if ¬ (v1 < 0 ∨ 116 ≤ Int32.toNatClampNeg v1) then (dz_l (mI s5 10 (Int32.toNatClampNeg v1) x4) fun s7 => dz_c (fnX1_needsInt K 1 99 s7) fun x8 s9 => if ¬ (v1 < 0 ∨ 116 ≤ Int32.toNatClampNeg v1) then (dz_l (mI s9 11 (Int32.toNatClampNeg v1) x8) fun s11 => (lfX1_readsLine K k).2.2.1 v1 v2 v4 s11) else none) else none) : Option pM) = some res := hf
      refine lv_iload_n hx hb dX1_readsLine_69 rfl (lv_at hl 2 rfl) ?_
      obtain ⟨x1, hx1, hf⟩ := dz_bo hf
      refine va_calli (va_runS (As := [.int v2]) (rest := []) ⟨hx, hb, hml, hown, hts⟩ (mtX1_hasPair l v2 K x1 hx1) (va_cwS 1 hts (lw_S q1850 q1851 q88 q1852) rfl rfl rfl (by decide +kernel) ⟨Nat.le_of_ble_eq_true rfl, Nat.le_of_ble_eq_true rfl⟩) ⟨fun a U g mk q => q, fun U hU hW => ⟨rfl, trivial⟩⟩ rfl rfl hl.1 rfl (lv_room (Nat.le_of_ble_eq_true rfl)) dX1_readsLine_70 ⟨Nat.le_refl _, Nat.le_refl _⟩) hS (fun q _ hq => hq.elim) (fun q hq => hq.elim) (fun r u t H1 locs ht hvm hw hB hz hk hS => ?_)
      replace hw := hw.symm; subst hw
      replace hP := dz_keep hP hk
      clear hB hk hz hvm ht; generalize H1 = H at hP hS ⊢
      refine lv_if_eq (tgt := 108) hx hb dX1_readsLine_73 (by decide) (fun c73 => ?_) (fun c73 => ?_)
      · have hf := dz_t c73 hf
        exact ih.2.2.1 v1 v2 v4 σ H locs hP hD hS ls (lv_sub hl [0, 1, 2, 3] rfl) hf
      · have hf := dz_f c73 hf
        refine lv_aload_n hx hb dX1_readsLine_76 rfl (lv_at hl 0 rfl) ?_
        refine lv_bipush (v := 7) hx hb dX1_readsLine_77 (by decide) ?_
        obtain ⟨s3, hx2, hf⟩ := dz_bo hf
        have hFc := dz_free hD hS hA
        refine va_callv (va_runV (As := [.int 7]) (rest := []) ⟨hx, hb, hml, hown, hts⟩ (mtX1_needsWord l D cl ci hci h ad cA H.size σ 7 K s3 hx2) (cwV 1 hts (lw_V q1986 q1988 qs69 q88 q1989) rfl rfl rfl (by decide +kernel) ⟨Nat.le_of_ble_eq_true rfl, Nat.le_of_ble_eq_true rfl⟩) (m_preV hci hK hP hD) rfl rfl hl.1 rfl (lv_room (Nat.le_of_ble_eq_true rfl)) dX1_readsLine_79 ⟨Nat.le_refl _, Nat.le_refl _⟩) hS (fun q _ hq => hFc q hq) hFc (fun u t H1 locs ht hvm hw hB hz hk hS => ?_)
        replace hw := hw.symm; subst hw
        replace hP := m_back ht hB
        replace hD := mw_D s3 hD
        clear hB hk hz hvm ht hFc; generalize H1 = H at hP hS ⊢
        refine lv_aload_n hx hb dX1_readsLine_82 rfl (lv_at hl 0 rfl) ?_
        refine va_get (C := RX1) (T := TX1) (N := 35) (fs := mwF ad s3) (v := .ref (ad 10)) hx hb hts in_X1 hown hK hP 0 rfl hci 10 (by decide) (hts _ q1681) (fun _ hq => hq) rfl dX1_readsLine_83 ?_
        refine lv_iload_n hx hb dX1_readsLine_86 rfl (lv_at hl 1 rfl) ?_
        refine lv_aload_n hx hb dX1_readsLine_87 rfl (lv_at hl 0 rfl) ?_
        refine lv_iconst (v := 1) hx hb dX1_readsLine_88 (by decide) ?_
        refine lv_bipush (v := 99) hx hb dX1_readsLine_89 (by decide) ?_
        obtain ⟨x4, s5, hx4, hf⟩ := dz_co hf
        have hFc := dz_free hD hS hA
        refine va_calli (va_runV (As := [.int 1, .int 99]) (rest := [.int v1, .ref (ad 10)]) ⟨hx, hb, hml, hown, hts⟩ (mtX1_needsInt l D cl ci hci h ad cA H.size s3 1 99 K (x4, s5) hx4) (cwV 2 hts (lw_V q1982 q1984 qs68 q88 q1985) rfl rfl rfl (by decide +kernel) ⟨Nat.le_of_ble_eq_true rfl, Nat.le_of_ble_eq_true rfl⟩) (m_preV hci hK hP hD) rfl rfl hl.1 rfl (lv_room (Nat.le_of_ble_eq_true rfl)) dX1_readsLine_91 ⟨Nat.le_refl _, Nat.le_refl _⟩) hS (fun q _ hq => hFc q hq) hFc (fun r u t H1 locs ht hvm hw hB hz hk hS => ?_)
        obtain ⟨hw1, hw2⟩ := Prod.mk.inj hw.symm; subst hw1; subst hw2
        replace hP := m_back ht hB
        replace hD := mw_D s5 hD
        clear hB hk hz hvm ht hFc; generalize H1 = H at hP hS ⊢
        obtain ⟨g6, hf⟩ := dz_go hf
        refine va_iast hx hb hK hP hD hS 8 0 rfl rfl g6 dX1_readsLine_94 (fun H locs hP1 _ hS => ?_)
        obtain ⟨s7, e_s7, hf⟩ := dz_lo hf
        have hP : va_P D cl (mw ci h ad cA s7) H := by rw [e_s7]; exact hP1
        clear hP1; replace hD := mw_D s7 hD
        refine lv_aload_n hx hb dX1_readsLine_95 rfl (lv_at hl 0 rfl) ?_
        refine va_get (C := RX1) (T := TX1) (N := 35) (fs := mwF ad s7) (v := .ref (ad 11)) hx hb hts in_X1 hown hK hP 0 rfl hci 11 (by decide) (hts _ q1682) (fun _ hq => hq) rfl dX1_readsLine_96 ?_
        refine lv_iload_n hx hb dX1_readsLine_99 rfl (lv_at hl 1 rfl) ?_
        refine lv_aload_n hx hb dX1_readsLine_100 rfl (lv_at hl 0 rfl) ?_
        refine lv_iconst (v := 1) hx hb dX1_readsLine_101 (by decide) ?_
        refine lv_bipush (v := 99) hx hb dX1_readsLine_102 (by decide) ?_
        obtain ⟨x8, s9, hx8, hf⟩ := dz_co hf
        have hFc := dz_free hD hS hA
        refine va_calli (va_runV (As := [.int 1, .int 99]) (rest := [.int v1, .ref (ad 11)]) ⟨hx, hb, hml, hown, hts⟩ (mtX1_needsInt l D cl ci hci h ad cA H.size s7 1 99 K (x8, s9) hx8) (cwV 2 hts (lw_V q1982 q1984 qs68 q88 q1985) rfl rfl rfl (by decide +kernel) ⟨Nat.le_of_ble_eq_true rfl, Nat.le_of_ble_eq_true rfl⟩) (m_preV hci hK hP hD) rfl rfl hl.1 rfl (lv_room (Nat.le_of_ble_eq_true rfl)) dX1_readsLine_104 ⟨Nat.le_refl _, Nat.le_refl _⟩) hS (fun q _ hq => hFc q hq) hFc (fun r u t H1 locs ht hvm hw hB hz hk hS => ?_)
        obtain ⟨hw1, hw2⟩ := Prod.mk.inj hw.symm; subst hw1; subst hw2
        replace hP := m_back ht hB
        replace hD := mw_D s9 hD
        clear hB hk hz hvm ht hFc; generalize H1 = H at hP hS ⊢
        obtain ⟨g10, hf⟩ := dz_go hf
        refine va_iast hx hb hK hP hD hS 9 0 rfl rfl g10 dX1_readsLine_107 (fun H locs hP1 _ hS => ?_)
        obtain ⟨s11, e_s11, hf⟩ := dz_lo hf
        have hP : va_P D cl (mw ci h ad cA s11) H := by rw [e_s11]; exact hP1
        clear hP1; replace hD := mw_D s11 hD
        exact ih.2.2.1 v1 v2 v4 s11 H locs hP hD hS ls (lv_sub hl [0, 1, 2, 3] rfl) hf
    · intro v1 v2 v4 σ H locs hP hD hS ls hl hf
      have hf : (if v2 = (0 : Int32) then ((lfX1_readsLine K k).2.2.2.1 v1 v2 v4 σ) else (if v2 = (4 : Int32) then (dz_b (fnX1_needsWord K 8 σ) fun s4 => (lfX1_readsLine K k).2.2.2.1 v1 v2 v4 s4) else (dz_b (fnX1_needsWord K 6 σ) fun s2 => (lfX1_readsLine K k).2.2.2.1 v1 v2 v4 s2)) : Option pM) = some res := hf
      refine lv_iload_n hx hb dX1_readsLine_108 rfl (lv_at hl 2 rfl) ?_
      refine lv_if_eq (tgt := 128) hx hb dX1_readsLine_109 (by decide) (fun c109 => ?_) (fun c109 => ?_)
      · have hf := dz_t c109 hf
        exact ih.2.2.2.1 v1 v2 v4 σ H locs hP hD hS ls (lv_sub hl [0, 1, 2, 3] rfl) hf
      · have hf := dz_f c109 hf
        refine lv_aload_n hx hb dX1_readsLine_112 rfl (lv_at hl 0 rfl) ?_
        refine lv_iload_n hx hb dX1_readsLine_113 rfl (lv_at hl 2 rfl) ?_
        refine lv_iconst (v := 4) hx hb dX1_readsLine_114 (by decide) ?_
        refine lv_icmp_ne (tgt := 123) hx hb dX1_readsLine_115 (by decide) (fun c115 => ?_) (fun c115 => ?_)
        · have hf := dz_f c115 hf
          refine lv_bipush (v := 6) hx hb dX1_readsLine_123 (by decide) ?_
          obtain ⟨s2, hx1, hf⟩ := dz_bo hf
          have hFc := dz_free hD hS hA
          refine va_callv (va_runV (As := [.int 6]) (rest := []) ⟨hx, hb, hml, hown, hts⟩ (mtX1_needsWord l D cl ci hci h ad cA H.size σ 6 K s2 hx1) (cwV 1 hts (lw_V q1986 q1988 qs69 q88 q1989) rfl rfl rfl (by decide +kernel) ⟨Nat.le_of_ble_eq_true rfl, Nat.le_of_ble_eq_true rfl⟩) (m_preV hci hK hP hD) rfl rfl hl.1 rfl (lv_room (Nat.le_of_ble_eq_true rfl)) dX1_readsLine_125 ⟨Nat.le_refl _, Nat.le_refl _⟩) hS (fun q _ hq => hFc q hq) hFc (fun u t H1 locs ht hvm hw hB hz hk hS => ?_)
          replace hw := hw.symm; subst hw
          replace hP := m_back ht hB
          replace hD := mw_D s2 hD
          clear hB hk hz hvm ht hFc; generalize H1 = H at hP hS ⊢
          exact ih.2.2.2.1 v1 v2 v4 s2 H locs hP hD hS ls (lv_sub hl [0, 1, 2, 3] rfl) hf
        · have hf := dz_t c115 hf
          refine lv_bipush (v := 8) hx hb dX1_readsLine_118 (by decide) ?_
          refine lv_goto (tgt := 125) hx hb dX1_readsLine_120 (by decide) ?_
          obtain ⟨s4, hx3, hf⟩ := dz_bo hf
          have hFc := dz_free hD hS hA
          refine va_callv (va_runV (As := [.int 8]) (rest := []) ⟨hx, hb, hml, hown, hts⟩ (mtX1_needsWord l D cl ci hci h ad cA H.size σ 8 K s4 hx3) (cwV 1 hts (lw_V q1986 q1988 qs69 q88 q1989) rfl rfl rfl (by decide +kernel) ⟨Nat.le_of_ble_eq_true rfl, Nat.le_of_ble_eq_true rfl⟩) (m_preV hci hK hP hD) rfl rfl hl.1 rfl (lv_room (Nat.le_of_ble_eq_true rfl)) dX1_readsLine_125 ⟨Nat.le_refl _, Nat.le_refl _⟩) hS (fun q _ hq => hFc q hq) hFc (fun u t H1 locs ht hvm hw hB hz hk hS => ?_)
          replace hw := hw.symm; subst hw
          replace hP := m_back ht hB
          replace hD := mw_D s4 hD
          clear hB hk hz hvm ht hFc; generalize H1 = H at hP hS ⊢
          exact ih.2.2.2.1 v1 v2 v4 s4 H locs hP hD hS ls (lv_sub hl [0, 1, 2, 3] rfl) hf
    · intro v1 v2 v4 σ H locs hP hD hS ls hl hf
      have hf : (dz_b (fnX1_hasDowns K v2) fun x1 => if x1 = (0 : Int32) then ((lfX1_readsLine K k).2.2.2.2.1 v1 v2 σ) else (dz_b (fnX1_readsDowns K v1 v4 σ) fun s3 => (lfX1_readsLine K k).2.2.2.2.1 v1 v2 s3) : Option pM) = some res := hf
      refine lv_iload_n hx hb dX1_readsLine_128 rfl (lv_at hl 2 rfl) ?_
      obtain ⟨x1, hx1, hf⟩ := dz_bo hf
      refine va_calli (va_runS (As := [.int v2]) (rest := []) ⟨hx, hb, hml, hown, hts⟩ (mtX1_hasDowns l v2 K x1 hx1) (va_cwS 1 hts (lw_S q1990 q1991 q88 q1992) rfl rfl rfl (by decide +kernel) ⟨Nat.le_of_ble_eq_true rfl, Nat.le_of_ble_eq_true rfl⟩) ⟨fun a U g mk q => q, fun U hU hW => ⟨rfl, trivial⟩⟩ rfl rfl hl.1 rfl (lv_room (Nat.le_of_ble_eq_true rfl)) dX1_readsLine_129 ⟨Nat.le_refl _, Nat.le_refl _⟩) hS (fun q _ hq => hq.elim) (fun q hq => hq.elim) (fun r u t H1 locs ht hvm hw hB hz hk hS => ?_)
      replace hw := hw.symm; subst hw
      replace hP := dz_keep hP hk
      clear hB hk hz hvm ht; generalize H1 = H at hP hS ⊢
      refine lv_if_eq (tgt := 142) hx hb dX1_readsLine_132 (by decide) (fun c132 => ?_) (fun c132 => ?_)
      · have hf := dz_t c132 hf
        exact ih.2.2.2.2.1 v1 v2 σ H locs hP hD hS ls (lv_sub hl [0, 1, 2] rfl) hf
      · have hf := dz_f c132 hf
        refine lv_aload_n hx hb dX1_readsLine_135 rfl (lv_at hl 0 rfl) ?_
        refine lv_iload_n hx hb dX1_readsLine_136 rfl (lv_at hl 1 rfl) ?_
        refine lv_iload hx hb dX1_readsLine_137 (lv_at hl 3 rfl) ?_
        obtain ⟨s3, hx2, hf⟩ := dz_bo hf
        have hFc := dz_free hD hS hA
        refine va_callv (va_runV (As := [.int v1, .int v4]) (rest := []) ⟨hx, hb, hml, hown, hts⟩ (mtX1_readsDowns l D cl ci hci h ad cA H.size σ v1 v4 K s3 hx2) (cwV 2 hts (lw_V q1993 q1995 qs70 q88 q1996) rfl rfl rfl (by decide +kernel) ⟨Nat.le_of_ble_eq_true rfl, Nat.le_of_ble_eq_true rfl⟩) (m_preV hci hK hP hD) rfl rfl hl.1 rfl (lv_room (Nat.le_of_ble_eq_true rfl)) dX1_readsLine_139 ⟨Nat.le_refl _, Nat.le_refl _⟩) hS (fun q _ hq => hFc q hq) hFc (fun u t H1 locs ht hvm hw hB hz hk hS => ?_)
        replace hw := hw.symm; subst hw
        replace hP := m_back ht hB
        replace hD := mw_D s3 hD
        clear hB hk hz hvm ht hFc; generalize H1 = H at hP hS ⊢
        exact ih.2.2.2.2.1 v1 v2 s3 H locs hP hD hS ls (lv_sub hl [0, 1, 2] rfl) hf
    · intro v1 v2 σ H locs hP hD hS ls hl hf
      have hf : (if v2 = (4 : Int32) then (dz_b (fnX1_needsWord K 9 σ) fun s2 => (lfX1_readsLine K k).2.2.2.2.2.1 v1 v2 s2) else ((lfX1_readsLine K k).2.2.2.2.2.1 v1 v2 σ) : Option pM) = some res := hf
      refine lv_iload_n hx hb dX1_readsLine_142 rfl (lv_at hl 2 rfl) ?_
      refine lv_iconst (v := 4) hx hb dX1_readsLine_143 (by decide) ?_
      refine lv_icmp_ne (tgt := 153) hx hb dX1_readsLine_144 (by decide) (fun c144 => ?_) (fun c144 => ?_)
      · have hf := dz_f c144 hf
        exact ih.2.2.2.2.2.1 v1 v2 σ H locs hP hD hS ls (lv_sub hl [0, 1, 2] rfl) hf
      · have hf := dz_t c144 hf
        refine lv_aload_n hx hb dX1_readsLine_147 rfl (lv_at hl 0 rfl) ?_
        refine lv_bipush (v := 9) hx hb dX1_readsLine_148 (by decide) ?_
        obtain ⟨s2, hx1, hf⟩ := dz_bo hf
        have hFc := dz_free hD hS hA
        refine va_callv (va_runV (As := [.int 9]) (rest := []) ⟨hx, hb, hml, hown, hts⟩ (mtX1_needsWord l D cl ci hci h ad cA H.size σ 9 K s2 hx1) (cwV 1 hts (lw_V q1986 q1988 qs69 q88 q1989) rfl rfl rfl (by decide +kernel) ⟨Nat.le_of_ble_eq_true rfl, Nat.le_of_ble_eq_true rfl⟩) (m_preV hci hK hP hD) rfl rfl hl.1 rfl (lv_room (Nat.le_of_ble_eq_true rfl)) dX1_readsLine_150 ⟨Nat.le_refl _, Nat.le_refl _⟩) hS (fun q _ hq => hFc q hq) hFc (fun u t H1 locs ht hvm hw hB hz hk hS => ?_)
        replace hw := hw.symm; subst hw
        replace hP := m_back ht hB
        replace hD := mw_D s2 hD
        clear hB hk hz hvm ht hFc; generalize H1 = H at hP hS ⊢
        exact ih.2.2.2.2.2.1 v1 v2 s2 H locs hP hD hS ls (lv_sub hl [0, 1, 2] rfl) hf
    · intro v1 v2 σ H locs hP hD hS ls hl hf
      have hf : (dz_b (fnX1_hasPair K v2) fun x1 => if x1 = (0 : Int32) then ((lfX1_readsLine K k).2.2.2.2.2.2 σ) else (dz_b (fnX1_readsUps K v1 σ) fun s3 => (lfX1_readsLine K k).2.2.2.2.2.2 s3) : Option pM) = some res := hf
      refine lv_iload_n hx hb dX1_readsLine_153 rfl (lv_at hl 2 rfl) ?_
      obtain ⟨x1, hx1, hf⟩ := dz_bo hf
      refine va_calli (va_runS (As := [.int v2]) (rest := []) ⟨hx, hb, hml, hown, hts⟩ (mtX1_hasPair l v2 K x1 hx1) (va_cwS 1 hts (lw_S q1850 q1851 q88 q1852) rfl rfl rfl (by decide +kernel) ⟨Nat.le_of_ble_eq_true rfl, Nat.le_of_ble_eq_true rfl⟩) ⟨fun a U g mk q => q, fun U hU hW => ⟨rfl, trivial⟩⟩ rfl rfl hl.1 rfl (lv_room (Nat.le_of_ble_eq_true rfl)) dX1_readsLine_154 ⟨Nat.le_refl _, Nat.le_refl _⟩) hS (fun q _ hq => hq.elim) (fun q hq => hq.elim) (fun r u t H1 locs ht hvm hw hB hz hk hS => ?_)
      replace hw := hw.symm; subst hw
      replace hP := dz_keep hP hk
      clear hB hk hz hvm ht; generalize H1 = H at hP hS ⊢
      refine lv_if_eq (tgt := 165) hx hb dX1_readsLine_157 (by decide) (fun c157 => ?_) (fun c157 => ?_)
      · have hf := dz_t c157 hf
        exact ih.2.2.2.2.2.2 σ H locs hP hD hS ls (lv_sub hl [0] rfl) hf
      · have hf := dz_f c157 hf
        refine lv_aload_n hx hb dX1_readsLine_160 rfl (lv_at hl 0 rfl) ?_
        refine lv_iload_n hx hb dX1_readsLine_161 rfl (lv_at hl 1 rfl) ?_
        obtain ⟨s3, hx2, hf⟩ := dz_bo hf
        have hFc := dz_free hD hS hA
        refine va_callv (va_runV (As := [.int v1]) (rest := []) ⟨hx, hb, hml, hown, hts⟩ (mtX1_readsUps l D cl ci hci h ad cA H.size σ v1 K s3 hx2) (cwV 1 hts (lw_V q1997 q1999 qs71 q88 q2000) rfl rfl rfl (by decide +kernel) ⟨Nat.le_of_ble_eq_true rfl, Nat.le_of_ble_eq_true rfl⟩) (m_preV hci hK hP hD) rfl rfl hl.1 rfl (lv_room (Nat.le_of_ble_eq_true rfl)) dX1_readsLine_162 ⟨Nat.le_refl _, Nat.le_refl _⟩) hS (fun q _ hq => hFc q hq) hFc (fun u t H1 locs ht hvm hw hB hz hk hS => ?_)
        replace hw := hw.symm; subst hw
        replace hP := m_back ht hB
        replace hD := mw_D s3 hD
        clear hB hk hz hvm ht hFc; generalize H1 = H at hP hS ⊢
        exact ih.2.2.2.2.2.2 s3 H locs hP hD hS ls (lv_sub hl [0] rfl) hf
    · intro σ H locs hP hD hS ls hl hf
      have hf : (dz_l (σ.1 30) fun x1 => if x1 = (-1 : Int32) then (dz_l (σ.1 25) fun x2 => if x2 = (3 : Int32) then (dz_b (fnX1_goesOn K σ) fun s6 => some s6) else (dz_b (fnX1_fails K σ) fun s4 => some s4)) else (some σ) : Option pM) = some res := hf
      refine lv_aload_n hx hb dX1_readsLine_165 rfl (lv_at hl 0 rfl) ?_
      refine va_get (C := RX1) (T := TX1) (N := 35) (fs := mwF ad σ) (v := .int (σ.1 30)) hx hb hts in_X1 hown hK hP 0 rfl hci 30 (by decide) (hts _ q1701) (fun _ hq => hq) rfl dX1_readsLine_166 ?_
      refine lv_topi (fun x1 e_x1 => ?_)
      have hf := dz_ls e_x1 hf
      refine lv_iconst (v := (-1)) hx hb dX1_readsLine_169 (by decide) ?_
      refine lv_icmp_eq (tgt := 174) hx hb dX1_readsLine_170 (by decide) (fun c170 => ?_) (fun c170 => ?_)
      · have hf := dz_t c170 hf
        refine lv_aload_n hx hb dX1_readsLine_174 rfl (lv_at hl 0 rfl) ?_
        refine va_get (C := RX1) (T := TX1) (N := 35) (fs := mwF ad σ) (v := .int (σ.1 25)) hx hb hts in_X1 hown hK hP 0 rfl hci 25 (by decide) (hts _ q1696) (fun _ hq => hq) rfl dX1_readsLine_175 ?_
        refine lv_topi (fun x2 e_x2 => ?_)
        have hf := dz_ls e_x2 hf
        refine lv_iconst (v := 3) hx hb dX1_readsLine_178 (by decide) ?_
        refine lv_icmp_ne (tgt := 189) hx hb dX1_readsLine_179 (by decide) (fun c179 => ?_) (fun c179 => ?_)
        · have hf := dz_f c179 hf
          refine lv_aload_n hx hb dX1_readsLine_189 rfl (lv_at hl 0 rfl) ?_
          obtain ⟨s4, hx3, hf⟩ := dz_bo hf
          have hFc := dz_free hD hS hA
          refine va_callv (va_runV (As := []) (rest := []) ⟨hx, hb, hml, hown, hts⟩ (mtX1_fails l D cl ci hci h ad cA H.size σ K s4 hx3) (cwV 0 hts (lw_V q1977 q1979 qs67 q88 q1980) rfl rfl rfl (by decide +kernel) ⟨Nat.le_of_ble_eq_true rfl, Nat.le_of_ble_eq_true rfl⟩) (m_preV hci hK hP hD) rfl rfl hl.1 rfl (lv_room (Nat.le_of_ble_eq_true rfl)) dX1_readsLine_190 ⟨Nat.le_refl _, Nat.le_refl _⟩) hS (fun q _ hq => hFc q hq) hFc (fun u t H1 locs ht hvm hw hB hz hk hS => ?_)
          replace hw := hw.symm; subst hw
          replace hP := m_back ht hB
          replace hD := mw_D s4 hD
          clear hB hk hz hvm ht hFc; generalize H1 = H at hP hS ⊢
          exact W.vret hx hb hr (fun t ht hW => ⟨⟨s4, rfl, Option.some.inj hf, by rw [ht]; exact hP, va_K.moved hW.alike hK, hD⟩, hS.F ht⟩) hS.2.2 dX1_readsLine_193
        · have hf := dz_t c179 hf
          refine lv_aload_n hx hb dX1_readsLine_182 rfl (lv_at hl 0 rfl) ?_
          obtain ⟨s6, hx5, hf⟩ := dz_bo hf
          have hFc := dz_free hD hS hA
          refine va_callv (va_runV (As := []) (rest := []) ⟨hx, hb, hml, hown, hts⟩ (mtX1_goesOn l D cl ci hci h ad cA H.size σ K s6 hx5) (cwV 0 hts (lw_V q1948 q1950 qs61 q88 q1951) rfl rfl rfl (by decide +kernel) ⟨Nat.le_of_ble_eq_true rfl, Nat.le_of_ble_eq_true rfl⟩) (m_preV hci hK hP hD) rfl rfl hl.1 rfl (lv_room (Nat.le_of_ble_eq_true rfl)) dX1_readsLine_183 ⟨Nat.le_refl _, Nat.le_refl _⟩) hS (fun q _ hq => hFc q hq) hFc (fun u t H1 locs ht hvm hw hB hz hk hS => ?_)
          replace hw := hw.symm; subst hw
          replace hP := m_back ht hB
          replace hD := mw_D s6 hD
          clear hB hk hz hvm ht hFc; generalize H1 = H at hP hS ⊢
          refine lv_goto (tgt := 193) hx hb dX1_readsLine_186 (by decide) ?_
          exact W.vret hx hb hr (fun t ht hW => ⟨⟨s6, rfl, Option.some.inj hf, by rw [ht]; exact hP, va_K.moved hW.alike hK, hD⟩, hS.F ht⟩) hS.2.2 dX1_readsLine_193
      · have hf := dz_f c170 hf
        exact W.vret hx hb hr (fun t ht hW => ⟨⟨σ, rfl, Option.some.inj hf, by rw [ht]; exact hP, va_K.moved hW.alike hK, hD⟩, hS.F ht⟩) hS.2.2 dX1_readsLine_173
set_option maxHeartbeats 4000000 in
set_option maxRecDepth 100000 in
theorem mtX1_readsLine (l : Launch) (D : va_G) (cl : List vw_C) (ci : Nat) (hci : cl[ci]? = some (RX1, TX1, 35)) (h : Nat) (ad : Nat → Nat) (cA : Nat → ClassId) (sz : Nat) (σ : pM) (a0 : Int32) (K : Nat) (res : pM) (hf : fnX1_readsLine K a0 σ = some res) : Met l yX1_readsLine (ws_ yX1_readsLine cX1_readsLine 5 (none)) ({ frames := 5, cells := 0, slots := 0, locals := 117 }) (mPc D cl ci h ad cA sz σ [.ref h, .int a0]) (mQv D cl ci h ad cA (va_A (mw ci h ad cA σ) sz) res) 0 0 (va_A (mw ci h ad cA σ) sz) := by
  refine Met.ofW (cc := cX1_readsLine) (maxL := 5) (ret := none) (by decide +kernel) rfl ?_
  intro p e s m args below meth c s₁ B hml hv
  obtain ⟨rfl, hsz, hP, hK, hD0⟩ := hv
  have hx := B.exec
  have hb := B.bytes
  have hr := B.returns
  have hts := atoms_spec (ws := ws_ yX1_readsLine cX1_readsLine 5 (none)) B.pre
  have hts : ∀ w ∈ lw_all, w.before _ s = true := fun w h => hts w (List.mem_cons_of_mem _ h)
  have hown : s.vm.findClass RX1 = some m.cls := findClass_of_methodNamed B.named
  have hlocks := B.notSynchronized
  subst hsz
  have hD := hD0.self (sz := s.heap.size)
  generalize hAe : va_A (mw ci h ad cA σ) s.heap.size = A at hD ⊢
  have hA : ∀ q : Nat, s.heap.size ≤ q → A q := fun q h => by rw [← hAe]; exact Or.inr h
  clear hAe hD0
  have hS : va_S A s.heap s.heap [] := va_S.rf
  generalize hHe : s.heap = H at hP hS ⊢
  have hS : va_S A s.heap H [] := by rw [hHe]; exact hS
  generalize ([] : List Loc) = locs at hS ⊢
  have hl := lv_entry ([.ref h, .int a0]) (n := 5) (Nat.le_of_ble_eq_true rfl)
  rw [lg_entry_eq]
  generalize (lg_sl ([.ref h, .int a0]) ++ List.replicate (5 - (lg_sl ([.ref h, .int a0])).length) Slot.unset).toArray = ls at hl ⊢
  have hl : lv_has ls 5 [(0, .ref h), (1, .int a0)] := hl
  have hf : (dz_l (σ.1 25) fun x1 => if x1 = (1 : Int32) then (dz_l (σ.1 27) fun x2 => if x2 ≤ (4 : Int32) then (dz_l (σ.1 27) fun x3 => dz_b (fnX1_goesOn K σ) fun s5 => dz_c (fnX1_needsInt K 2 1000000000 s5) fun x6 s7 => dz_b (fnX1_begins K a0 x6 x3 s7) fun s9 => if x3 = (1 : Int32) then (dz_b (fnX1_needsWord K 5 s9) fun s11 => dz_c (fnX1_needsInt K 2 999 s11) fun x12 s13 => (lfX1_readsLine K K).2.1 a0 x3 x12 s13) else ((lfX1_readsLine K K).2.1 a0 x3 0 s9)) else ((lfX1_readsLine K K).1 σ)) else ((lfX1_readsLine K K).1 σ) : Option pM) = some res := hf
  have ih := wlX1_readsLine (l := l) (e := e) (below := below) (h := h) (ad := ad) (cA := cA) hci hA hK K res a0 hx hb hr hlocks hml hown hts K
  refine lv_aload_n hx hb dX1_readsLine_0 rfl (lv_at hl 0 rfl) ?_
  refine va_get (C := RX1) (T := TX1) (N := 35) (fs := mwF ad σ) (v := .int (σ.1 25)) hx hb hts in_X1 hown hK hP 0 rfl hci 25 (by decide) (hts _ q1696) (fun _ hq => hq) rfl dX1_readsLine_1 ?_
  refine lv_topi (fun x1 e_x1 => ?_)
  have hf := dz_ls e_x1 hf
  refine lv_iconst (v := 1) hx hb dX1_readsLine_4 (by decide) ?_
  refine lv_icmp_ne (tgt := 16) hx hb dX1_readsLine_5 (by decide) (fun c5 => ?_) (fun c5 => ?_)
  · have hf := dz_f c5 hf
    exact ih.1 σ H locs hP hD hS ls (lv_sub hl [0] rfl) hf
  · have hf := dz_t c5 hf
    refine lv_aload_n hx hb dX1_readsLine_8 rfl (lv_at hl 0 rfl) ?_
    refine va_get (C := RX1) (T := TX1) (N := 35) (fs := mwF ad σ) (v := .int (σ.1 27)) hx hb hts in_X1 hown hK hP 0 rfl hci 27 (by decide) (hts _ q1698) (fun _ hq => hq) rfl dX1_readsLine_9 ?_
    refine lv_topi (fun x2 e_x2 => ?_)
    have hf := dz_ls e_x2 hf
    refine lv_iconst (v := 4) hx hb dX1_readsLine_12 (by decide) ?_
    refine lv_icmp_le (tgt := 21) hx hb dX1_readsLine_13 (by decide) (fun c13 => ?_) (fun c13 => ?_)
    · have hf := dz_t c13 hf
      refine lv_aload_n hx hb dX1_readsLine_21 rfl (lv_at hl 0 rfl) ?_
      refine va_get (C := RX1) (T := TX1) (N := 35) (fs := mwF ad σ) (v := .int (σ.1 27)) hx hb hts in_X1 hown hK hP 0 rfl hci 27 (by decide) (hts _ q1698) (fun _ hq => hq) rfl dX1_readsLine_22 ?_
      refine lv_topi (fun x3 e_x3 => ?_)
      have hf := dz_ls e_x3 hf
      refine lv_istore_n (lv' := [(2, .int x3), (0, .ref h), (1, .int a0)]) hx hb dX1_readsLine_25 rfl hl (by decide) rfl (fun ls hl => ?_)
      refine lv_aload_n hx hb dX1_readsLine_26 rfl (lv_at hl 1 rfl) ?_
      obtain ⟨s5, hx4, hf⟩ := dz_bo hf
      have hFc := dz_free hD hS hA
      refine va_callv (va_runV (As := []) (rest := []) ⟨hx, hb, hml, hown, hts⟩ (mtX1_goesOn l D cl ci hci h ad cA H.size σ K s5 hx4) (cwV 0 hts (lw_V q1948 q1950 qs61 q88 q1951) rfl rfl rfl (by decide +kernel) ⟨Nat.le_of_ble_eq_true rfl, Nat.le_of_ble_eq_true rfl⟩) (m_preV hci hK hP hD) rfl rfl hl.1 rfl (lv_room (Nat.le_of_ble_eq_true rfl)) dX1_readsLine_27 ⟨Nat.le_refl _, Nat.le_refl _⟩) hS (fun q _ hq => hFc q hq) hFc (fun u t H1 locs ht hvm hw hB hz hk hS => ?_)
      replace hw := hw.symm; subst hw
      replace hP := m_back ht hB
      replace hD := mw_D s5 hD
      clear hB hk hz hvm ht hFc; generalize H1 = H at hP hS ⊢
      refine lv_aload_n hx hb dX1_readsLine_30 rfl (lv_at hl 1 rfl) ?_
      refine lv_iconst (v := 2) hx hb dX1_readsLine_31 (by decide) ?_
      refine lv_ldcw (v := 1000000000) hx hb hown (hts _ q1981) dX1_readsLine_32 ?_
      obtain ⟨x6, s7, hx6, hf⟩ := dz_co hf
      have hFc := dz_free hD hS hA
      refine va_calli (va_runV (As := [.int 2, .int 1000000000]) (rest := []) ⟨hx, hb, hml, hown, hts⟩ (mtX1_needsInt l D cl ci hci h ad cA H.size s5 2 1000000000 K (x6, s7) hx6) (cwV 2 hts (lw_V q1982 q1984 qs68 q88 q1985) rfl rfl rfl (by decide +kernel) ⟨Nat.le_of_ble_eq_true rfl, Nat.le_of_ble_eq_true rfl⟩) (m_preV hci hK hP hD) rfl rfl hl.1 rfl (lv_room (Nat.le_of_ble_eq_true rfl)) dX1_readsLine_35 ⟨Nat.le_refl _, Nat.le_refl _⟩) hS (fun q _ hq => hFc q hq) hFc (fun r u t H1 locs ht hvm hw hB hz hk hS => ?_)
      obtain ⟨hw1, hw2⟩ := Prod.mk.inj hw.symm; subst hw1; subst hw2
      replace hP := m_back ht hB
      replace hD := mw_D s7 hD
      clear hB hk hz hvm ht hFc; generalize H1 = H at hP hS ⊢
      refine lv_istore_n (lv' := [(3, .int x6), (2, .int x3), (0, .ref h), (1, .int a0)]) hx hb dX1_readsLine_38 rfl hl (by decide) rfl (fun ls hl => ?_)
      refine lv_aload_n hx hb dX1_readsLine_39 rfl (lv_at hl 2 rfl) ?_
      refine lv_iload_n hx hb dX1_readsLine_40 rfl (lv_at hl 3 rfl) ?_
      refine lv_iload_n hx hb dX1_readsLine_41 rfl (lv_at hl 0 rfl) ?_
      refine lv_iload_n hx hb dX1_readsLine_42 rfl (lv_at hl 1 rfl) ?_
      obtain ⟨s9, hx8, hf⟩ := dz_bo hf
      have hFc := dz_free hD hS hA
      refine va_callv (va_runV (As := [.int a0, .int x6, .int x3]) (rest := []) ⟨hx, hb, hml, hown, hts⟩ (mtX1_begins l D cl ci hci h ad cA H.size s7 a0 x6 x3 K s9 hx8) (cwV 3 hts (lw_V q1875 q1877 qs49 q88 q1878) rfl rfl rfl (by decide +kernel) ⟨Nat.le_of_ble_eq_true rfl, Nat.le_of_ble_eq_true rfl⟩) (m_preV hci hK hP hD) rfl rfl hl.1 rfl (lv_room (Nat.le_of_ble_eq_true rfl)) dX1_readsLine_43 ⟨Nat.le_refl _, Nat.le_refl _⟩) hS (fun q _ hq => hFc q hq) hFc (fun u t H1 locs ht hvm hw hB hz hk hS => ?_)
      replace hw := hw.symm; subst hw
      replace hP := m_back ht hB
      replace hD := mw_D s9 hD
      clear hB hk hz hvm ht hFc; generalize H1 = H at hP hS ⊢
      refine lv_iconst (v := 0) hx hb dX1_readsLine_46 (by decide) ?_
      refine lv_istore (lv' := [(4, .int 0), (3, .int x6), (2, .int x3), (0, .ref h), (1, .int a0)]) hx hb dX1_readsLine_47 hl (by decide) rfl (fun ls hl => ?_)
      refine lv_iload_n hx hb dX1_readsLine_49 rfl (lv_at hl 2 rfl) ?_
      refine lv_iconst (v := 1) hx hb dX1_readsLine_50 (by decide) ?_
      refine lv_icmp_ne (tgt := 69) hx hb dX1_readsLine_51 (by decide) (fun c51 => ?_) (fun c51 => ?_)
      · have hf := dz_f c51 hf
        exact ih.2.1 a0 x3 0 s9 H locs hP hD hS ls (lv_sub hl [3, 4, 2, 0] rfl) hf
      · have hf := dz_t c51 hf
        refine lv_aload_n hx hb dX1_readsLine_54 rfl (lv_at hl 3 rfl) ?_
        refine lv_iconst (v := 5) hx hb dX1_readsLine_55 (by decide) ?_
        obtain ⟨s11, hx10, hf⟩ := dz_bo hf
        have hFc := dz_free hD hS hA
        refine va_callv (va_runV (As := [.int 5]) (rest := []) ⟨hx, hb, hml, hown, hts⟩ (mtX1_needsWord l D cl ci hci h ad cA H.size s9 5 K s11 hx10) (cwV 1 hts (lw_V q1986 q1988 qs69 q88 q1989) rfl rfl rfl (by decide +kernel) ⟨Nat.le_of_ble_eq_true rfl, Nat.le_of_ble_eq_true rfl⟩) (m_preV hci hK hP hD) rfl rfl hl.1 rfl (lv_room (Nat.le_of_ble_eq_true rfl)) dX1_readsLine_56 ⟨Nat.le_refl _, Nat.le_refl _⟩) hS (fun q _ hq => hFc q hq) hFc (fun u t H1 locs ht hvm hw hB hz hk hS => ?_)
        replace hw := hw.symm; subst hw
        replace hP := m_back ht hB
        replace hD := mw_D s11 hD
        clear hB hk hz hvm ht hFc; generalize H1 = H at hP hS ⊢
        refine lv_aload_n hx hb dX1_readsLine_59 rfl (lv_at hl 3 rfl) ?_
        refine lv_iconst (v := 2) hx hb dX1_readsLine_60 (by decide) ?_
        refine lv_sipush (v := 999) hx hb dX1_readsLine_61 (by decide) ?_
        obtain ⟨x12, s13, hx12, hf⟩ := dz_co hf
        have hFc := dz_free hD hS hA
        refine va_calli (va_runV (As := [.int 2, .int 999]) (rest := []) ⟨hx, hb, hml, hown, hts⟩ (mtX1_needsInt l D cl ci hci h ad cA H.size s11 2 999 K (x12, s13) hx12) (cwV 2 hts (lw_V q1982 q1984 qs68 q88 q1985) rfl rfl rfl (by decide +kernel) ⟨Nat.le_of_ble_eq_true rfl, Nat.le_of_ble_eq_true rfl⟩) (m_preV hci hK hP hD) rfl rfl hl.1 rfl (lv_room (Nat.le_of_ble_eq_true rfl)) dX1_readsLine_64 ⟨Nat.le_refl _, Nat.le_refl _⟩) hS (fun q _ hq => hFc q hq) hFc (fun r u t H1 locs ht hvm hw hB hz hk hS => ?_)
        obtain ⟨hw1, hw2⟩ := Prod.mk.inj hw.symm; subst hw1; subst hw2
        replace hP := m_back ht hB
        replace hD := mw_D s13 hD
        clear hB hk hz hvm ht hFc; generalize H1 = H at hP hS ⊢
        refine lv_istore (lv' := [(4, .int x12), (3, .int x6), (2, .int x3), (0, .ref h), (1, .int a0)]) hx hb dX1_readsLine_67 hl (by decide) rfl (fun ls hl => ?_)
        exact ih.2.1 a0 x3 x12 s13 H locs hP hD hS ls (lv_sub hl [3, 4, 2, 0] rfl) hf
    · have hf := dz_f c13 hf
      exact ih.1 σ H locs hP hD hS ls (lv_sub hl [0] rfl) hf

noncomputable def lfX1_read (K : Nat) : Nat → (Int32 → pM → Option (Int32 × pM)) × (Int32 → pM → Option (Int32 × pM)) := Nat.rec (motive := fun _ => (Int32 → pM → Option (Int32 × pM)) × (Int32 → pM → Option (Int32 × pM))) ((fun _ _ => none), (fun _ _ => none)) (fun _ G => ((fun v1 σ => dz_l (σ.1 30) fun x1 => if x1 = (-1 : Int32) then (dz_l (σ.1 25) fun x2 => if x2 = (0 : Int32) then (G.2 v1 σ) else (dz_l (σ.1 7) fun x3 => dz_b (fnX1_readsLine K (x3 + v1) σ) fun s5 => dz_l (v1 + 1) fun x6 => G.1 x6 s5)) else (G.2 v1 σ)), (fun v1 σ => dz_l (mF σ 24 0) fun s1 => dz_l (s1.1 30) fun x2 => if x2 = (-1 : Int32) then (dz_l (s1.1 7) fun x3 => if (x3 + v1) ≤ (60 : Int32) then (dz_l (s1.1 7) fun x4 => dz_l (x4 + v1) fun x5 => dz_l (mF s1 7 x5) fun s6 => some (v1, s6)) else (some ((-3), s1))) else (dz_l (s1.1 30) fun x7 => some ((-4) - x7, s1)))))
noncomputable def fnX1_read (K : Nat)  (σ : pM) : Option (Int32 × pM) := dz_l (mF σ 29 0) fun s1 => dz_l (mF s1 25 3) fun s2 => dz_l (mF s2 30 (-1)) fun s3 => dz_b (fnX1_goesOn K s3) fun s5 => (lfX1_read K K).1 0 s5
set_option maxHeartbeats 4000000 in
set_option maxRecDepth 100000 in
theorem wlX1_read {p : Program} {l : Launch} {e : Env} {s : State} {m : MethodId} {below : List Frame} {meth : Method} {c : Code} {D : va_G} {cl : List vw_C} {ci : Nat} (hci : cl[ci]? = some (RX1, TX1, 35)) {h : Nat} {ad : Nat → Nat} {cA : Nat → ClassId} {A : Nat → Prop} (hA : ∀ q : Nat, s.heap.size ≤ q → A q) (hK : va_K D cl (mtys cA) s) (K : Nat) (res : (Int32 × pM))  (hx : p.tables.exec = Jvm.exec) (hb : c.code = cX1_read) (hr : meth.sig.returnType = some .int) (hlocks : meth.locks = false) (hml : c.maxLocals = 2) (hown : s.vm.findClass RX1 = some m.cls) (hts : ∀ w ∈ lw_all, w.before ([.ref h] : List Value).toArray s = true) : ∀ k : Nat, (∀ (v1 : Int32) (σ : pM) (H : Heap) (locs : List Loc), va_P D cl (mw ci h ad cA σ) H → va_D A (mw ci h ad cA σ) → va_S A s.heap H locs → ∀ (ls : Array Slot), lv_has ls 2 [(0, .ref h), (1, .int v1)] → (lfX1_read K k).1 v1 σ = some res → W p l e (headSpec (ws_ yX1_read cX1_read 2 (some .int)) ({ frames := 6, cells := 0, slots := 0, locals := 141 })).room s m ([.ref h] : List Value).toArray below meth c H locs 0 0 (MQ below (mQi D cl ci h ad cA A res) ([.ref h] : List Value).toArray s 0 0 A) (F0 m 21 ls [])) ∧ (∀ (v1 : Int32) (σ : pM) (H : Heap) (locs : List Loc), va_P D cl (mw ci h ad cA σ) H → va_D A (mw ci h ad cA σ) → va_S A s.heap H locs → ∀ (ls : Array Slot), lv_has ls 2 [(0, .ref h), (1, .int v1)] → (lfX1_read K k).2 v1 σ = some res → W p l e (headSpec (ws_ yX1_read cX1_read 2 (some .int)) ({ frames := 6, cells := 0, slots := 0, locals := 141 })).room s m ([.ref h] : List Value).toArray below meth c H locs 0 0 (MQ below (mQi D cl ci h ad cA A res) ([.ref h] : List Value).toArray s 0 0 A) (F0 m 52 ls [])) := by
  intro k
  induction k with
  | zero =>
    exact ⟨fun _ _ _ _ _ _ _ _ _ hf => (by cases hf), fun _ _ _ _ _ _ _ _ _ hf => (by cases hf)⟩
  | succ k ih =>
    refine ⟨?_, ?_⟩
    · intro v1 σ H locs hP hD hS ls hl hf
      have hf : (dz_l (σ.1 30) fun x1 => if x1 = (-1 : Int32) then (dz_l (σ.1 25) fun x2 => if x2 = (0 : Int32) then ((lfX1_read K k).2 v1 σ) else (dz_l (σ.1 7) fun x3 => dz_b (fnX1_readsLine K (x3 + v1) σ) fun s5 => dz_l (v1 + 1) fun x6 => (lfX1_read K k).1 x6 s5)) else ((lfX1_read K k).2 v1 σ) : Option (Int32 × pM)) = some res := hf
      refine lv_aload_n hx hb dX1_read_21 rfl (lv_at hl 0 rfl) ?_
      refine va_get (C := RX1) (T := TX1) (N := 35) (fs := mwF ad σ) (v := .int (σ.1 30)) hx hb hts in_X1 hown hK hP 0 rfl hci 30 (by decide) (hts _ q1701) (fun _ hq => hq) rfl dX1_read_22 ?_
      refine lv_topi (fun x1 e_x1 => ?_)
      have hf := dz_ls e_x1 hf
      refine lv_iconst (v := (-1)) hx hb dX1_read_25 (by decide) ?_
      refine lv_icmp_ne (tgt := 52) hx hb dX1_read_26 (by decide) (fun c26 => ?_) (fun c26 => ?_)
      · have hf := dz_f c26 hf
        exact ih.2 v1 σ H locs hP hD hS ls (lv_sub hl [0, 1] rfl) hf
      · have hf := dz_t c26 hf
        refine lv_aload_n hx hb dX1_read_29 rfl (lv_at hl 0 rfl) ?_
        refine va_get (C := RX1) (T := TX1) (N := 35) (fs := mwF ad σ) (v := .int (σ.1 25)) hx hb hts in_X1 hown hK hP 0 rfl hci 25 (by decide) (hts _ q1696) (fun _ hq => hq) rfl dX1_read_30 ?_
        refine lv_topi (fun x2 e_x2 => ?_)
        have hf := dz_ls e_x2 hf
        refine lv_if_eq (tgt := 52) hx hb dX1_read_33 (by decide) (fun c33 => ?_) (fun c33 => ?_)
        · have hf := dz_t c33 hf
          exact ih.2 v1 σ H locs hP hD hS ls (lv_sub hl [0, 1] rfl) hf
        · have hf := dz_f c33 hf
          refine lv_aload_n hx hb dX1_read_36 rfl (lv_at hl 0 rfl) ?_
          refine lv_aload_n hx hb dX1_read_37 rfl (lv_at hl 0 rfl) ?_
          refine va_get (C := RX1) (T := TX1) (N := 35) (fs := mwF ad σ) (v := .int (σ.1 7)) hx hb hts in_X1 hown hK hP 0 rfl hci 7 (by decide) (hts _ q1678) (fun _ hq => hq) rfl dX1_read_38 ?_
          refine lv_topi (fun x3 e_x3 => ?_)
          have hf := dz_ls e_x3 hf
          refine lv_iload_n hx hb dX1_read_41 rfl (lv_at hl 1 rfl) ?_
          refine lv_iadd hx hb dX1_read_42 ?_
          obtain ⟨s5, hx4, hf⟩ := dz_bo hf
          have hFc := dz_free hD hS hA
          refine va_callv (va_runV (As := [.int (x3 + v1)]) (rest := []) ⟨hx, hb, hml, hown, hts⟩ (mtX1_readsLine l D cl ci hci h ad cA H.size σ (x3 + v1) K s5 hx4) (cwV 1 hts (lw_V q1973 q1975 qs66 q88 q1976) rfl rfl rfl (by decide +kernel) ⟨Nat.le_of_ble_eq_true rfl, Nat.le_of_ble_eq_true rfl⟩) (m_preV hci hK hP hD) rfl rfl hl.1 rfl (lv_room (Nat.le_of_ble_eq_true rfl)) dX1_read_43 ⟨Nat.le_refl _, Nat.le_refl _⟩) hS (fun q _ hq => hFc q hq) hFc (fun u t H1 locs ht hvm hw hB hz hk hS => ?_)
          replace hw := hw.symm; subst hw
          replace hP := m_back ht hB
          replace hD := mw_D s5 hD
          clear hB hk hz hvm ht hFc; generalize H1 = H at hP hS ⊢
          obtain ⟨x6, e_x6, hf⟩ := dz_lo hf
          refine lv_iinc (v := x6) (lv' := [(1, .int x6), (0, .ref h)]) hx hb dX1_read_46 hl (k := 1) rfl (by rw [e_x6]; rfl) (by decide) rfl (fun ls hl => ?_)
          refine lv_goto (tgt := 21) hx hb dX1_read_49 (by decide) ?_
          exact ih.1 x6 s5 H locs hP hD hS ls (lv_sub hl [1, 0] rfl) hf
    · intro v1 σ H locs hP hD hS ls hl hf
      have hf : (dz_l (mF σ 24 0) fun s1 => dz_l (s1.1 30) fun x2 => if x2 = (-1 : Int32) then (dz_l (s1.1 7) fun x3 => if (x3 + v1) ≤ (60 : Int32) then (dz_l (s1.1 7) fun x4 => dz_l (x4 + v1) fun x5 => dz_l (mF s1 7 x5) fun s6 => some (v1, s6)) else (some ((-3), s1))) else (dz_l (s1.1 30) fun x7 => some ((-4) - x7, s1)) : Option (Int32 × pM)) = some res := hf
      refine lv_aload_n hx hb dX1_read_52 rfl (lv_at hl 0 rfl) ?_
      refine lv_iconst (v := 0) hx hb dX1_read_53 (by decide) ?_
      refine va_put (C := RX1) (T := TX1) (N := 35) (fs := mwF ad σ) hx hb hts in_X1 tyX1 tyX1_ok nmX1 hown hK hP hD hS 0 rfl hci 24 (by decide) (hts _ q1695) (fun _ hq => hq) rfl rfl rfl rfl (Nat.le_of_ble_eq_true rfl) dX1_read_54 (fun H locs hP1 _ hS => ?_)
      obtain ⟨s1, e_s1, hf⟩ := dz_lo hf
      have hP : va_P D cl (mw ci h ad cA s1) H := by rw [e_s1]; exact hP1
      clear hP1; replace hD := mw_D s1 hD
      refine lv_aload_n hx hb dX1_read_57 rfl (lv_at hl 0 rfl) ?_
      refine va_get (C := RX1) (T := TX1) (N := 35) (fs := mwF ad s1) (v := .int (s1.1 30)) hx hb hts in_X1 hown hK hP 0 rfl hci 30 (by decide) (hts _ q1701) (fun _ hq => hq) rfl dX1_read_58 ?_
      refine lv_topi (fun x2 e_x2 => ?_)
      have hf := dz_ls e_x2 hf
      refine lv_iconst (v := (-1)) hx hb dX1_read_61 (by decide) ?_
      refine lv_icmp_eq (tgt := 73) hx hb dX1_read_62 (by decide) (fun c62 => ?_) (fun c62 => ?_)
      · have hf := dz_t c62 hf
        refine lv_aload_n hx hb dX1_read_73 rfl (lv_at hl 0 rfl) ?_
        refine va_get (C := RX1) (T := TX1) (N := 35) (fs := mwF ad s1) (v := .int (s1.1 7)) hx hb hts in_X1 hown hK hP 0 rfl hci 7 (by decide) (hts _ q1678) (fun _ hq => hq) rfl dX1_read_74 ?_
        refine lv_topi (fun x3 e_x3 => ?_)
        have hf := dz_ls e_x3 hf
        refine lv_iload_n hx hb dX1_read_77 rfl (lv_at hl 1 rfl) ?_
        refine lv_iadd hx hb dX1_read_78 ?_
        refine lv_bipush (v := 60) hx hb dX1_read_79 (by decide) ?_
        refine lv_icmp_le (tgt := 87) hx hb dX1_read_81 (by decide) (fun c81 => ?_) (fun c81 => ?_)
        · have hf := dz_t c81 hf
          refine lv_aload_n hx hb dX1_read_87 rfl (lv_at hl 0 rfl) ?_
          refine lv_dup hx hb dX1_read_88 rfl ?_
          refine va_get (C := RX1) (T := TX1) (N := 35) (fs := mwF ad s1) (v := .int (s1.1 7)) hx hb hts in_X1 hown hK hP 0 rfl hci 7 (by decide) (hts _ q1678) (fun _ hq => hq) rfl dX1_read_89 ?_
          refine lv_topi (fun x4 e_x4 => ?_)
          have hf := dz_ls e_x4 hf
          refine lv_iload_n hx hb dX1_read_92 rfl (lv_at hl 1 rfl) ?_
          refine lv_iadd hx hb dX1_read_93 ?_
          refine lv_topi (fun x5 e_x5 => ?_)
          have hf := dz_ls e_x5 hf
          refine va_put (C := RX1) (T := TX1) (N := 35) (fs := mwF ad s1) hx hb hts in_X1 tyX1 tyX1_ok nmX1 hown hK hP hD hS 0 rfl hci 7 (by decide) (hts _ q1678) (fun _ hq => hq) rfl rfl rfl rfl (Nat.le_of_ble_eq_true rfl) dX1_read_94 (fun H locs hP1 _ hS => ?_)
          obtain ⟨s6, e_s6, hf⟩ := dz_lo hf
          have hP : va_P D cl (mw ci h ad cA s6) H := by rw [e_s6]; exact hP1
          clear hP1; replace hD := mw_D s6 hD
          refine lv_iload_n hx hb dX1_read_97 rfl (lv_at hl 1 rfl) ?_
          exact W.iret (v := v1) hx hb hr (fun t ht hW => ⟨⟨v1, s6, rfl, Option.some.inj hf, by rw [ht]; exact hP, va_K.moved hW.alike hK, hD⟩, hS.F ht⟩) hS.2.2 dX1_read_98
        · have hf := dz_f c81 hf
          refine lv_bipush (v := (-3)) hx hb dX1_read_84 (by decide) ?_
          exact W.iret (v := (-3)) hx hb hr (fun t ht hW => ⟨⟨(-3), s1, rfl, Option.some.inj hf, by rw [ht]; exact hP, va_K.moved hW.alike hK, hD⟩, hS.F ht⟩) hS.2.2 dX1_read_86
      · have hf := dz_f c62 hf
        refine lv_bipush (v := (-4)) hx hb dX1_read_65 (by decide) ?_
        refine lv_aload_n hx hb dX1_read_67 rfl (lv_at hl 0 rfl) ?_
        refine va_get (C := RX1) (T := TX1) (N := 35) (fs := mwF ad s1) (v := .int (s1.1 30)) hx hb hts in_X1 hown hK hP 0 rfl hci 30 (by decide) (hts _ q1701) (fun _ hq => hq) rfl dX1_read_68 ?_
        refine lv_topi (fun x7 e_x7 => ?_)
        have hf := dz_ls e_x7 hf
        refine lv_isub hx hb dX1_read_71 ?_
        exact W.iret (v := (-4) - x7) hx hb hr (fun t ht hW => ⟨⟨(-4) - x7, s1, rfl, Option.some.inj hf, by rw [ht]; exact hP, va_K.moved hW.alike hK, hD⟩, hS.F ht⟩) hS.2.2 dX1_read_72
set_option maxHeartbeats 4000000 in
set_option maxRecDepth 100000 in
theorem mtX1_read (l : Launch) (D : va_G) (cl : List vw_C) (ci : Nat) (hci : cl[ci]? = some (RX1, TX1, 35)) (h : Nat) (ad : Nat → Nat) (cA : Nat → ClassId) (sz : Nat) (σ : pM)  (K : Nat) (res : (Int32 × pM)) (hf : fnX1_read K  σ = some res) : Met l yX1_read (ws_ yX1_read cX1_read 2 (some .int)) ({ frames := 6, cells := 0, slots := 0, locals := 141 }) (mPc D cl ci h ad cA sz σ [.ref h]) (mQi D cl ci h ad cA (va_A (mw ci h ad cA σ) sz) res) 0 0 (va_A (mw ci h ad cA σ) sz) := by
  refine Met.ofW (cc := cX1_read) (maxL := 2) (ret := some .int) (by decide +kernel) rfl ?_
  intro p e s m args below meth c s₁ B hml hv
  obtain ⟨rfl, hsz, hP, hK, hD0⟩ := hv
  have hx := B.exec
  have hb := B.bytes
  have hr := B.returns
  have hts := atoms_spec (ws := ws_ yX1_read cX1_read 2 (some .int)) B.pre
  have hts : ∀ w ∈ lw_all, w.before _ s = true := fun w h => hts w (List.mem_cons_of_mem _ h)
  have hown : s.vm.findClass RX1 = some m.cls := findClass_of_methodNamed B.named
  have hlocks := B.notSynchronized
  subst hsz
  have hD := hD0.self (sz := s.heap.size)
  generalize hAe : va_A (mw ci h ad cA σ) s.heap.size = A at hD ⊢
  have hA : ∀ q : Nat, s.heap.size ≤ q → A q := fun q h => by rw [← hAe]; exact Or.inr h
  clear hAe hD0
  have hS : va_S A s.heap s.heap [] := va_S.rf
  generalize hHe : s.heap = H at hP hS ⊢
  have hS : va_S A s.heap H [] := by rw [hHe]; exact hS
  generalize ([] : List Loc) = locs at hS ⊢
  have hl := lv_entry ([.ref h]) (n := 2) (Nat.le_of_ble_eq_true rfl)
  rw [lg_entry_eq]
  generalize (lg_sl ([.ref h]) ++ List.replicate (2 - (lg_sl ([.ref h])).length) Slot.unset).toArray = ls at hl ⊢
  have hl : lv_has ls 2 [(0, .ref h)] := hl
  have hf : (dz_l (mF σ 29 0) fun s1 => dz_l (mF s1 25 3) fun s2 => dz_l (mF s2 30 (-1)) fun s3 => dz_b (fnX1_goesOn K s3) fun s5 => (lfX1_read K K).1 0 s5 : Option (Int32 × pM)) = some res := hf
  have ih := wlX1_read (l := l) (e := e) (below := below) (h := h) (ad := ad) (cA := cA) hci hA hK K res  hx hb hr hlocks hml hown hts K
  refine lv_aload_n hx hb dX1_read_0 rfl (lv_at hl 0 rfl) ?_
  refine lv_iconst (v := 0) hx hb dX1_read_1 (by decide) ?_
  refine va_put (C := RX1) (T := TX1) (N := 35) (fs := mwF ad σ) hx hb hts in_X1 tyX1 tyX1_ok nmX1 hown hK hP hD hS 0 rfl hci 29 (by decide) (hts _ q1700) (fun _ hq => hq) rfl rfl rfl rfl (Nat.le_of_ble_eq_true rfl) dX1_read_2 (fun H locs hP1 _ hS => ?_)
  obtain ⟨s1, e_s1, hf⟩ := dz_lo hf
  have hP : va_P D cl (mw ci h ad cA s1) H := by rw [e_s1]; exact hP1
  clear hP1; replace hD := mw_D s1 hD
  refine lv_aload_n hx hb dX1_read_5 rfl (lv_at hl 0 rfl) ?_
  refine lv_iconst (v := 3) hx hb dX1_read_6 (by decide) ?_
  refine va_put (C := RX1) (T := TX1) (N := 35) (fs := mwF ad s1) hx hb hts in_X1 tyX1 tyX1_ok nmX1 hown hK hP hD hS 0 rfl hci 25 (by decide) (hts _ q1696) (fun _ hq => hq) rfl rfl rfl rfl (Nat.le_of_ble_eq_true rfl) dX1_read_7 (fun H locs hP1 _ hS => ?_)
  obtain ⟨s2, e_s2, hf⟩ := dz_lo hf
  have hP : va_P D cl (mw ci h ad cA s2) H := by rw [e_s2]; exact hP1
  clear hP1; replace hD := mw_D s2 hD
  refine lv_aload_n hx hb dX1_read_10 rfl (lv_at hl 0 rfl) ?_
  refine lv_iconst (v := (-1)) hx hb dX1_read_11 (by decide) ?_
  refine va_put (C := RX1) (T := TX1) (N := 35) (fs := mwF ad s2) hx hb hts in_X1 tyX1 tyX1_ok nmX1 hown hK hP hD hS 0 rfl hci 30 (by decide) (hts _ q1701) (fun _ hq => hq) rfl rfl rfl rfl (Nat.le_of_ble_eq_true rfl) dX1_read_12 (fun H locs hP1 _ hS => ?_)
  obtain ⟨s3, e_s3, hf⟩ := dz_lo hf
  have hP : va_P D cl (mw ci h ad cA s3) H := by rw [e_s3]; exact hP1
  clear hP1; replace hD := mw_D s3 hD
  refine lv_iconst (v := 0) hx hb dX1_read_15 (by decide) ?_
  refine lv_istore_n (lv' := [(1, .int 0), (0, .ref h)]) hx hb dX1_read_16 rfl hl (by decide) rfl (fun ls hl => ?_)
  refine lv_aload_n hx hb dX1_read_17 rfl (lv_at hl 1 rfl) ?_
  obtain ⟨s5, hx4, hf⟩ := dz_bo hf
  have hFc := dz_free hD hS hA
  refine va_callv (va_runV (As := []) (rest := []) ⟨hx, hb, hml, hown, hts⟩ (mtX1_goesOn l D cl ci hci h ad cA H.size s3 K s5 hx4) (cwV 0 hts (lw_V q1948 q1950 qs61 q88 q1951) rfl rfl rfl (by decide +kernel) ⟨Nat.le_of_ble_eq_true rfl, Nat.le_of_ble_eq_true rfl⟩) (m_preV hci hK hP hD) rfl rfl hl.1 rfl (lv_room (Nat.le_of_ble_eq_true rfl)) dX1_read_18 ⟨Nat.le_refl _, Nat.le_refl _⟩) hS (fun q _ hq => hFc q hq) hFc (fun u t H1 locs ht hvm hw hB hz hk hS => ?_)
  replace hw := hw.symm; subst hw
  replace hP := m_back ht hB
  replace hD := mw_D s5 hD
  clear hB hk hz hvm ht hFc; generalize H1 = H at hP hS ⊢
  exact ih.1 0 s5 H locs hP hD hS ls (lv_sub hl [1, 0] rfl) hf

noncomputable def fnX1_writesSign (K : Nat) (a0 : Int32) (σ : pM) : Option pM := dz_l (σ.1 33) fun x1 => if ¬ (x1 < 0 ∨ 600 ≤ Int32.toNatClampNeg x1) then (dz_l (mI σ 32 (Int32.toNatClampNeg x1) a0) fun s3 => dz_l (s3.1 33) fun x4 => dz_l (x4 + 1) fun x5 => dz_l (mF s3 33 x5) fun s6 => some s6) else none
set_option maxHeartbeats 4000000 in
set_option maxRecDepth 100000 in
theorem mtX1_writesSign (l : Launch) (D : va_G) (cl : List vw_C) (ci : Nat) (hci : cl[ci]? = some (RX1, TX1, 35)) (h : Nat) (ad : Nat → Nat) (cA : Nat → ClassId) (sz : Nat) (σ : pM) (a0 : Int32) (K : Nat) (res : pM) (hf : fnX1_writesSign K a0 σ = some res) : Met l yX1_writesSign (ws_ yX1_writesSign cX1_writesSign 2 (none)) ({ frames := 0, cells := 0, slots := 0, locals := 0 }) (mPc D cl ci h ad cA sz σ [.ref h, .int a0]) (mQv D cl ci h ad cA (va_A (mw ci h ad cA σ) sz) res) 0 0 (va_A (mw ci h ad cA σ) sz) := by
  refine Met.ofW (cc := cX1_writesSign) (maxL := 2) (ret := none) (by decide +kernel) rfl ?_
  intro p e s m args below meth c s₁ B hml hv
  obtain ⟨rfl, hsz, hP, hK, hD0⟩ := hv
  have hx := B.exec
  have hb := B.bytes
  have hr := B.returns
  have hts := atoms_spec (ws := ws_ yX1_writesSign cX1_writesSign 2 (none)) B.pre
  have hts : ∀ w ∈ lw_all, w.before _ s = true := fun w h => hts w (List.mem_cons_of_mem _ h)
  have hown : s.vm.findClass RX1 = some m.cls := findClass_of_methodNamed B.named
  have hlocks := B.notSynchronized
  subst hsz
  have hD := hD0.self (sz := s.heap.size)
  generalize hAe : va_A (mw ci h ad cA σ) s.heap.size = A at hD ⊢
  have hA : ∀ q : Nat, s.heap.size ≤ q → A q := fun q h => by rw [← hAe]; exact Or.inr h
  clear hAe hD0
  have hS : va_S A s.heap s.heap [] := va_S.rf
  generalize hHe : s.heap = H at hP hS ⊢
  have hS : va_S A s.heap H [] := by rw [hHe]; exact hS
  generalize ([] : List Loc) = locs at hS ⊢
  have hl := lv_entry ([.ref h, .int a0]) (n := 2) (Nat.le_of_ble_eq_true rfl)
  rw [lg_entry_eq]
  generalize (lg_sl ([.ref h, .int a0]) ++ List.replicate (2 - (lg_sl ([.ref h, .int a0])).length) Slot.unset).toArray = ls at hl ⊢
  have hl : lv_has ls 2 [(0, .ref h), (1, .int a0)] := hl
  have hf : (dz_l (σ.1 33) fun x1 => if ¬ (x1 < 0 ∨ 600 ≤ Int32.toNatClampNeg x1) then (dz_l (mI σ 32 (Int32.toNatClampNeg x1) a0) fun s3 => dz_l (s3.1 33) fun x4 => dz_l (x4 + 1) fun x5 => dz_l (mF s3 33 x5) fun s6 => some s6) else none : Option pM) = some res := hf
  refine lv_aload_n hx hb dX1_writesSign_0 rfl (lv_at hl 0 rfl) ?_
  refine va_get (C := RX1) (T := TX1) (N := 35) (fs := mwF ad σ) (v := .ref (ad 32)) hx hb hts in_X1 hown hK hP 0 rfl hci 32 (by decide) (hts _ q1703) (fun _ hq => hq) rfl dX1_writesSign_1 ?_
  refine lv_aload_n hx hb dX1_writesSign_4 rfl (lv_at hl 0 rfl) ?_
  refine va_get (C := RX1) (T := TX1) (N := 35) (fs := mwF ad σ) (v := .int (σ.1 33)) hx hb hts in_X1 hown hK hP 0 rfl hci 33 (by decide) (hts _ q1704) (fun _ hq => hq) rfl dX1_writesSign_5 ?_
  refine lv_topi (fun x1 e_x1 => ?_)
  have hf := dz_ls e_x1 hf
  refine lv_iload_n hx hb dX1_writesSign_8 rfl (lv_at hl 1 rfl) ?_
  obtain ⟨g2, hf⟩ := dz_go hf
  refine va_iast hx hb hK hP hD hS 23 0 rfl rfl g2 dX1_writesSign_9 (fun H locs hP1 _ hS => ?_)
  obtain ⟨s3, e_s3, hf⟩ := dz_lo hf
  have hP : va_P D cl (mw ci h ad cA s3) H := by rw [e_s3]; exact hP1
  clear hP1; replace hD := mw_D s3 hD
  refine lv_aload_n hx hb dX1_writesSign_10 rfl (lv_at hl 0 rfl) ?_
  refine lv_dup hx hb dX1_writesSign_11 rfl ?_
  refine va_get (C := RX1) (T := TX1) (N := 35) (fs := mwF ad s3) (v := .int (s3.1 33)) hx hb hts in_X1 hown hK hP 0 rfl hci 33 (by decide) (hts _ q1704) (fun _ hq => hq) rfl dX1_writesSign_12 ?_
  refine lv_topi (fun x4 e_x4 => ?_)
  have hf := dz_ls e_x4 hf
  refine lv_iconst (v := 1) hx hb dX1_writesSign_15 (by decide) ?_
  refine lv_iadd hx hb dX1_writesSign_16 ?_
  refine lv_topi (fun x5 e_x5 => ?_)
  have hf := dz_ls e_x5 hf
  refine va_put (C := RX1) (T := TX1) (N := 35) (fs := mwF ad s3) hx hb hts in_X1 tyX1 tyX1_ok nmX1 hown hK hP hD hS 0 rfl hci 33 (by decide) (hts _ q1704) (fun _ hq => hq) rfl rfl rfl rfl (Nat.le_of_ble_eq_true rfl) dX1_writesSign_17 (fun H locs hP1 _ hS => ?_)
  obtain ⟨s6, e_s6, hf⟩ := dz_lo hf
  have hP : va_P D cl (mw ci h ad cA s6) H := by rw [e_s6]; exact hP1
  clear hP1; replace hD := mw_D s6 hD
  exact W.vret hx hb hr (fun t ht hW => ⟨⟨s6, rfl, Option.some.inj hf, by rw [ht]; exact hP, va_K.moved hW.alike hK, hD⟩, hS.F ht⟩) hS.2.2 dX1_writesSign_20

noncomputable def lfX1_writesWord (K : Nat) : Nat → (Int32 → pM → Option pM) × (Int32 → pM → Option pM) := Nat.rec (motive := fun _ => (Int32 → pM → Option pM) × (Int32 → pM → Option pM)) ((fun _ _ => none), (fun _ _ => none)) (fun _ G => ((fun v1 σ => dz_c (fnX1_wordFrom K v1 σ) fun x1 s2 => G.2 x1 s2), (fun v2 σ => if ¬ (v2 < 0 ∨ 49 ≤ Int32.toNatClampNeg v2) then (dz_l (σ.2.2.1 31 (Int32.toNatClampNeg v2)) fun x2 => if x2 = (0 : Int32) then (some σ) else (if ¬ (v2 < 0 ∨ 49 ≤ Int32.toNatClampNeg v2) then (dz_l (σ.2.2.1 31 (Int32.toNatClampNeg v2)) fun x4 => dz_b (fnX1_writesSign K x4 σ) fun s6 => dz_l (v2 + 1) fun x7 => G.2 x7 s6) else none)) else none)))
noncomputable def fnX1_writesWord (K : Nat) (a0 : Int32) (σ : pM) : Option pM := dz_l (σ.1 33) fun x1 => if x1 ≤ (0 : Int32) then ((lfX1_writesWord K K).1 a0 σ) else (dz_b (fnX1_writesSign K 32 σ) fun s3 => (lfX1_writesWord K K).1 a0 s3)
set_option maxHeartbeats 4000000 in
set_option maxRecDepth 100000 in
theorem wlX1_writesWord {p : Program} {l : Launch} {e : Env} {s : State} {m : MethodId} {below : List Frame} {meth : Method} {c : Code} {D : va_G} {cl : List vw_C} {ci : Nat} (hci : cl[ci]? = some (RX1, TX1, 35)) {h : Nat} {ad : Nat → Nat} {cA : Nat → ClassId} {A : Nat → Prop} (hA : ∀ q : Nat, s.heap.size ≤ q → A q) (hK : va_K D cl (mtys cA) s) (K : Nat) (res : pM) (a0 : Int32) (hx : p.tables.exec = Jvm.exec) (hb : c.code = cX1_writesWord) (hr : meth.sig.returnType = none) (hlocks : meth.locks = false) (hml : c.maxLocals = 3) (hown : s.vm.findClass RX1 = some m.cls) (hts : ∀ w ∈ lw_all, w.before ([.ref h, .int a0] : List Value).toArray s = true) : ∀ k : Nat, (∀ (v1 : Int32) (σ : pM) (H : Heap) (locs : List Loc), va_P D cl (mw ci h ad cA σ) H → va_D A (mw ci h ad cA σ) → va_S A s.heap H locs → ∀ (ls : Array Slot), lv_has ls 3 [(0, .ref h), (1, .int v1)] → (lfX1_writesWord K k).1 v1 σ = some res → W p l e (headSpec (ws_ yX1_writesWord cX1_writesWord 3 (none)) ({ frames := 1, cells := 0, slots := 0, locals := 23 })).room s m ([.ref h, .int a0] : List Value).toArray below meth c H locs 0 0 (MQ below (mQv D cl ci h ad cA A res) ([.ref h, .int a0] : List Value).toArray s 0 0 A) (F0 m 13 ls [])) ∧ (∀ (v2 : Int32) (σ : pM) (H : Heap) (locs : List Loc), va_P D cl (mw ci h ad cA σ) H → va_D A (mw ci h ad cA σ) → va_S A s.heap H locs → ∀ (ls : Array Slot), lv_has ls 3 [(0, .ref h), (2, .int v2)] → (lfX1_writesWord K k).2 v2 σ = some res → W p l e (headSpec (ws_ yX1_writesWord cX1_writesWord 3 (none)) ({ frames := 1, cells := 0, slots := 0, locals := 23 })).room s m ([.ref h, .int a0] : List Value).toArray below meth c H locs 0 0 (MQ below (mQv D cl ci h ad cA A res) ([.ref h, .int a0] : List Value).toArray s 0 0 A) (F0 m 19 ls [])) := by
  intro k
  induction k with
  | zero =>
    exact ⟨fun _ _ _ _ _ _ _ _ _ hf => (by cases hf), fun _ _ _ _ _ _ _ _ _ hf => (by cases hf)⟩
  | succ k ih =>
    refine ⟨?_, ?_⟩
    · intro v1 σ H locs hP hD hS ls hl hf
      have hf : (dz_c (fnX1_wordFrom K v1 σ) fun x1 s2 => (lfX1_writesWord K k).2 x1 s2 : Option pM) = some res := hf
      refine lv_aload_n hx hb dX1_writesWord_13 rfl (lv_at hl 0 rfl) ?_
      refine lv_iload_n hx hb dX1_writesWord_14 rfl (lv_at hl 1 rfl) ?_
      obtain ⟨x1, s2, hx1, hf⟩ := dz_co hf
      have hFc := dz_free hD hS hA
      refine va_calli (va_runV (As := [.int v1]) (rest := []) ⟨hx, hb, hml, hown, hts⟩ (mtX1_wordFrom l D cl ci hci h ad cA H.size σ v1 K (x1, s2) hx1) (cwV 1 hts (lw_V q1962 q1964 qs64 q88 q1965) rfl rfl rfl (by decide +kernel) ⟨Nat.le_of_ble_eq_true rfl, Nat.le_of_ble_eq_true rfl⟩) (m_preV hci hK hP hD) rfl rfl hl.1 rfl (lv_room (Nat.le_of_ble_eq_true rfl)) dX1_writesWord_15 ⟨Nat.le_refl _, Nat.le_refl _⟩) hS (fun q _ hq => hFc q hq) hFc (fun r u t H1 locs ht hvm hw hB hz hk hS => ?_)
      obtain ⟨hw1, hw2⟩ := Prod.mk.inj hw.symm; subst hw1; subst hw2
      replace hP := m_back ht hB
      replace hD := mw_D s2 hD
      clear hB hk hz hvm ht hFc; generalize H1 = H at hP hS ⊢
      refine lv_istore_n (lv' := [(2, .int x1), (0, .ref h), (1, .int v1)]) hx hb dX1_writesWord_18 rfl hl (by decide) rfl (fun ls hl => ?_)
      exact ih.2 x1 s2 H locs hP hD hS ls (lv_sub hl [1, 0] rfl) hf
    · intro v2 σ H locs hP hD hS ls hl hf
      have hf : (if ¬ (v2 < 0 ∨ 49 ≤ Int32.toNatClampNeg v2) then (dz_l (σ.2.2.1 31 (Int32.toNatClampNeg v2)) fun x2 => if x2 = (0 : Int32) then (some σ) else (if ¬ (v2 < 0 ∨ 49 ≤ Int32.toNatClampNeg v2) then (dz_l (σ.2.2.1 31 (Int32.toNatClampNeg v2)) fun x4 => dz_b (fnX1_writesSign K x4 σ) fun s6 => dz_l (v2 + 1) fun x7 => (lfX1_writesWord K k).2 x7 s6) else none)) else none : Option pM) = some res := hf
      refine lv_aload_n hx hb dX1_writesWord_19 rfl (lv_at hl 0 rfl) ?_
      refine va_get (C := RX1) (T := TX1) (N := 35) (fs := mwF ad σ) (v := .ref (ad 31)) hx hb hts in_X1 hown hK hP 0 rfl hci 31 (by decide) (hts _ q1702) (fun _ hq => hq) rfl dX1_writesWord_20 ?_
      refine lv_iload_n hx hb dX1_writesWord_23 rfl (lv_at hl 1 rfl) ?_
      obtain ⟨g1, hf⟩ := dz_go hf
      refine va_bald hx hb hK hP 22 3 rfl rfl g1 dX1_writesWord_24 ?_
      refine lv_topi (fun x2 e_x2 => ?_)
      have hf := dz_ls e_x2 hf
      refine lv_if_eq (tgt := 44) hx hb dX1_writesWord_25 (by decide) (fun c25 => ?_) (fun c25 => ?_)
      · have hf := dz_t c25 hf
        exact W.vret hx hb hr (fun t ht hW => ⟨⟨σ, rfl, Option.some.inj hf, by rw [ht]; exact hP, va_K.moved hW.alike hK, hD⟩, hS.F ht⟩) hS.2.2 dX1_writesWord_44
      · have hf := dz_f c25 hf
        refine lv_aload_n hx hb dX1_writesWord_28 rfl (lv_at hl 0 rfl) ?_
        refine lv_aload_n hx hb dX1_writesWord_29 rfl (lv_at hl 0 rfl) ?_
        refine va_get (C := RX1) (T := TX1) (N := 35) (fs := mwF ad σ) (v := .ref (ad 31)) hx hb hts in_X1 hown hK hP 0 rfl hci 31 (by decide) (hts _ q1702) (fun _ hq => hq) rfl dX1_writesWord_30 ?_
        refine lv_iload_n hx hb dX1_writesWord_33 rfl (lv_at hl 1 rfl) ?_
        obtain ⟨g3, hf⟩ := dz_go hf
        refine va_bald hx hb hK hP 22 3 rfl rfl g3 dX1_writesWord_34 ?_
        refine lv_topi (fun x4 e_x4 => ?_)
        have hf := dz_ls e_x4 hf
        obtain ⟨s6, hx5, hf⟩ := dz_bo hf
        have hFc := dz_free hD hS hA
        refine va_callv (va_runV (As := [.int x4]) (rest := []) ⟨hx, hb, hml, hown, hts⟩ (mtX1_writesSign l D cl ci hci h ad cA H.size σ x4 K s6 hx5) (cwV 1 hts (lw_V q2013 q2015 qs74 q88 q2016) rfl rfl rfl (by decide +kernel) ⟨Nat.le_of_ble_eq_true rfl, Nat.le_of_ble_eq_true rfl⟩) (m_preV hci hK hP hD) rfl rfl hl.1 rfl (lv_room (Nat.le_of_ble_eq_true rfl)) dX1_writesWord_35 ⟨Nat.le_refl _, Nat.le_refl _⟩) hS (fun q _ hq => hFc q hq) hFc (fun u t H1 locs ht hvm hw hB hz hk hS => ?_)
        replace hw := hw.symm; subst hw
        replace hP := m_back ht hB
        replace hD := mw_D s6 hD
        clear hB hk hz hvm ht hFc; generalize H1 = H at hP hS ⊢
        obtain ⟨x7, e_x7, hf⟩ := dz_lo hf
        refine lv_iinc (v := x7) (lv' := [(2, .int x7), (0, .ref h)]) hx hb dX1_writesWord_38 hl (k := 1) rfl (by rw [e_x7]; rfl) (by decide) rfl (fun ls hl => ?_)
        refine lv_goto (tgt := 19) hx hb dX1_writesWord_41 (by decide) ?_
        exact ih.2 x7 s6 H locs hP hD hS ls (lv_sub hl [1, 0] rfl) hf
set_option maxHeartbeats 4000000 in
set_option maxRecDepth 100000 in
theorem mtX1_writesWord (l : Launch) (D : va_G) (cl : List vw_C) (ci : Nat) (hci : cl[ci]? = some (RX1, TX1, 35)) (h : Nat) (ad : Nat → Nat) (cA : Nat → ClassId) (sz : Nat) (σ : pM) (a0 : Int32) (K : Nat) (res : pM) (hf : fnX1_writesWord K a0 σ = some res) : Met l yX1_writesWord (ws_ yX1_writesWord cX1_writesWord 3 (none)) ({ frames := 1, cells := 0, slots := 0, locals := 23 }) (mPc D cl ci h ad cA sz σ [.ref h, .int a0]) (mQv D cl ci h ad cA (va_A (mw ci h ad cA σ) sz) res) 0 0 (va_A (mw ci h ad cA σ) sz) := by
  refine Met.ofW (cc := cX1_writesWord) (maxL := 3) (ret := none) (by decide +kernel) rfl ?_
  intro p e s m args below meth c s₁ B hml hv
  obtain ⟨rfl, hsz, hP, hK, hD0⟩ := hv
  have hx := B.exec
  have hb := B.bytes
  have hr := B.returns
  have hts := atoms_spec (ws := ws_ yX1_writesWord cX1_writesWord 3 (none)) B.pre
  have hts : ∀ w ∈ lw_all, w.before _ s = true := fun w h => hts w (List.mem_cons_of_mem _ h)
  have hown : s.vm.findClass RX1 = some m.cls := findClass_of_methodNamed B.named
  have hlocks := B.notSynchronized
  subst hsz
  have hD := hD0.self (sz := s.heap.size)
  generalize hAe : va_A (mw ci h ad cA σ) s.heap.size = A at hD ⊢
  have hA : ∀ q : Nat, s.heap.size ≤ q → A q := fun q h => by rw [← hAe]; exact Or.inr h
  clear hAe hD0
  have hS : va_S A s.heap s.heap [] := va_S.rf
  generalize hHe : s.heap = H at hP hS ⊢
  have hS : va_S A s.heap H [] := by rw [hHe]; exact hS
  generalize ([] : List Loc) = locs at hS ⊢
  have hl := lv_entry ([.ref h, .int a0]) (n := 3) (Nat.le_of_ble_eq_true rfl)
  rw [lg_entry_eq]
  generalize (lg_sl ([.ref h, .int a0]) ++ List.replicate (3 - (lg_sl ([.ref h, .int a0])).length) Slot.unset).toArray = ls at hl ⊢
  have hl : lv_has ls 3 [(0, .ref h), (1, .int a0)] := hl
  have hf : (dz_l (σ.1 33) fun x1 => if x1 ≤ (0 : Int32) then ((lfX1_writesWord K K).1 a0 σ) else (dz_b (fnX1_writesSign K 32 σ) fun s3 => (lfX1_writesWord K K).1 a0 s3) : Option pM) = some res := hf
  have ih := wlX1_writesWord (l := l) (e := e) (below := below) (h := h) (ad := ad) (cA := cA) hci hA hK K res a0 hx hb hr hlocks hml hown hts K
  refine lv_aload_n hx hb dX1_writesWord_0 rfl (lv_at hl 0 rfl) ?_
  refine va_get (C := RX1) (T := TX1) (N := 35) (fs := mwF ad σ) (v := .int (σ.1 33)) hx hb hts in_X1 hown hK hP 0 rfl hci 33 (by decide) (hts _ q1704) (fun _ hq => hq) rfl dX1_writesWord_1 ?_
  refine lv_topi (fun x1 e_x1 => ?_)
  have hf := dz_ls e_x1 hf
  refine lv_if_le (tgt := 13) hx hb dX1_writesWord_4 (by decide) (fun c4 => ?_) (fun c4 => ?_)
  · have hf := dz_t c4 hf
    exact ih.1 a0 σ H locs hP hD hS ls (lv_sub hl [0, 1] rfl) hf
  · have hf := dz_f c4 hf
    refine lv_aload_n hx hb dX1_writesWord_7 rfl (lv_at hl 0 rfl) ?_
    refine lv_bipush (v := 32) hx hb dX1_writesWord_8 (by decide) ?_
    obtain ⟨s3, hx2, hf⟩ := dz_bo hf
    have hFc := dz_free hD hS hA
    refine va_callv (va_runV (As := [.int 32]) (rest := []) ⟨hx, hb, hml, hown, hts⟩ (mtX1_writesSign l D cl ci hci h ad cA H.size σ 32 K s3 hx2) (cwV 1 hts (lw_V q2013 q2015 qs74 q88 q2016) rfl rfl rfl (by decide +kernel) ⟨Nat.le_of_ble_eq_true rfl, Nat.le_of_ble_eq_true rfl⟩) (m_preV hci hK hP hD) rfl rfl hl.1 rfl (lv_room (Nat.le_of_ble_eq_true rfl)) dX1_writesWord_10 ⟨Nat.le_refl _, Nat.le_refl _⟩) hS (fun q _ hq => hFc q hq) hFc (fun u t H1 locs ht hvm hw hB hz hk hS => ?_)
    replace hw := hw.symm; subst hw
    replace hP := m_back ht hB
    replace hD := mw_D s3 hD
    clear hB hk hz hvm ht hFc; generalize H1 = H at hP hS ⊢
    exact ih.1 a0 s3 H locs hP hD hS ls (lv_sub hl [0, 1] rfl) hf

noncomputable def lfX1_writes (K : Nat) : Nat → (Int32 → Int32 → pM → Option pM) × (Int32 → Int32 → pM → Option pM) := Nat.rec (motive := fun _ => (Int32 → Int32 → pM → Option pM) × (Int32 → Int32 → pM → Option pM)) ((fun _ _ _ => none), (fun _ _ _ => none)) (fun _ G => ((fun v1 v2 σ => if ¬ v2 = 0 then (dz_l (v1 / v2) fun x2 => if x2 ≤ (9 : Int32) then (G.2 v1 v2 σ) else (dz_l (v2 * 10) fun x3 => G.1 v1 x3 σ)) else none), (fun v1 v2 σ => if v2 ≤ (0 : Int32) then (some σ) else (if ¬ v2 = 0 then (dz_l (v1 / v2) fun x2 => dz_l (x2 - x2 / 10 * 10) fun x3 => dz_b (fnX1_writesSign K (48 + x3) σ) fun s5 => dz_l (v2 / 10) fun x6 => G.2 v1 x6 s5) else none))))
noncomputable def fnX1_writes (K : Nat) (a0 : Int32) (σ : pM) : Option pM := dz_b (fnX1_writesSign K 32 σ) fun s2 => (lfX1_writes K K).1 a0 1 s2
set_option maxHeartbeats 4000000 in
set_option maxRecDepth 100000 in
theorem wlX1_writes {p : Program} {l : Launch} {e : Env} {s : State} {m : MethodId} {below : List Frame} {meth : Method} {c : Code} {D : va_G} {cl : List vw_C} {ci : Nat} (hci : cl[ci]? = some (RX1, TX1, 35)) {h : Nat} {ad : Nat → Nat} {cA : Nat → ClassId} {A : Nat → Prop} (hA : ∀ q : Nat, s.heap.size ≤ q → A q) (hK : va_K D cl (mtys cA) s) (K : Nat) (res : pM) (a0 : Int32) (hx : p.tables.exec = Jvm.exec) (hb : c.code = cX1_writes) (hr : meth.sig.returnType = none) (hlocks : meth.locks = false) (hml : c.maxLocals = 3) (hown : s.vm.findClass RX1 = some m.cls) (hts : ∀ w ∈ lw_all, w.before ([.ref h, .int a0] : List Value).toArray s = true) : ∀ k : Nat, (∀ (v1 : Int32) (v2 : Int32) (σ : pM) (H : Heap) (locs : List Loc), va_P D cl (mw ci h ad cA σ) H → va_D A (mw ci h ad cA σ) → va_S A s.heap H locs → ∀ (ls : Array Slot), lv_has ls 3 [(0, .ref h), (1, .int v1), (2, .int v2)] → (lfX1_writes K k).1 v1 v2 σ = some res → W p l e (headSpec (ws_ yX1_writes cX1_writes 3 (none)) ({ frames := 1, cells := 0, slots := 0, locals := 21 })).room s m ([.ref h, .int a0] : List Value).toArray below meth c H locs 0 0 (MQ below (mQv D cl ci h ad cA A res) ([.ref h, .int a0] : List Value).toArray s 0 0 A) (F0 m 8 ls [])) ∧ (∀ (v1 : Int32) (v2 : Int32) (σ : pM) (H : Heap) (locs : List Loc), va_P D cl (mw ci h ad cA σ) H → va_D A (mw ci h ad cA σ) → va_S A s.heap H locs → ∀ (ls : Array Slot), lv_has ls 3 [(0, .ref h), (1, .int v1), (2, .int v2)] → (lfX1_writes K k).2 v1 v2 σ = some res → W p l e (headSpec (ws_ yX1_writes cX1_writes 3 (none)) ({ frames := 1, cells := 0, slots := 0, locals := 21 })).room s m ([.ref h, .int a0] : List Value).toArray below meth c H locs 0 0 (MQ below (mQv D cl ci h ad cA A res) ([.ref h, .int a0] : List Value).toArray s 0 0 A) (F0 m 24 ls [])) := by
  intro k
  induction k with
  | zero =>
    exact ⟨fun _ _ _ _ _ _ _ _ _ _ hf => (by cases hf), fun _ _ _ _ _ _ _ _ _ _ hf => (by cases hf)⟩
  | succ k ih =>
    refine ⟨?_, ?_⟩
    · intro v1 v2 σ H locs hP hD hS ls hl hf
      have hf : (if ¬ v2 = 0 then (dz_l (v1 / v2) fun x2 => if x2 ≤ (9 : Int32) then ((lfX1_writes K k).2 v1 v2 σ) else (dz_l (v2 * 10) fun x3 => (lfX1_writes K k).1 v1 x3 σ)) else none : Option pM) = some res := hf
      refine lv_iload_n hx hb dX1_writes_8 rfl (lv_at hl 1 rfl) ?_
      refine lv_iload_n hx hb dX1_writes_9 rfl (lv_at hl 2 rfl) ?_
      obtain ⟨g1, hf⟩ := dz_go hf
      refine lv_idiv hx hb dX1_writes_10 g1 ?_
      refine lv_topi (fun x2 e_x2 => ?_)
      have hf := dz_ls e_x2 hf
      refine lv_bipush (v := 9) hx hb dX1_writes_11 (by decide) ?_
      refine lv_icmp_le (tgt := 24) hx hb dX1_writes_13 (by decide) (fun c13 => ?_) (fun c13 => ?_)
      · have hf := dz_t c13 hf
        exact ih.2 v1 v2 σ H locs hP hD hS ls (lv_sub hl [0, 1, 2] rfl) hf
      · have hf := dz_f c13 hf
        refine lv_iload_n hx hb dX1_writes_16 rfl (lv_at hl 2 rfl) ?_
        refine lv_bipush (v := 10) hx hb dX1_writes_17 (by decide) ?_
        refine lv_imul hx hb dX1_writes_19 ?_
        refine lv_topi (fun x3 e_x3 => ?_)
        have hf := dz_ls e_x3 hf
        refine lv_istore_n (lv' := [(2, .int x3), (0, .ref h), (1, .int v1)]) hx hb dX1_writes_20 rfl hl (by decide) rfl (fun ls hl => ?_)
        refine lv_goto (tgt := 8) hx hb dX1_writes_21 (by decide) ?_
        exact ih.1 v1 x3 σ H locs hP hD hS ls (lv_sub hl [1, 2, 0] rfl) hf
    · intro v1 v2 σ H locs hP hD hS ls hl hf
      have hf : (if v2 ≤ (0 : Int32) then (some σ) else (if ¬ v2 = 0 then (dz_l (v1 / v2) fun x2 => dz_l (x2 - x2 / 10 * 10) fun x3 => dz_b (fnX1_writesSign K (48 + x3) σ) fun s5 => dz_l (v2 / 10) fun x6 => (lfX1_writes K k).2 v1 x6 s5) else none) : Option pM) = some res := hf
      refine lv_iload_n hx hb dX1_writes_24 rfl (lv_at hl 2 rfl) ?_
      refine lv_if_le (tgt := 49) hx hb dX1_writes_25 (by decide) (fun c25 => ?_) (fun c25 => ?_)
      · have hf := dz_t c25 hf
        exact W.vret hx hb hr (fun t ht hW => ⟨⟨σ, rfl, Option.some.inj hf, by rw [ht]; exact hP, va_K.moved hW.alike hK, hD⟩, hS.F ht⟩) hS.2.2 dX1_writes_49
      · have hf := dz_f c25 hf
        refine lv_aload_n hx hb dX1_writes_28 rfl (lv_at hl 0 rfl) ?_
        refine lv_bipush (v := 48) hx hb dX1_writes_29 (by decide) ?_
        refine lv_iload_n hx hb dX1_writes_31 rfl (lv_at hl 1 rfl) ?_
        refine lv_iload_n hx hb dX1_writes_32 rfl (lv_at hl 2 rfl) ?_
        obtain ⟨g1, hf⟩ := dz_go hf
        refine lv_idiv hx hb dX1_writes_33 g1 ?_
        refine lv_topi (fun x2 e_x2 => ?_)
        have hf := dz_ls e_x2 hf
        refine lv_bipush (v := 10) hx hb dX1_writes_34 (by decide) ?_
        refine lv_irem hx hb dX1_writes_36 (by decide) ?_
        refine lv_topi (fun x3 e_x3 => ?_)
        have hf := dz_ls e_x3 hf
        refine lv_iadd hx hb dX1_writes_37 ?_
        obtain ⟨s5, hx4, hf⟩ := dz_bo hf
        have hFc := dz_free hD hS hA
        refine va_callv (va_runV (As := [.int (48 + x3)]) (rest := []) ⟨hx, hb, hml, hown, hts⟩ (mtX1_writesSign l D cl ci hci h ad cA H.size σ (48 + x3) K s5 hx4) (cwV 1 hts (lw_V q2013 q2015 qs74 q88 q2016) rfl rfl rfl (by decide +kernel) ⟨Nat.le_of_ble_eq_true rfl, Nat.le_of_ble_eq_true rfl⟩) (m_preV hci hK hP hD) rfl rfl hl.1 rfl (lv_room (Nat.le_of_ble_eq_true rfl)) dX1_writes_38 ⟨Nat.le_refl _, Nat.le_refl _⟩) hS (fun q _ hq => hFc q hq) hFc (fun u t H1 locs ht hvm hw hB hz hk hS => ?_)
        replace hw := hw.symm; subst hw
        replace hP := m_back ht hB
        replace hD := mw_D s5 hD
        clear hB hk hz hvm ht hFc; generalize H1 = H at hP hS ⊢
        refine lv_iload_n hx hb dX1_writes_41 rfl (lv_at hl 2 rfl) ?_
        refine lv_bipush (v := 10) hx hb dX1_writes_42 (by decide) ?_
        refine lv_idiv hx hb dX1_writes_44 (by decide) ?_
        refine lv_topi (fun x6 e_x6 => ?_)
        have hf := dz_ls e_x6 hf
        refine lv_istore_n (lv' := [(2, .int x6), (0, .ref h), (1, .int v1)]) hx hb dX1_writes_45 rfl hl (by decide) rfl (fun ls hl => ?_)
        refine lv_goto (tgt := 24) hx hb dX1_writes_46 (by decide) ?_
        exact ih.2 v1 x6 s5 H locs hP hD hS ls (lv_sub hl [1, 2, 0] rfl) hf
set_option maxHeartbeats 4000000 in
set_option maxRecDepth 100000 in
theorem mtX1_writes (l : Launch) (D : va_G) (cl : List vw_C) (ci : Nat) (hci : cl[ci]? = some (RX1, TX1, 35)) (h : Nat) (ad : Nat → Nat) (cA : Nat → ClassId) (sz : Nat) (σ : pM) (a0 : Int32) (K : Nat) (res : pM) (hf : fnX1_writes K a0 σ = some res) : Met l yX1_writes (ws_ yX1_writes cX1_writes 3 (none)) ({ frames := 1, cells := 0, slots := 0, locals := 21 }) (mPc D cl ci h ad cA sz σ [.ref h, .int a0]) (mQv D cl ci h ad cA (va_A (mw ci h ad cA σ) sz) res) 0 0 (va_A (mw ci h ad cA σ) sz) := by
  refine Met.ofW (cc := cX1_writes) (maxL := 3) (ret := none) (by decide +kernel) rfl ?_
  intro p e s m args below meth c s₁ B hml hv
  obtain ⟨rfl, hsz, hP, hK, hD0⟩ := hv
  have hx := B.exec
  have hb := B.bytes
  have hr := B.returns
  have hts := atoms_spec (ws := ws_ yX1_writes cX1_writes 3 (none)) B.pre
  have hts : ∀ w ∈ lw_all, w.before _ s = true := fun w h => hts w (List.mem_cons_of_mem _ h)
  have hown : s.vm.findClass RX1 = some m.cls := findClass_of_methodNamed B.named
  have hlocks := B.notSynchronized
  subst hsz
  have hD := hD0.self (sz := s.heap.size)
  generalize hAe : va_A (mw ci h ad cA σ) s.heap.size = A at hD ⊢
  have hA : ∀ q : Nat, s.heap.size ≤ q → A q := fun q h => by rw [← hAe]; exact Or.inr h
  clear hAe hD0
  have hS : va_S A s.heap s.heap [] := va_S.rf
  generalize hHe : s.heap = H at hP hS ⊢
  have hS : va_S A s.heap H [] := by rw [hHe]; exact hS
  generalize ([] : List Loc) = locs at hS ⊢
  have hl := lv_entry ([.ref h, .int a0]) (n := 3) (Nat.le_of_ble_eq_true rfl)
  rw [lg_entry_eq]
  generalize (lg_sl ([.ref h, .int a0]) ++ List.replicate (3 - (lg_sl ([.ref h, .int a0])).length) Slot.unset).toArray = ls at hl ⊢
  have hl : lv_has ls 3 [(0, .ref h), (1, .int a0)] := hl
  have hf : (dz_b (fnX1_writesSign K 32 σ) fun s2 => (lfX1_writes K K).1 a0 1 s2 : Option pM) = some res := hf
  have ih := wlX1_writes (l := l) (e := e) (below := below) (h := h) (ad := ad) (cA := cA) hci hA hK K res a0 hx hb hr hlocks hml hown hts K
  refine lv_aload_n hx hb dX1_writes_0 rfl (lv_at hl 0 rfl) ?_
  refine lv_bipush (v := 32) hx hb dX1_writes_1 (by decide) ?_
  obtain ⟨s2, hx1, hf⟩ := dz_bo hf
  have hFc := dz_free hD hS hA
  refine va_callv (va_runV (As := [.int 32]) (rest := []) ⟨hx, hb, hml, hown, hts⟩ (mtX1_writesSign l D cl ci hci h ad cA H.size σ 32 K s2 hx1) (cwV 1 hts (lw_V q2013 q2015 qs74 q88 q2016) rfl rfl rfl (by decide +kernel) ⟨Nat.le_of_ble_eq_true rfl, Nat.le_of_ble_eq_true rfl⟩) (m_preV hci hK hP hD) rfl rfl hl.1 rfl (lv_room (Nat.le_of_ble_eq_true rfl)) dX1_writes_3 ⟨Nat.le_refl _, Nat.le_refl _⟩) hS (fun q _ hq => hFc q hq) hFc (fun u t H1 locs ht hvm hw hB hz hk hS => ?_)
  replace hw := hw.symm; subst hw
  replace hP := m_back ht hB
  replace hD := mw_D s2 hD
  clear hB hk hz hvm ht hFc; generalize H1 = H at hP hS ⊢
  refine lv_iconst (v := 1) hx hb dX1_writes_6 (by decide) ?_
  refine lv_istore_n (lv' := [(2, .int 1), (0, .ref h), (1, .int a0)]) hx hb dX1_writes_7 rfl hl (by decide) rfl (fun ls hl => ?_)
  exact ih.1 a0 1 s2 H locs hP hD hS ls (lv_sub hl [1, 2, 0] rfl) hf

noncomputable def lfX1_writesLine (K : Nat) : Nat → (Int32 → Int32 → pM → Option pM) × (Int32 → Int32 → pM → Option pM) × (Int32 → Int32 → pM → Option pM) × (Int32 → Int32 → Int32 → pM → Option pM) × (Int32 → Int32 → Int32 → pM → Option pM) × (Int32 → pM → Option pM) × (Int32 → Int32 → pM → Option pM) := Nat.rec (motive := fun _ => (Int32 → Int32 → pM → Option pM) × (Int32 → Int32 → pM → Option pM) × (Int32 → Int32 → pM → Option pM) × (Int32 → Int32 → Int32 → pM → Option pM) × (Int32 → Int32 → Int32 → pM → Option pM) × (Int32 → pM → Option pM) × (Int32 → Int32 → pM → Option pM)) ((fun _ _ _ => none), (fun _ _ _ => none), (fun _ _ _ => none), (fun _ _ _ _ => none), (fun _ _ _ _ => none), (fun _ _ => none), (fun _ _ _ => none)) (fun _ G => ((fun v1 v2 σ => dz_b (fnX1_hasPair K v2) fun x1 => if x1 = (0 : Int32) then (G.2.1 v1 v2 σ) else (dz_b (fnX1_writesWord K 7 σ) fun s3 => if ¬ (v1 < 0 ∨ 116 ≤ Int32.toNatClampNeg v1) then (dz_l (s3.2.2.1 10 (Int32.toNatClampNeg v1)) fun x5 => dz_b (fnX1_writes K x5 s3) fun s7 => if ¬ (v1 < 0 ∨ 116 ≤ Int32.toNatClampNeg v1) then (dz_l (s7.2.2.1 11 (Int32.toNatClampNeg v1)) fun x9 => dz_b (fnX1_writes K x9 s7) fun s11 => G.2.1 v1 v2 s11) else none) else none)), (fun v1 v2 σ => if v2 = (0 : Int32) then (G.2.2.1 v1 v2 σ) else (if v2 = (4 : Int32) then (dz_b (fnX1_writesWord K 8 σ) fun s4 => G.2.2.1 v1 v2 s4) else (dz_b (fnX1_writesWord K 6 σ) fun s2 => G.2.2.1 v1 v2 s2))), (fun v1 v2 σ => dz_l (9 * v1) fun x1 => G.2.2.2.1 v1 v2 x1 σ), (fun v1 v2 v3 σ => if ¬ (v1 < 0 ∨ 116 ≤ Int32.toNatClampNeg v1) then (dz_l (σ.2.2.1 12 (Int32.toNatClampNeg v1)) fun x2 => if ((9 * v1) + x2) ≤ v3 then (if v2 = (4 : Int32) then (dz_b (fnX1_writesWord K 9 σ) fun s4 => G.2.2.2.2.2.1 v1 s4) else (G.2.2.2.2.2.1 v1 σ)) else (if ¬ (v3 < 0 ∨ 1044 ≤ Int32.toNatClampNeg v3) then (dz_l (σ.2.2.1 14 (Int32.toNatClampNeg v3)) fun x6 => dz_b (fnX1_writes K x6 σ) fun s8 => if ¬ (v3 < 0 ∨ 1044 ≤ Int32.toNatClampNeg v3) then (dz_l (s8.2.2.1 15 (Int32.toNatClampNeg v3)) fun x10 => dz_b (fnX1_writes K x10 s8) fun s12 => if v2 = (1 : Int32) then (G.2.2.2.2.1 v1 v2 v3 s12) else (if ¬ (v3 < 0 ∨ 1044 ≤ Int32.toNatClampNeg v3) then (dz_l (s12.2.2.1 16 (Int32.toNatClampNeg v3)) fun x14 => dz_b (fnX1_writes K x14 s12) fun s16 => G.2.2.2.2.1 v1 v2 v3 s16) else none)) else none) else none)) else none), (fun v1 v2 v3 σ => dz_l (v3 + 1) fun x1 => G.2.2.2.1 v1 v2 x1 σ), (fun v1 σ => dz_l (9 * v1) fun x1 => G.2.2.2.2.2.2 v1 x1 σ), (fun v1 v3 σ => if ¬ (v1 < 0 ∨ 116 ≤ Int32.toNatClampNeg v1) then (dz_l (σ.2.2.1 13 (Int32.toNatClampNeg v1)) fun x2 => if ((9 * v1) + x2) ≤ v3 then (dz_b (fnX1_writesSign K 59 σ) fun s4 => some s4) else (if ¬ (v3 < 0 ∨ 1044 ≤ Int32.toNatClampNeg v3) then (dz_l (σ.2.2.1 17 (Int32.toNatClampNeg v3)) fun x6 => dz_b (fnX1_writes K x6 σ) fun s8 => if ¬ (v3 < 0 ∨ 1044 ≤ Int32.toNatClampNeg v3) then (dz_l (s8.2.2.1 18 (Int32.toNatClampNeg v3)) fun x10 => dz_b (fnX1_writes K x10 s8) fun s12 => dz_l (v3 + 1) fun x13 => G.2.2.2.2.2.2 v1 x13 s12) else none) else none)) else none)))
noncomputable def fnX1_writesLine (K : Nat) (a0 : Int32) (σ : pM) : Option pM := if ¬ (a0 < 0 ∨ 116 ≤ Int32.toNatClampNeg a0) then (dz_l (σ.2.2.1 9 (Int32.toNatClampNeg a0)) fun x2 => dz_l (mF σ 33 0) fun s3 => dz_b (fnX1_writesWord K x2 s3) fun s5 => if ¬ (a0 < 0 ∨ 116 ≤ Int32.toNatClampNeg a0) then (dz_l (s5.2.2.1 8 (Int32.toNatClampNeg a0)) fun x7 => dz_b (fnX1_writes K x7 s5) fun s9 => if x2 = (1 : Int32) then (dz_b (fnX1_writesWord K 5 s9) fun s11 => if ¬ (a0 < 0 ∨ 116 ≤ Int32.toNatClampNeg a0) then (dz_l (s11.2.2.1 12 (Int32.toNatClampNeg a0)) fun x13 => if x13 = (0 : Int32) then (dz_b (fnX1_writes K 2 s11) fun s20 => (lfX1_writesLine K K).1 a0 x2 s20) else (dz_l (9 * a0) fun x14 => if ¬ (x14 < 0 ∨ 1044 ≤ Int32.toNatClampNeg x14) then (dz_l (s11.2.2.1 16 (Int32.toNatClampNeg x14)) fun x16 => dz_b (fnX1_writes K x16 s11) fun s18 => (lfX1_writesLine K K).1 a0 x2 s18) else none)) else none) else ((lfX1_writesLine K K).1 a0 x2 s9)) else none) else none
set_option maxHeartbeats 4000000 in
set_option maxRecDepth 100000 in
theorem wlX1_writesLine {p : Program} {l : Launch} {e : Env} {s : State} {m : MethodId} {below : List Frame} {meth : Method} {c : Code} {D : va_G} {cl : List vw_C} {ci : Nat} (hci : cl[ci]? = some (RX1, TX1, 35)) {h : Nat} {ad : Nat → Nat} {cA : Nat → ClassId} {A : Nat → Prop} (hA : ∀ q : Nat, s.heap.size ≤ q → A q) (hK : va_K D cl (mtys cA) s) (K : Nat) (res : pM) (a0 : Int32) (hx : p.tables.exec = Jvm.exec) (hb : c.code = cX1_writesLine) (hr : meth.sig.returnType = none) (hlocks : meth.locks = false) (hml : c.maxLocals = 4) (hown : s.vm.findClass RX1 = some m.cls) (hts : ∀ w ∈ lw_all, w.before ([.ref h, .int a0] : List Value).toArray s = true) : ∀ k : Nat, (∀ (v1 : Int32) (v2 : Int32) (σ : pM) (H : Heap) (locs : List Loc), va_P D cl (mw ci h ad cA σ) H → va_D A (mw ci h ad cA σ) → va_S A s.heap H locs → ∀ (ls : Array Slot), lv_has ls 4 [(0, .ref h), (1, .int v1), (2, .int v2)] → (lfX1_writesLine K k).1 v1 v2 σ = some res → W p l e (headSpec (ws_ yX1_writesLine cX1_writesLine 4 (none)) ({ frames := 2, cells := 0, slots := 0, locals := 45 })).room s m ([.ref h, .int a0] : List Value).toArray below meth c H locs 0 0 (MQ below (mQv D cl ci h ad cA A res) ([.ref h, .int a0] : List Value).toArray s 0 0 A) (F0 m 63 ls [])) ∧ (∀ (v1 : Int32) (v2 : Int32) (σ : pM) (H : Heap) (locs : List Loc), va_P D cl (mw ci h ad cA σ) H → va_D A (mw ci h ad cA σ) → va_S A s.heap H locs → ∀ (ls : Array Slot), lv_has ls 4 [(0, .ref h), (1, .int v1), (2, .int v2)] → (lfX1_writesLine K k).2.1 v1 v2 σ = some res → W p l e (headSpec (ws_ yX1_writesLine cX1_writesLine 4 (none)) ({ frames := 2, cells := 0, slots := 0, locals := 45 })).room s m ([.ref h, .int a0] : List Value).toArray below meth c H locs 0 0 (MQ below (mQv D cl ci h ad cA A res) ([.ref h, .int a0] : List Value).toArray s 0 0 A) (F0 m 96 ls [])) ∧ (∀ (v1 : Int32) (v2 : Int32) (σ : pM) (H : Heap) (locs : List Loc), va_P D cl (mw ci h ad cA σ) H → va_D A (mw ci h ad cA σ) → va_S A s.heap H locs → ∀ (ls : Array Slot), lv_has ls 4 [(0, .ref h), (1, .int v1), (2, .int v2)] → (lfX1_writesLine K k).2.2.1 v1 v2 σ = some res → W p l e (headSpec (ws_ yX1_writesLine cX1_writesLine 4 (none)) ({ frames := 2, cells := 0, slots := 0, locals := 45 })).room s m ([.ref h, .int a0] : List Value).toArray below meth c H locs 0 0 (MQ below (mQv D cl ci h ad cA A res) ([.ref h, .int a0] : List Value).toArray s 0 0 A) (F0 m 116 ls [])) ∧ (∀ (v1 : Int32) (v2 : Int32) (v3 : Int32) (σ : pM) (H : Heap) (locs : List Loc), va_P D cl (mw ci h ad cA σ) H → va_D A (mw ci h ad cA σ) → va_S A s.heap H locs → ∀ (ls : Array Slot), lv_has ls 4 [(0, .ref h), (1, .int v1), (2, .int v2), (3, .int v3)] → (lfX1_writesLine K k).2.2.2.1 v1 v2 v3 σ = some res → W p l e (headSpec (ws_ yX1_writesLine cX1_writesLine 4 (none)) ({ frames := 2, cells := 0, slots := 0, locals := 45 })).room s m ([.ref h, .int a0] : List Value).toArray below meth c H locs 0 0 (MQ below (mQv D cl ci h ad cA A res) ([.ref h, .int a0] : List Value).toArray s 0 0 A) (F0 m 121 ls [])) ∧ (∀ (v1 : Int32) (v2 : Int32) (v3 : Int32) (σ : pM) (H : Heap) (locs : List Loc), va_P D cl (mw ci h ad cA σ) H → va_D A (mw ci h ad cA σ) → va_S A s.heap H locs → ∀ (ls : Array Slot), lv_has ls 4 [(0, .ref h), (1, .int v1), (2, .int v2), (3, .int v3)] → (lfX1_writesLine K k).2.2.2.2.1 v1 v2 v3 σ = some res → W p l e (headSpec (ws_ yX1_writesLine cX1_writesLine 4 (none)) ({ frames := 2, cells := 0, slots := 0, locals := 45 })).room s m ([.ref h, .int a0] : List Value).toArray below meth c H locs 0 0 (MQ below (mQv D cl ci h ad cA A res) ([.ref h, .int a0] : List Value).toArray s 0 0 A) (F0 m 171 ls [])) ∧ (∀ (v1 : Int32) (σ : pM) (H : Heap) (locs : List Loc), va_P D cl (mw ci h ad cA σ) H → va_D A (mw ci h ad cA σ) → va_S A s.heap H locs → ∀ (ls : Array Slot), lv_has ls 4 [(0, .ref h), (1, .int v1)] → (lfX1_writesLine K k).2.2.2.2.2.1 v1 σ = some res → W p l e (headSpec (ws_ yX1_writesLine cX1_writesLine 4 (none)) ({ frames := 2, cells := 0, slots := 0, locals := 45 })).room s m ([.ref h, .int a0] : List Value).toArray below meth c H locs 0 0 (MQ below (mQv D cl ci h ad cA A res) ([.ref h, .int a0] : List Value).toArray s 0 0 A) (F0 m 188 ls [])) ∧ (∀ (v1 : Int32) (v3 : Int32) (σ : pM) (H : Heap) (locs : List Loc), va_P D cl (mw ci h ad cA σ) H → va_D A (mw ci h ad cA σ) → va_S A s.heap H locs → ∀ (ls : Array Slot), lv_has ls 4 [(0, .ref h), (1, .int v1), (3, .int v3)] → (lfX1_writesLine K k).2.2.2.2.2.2 v1 v3 σ = some res → W p l e (headSpec (ws_ yX1_writesLine cX1_writesLine 4 (none)) ({ frames := 2, cells := 0, slots := 0, locals := 45 })).room s m ([.ref h, .int a0] : List Value).toArray below meth c H locs 0 0 (MQ below (mQv D cl ci h ad cA A res) ([.ref h, .int a0] : List Value).toArray s 0 0 A) (F0 m 193 ls [])) := by
  intro k
  induction k with
  | zero =>
    exact ⟨fun _ _ _ _ _ _ _ _ _ _ hf => (by cases hf), fun _ _ _ _ _ _ _ _ _ _ hf => (by cases hf), fun _ _ _ _ _ _ _ _ _ _ hf => (by cases hf), fun _ _ _ _ _ _ _ _ _ _ _ hf => (by cases hf), fun _ _ _ _ _ _ _ _ _ _ _ hf => (by cases hf), fun _ _ _ _ _ _ _ _ _ hf => (by cases hf), fun _ _ _ _ _ _ _ _ _ _ hf => (by cases hf)⟩
  | succ k ih =>
    refine ⟨?_, ?_, ?_, ?_, ?_, ?_, ?_⟩
    · intro v1 v2 σ H locs hP hD hS ls hl hf
      have hf : (dz_b (fnX1_hasPair K v2) fun x1 => if x1 = (0 : Int32) then ((lfX1_writesLine K k).2.1 v1 v2 σ) else (dz_b (fnX1_writesWord K 7 σ) fun s3 => if ¬ (v1 < 0 ∨ 116 ≤ Int32.toNatClampNeg v1) then (dz_l (s3.2.2.1 10 (Int32.toNatClampNeg v1)) fun x5 => dz_b (fnX1_writes K x5 s3) fun s7 => if ¬ (v1 < 0 ∨ 116 ≤ Int32.toNatClampNeg v1) then (dz_l (s7.2.2.1 11 (Int32.toNatClampNeg v1)) fun x9 => dz_b (fnX1_writes K x9 s7) fun s11 => (lfX1_writesLine K k).2.1 v1 v2 s11) else none) else none) : Option pM) = some res := hf
      refine lv_iload_n hx hb dX1_writesLine_63 rfl (lv_at hl 2 rfl) ?_
      obtain ⟨x1, hx1, hf⟩ := dz_bo hf
      refine va_calli (va_runS (As := [.int v2]) (rest := []) ⟨hx, hb, hml, hown, hts⟩ (mtX1_hasPair l v2 K x1 hx1) (va_cwS 1 hts (lw_S q1850 q1851 q88 q1852) rfl rfl rfl (by decide +kernel) ⟨Nat.le_of_ble_eq_true rfl, Nat.le_of_ble_eq_true rfl⟩) ⟨fun a U g mk q => q, fun U hU hW => ⟨rfl, trivial⟩⟩ rfl rfl hl.1 rfl (lv_room (Nat.le_of_ble_eq_true rfl)) dX1_writesLine_64 ⟨Nat.le_refl _, Nat.le_refl _⟩) hS (fun q _ hq => hq.elim) (fun q hq => hq.elim) (fun r u t H1 locs ht hvm hw hB hz hk hS => ?_)
      replace hw := hw.symm; subst hw
      replace hP := dz_keep hP hk
      clear hB hk hz hvm ht; generalize H1 = H at hP hS ⊢
      refine lv_if_eq (tgt := 96) hx hb dX1_writesLine_67 (by decide) (fun c67 => ?_) (fun c67 => ?_)
      · have hf := dz_t c67 hf
        exact ih.2.1 v1 v2 σ H locs hP hD hS ls (lv_sub hl [0, 1, 2] rfl) hf
      · have hf := dz_f c67 hf
        refine lv_aload_n hx hb dX1_writesLine_70 rfl (lv_at hl 0 rfl) ?_
        refine lv_bipush (v := 7) hx hb dX1_writesLine_71 (by decide) ?_
        obtain ⟨s3, hx2, hf⟩ := dz_bo hf
        have hFc := dz_free hD hS hA
        refine va_callv (va_runV (As := [.int 7]) (rest := []) ⟨hx, hb, hml, hown, hts⟩ (mtX1_writesWord l D cl ci hci h ad cA H.size σ 7 K s3 hx2) (cwV 1 hts (lw_V q2009 q2011 qs73 q88 q2012) rfl rfl rfl (by decide +kernel) ⟨Nat.le_of_ble_eq_true rfl, Nat.le_of_ble_eq_true rfl⟩) (m_preV hci hK hP hD) rfl rfl hl.1 rfl (lv_room (Nat.le_of_ble_eq_true rfl)) dX1_writesLine_73 ⟨Nat.le_refl _, Nat.le_refl _⟩) hS (fun q _ hq => hFc q hq) hFc (fun u t H1 locs ht hvm hw hB hz hk hS => ?_)
        replace hw := hw.symm; subst hw
        replace hP := m_back ht hB
        replace hD := mw_D s3 hD
        clear hB hk hz hvm ht hFc; generalize H1 = H at hP hS ⊢
        refine lv_aload_n hx hb dX1_writesLine_76 rfl (lv_at hl 0 rfl) ?_
        refine lv_aload_n hx hb dX1_writesLine_77 rfl (lv_at hl 0 rfl) ?_
        refine va_get (C := RX1) (T := TX1) (N := 35) (fs := mwF ad s3) (v := .ref (ad 10)) hx hb hts in_X1 hown hK hP 0 rfl hci 10 (by decide) (hts _ q1681) (fun _ hq => hq) rfl dX1_writesLine_78 ?_
        refine lv_iload_n hx hb dX1_writesLine_81 rfl (lv_at hl 1 rfl) ?_
        obtain ⟨g4, hf⟩ := dz_go hf
        refine va_iald hx hb hK hP 8 0 rfl rfl g4 dX1_writesLine_82 ?_
        refine lv_topi (fun x5 e_x5 => ?_)
        have hf := dz_ls e_x5 hf
        obtain ⟨s7, hx6, hf⟩ := dz_bo hf
        have hFc := dz_free hD hS hA
        refine va_callv (va_runV (As := [.int x5]) (rest := []) ⟨hx, hb, hml, hown, hts⟩ (mtX1_writes l D cl ci hci h ad cA H.size s3 x5 K s7 hx6) (cwV 1 hts (lw_V q2017 q2019 qs75 q88 q2020) rfl rfl rfl (by decide +kernel) ⟨Nat.le_of_ble_eq_true rfl, Nat.le_of_ble_eq_true rfl⟩) (m_preV hci hK hP hD) rfl rfl hl.1 rfl (lv_room (Nat.le_of_ble_eq_true rfl)) dX1_writesLine_83 ⟨Nat.le_refl _, Nat.le_refl _⟩) hS (fun q _ hq => hFc q hq) hFc (fun u t H1 locs ht hvm hw hB hz hk hS => ?_)
        replace hw := hw.symm; subst hw
        replace hP := m_back ht hB
        replace hD := mw_D s7 hD
        clear hB hk hz hvm ht hFc; generalize H1 = H at hP hS ⊢
        refine lv_aload_n hx hb dX1_writesLine_86 rfl (lv_at hl 0 rfl) ?_
        refine lv_aload_n hx hb dX1_writesLine_87 rfl (lv_at hl 0 rfl) ?_
        refine va_get (C := RX1) (T := TX1) (N := 35) (fs := mwF ad s7) (v := .ref (ad 11)) hx hb hts in_X1 hown hK hP 0 rfl hci 11 (by decide) (hts _ q1682) (fun _ hq => hq) rfl dX1_writesLine_88 ?_
        refine lv_iload_n hx hb dX1_writesLine_91 rfl (lv_at hl 1 rfl) ?_
        obtain ⟨g8, hf⟩ := dz_go hf
        refine va_iald hx hb hK hP 9 0 rfl rfl g8 dX1_writesLine_92 ?_
        refine lv_topi (fun x9 e_x9 => ?_)
        have hf := dz_ls e_x9 hf
        obtain ⟨s11, hx10, hf⟩ := dz_bo hf
        have hFc := dz_free hD hS hA
        refine va_callv (va_runV (As := [.int x9]) (rest := []) ⟨hx, hb, hml, hown, hts⟩ (mtX1_writes l D cl ci hci h ad cA H.size s7 x9 K s11 hx10) (cwV 1 hts (lw_V q2017 q2019 qs75 q88 q2020) rfl rfl rfl (by decide +kernel) ⟨Nat.le_of_ble_eq_true rfl, Nat.le_of_ble_eq_true rfl⟩) (m_preV hci hK hP hD) rfl rfl hl.1 rfl (lv_room (Nat.le_of_ble_eq_true rfl)) dX1_writesLine_93 ⟨Nat.le_refl _, Nat.le_refl _⟩) hS (fun q _ hq => hFc q hq) hFc (fun u t H1 locs ht hvm hw hB hz hk hS => ?_)
        replace hw := hw.symm; subst hw
        replace hP := m_back ht hB
        replace hD := mw_D s11 hD
        clear hB hk hz hvm ht hFc; generalize H1 = H at hP hS ⊢
        exact ih.2.1 v1 v2 s11 H locs hP hD hS ls (lv_sub hl [0, 1, 2] rfl) hf
    · intro v1 v2 σ H locs hP hD hS ls hl hf
      have hf : (if v2 = (0 : Int32) then ((lfX1_writesLine K k).2.2.1 v1 v2 σ) else (if v2 = (4 : Int32) then (dz_b (fnX1_writesWord K 8 σ) fun s4 => (lfX1_writesLine K k).2.2.1 v1 v2 s4) else (dz_b (fnX1_writesWord K 6 σ) fun s2 => (lfX1_writesLine K k).2.2.1 v1 v2 s2)) : Option pM) = some res := hf
      refine lv_iload_n hx hb dX1_writesLine_96 rfl (lv_at hl 2 rfl) ?_
      refine lv_if_eq (tgt := 116) hx hb dX1_writesLine_97 (by decide) (fun c97 => ?_) (fun c97 => ?_)
      · have hf := dz_t c97 hf
        exact ih.2.2.1 v1 v2 σ H locs hP hD hS ls (lv_sub hl [0, 1, 2] rfl) hf
      · have hf := dz_f c97 hf
        refine lv_aload_n hx hb dX1_writesLine_100 rfl (lv_at hl 0 rfl) ?_
        refine lv_iload_n hx hb dX1_writesLine_101 rfl (lv_at hl 2 rfl) ?_
        refine lv_iconst (v := 4) hx hb dX1_writesLine_102 (by decide) ?_
        refine lv_icmp_ne (tgt := 111) hx hb dX1_writesLine_103 (by decide) (fun c103 => ?_) (fun c103 => ?_)
        · have hf := dz_f c103 hf
          refine lv_bipush (v := 6) hx hb dX1_writesLine_111 (by decide) ?_
          obtain ⟨s2, hx1, hf⟩ := dz_bo hf
          have hFc := dz_free hD hS hA
          refine va_callv (va_runV (As := [.int 6]) (rest := []) ⟨hx, hb, hml, hown, hts⟩ (mtX1_writesWord l D cl ci hci h ad cA H.size σ 6 K s2 hx1) (cwV 1 hts (lw_V q2009 q2011 qs73 q88 q2012) rfl rfl rfl (by decide +kernel) ⟨Nat.le_of_ble_eq_true rfl, Nat.le_of_ble_eq_true rfl⟩) (m_preV hci hK hP hD) rfl rfl hl.1 rfl (lv_room (Nat.le_of_ble_eq_true rfl)) dX1_writesLine_113 ⟨Nat.le_refl _, Nat.le_refl _⟩) hS (fun q _ hq => hFc q hq) hFc (fun u t H1 locs ht hvm hw hB hz hk hS => ?_)
          replace hw := hw.symm; subst hw
          replace hP := m_back ht hB
          replace hD := mw_D s2 hD
          clear hB hk hz hvm ht hFc; generalize H1 = H at hP hS ⊢
          exact ih.2.2.1 v1 v2 s2 H locs hP hD hS ls (lv_sub hl [0, 1, 2] rfl) hf
        · have hf := dz_t c103 hf
          refine lv_bipush (v := 8) hx hb dX1_writesLine_106 (by decide) ?_
          refine lv_goto (tgt := 113) hx hb dX1_writesLine_108 (by decide) ?_
          obtain ⟨s4, hx3, hf⟩ := dz_bo hf
          have hFc := dz_free hD hS hA
          refine va_callv (va_runV (As := [.int 8]) (rest := []) ⟨hx, hb, hml, hown, hts⟩ (mtX1_writesWord l D cl ci hci h ad cA H.size σ 8 K s4 hx3) (cwV 1 hts (lw_V q2009 q2011 qs73 q88 q2012) rfl rfl rfl (by decide +kernel) ⟨Nat.le_of_ble_eq_true rfl, Nat.le_of_ble_eq_true rfl⟩) (m_preV hci hK hP hD) rfl rfl hl.1 rfl (lv_room (Nat.le_of_ble_eq_true rfl)) dX1_writesLine_113 ⟨Nat.le_refl _, Nat.le_refl _⟩) hS (fun q _ hq => hFc q hq) hFc (fun u t H1 locs ht hvm hw hB hz hk hS => ?_)
          replace hw := hw.symm; subst hw
          replace hP := m_back ht hB
          replace hD := mw_D s4 hD
          clear hB hk hz hvm ht hFc; generalize H1 = H at hP hS ⊢
          exact ih.2.2.1 v1 v2 s4 H locs hP hD hS ls (lv_sub hl [0, 1, 2] rfl) hf
    · intro v1 v2 σ H locs hP hD hS ls hl hf
      have hf : (dz_l (9 * v1) fun x1 => (lfX1_writesLine K k).2.2.2.1 v1 v2 x1 σ : Option pM) = some res := hf
      refine lv_bipush (v := 9) hx hb dX1_writesLine_116 (by decide) ?_
      refine lv_iload_n hx hb dX1_writesLine_118 rfl (lv_at hl 1 rfl) ?_
      refine lv_imul hx hb dX1_writesLine_119 ?_
      refine lv_topi (fun x1 e_x1 => ?_)
      have hf := dz_ls e_x1 hf
      refine lv_istore_n (lv' := [(3, .int x1), (0, .ref h), (1, .int v1), (2, .int v2)]) hx hb dX1_writesLine_120 rfl hl (by decide) rfl (fun ls hl => ?_)
      exact ih.2.2.2.1 v1 v2 x1 σ H locs hP hD hS ls (lv_sub hl [1, 2, 3, 0] rfl) hf
    · intro v1 v2 v3 σ H locs hP hD hS ls hl hf
      have hf : (if ¬ (v1 < 0 ∨ 116 ≤ Int32.toNatClampNeg v1) then (dz_l (σ.2.2.1 12 (Int32.toNatClampNeg v1)) fun x2 => if ((9 * v1) + x2) ≤ v3 then (if v2 = (4 : Int32) then (dz_b (fnX1_writesWord K 9 σ) fun s4 => (lfX1_writesLine K k).2.2.2.2.2.1 v1 s4) else ((lfX1_writesLine K k).2.2.2.2.2.1 v1 σ)) else (if ¬ (v3 < 0 ∨ 1044 ≤ Int32.toNatClampNeg v3) then (dz_l (σ.2.2.1 14 (Int32.toNatClampNeg v3)) fun x6 => dz_b (fnX1_writes K x6 σ) fun s8 => if ¬ (v3 < 0 ∨ 1044 ≤ Int32.toNatClampNeg v3) then (dz_l (s8.2.2.1 15 (Int32.toNatClampNeg v3)) fun x10 => dz_b (fnX1_writes K x10 s8) fun s12 => if v2 = (1 : Int32) then ((lfX1_writesLine K k).2.2.2.2.1 v1 v2 v3 s12) else (if ¬ (v3 < 0 ∨ 1044 ≤ Int32.toNatClampNeg v3) then (dz_l (s12.2.2.1 16 (Int32.toNatClampNeg v3)) fun x14 => dz_b (fnX1_writes K x14 s12) fun s16 => (lfX1_writesLine K k).2.2.2.2.1 v1 v2 v3 s16) else none)) else none) else none)) else none : Option pM) = some res := hf
      refine lv_iload_n hx hb dX1_writesLine_121 rfl (lv_at hl 3 rfl) ?_
      refine lv_bipush (v := 9) hx hb dX1_writesLine_122 (by decide) ?_
      refine lv_iload_n hx hb dX1_writesLine_124 rfl (lv_at hl 1 rfl) ?_
      refine lv_imul hx hb dX1_writesLine_125 ?_
      refine lv_aload_n hx hb dX1_writesLine_126 rfl (lv_at hl 0 rfl) ?_
      refine va_get (C := RX1) (T := TX1) (N := 35) (fs := mwF ad σ) (v := .ref (ad 12)) hx hb hts in_X1 hown hK hP 0 rfl hci 12 (by decide) (hts _ q1683) (fun _ hq => hq) rfl dX1_writesLine_127 ?_
      refine lv_iload_n hx hb dX1_writesLine_130 rfl (lv_at hl 1 rfl) ?_
      obtain ⟨g1, hf⟩ := dz_go hf
      refine va_iald hx hb hK hP 10 0 rfl rfl g1 dX1_writesLine_131 ?_
      refine lv_topi (fun x2 e_x2 => ?_)
      have hf := dz_ls e_x2 hf
      refine lv_iadd hx hb dX1_writesLine_132 ?_
      refine lv_icmp_ge (tgt := 177) hx hb dX1_writesLine_133 (by decide) (fun c133 => ?_) (fun c133 => ?_)
      · have hf := dz_t c133 hf
        refine lv_iload_n hx hb dX1_writesLine_177 rfl (lv_at hl 2 rfl) ?_
        refine lv_iconst (v := 4) hx hb dX1_writesLine_178 (by decide) ?_
        refine lv_icmp_ne (tgt := 188) hx hb dX1_writesLine_179 (by decide) (fun c179 => ?_) (fun c179 => ?_)
        · have hf := dz_f c179 hf
          exact ih.2.2.2.2.2.1 v1 σ H locs hP hD hS ls (lv_sub hl [0, 1] rfl) hf
        · have hf := dz_t c179 hf
          refine lv_aload_n hx hb dX1_writesLine_182 rfl (lv_at hl 0 rfl) ?_
          refine lv_bipush (v := 9) hx hb dX1_writesLine_183 (by decide) ?_
          obtain ⟨s4, hx3, hf⟩ := dz_bo hf
          have hFc := dz_free hD hS hA
          refine va_callv (va_runV (As := [.int 9]) (rest := []) ⟨hx, hb, hml, hown, hts⟩ (mtX1_writesWord l D cl ci hci h ad cA H.size σ 9 K s4 hx3) (cwV 1 hts (lw_V q2009 q2011 qs73 q88 q2012) rfl rfl rfl (by decide +kernel) ⟨Nat.le_of_ble_eq_true rfl, Nat.le_of_ble_eq_true rfl⟩) (m_preV hci hK hP hD) rfl rfl hl.1 rfl (lv_room (Nat.le_of_ble_eq_true rfl)) dX1_writesLine_185 ⟨Nat.le_refl _, Nat.le_refl _⟩) hS (fun q _ hq => hFc q hq) hFc (fun u t H1 locs ht hvm hw hB hz hk hS => ?_)
          replace hw := hw.symm; subst hw
          replace hP := m_back ht hB
          replace hD := mw_D s4 hD
          clear hB hk hz hvm ht hFc; generalize H1 = H at hP hS ⊢
          exact ih.2.2.2.2.2.1 v1 s4 H locs hP hD hS ls (lv_sub hl [0, 1] rfl) hf
      · have hf := dz_f c133 hf
        refine lv_aload_n hx hb dX1_writesLine_136 rfl (lv_at hl 0 rfl) ?_
        refine lv_aload_n hx hb dX1_writesLine_137 rfl (lv_at hl 0 rfl) ?_
        refine va_get (C := RX1) (T := TX1) (N := 35) (fs := mwF ad σ) (v := .ref (ad 14)) hx hb hts in_X1 hown hK hP 0 rfl hci 14 (by decide) (hts _ q1685) (fun _ hq => hq) rfl dX1_writesLine_138 ?_
        refine lv_iload_n hx hb dX1_writesLine_141 rfl (lv_at hl 3 rfl) ?_
        obtain ⟨g5, hf⟩ := dz_go hf
        refine va_iald hx hb hK hP 12 0 rfl rfl g5 dX1_writesLine_142 ?_
        refine lv_topi (fun x6 e_x6 => ?_)
        have hf := dz_ls e_x6 hf
        obtain ⟨s8, hx7, hf⟩ := dz_bo hf
        have hFc := dz_free hD hS hA
        refine va_callv (va_runV (As := [.int x6]) (rest := []) ⟨hx, hb, hml, hown, hts⟩ (mtX1_writes l D cl ci hci h ad cA H.size σ x6 K s8 hx7) (cwV 1 hts (lw_V q2017 q2019 qs75 q88 q2020) rfl rfl rfl (by decide +kernel) ⟨Nat.le_of_ble_eq_true rfl, Nat.le_of_ble_eq_true rfl⟩) (m_preV hci hK hP hD) rfl rfl hl.1 rfl (lv_room (Nat.le_of_ble_eq_true rfl)) dX1_writesLine_143 ⟨Nat.le_refl _, Nat.le_refl _⟩) hS (fun q _ hq => hFc q hq) hFc (fun u t H1 locs ht hvm hw hB hz hk hS => ?_)
        replace hw := hw.symm; subst hw
        replace hP := m_back ht hB
        replace hD := mw_D s8 hD
        clear hB hk hz hvm ht hFc; generalize H1 = H at hP hS ⊢
        refine lv_aload_n hx hb dX1_writesLine_146 rfl (lv_at hl 0 rfl) ?_
        refine lv_aload_n hx hb dX1_writesLine_147 rfl (lv_at hl 0 rfl) ?_
        refine va_get (C := RX1) (T := TX1) (N := 35) (fs := mwF ad s8) (v := .ref (ad 15)) hx hb hts in_X1 hown hK hP 0 rfl hci 15 (by decide) (hts _ q1686) (fun _ hq => hq) rfl dX1_writesLine_148 ?_
        refine lv_iload_n hx hb dX1_writesLine_151 rfl (lv_at hl 3 rfl) ?_
        obtain ⟨g9, hf⟩ := dz_go hf
        refine va_iald hx hb hK hP 13 0 rfl rfl g9 dX1_writesLine_152 ?_
        refine lv_topi (fun x10 e_x10 => ?_)
        have hf := dz_ls e_x10 hf
        obtain ⟨s12, hx11, hf⟩ := dz_bo hf
        have hFc := dz_free hD hS hA
        refine va_callv (va_runV (As := [.int x10]) (rest := []) ⟨hx, hb, hml, hown, hts⟩ (mtX1_writes l D cl ci hci h ad cA H.size s8 x10 K s12 hx11) (cwV 1 hts (lw_V q2017 q2019 qs75 q88 q2020) rfl rfl rfl (by decide +kernel) ⟨Nat.le_of_ble_eq_true rfl, Nat.le_of_ble_eq_true rfl⟩) (m_preV hci hK hP hD) rfl rfl hl.1 rfl (lv_room (Nat.le_of_ble_eq_true rfl)) dX1_writesLine_153 ⟨Nat.le_refl _, Nat.le_refl _⟩) hS (fun q _ hq => hFc q hq) hFc (fun u t H1 locs ht hvm hw hB hz hk hS => ?_)
        replace hw := hw.symm; subst hw
        replace hP := m_back ht hB
        replace hD := mw_D s12 hD
        clear hB hk hz hvm ht hFc; generalize H1 = H at hP hS ⊢
        refine lv_iload_n hx hb dX1_writesLine_156 rfl (lv_at hl 2 rfl) ?_
        refine lv_iconst (v := 1) hx hb dX1_writesLine_157 (by decide) ?_
        refine lv_icmp_eq (tgt := 171) hx hb dX1_writesLine_158 (by decide) (fun c158 => ?_) (fun c158 => ?_)
        · have hf := dz_t c158 hf
          exact ih.2.2.2.2.1 v1 v2 v3 s12 H locs hP hD hS ls (lv_sub hl [0, 1, 2, 3] rfl) hf
        · have hf := dz_f c158 hf
          refine lv_aload_n hx hb dX1_writesLine_161 rfl (lv_at hl 0 rfl) ?_
          refine lv_aload_n hx hb dX1_writesLine_162 rfl (lv_at hl 0 rfl) ?_
          refine va_get (C := RX1) (T := TX1) (N := 35) (fs := mwF ad s12) (v := .ref (ad 16)) hx hb hts in_X1 hown hK hP 0 rfl hci 16 (by decide) (hts _ q1687) (fun _ hq => hq) rfl dX1_writesLine_163 ?_
          refine lv_iload_n hx hb dX1_writesLine_166 rfl (lv_at hl 3 rfl) ?_
          obtain ⟨g13, hf⟩ := dz_go hf
          refine va_iald hx hb hK hP 14 0 rfl rfl g13 dX1_writesLine_167 ?_
          refine lv_topi (fun x14 e_x14 => ?_)
          have hf := dz_ls e_x14 hf
          obtain ⟨s16, hx15, hf⟩ := dz_bo hf
          have hFc := dz_free hD hS hA
          refine va_callv (va_runV (As := [.int x14]) (rest := []) ⟨hx, hb, hml, hown, hts⟩ (mtX1_writes l D cl ci hci h ad cA H.size s12 x14 K s16 hx15) (cwV 1 hts (lw_V q2017 q2019 qs75 q88 q2020) rfl rfl rfl (by decide +kernel) ⟨Nat.le_of_ble_eq_true rfl, Nat.le_of_ble_eq_true rfl⟩) (m_preV hci hK hP hD) rfl rfl hl.1 rfl (lv_room (Nat.le_of_ble_eq_true rfl)) dX1_writesLine_168 ⟨Nat.le_refl _, Nat.le_refl _⟩) hS (fun q _ hq => hFc q hq) hFc (fun u t H1 locs ht hvm hw hB hz hk hS => ?_)
          replace hw := hw.symm; subst hw
          replace hP := m_back ht hB
          replace hD := mw_D s16 hD
          clear hB hk hz hvm ht hFc; generalize H1 = H at hP hS ⊢
          exact ih.2.2.2.2.1 v1 v2 v3 s16 H locs hP hD hS ls (lv_sub hl [0, 1, 2, 3] rfl) hf
    · intro v1 v2 v3 σ H locs hP hD hS ls hl hf
      have hf : (dz_l (v3 + 1) fun x1 => (lfX1_writesLine K k).2.2.2.1 v1 v2 x1 σ : Option pM) = some res := hf
      obtain ⟨x1, e_x1, hf⟩ := dz_lo hf
      refine lv_iinc (v := x1) (lv' := [(3, .int x1), (0, .ref h), (1, .int v1), (2, .int v2)]) hx hb dX1_writesLine_171 hl (k := 3) rfl (by rw [e_x1]; rfl) (by decide) rfl (fun ls hl => ?_)
      refine lv_goto (tgt := 121) hx hb dX1_writesLine_174 (by decide) ?_
      exact ih.2.2.2.1 v1 v2 x1 σ H locs hP hD hS ls (lv_sub hl [1, 2, 3, 0] rfl) hf
    · intro v1 σ H locs hP hD hS ls hl hf
      have hf : (dz_l (9 * v1) fun x1 => (lfX1_writesLine K k).2.2.2.2.2.2 v1 x1 σ : Option pM) = some res := hf
      refine lv_bipush (v := 9) hx hb dX1_writesLine_188 (by decide) ?_
      refine lv_iload_n hx hb dX1_writesLine_190 rfl (lv_at hl 1 rfl) ?_
      refine lv_imul hx hb dX1_writesLine_191 ?_
      refine lv_topi (fun x1 e_x1 => ?_)
      have hf := dz_ls e_x1 hf
      refine lv_istore_n (lv' := [(3, .int x1), (0, .ref h), (1, .int v1)]) hx hb dX1_writesLine_192 rfl hl (by decide) rfl (fun ls hl => ?_)
      exact ih.2.2.2.2.2.2 v1 x1 σ H locs hP hD hS ls (lv_sub hl [1, 2, 0] rfl) hf
    · intro v1 v3 σ H locs hP hD hS ls hl hf
      have hf : (if ¬ (v1 < 0 ∨ 116 ≤ Int32.toNatClampNeg v1) then (dz_l (σ.2.2.1 13 (Int32.toNatClampNeg v1)) fun x2 => if ((9 * v1) + x2) ≤ v3 then (dz_b (fnX1_writesSign K 59 σ) fun s4 => some s4) else (if ¬ (v3 < 0 ∨ 1044 ≤ Int32.toNatClampNeg v3) then (dz_l (σ.2.2.1 17 (Int32.toNatClampNeg v3)) fun x6 => dz_b (fnX1_writes K x6 σ) fun s8 => if ¬ (v3 < 0 ∨ 1044 ≤ Int32.toNatClampNeg v3) then (dz_l (s8.2.2.1 18 (Int32.toNatClampNeg v3)) fun x10 => dz_b (fnX1_writes K x10 s8) fun s12 => dz_l (v3 + 1) fun x13 => (lfX1_writesLine K k).2.2.2.2.2.2 v1 x13 s12) else none) else none)) else none : Option pM) = some res := hf
      refine lv_iload_n hx hb dX1_writesLine_193 rfl (lv_at hl 2 rfl) ?_
      refine lv_bipush (v := 9) hx hb dX1_writesLine_194 (by decide) ?_
      refine lv_iload_n hx hb dX1_writesLine_196 rfl (lv_at hl 1 rfl) ?_
      refine lv_imul hx hb dX1_writesLine_197 ?_
      refine lv_aload_n hx hb dX1_writesLine_198 rfl (lv_at hl 0 rfl) ?_
      refine va_get (C := RX1) (T := TX1) (N := 35) (fs := mwF ad σ) (v := .ref (ad 13)) hx hb hts in_X1 hown hK hP 0 rfl hci 13 (by decide) (hts _ q1684) (fun _ hq => hq) rfl dX1_writesLine_199 ?_
      refine lv_iload_n hx hb dX1_writesLine_202 rfl (lv_at hl 1 rfl) ?_
      obtain ⟨g1, hf⟩ := dz_go hf
      refine va_iald hx hb hK hP 11 0 rfl rfl g1 dX1_writesLine_203 ?_
      refine lv_topi (fun x2 e_x2 => ?_)
      have hf := dz_ls e_x2 hf
      refine lv_iadd hx hb dX1_writesLine_204 ?_
      refine lv_icmp_ge (tgt := 234) hx hb dX1_writesLine_205 (by decide) (fun c205 => ?_) (fun c205 => ?_)
      · have hf := dz_t c205 hf
        refine lv_aload_n hx hb dX1_writesLine_234 rfl (lv_at hl 0 rfl) ?_
        refine lv_bipush (v := 59) hx hb dX1_writesLine_235 (by decide) ?_
        obtain ⟨s4, hx3, hf⟩ := dz_bo hf
        have hFc := dz_free hD hS hA
        refine va_callv (va_runV (As := [.int 59]) (rest := []) ⟨hx, hb, hml, hown, hts⟩ (mtX1_writesSign l D cl ci hci h ad cA H.size σ 59 K s4 hx3) (cwV 1 hts (lw_V q2013 q2015 qs74 q88 q2016) rfl rfl rfl (by decide +kernel) ⟨Nat.le_of_ble_eq_true rfl, Nat.le_of_ble_eq_true rfl⟩) (m_preV hci hK hP hD) rfl rfl hl.1 rfl (lv_room (Nat.le_of_ble_eq_true rfl)) dX1_writesLine_237 ⟨Nat.le_refl _, Nat.le_refl _⟩) hS (fun q _ hq => hFc q hq) hFc (fun u t H1 locs ht hvm hw hB hz hk hS => ?_)
        replace hw := hw.symm; subst hw
        replace hP := m_back ht hB
        replace hD := mw_D s4 hD
        clear hB hk hz hvm ht hFc; generalize H1 = H at hP hS ⊢
        exact W.vret hx hb hr (fun t ht hW => ⟨⟨s4, rfl, Option.some.inj hf, by rw [ht]; exact hP, va_K.moved hW.alike hK, hD⟩, hS.F ht⟩) hS.2.2 dX1_writesLine_240
      · have hf := dz_f c205 hf
        refine lv_aload_n hx hb dX1_writesLine_208 rfl (lv_at hl 0 rfl) ?_
        refine lv_aload_n hx hb dX1_writesLine_209 rfl (lv_at hl 0 rfl) ?_
        refine va_get (C := RX1) (T := TX1) (N := 35) (fs := mwF ad σ) (v := .ref (ad 17)) hx hb hts in_X1 hown hK hP 0 rfl hci 17 (by decide) (hts _ q1688) (fun _ hq => hq) rfl dX1_writesLine_210 ?_
        refine lv_iload_n hx hb dX1_writesLine_213 rfl (lv_at hl 2 rfl) ?_
        obtain ⟨g5, hf⟩ := dz_go hf
        refine va_iald hx hb hK hP 15 0 rfl rfl g5 dX1_writesLine_214 ?_
        refine lv_topi (fun x6 e_x6 => ?_)
        have hf := dz_ls e_x6 hf
        obtain ⟨s8, hx7, hf⟩ := dz_bo hf
        have hFc := dz_free hD hS hA
        refine va_callv (va_runV (As := [.int x6]) (rest := []) ⟨hx, hb, hml, hown, hts⟩ (mtX1_writes l D cl ci hci h ad cA H.size σ x6 K s8 hx7) (cwV 1 hts (lw_V q2017 q2019 qs75 q88 q2020) rfl rfl rfl (by decide +kernel) ⟨Nat.le_of_ble_eq_true rfl, Nat.le_of_ble_eq_true rfl⟩) (m_preV hci hK hP hD) rfl rfl hl.1 rfl (lv_room (Nat.le_of_ble_eq_true rfl)) dX1_writesLine_215 ⟨Nat.le_refl _, Nat.le_refl _⟩) hS (fun q _ hq => hFc q hq) hFc (fun u t H1 locs ht hvm hw hB hz hk hS => ?_)
        replace hw := hw.symm; subst hw
        replace hP := m_back ht hB
        replace hD := mw_D s8 hD
        clear hB hk hz hvm ht hFc; generalize H1 = H at hP hS ⊢
        refine lv_aload_n hx hb dX1_writesLine_218 rfl (lv_at hl 0 rfl) ?_
        refine lv_aload_n hx hb dX1_writesLine_219 rfl (lv_at hl 0 rfl) ?_
        refine va_get (C := RX1) (T := TX1) (N := 35) (fs := mwF ad s8) (v := .ref (ad 18)) hx hb hts in_X1 hown hK hP 0 rfl hci 18 (by decide) (hts _ q1689) (fun _ hq => hq) rfl dX1_writesLine_220 ?_
        refine lv_iload_n hx hb dX1_writesLine_223 rfl (lv_at hl 2 rfl) ?_
        obtain ⟨g9, hf⟩ := dz_go hf
        refine va_iald hx hb hK hP 16 0 rfl rfl g9 dX1_writesLine_224 ?_
        refine lv_topi (fun x10 e_x10 => ?_)
        have hf := dz_ls e_x10 hf
        obtain ⟨s12, hx11, hf⟩ := dz_bo hf
        have hFc := dz_free hD hS hA
        refine va_callv (va_runV (As := [.int x10]) (rest := []) ⟨hx, hb, hml, hown, hts⟩ (mtX1_writes l D cl ci hci h ad cA H.size s8 x10 K s12 hx11) (cwV 1 hts (lw_V q2017 q2019 qs75 q88 q2020) rfl rfl rfl (by decide +kernel) ⟨Nat.le_of_ble_eq_true rfl, Nat.le_of_ble_eq_true rfl⟩) (m_preV hci hK hP hD) rfl rfl hl.1 rfl (lv_room (Nat.le_of_ble_eq_true rfl)) dX1_writesLine_225 ⟨Nat.le_refl _, Nat.le_refl _⟩) hS (fun q _ hq => hFc q hq) hFc (fun u t H1 locs ht hvm hw hB hz hk hS => ?_)
        replace hw := hw.symm; subst hw
        replace hP := m_back ht hB
        replace hD := mw_D s12 hD
        clear hB hk hz hvm ht hFc; generalize H1 = H at hP hS ⊢
        obtain ⟨x13, e_x13, hf⟩ := dz_lo hf
        refine lv_iinc (v := x13) (lv' := [(3, .int x13), (0, .ref h), (1, .int v1)]) hx hb dX1_writesLine_228 hl (k := 2) rfl (by rw [e_x13]; rfl) (by decide) rfl (fun ls hl => ?_)
        refine lv_goto (tgt := 193) hx hb dX1_writesLine_231 (by decide) ?_
        exact ih.2.2.2.2.2.2 v1 x13 s12 H locs hP hD hS ls (lv_sub hl [1, 2, 0] rfl) hf
set_option maxHeartbeats 4000000 in
set_option maxRecDepth 100000 in
theorem mtX1_writesLine (l : Launch) (D : va_G) (cl : List vw_C) (ci : Nat) (hci : cl[ci]? = some (RX1, TX1, 35)) (h : Nat) (ad : Nat → Nat) (cA : Nat → ClassId) (sz : Nat) (σ : pM) (a0 : Int32) (K : Nat) (res : pM) (hf : fnX1_writesLine K a0 σ = some res) : Met l yX1_writesLine (ws_ yX1_writesLine cX1_writesLine 4 (none)) ({ frames := 2, cells := 0, slots := 0, locals := 45 }) (mPc D cl ci h ad cA sz σ [.ref h, .int a0]) (mQv D cl ci h ad cA (va_A (mw ci h ad cA σ) sz) res) 0 0 (va_A (mw ci h ad cA σ) sz) := by
  refine Met.ofW (cc := cX1_writesLine) (maxL := 4) (ret := none) (by decide +kernel) rfl ?_
  intro p e s m args below meth c s₁ B hml hv
  obtain ⟨rfl, hsz, hP, hK, hD0⟩ := hv
  have hx := B.exec
  have hb := B.bytes
  have hr := B.returns
  have hts := atoms_spec (ws := ws_ yX1_writesLine cX1_writesLine 4 (none)) B.pre
  have hts : ∀ w ∈ lw_all, w.before _ s = true := fun w h => hts w (List.mem_cons_of_mem _ h)
  have hown : s.vm.findClass RX1 = some m.cls := findClass_of_methodNamed B.named
  have hlocks := B.notSynchronized
  subst hsz
  have hD := hD0.self (sz := s.heap.size)
  generalize hAe : va_A (mw ci h ad cA σ) s.heap.size = A at hD ⊢
  have hA : ∀ q : Nat, s.heap.size ≤ q → A q := fun q h => by rw [← hAe]; exact Or.inr h
  clear hAe hD0
  have hS : va_S A s.heap s.heap [] := va_S.rf
  generalize hHe : s.heap = H at hP hS ⊢
  have hS : va_S A s.heap H [] := by rw [hHe]; exact hS
  generalize ([] : List Loc) = locs at hS ⊢
  have hl := lv_entry ([.ref h, .int a0]) (n := 4) (Nat.le_of_ble_eq_true rfl)
  rw [lg_entry_eq]
  generalize (lg_sl ([.ref h, .int a0]) ++ List.replicate (4 - (lg_sl ([.ref h, .int a0])).length) Slot.unset).toArray = ls at hl ⊢
  have hl : lv_has ls 4 [(0, .ref h), (1, .int a0)] := hl
  have hf : (if ¬ (a0 < 0 ∨ 116 ≤ Int32.toNatClampNeg a0) then (dz_l (σ.2.2.1 9 (Int32.toNatClampNeg a0)) fun x2 => dz_l (mF σ 33 0) fun s3 => dz_b (fnX1_writesWord K x2 s3) fun s5 => if ¬ (a0 < 0 ∨ 116 ≤ Int32.toNatClampNeg a0) then (dz_l (s5.2.2.1 8 (Int32.toNatClampNeg a0)) fun x7 => dz_b (fnX1_writes K x7 s5) fun s9 => if x2 = (1 : Int32) then (dz_b (fnX1_writesWord K 5 s9) fun s11 => if ¬ (a0 < 0 ∨ 116 ≤ Int32.toNatClampNeg a0) then (dz_l (s11.2.2.1 12 (Int32.toNatClampNeg a0)) fun x13 => if x13 = (0 : Int32) then (dz_b (fnX1_writes K 2 s11) fun s20 => (lfX1_writesLine K K).1 a0 x2 s20) else (dz_l (9 * a0) fun x14 => if ¬ (x14 < 0 ∨ 1044 ≤ Int32.toNatClampNeg x14) then (dz_l (s11.2.2.1 16 (Int32.toNatClampNeg x14)) fun x16 => dz_b (fnX1_writes K x16 s11) fun s18 => (lfX1_writesLine K K).1 a0 x2 s18) else none)) else none) else ((lfX1_writesLine K K).1 a0 x2 s9)) else none) else none : Option pM) = some res := hf
  have ih := wlX1_writesLine (l := l) (e := e) (below := below) (h := h) (ad := ad) (cA := cA) hci hA hK K res a0 hx hb hr hlocks hml hown hts K
  refine lv_aload_n hx hb dX1_writesLine_0 rfl (lv_at hl 0 rfl) ?_
  refine va_get (C := RX1) (T := TX1) (N := 35) (fs := mwF ad σ) (v := .ref (ad 9)) hx hb hts in_X1 hown hK hP 0 rfl hci 9 (by decide) (hts _ q1680) (fun _ hq => hq) rfl dX1_writesLine_1 ?_
  refine lv_iload_n hx hb dX1_writesLine_4 rfl (lv_at hl 1 rfl) ?_
  obtain ⟨g1, hf⟩ := dz_go hf
  refine va_iald hx hb hK hP 7 0 rfl rfl g1 dX1_writesLine_5 ?_
  refine lv_topi (fun x2 e_x2 => ?_)
  have hf := dz_ls e_x2 hf
  refine lv_istore_n (lv' := [(2, .int x2), (0, .ref h), (1, .int a0)]) hx hb dX1_writesLine_6 rfl hl (by decide) rfl (fun ls hl => ?_)
  refine lv_aload_n hx hb dX1_writesLine_7 rfl (lv_at hl 1 rfl) ?_
  refine lv_iconst (v := 0) hx hb dX1_writesLine_8 (by decide) ?_
  refine va_put (C := RX1) (T := TX1) (N := 35) (fs := mwF ad σ) hx hb hts in_X1 tyX1 tyX1_ok nmX1 hown hK hP hD hS 0 rfl hci 33 (by decide) (hts _ q1704) (fun _ hq => hq) rfl rfl rfl rfl (Nat.le_of_ble_eq_true rfl) dX1_writesLine_9 (fun H locs hP1 _ hS => ?_)
  obtain ⟨s3, e_s3, hf⟩ := dz_lo hf
  have hP : va_P D cl (mw ci h ad cA s3) H := by rw [e_s3]; exact hP1
  clear hP1; replace hD := mw_D s3 hD
  refine lv_aload_n hx hb dX1_writesLine_12 rfl (lv_at hl 1 rfl) ?_
  refine lv_iload_n hx hb dX1_writesLine_13 rfl (lv_at hl 0 rfl) ?_
  obtain ⟨s5, hx4, hf⟩ := dz_bo hf
  have hFc := dz_free hD hS hA
  refine va_callv (va_runV (As := [.int x2]) (rest := []) ⟨hx, hb, hml, hown, hts⟩ (mtX1_writesWord l D cl ci hci h ad cA H.size s3 x2 K s5 hx4) (cwV 1 hts (lw_V q2009 q2011 qs73 q88 q2012) rfl rfl rfl (by decide +kernel) ⟨Nat.le_of_ble_eq_true rfl, Nat.le_of_ble_eq_true rfl⟩) (m_preV hci hK hP hD) rfl rfl hl.1 rfl (lv_room (Nat.le_of_ble_eq_true rfl)) dX1_writesLine_14 ⟨Nat.le_refl _, Nat.le_refl _⟩) hS (fun q _ hq => hFc q hq) hFc (fun u t H1 locs ht hvm hw hB hz hk hS => ?_)
  replace hw := hw.symm; subst hw
  replace hP := m_back ht hB
  replace hD := mw_D s5 hD
  clear hB hk hz hvm ht hFc; generalize H1 = H at hP hS ⊢
  refine lv_aload_n hx hb dX1_writesLine_17 rfl (lv_at hl 1 rfl) ?_
  refine lv_aload_n hx hb dX1_writesLine_18 rfl (lv_at hl 1 rfl) ?_
  refine va_get (C := RX1) (T := TX1) (N := 35) (fs := mwF ad s5) (v := .ref (ad 8)) hx hb hts in_X1 hown hK hP 0 rfl hci 8 (by decide) (hts _ q1679) (fun _ hq => hq) rfl dX1_writesLine_19 ?_
  refine lv_iload_n hx hb dX1_writesLine_22 rfl (lv_at hl 2 rfl) ?_
  obtain ⟨g6, hf⟩ := dz_go hf
  refine va_iald hx hb hK hP 6 0 rfl rfl g6 dX1_writesLine_23 ?_
  refine lv_topi (fun x7 e_x7 => ?_)
  have hf := dz_ls e_x7 hf
  obtain ⟨s9, hx8, hf⟩ := dz_bo hf
  have hFc := dz_free hD hS hA
  refine va_callv (va_runV (As := [.int x7]) (rest := []) ⟨hx, hb, hml, hown, hts⟩ (mtX1_writes l D cl ci hci h ad cA H.size s5 x7 K s9 hx8) (cwV 1 hts (lw_V q2017 q2019 qs75 q88 q2020) rfl rfl rfl (by decide +kernel) ⟨Nat.le_of_ble_eq_true rfl, Nat.le_of_ble_eq_true rfl⟩) (m_preV hci hK hP hD) rfl rfl hl.1 rfl (lv_room (Nat.le_of_ble_eq_true rfl)) dX1_writesLine_24 ⟨Nat.le_refl _, Nat.le_refl _⟩) hS (fun q _ hq => hFc q hq) hFc (fun u t H1 locs ht hvm hw hB hz hk hS => ?_)
  replace hw := hw.symm; subst hw
  replace hP := m_back ht hB
  replace hD := mw_D s9 hD
  clear hB hk hz hvm ht hFc; generalize H1 = H at hP hS ⊢
  refine lv_iload_n hx hb dX1_writesLine_27 rfl (lv_at hl 0 rfl) ?_
  refine lv_iconst (v := 1) hx hb dX1_writesLine_28 (by decide) ?_
  refine lv_icmp_ne (tgt := 63) hx hb dX1_writesLine_29 (by decide) (fun c29 => ?_) (fun c29 => ?_)
  · have hf := dz_f c29 hf
    exact ih.1 a0 x2 s9 H locs hP hD hS ls (lv_sub hl [1, 2, 0] rfl) hf
  · have hf := dz_t c29 hf
    refine lv_aload_n hx hb dX1_writesLine_32 rfl (lv_at hl 1 rfl) ?_
    refine lv_iconst (v := 5) hx hb dX1_writesLine_33 (by decide) ?_
    obtain ⟨s11, hx10, hf⟩ := dz_bo hf
    have hFc := dz_free hD hS hA
    refine va_callv (va_runV (As := [.int 5]) (rest := []) ⟨hx, hb, hml, hown, hts⟩ (mtX1_writesWord l D cl ci hci h ad cA H.size s9 5 K s11 hx10) (cwV 1 hts (lw_V q2009 q2011 qs73 q88 q2012) rfl rfl rfl (by decide +kernel) ⟨Nat.le_of_ble_eq_true rfl, Nat.le_of_ble_eq_true rfl⟩) (m_preV hci hK hP hD) rfl rfl hl.1 rfl (lv_room (Nat.le_of_ble_eq_true rfl)) dX1_writesLine_34 ⟨Nat.le_refl _, Nat.le_refl _⟩) hS (fun q _ hq => hFc q hq) hFc (fun u t H1 locs ht hvm hw hB hz hk hS => ?_)
    replace hw := hw.symm; subst hw
    replace hP := m_back ht hB
    replace hD := mw_D s11 hD
    clear hB hk hz hvm ht hFc; generalize H1 = H at hP hS ⊢
    refine lv_aload_n hx hb dX1_writesLine_37 rfl (lv_at hl 1 rfl) ?_
    refine lv_aload_n hx hb dX1_writesLine_38 rfl (lv_at hl 1 rfl) ?_
    refine va_get (C := RX1) (T := TX1) (N := 35) (fs := mwF ad s11) (v := .ref (ad 12)) hx hb hts in_X1 hown hK hP 0 rfl hci 12 (by decide) (hts _ q1683) (fun _ hq => hq) rfl dX1_writesLine_39 ?_
    refine lv_iload_n hx hb dX1_writesLine_42 rfl (lv_at hl 2 rfl) ?_
    obtain ⟨g12, hf⟩ := dz_go hf
    refine va_iald hx hb hK hP 10 0 rfl rfl g12 dX1_writesLine_43 ?_
    refine lv_topi (fun x13 e_x13 => ?_)
    have hf := dz_ls e_x13 hf
    refine lv_if_ne (tgt := 51) hx hb dX1_writesLine_44 (by decide) (fun c44 => ?_) (fun c44 => ?_)
    · have hf := dz_f c44 hf
      refine lv_aload_n hx hb dX1_writesLine_51 rfl (lv_at hl 1 rfl) ?_
      refine va_get (C := RX1) (T := TX1) (N := 35) (fs := mwF ad s11) (v := .ref (ad 16)) hx hb hts in_X1 hown hK hP 0 rfl hci 16 (by decide) (hts _ q1687) (fun _ hq => hq) rfl dX1_writesLine_52 ?_
      refine lv_bipush (v := 9) hx hb dX1_writesLine_55 (by decide) ?_
      refine lv_iload_n hx hb dX1_writesLine_57 rfl (lv_at hl 2 rfl) ?_
      refine lv_imul hx hb dX1_writesLine_58 ?_
      refine lv_topi (fun x14 e_x14 => ?_)
      have hf := dz_ls e_x14 hf
      obtain ⟨g15, hf⟩ := dz_go hf
      refine va_iald hx hb hK hP 14 0 rfl rfl g15 dX1_writesLine_59 ?_
      refine lv_topi (fun x16 e_x16 => ?_)
      have hf := dz_ls e_x16 hf
      obtain ⟨s18, hx17, hf⟩ := dz_bo hf
      have hFc := dz_free hD hS hA
      refine va_callv (va_runV (As := [.int x16]) (rest := []) ⟨hx, hb, hml, hown, hts⟩ (mtX1_writes l D cl ci hci h ad cA H.size s11 x16 K s18 hx17) (cwV 1 hts (lw_V q2017 q2019 qs75 q88 q2020) rfl rfl rfl (by decide +kernel) ⟨Nat.le_of_ble_eq_true rfl, Nat.le_of_ble_eq_true rfl⟩) (m_preV hci hK hP hD) rfl rfl hl.1 rfl (lv_room (Nat.le_of_ble_eq_true rfl)) dX1_writesLine_60 ⟨Nat.le_refl _, Nat.le_refl _⟩) hS (fun q _ hq => hFc q hq) hFc (fun u t H1 locs ht hvm hw hB hz hk hS => ?_)
      replace hw := hw.symm; subst hw
      replace hP := m_back ht hB
      replace hD := mw_D s18 hD
      clear hB hk hz hvm ht hFc; generalize H1 = H at hP hS ⊢
      exact ih.1 a0 x2 s18 H locs hP hD hS ls (lv_sub hl [1, 2, 0] rfl) hf
    · have hf := dz_t c44 hf
      refine lv_iconst (v := 2) hx hb dX1_writesLine_47 (by decide) ?_
      refine lv_goto (tgt := 60) hx hb dX1_writesLine_48 (by decide) ?_
      obtain ⟨s20, hx19, hf⟩ := dz_bo hf
      have hFc := dz_free hD hS hA
      refine va_callv (va_runV (As := [.int 2]) (rest := []) ⟨hx, hb, hml, hown, hts⟩ (mtX1_writes l D cl ci hci h ad cA H.size s11 2 K s20 hx19) (cwV 1 hts (lw_V q2017 q2019 qs75 q88 q2020) rfl rfl rfl (by decide +kernel) ⟨Nat.le_of_ble_eq_true rfl, Nat.le_of_ble_eq_true rfl⟩) (m_preV hci hK hP hD) rfl rfl hl.1 rfl (lv_room (Nat.le_of_ble_eq_true rfl)) dX1_writesLine_60 ⟨Nat.le_refl _, Nat.le_refl _⟩) hS (fun q _ hq => hFc q hq) hFc (fun u t H1 locs ht hvm hw hB hz hk hS => ?_)
      replace hw := hw.symm; subst hw
      replace hP := m_back ht hB
      replace hD := mw_D s20 hD
      clear hB hk hz hvm ht hFc; generalize H1 = H at hP hS ⊢
      exact ih.1 a0 x2 s20 H locs hP hD hS ls (lv_sub hl [1, 2, 0] rfl) hf

noncomputable def fnX1_spell (K : Nat) (a0 : Int32) (a1 : Int32) (σ : pM) : Option (Int32 × pM) := dz_c (fnX1_isLine K a0 σ) fun x1 s2 => if x1 = (0 : Int32) then (some ((-1), s2)) else (if (-1 : Int32) ≤ a1 then (dz_b (fnX1_writesLine K a0 s2) fun s4 => if a1 = (-1 : Int32) then (dz_l (s4.1 33) fun x8 => some (x8, s4)) else (dz_l (s4.1 33) fun x5 => if x5 ≤ a1 then (some ((-1), s4)) else (if ¬ (a1 < 0 ∨ 600 ≤ Int32.toNatClampNeg a1) then (dz_l (s4.2.2.1 32 (Int32.toNatClampNeg a1)) fun x7 => some (x7, s4)) else none))) else (some ((-1), s2)))
set_option maxHeartbeats 4000000 in
set_option maxRecDepth 100000 in
theorem mtX1_spell (l : Launch) (D : va_G) (cl : List vw_C) (ci : Nat) (hci : cl[ci]? = some (RX1, TX1, 35)) (h : Nat) (ad : Nat → Nat) (cA : Nat → ClassId) (sz : Nat) (σ : pM) (a0 : Int32) (a1 : Int32) (K : Nat) (res : (Int32 × pM)) (hf : fnX1_spell K a0 a1 σ = some res) : Met l yX1_spell (ws_ yX1_spell cX1_spell 3 (some .int)) ({ frames := 3, cells := 0, slots := 0, locals := 68 }) (mPc D cl ci h ad cA sz σ [.ref h, .int a0, .int a1]) (mQi D cl ci h ad cA (va_A (mw ci h ad cA σ) sz) res) 0 0 (va_A (mw ci h ad cA σ) sz) := by
  refine Met.ofW (cc := cX1_spell) (maxL := 3) (ret := some .int) (by decide +kernel) rfl ?_
  intro p e s m args below meth c s₁ B hml hv
  obtain ⟨rfl, hsz, hP, hK, hD0⟩ := hv
  have hx := B.exec
  have hb := B.bytes
  have hr := B.returns
  have hts := atoms_spec (ws := ws_ yX1_spell cX1_spell 3 (some .int)) B.pre
  have hts : ∀ w ∈ lw_all, w.before _ s = true := fun w h => hts w (List.mem_cons_of_mem _ h)
  have hown : s.vm.findClass RX1 = some m.cls := findClass_of_methodNamed B.named
  have hlocks := B.notSynchronized
  subst hsz
  have hD := hD0.self (sz := s.heap.size)
  generalize hAe : va_A (mw ci h ad cA σ) s.heap.size = A at hD ⊢
  have hA : ∀ q : Nat, s.heap.size ≤ q → A q := fun q h => by rw [← hAe]; exact Or.inr h
  clear hAe hD0
  have hS : va_S A s.heap s.heap [] := va_S.rf
  generalize hHe : s.heap = H at hP hS ⊢
  have hS : va_S A s.heap H [] := by rw [hHe]; exact hS
  generalize ([] : List Loc) = locs at hS ⊢
  have hl := lv_entry ([.ref h, .int a0, .int a1]) (n := 3) (Nat.le_of_ble_eq_true rfl)
  rw [lg_entry_eq]
  generalize (lg_sl ([.ref h, .int a0, .int a1]) ++ List.replicate (3 - (lg_sl ([.ref h, .int a0, .int a1])).length) Slot.unset).toArray = ls at hl ⊢
  have hl : lv_has ls 3 [(0, .ref h), (1, .int a0), (2, .int a1)] := hl
  have hf : (dz_c (fnX1_isLine K a0 σ) fun x1 s2 => if x1 = (0 : Int32) then (some ((-1), s2)) else (if (-1 : Int32) ≤ a1 then (dz_b (fnX1_writesLine K a0 s2) fun s4 => if a1 = (-1 : Int32) then (dz_l (s4.1 33) fun x8 => some (x8, s4)) else (dz_l (s4.1 33) fun x5 => if x5 ≤ a1 then (some ((-1), s4)) else (if ¬ (a1 < 0 ∨ 600 ≤ Int32.toNatClampNeg a1) then (dz_l (s4.2.2.1 32 (Int32.toNatClampNeg a1)) fun x7 => some (x7, s4)) else none))) else (some ((-1), s2))) : Option (Int32 × pM)) = some res := hf
  refine lv_aload_n hx hb dX1_spell_0 rfl (lv_at hl 0 rfl) ?_
  refine lv_iload_n hx hb dX1_spell_1 rfl (lv_at hl 1 rfl) ?_
  obtain ⟨x1, s2, hx1, hf⟩ := dz_co hf
  have hFc := dz_free hD hS hA
  refine va_calli (va_runV (As := [.int a0]) (rest := []) ⟨hx, hb, hml, hown, hts⟩ (mtX1_isLine l D cl ci hci h ad cA H.size σ a0 K (x1, s2) hx1) (cwV 1 hts (lw_V q1923 q1925 qs60 q88 q1926) rfl rfl rfl (by decide +kernel) ⟨Nat.le_of_ble_eq_true rfl, Nat.le_of_ble_eq_true rfl⟩) (m_preV hci hK hP hD) rfl rfl hl.1 rfl (lv_room (Nat.le_of_ble_eq_true rfl)) dX1_spell_2 ⟨Nat.le_refl _, Nat.le_refl _⟩) hS (fun q _ hq => hFc q hq) hFc (fun r u t H1 locs ht hvm hw hB hz hk hS => ?_)
  obtain ⟨hw1, hw2⟩ := Prod.mk.inj hw.symm; subst hw1; subst hw2
  replace hP := m_back ht hB
  replace hD := mw_D s2 hD
  clear hB hk hz hvm ht hFc; generalize H1 = H at hP hS ⊢
  refine lv_if_eq (tgt := 13) hx hb dX1_spell_5 (by decide) (fun c5 => ?_) (fun c5 => ?_)
  · have hf := dz_t c5 hf
    refine lv_iconst (v := (-1)) hx hb dX1_spell_13 (by decide) ?_
    exact W.iret (v := (-1)) hx hb hr (fun t ht hW => ⟨⟨(-1), s2, rfl, Option.some.inj hf, by rw [ht]; exact hP, va_K.moved hW.alike hK, hD⟩, hS.F ht⟩) hS.2.2 dX1_spell_14
  · have hf := dz_f c5 hf
    refine lv_iload_n hx hb dX1_spell_8 rfl (lv_at hl 2 rfl) ?_
    refine lv_iconst (v := (-1)) hx hb dX1_spell_9 (by decide) ?_
    refine lv_icmp_ge (tgt := 15) hx hb dX1_spell_10 (by decide) (fun c10 => ?_) (fun c10 => ?_)
    · have hf := dz_t c10 hf
      refine lv_aload_n hx hb dX1_spell_15 rfl (lv_at hl 0 rfl) ?_
      refine lv_iload_n hx hb dX1_spell_16 rfl (lv_at hl 1 rfl) ?_
      obtain ⟨s4, hx3, hf⟩ := dz_bo hf
      have hFc := dz_free hD hS hA
      refine va_callv (va_runV (As := [.int a0]) (rest := []) ⟨hx, hb, hml, hown, hts⟩ (mtX1_writesLine l D cl ci hci h ad cA H.size s2 a0 K s4 hx3) (cwV 1 hts (lw_V q2005 q2007 qs72 q88 q2008) rfl rfl rfl (by decide +kernel) ⟨Nat.le_of_ble_eq_true rfl, Nat.le_of_ble_eq_true rfl⟩) (m_preV hci hK hP hD) rfl rfl hl.1 rfl (lv_room (Nat.le_of_ble_eq_true rfl)) dX1_spell_17 ⟨Nat.le_refl _, Nat.le_refl _⟩) hS (fun q _ hq => hFc q hq) hFc (fun u t H1 locs ht hvm hw hB hz hk hS => ?_)
      replace hw := hw.symm; subst hw
      replace hP := m_back ht hB
      replace hD := mw_D s4 hD
      clear hB hk hz hvm ht hFc; generalize H1 = H at hP hS ⊢
      refine lv_iload_n hx hb dX1_spell_20 rfl (lv_at hl 2 rfl) ?_
      refine lv_iconst (v := (-1)) hx hb dX1_spell_21 (by decide) ?_
      refine lv_icmp_ne (tgt := 32) hx hb dX1_spell_22 (by decide) (fun c22 => ?_) (fun c22 => ?_)
      · have hf := dz_f c22 hf
        refine lv_iload_n hx hb dX1_spell_32 rfl (lv_at hl 2 rfl) ?_
        refine lv_aload_n hx hb dX1_spell_33 rfl (lv_at hl 0 rfl) ?_
        refine va_get (C := RX1) (T := TX1) (N := 35) (fs := mwF ad s4) (v := .int (s4.1 33)) hx hb hts in_X1 hown hK hP 0 rfl hci 33 (by decide) (hts _ q1704) (fun _ hq => hq) rfl dX1_spell_34 ?_
        refine lv_topi (fun x5 e_x5 => ?_)
        have hf := dz_ls e_x5 hf
        refine lv_icmp_ge (tgt := 49) hx hb dX1_spell_37 (by decide) (fun c37 => ?_) (fun c37 => ?_)
        · have hf := dz_t c37 hf
          refine lv_iconst (v := (-1)) hx hb dX1_spell_49 (by decide) ?_
          exact W.iret (v := (-1)) hx hb hr (fun t ht hW => ⟨⟨(-1), s4, rfl, Option.some.inj hf, by rw [ht]; exact hP, va_K.moved hW.alike hK, hD⟩, hS.F ht⟩) hS.2.2 dX1_spell_50
        · have hf := dz_f c37 hf
          refine lv_aload_n hx hb dX1_spell_40 rfl (lv_at hl 0 rfl) ?_
          refine va_get (C := RX1) (T := TX1) (N := 35) (fs := mwF ad s4) (v := .ref (ad 32)) hx hb hts in_X1 hown hK hP 0 rfl hci 32 (by decide) (hts _ q1703) (fun _ hq => hq) rfl dX1_spell_41 ?_
          refine lv_iload_n hx hb dX1_spell_44 rfl (lv_at hl 2 rfl) ?_
          obtain ⟨g6, hf⟩ := dz_go hf
          refine va_iald hx hb hK hP 23 0 rfl rfl g6 dX1_spell_45 ?_
          refine lv_topi (fun x7 e_x7 => ?_)
          have hf := dz_ls e_x7 hf
          refine lv_goto (tgt := 50) hx hb dX1_spell_46 (by decide) ?_
          exact W.iret (v := x7) hx hb hr (fun t ht hW => ⟨⟨x7, s4, rfl, Option.some.inj hf, by rw [ht]; exact hP, va_K.moved hW.alike hK, hD⟩, hS.F ht⟩) hS.2.2 dX1_spell_50
      · have hf := dz_t c22 hf
        refine lv_aload_n hx hb dX1_spell_25 rfl (lv_at hl 0 rfl) ?_
        refine va_get (C := RX1) (T := TX1) (N := 35) (fs := mwF ad s4) (v := .int (s4.1 33)) hx hb hts in_X1 hown hK hP 0 rfl hci 33 (by decide) (hts _ q1704) (fun _ hq => hq) rfl dX1_spell_26 ?_
        refine lv_topi (fun x8 e_x8 => ?_)
        have hf := dz_ls e_x8 hf
        refine lv_goto (tgt := 50) hx hb dX1_spell_29 (by decide) ?_
        exact W.iret (v := x8) hx hb hr (fun t ht hW => ⟨⟨x8, s4, rfl, Option.some.inj hf, by rw [ht]; exact hP, va_K.moved hW.alike hK, hD⟩, hS.F ht⟩) hS.2.2 dX1_spell_50
    · have hf := dz_f c10 hf
      refine lv_iconst (v := (-1)) hx hb dX1_spell_13 (by decide) ?_
      exact W.iret (v := (-1)) hx hb hr (fun t ht hW => ⟨⟨(-1), s2, rfl, Option.some.inj hf, by rw [ht]; exact hP, va_K.moved hW.alike hK, hD⟩, hS.F ht⟩) hS.2.2 dX1_spell_14

