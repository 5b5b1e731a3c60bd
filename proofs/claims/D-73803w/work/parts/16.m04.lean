noncomputable def lfX1_find (K : Nat) : Nat → (Int32 → Int32 → Int32 → pM → Option (Int32 × pM)) × (Int32 → Int32 → Int32 → pM → Option (Int32 × pM)) × (Int32 → Int32 → pM → Option (Int32 × pM)) × (Int32 → Int32 → Int32 → Int32 → pM → Option (Int32 × pM)) × (Int32 → pM → Option (Int32 × pM)) := Nat.rec (motive := fun _ => (Int32 → Int32 → Int32 → pM → Option (Int32 × pM)) × (Int32 → Int32 → Int32 → pM → Option (Int32 × pM)) × (Int32 → Int32 → pM → Option (Int32 × pM)) × (Int32 → Int32 → Int32 → Int32 → pM → Option (Int32 × pM)) × (Int32 → pM → Option (Int32 × pM))) ((fun _ _ _ _ => none), (fun _ _ _ _ => none), (fun _ _ _ => none), (fun _ _ _ _ _ => none), (fun _ _ => none)) (fun _ G => ((fun v1 v2 v3 σ => dz_l (σ.1 7) fun x1 => if x1 ≤ v3 then (dz_c (fnX1_works K v1 v2 σ) fun x2 s3 => if x2 = (0 : Int32) then (some ((-2), s3)) else (dz_l (s3.1 7) fun x4 => dz_l (mI s3 21 (Int32.toNatClampNeg 0) v1) fun s5 => dz_l (mI s5 22 (Int32.toNatClampNeg 0) v2) fun s6 => G.2.2.1 x4 1 s6)) else (if ¬ (v3 < 0 ∨ 60 ≤ Int32.toNatClampNeg v3) then (dz_l (σ.2.2.1 19 (Int32.toNatClampNeg v3)) fun x8 => if x8 = (0 : Int32) then (G.2.1 v1 v2 v3 σ) else (if ¬ (v3 < 0 ∨ 116 ≤ Int32.toNatClampNeg v3) then (dz_l (σ.2.2.1 9 (Int32.toNatClampNeg v3)) fun x10 => if x10 = v2 then (if ¬ (v3 < 0 ∨ 116 ≤ Int32.toNatClampNeg v3) then (dz_l (σ.2.2.1 8 (Int32.toNatClampNeg v3)) fun x12 => if x12 = v1 then (some (v3, σ)) else (G.2.1 v1 v2 v3 σ)) else none) else (G.2.1 v1 v2 v3 σ)) else none)) else none)), (fun v1 v2 v3 σ => dz_l (v3 + 1) fun x1 => G.1 v1 v2 x1 σ), (fun v3 v4 σ => if v4 ≤ (0 : Int32) then (dz_l (σ.1 7) fun x1 => some (x1 - 1, σ)) else (dz_l (v4 - 1) fun x2 => if ¬ (x2 < 0 ∨ 70 ≤ Int32.toNatClampNeg x2) then (dz_l (σ.2.2.1 21 (Int32.toNatClampNeg x2)) fun x4 => dz_l (v4 - 1) fun x5 => if ¬ (x5 < 0 ∨ 70 ≤ Int32.toNatClampNeg x5) then (dz_l (σ.2.2.1 22 (Int32.toNatClampNeg x5)) fun x7 => dz_b (fnX1_begins K 115 x4 x7 σ) fun s9 => if x7 = (0 : Int32) then (G.2.2.2.1 v3 v4 x4 x7 s9) else (dz_b (fnX1_laysRows K 115 s9) fun s11 => G.2.2.2.1 v3 v4 x4 x7 s11)) else none) else none)), (fun v3 v4 v5 v6 σ => dz_c (fnX1_missing K σ) fun x1 s2 => if x1 ≤ (0 : Int32) then (dz_l (s2.1 7) fun x3 => if x3 = (60 : Int32) then (G.2.2.2.2 v3 s2) else (dz_c (fnX1_works K v5 v6 s2) fun x4 s5 => if x4 = (0 : Int32) then (G.2.2.2.2 v3 s5) else (dz_l (s5.1 7) fun x6 => dz_b (fnX1_becomes K x6 115 s5) fun s8 => dz_l (s8.1 7) fun x9 => if ¬ (x9 < 0 ∨ 60 ≤ Int32.toNatClampNeg x9) then (dz_l (mI s8 19 (Int32.toNatClampNeg x9) (vp_nar .boolean 1)) fun s11 => dz_l (s11.1 7) fun x12 => dz_l (x12 + 1) fun x13 => dz_l (mF s11 7 x13) fun s14 => dz_l (v4 + (-1)) fun x15 => G.2.2.1 v3 x15 s14) else none))) else (if ¬ (v4 < 0 ∨ 70 ≤ Int32.toNatClampNeg v4) then (dz_l (mI s2 21 (Int32.toNatClampNeg v4) x1) fun s17 => if (100 : Int32) ≤ x1 then (if ¬ (v4 < 0 ∨ 70 ≤ Int32.toNatClampNeg v4) then (dz_l (mI s17 22 (Int32.toNatClampNeg v4) 1) fun s19 => dz_l (v4 + 1) fun x20 => G.2.2.1 v3 x20 s19) else none) else (if ¬ (v4 < 0 ∨ 70 ≤ Int32.toNatClampNeg v4) then (dz_l (mI s17 22 (Int32.toNatClampNeg v4) 0) fun s22 => dz_l (v4 + 1) fun x23 => G.2.2.1 v3 x23 s22) else none)) else none)), (fun v3 σ => dz_l (σ.1 7) fun x1 => if x1 = (60 : Int32) then (dz_l (mF σ 7 v3) fun s3 => if (1 : Int32) = 0 then (some ((-2), s3)) else (some ((-3), s3))) else (dz_l (mF σ 7 v3) fun s2 => if (0 : Int32) = 0 then (some ((-2), s2)) else (some ((-3), s2))))))
noncomputable def fnX1_find (K : Nat) (a0 : Int32) (a1 : Int32) (σ : pM) : Option (Int32 × pM) := dz_b (fnX1_in K (Int32.toInt64 a1) 0 4) fun x1 => if x1 = (0 : Int32) then (some ((-1), σ)) else (dz_b (fnX1_isNumber K (Int32.toInt64 a0)) fun x2 => if x2 = (0 : Int32) then (some ((-1), σ)) else (dz_b (fnX1_laysRight K σ) fun s4 => (lfX1_find K K).1 a0 a1 0 s4))
set_option maxHeartbeats 4000000 in
set_option maxRecDepth 100000 in
theorem wlX1_find {p : Program} {l : Launch} {e : Env} {s : State} {m : MethodId} {below : List Frame} {meth : Method} {c : Code} {D : va_G} {cl : List vw_C} {ci : Nat} (hci : cl[ci]? = some (RX1, TX1, 35)) {h : Nat} {ad : Nat → Nat} {cA : Nat → ClassId} {A : Nat → Prop} (hA : ∀ q : Nat, s.heap.size ≤ q → A q) (hK : va_K D cl (mtys cA) s) (K : Nat) (res : (Int32 × pM)) (a0 : Int32) (a1 : Int32) (hx : p.tables.exec = Jvm.exec) (hb : c.code = cX1_find) (hr : meth.sig.returnType = some .int) (hlocks : meth.locks = false) (hml : c.maxLocals = 9) (hown : s.vm.findClass RX1 = some m.cls) (hts : ∀ w ∈ lw_all, w.before ([.ref h, .int a0, .int a1] : List Value).toArray s = true) : ∀ k : Nat, (∀ (v1 : Int32) (v2 : Int32) (v3 : Int32) (σ : pM) (H : Heap) (locs : List Loc), va_P D cl (mw ci h ad cA σ) H → va_D A (mw ci h ad cA σ) → va_S A s.heap H locs → ∀ (ls : Array Slot), lv_has ls 9 [(0, .ref h), (1, .int v1), (2, .int v2), (3, .int v3)] → (lfX1_find K k).1 v1 v2 v3 σ = some res → W p l e (headSpec (ws_ yX1_find cX1_find 9 (some .int)) ({ frames := 6, cells := 0, slots := 0, locals := 153 })).room s m ([.ref h, .int a0, .int a1] : List Value).toArray below meth c H locs 0 0 (MQ below (mQi D cl ci h ad cA A res) ([.ref h, .int a0, .int a1] : List Value).toArray s 0 0 A) (F0 m 28 ls [])) ∧ (∀ (v1 : Int32) (v2 : Int32) (v3 : Int32) (σ : pM) (H : Heap) (locs : List Loc), va_P D cl (mw ci h ad cA σ) H → va_D A (mw ci h ad cA σ) → va_S A s.heap H locs → ∀ (ls : Array Slot), lv_has ls 9 [(0, .ref h), (1, .int v1), (2, .int v2), (3, .int v3)] → (lfX1_find K k).2.1 v1 v2 v3 σ = some res → W p l e (headSpec (ws_ yX1_find cX1_find 9 (some .int)) ({ frames := 6, cells := 0, slots := 0, locals := 153 })).room s m ([.ref h, .int a0, .int a1] : List Value).toArray below meth c H locs 0 0 (MQ below (mQi D cl ci h ad cA A res) ([.ref h, .int a0, .int a1] : List Value).toArray s 0 0 A) (F0 m 67 ls [])) ∧ (∀ (v3 : Int32) (v4 : Int32) (σ : pM) (H : Heap) (locs : List Loc), va_P D cl (mw ci h ad cA σ) H → va_D A (mw ci h ad cA σ) → va_S A s.heap H locs → ∀ (ls : Array Slot), lv_has ls 9 [(0, .ref h), (3, .int v3), (4, .int v4)] → (lfX1_find K k).2.2.1 v3 v4 σ = some res → W p l e (headSpec (ws_ yX1_find cX1_find 9 (some .int)) ({ frames := 6, cells := 0, slots := 0, locals := 153 })).room s m ([.ref h, .int a0, .int a1] : List Value).toArray below meth c H locs 0 0 (MQ below (mQi D cl ci h ad cA A res) ([.ref h, .int a0, .int a1] : List Value).toArray s 0 0 A) (F0 m 107 ls [])) ∧ (∀ (v3 : Int32) (v4 : Int32) (v5 : Int32) (v6 : Int32) (σ : pM) (H : Heap) (locs : List Loc), va_P D cl (mw ci h ad cA σ) H → va_D A (mw ci h ad cA σ) → va_S A s.heap H locs → ∀ (ls : Array Slot), lv_has ls 9 [(0, .ref h), (3, .int v3), (4, .int v4), (5, .int v5), (6, .int v6)] → (lfX1_find K k).2.2.2.1 v3 v4 v5 v6 σ = some res → W p l e (headSpec (ws_ yX1_find cX1_find 9 (some .int)) ({ frames := 6, cells := 0, slots := 0, locals := 153 })).room s m ([.ref h, .int a0, .int a1] : List Value).toArray below meth c H locs 0 0 (MQ below (mQi D cl ci h ad cA A res) ([.ref h, .int a0, .int a1] : List Value).toArray s 0 0 A) (F0 m 155 ls [])) ∧ (∀ (v3 : Int32) (σ : pM) (H : Heap) (locs : List Loc), va_P D cl (mw ci h ad cA σ) H → va_D A (mw ci h ad cA σ) → va_S A s.heap H locs → ∀ (ls : Array Slot), lv_has ls 9 [(0, .ref h), (3, .int v3)] → (lfX1_find K k).2.2.2.2 v3 σ = some res → W p l e (headSpec (ws_ yX1_find cX1_find 9 (some .int)) ({ frames := 6, cells := 0, slots := 0, locals := 153 })).room s m ([.ref h, .int a0, .int a1] : List Value).toArray below meth c H locs 0 0 (MQ below (mQi D cl ci h ad cA A res) ([.ref h, .int a0, .int a1] : List Value).toArray s 0 0 A) (F0 m 220 ls [])) := by
  intro k
  induction k with
  | zero =>
    exact ⟨fun _ _ _ _ _ _ _ _ _ _ _ hf => (by cases hf), fun _ _ _ _ _ _ _ _ _ _ _ hf => (by cases hf), fun _ _ _ _ _ _ _ _ _ _ hf => (by cases hf), fun _ _ _ _ _ _ _ _ _ _ _ _ hf => (by cases hf), fun _ _ _ _ _ _ _ _ _ hf => (by cases hf)⟩
  | succ k ih =>
    refine ⟨?_, ?_, ?_, ?_, ?_⟩
    · intro v1 v2 v3 σ H locs hP hD hS ls hl hf
      have hf : (dz_l (σ.1 7) fun x1 => if x1 ≤ v3 then (dz_c (fnX1_works K v1 v2 σ) fun x2 s3 => if x2 = (0 : Int32) then (some ((-2), s3)) else (dz_l (s3.1 7) fun x4 => dz_l (mI s3 21 (Int32.toNatClampNeg 0) v1) fun s5 => dz_l (mI s5 22 (Int32.toNatClampNeg 0) v2) fun s6 => (lfX1_find K k).2.2.1 x4 1 s6)) else (if ¬ (v3 < 0 ∨ 60 ≤ Int32.toNatClampNeg v3) then (dz_l (σ.2.2.1 19 (Int32.toNatClampNeg v3)) fun x8 => if x8 = (0 : Int32) then ((lfX1_find K k).2.1 v1 v2 v3 σ) else (if ¬ (v3 < 0 ∨ 116 ≤ Int32.toNatClampNeg v3) then (dz_l (σ.2.2.1 9 (Int32.toNatClampNeg v3)) fun x10 => if x10 = v2 then (if ¬ (v3 < 0 ∨ 116 ≤ Int32.toNatClampNeg v3) then (dz_l (σ.2.2.1 8 (Int32.toNatClampNeg v3)) fun x12 => if x12 = v1 then (some (v3, σ)) else ((lfX1_find K k).2.1 v1 v2 v3 σ)) else none) else ((lfX1_find K k).2.1 v1 v2 v3 σ)) else none)) else none) : Option (Int32 × pM)) = some res := hf
      refine lv_iload_n hx hb dX1_find_28 rfl (lv_at hl 3 rfl) ?_
      refine lv_aload_n hx hb dX1_find_29 rfl (lv_at hl 0 rfl) ?_
      refine va_get (C := RX1) (T := TX1) (N := 35) (fs := mwF ad σ) (v := .int (σ.1 7)) hx hb hts in_X1 hown hK hP 0 rfl hci 7 (by decide) (hts _ q1678) (fun _ hq => hq) rfl dX1_find_30 ?_
      refine lv_topi (fun x1 e_x1 => ?_)
      have hf := dz_ls e_x1 hf
      refine lv_icmp_ge (tgt := 73) hx hb dX1_find_33 (by decide) (fun c33 => ?_) (fun c33 => ?_)
      · have hf := dz_t c33 hf
        refine lv_aload_n hx hb dX1_find_73 rfl (lv_at hl 0 rfl) ?_
        refine lv_iload_n hx hb dX1_find_74 rfl (lv_at hl 1 rfl) ?_
        refine lv_iload_n hx hb dX1_find_75 rfl (lv_at hl 2 rfl) ?_
        obtain ⟨x2, s3, hx2, hf⟩ := dz_co hf
        have hFc := dz_free hD hS hA
        refine va_calli (va_runV (As := [.int v1, .int v2]) (rest := []) ⟨hx, hb, hml, hown, hts⟩ (mtX1_works l D cl ci hci h ad cA H.size σ v1 v2 K (x2, s3) hx2) (cwV 2 hts (lw_V q1871 q1873 qs48 q88 q1874) rfl rfl rfl (by decide +kernel) ⟨Nat.le_of_ble_eq_true rfl, Nat.le_of_ble_eq_true rfl⟩) (m_preV hci hK hP hD) rfl rfl hl.1 rfl (lv_room (Nat.le_of_ble_eq_true rfl)) dX1_find_76 ⟨Nat.le_refl _, Nat.le_refl _⟩) hS (fun q _ hq => hFc q hq) hFc (fun r u t H1 locs ht hvm hw hB hz hk hS => ?_)
        obtain ⟨hw1, hw2⟩ := Prod.mk.inj hw.symm; subst hw1; subst hw2
        replace hP := m_back ht hB
        replace hD := mw_D s3 hD
        clear hB hk hz hvm ht hFc; generalize H1 = H at hP hS ⊢
        refine lv_if_ne (tgt := 85) hx hb dX1_find_79 (by decide) (fun c79 => ?_) (fun c79 => ?_)
        · have hf := dz_f c79 hf
          refine lv_aload_n hx hb dX1_find_85 rfl (lv_at hl 0 rfl) ?_
          refine va_get (C := RX1) (T := TX1) (N := 35) (fs := mwF ad s3) (v := .int (s3.1 7)) hx hb hts in_X1 hown hK hP 0 rfl hci 7 (by decide) (hts _ q1678) (fun _ hq => hq) rfl dX1_find_86 ?_
          refine lv_topi (fun x4 e_x4 => ?_)
          have hf := dz_ls e_x4 hf
          refine lv_istore_n (lv' := [(3, .int x4), (0, .ref h), (1, .int v1), (2, .int v2)]) hx hb dX1_find_89 rfl hl (by decide) rfl (fun ls hl => ?_)
          refine lv_aload_n hx hb dX1_find_90 rfl (lv_at hl 1 rfl) ?_
          refine va_get (C := RX1) (T := TX1) (N := 35) (fs := mwF ad s3) (v := .ref (ad 21)) hx hb hts in_X1 hown hK hP 0 rfl hci 21 (by decide) (hts _ q1692) (fun _ hq => hq) rfl dX1_find_91 ?_
          refine lv_iconst (v := 0) hx hb dX1_find_94 (by decide) ?_
          refine lv_iload_n hx hb dX1_find_95 rfl (lv_at hl 2 rfl) ?_
          refine va_iast hx hb hK hP hD hS 19 0 rfl rfl (by unfold vp_in; decide) dX1_find_96 (fun H locs hP1 _ hS => ?_)
          obtain ⟨s5, e_s5, hf⟩ := dz_lo hf
          have hP : va_P D cl (mw ci h ad cA s5) H := by rw [e_s5]; exact hP1
          clear hP1; replace hD := mw_D s5 hD
          refine lv_aload_n hx hb dX1_find_97 rfl (lv_at hl 1 rfl) ?_
          refine va_get (C := RX1) (T := TX1) (N := 35) (fs := mwF ad s5) (v := .ref (ad 22)) hx hb hts in_X1 hown hK hP 0 rfl hci 22 (by decide) (hts _ q1693) (fun _ hq => hq) rfl dX1_find_98 ?_
          refine lv_iconst (v := 0) hx hb dX1_find_101 (by decide) ?_
          refine lv_iload_n hx hb dX1_find_102 rfl (lv_at hl 3 rfl) ?_
          refine va_iast hx hb hK hP hD hS 20 0 rfl rfl (by unfold vp_in; decide) dX1_find_103 (fun H locs hP1 _ hS => ?_)
          obtain ⟨s6, e_s6, hf⟩ := dz_lo hf
          have hP : va_P D cl (mw ci h ad cA s6) H := by rw [e_s6]; exact hP1
          clear hP1; replace hD := mw_D s6 hD
          refine lv_iconst (v := 1) hx hb dX1_find_104 (by decide) ?_
          refine lv_istore (lv' := [(4, .int 1), (3, .int x4), (0, .ref h), (1, .int v1), (2, .int v2)]) hx hb dX1_find_105 hl (by decide) rfl (fun ls hl => ?_)
          exact ih.2.2.1 x4 1 s6 H locs hP hD hS ls (lv_sub hl [2, 1, 0] rfl) hf
        · have hf := dz_t c79 hf
          refine lv_bipush (v := (-2)) hx hb dX1_find_82 (by decide) ?_
          exact W.iret (v := (-2)) hx hb hr (fun t ht hW => ⟨⟨(-2), s3, rfl, Option.some.inj hf, by rw [ht]; exact hP, va_K.moved hW.alike hK, hD⟩, hS.F ht⟩) hS.2.2 dX1_find_84
      · have hf := dz_f c33 hf
        refine lv_aload_n hx hb dX1_find_36 rfl (lv_at hl 0 rfl) ?_
        refine va_get (C := RX1) (T := TX1) (N := 35) (fs := mwF ad σ) (v := .ref (ad 19)) hx hb hts in_X1 hown hK hP 0 rfl hci 19 (by decide) (hts _ q1690) (fun _ hq => hq) rfl dX1_find_37 ?_
        refine lv_iload_n hx hb dX1_find_40 rfl (lv_at hl 3 rfl) ?_
        obtain ⟨g7, hf⟩ := dz_go hf
        refine va_zald hx hb hK hP 17 2 rfl rfl g7 dX1_find_41 ?_
        refine lv_topi (fun x8 e_x8 => ?_)
        have hf := dz_ls e_x8 hf
        refine lv_if_eq (tgt := 67) hx hb dX1_find_42 (by decide) (fun c42 => ?_) (fun c42 => ?_)
        · have hf := dz_t c42 hf
          exact ih.2.1 v1 v2 v3 σ H locs hP hD hS ls (lv_sub hl [0, 1, 2, 3] rfl) hf
        · have hf := dz_f c42 hf
          refine lv_aload_n hx hb dX1_find_45 rfl (lv_at hl 0 rfl) ?_
          refine va_get (C := RX1) (T := TX1) (N := 35) (fs := mwF ad σ) (v := .ref (ad 9)) hx hb hts in_X1 hown hK hP 0 rfl hci 9 (by decide) (hts _ q1680) (fun _ hq => hq) rfl dX1_find_46 ?_
          refine lv_iload_n hx hb dX1_find_49 rfl (lv_at hl 3 rfl) ?_
          obtain ⟨g9, hf⟩ := dz_go hf
          refine va_iald hx hb hK hP 7 0 rfl rfl g9 dX1_find_50 ?_
          refine lv_topi (fun x10 e_x10 => ?_)
          have hf := dz_ls e_x10 hf
          refine lv_iload_n hx hb dX1_find_51 rfl (lv_at hl 2 rfl) ?_
          refine lv_icmp_ne (tgt := 67) hx hb dX1_find_52 (by decide) (fun c52 => ?_) (fun c52 => ?_)
          · have hf := dz_f c52 hf
            exact ih.2.1 v1 v2 v3 σ H locs hP hD hS ls (lv_sub hl [0, 1, 2, 3] rfl) hf
          · have hf := dz_t c52 hf
            refine lv_aload_n hx hb dX1_find_55 rfl (lv_at hl 0 rfl) ?_
            refine va_get (C := RX1) (T := TX1) (N := 35) (fs := mwF ad σ) (v := .ref (ad 8)) hx hb hts in_X1 hown hK hP 0 rfl hci 8 (by decide) (hts _ q1679) (fun _ hq => hq) rfl dX1_find_56 ?_
            refine lv_iload_n hx hb dX1_find_59 rfl (lv_at hl 3 rfl) ?_
            obtain ⟨g11, hf⟩ := dz_go hf
            refine va_iald hx hb hK hP 6 0 rfl rfl g11 dX1_find_60 ?_
            refine lv_topi (fun x12 e_x12 => ?_)
            have hf := dz_ls e_x12 hf
            refine lv_iload_n hx hb dX1_find_61 rfl (lv_at hl 1 rfl) ?_
            refine lv_icmp_ne (tgt := 67) hx hb dX1_find_62 (by decide) (fun c62 => ?_) (fun c62 => ?_)
            · have hf := dz_f c62 hf
              exact ih.2.1 v1 v2 v3 σ H locs hP hD hS ls (lv_sub hl [0, 1, 2, 3] rfl) hf
            · have hf := dz_t c62 hf
              refine lv_iload_n hx hb dX1_find_65 rfl (lv_at hl 3 rfl) ?_
              exact W.iret (v := v3) hx hb hr (fun t ht hW => ⟨⟨v3, σ, rfl, Option.some.inj hf, by rw [ht]; exact hP, va_K.moved hW.alike hK, hD⟩, hS.F ht⟩) hS.2.2 dX1_find_66
    · intro v1 v2 v3 σ H locs hP hD hS ls hl hf
      have hf : (dz_l (v3 + 1) fun x1 => (lfX1_find K k).1 v1 v2 x1 σ : Option (Int32 × pM)) = some res := hf
      obtain ⟨x1, e_x1, hf⟩ := dz_lo hf
      refine lv_iinc (v := x1) (lv' := [(3, .int x1), (0, .ref h), (1, .int v1), (2, .int v2)]) hx hb dX1_find_67 hl (k := 3) rfl (by rw [e_x1]; rfl) (by decide) rfl (fun ls hl => ?_)
      refine lv_goto (tgt := 28) hx hb dX1_find_70 (by decide) ?_
      exact ih.1 v1 v2 x1 σ H locs hP hD hS ls (lv_sub hl [1, 2, 3, 0] rfl) hf
    · intro v3 v4 σ H locs hP hD hS ls hl hf
      have hf : (if v4 ≤ (0 : Int32) then (dz_l (σ.1 7) fun x1 => some (x1 - 1, σ)) else (dz_l (v4 - 1) fun x2 => if ¬ (x2 < 0 ∨ 70 ≤ Int32.toNatClampNeg x2) then (dz_l (σ.2.2.1 21 (Int32.toNatClampNeg x2)) fun x4 => dz_l (v4 - 1) fun x5 => if ¬ (x5 < 0 ∨ 70 ≤ Int32.toNatClampNeg x5) then (dz_l (σ.2.2.1 22 (Int32.toNatClampNeg x5)) fun x7 => dz_b (fnX1_begins K 115 x4 x7 σ) fun s9 => if x7 = (0 : Int32) then ((lfX1_find K k).2.2.2.1 v3 v4 x4 x7 s9) else (dz_b (fnX1_laysRows K 115 s9) fun s11 => (lfX1_find K k).2.2.2.1 v3 v4 x4 x7 s11)) else none) else none) : Option (Int32 × pM)) = some res := hf
      refine lv_iload hx hb dX1_find_107 (lv_at hl 2 rfl) ?_
      refine lv_if_le (tgt := 290) hx hb dX1_find_109 (by decide) (fun c109 => ?_) (fun c109 => ?_)
      · have hf := dz_t c109 hf
        refine lv_aload_n hx hb dX1_find_290 rfl (lv_at hl 0 rfl) ?_
        refine va_get (C := RX1) (T := TX1) (N := 35) (fs := mwF ad σ) (v := .int (σ.1 7)) hx hb hts in_X1 hown hK hP 0 rfl hci 7 (by decide) (hts _ q1678) (fun _ hq => hq) rfl dX1_find_291 ?_
        refine lv_topi (fun x1 e_x1 => ?_)
        have hf := dz_ls e_x1 hf
        refine lv_iconst (v := 1) hx hb dX1_find_294 (by decide) ?_
        refine lv_isub hx hb dX1_find_295 ?_
        exact W.iret (v := x1 - 1) hx hb hr (fun t ht hW => ⟨⟨x1 - 1, σ, rfl, Option.some.inj hf, by rw [ht]; exact hP, va_K.moved hW.alike hK, hD⟩, hS.F ht⟩) hS.2.2 dX1_find_296
      · have hf := dz_f c109 hf
        refine lv_aload_n hx hb dX1_find_112 rfl (lv_at hl 0 rfl) ?_
        refine va_get (C := RX1) (T := TX1) (N := 35) (fs := mwF ad σ) (v := .ref (ad 21)) hx hb hts in_X1 hown hK hP 0 rfl hci 21 (by decide) (hts _ q1692) (fun _ hq => hq) rfl dX1_find_113 ?_
        refine lv_iload hx hb dX1_find_116 (lv_at hl 2 rfl) ?_
        refine lv_iconst (v := 1) hx hb dX1_find_118 (by decide) ?_
        refine lv_isub hx hb dX1_find_119 ?_
        refine lv_topi (fun x2 e_x2 => ?_)
        have hf := dz_ls e_x2 hf
        obtain ⟨g3, hf⟩ := dz_go hf
        refine va_iald hx hb hK hP 19 0 rfl rfl g3 dX1_find_120 ?_
        refine lv_topi (fun x4 e_x4 => ?_)
        have hf := dz_ls e_x4 hf
        refine lv_istore (lv' := [(5, .int x4), (0, .ref h), (3, .int v3), (4, .int v4)]) hx hb dX1_find_121 hl (by decide) rfl (fun ls hl => ?_)
        refine lv_aload_n hx hb dX1_find_123 rfl (lv_at hl 1 rfl) ?_
        refine va_get (C := RX1) (T := TX1) (N := 35) (fs := mwF ad σ) (v := .ref (ad 22)) hx hb hts in_X1 hown hK hP 0 rfl hci 22 (by decide) (hts _ q1693) (fun _ hq => hq) rfl dX1_find_124 ?_
        refine lv_iload hx hb dX1_find_127 (lv_at hl 3 rfl) ?_
        refine lv_iconst (v := 1) hx hb dX1_find_129 (by decide) ?_
        refine lv_isub hx hb dX1_find_130 ?_
        refine lv_topi (fun x5 e_x5 => ?_)
        have hf := dz_ls e_x5 hf
        obtain ⟨g6, hf⟩ := dz_go hf
        refine va_iald hx hb hK hP 20 0 rfl rfl g6 dX1_find_131 ?_
        refine lv_topi (fun x7 e_x7 => ?_)
        have hf := dz_ls e_x7 hf
        refine lv_istore (lv' := [(6, .int x7), (5, .int x4), (0, .ref h), (3, .int v3), (4, .int v4)]) hx hb dX1_find_132 hl (by decide) rfl (fun ls hl => ?_)
        refine lv_aload_n hx hb dX1_find_134 rfl (lv_at hl 2 rfl) ?_
        refine lv_bipush (v := 115) hx hb dX1_find_135 (by decide) ?_
        refine lv_iload hx hb dX1_find_137 (lv_at hl 1 rfl) ?_
        refine lv_iload hx hb dX1_find_139 (lv_at hl 0 rfl) ?_
        obtain ⟨s9, hx8, hf⟩ := dz_bo hf
        have hFc := dz_free hD hS hA
        refine va_callv (va_runV (As := [.int 115, .int x4, .int x7]) (rest := []) ⟨hx, hb, hml, hown, hts⟩ (mtX1_begins l D cl ci hci h ad cA H.size σ 115 x4 x7 K s9 hx8) (cwV 3 hts (lw_V q1875 q1877 qs49 q88 q1878) rfl rfl rfl (by decide +kernel) ⟨Nat.le_of_ble_eq_true rfl, Nat.le_of_ble_eq_true rfl⟩) (m_preV hci hK hP hD) rfl rfl hl.1 rfl (lv_room (Nat.le_of_ble_eq_true rfl)) dX1_find_141 ⟨Nat.le_refl _, Nat.le_refl _⟩) hS (fun q _ hq => hFc q hq) hFc (fun u t H1 locs ht hvm hw hB hz hk hS => ?_)
        replace hw := hw.symm; subst hw
        replace hP := m_back ht hB
        replace hD := mw_D s9 hD
        clear hB hk hz hvm ht hFc; generalize H1 = H at hP hS ⊢
        refine lv_iload hx hb dX1_find_144 (lv_at hl 0 rfl) ?_
        refine lv_if_eq (tgt := 155) hx hb dX1_find_146 (by decide) (fun c146 => ?_) (fun c146 => ?_)
        · have hf := dz_t c146 hf
          exact ih.2.2.2.1 v3 v4 x4 x7 s9 H locs hP hD hS ls (lv_sub hl [2, 3, 4, 1, 0] rfl) hf
        · have hf := dz_f c146 hf
          refine lv_aload_n hx hb dX1_find_149 rfl (lv_at hl 2 rfl) ?_
          refine lv_bipush (v := 115) hx hb dX1_find_150 (by decide) ?_
          obtain ⟨s11, hx10, hf⟩ := dz_bo hf
          have hFc := dz_free hD hS hA
          refine va_callv (va_runV (As := [.int 115]) (rest := []) ⟨hx, hb, hml, hown, hts⟩ (mtX1_laysRows l D cl ci hci h ad cA H.size s9 115 K s11 hx10) (cwV 1 hts (lw_V q1879 q1881 qs50 q88 q1882) rfl rfl rfl (by decide +kernel) ⟨Nat.le_of_ble_eq_true rfl, Nat.le_of_ble_eq_true rfl⟩) (m_preV hci hK hP hD) rfl rfl hl.1 rfl (lv_room (Nat.le_of_ble_eq_true rfl)) dX1_find_152 ⟨Nat.le_refl _, Nat.le_refl _⟩) hS (fun q _ hq => hFc q hq) hFc (fun u t H1 locs ht hvm hw hB hz hk hS => ?_)
          replace hw := hw.symm; subst hw
          replace hP := m_back ht hB
          replace hD := mw_D s11 hD
          clear hB hk hz hvm ht hFc; generalize H1 = H at hP hS ⊢
          exact ih.2.2.2.1 v3 v4 x4 x7 s11 H locs hP hD hS ls (lv_sub hl [2, 3, 4, 1, 0] rfl) hf
    · intro v3 v4 v5 v6 σ H locs hP hD hS ls hl hf
      have hf : (dz_c (fnX1_missing K σ) fun x1 s2 => if x1 ≤ (0 : Int32) then (dz_l (s2.1 7) fun x3 => if x3 = (60 : Int32) then ((lfX1_find K k).2.2.2.2 v3 s2) else (dz_c (fnX1_works K v5 v6 s2) fun x4 s5 => if x4 = (0 : Int32) then ((lfX1_find K k).2.2.2.2 v3 s5) else (dz_l (s5.1 7) fun x6 => dz_b (fnX1_becomes K x6 115 s5) fun s8 => dz_l (s8.1 7) fun x9 => if ¬ (x9 < 0 ∨ 60 ≤ Int32.toNatClampNeg x9) then (dz_l (mI s8 19 (Int32.toNatClampNeg x9) (vp_nar .boolean 1)) fun s11 => dz_l (s11.1 7) fun x12 => dz_l (x12 + 1) fun x13 => dz_l (mF s11 7 x13) fun s14 => dz_l (v4 + (-1)) fun x15 => (lfX1_find K k).2.2.1 v3 x15 s14) else none))) else (if ¬ (v4 < 0 ∨ 70 ≤ Int32.toNatClampNeg v4) then (dz_l (mI s2 21 (Int32.toNatClampNeg v4) x1) fun s17 => if (100 : Int32) ≤ x1 then (if ¬ (v4 < 0 ∨ 70 ≤ Int32.toNatClampNeg v4) then (dz_l (mI s17 22 (Int32.toNatClampNeg v4) 1) fun s19 => dz_l (v4 + 1) fun x20 => (lfX1_find K k).2.2.1 v3 x20 s19) else none) else (if ¬ (v4 < 0 ∨ 70 ≤ Int32.toNatClampNeg v4) then (dz_l (mI s17 22 (Int32.toNatClampNeg v4) 0) fun s22 => dz_l (v4 + 1) fun x23 => (lfX1_find K k).2.2.1 v3 x23 s22) else none)) else none) : Option (Int32 × pM)) = some res := hf
      refine lv_aload_n hx hb dX1_find_155 rfl (lv_at hl 0 rfl) ?_
      obtain ⟨x1, s2, hx1, hf⟩ := dz_co hf
      have hFc := dz_free hD hS hA
      refine va_calli (va_runV (As := []) (rest := []) ⟨hx, hb, hml, hown, hts⟩ (mtX1_missing l D cl ci hci h ad cA H.size σ K (x1, s2) hx1) (cwV 0 hts (lw_V q1911 q1913 qs58 q88 q1914) rfl rfl rfl (by decide +kernel) ⟨Nat.le_of_ble_eq_true rfl, Nat.le_of_ble_eq_true rfl⟩) (m_preV hci hK hP hD) rfl rfl hl.1 rfl (lv_room (Nat.le_of_ble_eq_true rfl)) dX1_find_156 ⟨Nat.le_refl _, Nat.le_refl _⟩) hS (fun q _ hq => hFc q hq) hFc (fun r u t H1 locs ht hvm hw hB hz hk hS => ?_)
      obtain ⟨hw1, hw2⟩ := Prod.mk.inj hw.symm; subst hw1; subst hw2
      replace hP := m_back ht hB
      replace hD := mw_D s2 hD
      clear hB hk hz hvm ht hFc; generalize H1 = H at hP hS ⊢
      refine lv_istore (lv' := [(7, .int x1), (0, .ref h), (3, .int v3), (4, .int v4), (5, .int v5), (6, .int v6)]) hx hb dX1_find_159 hl (by decide) rfl (fun ls hl => ?_)
      refine lv_iload hx hb dX1_find_161 (lv_at hl 0 rfl) ?_
      refine lv_if_le (tgt := 200) hx hb dX1_find_163 (by decide) (fun c163 => ?_) (fun c163 => ?_)
      · have hf := dz_t c163 hf
        refine lv_aload_n hx hb dX1_find_200 rfl (lv_at hl 1 rfl) ?_
        refine va_get (C := RX1) (T := TX1) (N := 35) (fs := mwF ad s2) (v := .int (s2.1 7)) hx hb hts in_X1 hown hK hP 0 rfl hci 7 (by decide) (hts _ q1678) (fun _ hq => hq) rfl dX1_find_201 ?_
        refine lv_topi (fun x3 e_x3 => ?_)
        have hf := dz_ls e_x3 hf
        refine lv_bipush (v := 60) hx hb dX1_find_204 (by decide) ?_
        refine lv_icmp_eq (tgt := 220) hx hb dX1_find_206 (by decide) (fun c206 => ?_) (fun c206 => ?_)
        · have hf := dz_t c206 hf
          exact ih.2.2.2.2 v3 s2 H locs hP hD hS ls (lv_sub hl [1, 2] rfl) hf
        · have hf := dz_f c206 hf
          refine lv_aload_n hx hb dX1_find_209 rfl (lv_at hl 1 rfl) ?_
          refine lv_iload hx hb dX1_find_210 (lv_at hl 4 rfl) ?_
          refine lv_iload hx hb dX1_find_212 (lv_at hl 5 rfl) ?_
          obtain ⟨x4, s5, hx4, hf⟩ := dz_co hf
          have hFc := dz_free hD hS hA
          refine va_calli (va_runV (As := [.int v5, .int v6]) (rest := []) ⟨hx, hb, hml, hown, hts⟩ (mtX1_works l D cl ci hci h ad cA H.size s2 v5 v6 K (x4, s5) hx4) (cwV 2 hts (lw_V q1871 q1873 qs48 q88 q1874) rfl rfl rfl (by decide +kernel) ⟨Nat.le_of_ble_eq_true rfl, Nat.le_of_ble_eq_true rfl⟩) (m_preV hci hK hP hD) rfl rfl hl.1 rfl (lv_room (Nat.le_of_ble_eq_true rfl)) dX1_find_214 ⟨Nat.le_refl _, Nat.le_refl _⟩) hS (fun q _ hq => hFc q hq) hFc (fun r u t H1 locs ht hvm hw hB hz hk hS => ?_)
          obtain ⟨hw1, hw2⟩ := Prod.mk.inj hw.symm; subst hw1; subst hw2
          replace hP := m_back ht hB
          replace hD := mw_D s5 hD
          clear hB hk hz hvm ht hFc; generalize H1 = H at hP hS ⊢
          refine lv_if_ne (tgt := 254) hx hb dX1_find_217 (by decide) (fun c217 => ?_) (fun c217 => ?_)
          · have hf := dz_f c217 hf
            refine lv_aload_n hx hb dX1_find_254 rfl (lv_at hl 1 rfl) ?_
            refine lv_aload_n hx hb dX1_find_255 rfl (lv_at hl 1 rfl) ?_
            refine va_get (C := RX1) (T := TX1) (N := 35) (fs := mwF ad s5) (v := .int (s5.1 7)) hx hb hts in_X1 hown hK hP 0 rfl hci 7 (by decide) (hts _ q1678) (fun _ hq => hq) rfl dX1_find_256 ?_
            refine lv_topi (fun x6 e_x6 => ?_)
            have hf := dz_ls e_x6 hf
            refine lv_bipush (v := 115) hx hb dX1_find_259 (by decide) ?_
            obtain ⟨s8, hx7, hf⟩ := dz_bo hf
            have hFc := dz_free hD hS hA
            refine va_callv (va_runV (As := [.int x6, .int 115]) (rest := []) ⟨hx, hb, hml, hown, hts⟩ (mtX1_becomes l D cl ci hci h ad cA H.size s5 x6 115 K s8 hx7) (cwV 2 hts (lw_V q1915 q1917 qs59 q88 q1918) rfl rfl rfl (by decide +kernel) ⟨Nat.le_of_ble_eq_true rfl, Nat.le_of_ble_eq_true rfl⟩) (m_preV hci hK hP hD) rfl rfl hl.1 rfl (lv_room (Nat.le_of_ble_eq_true rfl)) dX1_find_261 ⟨Nat.le_refl _, Nat.le_refl _⟩) hS (fun q _ hq => hFc q hq) hFc (fun u t H1 locs ht hvm hw hB hz hk hS => ?_)
            replace hw := hw.symm; subst hw
            replace hP := m_back ht hB
            replace hD := mw_D s8 hD
            clear hB hk hz hvm ht hFc; generalize H1 = H at hP hS ⊢
            refine lv_aload_n hx hb dX1_find_264 rfl (lv_at hl 1 rfl) ?_
            refine va_get (C := RX1) (T := TX1) (N := 35) (fs := mwF ad s8) (v := .ref (ad 19)) hx hb hts in_X1 hown hK hP 0 rfl hci 19 (by decide) (hts _ q1690) (fun _ hq => hq) rfl dX1_find_265 ?_
            refine lv_aload_n hx hb dX1_find_268 rfl (lv_at hl 1 rfl) ?_
            refine va_get (C := RX1) (T := TX1) (N := 35) (fs := mwF ad s8) (v := .int (s8.1 7)) hx hb hts in_X1 hown hK hP 0 rfl hci 7 (by decide) (hts _ q1678) (fun _ hq => hq) rfl dX1_find_269 ?_
            refine lv_topi (fun x9 e_x9 => ?_)
            have hf := dz_ls e_x9 hf
            refine lv_iconst (v := 1) hx hb dX1_find_272 (by decide) ?_
            obtain ⟨g10, hf⟩ := dz_go hf
            refine va_zast hx hb hK hP hD hS 17 2 rfl rfl g10 dX1_find_273 (fun H locs hP1 _ hS => ?_)
            obtain ⟨s11, e_s11, hf⟩ := dz_lo hf
            have hP : va_P D cl (mw ci h ad cA s11) H := by rw [e_s11]; exact hP1
            clear hP1; replace hD := mw_D s11 hD
            refine lv_aload_n hx hb dX1_find_274 rfl (lv_at hl 1 rfl) ?_
            refine lv_dup hx hb dX1_find_275 rfl ?_
            refine va_get (C := RX1) (T := TX1) (N := 35) (fs := mwF ad s11) (v := .int (s11.1 7)) hx hb hts in_X1 hown hK hP 0 rfl hci 7 (by decide) (hts _ q1678) (fun _ hq => hq) rfl dX1_find_276 ?_
            refine lv_topi (fun x12 e_x12 => ?_)
            have hf := dz_ls e_x12 hf
            refine lv_iconst (v := 1) hx hb dX1_find_279 (by decide) ?_
            refine lv_iadd hx hb dX1_find_280 ?_
            refine lv_topi (fun x13 e_x13 => ?_)
            have hf := dz_ls e_x13 hf
            refine va_put (C := RX1) (T := TX1) (N := 35) (fs := mwF ad s11) hx hb hts in_X1 tyX1 tyX1_ok nmX1 hown hK hP hD hS 0 rfl hci 7 (by decide) (hts _ q1678) (fun _ hq => hq) rfl rfl rfl rfl (Nat.le_of_ble_eq_true rfl) dX1_find_281 (fun H locs hP1 _ hS => ?_)
            obtain ⟨s14, e_s14, hf⟩ := dz_lo hf
            have hP : va_P D cl (mw ci h ad cA s14) H := by rw [e_s14]; exact hP1
            clear hP1; replace hD := mw_D s14 hD
            obtain ⟨x15, e_x15, hf⟩ := dz_lo hf
            refine lv_iinc (v := x15) (lv' := [(4, .int x15), (7, .int x1), (0, .ref h), (3, .int v3), (5, .int v5), (6, .int v6)]) hx hb dX1_find_284 hl (k := 3) rfl (by rw [e_x15]; rfl) (by decide) rfl (fun ls hl => ?_)
            refine lv_goto (tgt := 107) hx hb dX1_find_287 (by decide) ?_
            exact ih.2.2.1 v3 x15 s14 H locs hP hD hS ls (lv_sub hl [2, 3, 0] rfl) hf
          · have hf := dz_t c217 hf
            exact ih.2.2.2.2 v3 s5 H locs hP hD hS ls (lv_sub hl [1, 2] rfl) hf
      · have hf := dz_f c163 hf
        refine lv_aload_n hx hb dX1_find_166 rfl (lv_at hl 1 rfl) ?_
        refine va_get (C := RX1) (T := TX1) (N := 35) (fs := mwF ad s2) (v := .ref (ad 21)) hx hb hts in_X1 hown hK hP 0 rfl hci 21 (by decide) (hts _ q1692) (fun _ hq => hq) rfl dX1_find_167 ?_
        refine lv_iload hx hb dX1_find_170 (lv_at hl 3 rfl) ?_
        refine lv_iload hx hb dX1_find_172 (lv_at hl 0 rfl) ?_
        obtain ⟨g16, hf⟩ := dz_go hf
        refine va_iast hx hb hK hP hD hS 19 0 rfl rfl g16 dX1_find_174 (fun H locs hP1 _ hS => ?_)
        obtain ⟨s17, e_s17, hf⟩ := dz_lo hf
        have hP : va_P D cl (mw ci h ad cA s17) H := by rw [e_s17]; exact hP1
        clear hP1; replace hD := mw_D s17 hD
        refine lv_aload_n hx hb dX1_find_175 rfl (lv_at hl 1 rfl) ?_
        refine va_get (C := RX1) (T := TX1) (N := 35) (fs := mwF ad s17) (v := .ref (ad 22)) hx hb hts in_X1 hown hK hP 0 rfl hci 22 (by decide) (hts _ q1693) (fun _ hq => hq) rfl dX1_find_176 ?_
        refine lv_iload hx hb dX1_find_179 (lv_at hl 3 rfl) ?_
        refine lv_iload hx hb dX1_find_181 (lv_at hl 0 rfl) ?_
        refine lv_bipush (v := 100) hx hb dX1_find_183 (by decide) ?_
        refine lv_icmp_ge (tgt := 192) hx hb dX1_find_185 (by decide) (fun c185 => ?_) (fun c185 => ?_)
        · have hf := dz_t c185 hf
          refine lv_iconst (v := 1) hx hb dX1_find_192 (by decide) ?_
          obtain ⟨g18, hf⟩ := dz_go hf
          refine va_iast hx hb hK hP hD hS 20 0 rfl rfl g18 dX1_find_193 (fun H locs hP1 _ hS => ?_)
          obtain ⟨s19, e_s19, hf⟩ := dz_lo hf
          have hP : va_P D cl (mw ci h ad cA s19) H := by rw [e_s19]; exact hP1
          clear hP1; replace hD := mw_D s19 hD
          obtain ⟨x20, e_x20, hf⟩ := dz_lo hf
          refine lv_iinc (v := x20) (lv' := [(4, .int x20), (7, .int x1), (0, .ref h), (3, .int v3), (5, .int v5), (6, .int v6)]) hx hb dX1_find_194 hl (k := 3) rfl (by rw [e_x20]; rfl) (by decide) rfl (fun ls hl => ?_)
          refine lv_goto (tgt := 107) hx hb dX1_find_197 (by decide) ?_
          exact ih.2.2.1 v3 x20 s19 H locs hP hD hS ls (lv_sub hl [2, 3, 0] rfl) hf
        · have hf := dz_f c185 hf
          refine lv_iconst (v := 0) hx hb dX1_find_188 (by decide) ?_
          refine lv_goto (tgt := 193) hx hb dX1_find_189 (by decide) ?_
          obtain ⟨g21, hf⟩ := dz_go hf
          refine va_iast hx hb hK hP hD hS 20 0 rfl rfl g21 dX1_find_193 (fun H locs hP1 _ hS => ?_)
          obtain ⟨s22, e_s22, hf⟩ := dz_lo hf
          have hP : va_P D cl (mw ci h ad cA s22) H := by rw [e_s22]; exact hP1
          clear hP1; replace hD := mw_D s22 hD
          obtain ⟨x23, e_x23, hf⟩ := dz_lo hf
          refine lv_iinc (v := x23) (lv' := [(4, .int x23), (7, .int x1), (0, .ref h), (3, .int v3), (5, .int v5), (6, .int v6)]) hx hb dX1_find_194 hl (k := 3) rfl (by rw [e_x23]; rfl) (by decide) rfl (fun ls hl => ?_)
          refine lv_goto (tgt := 107) hx hb dX1_find_197 (by decide) ?_
          exact ih.2.2.1 v3 x23 s22 H locs hP hD hS ls (lv_sub hl [2, 3, 0] rfl) hf
    · intro v3 σ H locs hP hD hS ls hl hf
      have hf : (dz_l (σ.1 7) fun x1 => if x1 = (60 : Int32) then (dz_l (mF σ 7 v3) fun s3 => if (1 : Int32) = 0 then (some ((-2), s3)) else (some ((-3), s3))) else (dz_l (mF σ 7 v3) fun s2 => if (0 : Int32) = 0 then (some ((-2), s2)) else (some ((-3), s2))) : Option (Int32 × pM)) = some res := hf
      refine lv_aload_n hx hb dX1_find_220 rfl (lv_at hl 0 rfl) ?_
      refine va_get (C := RX1) (T := TX1) (N := 35) (fs := mwF ad σ) (v := .int (σ.1 7)) hx hb hts in_X1 hown hK hP 0 rfl hci 7 (by decide) (hts _ q1678) (fun _ hq => hq) rfl dX1_find_221 ?_
      refine lv_topi (fun x1 e_x1 => ?_)
      have hf := dz_ls e_x1 hf
      refine lv_bipush (v := 60) hx hb dX1_find_224 (by decide) ?_
      refine lv_icmp_ne (tgt := 233) hx hb dX1_find_226 (by decide) (fun c226 => ?_) (fun c226 => ?_)
      · have hf := dz_f c226 hf
        refine lv_iconst (v := 0) hx hb dX1_find_233 (by decide) ?_
        refine lv_istore (lv' := [(8, .int 0), (0, .ref h), (3, .int v3)]) hx hb dX1_find_234 hl (by decide) rfl (fun ls hl => ?_)
        refine lv_aload_n hx hb dX1_find_236 rfl (lv_at hl 1 rfl) ?_
        refine lv_iload_n hx hb dX1_find_237 rfl (lv_at hl 2 rfl) ?_
        refine va_put (C := RX1) (T := TX1) (N := 35) (fs := mwF ad σ) hx hb hts in_X1 tyX1 tyX1_ok nmX1 hown hK hP hD hS 0 rfl hci 7 (by decide) (hts _ q1678) (fun _ hq => hq) rfl rfl rfl rfl (Nat.le_of_ble_eq_true rfl) dX1_find_238 (fun H locs hP1 _ hS => ?_)
        obtain ⟨s2, e_s2, hf⟩ := dz_lo hf
        have hP : va_P D cl (mw ci h ad cA s2) H := by rw [e_s2]; exact hP1
        clear hP1; replace hD := mw_D s2 hD
        refine lv_iload hx hb dX1_find_241 (lv_at hl 0 rfl) ?_
        refine lv_if_eq (tgt := 251) hx hb dX1_find_243 (by decide) (fun c243 => ?_) (fun c243 => ?_)
        · have hf := dz_t c243 hf
          refine lv_bipush (v := (-2)) hx hb dX1_find_251 (by decide) ?_
          exact W.iret (v := (-2)) hx hb hr (fun t ht hW => ⟨⟨(-2), s2, rfl, Option.some.inj hf, by rw [ht]; exact hP, va_K.moved hW.alike hK, hD⟩, hS.F ht⟩) hS.2.2 dX1_find_253
        · have hf := dz_f c243 hf
          refine lv_bipush (v := (-3)) hx hb dX1_find_246 (by decide) ?_
          refine lv_goto (tgt := 253) hx hb dX1_find_248 (by decide) ?_
          exact W.iret (v := (-3)) hx hb hr (fun t ht hW => ⟨⟨(-3), s2, rfl, Option.some.inj hf, by rw [ht]; exact hP, va_K.moved hW.alike hK, hD⟩, hS.F ht⟩) hS.2.2 dX1_find_253
      · have hf := dz_t c226 hf
        refine lv_iconst (v := 1) hx hb dX1_find_229 (by decide) ?_
        refine lv_goto (tgt := 234) hx hb dX1_find_230 (by decide) ?_
        refine lv_istore (lv' := [(8, .int 1), (0, .ref h), (3, .int v3)]) hx hb dX1_find_234 hl (by decide) rfl (fun ls hl => ?_)
        refine lv_aload_n hx hb dX1_find_236 rfl (lv_at hl 1 rfl) ?_
        refine lv_iload_n hx hb dX1_find_237 rfl (lv_at hl 2 rfl) ?_
        refine va_put (C := RX1) (T := TX1) (N := 35) (fs := mwF ad σ) hx hb hts in_X1 tyX1 tyX1_ok nmX1 hown hK hP hD hS 0 rfl hci 7 (by decide) (hts _ q1678) (fun _ hq => hq) rfl rfl rfl rfl (Nat.le_of_ble_eq_true rfl) dX1_find_238 (fun H locs hP1 _ hS => ?_)
        obtain ⟨s3, e_s3, hf⟩ := dz_lo hf
        have hP : va_P D cl (mw ci h ad cA s3) H := by rw [e_s3]; exact hP1
        clear hP1; replace hD := mw_D s3 hD
        refine lv_iload hx hb dX1_find_241 (lv_at hl 0 rfl) ?_
        refine lv_if_eq (tgt := 251) hx hb dX1_find_243 (by decide) (fun c243 => ?_) (fun c243 => ?_)
        · have hf := dz_t c243 hf
          refine lv_bipush (v := (-2)) hx hb dX1_find_251 (by decide) ?_
          exact W.iret (v := (-2)) hx hb hr (fun t ht hW => ⟨⟨(-2), s3, rfl, Option.some.inj hf, by rw [ht]; exact hP, va_K.moved hW.alike hK, hD⟩, hS.F ht⟩) hS.2.2 dX1_find_253
        · have hf := dz_f c243 hf
          refine lv_bipush (v := (-3)) hx hb dX1_find_246 (by decide) ?_
          refine lv_goto (tgt := 253) hx hb dX1_find_248 (by decide) ?_
          exact W.iret (v := (-3)) hx hb hr (fun t ht hW => ⟨⟨(-3), s3, rfl, Option.some.inj hf, by rw [ht]; exact hP, va_K.moved hW.alike hK, hD⟩, hS.F ht⟩) hS.2.2 dX1_find_253
set_option maxHeartbeats 4000000 in
set_option maxRecDepth 100000 in
theorem mtX1_find (l : Launch) (D : va_G) (cl : List vw_C) (ci : Nat) (hci : cl[ci]? = some (RX1, TX1, 35)) (h : Nat) (ad : Nat → Nat) (cA : Nat → ClassId) (sz : Nat) (σ : pM) (a0 : Int32) (a1 : Int32) (K : Nat) (res : (Int32 × pM)) (hf : fnX1_find K a0 a1 σ = some res) : Met l yX1_find (ws_ yX1_find cX1_find 9 (some .int)) ({ frames := 6, cells := 0, slots := 0, locals := 153 }) (mPc D cl ci h ad cA sz σ [.ref h, .int a0, .int a1]) (mQi D cl ci h ad cA (va_A (mw ci h ad cA σ) sz) res) 0 0 (va_A (mw ci h ad cA σ) sz) := by
  refine Met.ofW (cc := cX1_find) (maxL := 9) (ret := some .int) (by decide +kernel) rfl ?_
  intro p e s m args below meth c s₁ B hml hv
  obtain ⟨rfl, hsz, hP, hK, hD0⟩ := hv
  have hx := B.exec
  have hb := B.bytes
  have hr := B.returns
  have hts := atoms_spec (ws := ws_ yX1_find cX1_find 9 (some .int)) B.pre
  have hts : ∀ w ∈ lw_all, w.before _ s = true := fun w h => hts w (List.mem_cons_of_mem _ h)
  have hown : s.vm.findClass RX1 = some m.cls := findClass_of_methodNamed B.named
  have hlocks := B.notSynchronized
  subst hsz
  have hD := hD0.self (sz := s.heap.size)
  generalize hAe : va_A (mw ci h ad cA σ) s.heap.size = A at hD ⊢
  have hA : ∀ q : Nat, s.heap.size ≤ q → A q := fun q h => by rw [← hAe]; exact Or.inr h
  clear hAe hD0
  have hS : va_S A s.heap s.heap [] := va_S.rf
  generalize hHe : s.heap = H at hP hS ⊢
  have hS : va_S A s.heap H [] := by rw [hHe]; exact hS
  generalize ([] : List Loc) = locs at hS ⊢
  have hl := lv_entry ([.ref h, .int a0, .int a1]) (n := 9) (Nat.le_of_ble_eq_true rfl)
  rw [lg_entry_eq]
  generalize (lg_sl ([.ref h, .int a0, .int a1]) ++ List.replicate (9 - (lg_sl ([.ref h, .int a0, .int a1])).length) Slot.unset).toArray = ls at hl ⊢
  have hl : lv_has ls 9 [(0, .ref h), (1, .int a0), (2, .int a1)] := hl
  have hf : (dz_b (fnX1_in K (Int32.toInt64 a1) 0 4) fun x1 => if x1 = (0 : Int32) then (some ((-1), σ)) else (dz_b (fnX1_isNumber K (Int32.toInt64 a0)) fun x2 => if x2 = (0 : Int32) then (some ((-1), σ)) else (dz_b (fnX1_laysRight K σ) fun s4 => (lfX1_find K K).1 a0 a1 0 s4)) : Option (Int32 × pM)) = some res := hf
  have ih := wlX1_find (l := l) (e := e) (below := below) (h := h) (ad := ad) (cA := cA) hci hA hK K res a0 a1 hx hb hr hlocks hml hown hts K
  refine lv_iload_n hx hb dX1_find_0 rfl (lv_at hl 2 rfl) ?_
  refine lv_i2l hx hb dX1_find_1 (rfl : _ = Int32.toInt64 a1) ?_
  refine lv_lconst (v := 0) hx hb dX1_find_2 rfl ?_
  refine lv_ldc2 (v := 4) hx hb hown (hts _ q1782) dX1_find_3 ?_
  obtain ⟨x1, hx1, hf⟩ := dz_bo hf
  refine va_calli (va_runS (As := [.long (Int32.toInt64 a1), .long 0, .long 4]) (rest := []) ⟨hx, hb, hml, hown, hts⟩ (mtX1_in l (Int32.toInt64 a1) 0 4 K x1 hx1) (va_cwS 3 hts (lw_S q1783 q1784 q88 q1785) rfl rfl rfl (by decide +kernel) ⟨Nat.le_of_ble_eq_true rfl, Nat.le_of_ble_eq_true rfl⟩) ⟨fun a U g mk q => q, fun U hU hW => ⟨rfl, trivial⟩⟩ rfl rfl hl.1 rfl (lv_room (Nat.le_of_ble_eq_true rfl)) dX1_find_6 ⟨Nat.le_refl _, Nat.le_refl _⟩) hS (fun q _ hq => hq.elim) (fun q hq => hq.elim) (fun r u t H1 locs ht hvm hw hB hz hk hS => ?_)
  replace hw := hw.symm; subst hw
  replace hP := dz_keep hP hk
  clear hB hk hz hvm ht; generalize H1 = H at hP hS ⊢
  refine lv_if_eq (tgt := 20) hx hb dX1_find_9 (by decide) (fun c9 => ?_) (fun c9 => ?_)
  · have hf := dz_t c9 hf
    refine lv_iconst (v := (-1)) hx hb dX1_find_20 (by decide) ?_
    exact W.iret (v := (-1)) hx hb hr (fun t ht hW => ⟨⟨(-1), σ, rfl, Option.some.inj hf, by rw [ht]; exact hP, va_K.moved hW.alike hK, hD⟩, hS.F ht⟩) hS.2.2 dX1_find_21
  · have hf := dz_f c9 hf
    refine lv_iload_n hx hb dX1_find_12 rfl (lv_at hl 1 rfl) ?_
    refine lv_i2l hx hb dX1_find_13 (rfl : _ = Int32.toInt64 a0) ?_
    obtain ⟨x2, hx2, hf⟩ := dz_bo hf
    refine va_calli (va_runS (As := [.long (Int32.toInt64 a0)]) (rest := []) ⟨hx, hb, hml, hown, hts⟩ (mtX1_isNumber l (Int32.toInt64 a0) K x2 hx2) (va_cwS 1 hts (lw_S q1786 q1787 q88 q1788) rfl rfl rfl (by decide +kernel) ⟨Nat.le_of_ble_eq_true rfl, Nat.le_of_ble_eq_true rfl⟩) ⟨fun a U g mk q => q, fun U hU hW => ⟨rfl, trivial⟩⟩ rfl rfl hl.1 rfl (lv_room (Nat.le_of_ble_eq_true rfl)) dX1_find_14 ⟨Nat.le_refl _, Nat.le_refl _⟩) hS (fun q _ hq => hq.elim) (fun q hq => hq.elim) (fun r u t H1 locs ht hvm hw hB hz hk hS => ?_)
    replace hw := hw.symm; subst hw
    replace hP := dz_keep hP hk
    clear hB hk hz hvm ht; generalize H1 = H at hP hS ⊢
    refine lv_if_ne (tgt := 22) hx hb dX1_find_17 (by decide) (fun c17 => ?_) (fun c17 => ?_)
    · have hf := dz_f c17 hf
      refine lv_aload_n hx hb dX1_find_22 rfl (lv_at hl 0 rfl) ?_
      obtain ⟨s4, hx3, hf⟩ := dz_bo hf
      have hFc := dz_free hD hS hA
      refine va_callv (va_runV (As := []) (rest := []) ⟨hx, hb, hml, hown, hts⟩ (mtX1_laysRight l D cl ci hci h ad cA H.size σ K s4 hx3) (cwV 0 hts (lw_V q1791 q1793 qs36 q88 q1794) rfl rfl rfl (by decide +kernel) ⟨Nat.le_of_ble_eq_true rfl, Nat.le_of_ble_eq_true rfl⟩) (m_preV hci hK hP hD) rfl rfl hl.1 rfl (lv_room (Nat.le_of_ble_eq_true rfl)) dX1_find_23 ⟨Nat.le_refl _, Nat.le_refl _⟩) hS (fun q _ hq => hFc q hq) hFc (fun u t H1 locs ht hvm hw hB hz hk hS => ?_)
      replace hw := hw.symm; subst hw
      replace hP := m_back ht hB
      replace hD := mw_D s4 hD
      clear hB hk hz hvm ht hFc; generalize H1 = H at hP hS ⊢
      refine lv_iconst (v := 0) hx hb dX1_find_26 (by decide) ?_
      refine lv_istore_n (lv' := [(3, .int 0), (0, .ref h), (1, .int a0), (2, .int a1)]) hx hb dX1_find_27 rfl hl (by decide) rfl (fun ls hl => ?_)
      exact ih.1 a0 a1 0 s4 H locs hP hD hS ls (lv_sub hl [1, 2, 3, 0] rfl) hf
    · have hf := dz_t c17 hf
      refine lv_iconst (v := (-1)) hx hb dX1_find_20 (by decide) ?_
      exact W.iret (v := (-1)) hx hb hr (fun t ht hW => ⟨⟨(-1), σ, rfl, Option.some.inj hf, by rw [ht]; exact hP, va_K.moved hW.alike hK, hD⟩, hS.F ht⟩) hS.2.2 dX1_find_21

noncomputable def fnX1_isLine (K : Nat) (a0 : Int32) (σ : pM) : Option (Int32 × pM) := dz_l (σ.1 7) fun x1 => dz_b (fnX1_in K (Int32.toInt64 a0) 0 (Int32.toInt64 (x1 - 1))) fun x2 => if x2 = 0 ∨ x2 = 1 then (some (x2, σ)) else none
set_option maxHeartbeats 4000000 in
set_option maxRecDepth 100000 in
theorem mtX1_isLine (l : Launch) (D : va_G) (cl : List vw_C) (ci : Nat) (hci : cl[ci]? = some (RX1, TX1, 35)) (h : Nat) (ad : Nat → Nat) (cA : Nat → ClassId) (sz : Nat) (σ : pM) (a0 : Int32) (K : Nat) (res : (Int32 × pM)) (hf : fnX1_isLine K a0 σ = some res) : Met l yX1_isLine (ws_ yX1_isLine cX1_isLine 2 (some .boolean)) ({ frames := 1, cells := 0, slots := 0, locals := 25 }) (mPc D cl ci h ad cA sz σ [.ref h, .int a0]) (mQi D cl ci h ad cA (va_A (mw ci h ad cA σ) sz) res) 0 0 (va_A (mw ci h ad cA σ) sz) := by
  refine Met.ofW (cc := cX1_isLine) (maxL := 2) (ret := some .boolean) (by decide +kernel) rfl ?_
  intro p e s m args below meth c s₁ B hml hv
  obtain ⟨rfl, hsz, hP, hK, hD0⟩ := hv
  have hx := B.exec
  have hb := B.bytes
  have hr := B.returns
  have hts := atoms_spec (ws := ws_ yX1_isLine cX1_isLine 2 (some .boolean)) B.pre
  have hts : ∀ w ∈ lw_all, w.before _ s = true := fun w h => hts w (List.mem_cons_of_mem _ h)
  have hown : s.vm.findClass RX1 = some m.cls := findClass_of_methodNamed B.named
  have hlocks := B.notSynchronized
  subst hsz
  have hD := hD0.self (sz := s.heap.size)
  generalize hAe : va_A (mw ci h ad cA σ) s.heap.size = A at hD ⊢
  have hA : ∀ q : Nat, s.heap.size ≤ q → A q := fun q h => by rw [← hAe]; exact Or.inr h
  clear hAe hD0
  have hS : va_S A s.heap s.heap [] := va_S.rf
  generalize hHe : s.heap = H at hP hS ⊢
  have hS : va_S A s.heap H [] := by rw [hHe]; exact hS
  generalize ([] : List Loc) = locs at hS ⊢
  have hl := lv_entry ([.ref h, .int a0]) (n := 2) (Nat.le_of_ble_eq_true rfl)
  rw [lg_entry_eq]
  generalize (lg_sl ([.ref h, .int a0]) ++ List.replicate (2 - (lg_sl ([.ref h, .int a0])).length) Slot.unset).toArray = ls at hl ⊢
  have hl : lv_has ls 2 [(0, .ref h), (1, .int a0)] := hl
  have hf : (dz_l (σ.1 7) fun x1 => dz_b (fnX1_in K (Int32.toInt64 a0) 0 (Int32.toInt64 (x1 - 1))) fun x2 => if x2 = 0 ∨ x2 = 1 then (some (x2, σ)) else none : Option (Int32 × pM)) = some res := hf
  refine lv_iload_n hx hb dX1_isLine_0 rfl (lv_at hl 1 rfl) ?_
  refine lv_i2l hx hb dX1_isLine_1 (rfl : _ = Int32.toInt64 a0) ?_
  refine lv_lconst (v := 0) hx hb dX1_isLine_2 rfl ?_
  refine lv_aload_n hx hb dX1_isLine_3 rfl (lv_at hl 0 rfl) ?_
  refine va_get (C := RX1) (T := TX1) (N := 35) (fs := mwF ad σ) (v := .int (σ.1 7)) hx hb hts in_X1 hown hK hP 0 rfl hci 7 (by decide) (hts _ q1678) (fun _ hq => hq) rfl dX1_isLine_4 ?_
  refine lv_topi (fun x1 e_x1 => ?_)
  have hf := dz_ls e_x1 hf
  refine lv_iconst (v := 1) hx hb dX1_isLine_7 (by decide) ?_
  refine lv_isub hx hb dX1_isLine_8 ?_
  refine lv_i2l hx hb dX1_isLine_9 (rfl : _ = Int32.toInt64 (x1 - 1)) ?_
  obtain ⟨x2, hx2, hf⟩ := dz_bo hf
  refine va_calli (va_runS (As := [.long (Int32.toInt64 a0), .long 0, .long (Int32.toInt64 (x1 - 1))]) (rest := []) ⟨hx, hb, hml, hown, hts⟩ (mtX1_in l (Int32.toInt64 a0) 0 (Int32.toInt64 (x1 - 1)) K x2 hx2) (va_cwS 3 hts (lw_S q1783 q1784 q88 q1785) rfl rfl rfl (by decide +kernel) ⟨Nat.le_of_ble_eq_true rfl, Nat.le_of_ble_eq_true rfl⟩) ⟨fun a U g mk q => q, fun U hU hW => ⟨rfl, trivial⟩⟩ rfl rfl hl.1 rfl (lv_room (Nat.le_of_ble_eq_true rfl)) dX1_isLine_10 ⟨Nat.le_refl _, Nat.le_refl _⟩) hS (fun q _ hq => hq.elim) (fun q hq => hq.elim) (fun r u t H1 locs ht hvm hw hB hz hk hS => ?_)
  replace hw := hw.symm; subst hw
  replace hP := dz_keep hP hk
  clear hB hk hz hvm ht; generalize H1 = H at hP hS ⊢
  obtain ⟨g3, hf⟩ := dz_go hf
  exact W.zret (v := x2) hx hb hr (dz_nz g3) (fun t ht hW => ⟨⟨x2, σ, rfl, Option.some.inj hf, by rw [ht]; exact hP, va_K.moved hW.alike hK, hD⟩, hS.F ht⟩) hS.2.2 dX1_isLine_13

noncomputable def fnX1_mend (K : Nat) (a0 : Int32) (σ : pM) : Option (Int32 × pM) := dz_c (fnX1_isLine K a0 σ) fun x1 s2 => if x1 = (0 : Int32) then (some ((-1), s2)) else (if ¬ (a0 < 0 ∨ 116 ≤ Int32.toNatClampNeg a0) then (dz_l (s2.2.2.1 8 (Int32.toNatClampNeg a0)) fun x4 => if ¬ (a0 < 0 ∨ 116 ≤ Int32.toNatClampNeg a0) then (dz_l (s2.2.2.1 9 (Int32.toNatClampNeg a0)) fun x6 => dz_c (fnX1_works K x4 x6 s2) fun x7 s8 => if x7 = (0 : Int32) then (some ((-2), s8)) else (dz_b (fnX1_becomes K a0 115 s8) fun s10 => dz_b (fnX1_laysRight K s10) fun s12 => if ¬ (a0 < 0 ∨ 60 ≤ Int32.toNatClampNeg a0) then (dz_l (s12.2.2.1 20 (Int32.toNatClampNeg a0)) fun x14 => some (x14, s12)) else none)) else none) else none)
set_option maxHeartbeats 4000000 in
set_option maxRecDepth 100000 in
theorem mtX1_mend (l : Launch) (D : va_G) (cl : List vw_C) (ci : Nat) (hci : cl[ci]? = some (RX1, TX1, 35)) (h : Nat) (ad : Nat → Nat) (cA : Nat → ClassId) (sz : Nat) (σ : pM) (a0 : Int32) (K : Nat) (res : (Int32 × pM)) (hf : fnX1_mend K a0 σ = some res) : Met l yX1_mend (ws_ yX1_mend cX1_mend 2 (some .int)) ({ frames := 6, cells := 0, slots := 0, locals := 153 }) (mPc D cl ci h ad cA sz σ [.ref h, .int a0]) (mQi D cl ci h ad cA (va_A (mw ci h ad cA σ) sz) res) 0 0 (va_A (mw ci h ad cA σ) sz) := by
  refine Met.ofW (cc := cX1_mend) (maxL := 2) (ret := some .int) (by decide +kernel) rfl ?_
  intro p e s m args below meth c s₁ B hml hv
  obtain ⟨rfl, hsz, hP, hK, hD0⟩ := hv
  have hx := B.exec
  have hb := B.bytes
  have hr := B.returns
  have hts := atoms_spec (ws := ws_ yX1_mend cX1_mend 2 (some .int)) B.pre
  have hts : ∀ w ∈ lw_all, w.before _ s = true := fun w h => hts w (List.mem_cons_of_mem _ h)
  have hown : s.vm.findClass RX1 = some m.cls := findClass_of_methodNamed B.named
  have hlocks := B.notSynchronized
  subst hsz
  have hD := hD0.self (sz := s.heap.size)
  generalize hAe : va_A (mw ci h ad cA σ) s.heap.size = A at hD ⊢
  have hA : ∀ q : Nat, s.heap.size ≤ q → A q := fun q h => by rw [← hAe]; exact Or.inr h
  clear hAe hD0
  have hS : va_S A s.heap s.heap [] := va_S.rf
  generalize hHe : s.heap = H at hP hS ⊢
  have hS : va_S A s.heap H [] := by rw [hHe]; exact hS
  generalize ([] : List Loc) = locs at hS ⊢
  have hl := lv_entry ([.ref h, .int a0]) (n := 2) (Nat.le_of_ble_eq_true rfl)
  rw [lg_entry_eq]
  generalize (lg_sl ([.ref h, .int a0]) ++ List.replicate (2 - (lg_sl ([.ref h, .int a0])).length) Slot.unset).toArray = ls at hl ⊢
  have hl : lv_has ls 2 [(0, .ref h), (1, .int a0)] := hl
  have hf : (dz_c (fnX1_isLine K a0 σ) fun x1 s2 => if x1 = (0 : Int32) then (some ((-1), s2)) else (if ¬ (a0 < 0 ∨ 116 ≤ Int32.toNatClampNeg a0) then (dz_l (s2.2.2.1 8 (Int32.toNatClampNeg a0)) fun x4 => if ¬ (a0 < 0 ∨ 116 ≤ Int32.toNatClampNeg a0) then (dz_l (s2.2.2.1 9 (Int32.toNatClampNeg a0)) fun x6 => dz_c (fnX1_works K x4 x6 s2) fun x7 s8 => if x7 = (0 : Int32) then (some ((-2), s8)) else (dz_b (fnX1_becomes K a0 115 s8) fun s10 => dz_b (fnX1_laysRight K s10) fun s12 => if ¬ (a0 < 0 ∨ 60 ≤ Int32.toNatClampNeg a0) then (dz_l (s12.2.2.1 20 (Int32.toNatClampNeg a0)) fun x14 => some (x14, s12)) else none)) else none) else none) : Option (Int32 × pM)) = some res := hf
  refine lv_aload_n hx hb dX1_mend_0 rfl (lv_at hl 0 rfl) ?_
  refine lv_iload_n hx hb dX1_mend_1 rfl (lv_at hl 1 rfl) ?_
  obtain ⟨x1, s2, hx1, hf⟩ := dz_co hf
  have hFc := dz_free hD hS hA
  refine va_calli (va_runV (As := [.int a0]) (rest := []) ⟨hx, hb, hml, hown, hts⟩ (mtX1_isLine l D cl ci hci h ad cA H.size σ a0 K (x1, s2) hx1) (cwV 1 hts (lw_V q1923 q1925 qs60 q88 q1926) rfl rfl rfl (by decide +kernel) ⟨Nat.le_of_ble_eq_true rfl, Nat.le_of_ble_eq_true rfl⟩) (m_preV hci hK hP hD) rfl rfl hl.1 rfl (lv_room (Nat.le_of_ble_eq_true rfl)) dX1_mend_2 ⟨Nat.le_refl _, Nat.le_refl _⟩) hS (fun q _ hq => hFc q hq) hFc (fun r u t H1 locs ht hvm hw hB hz hk hS => ?_)
  obtain ⟨hw1, hw2⟩ := Prod.mk.inj hw.symm; subst hw1; subst hw2
  replace hP := m_back ht hB
  replace hD := mw_D s2 hD
  clear hB hk hz hvm ht hFc; generalize H1 = H at hP hS ⊢
  refine lv_if_ne (tgt := 10) hx hb dX1_mend_5 (by decide) (fun c5 => ?_) (fun c5 => ?_)
  · have hf := dz_f c5 hf
    refine lv_aload_n hx hb dX1_mend_10 rfl (lv_at hl 0 rfl) ?_
    refine lv_aload_n hx hb dX1_mend_11 rfl (lv_at hl 0 rfl) ?_
    refine va_get (C := RX1) (T := TX1) (N := 35) (fs := mwF ad s2) (v := .ref (ad 8)) hx hb hts in_X1 hown hK hP 0 rfl hci 8 (by decide) (hts _ q1679) (fun _ hq => hq) rfl dX1_mend_12 ?_
    refine lv_iload_n hx hb dX1_mend_15 rfl (lv_at hl 1 rfl) ?_
    obtain ⟨g3, hf⟩ := dz_go hf
    refine va_iald hx hb hK hP 6 0 rfl rfl g3 dX1_mend_16 ?_
    refine lv_topi (fun x4 e_x4 => ?_)
    have hf := dz_ls e_x4 hf
    refine lv_aload_n hx hb dX1_mend_17 rfl (lv_at hl 0 rfl) ?_
    refine va_get (C := RX1) (T := TX1) (N := 35) (fs := mwF ad s2) (v := .ref (ad 9)) hx hb hts in_X1 hown hK hP 0 rfl hci 9 (by decide) (hts _ q1680) (fun _ hq => hq) rfl dX1_mend_18 ?_
    refine lv_iload_n hx hb dX1_mend_21 rfl (lv_at hl 1 rfl) ?_
    obtain ⟨g5, hf⟩ := dz_go hf
    refine va_iald hx hb hK hP 7 0 rfl rfl g5 dX1_mend_22 ?_
    refine lv_topi (fun x6 e_x6 => ?_)
    have hf := dz_ls e_x6 hf
    obtain ⟨x7, s8, hx7, hf⟩ := dz_co hf
    have hFc := dz_free hD hS hA
    refine va_calli (va_runV (As := [.int x4, .int x6]) (rest := []) ⟨hx, hb, hml, hown, hts⟩ (mtX1_works l D cl ci hci h ad cA H.size s2 x4 x6 K (x7, s8) hx7) (cwV 2 hts (lw_V q1871 q1873 qs48 q88 q1874) rfl rfl rfl (by decide +kernel) ⟨Nat.le_of_ble_eq_true rfl, Nat.le_of_ble_eq_true rfl⟩) (m_preV hci hK hP hD) rfl rfl hl.1 rfl (lv_room (Nat.le_of_ble_eq_true rfl)) dX1_mend_23 ⟨Nat.le_refl _, Nat.le_refl _⟩) hS (fun q _ hq => hFc q hq) hFc (fun r u t H1 locs ht hvm hw hB hz hk hS => ?_)
    obtain ⟨hw1, hw2⟩ := Prod.mk.inj hw.symm; subst hw1; subst hw2
    replace hP := m_back ht hB
    replace hD := mw_D s8 hD
    clear hB hk hz hvm ht hFc; generalize H1 = H at hP hS ⊢
    refine lv_if_ne (tgt := 32) hx hb dX1_mend_26 (by decide) (fun c26 => ?_) (fun c26 => ?_)
    · have hf := dz_f c26 hf
      refine lv_aload_n hx hb dX1_mend_32 rfl (lv_at hl 0 rfl) ?_
      refine lv_iload_n hx hb dX1_mend_33 rfl (lv_at hl 1 rfl) ?_
      refine lv_bipush (v := 115) hx hb dX1_mend_34 (by decide) ?_
      obtain ⟨s10, hx9, hf⟩ := dz_bo hf
      have hFc := dz_free hD hS hA
      refine va_callv (va_runV (As := [.int a0, .int 115]) (rest := []) ⟨hx, hb, hml, hown, hts⟩ (mtX1_becomes l D cl ci hci h ad cA H.size s8 a0 115 K s10 hx9) (cwV 2 hts (lw_V q1915 q1917 qs59 q88 q1918) rfl rfl rfl (by decide +kernel) ⟨Nat.le_of_ble_eq_true rfl, Nat.le_of_ble_eq_true rfl⟩) (m_preV hci hK hP hD) rfl rfl hl.1 rfl (lv_room (Nat.le_of_ble_eq_true rfl)) dX1_mend_36 ⟨Nat.le_refl _, Nat.le_refl _⟩) hS (fun q _ hq => hFc q hq) hFc (fun u t H1 locs ht hvm hw hB hz hk hS => ?_)
      replace hw := hw.symm; subst hw
      replace hP := m_back ht hB
      replace hD := mw_D s10 hD
      clear hB hk hz hvm ht hFc; generalize H1 = H at hP hS ⊢
      refine lv_aload_n hx hb dX1_mend_39 rfl (lv_at hl 0 rfl) ?_
      obtain ⟨s12, hx11, hf⟩ := dz_bo hf
      have hFc := dz_free hD hS hA
      refine va_callv (va_runV (As := []) (rest := []) ⟨hx, hb, hml, hown, hts⟩ (mtX1_laysRight l D cl ci hci h ad cA H.size s10 K s12 hx11) (cwV 0 hts (lw_V q1791 q1793 qs36 q88 q1794) rfl rfl rfl (by decide +kernel) ⟨Nat.le_of_ble_eq_true rfl, Nat.le_of_ble_eq_true rfl⟩) (m_preV hci hK hP hD) rfl rfl hl.1 rfl (lv_room (Nat.le_of_ble_eq_true rfl)) dX1_mend_40 ⟨Nat.le_refl _, Nat.le_refl _⟩) hS (fun q _ hq => hFc q hq) hFc (fun u t H1 locs ht hvm hw hB hz hk hS => ?_)
      replace hw := hw.symm; subst hw
      replace hP := m_back ht hB
      replace hD := mw_D s12 hD
      clear hB hk hz hvm ht hFc; generalize H1 = H at hP hS ⊢
      refine lv_aload_n hx hb dX1_mend_43 rfl (lv_at hl 0 rfl) ?_
      refine va_get (C := RX1) (T := TX1) (N := 35) (fs := mwF ad s12) (v := .ref (ad 20)) hx hb hts in_X1 hown hK hP 0 rfl hci 20 (by decide) (hts _ q1691) (fun _ hq => hq) rfl dX1_mend_44 ?_
      refine lv_iload_n hx hb dX1_mend_47 rfl (lv_at hl 1 rfl) ?_
      obtain ⟨g13, hf⟩ := dz_go hf
      refine va_iald hx hb hK hP 18 0 rfl rfl g13 dX1_mend_48 ?_
      refine lv_topi (fun x14 e_x14 => ?_)
      have hf := dz_ls e_x14 hf
      exact W.iret (v := x14) hx hb hr (fun t ht hW => ⟨⟨x14, s12, rfl, Option.some.inj hf, by rw [ht]; exact hP, va_K.moved hW.alike hK, hD⟩, hS.F ht⟩) hS.2.2 dX1_mend_49
    · have hf := dz_t c26 hf
      refine lv_bipush (v := (-2)) hx hb dX1_mend_29 (by decide) ?_
      exact W.iret (v := (-2)) hx hb hr (fun t ht hW => ⟨⟨(-2), s8, rfl, Option.some.inj hf, by rw [ht]; exact hP, va_K.moved hW.alike hK, hD⟩, hS.F ht⟩) hS.2.2 dX1_mend_31
  · have hf := dz_t c5 hf
    refine lv_iconst (v := (-1)) hx hb dX1_mend_8 (by decide) ?_
    exact W.iret (v := (-1)) hx hb hr (fun t ht hW => ⟨⟨(-1), s2, rfl, Option.some.inj hf, by rw [ht]; exact hP, va_K.moved hW.alike hK, hD⟩, hS.F ht⟩) hS.2.2 dX1_mend_9

noncomputable def fnX1_needs (K : Nat) (a0 : Int32) (a1 : Int32) (σ : pM) : Option (Int32 × pM) := dz_b (fnX1_in K (Int32.toInt64 a1) 1 4) fun x1 => if x1 = (0 : Int32) then (some ((-1), σ)) else (dz_b (fnX1_isNumber K (Int32.toInt64 a0)) fun x2 => if x2 = (0 : Int32) then (some ((-1), σ)) else (if a0 = (2 : Int32) then (some ((-2), σ)) else (dz_b (fnX1_isPrime K (Int32.toInt64 a0)) fun x3 => if x3 = (0 : Int32) then (some ((-2), σ)) else (dz_b (fnX1_begins K 115 a0 a1 σ) fun s5 => dz_b (fnX1_laysRows K 115 s5) fun s7 => dz_l (s7.2.2.1 12 (Int32.toNatClampNeg 115)) fun x8 => dz_l (s7.2.2.1 13 (Int32.toNatClampNeg 115)) fun x9 => some ((10 * x8) + x9, s7)))))
set_option maxHeartbeats 4000000 in
set_option maxRecDepth 100000 in
theorem mtX1_needs (l : Launch) (D : va_G) (cl : List vw_C) (ci : Nat) (hci : cl[ci]? = some (RX1, TX1, 35)) (h : Nat) (ad : Nat → Nat) (cA : Nat → ClassId) (sz : Nat) (σ : pM) (a0 : Int32) (a1 : Int32) (K : Nat) (res : (Int32 × pM)) (hf : fnX1_needs K a0 a1 σ = some res) : Met l yX1_needs (ws_ yX1_needs cX1_needs 3 (some .int)) ({ frames := 5, cells := 0, slots := 0, locals := 131 }) (mPc D cl ci h ad cA sz σ [.ref h, .int a0, .int a1]) (mQi D cl ci h ad cA (va_A (mw ci h ad cA σ) sz) res) 0 0 (va_A (mw ci h ad cA σ) sz) := by
  refine Met.ofW (cc := cX1_needs) (maxL := 3) (ret := some .int) (by decide +kernel) rfl ?_
  intro p e s m args below meth c s₁ B hml hv
  obtain ⟨rfl, hsz, hP, hK, hD0⟩ := hv
  have hx := B.exec
  have hb := B.bytes
  have hr := B.returns
  have hts := atoms_spec (ws := ws_ yX1_needs cX1_needs 3 (some .int)) B.pre
  have hts : ∀ w ∈ lw_all, w.before _ s = true := fun w h => hts w (List.mem_cons_of_mem _ h)
  have hown : s.vm.findClass RX1 = some m.cls := findClass_of_methodNamed B.named
  have hlocks := B.notSynchronized
  subst hsz
  have hD := hD0.self (sz := s.heap.size)
  generalize hAe : va_A (mw ci h ad cA σ) s.heap.size = A at hD ⊢
  have hA : ∀ q : Nat, s.heap.size ≤ q → A q := fun q h => by rw [← hAe]; exact Or.inr h
  clear hAe hD0
  have hS : va_S A s.heap s.heap [] := va_S.rf
  generalize hHe : s.heap = H at hP hS ⊢
  have hS : va_S A s.heap H [] := by rw [hHe]; exact hS
  generalize ([] : List Loc) = locs at hS ⊢
  have hl := lv_entry ([.ref h, .int a0, .int a1]) (n := 3) (Nat.le_of_ble_eq_true rfl)
  rw [lg_entry_eq]
  generalize (lg_sl ([.ref h, .int a0, .int a1]) ++ List.replicate (3 - (lg_sl ([.ref h, .int a0, .int a1])).length) Slot.unset).toArray = ls at hl ⊢
  have hl : lv_has ls 3 [(0, .ref h), (1, .int a0), (2, .int a1)] := hl
  have hf : (dz_b (fnX1_in K (Int32.toInt64 a1) 1 4) fun x1 => if x1 = (0 : Int32) then (some ((-1), σ)) else (dz_b (fnX1_isNumber K (Int32.toInt64 a0)) fun x2 => if x2 = (0 : Int32) then (some ((-1), σ)) else (if a0 = (2 : Int32) then (some ((-2), σ)) else (dz_b (fnX1_isPrime K (Int32.toInt64 a0)) fun x3 => if x3 = (0 : Int32) then (some ((-2), σ)) else (dz_b (fnX1_begins K 115 a0 a1 σ) fun s5 => dz_b (fnX1_laysRows K 115 s5) fun s7 => dz_l (s7.2.2.1 12 (Int32.toNatClampNeg 115)) fun x8 => dz_l (s7.2.2.1 13 (Int32.toNatClampNeg 115)) fun x9 => some ((10 * x8) + x9, s7))))) : Option (Int32 × pM)) = some res := hf
  refine lv_iload_n hx hb dX1_needs_0 rfl (lv_at hl 2 rfl) ?_
  refine lv_i2l hx hb dX1_needs_1 (rfl : _ = Int32.toInt64 a1) ?_
  refine lv_lconst (v := 1) hx hb dX1_needs_2 rfl ?_
  refine lv_ldc2 (v := 4) hx hb hown (hts _ q1782) dX1_needs_3 ?_
  obtain ⟨x1, hx1, hf⟩ := dz_bo hf
  refine va_calli (va_runS (As := [.long (Int32.toInt64 a1), .long 1, .long 4]) (rest := []) ⟨hx, hb, hml, hown, hts⟩ (mtX1_in l (Int32.toInt64 a1) 1 4 K x1 hx1) (va_cwS 3 hts (lw_S q1783 q1784 q88 q1785) rfl rfl rfl (by decide +kernel) ⟨Nat.le_of_ble_eq_true rfl, Nat.le_of_ble_eq_true rfl⟩) ⟨fun a U g mk q => q, fun U hU hW => ⟨rfl, trivial⟩⟩ rfl rfl hl.1 rfl (lv_room (Nat.le_of_ble_eq_true rfl)) dX1_needs_6 ⟨Nat.le_refl _, Nat.le_refl _⟩) hS (fun q _ hq => hq.elim) (fun q hq => hq.elim) (fun r u t H1 locs ht hvm hw hB hz hk hS => ?_)
  replace hw := hw.symm; subst hw
  replace hP := dz_keep hP hk
  clear hB hk hz hvm ht; generalize H1 = H at hP hS ⊢
  refine lv_if_eq (tgt := 20) hx hb dX1_needs_9 (by decide) (fun c9 => ?_) (fun c9 => ?_)
  · have hf := dz_t c9 hf
    refine lv_iconst (v := (-1)) hx hb dX1_needs_20 (by decide) ?_
    exact W.iret (v := (-1)) hx hb hr (fun t ht hW => ⟨⟨(-1), σ, rfl, Option.some.inj hf, by rw [ht]; exact hP, va_K.moved hW.alike hK, hD⟩, hS.F ht⟩) hS.2.2 dX1_needs_21
  · have hf := dz_f c9 hf
    refine lv_iload_n hx hb dX1_needs_12 rfl (lv_at hl 1 rfl) ?_
    refine lv_i2l hx hb dX1_needs_13 (rfl : _ = Int32.toInt64 a0) ?_
    obtain ⟨x2, hx2, hf⟩ := dz_bo hf
    refine va_calli (va_runS (As := [.long (Int32.toInt64 a0)]) (rest := []) ⟨hx, hb, hml, hown, hts⟩ (mtX1_isNumber l (Int32.toInt64 a0) K x2 hx2) (va_cwS 1 hts (lw_S q1786 q1787 q88 q1788) rfl rfl rfl (by decide +kernel) ⟨Nat.le_of_ble_eq_true rfl, Nat.le_of_ble_eq_true rfl⟩) ⟨fun a U g mk q => q, fun U hU hW => ⟨rfl, trivial⟩⟩ rfl rfl hl.1 rfl (lv_room (Nat.le_of_ble_eq_true rfl)) dX1_needs_14 ⟨Nat.le_refl _, Nat.le_refl _⟩) hS (fun q _ hq => hq.elim) (fun q hq => hq.elim) (fun r u t H1 locs ht hvm hw hB hz hk hS => ?_)
    replace hw := hw.symm; subst hw
    replace hP := dz_keep hP hk
    clear hB hk hz hvm ht; generalize H1 = H at hP hS ⊢
    refine lv_if_ne (tgt := 22) hx hb dX1_needs_17 (by decide) (fun c17 => ?_) (fun c17 => ?_)
    · have hf := dz_f c17 hf
      refine lv_iload_n hx hb dX1_needs_22 rfl (lv_at hl 1 rfl) ?_
      refine lv_iconst (v := 2) hx hb dX1_needs_23 (by decide) ?_
      refine lv_icmp_eq (tgt := 35) hx hb dX1_needs_24 (by decide) (fun c24 => ?_) (fun c24 => ?_)
      · have hf := dz_t c24 hf
        refine lv_bipush (v := (-2)) hx hb dX1_needs_35 (by decide) ?_
        exact W.iret (v := (-2)) hx hb hr (fun t ht hW => ⟨⟨(-2), σ, rfl, Option.some.inj hf, by rw [ht]; exact hP, va_K.moved hW.alike hK, hD⟩, hS.F ht⟩) hS.2.2 dX1_needs_37
      · have hf := dz_f c24 hf
        refine lv_iload_n hx hb dX1_needs_27 rfl (lv_at hl 1 rfl) ?_
        refine lv_i2l hx hb dX1_needs_28 (rfl : _ = Int32.toInt64 a0) ?_
        obtain ⟨x3, hx3, hf⟩ := dz_bo hf
        refine va_calli (va_runS (As := [.long (Int32.toInt64 a0)]) (rest := []) ⟨hx, hb, hml, hown, hts⟩ (mtX1_isPrime l (Int32.toInt64 a0) K x3 hx3) (va_cwS 1 hts (lw_S q1799 q1800 q88 q1801) rfl rfl rfl (by decide +kernel) ⟨Nat.le_of_ble_eq_true rfl, Nat.le_of_ble_eq_true rfl⟩) ⟨fun a U g mk q => q, fun U hU hW => ⟨rfl, trivial⟩⟩ rfl rfl hl.1 rfl (lv_room (Nat.le_of_ble_eq_true rfl)) dX1_needs_29 ⟨Nat.le_refl _, Nat.le_refl _⟩) hS (fun q _ hq => hq.elim) (fun q hq => hq.elim) (fun r u t H1 locs ht hvm hw hB hz hk hS => ?_)
        replace hw := hw.symm; subst hw
        replace hP := dz_keep hP hk
        clear hB hk hz hvm ht; generalize H1 = H at hP hS ⊢
        refine lv_if_ne (tgt := 38) hx hb dX1_needs_32 (by decide) (fun c32 => ?_) (fun c32 => ?_)
        · have hf := dz_f c32 hf
          refine lv_aload_n hx hb dX1_needs_38 rfl (lv_at hl 0 rfl) ?_
          refine lv_bipush (v := 115) hx hb dX1_needs_39 (by decide) ?_
          refine lv_iload_n hx hb dX1_needs_41 rfl (lv_at hl 1 rfl) ?_
          refine lv_iload_n hx hb dX1_needs_42 rfl (lv_at hl 2 rfl) ?_
          obtain ⟨s5, hx4, hf⟩ := dz_bo hf
          have hFc := dz_free hD hS hA
          refine va_callv (va_runV (As := [.int 115, .int a0, .int a1]) (rest := []) ⟨hx, hb, hml, hown, hts⟩ (mtX1_begins l D cl ci hci h ad cA H.size σ 115 a0 a1 K s5 hx4) (cwV 3 hts (lw_V q1875 q1877 qs49 q88 q1878) rfl rfl rfl (by decide +kernel) ⟨Nat.le_of_ble_eq_true rfl, Nat.le_of_ble_eq_true rfl⟩) (m_preV hci hK hP hD) rfl rfl hl.1 rfl (lv_room (Nat.le_of_ble_eq_true rfl)) dX1_needs_43 ⟨Nat.le_refl _, Nat.le_refl _⟩) hS (fun q _ hq => hFc q hq) hFc (fun u t H1 locs ht hvm hw hB hz hk hS => ?_)
          replace hw := hw.symm; subst hw
          replace hP := m_back ht hB
          replace hD := mw_D s5 hD
          clear hB hk hz hvm ht hFc; generalize H1 = H at hP hS ⊢
          refine lv_aload_n hx hb dX1_needs_46 rfl (lv_at hl 0 rfl) ?_
          refine lv_bipush (v := 115) hx hb dX1_needs_47 (by decide) ?_
          obtain ⟨s7, hx6, hf⟩ := dz_bo hf
          have hFc := dz_free hD hS hA
          refine va_callv (va_runV (As := [.int 115]) (rest := []) ⟨hx, hb, hml, hown, hts⟩ (mtX1_laysRows l D cl ci hci h ad cA H.size s5 115 K s7 hx6) (cwV 1 hts (lw_V q1879 q1881 qs50 q88 q1882) rfl rfl rfl (by decide +kernel) ⟨Nat.le_of_ble_eq_true rfl, Nat.le_of_ble_eq_true rfl⟩) (m_preV hci hK hP hD) rfl rfl hl.1 rfl (lv_room (Nat.le_of_ble_eq_true rfl)) dX1_needs_49 ⟨Nat.le_refl _, Nat.le_refl _⟩) hS (fun q _ hq => hFc q hq) hFc (fun u t H1 locs ht hvm hw hB hz hk hS => ?_)
          replace hw := hw.symm; subst hw
          replace hP := m_back ht hB
          replace hD := mw_D s7 hD
          clear hB hk hz hvm ht hFc; generalize H1 = H at hP hS ⊢
          refine lv_bipush (v := 10) hx hb dX1_needs_52 (by decide) ?_
          refine lv_aload_n hx hb dX1_needs_54 rfl (lv_at hl 0 rfl) ?_
          refine va_get (C := RX1) (T := TX1) (N := 35) (fs := mwF ad s7) (v := .ref (ad 12)) hx hb hts in_X1 hown hK hP 0 rfl hci 12 (by decide) (hts _ q1683) (fun _ hq => hq) rfl dX1_needs_55 ?_
          refine lv_bipush (v := 115) hx hb dX1_needs_58 (by decide) ?_
          refine va_iald hx hb hK hP 10 0 rfl rfl (by unfold vp_in; decide) dX1_needs_60 ?_
          refine lv_topi (fun x8 e_x8 => ?_)
          have hf := dz_ls e_x8 hf
          refine lv_imul hx hb dX1_needs_61 ?_
          refine lv_aload_n hx hb dX1_needs_62 rfl (lv_at hl 0 rfl) ?_
          refine va_get (C := RX1) (T := TX1) (N := 35) (fs := mwF ad s7) (v := .ref (ad 13)) hx hb hts in_X1 hown hK hP 0 rfl hci 13 (by decide) (hts _ q1684) (fun _ hq => hq) rfl dX1_needs_63 ?_
          refine lv_bipush (v := 115) hx hb dX1_needs_66 (by decide) ?_
          refine va_iald hx hb hK hP 11 0 rfl rfl (by unfold vp_in; decide) dX1_needs_68 ?_
          refine lv_topi (fun x9 e_x9 => ?_)
          have hf := dz_ls e_x9 hf
          refine lv_iadd hx hb dX1_needs_69 ?_
          exact W.iret (v := (10 * x8) + x9) hx hb hr (fun t ht hW => ⟨⟨(10 * x8) + x9, s7, rfl, Option.some.inj hf, by rw [ht]; exact hP, va_K.moved hW.alike hK, hD⟩, hS.F ht⟩) hS.2.2 dX1_needs_70
        · have hf := dz_t c32 hf
          refine lv_bipush (v := (-2)) hx hb dX1_needs_35 (by decide) ?_
          exact W.iret (v := (-2)) hx hb hr (fun t ht hW => ⟨⟨(-2), σ, rfl, Option.some.inj hf, by rw [ht]; exact hP, va_K.moved hW.alike hK, hD⟩, hS.F ht⟩) hS.2.2 dX1_needs_37
    · have hf := dz_t c17 hf
      refine lv_iconst (v := (-1)) hx hb dX1_needs_20 (by decide) ?_
      exact W.iret (v := (-1)) hx hb hr (fun t ht hW => ⟨⟨(-1), σ, rfl, Option.some.inj hf, by rw [ht]; exact hP, va_K.moved hW.alike hK, hD⟩, hS.F ht⟩) hS.2.2 dX1_needs_21

noncomputable def lfX1_fewest (K : Nat) : Nat → (Int32 → Int32 → Int32 → Int32 → pM → Option (Int32 × pM)) × (Int32 → Int32 → Int32 → Int32 → pM → Option (Int32 × pM)) := Nat.rec (motive := fun _ => (Int32 → Int32 → Int32 → Int32 → pM → Option (Int32 × pM)) × (Int32 → Int32 → Int32 → Int32 → pM → Option (Int32 × pM))) ((fun _ _ _ _ _ => none), (fun _ _ _ _ _ => none)) (fun _ G => ((fun v1 v2 v3 v4 σ => if (4 : Int32) < v4 then (some (v2, σ)) else (dz_c (fnX1_needs K v1 v4 σ) fun x1 s2 => dz_l (x1 / 10) fun x3 => dz_l (x1 - x1 / 10 * 10) fun x4 => dz_l (x3 + x4) fun x5 => if x5 < v3 then (G.2 v1 v4 x5 v4 s2) else (G.2 v1 v2 v3 v4 s2))), (fun v1 v2 v3 v4 σ => dz_l (v4 + 1) fun x1 => G.1 v1 v2 v3 x1 σ)))
noncomputable def fnX1_fewest (K : Nat) (a0 : Int32) (σ : pM) : Option (Int32 × pM) := dz_b (fnX1_isNumber K (Int32.toInt64 a0)) fun x1 => if x1 = (0 : Int32) then (some ((-1), σ)) else (if a0 = (2 : Int32) then (some ((-2), σ)) else (dz_b (fnX1_isPrime K (Int32.toInt64 a0)) fun x2 => if x2 = (0 : Int32) then (some ((-2), σ)) else ((lfX1_fewest K K).1 a0 (-1) 99 1 σ)))
set_option maxHeartbeats 4000000 in
set_option maxRecDepth 100000 in
theorem wlX1_fewest {p : Program} {l : Launch} {e : Env} {s : State} {m : MethodId} {below : List Frame} {meth : Method} {c : Code} {D : va_G} {cl : List vw_C} {ci : Nat} (hci : cl[ci]? = some (RX1, TX1, 35)) {h : Nat} {ad : Nat → Nat} {cA : Nat → ClassId} {A : Nat → Prop} (hA : ∀ q : Nat, s.heap.size ≤ q → A q) (hK : va_K D cl (mtys cA) s) (K : Nat) (res : (Int32 × pM)) (a0 : Int32) (hx : p.tables.exec = Jvm.exec) (hb : c.code = cX1_fewest) (hr : meth.sig.returnType = some .int) (hlocks : meth.locks = false) (hml : c.maxLocals = 7) (hown : s.vm.findClass RX1 = some m.cls) (hts : ∀ w ∈ lw_all, w.before ([.ref h, .int a0] : List Value).toArray s = true) : ∀ k : Nat, (∀ (v1 : Int32) (v2 : Int32) (v3 : Int32) (v4 : Int32) (σ : pM) (H : Heap) (locs : List Loc), va_P D cl (mw ci h ad cA σ) H → va_D A (mw ci h ad cA σ) → va_S A s.heap H locs → ∀ (ls : Array Slot), lv_has ls 7 [(0, .ref h), (1, .int v1), (2, .int v2), (3, .int v3), (4, .int v4)] → (lfX1_fewest K k).1 v1 v2 v3 v4 σ = some res → W p l e (headSpec (ws_ yX1_fewest cX1_fewest 7 (some .int)) ({ frames := 6, cells := 0, slots := 0, locals := 153 })).room s m ([.ref h, .int a0] : List Value).toArray below meth c H locs 0 0 (MQ below (mQi D cl ci h ad cA A res) ([.ref h, .int a0] : List Value).toArray s 0 0 A) (F0 m 34 ls [])) ∧ (∀ (v1 : Int32) (v2 : Int32) (v3 : Int32) (v4 : Int32) (σ : pM) (H : Heap) (locs : List Loc), va_P D cl (mw ci h ad cA σ) H → va_D A (mw ci h ad cA σ) → va_S A s.heap H locs → ∀ (ls : Array Slot), lv_has ls 7 [(0, .ref h), (1, .int v1), (2, .int v2), (3, .int v3), (4, .int v4)] → (lfX1_fewest K k).2 v1 v2 v3 v4 σ = some res → W p l e (headSpec (ws_ yX1_fewest cX1_fewest 7 (some .int)) ({ frames := 6, cells := 0, slots := 0, locals := 153 })).room s m ([.ref h, .int a0] : List Value).toArray below meth c H locs 0 0 (MQ below (mQi D cl ci h ad cA A res) ([.ref h, .int a0] : List Value).toArray s 0 0 A) (F0 m 77 ls [])) := by
  intro k
  induction k with
  | zero =>
    exact ⟨fun _ _ _ _ _ _ _ _ _ _ _ _ hf => (by cases hf), fun _ _ _ _ _ _ _ _ _ _ _ _ hf => (by cases hf)⟩
  | succ k ih =>
    refine ⟨?_, ?_⟩
    · intro v1 v2 v3 v4 σ H locs hP hD hS ls hl hf
      have hf : (if (4 : Int32) < v4 then (some (v2, σ)) else (dz_c (fnX1_needs K v1 v4 σ) fun x1 s2 => dz_l (x1 / 10) fun x3 => dz_l (x1 - x1 / 10 * 10) fun x4 => dz_l (x3 + x4) fun x5 => if x5 < v3 then ((lfX1_fewest K k).2 v1 v4 x5 v4 s2) else ((lfX1_fewest K k).2 v1 v2 v3 v4 s2)) : Option (Int32 × pM)) = some res := hf
      refine lv_iload hx hb dX1_fewest_34 (lv_at hl 4 rfl) ?_
      refine lv_iconst (v := 4) hx hb dX1_fewest_36 (by decide) ?_
      refine lv_icmp_gt (tgt := 83) hx hb dX1_fewest_37 (by decide) (fun c37 => ?_) (fun c37 => ?_)
      · have hf := dz_t c37 hf
        refine lv_iload_n hx hb dX1_fewest_83 rfl (lv_at hl 2 rfl) ?_
        exact W.iret (v := v2) hx hb hr (fun t ht hW => ⟨⟨v2, σ, rfl, Option.some.inj hf, by rw [ht]; exact hP, va_K.moved hW.alike hK, hD⟩, hS.F ht⟩) hS.2.2 dX1_fewest_84
      · have hf := dz_f c37 hf
        refine lv_aload_n hx hb dX1_fewest_40 rfl (lv_at hl 0 rfl) ?_
        refine lv_iload_n hx hb dX1_fewest_41 rfl (lv_at hl 1 rfl) ?_
        refine lv_iload hx hb dX1_fewest_42 (lv_at hl 4 rfl) ?_
        obtain ⟨x1, s2, hx1, hf⟩ := dz_co hf
        have hFc := dz_free hD hS hA
        refine va_calli (va_runV (As := [.int v1, .int v4]) (rest := []) ⟨hx, hb, hml, hown, hts⟩ (mtX1_needs l D cl ci hci h ad cA H.size σ v1 v4 K (x1, s2) hx1) (cwV 2 hts (lw_V q1935 q1928 q1929 q88 q1930) rfl rfl rfl (by decide +kernel) ⟨Nat.le_of_ble_eq_true rfl, Nat.le_of_ble_eq_true rfl⟩) (m_preV hci hK hP hD) rfl rfl hl.1 rfl (lv_room (Nat.le_of_ble_eq_true rfl)) dX1_fewest_44 ⟨Nat.le_refl _, Nat.le_refl _⟩) hS (fun q _ hq => hFc q hq) hFc (fun r u t H1 locs ht hvm hw hB hz hk hS => ?_)
        obtain ⟨hw1, hw2⟩ := Prod.mk.inj hw.symm; subst hw1; subst hw2
        replace hP := m_back ht hB
        replace hD := mw_D s2 hD
        clear hB hk hz hvm ht hFc; generalize H1 = H at hP hS ⊢
        refine lv_istore (lv' := [(5, .int x1), (0, .ref h), (1, .int v1), (2, .int v2), (3, .int v3), (4, .int v4)]) hx hb dX1_fewest_47 hl (by decide) rfl (fun ls hl => ?_)
        refine lv_iload hx hb dX1_fewest_49 (lv_at hl 0 rfl) ?_
        refine lv_bipush (v := 10) hx hb dX1_fewest_51 (by decide) ?_
        refine lv_idiv hx hb dX1_fewest_53 (by decide) ?_
        refine lv_topi (fun x3 e_x3 => ?_)
        have hf := dz_ls e_x3 hf
        refine lv_iload hx hb dX1_fewest_54 (lv_at hl 0 rfl) ?_
        refine lv_bipush (v := 10) hx hb dX1_fewest_56 (by decide) ?_
        refine lv_irem hx hb dX1_fewest_58 (by decide) ?_
        refine lv_topi (fun x4 e_x4 => ?_)
        have hf := dz_ls e_x4 hf
        refine lv_iadd hx hb dX1_fewest_59 ?_
        refine lv_topi (fun x5 e_x5 => ?_)
        have hf := dz_ls e_x5 hf
        refine lv_istore (lv' := [(6, .int x5), (5, .int x1), (0, .ref h), (1, .int v1), (2, .int v2), (3, .int v3), (4, .int v4)]) hx hb dX1_fewest_60 hl (by decide) rfl (fun ls hl => ?_)
        refine lv_iload hx hb dX1_fewest_62 (lv_at hl 0 rfl) ?_
        refine lv_iload_n hx hb dX1_fewest_64 rfl (lv_at hl 5 rfl) ?_
        refine lv_icmp_lt (tgt := 71) hx hb dX1_fewest_65 (by decide) (fun c65 => ?_) (fun c65 => ?_)
        · have hf := dz_t c65 hf
          refine lv_iload hx hb dX1_fewest_71 (lv_at hl 0 rfl) ?_
          refine lv_istore_n (lv' := [(3, .int x5), (6, .int x5), (5, .int x1), (0, .ref h), (1, .int v1), (2, .int v2), (4, .int v4)]) hx hb dX1_fewest_73 rfl hl (by decide) rfl (fun ls hl => ?_)
          refine lv_iload hx hb dX1_fewest_74 (lv_at hl 6 rfl) ?_
          refine lv_istore_n (lv' := [(2, .int v4), (3, .int x5), (6, .int x5), (5, .int x1), (0, .ref h), (1, .int v1), (4, .int v4)]) hx hb dX1_fewest_76 rfl hl (by decide) rfl (fun ls hl => ?_)
          exact ih.2 v1 v4 x5 v4 s2 H locs hP hD hS ls (lv_sub hl [4, 5, 0, 1, 6] rfl) hf
        · have hf := dz_f c65 hf
          refine lv_goto (tgt := 77) hx hb dX1_fewest_68 (by decide) ?_
          exact ih.2 v1 v2 v3 v4 s2 H locs hP hD hS ls (lv_sub hl [2, 3, 4, 5, 6] rfl) hf
    · intro v1 v2 v3 v4 σ H locs hP hD hS ls hl hf
      have hf : (dz_l (v4 + 1) fun x1 => (lfX1_fewest K k).1 v1 v2 v3 x1 σ : Option (Int32 × pM)) = some res := hf
      obtain ⟨x1, e_x1, hf⟩ := dz_lo hf
      refine lv_iinc (v := x1) (lv' := [(4, .int x1), (0, .ref h), (1, .int v1), (2, .int v2), (3, .int v3)]) hx hb dX1_fewest_77 hl (k := 4) rfl (by rw [e_x1]; rfl) (by decide) rfl (fun ls hl => ?_)
      refine lv_goto (tgt := 34) hx hb dX1_fewest_80 (by decide) ?_
      exact ih.1 v1 v2 v3 x1 σ H locs hP hD hS ls (lv_sub hl [1, 2, 3, 4, 0] rfl) hf
set_option maxHeartbeats 4000000 in
set_option maxRecDepth 100000 in
theorem mtX1_fewest (l : Launch) (D : va_G) (cl : List vw_C) (ci : Nat) (hci : cl[ci]? = some (RX1, TX1, 35)) (h : Nat) (ad : Nat → Nat) (cA : Nat → ClassId) (sz : Nat) (σ : pM) (a0 : Int32) (K : Nat) (res : (Int32 × pM)) (hf : fnX1_fewest K a0 σ = some res) : Met l yX1_fewest (ws_ yX1_fewest cX1_fewest 7 (some .int)) ({ frames := 6, cells := 0, slots := 0, locals := 153 }) (mPc D cl ci h ad cA sz σ [.ref h, .int a0]) (mQi D cl ci h ad cA (va_A (mw ci h ad cA σ) sz) res) 0 0 (va_A (mw ci h ad cA σ) sz) := by
  refine Met.ofW (cc := cX1_fewest) (maxL := 7) (ret := some .int) (by decide +kernel) rfl ?_
  intro p e s m args below meth c s₁ B hml hv
  obtain ⟨rfl, hsz, hP, hK, hD0⟩ := hv
  have hx := B.exec
  have hb := B.bytes
  have hr := B.returns
  have hts := atoms_spec (ws := ws_ yX1_fewest cX1_fewest 7 (some .int)) B.pre
  have hts : ∀ w ∈ lw_all, w.before _ s = true := fun w h => hts w (List.mem_cons_of_mem _ h)
  have hown : s.vm.findClass RX1 = some m.cls := findClass_of_methodNamed B.named
  have hlocks := B.notSynchronized
  subst hsz
  have hD := hD0.self (sz := s.heap.size)
  generalize hAe : va_A (mw ci h ad cA σ) s.heap.size = A at hD ⊢
  have hA : ∀ q : Nat, s.heap.size ≤ q → A q := fun q h => by rw [← hAe]; exact Or.inr h
  clear hAe hD0
  have hS : va_S A s.heap s.heap [] := va_S.rf
  generalize hHe : s.heap = H at hP hS ⊢
  have hS : va_S A s.heap H [] := by rw [hHe]; exact hS
  generalize ([] : List Loc) = locs at hS ⊢
  have hl := lv_entry ([.ref h, .int a0]) (n := 7) (Nat.le_of_ble_eq_true rfl)
  rw [lg_entry_eq]
  generalize (lg_sl ([.ref h, .int a0]) ++ List.replicate (7 - (lg_sl ([.ref h, .int a0])).length) Slot.unset).toArray = ls at hl ⊢
  have hl : lv_has ls 7 [(0, .ref h), (1, .int a0)] := hl
  have hf : (dz_b (fnX1_isNumber K (Int32.toInt64 a0)) fun x1 => if x1 = (0 : Int32) then (some ((-1), σ)) else (if a0 = (2 : Int32) then (some ((-2), σ)) else (dz_b (fnX1_isPrime K (Int32.toInt64 a0)) fun x2 => if x2 = (0 : Int32) then (some ((-2), σ)) else ((lfX1_fewest K K).1 a0 (-1) 99 1 σ))) : Option (Int32 × pM)) = some res := hf
  have ih := wlX1_fewest (l := l) (e := e) (below := below) (h := h) (ad := ad) (cA := cA) hci hA hK K res a0 hx hb hr hlocks hml hown hts K
  refine lv_iload_n hx hb dX1_fewest_0 rfl (lv_at hl 1 rfl) ?_
  refine lv_i2l hx hb dX1_fewest_1 (rfl : _ = Int32.toInt64 a0) ?_
  obtain ⟨x1, hx1, hf⟩ := dz_bo hf
  refine va_calli (va_runS (As := [.long (Int32.toInt64 a0)]) (rest := []) ⟨hx, hb, hml, hown, hts⟩ (mtX1_isNumber l (Int32.toInt64 a0) K x1 hx1) (va_cwS 1 hts (lw_S q1786 q1787 q88 q1788) rfl rfl rfl (by decide +kernel) ⟨Nat.le_of_ble_eq_true rfl, Nat.le_of_ble_eq_true rfl⟩) ⟨fun a U g mk q => q, fun U hU hW => ⟨rfl, trivial⟩⟩ rfl rfl hl.1 rfl (lv_room (Nat.le_of_ble_eq_true rfl)) dX1_fewest_2 ⟨Nat.le_refl _, Nat.le_refl _⟩) hS (fun q _ hq => hq.elim) (fun q hq => hq.elim) (fun r u t H1 locs ht hvm hw hB hz hk hS => ?_)
  replace hw := hw.symm; subst hw
  replace hP := dz_keep hP hk
  clear hB hk hz hvm ht; generalize H1 = H at hP hS ⊢
  refine lv_if_ne (tgt := 10) hx hb dX1_fewest_5 (by decide) (fun c5 => ?_) (fun c5 => ?_)
  · have hf := dz_f c5 hf
    refine lv_iload_n hx hb dX1_fewest_10 rfl (lv_at hl 1 rfl) ?_
    refine lv_iconst (v := 2) hx hb dX1_fewest_11 (by decide) ?_
    refine lv_icmp_eq (tgt := 23) hx hb dX1_fewest_12 (by decide) (fun c12 => ?_) (fun c12 => ?_)
    · have hf := dz_t c12 hf
      refine lv_bipush (v := (-2)) hx hb dX1_fewest_23 (by decide) ?_
      exact W.iret (v := (-2)) hx hb hr (fun t ht hW => ⟨⟨(-2), σ, rfl, Option.some.inj hf, by rw [ht]; exact hP, va_K.moved hW.alike hK, hD⟩, hS.F ht⟩) hS.2.2 dX1_fewest_25
    · have hf := dz_f c12 hf
      refine lv_iload_n hx hb dX1_fewest_15 rfl (lv_at hl 1 rfl) ?_
      refine lv_i2l hx hb dX1_fewest_16 (rfl : _ = Int32.toInt64 a0) ?_
      obtain ⟨x2, hx2, hf⟩ := dz_bo hf
      refine va_calli (va_runS (As := [.long (Int32.toInt64 a0)]) (rest := []) ⟨hx, hb, hml, hown, hts⟩ (mtX1_isPrime l (Int32.toInt64 a0) K x2 hx2) (va_cwS 1 hts (lw_S q1799 q1800 q88 q1801) rfl rfl rfl (by decide +kernel) ⟨Nat.le_of_ble_eq_true rfl, Nat.le_of_ble_eq_true rfl⟩) ⟨fun a U g mk q => q, fun U hU hW => ⟨rfl, trivial⟩⟩ rfl rfl hl.1 rfl (lv_room (Nat.le_of_ble_eq_true rfl)) dX1_fewest_17 ⟨Nat.le_refl _, Nat.le_refl _⟩) hS (fun q _ hq => hq.elim) (fun q hq => hq.elim) (fun r u t H1 locs ht hvm hw hB hz hk hS => ?_)
      replace hw := hw.symm; subst hw
      replace hP := dz_keep hP hk
      clear hB hk hz hvm ht; generalize H1 = H at hP hS ⊢
      refine lv_if_ne (tgt := 26) hx hb dX1_fewest_20 (by decide) (fun c20 => ?_) (fun c20 => ?_)
      · have hf := dz_f c20 hf
        refine lv_iconst (v := (-1)) hx hb dX1_fewest_26 (by decide) ?_
        refine lv_istore_n (lv' := [(2, .int (-1)), (0, .ref h), (1, .int a0)]) hx hb dX1_fewest_27 rfl hl (by decide) rfl (fun ls hl => ?_)
        refine lv_bipush (v := 99) hx hb dX1_fewest_28 (by decide) ?_
        refine lv_istore_n (lv' := [(3, .int 99), (2, .int (-1)), (0, .ref h), (1, .int a0)]) hx hb dX1_fewest_30 rfl hl (by decide) rfl (fun ls hl => ?_)
        refine lv_iconst (v := 1) hx hb dX1_fewest_31 (by decide) ?_
        refine lv_istore (lv' := [(4, .int 1), (3, .int 99), (2, .int (-1)), (0, .ref h), (1, .int a0)]) hx hb dX1_fewest_32 hl (by decide) rfl (fun ls hl => ?_)
        exact ih.1 a0 (-1) 99 1 σ H locs hP hD hS ls (lv_sub hl [3, 4, 2, 1, 0] rfl) hf
      · have hf := dz_t c20 hf
        refine lv_bipush (v := (-2)) hx hb dX1_fewest_23 (by decide) ?_
        exact W.iret (v := (-2)) hx hb hr (fun t ht hW => ⟨⟨(-2), σ, rfl, Option.some.inj hf, by rw [ht]; exact hP, va_K.moved hW.alike hK, hD⟩, hS.F ht⟩) hS.2.2 dX1_fewest_25
  · have hf := dz_t c5 hf
    refine lv_iconst (v := (-1)) hx hb dX1_fewest_8 (by decide) ?_
    exact W.iret (v := (-1)) hx hb hr (fun t ht hW => ⟨⟨(-1), σ, rfl, Option.some.inj hf, by rw [ht]; exact hP, va_K.moved hW.alike hK, hD⟩, hS.F ht⟩) hS.2.2 dX1_fewest_9

noncomputable def lfX1_feed (K : Nat) : Nat → (Int32 → Int32 → Int32 → Int32 → Int32 → Int32 → pM → Option (Int32 × pM)) := Nat.rec (motive := fun _ => (Int32 → Int32 → Int32 → Int32 → Int32 → Int32 → pM → Option (Int32 × pM))) (fun _ _ _ _ _ _ _ => none) (fun _ G => (fun v1 v2 v3 v4 v5 v6 σ => if (20 : Int32) ≤ v6 then (dz_l (σ.1 24) fun x1 => some (x1, σ)) else (if (4 : Int32) ≤ v6 then (if (8 : Int32) ≤ v6 then (if (12 : Int32) ≤ v6 then (if (16 : Int32) ≤ v6 then (dz_l (σ.1 24) fun x2 => dz_l (v6 - v6 / 4 * 4) fun x3 => dz_l ((v5 >>> ((24 - (8 * x3)) &&& 31)) &&& 255) fun x4 => if ¬ (x2 < 0 ∨ 400 ≤ Int32.toNatClampNeg x2) then (dz_l (mI σ 23 (Int32.toNatClampNeg x2) x4) fun s6 => dz_l (s6.1 24) fun x7 => dz_l (x7 + 1) fun x8 => dz_l (mF s6 24 x8) fun s9 => dz_l (v6 + 1) fun x10 => G v1 v2 v3 v4 v5 x10 s9) else none) else (dz_l (σ.1 24) fun x11 => dz_l (v6 - v6 / 4 * 4) fun x12 => dz_l ((v4 >>> ((24 - (8 * x12)) &&& 31)) &&& 255) fun x13 => if ¬ (x11 < 0 ∨ 400 ≤ Int32.toNatClampNeg x11) then (dz_l (mI σ 23 (Int32.toNatClampNeg x11) x13) fun s15 => dz_l (s15.1 24) fun x16 => dz_l (x16 + 1) fun x17 => dz_l (mF s15 24 x17) fun s18 => dz_l (v6 + 1) fun x19 => G v1 v2 v3 v4 v5 x19 s18) else none)) else (dz_l (σ.1 24) fun x20 => dz_l (v6 - v6 / 4 * 4) fun x21 => dz_l ((v3 >>> ((24 - (8 * x21)) &&& 31)) &&& 255) fun x22 => if ¬ (x20 < 0 ∨ 400 ≤ Int32.toNatClampNeg x20) then (dz_l (mI σ 23 (Int32.toNatClampNeg x20) x22) fun s24 => dz_l (s24.1 24) fun x25 => dz_l (x25 + 1) fun x26 => dz_l (mF s24 24 x26) fun s27 => dz_l (v6 + 1) fun x28 => G v1 v2 v3 v4 v5 x28 s27) else none)) else (dz_l (σ.1 24) fun x29 => dz_l (v6 - v6 / 4 * 4) fun x30 => dz_l ((v2 >>> ((24 - (8 * x30)) &&& 31)) &&& 255) fun x31 => if ¬ (x29 < 0 ∨ 400 ≤ Int32.toNatClampNeg x29) then (dz_l (mI σ 23 (Int32.toNatClampNeg x29) x31) fun s33 => dz_l (s33.1 24) fun x34 => dz_l (x34 + 1) fun x35 => dz_l (mF s33 24 x35) fun s36 => dz_l (v6 + 1) fun x37 => G v1 v2 v3 v4 v5 x37 s36) else none)) else (dz_l (σ.1 24) fun x38 => dz_l (v6 - v6 / 4 * 4) fun x39 => dz_l ((v1 >>> ((24 - (8 * x39)) &&& 31)) &&& 255) fun x40 => if ¬ (x38 < 0 ∨ 400 ≤ Int32.toNatClampNeg x38) then (dz_l (mI σ 23 (Int32.toNatClampNeg x38) x40) fun s42 => dz_l (s42.1 24) fun x43 => dz_l (x43 + 1) fun x44 => dz_l (mF s42 24 x44) fun s45 => dz_l (v6 + 1) fun x46 => G v1 v2 v3 v4 v5 x46 s45) else none))))
noncomputable def fnX1_feed (K : Nat) (a0 : Int32) (a1 : Int32) (a2 : Int32) (a3 : Int32) (a4 : Int32) (σ : pM) : Option (Int32 × pM) := dz_l (σ.1 24) fun x1 => if (x1 + 20) ≤ (400 : Int32) then ((lfX1_feed K K) a0 a1 a2 a3 a4 0 σ) else (some ((-1), σ))
set_option maxHeartbeats 4000000 in
set_option maxRecDepth 100000 in
theorem wlX1_feed {p : Program} {l : Launch} {e : Env} {s : State} {m : MethodId} {below : List Frame} {meth : Method} {c : Code} {D : va_G} {cl : List vw_C} {ci : Nat} (hci : cl[ci]? = some (RX1, TX1, 35)) {h : Nat} {ad : Nat → Nat} {cA : Nat → ClassId} {A : Nat → Prop} (hA : ∀ q : Nat, s.heap.size ≤ q → A q) (hK : va_K D cl (mtys cA) s) (K : Nat) (res : (Int32 × pM)) (a0 : Int32) (a1 : Int32) (a2 : Int32) (a3 : Int32) (a4 : Int32) (hx : p.tables.exec = Jvm.exec) (hb : c.code = cX1_feed) (hr : meth.sig.returnType = some .int) (hlocks : meth.locks = false) (hml : c.maxLocals = 8) (hown : s.vm.findClass RX1 = some m.cls) (hts : ∀ w ∈ lw_all, w.before ([.ref h, .int a0, .int a1, .int a2, .int a3, .int a4] : List Value).toArray s = true) : ∀ k : Nat, (∀ (v1 : Int32) (v2 : Int32) (v3 : Int32) (v4 : Int32) (v5 : Int32) (v6 : Int32) (σ : pM) (H : Heap) (locs : List Loc), va_P D cl (mw ci h ad cA σ) H → va_D A (mw ci h ad cA σ) → va_S A s.heap H locs → ∀ (ls : Array Slot), lv_has ls 8 [(0, .ref h), (1, .int v1), (2, .int v2), (3, .int v3), (4, .int v4), (5, .int v5), (6, .int v6)] → (lfX1_feed K k) v1 v2 v3 v4 v5 v6 σ = some res → W p l e (headSpec (ws_ yX1_feed cX1_feed 8 (some .int)) ({ frames := 0, cells := 0, slots := 0, locals := 0 })).room s m ([.ref h, .int a0, .int a1, .int a2, .int a3, .int a4] : List Value).toArray below meth c H locs 0 0 (MQ below (mQi D cl ci h ad cA A res) ([.ref h, .int a0, .int a1, .int a2, .int a3, .int a4] : List Value).toArray s 0 0 A) (F0 m 18 ls [])) := by
  intro k
  induction k with
  | zero =>
    exact fun _ _ _ _ _ _ _ _ _ _ _ _ _ _ hf => (by cases hf)
  | succ k ih =>
    · intro v1 v2 v3 v4 v5 v6 σ H locs hP hD hS ls hl hf
      have hf : (if (20 : Int32) ≤ v6 then (dz_l (σ.1 24) fun x1 => some (x1, σ)) else (if (4 : Int32) ≤ v6 then (if (8 : Int32) ≤ v6 then (if (12 : Int32) ≤ v6 then (if (16 : Int32) ≤ v6 then (dz_l (σ.1 24) fun x2 => dz_l (v6 - v6 / 4 * 4) fun x3 => dz_l ((v5 >>> ((24 - (8 * x3)) &&& 31)) &&& 255) fun x4 => if ¬ (x2 < 0 ∨ 400 ≤ Int32.toNatClampNeg x2) then (dz_l (mI σ 23 (Int32.toNatClampNeg x2) x4) fun s6 => dz_l (s6.1 24) fun x7 => dz_l (x7 + 1) fun x8 => dz_l (mF s6 24 x8) fun s9 => dz_l (v6 + 1) fun x10 => (lfX1_feed K k) v1 v2 v3 v4 v5 x10 s9) else none) else (dz_l (σ.1 24) fun x11 => dz_l (v6 - v6 / 4 * 4) fun x12 => dz_l ((v4 >>> ((24 - (8 * x12)) &&& 31)) &&& 255) fun x13 => if ¬ (x11 < 0 ∨ 400 ≤ Int32.toNatClampNeg x11) then (dz_l (mI σ 23 (Int32.toNatClampNeg x11) x13) fun s15 => dz_l (s15.1 24) fun x16 => dz_l (x16 + 1) fun x17 => dz_l (mF s15 24 x17) fun s18 => dz_l (v6 + 1) fun x19 => (lfX1_feed K k) v1 v2 v3 v4 v5 x19 s18) else none)) else (dz_l (σ.1 24) fun x20 => dz_l (v6 - v6 / 4 * 4) fun x21 => dz_l ((v3 >>> ((24 - (8 * x21)) &&& 31)) &&& 255) fun x22 => if ¬ (x20 < 0 ∨ 400 ≤ Int32.toNatClampNeg x20) then (dz_l (mI σ 23 (Int32.toNatClampNeg x20) x22) fun s24 => dz_l (s24.1 24) fun x25 => dz_l (x25 + 1) fun x26 => dz_l (mF s24 24 x26) fun s27 => dz_l (v6 + 1) fun x28 => (lfX1_feed K k) v1 v2 v3 v4 v5 x28 s27) else none)) else (dz_l (σ.1 24) fun x29 => dz_l (v6 - v6 / 4 * 4) fun x30 => dz_l ((v2 >>> ((24 - (8 * x30)) &&& 31)) &&& 255) fun x31 => if ¬ (x29 < 0 ∨ 400 ≤ Int32.toNatClampNeg x29) then (dz_l (mI σ 23 (Int32.toNatClampNeg x29) x31) fun s33 => dz_l (s33.1 24) fun x34 => dz_l (x34 + 1) fun x35 => dz_l (mF s33 24 x35) fun s36 => dz_l (v6 + 1) fun x37 => (lfX1_feed K k) v1 v2 v3 v4 v5 x37 s36) else none)) else (dz_l (σ.1 24) fun x38 => dz_l (v6 - v6 / 4 * 4) fun x39 => dz_l ((v1 >>> ((24 - (8 * x39)) &&& 31)) &&& 255) fun x40 => if ¬ (x38 < 0 ∨ 400 ≤ Int32.toNatClampNeg x38) then (dz_l (mI σ 23 (Int32.toNatClampNeg x38) x40) fun s42 => dz_l (s42.1 24) fun x43 => dz_l (x43 + 1) fun x44 => dz_l (mF s42 24 x44) fun s45 => dz_l (v6 + 1) fun x46 => (lfX1_feed K k) v1 v2 v3 v4 v5 x46 s45) else none)) : Option (Int32 × pM)) = some res := hf
      refine lv_iload hx hb dX1_feed_18 (lv_at hl 6 rfl) ?_
      refine lv_bipush (v := 20) hx hb dX1_feed_20 (by decide) ?_
      refine lv_icmp_ge (tgt := 115) hx hb dX1_feed_22 (by decide) (fun c22 => ?_) (fun c22 => ?_)
      · have hf := dz_t c22 hf
        refine lv_aload_n hx hb dX1_feed_115 rfl (lv_at hl 0 rfl) ?_
        refine va_get (C := RX1) (T := TX1) (N := 35) (fs := mwF ad σ) (v := .int (σ.1 24)) hx hb hts in_X1 hown hK hP 0 rfl hci 24 (by decide) (hts _ q1695) (fun _ hq => hq) rfl dX1_feed_116 ?_
        refine lv_topi (fun x1 e_x1 => ?_)
        have hf := dz_ls e_x1 hf
        exact W.iret (v := x1) hx hb hr (fun t ht hW => ⟨⟨x1, σ, rfl, Option.some.inj hf, by rw [ht]; exact hP, va_K.moved hW.alike hK, hD⟩, hS.F ht⟩) hS.2.2 dX1_feed_119
      · have hf := dz_f c22 hf
        refine lv_iload hx hb dX1_feed_25 (lv_at hl 6 rfl) ?_
        refine lv_iconst (v := 4) hx hb dX1_feed_27 (by decide) ?_
        refine lv_icmp_ge (tgt := 35) hx hb dX1_feed_28 (by decide) (fun c28 => ?_) (fun c28 => ?_)
        · have hf := dz_t c28 hf
          refine lv_iload hx hb dX1_feed_35 (lv_at hl 6 rfl) ?_
          refine lv_bipush (v := 8) hx hb dX1_feed_37 (by decide) ?_
          refine lv_icmp_ge (tgt := 46) hx hb dX1_feed_39 (by decide) (fun c39 => ?_) (fun c39 => ?_)
          · have hf := dz_t c39 hf
            refine lv_iload hx hb dX1_feed_46 (lv_at hl 6 rfl) ?_
            refine lv_bipush (v := 12) hx hb dX1_feed_48 (by decide) ?_
            refine lv_icmp_ge (tgt := 57) hx hb dX1_feed_50 (by decide) (fun c50 => ?_) (fun c50 => ?_)
            · have hf := dz_t c50 hf
              refine lv_iload hx hb dX1_feed_57 (lv_at hl 6 rfl) ?_
              refine lv_bipush (v := 16) hx hb dX1_feed_59 (by decide) ?_
              refine lv_icmp_ge (tgt := 69) hx hb dX1_feed_61 (by decide) (fun c61 => ?_) (fun c61 => ?_)
              · have hf := dz_t c61 hf
                refine lv_iload hx hb dX1_feed_69 (lv_at hl 5 rfl) ?_
                refine lv_istore (lv' := [(7, .int v5), (0, .ref h), (1, .int v1), (2, .int v2), (3, .int v3), (4, .int v4), (5, .int v5), (6, .int v6)]) hx hb dX1_feed_71 hl (by decide) rfl (fun ls hl => ?_)
                refine lv_aload_n hx hb dX1_feed_73 rfl (lv_at hl 1 rfl) ?_
                refine va_get (C := RX1) (T := TX1) (N := 35) (fs := mwF ad σ) (v := .ref (ad 23)) hx hb hts in_X1 hown hK hP 0 rfl hci 23 (by decide) (hts _ q1694) (fun _ hq => hq) rfl dX1_feed_74 ?_
                refine lv_aload_n hx hb dX1_feed_77 rfl (lv_at hl 1 rfl) ?_
                refine va_get (C := RX1) (T := TX1) (N := 35) (fs := mwF ad σ) (v := .int (σ.1 24)) hx hb hts in_X1 hown hK hP 0 rfl hci 24 (by decide) (hts _ q1695) (fun _ hq => hq) rfl dX1_feed_78 ?_
                refine lv_topi (fun x2 e_x2 => ?_)
                have hf := dz_ls e_x2 hf
                refine lv_iload hx hb dX1_feed_81 (lv_at hl 0 rfl) ?_
                refine lv_bipush (v := 24) hx hb dX1_feed_83 (by decide) ?_
                refine lv_bipush (v := 8) hx hb dX1_feed_85 (by decide) ?_
                refine lv_iload hx hb dX1_feed_87 (lv_at hl 7 rfl) ?_
                refine lv_iconst (v := 4) hx hb dX1_feed_89 (by decide) ?_
                refine lv_irem hx hb dX1_feed_90 (by decide) ?_
                refine lv_topi (fun x3 e_x3 => ?_)
                have hf := dz_ls e_x3 hf
                refine lv_imul hx hb dX1_feed_91 ?_
                refine lv_isub hx hb dX1_feed_92 ?_
                refine lv_ishr hx hb dX1_feed_93 ?_
                refine lv_sipush (v := 255) hx hb dX1_feed_94 (by decide) ?_
                refine lv_iand hx hb dX1_feed_97 ?_
                refine lv_topi (fun x4 e_x4 => ?_)
                have hf := dz_ls e_x4 hf
                obtain ⟨g5, hf⟩ := dz_go hf
                refine va_iast hx hb hK hP hD hS 21 0 rfl rfl g5 dX1_feed_98 (fun H locs hP1 _ hS => ?_)
                obtain ⟨s6, e_s6, hf⟩ := dz_lo hf
                have hP : va_P D cl (mw ci h ad cA s6) H := by rw [e_s6]; exact hP1
                clear hP1; replace hD := mw_D s6 hD
                refine lv_aload_n hx hb dX1_feed_99 rfl (lv_at hl 1 rfl) ?_
                refine lv_dup hx hb dX1_feed_100 rfl ?_
                refine va_get (C := RX1) (T := TX1) (N := 35) (fs := mwF ad s6) (v := .int (s6.1 24)) hx hb hts in_X1 hown hK hP 0 rfl hci 24 (by decide) (hts _ q1695) (fun _ hq => hq) rfl dX1_feed_101 ?_
                refine lv_topi (fun x7 e_x7 => ?_)
                have hf := dz_ls e_x7 hf
                refine lv_iconst (v := 1) hx hb dX1_feed_104 (by decide) ?_
                refine lv_iadd hx hb dX1_feed_105 ?_
                refine lv_topi (fun x8 e_x8 => ?_)
                have hf := dz_ls e_x8 hf
                refine va_put (C := RX1) (T := TX1) (N := 35) (fs := mwF ad s6) hx hb hts in_X1 tyX1 tyX1_ok nmX1 hown hK hP hD hS 0 rfl hci 24 (by decide) (hts _ q1695) (fun _ hq => hq) rfl rfl rfl rfl (Nat.le_of_ble_eq_true rfl) dX1_feed_106 (fun H locs hP1 _ hS => ?_)
                obtain ⟨s9, e_s9, hf⟩ := dz_lo hf
                have hP : va_P D cl (mw ci h ad cA s9) H := by rw [e_s9]; exact hP1
                clear hP1; replace hD := mw_D s9 hD
                obtain ⟨x10, e_x10, hf⟩ := dz_lo hf
                refine lv_iinc (v := x10) (lv' := [(6, .int x10), (7, .int v5), (0, .ref h), (1, .int v1), (2, .int v2), (3, .int v3), (4, .int v4), (5, .int v5)]) hx hb dX1_feed_109 hl (k := 7) rfl (by rw [e_x10]; rfl) (by decide) rfl (fun ls hl => ?_)
                refine lv_goto (tgt := 18) hx hb dX1_feed_112 (by decide) ?_
                exact ih v1 v2 v3 v4 v5 x10 s9 H locs hP hD hS ls (lv_sub hl [2, 3, 4, 5, 6, 7, 0] rfl) hf
              · have hf := dz_f c61 hf
                refine lv_iload hx hb dX1_feed_64 (lv_at hl 4 rfl) ?_
                refine lv_goto (tgt := 71) hx hb dX1_feed_66 (by decide) ?_
                refine lv_istore (lv' := [(7, .int v4), (0, .ref h), (1, .int v1), (2, .int v2), (3, .int v3), (4, .int v4), (5, .int v5), (6, .int v6)]) hx hb dX1_feed_71 hl (by decide) rfl (fun ls hl => ?_)
                refine lv_aload_n hx hb dX1_feed_73 rfl (lv_at hl 1 rfl) ?_
                refine va_get (C := RX1) (T := TX1) (N := 35) (fs := mwF ad σ) (v := .ref (ad 23)) hx hb hts in_X1 hown hK hP 0 rfl hci 23 (by decide) (hts _ q1694) (fun _ hq => hq) rfl dX1_feed_74 ?_
                refine lv_aload_n hx hb dX1_feed_77 rfl (lv_at hl 1 rfl) ?_
                refine va_get (C := RX1) (T := TX1) (N := 35) (fs := mwF ad σ) (v := .int (σ.1 24)) hx hb hts in_X1 hown hK hP 0 rfl hci 24 (by decide) (hts _ q1695) (fun _ hq => hq) rfl dX1_feed_78 ?_
                refine lv_topi (fun x11 e_x11 => ?_)
                have hf := dz_ls e_x11 hf
                refine lv_iload hx hb dX1_feed_81 (lv_at hl 0 rfl) ?_
                refine lv_bipush (v := 24) hx hb dX1_feed_83 (by decide) ?_
                refine lv_bipush (v := 8) hx hb dX1_feed_85 (by decide) ?_
                refine lv_iload hx hb dX1_feed_87 (lv_at hl 7 rfl) ?_
                refine lv_iconst (v := 4) hx hb dX1_feed_89 (by decide) ?_
                refine lv_irem hx hb dX1_feed_90 (by decide) ?_
                refine lv_topi (fun x12 e_x12 => ?_)
                have hf := dz_ls e_x12 hf
                refine lv_imul hx hb dX1_feed_91 ?_
                refine lv_isub hx hb dX1_feed_92 ?_
                refine lv_ishr hx hb dX1_feed_93 ?_
                refine lv_sipush (v := 255) hx hb dX1_feed_94 (by decide) ?_
                refine lv_iand hx hb dX1_feed_97 ?_
                refine lv_topi (fun x13 e_x13 => ?_)
                have hf := dz_ls e_x13 hf
                obtain ⟨g14, hf⟩ := dz_go hf
                refine va_iast hx hb hK hP hD hS 21 0 rfl rfl g14 dX1_feed_98 (fun H locs hP1 _ hS => ?_)
                obtain ⟨s15, e_s15, hf⟩ := dz_lo hf
                have hP : va_P D cl (mw ci h ad cA s15) H := by rw [e_s15]; exact hP1
                clear hP1; replace hD := mw_D s15 hD
                refine lv_aload_n hx hb dX1_feed_99 rfl (lv_at hl 1 rfl) ?_
                refine lv_dup hx hb dX1_feed_100 rfl ?_
                refine va_get (C := RX1) (T := TX1) (N := 35) (fs := mwF ad s15) (v := .int (s15.1 24)) hx hb hts in_X1 hown hK hP 0 rfl hci 24 (by decide) (hts _ q1695) (fun _ hq => hq) rfl dX1_feed_101 ?_
                refine lv_topi (fun x16 e_x16 => ?_)
                have hf := dz_ls e_x16 hf
                refine lv_iconst (v := 1) hx hb dX1_feed_104 (by decide) ?_
                refine lv_iadd hx hb dX1_feed_105 ?_
                refine lv_topi (fun x17 e_x17 => ?_)
                have hf := dz_ls e_x17 hf
                refine va_put (C := RX1) (T := TX1) (N := 35) (fs := mwF ad s15) hx hb hts in_X1 tyX1 tyX1_ok nmX1 hown hK hP hD hS 0 rfl hci 24 (by decide) (hts _ q1695) (fun _ hq => hq) rfl rfl rfl rfl (Nat.le_of_ble_eq_true rfl) dX1_feed_106 (fun H locs hP1 _ hS => ?_)
                obtain ⟨s18, e_s18, hf⟩ := dz_lo hf
                have hP : va_P D cl (mw ci h ad cA s18) H := by rw [e_s18]; exact hP1
                clear hP1; replace hD := mw_D s18 hD
                obtain ⟨x19, e_x19, hf⟩ := dz_lo hf
                refine lv_iinc (v := x19) (lv' := [(6, .int x19), (7, .int v4), (0, .ref h), (1, .int v1), (2, .int v2), (3, .int v3), (4, .int v4), (5, .int v5)]) hx hb dX1_feed_109 hl (k := 7) rfl (by rw [e_x19]; rfl) (by decide) rfl (fun ls hl => ?_)
                refine lv_goto (tgt := 18) hx hb dX1_feed_112 (by decide) ?_
                exact ih v1 v2 v3 v4 v5 x19 s18 H locs hP hD hS ls (lv_sub hl [2, 3, 4, 5, 6, 7, 0] rfl) hf
            · have hf := dz_f c50 hf
              refine lv_iload_n hx hb dX1_feed_53 rfl (lv_at hl 3 rfl) ?_
              refine lv_goto (tgt := 71) hx hb dX1_feed_54 (by decide) ?_
              refine lv_istore (lv' := [(7, .int v3), (0, .ref h), (1, .int v1), (2, .int v2), (3, .int v3), (4, .int v4), (5, .int v5), (6, .int v6)]) hx hb dX1_feed_71 hl (by decide) rfl (fun ls hl => ?_)
              refine lv_aload_n hx hb dX1_feed_73 rfl (lv_at hl 1 rfl) ?_
              refine va_get (C := RX1) (T := TX1) (N := 35) (fs := mwF ad σ) (v := .ref (ad 23)) hx hb hts in_X1 hown hK hP 0 rfl hci 23 (by decide) (hts _ q1694) (fun _ hq => hq) rfl dX1_feed_74 ?_
              refine lv_aload_n hx hb dX1_feed_77 rfl (lv_at hl 1 rfl) ?_
              refine va_get (C := RX1) (T := TX1) (N := 35) (fs := mwF ad σ) (v := .int (σ.1 24)) hx hb hts in_X1 hown hK hP 0 rfl hci 24 (by decide) (hts _ q1695) (fun _ hq => hq) rfl dX1_feed_78 ?_
              refine lv_topi (fun x20 e_x20 => ?_)
              have hf := dz_ls e_x20 hf
              refine lv_iload hx hb dX1_feed_81 (lv_at hl 0 rfl) ?_
              refine lv_bipush (v := 24) hx hb dX1_feed_83 (by decide) ?_
              refine lv_bipush (v := 8) hx hb dX1_feed_85 (by decide) ?_
              refine lv_iload hx hb dX1_feed_87 (lv_at hl 7 rfl) ?_
              refine lv_iconst (v := 4) hx hb dX1_feed_89 (by decide) ?_
              refine lv_irem hx hb dX1_feed_90 (by decide) ?_
              refine lv_topi (fun x21 e_x21 => ?_)
              have hf := dz_ls e_x21 hf
              refine lv_imul hx hb dX1_feed_91 ?_
              refine lv_isub hx hb dX1_feed_92 ?_
              refine lv_ishr hx hb dX1_feed_93 ?_
              refine lv_sipush (v := 255) hx hb dX1_feed_94 (by decide) ?_
              refine lv_iand hx hb dX1_feed_97 ?_
              refine lv_topi (fun x22 e_x22 => ?_)
              have hf := dz_ls e_x22 hf
              obtain ⟨g23, hf⟩ := dz_go hf
              refine va_iast hx hb hK hP hD hS 21 0 rfl rfl g23 dX1_feed_98 (fun H locs hP1 _ hS => ?_)
              obtain ⟨s24, e_s24, hf⟩ := dz_lo hf
              have hP : va_P D cl (mw ci h ad cA s24) H := by rw [e_s24]; exact hP1
              clear hP1; replace hD := mw_D s24 hD
              refine lv_aload_n hx hb dX1_feed_99 rfl (lv_at hl 1 rfl) ?_
              refine lv_dup hx hb dX1_feed_100 rfl ?_
              refine va_get (C := RX1) (T := TX1) (N := 35) (fs := mwF ad s24) (v := .int (s24.1 24)) hx hb hts in_X1 hown hK hP 0 rfl hci 24 (by decide) (hts _ q1695) (fun _ hq => hq) rfl dX1_feed_101 ?_
              refine lv_topi (fun x25 e_x25 => ?_)
              have hf := dz_ls e_x25 hf
              refine lv_iconst (v := 1) hx hb dX1_feed_104 (by decide) ?_
              refine lv_iadd hx hb dX1_feed_105 ?_
              refine lv_topi (fun x26 e_x26 => ?_)
              have hf := dz_ls e_x26 hf
              refine va_put (C := RX1) (T := TX1) (N := 35) (fs := mwF ad s24) hx hb hts in_X1 tyX1 tyX1_ok nmX1 hown hK hP hD hS 0 rfl hci 24 (by decide) (hts _ q1695) (fun _ hq => hq) rfl rfl rfl rfl (Nat.le_of_ble_eq_true rfl) dX1_feed_106 (fun H locs hP1 _ hS => ?_)
              obtain ⟨s27, e_s27, hf⟩ := dz_lo hf
              have hP : va_P D cl (mw ci h ad cA s27) H := by rw [e_s27]; exact hP1
              clear hP1; replace hD := mw_D s27 hD
              obtain ⟨x28, e_x28, hf⟩ := dz_lo hf
              refine lv_iinc (v := x28) (lv' := [(6, .int x28), (7, .int v3), (0, .ref h), (1, .int v1), (2, .int v2), (3, .int v3), (4, .int v4), (5, .int v5)]) hx hb dX1_feed_109 hl (k := 7) rfl (by rw [e_x28]; rfl) (by decide) rfl (fun ls hl => ?_)
              refine lv_goto (tgt := 18) hx hb dX1_feed_112 (by decide) ?_
              exact ih v1 v2 v3 v4 v5 x28 s27 H locs hP hD hS ls (lv_sub hl [2, 3, 4, 5, 6, 7, 0] rfl) hf
          · have hf := dz_f c39 hf
            refine lv_iload_n hx hb dX1_feed_42 rfl (lv_at hl 2 rfl) ?_
            refine lv_goto (tgt := 71) hx hb dX1_feed_43 (by decide) ?_
            refine lv_istore (lv' := [(7, .int v2), (0, .ref h), (1, .int v1), (2, .int v2), (3, .int v3), (4, .int v4), (5, .int v5), (6, .int v6)]) hx hb dX1_feed_71 hl (by decide) rfl (fun ls hl => ?_)
            refine lv_aload_n hx hb dX1_feed_73 rfl (lv_at hl 1 rfl) ?_
            refine va_get (C := RX1) (T := TX1) (N := 35) (fs := mwF ad σ) (v := .ref (ad 23)) hx hb hts in_X1 hown hK hP 0 rfl hci 23 (by decide) (hts _ q1694) (fun _ hq => hq) rfl dX1_feed_74 ?_
            refine lv_aload_n hx hb dX1_feed_77 rfl (lv_at hl 1 rfl) ?_
            refine va_get (C := RX1) (T := TX1) (N := 35) (fs := mwF ad σ) (v := .int (σ.1 24)) hx hb hts in_X1 hown hK hP 0 rfl hci 24 (by decide) (hts _ q1695) (fun _ hq => hq) rfl dX1_feed_78 ?_
            refine lv_topi (fun x29 e_x29 => ?_)
            have hf := dz_ls e_x29 hf
            refine lv_iload hx hb dX1_feed_81 (lv_at hl 0 rfl) ?_
            refine lv_bipush (v := 24) hx hb dX1_feed_83 (by decide) ?_
            refine lv_bipush (v := 8) hx hb dX1_feed_85 (by decide) ?_
            refine lv_iload hx hb dX1_feed_87 (lv_at hl 7 rfl) ?_
            refine lv_iconst (v := 4) hx hb dX1_feed_89 (by decide) ?_
            refine lv_irem hx hb dX1_feed_90 (by decide) ?_
            refine lv_topi (fun x30 e_x30 => ?_)
            have hf := dz_ls e_x30 hf
            refine lv_imul hx hb dX1_feed_91 ?_
            refine lv_isub hx hb dX1_feed_92 ?_
            refine lv_ishr hx hb dX1_feed_93 ?_
            refine lv_sipush (v := 255) hx hb dX1_feed_94 (by decide) ?_
            refine lv_iand hx hb dX1_feed_97 ?_
            refine lv_topi (fun x31 e_x31 => ?_)
            have hf := dz_ls e_x31 hf
            obtain ⟨g32, hf⟩ := dz_go hf
            refine va_iast hx hb hK hP hD hS 21 0 rfl rfl g32 dX1_feed_98 (fun H locs hP1 _ hS => ?_)
            obtain ⟨s33, e_s33, hf⟩ := dz_lo hf
            have hP : va_P D cl (mw ci h ad cA s33) H := by rw [e_s33]; exact hP1
            clear hP1; replace hD := mw_D s33 hD
            refine lv_aload_n hx hb dX1_feed_99 rfl (lv_at hl 1 rfl) ?_
            refine lv_dup hx hb dX1_feed_100 rfl ?_
            refine va_get (C := RX1) (T := TX1) (N := 35) (fs := mwF ad s33) (v := .int (s33.1 24)) hx hb hts in_X1 hown hK hP 0 rfl hci 24 (by decide) (hts _ q1695) (fun _ hq => hq) rfl dX1_feed_101 ?_
            refine lv_topi (fun x34 e_x34 => ?_)
            have hf := dz_ls e_x34 hf
            refine lv_iconst (v := 1) hx hb dX1_feed_104 (by decide) ?_
            refine lv_iadd hx hb dX1_feed_105 ?_
            refine lv_topi (fun x35 e_x35 => ?_)
            have hf := dz_ls e_x35 hf
            refine va_put (C := RX1) (T := TX1) (N := 35) (fs := mwF ad s33) hx hb hts in_X1 tyX1 tyX1_ok nmX1 hown hK hP hD hS 0 rfl hci 24 (by decide) (hts _ q1695) (fun _ hq => hq) rfl rfl rfl rfl (Nat.le_of_ble_eq_true rfl) dX1_feed_106 (fun H locs hP1 _ hS => ?_)
            obtain ⟨s36, e_s36, hf⟩ := dz_lo hf
            have hP : va_P D cl (mw ci h ad cA s36) H := by rw [e_s36]; exact hP1
            clear hP1; replace hD := mw_D s36 hD
            obtain ⟨x37, e_x37, hf⟩ := dz_lo hf
            refine lv_iinc (v := x37) (lv' := [(6, .int x37), (7, .int v2), (0, .ref h), (1, .int v1), (2, .int v2), (3, .int v3), (4, .int v4), (5, .int v5)]) hx hb dX1_feed_109 hl (k := 7) rfl (by rw [e_x37]; rfl) (by decide) rfl (fun ls hl => ?_)
            refine lv_goto (tgt := 18) hx hb dX1_feed_112 (by decide) ?_
            exact ih v1 v2 v3 v4 v5 x37 s36 H locs hP hD hS ls (lv_sub hl [2, 3, 4, 5, 6, 7, 0] rfl) hf
        · have hf := dz_f c28 hf
          refine lv_iload_n hx hb dX1_feed_31 rfl (lv_at hl 1 rfl) ?_
          refine lv_goto (tgt := 71) hx hb dX1_feed_32 (by decide) ?_
          refine lv_istore (lv' := [(7, .int v1), (0, .ref h), (1, .int v1), (2, .int v2), (3, .int v3), (4, .int v4), (5, .int v5), (6, .int v6)]) hx hb dX1_feed_71 hl (by decide) rfl (fun ls hl => ?_)
          refine lv_aload_n hx hb dX1_feed_73 rfl (lv_at hl 1 rfl) ?_
          refine va_get (C := RX1) (T := TX1) (N := 35) (fs := mwF ad σ) (v := .ref (ad 23)) hx hb hts in_X1 hown hK hP 0 rfl hci 23 (by decide) (hts _ q1694) (fun _ hq => hq) rfl dX1_feed_74 ?_
          refine lv_aload_n hx hb dX1_feed_77 rfl (lv_at hl 1 rfl) ?_
          refine va_get (C := RX1) (T := TX1) (N := 35) (fs := mwF ad σ) (v := .int (σ.1 24)) hx hb hts in_X1 hown hK hP 0 rfl hci 24 (by decide) (hts _ q1695) (fun _ hq => hq) rfl dX1_feed_78 ?_
          refine lv_topi (fun x38 e_x38 => ?_)
          have hf := dz_ls e_x38 hf
          refine lv_iload hx hb dX1_feed_81 (lv_at hl 0 rfl) ?_
          refine lv_bipush (v := 24) hx hb dX1_feed_83 (by decide) ?_
          refine lv_bipush (v := 8) hx hb dX1_feed_85 (by decide) ?_
          refine lv_iload hx hb dX1_feed_87 (lv_at hl 7 rfl) ?_
          refine lv_iconst (v := 4) hx hb dX1_feed_89 (by decide) ?_
          refine lv_irem hx hb dX1_feed_90 (by decide) ?_
          refine lv_topi (fun x39 e_x39 => ?_)
          have hf := dz_ls e_x39 hf
          refine lv_imul hx hb dX1_feed_91 ?_
          refine lv_isub hx hb dX1_feed_92 ?_
          refine lv_ishr hx hb dX1_feed_93 ?_
          refine lv_sipush (v := 255) hx hb dX1_feed_94 (by decide) ?_
          refine lv_iand hx hb dX1_feed_97 ?_
          refine lv_topi (fun x40 e_x40 => ?_)
          have hf := dz_ls e_x40 hf
          obtain ⟨g41, hf⟩ := dz_go hf
          refine va_iast hx hb hK hP hD hS 21 0 rfl rfl g41 dX1_feed_98 (fun H locs hP1 _ hS => ?_)
          obtain ⟨s42, e_s42, hf⟩ := dz_lo hf
          have hP : va_P D cl (mw ci h ad cA s42) H := by rw [e_s42]; exact hP1
          clear hP1; replace hD := mw_D s42 hD
          refine lv_aload_n hx hb dX1_feed_99 rfl (lv_at hl 1 rfl) ?_
          refine lv_dup hx hb dX1_feed_100 rfl ?_
          refine va_get (C := RX1) (T := TX1) (N := 35) (fs := mwF ad s42) (v := .int (s42.1 24)) hx hb hts in_X1 hown hK hP 0 rfl hci 24 (by decide) (hts _ q1695) (fun _ hq => hq) rfl dX1_feed_101 ?_
          refine lv_topi (fun x43 e_x43 => ?_)
          have hf := dz_ls e_x43 hf
          refine lv_iconst (v := 1) hx hb dX1_feed_104 (by decide) ?_
          refine lv_iadd hx hb dX1_feed_105 ?_
          refine lv_topi (fun x44 e_x44 => ?_)
          have hf := dz_ls e_x44 hf
          refine va_put (C := RX1) (T := TX1) (N := 35) (fs := mwF ad s42) hx hb hts in_X1 tyX1 tyX1_ok nmX1 hown hK hP hD hS 0 rfl hci 24 (by decide) (hts _ q1695) (fun _ hq => hq) rfl rfl rfl rfl (Nat.le_of_ble_eq_true rfl) dX1_feed_106 (fun H locs hP1 _ hS => ?_)
          obtain ⟨s45, e_s45, hf⟩ := dz_lo hf
          have hP : va_P D cl (mw ci h ad cA s45) H := by rw [e_s45]; exact hP1
          clear hP1; replace hD := mw_D s45 hD
          obtain ⟨x46, e_x46, hf⟩ := dz_lo hf
          refine lv_iinc (v := x46) (lv' := [(6, .int x46), (7, .int v1), (0, .ref h), (1, .int v1), (2, .int v2), (3, .int v3), (4, .int v4), (5, .int v5)]) hx hb dX1_feed_109 hl (k := 7) rfl (by rw [e_x46]; rfl) (by decide) rfl (fun ls hl => ?_)
          refine lv_goto (tgt := 18) hx hb dX1_feed_112 (by decide) ?_
          exact ih v1 v2 v3 v4 v5 x46 s45 H locs hP hD hS ls (lv_sub hl [2, 3, 4, 5, 6, 7, 0] rfl) hf
set_option maxHeartbeats 4000000 in
set_option maxRecDepth 100000 in
theorem mtX1_feed (l : Launch) (D : va_G) (cl : List vw_C) (ci : Nat) (hci : cl[ci]? = some (RX1, TX1, 35)) (h : Nat) (ad : Nat → Nat) (cA : Nat → ClassId) (sz : Nat) (σ : pM) (a0 : Int32) (a1 : Int32) (a2 : Int32) (a3 : Int32) (a4 : Int32) (K : Nat) (res : (Int32 × pM)) (hf : fnX1_feed K a0 a1 a2 a3 a4 σ = some res) : Met l yX1_feed (ws_ yX1_feed cX1_feed 8 (some .int)) ({ frames := 0, cells := 0, slots := 0, locals := 0 }) (mPc D cl ci h ad cA sz σ [.ref h, .int a0, .int a1, .int a2, .int a3, .int a4]) (mQi D cl ci h ad cA (va_A (mw ci h ad cA σ) sz) res) 0 0 (va_A (mw ci h ad cA σ) sz) := by
  refine Met.ofW (cc := cX1_feed) (maxL := 8) (ret := some .int) (by decide +kernel) rfl ?_
  intro p e s m args below meth c s₁ B hml hv
  obtain ⟨rfl, hsz, hP, hK, hD0⟩ := hv
  have hx := B.exec
  have hb := B.bytes
  have hr := B.returns
  have hts := atoms_spec (ws := ws_ yX1_feed cX1_feed 8 (some .int)) B.pre
  have hts : ∀ w ∈ lw_all, w.before _ s = true := fun w h => hts w (List.mem_cons_of_mem _ h)
  have hown : s.vm.findClass RX1 = some m.cls := findClass_of_methodNamed B.named
  have hlocks := B.notSynchronized
  subst hsz
  have hD := hD0.self (sz := s.heap.size)
  generalize hAe : va_A (mw ci h ad cA σ) s.heap.size = A at hD ⊢
  have hA : ∀ q : Nat, s.heap.size ≤ q → A q := fun q h => by rw [← hAe]; exact Or.inr h
  clear hAe hD0
  have hS : va_S A s.heap s.heap [] := va_S.rf
  generalize hHe : s.heap = H at hP hS ⊢
  have hS : va_S A s.heap H [] := by rw [hHe]; exact hS
  generalize ([] : List Loc) = locs at hS ⊢
  have hl := lv_entry ([.ref h, .int a0, .int a1, .int a2, .int a3, .int a4]) (n := 8) (Nat.le_of_ble_eq_true rfl)
  rw [lg_entry_eq]
  generalize (lg_sl ([.ref h, .int a0, .int a1, .int a2, .int a3, .int a4]) ++ List.replicate (8 - (lg_sl ([.ref h, .int a0, .int a1, .int a2, .int a3, .int a4])).length) Slot.unset).toArray = ls at hl ⊢
  have hl : lv_has ls 8 [(0, .ref h), (1, .int a0), (2, .int a1), (3, .int a2), (4, .int a3), (5, .int a4)] := hl
  have hf : (dz_l (σ.1 24) fun x1 => if (x1 + 20) ≤ (400 : Int32) then ((lfX1_feed K K) a0 a1 a2 a3 a4 0 σ) else (some ((-1), σ)) : Option (Int32 × pM)) = some res := hf
  have ih := wlX1_feed (l := l) (e := e) (below := below) (h := h) (ad := ad) (cA := cA) hci hA hK K res a0 a1 a2 a3 a4 hx hb hr hlocks hml hown hts K
  refine lv_aload_n hx hb dX1_feed_0 rfl (lv_at hl 0 rfl) ?_
  refine va_get (C := RX1) (T := TX1) (N := 35) (fs := mwF ad σ) (v := .int (σ.1 24)) hx hb hts in_X1 hown hK hP 0 rfl hci 24 (by decide) (hts _ q1695) (fun _ hq => hq) rfl dX1_feed_1 ?_
  refine lv_topi (fun x1 e_x1 => ?_)
  have hf := dz_ls e_x1 hf
  refine lv_bipush (v := 20) hx hb dX1_feed_4 (by decide) ?_
  refine lv_iadd hx hb dX1_feed_6 ?_
  refine lv_sipush (v := 400) hx hb dX1_feed_7 (by decide) ?_
  refine lv_icmp_le (tgt := 15) hx hb dX1_feed_10 (by decide) (fun c10 => ?_) (fun c10 => ?_)
  · have hf := dz_t c10 hf
    refine lv_iconst (v := 0) hx hb dX1_feed_15 (by decide) ?_
    refine lv_istore (lv' := [(6, .int 0), (0, .ref h), (1, .int a0), (2, .int a1), (3, .int a2), (4, .int a3), (5, .int a4)]) hx hb dX1_feed_16 hl (by decide) rfl (fun ls hl => ?_)
    exact ih a0 a1 a2 a3 a4 0 σ H locs hP hD hS ls (lv_sub hl [1, 2, 3, 4, 5, 6, 0] rfl) hf
  · have hf := dz_f c10 hf
    refine lv_iconst (v := (-1)) hx hb dX1_feed_13 (by decide) ?_
    exact W.iret (v := (-1)) hx hb hr (fun t ht hW => ⟨⟨(-1), σ, rfl, Option.some.inj hf, by rw [ht]; exact hP, va_K.moved hW.alike hK, hD⟩, hS.F ht⟩) hS.2.2 dX1_feed_14

noncomputable def fnX1_back (K : Nat) (a0 : Int32) (σ : pM) : Option (Int32 × pM) := dz_l (σ.1 24) fun x1 => dz_b (fnX1_in K (Int32.toInt64 a0) 0 (Int32.toInt64 x1)) fun x2 => if x2 = (0 : Int32) then (some ((-1), σ)) else (dz_l (σ.1 24) fun x3 => dz_l (x3 - a0) fun x4 => dz_l (mF σ 24 x4) fun s5 => dz_l (s5.1 24) fun x6 => some (x6, s5))
set_option maxHeartbeats 4000000 in
set_option maxRecDepth 100000 in
theorem mtX1_back (l : Launch) (D : va_G) (cl : List vw_C) (ci : Nat) (hci : cl[ci]? = some (RX1, TX1, 35)) (h : Nat) (ad : Nat → Nat) (cA : Nat → ClassId) (sz : Nat) (σ : pM) (a0 : Int32) (K : Nat) (res : (Int32 × pM)) (hf : fnX1_back K a0 σ = some res) : Met l yX1_back (ws_ yX1_back cX1_back 2 (some .int)) ({ frames := 1, cells := 0, slots := 0, locals := 25 }) (mPc D cl ci h ad cA sz σ [.ref h, .int a0]) (mQi D cl ci h ad cA (va_A (mw ci h ad cA σ) sz) res) 0 0 (va_A (mw ci h ad cA σ) sz) := by
  refine Met.ofW (cc := cX1_back) (maxL := 2) (ret := some .int) (by decide +kernel) rfl ?_
  intro p e s m args below meth c s₁ B hml hv
  obtain ⟨rfl, hsz, hP, hK, hD0⟩ := hv
  have hx := B.exec
  have hb := B.bytes
  have hr := B.returns
  have hts := atoms_spec (ws := ws_ yX1_back cX1_back 2 (some .int)) B.pre
  have hts : ∀ w ∈ lw_all, w.before _ s = true := fun w h => hts w (List.mem_cons_of_mem _ h)
  have hown : s.vm.findClass RX1 = some m.cls := findClass_of_methodNamed B.named
  have hlocks := B.notSynchronized
  subst hsz
  have hD := hD0.self (sz := s.heap.size)
  generalize hAe : va_A (mw ci h ad cA σ) s.heap.size = A at hD ⊢
  have hA : ∀ q : Nat, s.heap.size ≤ q → A q := fun q h => by rw [← hAe]; exact Or.inr h
  clear hAe hD0
  have hS : va_S A s.heap s.heap [] := va_S.rf
  generalize hHe : s.heap = H at hP hS ⊢
  have hS : va_S A s.heap H [] := by rw [hHe]; exact hS
  generalize ([] : List Loc) = locs at hS ⊢
  have hl := lv_entry ([.ref h, .int a0]) (n := 2) (Nat.le_of_ble_eq_true rfl)
  rw [lg_entry_eq]
  generalize (lg_sl ([.ref h, .int a0]) ++ List.replicate (2 - (lg_sl ([.ref h, .int a0])).length) Slot.unset).toArray = ls at hl ⊢
  have hl : lv_has ls 2 [(0, .ref h), (1, .int a0)] := hl
  have hf : (dz_l (σ.1 24) fun x1 => dz_b (fnX1_in K (Int32.toInt64 a0) 0 (Int32.toInt64 x1)) fun x2 => if x2 = (0 : Int32) then (some ((-1), σ)) else (dz_l (σ.1 24) fun x3 => dz_l (x3 - a0) fun x4 => dz_l (mF σ 24 x4) fun s5 => dz_l (s5.1 24) fun x6 => some (x6, s5)) : Option (Int32 × pM)) = some res := hf
  refine lv_iload_n hx hb dX1_back_0 rfl (lv_at hl 1 rfl) ?_
  refine lv_i2l hx hb dX1_back_1 (rfl : _ = Int32.toInt64 a0) ?_
  refine lv_lconst (v := 0) hx hb dX1_back_2 rfl ?_
  refine lv_aload_n hx hb dX1_back_3 rfl (lv_at hl 0 rfl) ?_
  refine va_get (C := RX1) (T := TX1) (N := 35) (fs := mwF ad σ) (v := .int (σ.1 24)) hx hb hts in_X1 hown hK hP 0 rfl hci 24 (by decide) (hts _ q1695) (fun _ hq => hq) rfl dX1_back_4 ?_
  refine lv_topi (fun x1 e_x1 => ?_)
  have hf := dz_ls e_x1 hf
  refine lv_i2l hx hb dX1_back_7 (rfl : _ = Int32.toInt64 x1) ?_
  obtain ⟨x2, hx2, hf⟩ := dz_bo hf
  refine va_calli (va_runS (As := [.long (Int32.toInt64 a0), .long 0, .long (Int32.toInt64 x1)]) (rest := []) ⟨hx, hb, hml, hown, hts⟩ (mtX1_in l (Int32.toInt64 a0) 0 (Int32.toInt64 x1) K x2 hx2) (va_cwS 3 hts (lw_S q1783 q1784 q88 q1785) rfl rfl rfl (by decide +kernel) ⟨Nat.le_of_ble_eq_true rfl, Nat.le_of_ble_eq_true rfl⟩) ⟨fun a U g mk q => q, fun U hU hW => ⟨rfl, trivial⟩⟩ rfl rfl hl.1 rfl (lv_room (Nat.le_of_ble_eq_true rfl)) dX1_back_8 ⟨Nat.le_refl _, Nat.le_refl _⟩) hS (fun q _ hq => hq.elim) (fun q hq => hq.elim) (fun r u t H1 locs ht hvm hw hB hz hk hS => ?_)
  replace hw := hw.symm; subst hw
  replace hP := dz_keep hP hk
  clear hB hk hz hvm ht; generalize H1 = H at hP hS ⊢
  refine lv_if_ne (tgt := 16) hx hb dX1_back_11 (by decide) (fun c11 => ?_) (fun c11 => ?_)
  · have hf := dz_f c11 hf
    refine lv_aload_n hx hb dX1_back_16 rfl (lv_at hl 0 rfl) ?_
    refine lv_dup hx hb dX1_back_17 rfl ?_
    refine va_get (C := RX1) (T := TX1) (N := 35) (fs := mwF ad σ) (v := .int (σ.1 24)) hx hb hts in_X1 hown hK hP 0 rfl hci 24 (by decide) (hts _ q1695) (fun _ hq => hq) rfl dX1_back_18 ?_
    refine lv_topi (fun x3 e_x3 => ?_)
    have hf := dz_ls e_x3 hf
    refine lv_iload_n hx hb dX1_back_21 rfl (lv_at hl 1 rfl) ?_
    refine lv_isub hx hb dX1_back_22 ?_
    refine lv_topi (fun x4 e_x4 => ?_)
    have hf := dz_ls e_x4 hf
    refine va_put (C := RX1) (T := TX1) (N := 35) (fs := mwF ad σ) hx hb hts in_X1 tyX1 tyX1_ok nmX1 hown hK hP hD hS 0 rfl hci 24 (by decide) (hts _ q1695) (fun _ hq => hq) rfl rfl rfl rfl (Nat.le_of_ble_eq_true rfl) dX1_back_23 (fun H locs hP1 _ hS => ?_)
    obtain ⟨s5, e_s5, hf⟩ := dz_lo hf
    have hP : va_P D cl (mw ci h ad cA s5) H := by rw [e_s5]; exact hP1
    clear hP1; replace hD := mw_D s5 hD
    refine lv_aload_n hx hb dX1_back_26 rfl (lv_at hl 0 rfl) ?_
    refine va_get (C := RX1) (T := TX1) (N := 35) (fs := mwF ad s5) (v := .int (s5.1 24)) hx hb hts in_X1 hown hK hP 0 rfl hci 24 (by decide) (hts _ q1695) (fun _ hq => hq) rfl dX1_back_27 ?_
    refine lv_topi (fun x6 e_x6 => ?_)
    have hf := dz_ls e_x6 hf
    exact W.iret (v := x6) hx hb hr (fun t ht hW => ⟨⟨x6, s5, rfl, Option.some.inj hf, by rw [ht]; exact hP, va_K.moved hW.alike hK, hD⟩, hS.F ht⟩) hS.2.2 dX1_back_30
  · have hf := dz_t c11 hf
    refine lv_iconst (v := (-1)) hx hb dX1_back_14 (by decide) ?_
    exact W.iret (v := (-1)) hx hb hr (fun t ht hW => ⟨⟨(-1), σ, rfl, Option.some.inj hf, by rw [ht]; exact hP, va_K.moved hW.alike hK, hD⟩, hS.F ht⟩) hS.2.2 dX1_back_15

noncomputable def fnX1_fails (K : Nat)  (σ : pM) : Option pM := dz_l (σ.1 30) fun x1 => if x1 = (-1 : Int32) then (dz_l (σ.1 26) fun x2 => dz_l (mF σ 30 x2) fun s3 => some s3) else (some σ)
set_option maxHeartbeats 4000000 in
set_option maxRecDepth 100000 in
theorem mtX1_fails (l : Launch) (D : va_G) (cl : List vw_C) (ci : Nat) (hci : cl[ci]? = some (RX1, TX1, 35)) (h : Nat) (ad : Nat → Nat) (cA : Nat → ClassId) (sz : Nat) (σ : pM)  (K : Nat) (res : pM) (hf : fnX1_fails K  σ = some res) : Met l yX1_fails (ws_ yX1_fails cX1_fails 1 (none)) ({ frames := 0, cells := 0, slots := 0, locals := 0 }) (mPc D cl ci h ad cA sz σ [.ref h]) (mQv D cl ci h ad cA (va_A (mw ci h ad cA σ) sz) res) 0 0 (va_A (mw ci h ad cA σ) sz) := by
  refine Met.ofW (cc := cX1_fails) (maxL := 1) (ret := none) (by decide +kernel) rfl ?_
  intro p e s m args below meth c s₁ B hml hv
  obtain ⟨rfl, hsz, hP, hK, hD0⟩ := hv
  have hx := B.exec
  have hb := B.bytes
  have hr := B.returns
  have hts := atoms_spec (ws := ws_ yX1_fails cX1_fails 1 (none)) B.pre
  have hts : ∀ w ∈ lw_all, w.before _ s = true := fun w h => hts w (List.mem_cons_of_mem _ h)
  have hown : s.vm.findClass RX1 = some m.cls := findClass_of_methodNamed B.named
  have hlocks := B.notSynchronized
  subst hsz
  have hD := hD0.self (sz := s.heap.size)
  generalize hAe : va_A (mw ci h ad cA σ) s.heap.size = A at hD ⊢
  have hA : ∀ q : Nat, s.heap.size ≤ q → A q := fun q h => by rw [← hAe]; exact Or.inr h
  clear hAe hD0
  have hS : va_S A s.heap s.heap [] := va_S.rf
  generalize hHe : s.heap = H at hP hS ⊢
  have hS : va_S A s.heap H [] := by rw [hHe]; exact hS
  generalize ([] : List Loc) = locs at hS ⊢
  have hl := lv_entry ([.ref h]) (n := 1) (Nat.le_of_ble_eq_true rfl)
  rw [lg_entry_eq]
  generalize (lg_sl ([.ref h]) ++ List.replicate (1 - (lg_sl ([.ref h])).length) Slot.unset).toArray = ls at hl ⊢
  have hl : lv_has ls 1 [(0, .ref h)] := hl
  have hf : (dz_l (σ.1 30) fun x1 => if x1 = (-1 : Int32) then (dz_l (σ.1 26) fun x2 => dz_l (mF σ 30 x2) fun s3 => some s3) else (some σ) : Option pM) = some res := hf
  refine lv_aload_n hx hb dX1_fails_0 rfl (lv_at hl 0 rfl) ?_
  refine va_get (C := RX1) (T := TX1) (N := 35) (fs := mwF ad σ) (v := .int (σ.1 30)) hx hb hts in_X1 hown hK hP 0 rfl hci 30 (by decide) (hts _ q1701) (fun _ hq => hq) rfl dX1_fails_1 ?_
  refine lv_topi (fun x1 e_x1 => ?_)
  have hf := dz_ls e_x1 hf
  refine lv_iconst (v := (-1)) hx hb dX1_fails_4 (by decide) ?_
  refine lv_icmp_ne (tgt := 16) hx hb dX1_fails_5 (by decide) (fun c5 => ?_) (fun c5 => ?_)
  · have hf := dz_f c5 hf
    exact W.vret hx hb hr (fun t ht hW => ⟨⟨σ, rfl, Option.some.inj hf, by rw [ht]; exact hP, va_K.moved hW.alike hK, hD⟩, hS.F ht⟩) hS.2.2 dX1_fails_16
  · have hf := dz_t c5 hf
    refine lv_aload_n hx hb dX1_fails_8 rfl (lv_at hl 0 rfl) ?_
    refine lv_aload_n hx hb dX1_fails_9 rfl (lv_at hl 0 rfl) ?_
    refine va_get (C := RX1) (T := TX1) (N := 35) (fs := mwF ad σ) (v := .int (σ.1 26)) hx hb hts in_X1 hown hK hP 0 rfl hci 26 (by decide) (hts _ q1697) (fun _ hq => hq) rfl dX1_fails_10 ?_
    refine lv_topi (fun x2 e_x2 => ?_)
    have hf := dz_ls e_x2 hf
    refine va_put (C := RX1) (T := TX1) (N := 35) (fs := mwF ad σ) hx hb hts in_X1 tyX1 tyX1_ok nmX1 hown hK hP hD hS 0 rfl hci 30 (by decide) (hts _ q1701) (fun _ hq => hq) rfl rfl rfl rfl (Nat.le_of_ble_eq_true rfl) dX1_fails_13 (fun H locs hP1 _ hS => ?_)
    obtain ⟨s3, e_s3, hf⟩ := dz_lo hf
    have hP : va_P D cl (mw ci h ad cA s3) H := by rw [e_s3]; exact hP1
    clear hP1; replace hD := mw_D s3 hD
    exact W.vret hx hb hr (fun t ht hW => ⟨⟨s3, rfl, Option.some.inj hf, by rw [ht]; exact hP, va_K.moved hW.alike hK, hD⟩, hS.F ht⟩) hS.2.2 dX1_fails_16

noncomputable def fnX1_isLetter (K : Nat) (a0 : Int32) (σ : pM) : Option (Int32 × pM) := dz_l (σ.1 24) fun x1 => if x1 ≤ a0 then (some (0, σ)) else (if ¬ (a0 < 0 ∨ 400 ≤ Int32.toNatClampNeg a0) then (dz_l (σ.2.2.1 23 (Int32.toNatClampNeg a0)) fun x3 => dz_b (fnX1_in K (Int32.toInt64 x3) 97 122) fun x4 => if x4 = (0 : Int32) then (some (0, σ)) else (some (1, σ))) else none)
set_option maxHeartbeats 4000000 in
set_option maxRecDepth 100000 in
theorem mtX1_isLetter (l : Launch) (D : va_G) (cl : List vw_C) (ci : Nat) (hci : cl[ci]? = some (RX1, TX1, 35)) (h : Nat) (ad : Nat → Nat) (cA : Nat → ClassId) (sz : Nat) (σ : pM) (a0 : Int32) (K : Nat) (res : (Int32 × pM)) (hf : fnX1_isLetter K a0 σ = some res) : Met l yX1_isLetter (ws_ yX1_isLetter cX1_isLetter 2 (some .boolean)) ({ frames := 1, cells := 0, slots := 0, locals := 25 }) (mPc D cl ci h ad cA sz σ [.ref h, .int a0]) (mQi D cl ci h ad cA (va_A (mw ci h ad cA σ) sz) res) 0 0 (va_A (mw ci h ad cA σ) sz) := by
  refine Met.ofW (cc := cX1_isLetter) (maxL := 2) (ret := some .boolean) (by decide +kernel) rfl ?_
  intro p e s m args below meth c s₁ B hml hv
  obtain ⟨rfl, hsz, hP, hK, hD0⟩ := hv
  have hx := B.exec
  have hb := B.bytes
  have hr := B.returns
  have hts := atoms_spec (ws := ws_ yX1_isLetter cX1_isLetter 2 (some .boolean)) B.pre
  have hts : ∀ w ∈ lw_all, w.before _ s = true := fun w h => hts w (List.mem_cons_of_mem _ h)
  have hown : s.vm.findClass RX1 = some m.cls := findClass_of_methodNamed B.named
  have hlocks := B.notSynchronized
  subst hsz
  have hD := hD0.self (sz := s.heap.size)
  generalize hAe : va_A (mw ci h ad cA σ) s.heap.size = A at hD ⊢
  have hA : ∀ q : Nat, s.heap.size ≤ q → A q := fun q h => by rw [← hAe]; exact Or.inr h
  clear hAe hD0
  have hS : va_S A s.heap s.heap [] := va_S.rf
  generalize hHe : s.heap = H at hP hS ⊢
  have hS : va_S A s.heap H [] := by rw [hHe]; exact hS
  generalize ([] : List Loc) = locs at hS ⊢
  have hl := lv_entry ([.ref h, .int a0]) (n := 2) (Nat.le_of_ble_eq_true rfl)
  rw [lg_entry_eq]
  generalize (lg_sl ([.ref h, .int a0]) ++ List.replicate (2 - (lg_sl ([.ref h, .int a0])).length) Slot.unset).toArray = ls at hl ⊢
  have hl : lv_has ls 2 [(0, .ref h), (1, .int a0)] := hl
  have hf : (dz_l (σ.1 24) fun x1 => if x1 ≤ a0 then (some (0, σ)) else (if ¬ (a0 < 0 ∨ 400 ≤ Int32.toNatClampNeg a0) then (dz_l (σ.2.2.1 23 (Int32.toNatClampNeg a0)) fun x3 => dz_b (fnX1_in K (Int32.toInt64 x3) 97 122) fun x4 => if x4 = (0 : Int32) then (some (0, σ)) else (some (1, σ))) else none) : Option (Int32 × pM)) = some res := hf
  refine lv_iload_n hx hb dX1_isLetter_0 rfl (lv_at hl 1 rfl) ?_
  refine lv_aload_n hx hb dX1_isLetter_1 rfl (lv_at hl 0 rfl) ?_
  refine va_get (C := RX1) (T := TX1) (N := 35) (fs := mwF ad σ) (v := .int (σ.1 24)) hx hb hts in_X1 hown hK hP 0 rfl hci 24 (by decide) (hts _ q1695) (fun _ hq => hq) rfl dX1_isLetter_2 ?_
  refine lv_topi (fun x1 e_x1 => ?_)
  have hf := dz_ls e_x1 hf
  refine lv_icmp_ge (tgt := 31) hx hb dX1_isLetter_5 (by decide) (fun c5 => ?_) (fun c5 => ?_)
  · have hf := dz_t c5 hf
    refine lv_iconst (v := 0) hx hb dX1_isLetter_31 (by decide) ?_
    exact W.zret (v := 0) hx hb hr rfl (fun t ht hW => ⟨⟨0, σ, rfl, Option.some.inj hf, by rw [ht]; exact hP, va_K.moved hW.alike hK, hD⟩, hS.F ht⟩) hS.2.2 dX1_isLetter_32
  · have hf := dz_f c5 hf
    refine lv_aload_n hx hb dX1_isLetter_8 rfl (lv_at hl 0 rfl) ?_
    refine va_get (C := RX1) (T := TX1) (N := 35) (fs := mwF ad σ) (v := .ref (ad 23)) hx hb hts in_X1 hown hK hP 0 rfl hci 23 (by decide) (hts _ q1694) (fun _ hq => hq) rfl dX1_isLetter_9 ?_
    refine lv_iload_n hx hb dX1_isLetter_12 rfl (lv_at hl 1 rfl) ?_
    obtain ⟨g2, hf⟩ := dz_go hf
    refine va_iald hx hb hK hP 21 0 rfl rfl g2 dX1_isLetter_13 ?_
    refine lv_topi (fun x3 e_x3 => ?_)
    have hf := dz_ls e_x3 hf
    refine lv_i2l hx hb dX1_isLetter_14 (rfl : _ = Int32.toInt64 x3) ?_
    refine lv_ldc2 (v := 97) hx hb hown (hts _ q1956) dX1_isLetter_15 ?_
    refine lv_ldc2 (v := 122) hx hb hown (hts _ q1957) dX1_isLetter_18 ?_
    obtain ⟨x4, hx4, hf⟩ := dz_bo hf
    refine va_calli (va_runS (As := [.long (Int32.toInt64 x3), .long 97, .long 122]) (rest := []) ⟨hx, hb, hml, hown, hts⟩ (mtX1_in l (Int32.toInt64 x3) 97 122 K x4 hx4) (va_cwS 3 hts (lw_S q1783 q1784 q88 q1785) rfl rfl rfl (by decide +kernel) ⟨Nat.le_of_ble_eq_true rfl, Nat.le_of_ble_eq_true rfl⟩) ⟨fun a U g mk q => q, fun U hU hW => ⟨rfl, trivial⟩⟩ rfl rfl hl.1 rfl (lv_room (Nat.le_of_ble_eq_true rfl)) dX1_isLetter_21 ⟨Nat.le_refl _, Nat.le_refl _⟩) hS (fun q _ hq => hq.elim) (fun q hq => hq.elim) (fun r u t H1 locs ht hvm hw hB hz hk hS => ?_)
    replace hw := hw.symm; subst hw
    replace hP := dz_keep hP hk
    clear hB hk hz hvm ht; generalize H1 = H at hP hS ⊢
    refine lv_if_eq (tgt := 31) hx hb dX1_isLetter_24 (by decide) (fun c24 => ?_) (fun c24 => ?_)
    · have hf := dz_t c24 hf
      refine lv_iconst (v := 0) hx hb dX1_isLetter_31 (by decide) ?_
      exact W.zret (v := 0) hx hb hr rfl (fun t ht hW => ⟨⟨0, σ, rfl, Option.some.inj hf, by rw [ht]; exact hP, va_K.moved hW.alike hK, hD⟩, hS.F ht⟩) hS.2.2 dX1_isLetter_32
    · have hf := dz_f c24 hf
      refine lv_iconst (v := 1) hx hb dX1_isLetter_27 (by decide) ?_
      refine lv_goto (tgt := 32) hx hb dX1_isLetter_28 (by decide) ?_
      exact W.zret (v := 1) hx hb hr rfl (fun t ht hW => ⟨⟨1, σ, rfl, Option.some.inj hf, by rw [ht]; exact hP, va_K.moved hW.alike hK, hD⟩, hS.F ht⟩) hS.2.2 dX1_isLetter_32

noncomputable def fnX1_isDigit (K : Nat) (a0 : Int32) (σ : pM) : Option (Int32 × pM) := dz_l (σ.1 24) fun x1 => if x1 ≤ a0 then (some (0, σ)) else (if ¬ (a0 < 0 ∨ 400 ≤ Int32.toNatClampNeg a0) then (dz_l (σ.2.2.1 23 (Int32.toNatClampNeg a0)) fun x3 => dz_b (fnX1_in K (Int32.toInt64 x3) 48 57) fun x4 => if x4 = (0 : Int32) then (some (0, σ)) else (some (1, σ))) else none)
set_option maxHeartbeats 4000000 in
set_option maxRecDepth 100000 in
theorem mtX1_isDigit (l : Launch) (D : va_G) (cl : List vw_C) (ci : Nat) (hci : cl[ci]? = some (RX1, TX1, 35)) (h : Nat) (ad : Nat → Nat) (cA : Nat → ClassId) (sz : Nat) (σ : pM) (a0 : Int32) (K : Nat) (res : (Int32 × pM)) (hf : fnX1_isDigit K a0 σ = some res) : Met l yX1_isDigit (ws_ yX1_isDigit cX1_isDigit 2 (some .boolean)) ({ frames := 1, cells := 0, slots := 0, locals := 25 }) (mPc D cl ci h ad cA sz σ [.ref h, .int a0]) (mQi D cl ci h ad cA (va_A (mw ci h ad cA σ) sz) res) 0 0 (va_A (mw ci h ad cA σ) sz) := by
  refine Met.ofW (cc := cX1_isDigit) (maxL := 2) (ret := some .boolean) (by decide +kernel) rfl ?_
  intro p e s m args below meth c s₁ B hml hv
  obtain ⟨rfl, hsz, hP, hK, hD0⟩ := hv
  have hx := B.exec
  have hb := B.bytes
  have hr := B.returns
  have hts := atoms_spec (ws := ws_ yX1_isDigit cX1_isDigit 2 (some .boolean)) B.pre
  have hts : ∀ w ∈ lw_all, w.before _ s = true := fun w h => hts w (List.mem_cons_of_mem _ h)
  have hown : s.vm.findClass RX1 = some m.cls := findClass_of_methodNamed B.named
  have hlocks := B.notSynchronized
  subst hsz
  have hD := hD0.self (sz := s.heap.size)
  generalize hAe : va_A (mw ci h ad cA σ) s.heap.size = A at hD ⊢
  have hA : ∀ q : Nat, s.heap.size ≤ q → A q := fun q h => by rw [← hAe]; exact Or.inr h
  clear hAe hD0
  have hS : va_S A s.heap s.heap [] := va_S.rf
  generalize hHe : s.heap = H at hP hS ⊢
  have hS : va_S A s.heap H [] := by rw [hHe]; exact hS
  generalize ([] : List Loc) = locs at hS ⊢
  have hl := lv_entry ([.ref h, .int a0]) (n := 2) (Nat.le_of_ble_eq_true rfl)
  rw [lg_entry_eq]
  generalize (lg_sl ([.ref h, .int a0]) ++ List.replicate (2 - (lg_sl ([.ref h, .int a0])).length) Slot.unset).toArray = ls at hl ⊢
  have hl : lv_has ls 2 [(0, .ref h), (1, .int a0)] := hl
  have hf : (dz_l (σ.1 24) fun x1 => if x1 ≤ a0 then (some (0, σ)) else (if ¬ (a0 < 0 ∨ 400 ≤ Int32.toNatClampNeg a0) then (dz_l (σ.2.2.1 23 (Int32.toNatClampNeg a0)) fun x3 => dz_b (fnX1_in K (Int32.toInt64 x3) 48 57) fun x4 => if x4 = (0 : Int32) then (some (0, σ)) else (some (1, σ))) else none) : Option (Int32 × pM)) = some res := hf
  refine lv_iload_n hx hb dX1_isDigit_0 rfl (lv_at hl 1 rfl) ?_
  refine lv_aload_n hx hb dX1_isDigit_1 rfl (lv_at hl 0 rfl) ?_
  refine va_get (C := RX1) (T := TX1) (N := 35) (fs := mwF ad σ) (v := .int (σ.1 24)) hx hb hts in_X1 hown hK hP 0 rfl hci 24 (by decide) (hts _ q1695) (fun _ hq => hq) rfl dX1_isDigit_2 ?_
  refine lv_topi (fun x1 e_x1 => ?_)
  have hf := dz_ls e_x1 hf
  refine lv_icmp_ge (tgt := 31) hx hb dX1_isDigit_5 (by decide) (fun c5 => ?_) (fun c5 => ?_)
  · have hf := dz_t c5 hf
    refine lv_iconst (v := 0) hx hb dX1_isDigit_31 (by decide) ?_
    exact W.zret (v := 0) hx hb hr rfl (fun t ht hW => ⟨⟨0, σ, rfl, Option.some.inj hf, by rw [ht]; exact hP, va_K.moved hW.alike hK, hD⟩, hS.F ht⟩) hS.2.2 dX1_isDigit_32
  · have hf := dz_f c5 hf
    refine lv_aload_n hx hb dX1_isDigit_8 rfl (lv_at hl 0 rfl) ?_
    refine va_get (C := RX1) (T := TX1) (N := 35) (fs := mwF ad σ) (v := .ref (ad 23)) hx hb hts in_X1 hown hK hP 0 rfl hci 23 (by decide) (hts _ q1694) (fun _ hq => hq) rfl dX1_isDigit_9 ?_
    refine lv_iload_n hx hb dX1_isDigit_12 rfl (lv_at hl 1 rfl) ?_
    obtain ⟨g2, hf⟩ := dz_go hf
    refine va_iald hx hb hK hP 21 0 rfl rfl g2 dX1_isDigit_13 ?_
    refine lv_topi (fun x3 e_x3 => ?_)
    have hf := dz_ls e_x3 hf
    refine lv_i2l hx hb dX1_isDigit_14 (rfl : _ = Int32.toInt64 x3) ?_
    refine lv_ldc2 (v := 48) hx hb hown (hts _ q1970) dX1_isDigit_15 ?_
    refine lv_ldc2 (v := 57) hx hb hown (hts _ q1971) dX1_isDigit_18 ?_
    obtain ⟨x4, hx4, hf⟩ := dz_bo hf
    refine va_calli (va_runS (As := [.long (Int32.toInt64 x3), .long 48, .long 57]) (rest := []) ⟨hx, hb, hml, hown, hts⟩ (mtX1_in l (Int32.toInt64 x3) 48 57 K x4 hx4) (va_cwS 3 hts (lw_S q1783 q1784 q88 q1785) rfl rfl rfl (by decide +kernel) ⟨Nat.le_of_ble_eq_true rfl, Nat.le_of_ble_eq_true rfl⟩) ⟨fun a U g mk q => q, fun U hU hW => ⟨rfl, trivial⟩⟩ rfl rfl hl.1 rfl (lv_room (Nat.le_of_ble_eq_true rfl)) dX1_isDigit_21 ⟨Nat.le_refl _, Nat.le_refl _⟩) hS (fun q _ hq => hq.elim) (fun q hq => hq.elim) (fun r u t H1 locs ht hvm hw hB hz hk hS => ?_)
    replace hw := hw.symm; subst hw
    replace hP := dz_keep hP hk
    clear hB hk hz hvm ht; generalize H1 = H at hP hS ⊢
    refine lv_if_eq (tgt := 31) hx hb dX1_isDigit_24 (by decide) (fun c24 => ?_) (fun c24 => ?_)
    · have hf := dz_t c24 hf
      refine lv_iconst (v := 0) hx hb dX1_isDigit_31 (by decide) ?_
      exact W.zret (v := 0) hx hb hr rfl (fun t ht hW => ⟨⟨0, σ, rfl, Option.some.inj hf, by rw [ht]; exact hP, va_K.moved hW.alike hK, hD⟩, hS.F ht⟩) hS.2.2 dX1_isDigit_32
    · have hf := dz_f c24 hf
      refine lv_iconst (v := 1) hx hb dX1_isDigit_27 (by decide) ?_
      refine lv_goto (tgt := 32) hx hb dX1_isDigit_28 (by decide) ?_
      exact W.zret (v := 1) hx hb hr rfl (fun t ht hW => ⟨⟨1, σ, rfl, Option.some.inj hf, by rw [ht]; exact hP, va_K.moved hW.alike hK, hD⟩, hS.F ht⟩) hS.2.2 dX1_isDigit_32

noncomputable def lfX1_wordFrom (K : Nat) : Nat → (Int32 → Int32 → pM → Option (Int32 × pM)) × (Int32 → Int32 → pM → Option (Int32 × pM)) := Nat.rec (motive := fun _ => (Int32 → Int32 → pM → Option (Int32 × pM)) × (Int32 → Int32 → pM → Option (Int32 × pM))) ((fun _ _ _ => none), (fun _ _ _ => none)) (fun _ G => ((fun v2 v3 σ => if v3 ≤ (0 : Int32) then (some (v2, σ)) else (if ¬ (v2 < 0 ∨ 49 ≤ Int32.toNatClampNeg v2) then (dz_l (σ.2.2.1 31 (Int32.toNatClampNeg v2)) fun x2 => if x2 = (0 : Int32) then (dz_l (v3 + (-1)) fun x3 => G.2 v2 x3 σ) else (G.2 v2 v3 σ)) else none)), (fun v2 v3 σ => dz_l (v2 + 1) fun x1 => G.1 x1 v3 σ)))
noncomputable def fnX1_wordFrom (K : Nat) (a0 : Int32) (σ : pM) : Option (Int32 × pM) := (lfX1_wordFrom K K).1 0 a0 σ
set_option maxHeartbeats 4000000 in
set_option maxRecDepth 100000 in
theorem wlX1_wordFrom {p : Program} {l : Launch} {e : Env} {s : State} {m : MethodId} {below : List Frame} {meth : Method} {c : Code} {D : va_G} {cl : List vw_C} {ci : Nat} (hci : cl[ci]? = some (RX1, TX1, 35)) {h : Nat} {ad : Nat → Nat} {cA : Nat → ClassId} {A : Nat → Prop} (hA : ∀ q : Nat, s.heap.size ≤ q → A q) (hK : va_K D cl (mtys cA) s) (K : Nat) (res : (Int32 × pM)) (a0 : Int32) (hx : p.tables.exec = Jvm.exec) (hb : c.code = cX1_wordFrom) (hr : meth.sig.returnType = some .int) (hlocks : meth.locks = false) (hml : c.maxLocals = 4) (hown : s.vm.findClass RX1 = some m.cls) (hts : ∀ w ∈ lw_all, w.before ([.ref h, .int a0] : List Value).toArray s = true) : ∀ k : Nat, (∀ (v2 : Int32) (v3 : Int32) (σ : pM) (H : Heap) (locs : List Loc), va_P D cl (mw ci h ad cA σ) H → va_D A (mw ci h ad cA σ) → va_S A s.heap H locs → ∀ (ls : Array Slot), lv_has ls 4 [(0, .ref h), (2, .int v2), (3, .int v3)] → (lfX1_wordFrom K k).1 v2 v3 σ = some res → W p l e (headSpec (ws_ yX1_wordFrom cX1_wordFrom 4 (some .int)) ({ frames := 0, cells := 0, slots := 0, locals := 0 })).room s m ([.ref h, .int a0] : List Value).toArray below meth c H locs 0 0 (MQ below (mQi D cl ci h ad cA A res) ([.ref h, .int a0] : List Value).toArray s 0 0 A) (F0 m 4 ls [])) ∧ (∀ (v2 : Int32) (v3 : Int32) (σ : pM) (H : Heap) (locs : List Loc), va_P D cl (mw ci h ad cA σ) H → va_D A (mw ci h ad cA σ) → va_S A s.heap H locs → ∀ (ls : Array Slot), lv_has ls 4 [(0, .ref h), (2, .int v2), (3, .int v3)] → (lfX1_wordFrom K k).2 v2 v3 σ = some res → W p l e (headSpec (ws_ yX1_wordFrom cX1_wordFrom 4 (some .int)) ({ frames := 0, cells := 0, slots := 0, locals := 0 })).room s m ([.ref h, .int a0] : List Value).toArray below meth c H locs 0 0 (MQ below (mQi D cl ci h ad cA A res) ([.ref h, .int a0] : List Value).toArray s 0 0 A) (F0 m 20 ls [])) := by
  intro k
  induction k with
  | zero =>
    exact ⟨fun _ _ _ _ _ _ _ _ _ _ hf => (by cases hf), fun _ _ _ _ _ _ _ _ _ _ hf => (by cases hf)⟩
  | succ k ih =>
    refine ⟨?_, ?_⟩
    · intro v2 v3 σ H locs hP hD hS ls hl hf
      have hf : (if v3 ≤ (0 : Int32) then (some (v2, σ)) else (if ¬ (v2 < 0 ∨ 49 ≤ Int32.toNatClampNeg v2) then (dz_l (σ.2.2.1 31 (Int32.toNatClampNeg v2)) fun x2 => if x2 = (0 : Int32) then (dz_l (v3 + (-1)) fun x3 => (lfX1_wordFrom K k).2 v2 x3 σ) else ((lfX1_wordFrom K k).2 v2 v3 σ)) else none) : Option (Int32 × pM)) = some res := hf
      refine lv_iload_n hx hb dX1_wordFrom_4 rfl (lv_at hl 2 rfl) ?_
      refine lv_if_le (tgt := 26) hx hb dX1_wordFrom_5 (by decide) (fun c5 => ?_) (fun c5 => ?_)
      · have hf := dz_t c5 hf
        refine lv_iload_n hx hb dX1_wordFrom_26 rfl (lv_at hl 1 rfl) ?_
        exact W.iret (v := v2) hx hb hr (fun t ht hW => ⟨⟨v2, σ, rfl, Option.some.inj hf, by rw [ht]; exact hP, va_K.moved hW.alike hK, hD⟩, hS.F ht⟩) hS.2.2 dX1_wordFrom_27
      · have hf := dz_f c5 hf
        refine lv_aload_n hx hb dX1_wordFrom_8 rfl (lv_at hl 0 rfl) ?_
        refine va_get (C := RX1) (T := TX1) (N := 35) (fs := mwF ad σ) (v := .ref (ad 31)) hx hb hts in_X1 hown hK hP 0 rfl hci 31 (by decide) (hts _ q1702) (fun _ hq => hq) rfl dX1_wordFrom_9 ?_
        refine lv_iload_n hx hb dX1_wordFrom_12 rfl (lv_at hl 1 rfl) ?_
        obtain ⟨g1, hf⟩ := dz_go hf
        refine va_bald hx hb hK hP 22 3 rfl rfl g1 dX1_wordFrom_13 ?_
        refine lv_topi (fun x2 e_x2 => ?_)
        have hf := dz_ls e_x2 hf
        refine lv_if_ne (tgt := 20) hx hb dX1_wordFrom_14 (by decide) (fun c14 => ?_) (fun c14 => ?_)
        · have hf := dz_f c14 hf
          exact ih.2 v2 v3 σ H locs hP hD hS ls (lv_sub hl [0, 1, 2] rfl) hf
        · have hf := dz_t c14 hf
          obtain ⟨x3, e_x3, hf⟩ := dz_lo hf
          refine lv_iinc (v := x3) (lv' := [(3, .int x3), (0, .ref h), (2, .int v2)]) hx hb dX1_wordFrom_17 hl (k := 2) rfl (by rw [e_x3]; rfl) (by decide) rfl (fun ls hl => ?_)
          exact ih.2 v2 x3 σ H locs hP hD hS ls (lv_sub hl [1, 2, 0] rfl) hf
    · intro v2 v3 σ H locs hP hD hS ls hl hf
      have hf : (dz_l (v2 + 1) fun x1 => (lfX1_wordFrom K k).1 x1 v3 σ : Option (Int32 × pM)) = some res := hf
      obtain ⟨x1, e_x1, hf⟩ := dz_lo hf
      refine lv_iinc (v := x1) (lv' := [(2, .int x1), (0, .ref h), (3, .int v3)]) hx hb dX1_wordFrom_20 hl (k := 1) rfl (by rw [e_x1]; rfl) (by decide) rfl (fun ls hl => ?_)
      refine lv_goto (tgt := 4) hx hb dX1_wordFrom_23 (by decide) ?_
      exact ih.1 x1 v3 σ H locs hP hD hS ls (lv_sub hl [1, 0, 2] rfl) hf
set_option maxHeartbeats 4000000 in
set_option maxRecDepth 100000 in
theorem mtX1_wordFrom (l : Launch) (D : va_G) (cl : List vw_C) (ci : Nat) (hci : cl[ci]? = some (RX1, TX1, 35)) (h : Nat) (ad : Nat → Nat) (cA : Nat → ClassId) (sz : Nat) (σ : pM) (a0 : Int32) (K : Nat) (res : (Int32 × pM)) (hf : fnX1_wordFrom K a0 σ = some res) : Met l yX1_wordFrom (ws_ yX1_wordFrom cX1_wordFrom 4 (some .int)) ({ frames := 0, cells := 0, slots := 0, locals := 0 }) (mPc D cl ci h ad cA sz σ [.ref h, .int a0]) (mQi D cl ci h ad cA (va_A (mw ci h ad cA σ) sz) res) 0 0 (va_A (mw ci h ad cA σ) sz) := by
  refine Met.ofW (cc := cX1_wordFrom) (maxL := 4) (ret := some .int) (by decide +kernel) rfl ?_
  intro p e s m args below meth c s₁ B hml hv
  obtain ⟨rfl, hsz, hP, hK, hD0⟩ := hv
  have hx := B.exec
  have hb := B.bytes
  have hr := B.returns
  have hts := atoms_spec (ws := ws_ yX1_wordFrom cX1_wordFrom 4 (some .int)) B.pre
  have hts : ∀ w ∈ lw_all, w.before _ s = true := fun w h => hts w (List.mem_cons_of_mem _ h)
  have hown : s.vm.findClass RX1 = some m.cls := findClass_of_methodNamed B.named
  have hlocks := B.notSynchronized
  subst hsz
  have hD := hD0.self (sz := s.heap.size)
  generalize hAe : va_A (mw ci h ad cA σ) s.heap.size = A at hD ⊢
  have hA : ∀ q : Nat, s.heap.size ≤ q → A q := fun q h => by rw [← hAe]; exact Or.inr h
  clear hAe hD0
  have hS : va_S A s.heap s.heap [] := va_S.rf
  generalize hHe : s.heap = H at hP hS ⊢
  have hS : va_S A s.heap H [] := by rw [hHe]; exact hS
  generalize ([] : List Loc) = locs at hS ⊢
  have hl := lv_entry ([.ref h, .int a0]) (n := 4) (Nat.le_of_ble_eq_true rfl)
  rw [lg_entry_eq]
  generalize (lg_sl ([.ref h, .int a0]) ++ List.replicate (4 - (lg_sl ([.ref h, .int a0])).length) Slot.unset).toArray = ls at hl ⊢
  have hl : lv_has ls 4 [(0, .ref h), (1, .int a0)] := hl
  have hf : ((lfX1_wordFrom K K).1 0 a0 σ : Option (Int32 × pM)) = some res := hf
  have ih := wlX1_wordFrom (l := l) (e := e) (below := below) (h := h) (ad := ad) (cA := cA) hci hA hK K res a0 hx hb hr hlocks hml hown hts K
  refine lv_iconst (v := 0) hx hb dX1_wordFrom_0 (by decide) ?_
  refine lv_istore_n (lv' := [(2, .int 0), (0, .ref h), (1, .int a0)]) hx hb dX1_wordFrom_1 rfl hl (by decide) rfl (fun ls hl => ?_)
  refine lv_iload_n hx hb dX1_wordFrom_2 rfl (lv_at hl 2 rfl) ?_
  refine lv_istore_n (lv' := [(3, .int a0), (2, .int 0), (0, .ref h), (1, .int a0)]) hx hb dX1_wordFrom_3 rfl hl (by decide) rfl (fun ls hl => ?_)
  exact ih.1 0 a0 σ H locs hP hD hS ls (lv_sub hl [2, 1, 0] rfl) hf

