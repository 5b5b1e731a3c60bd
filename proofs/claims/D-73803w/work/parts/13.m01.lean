noncomputable def lfX1_turns (K : Nat) : Nat → (Int32 → Int32 → Int32 → Int32 → Int32 → pM → Option pM) × (Int32 → Int32 → Int32 → Int32 → Int32 → pM → Option pM) := Nat.rec (motive := fun _ => (Int32 → Int32 → Int32 → Int32 → Int32 → pM → Option pM) × (Int32 → Int32 → Int32 → Int32 → Int32 → pM → Option pM)) ((fun _ _ _ _ _ _ => none), (fun _ _ _ _ _ _ => none)) (fun _ G => ((fun v1 v2 v3 v4 v5 σ => dz_c (fnX1_isEnough K v1 σ) fun x1 s2 => if x1 = (0 : Int32) then (if v5 = (0 : Int32) then (if (0 : Int32) ≤ v3 then (if (0 : Int32) = 0 then (dz_b (fnX1_laysFactors K ((Int32.toInt64 v2) - 1) s2) fun s4 => if (0 : Int32) = 0 then (dz_b (fnX1_rowsOf K v1 0 v3 2 s4) fun s6 => if (0 : Int32) = 0 then (dz_l (v3 + (-1)) fun x7 => G.2 v1 v2 x7 v4 0 s6) else (dz_l (v4 + (-1)) fun x8 => G.2 v1 v2 v3 x8 0 s6)) else (dz_b (fnX1_rowsOf K v1 0 v4 2 s4) fun s10 => if (0 : Int32) = 0 then (dz_l (v3 + (-1)) fun x11 => G.2 v1 v2 x11 v4 0 s10) else (dz_l (v4 + (-1)) fun x12 => G.2 v1 v2 v3 x12 0 s10))) else (dz_b (fnX1_laysFactors K ((Int32.toInt64 v2) + 1) s2) fun s14 => if (0 : Int32) = 0 then (dz_b (fnX1_rowsOf K v1 0 v3 2 s14) fun s16 => if (0 : Int32) = 0 then (dz_l (v3 + (-1)) fun x17 => G.2 v1 v2 x17 v4 0 s16) else (dz_l (v4 + (-1)) fun x18 => G.2 v1 v2 v3 x18 0 s16)) else (dz_b (fnX1_rowsOf K v1 0 v4 2 s14) fun s20 => if (0 : Int32) = 0 then (dz_l (v3 + (-1)) fun x21 => G.2 v1 v2 x21 v4 0 s20) else (dz_l (v4 + (-1)) fun x22 => G.2 v1 v2 v3 x22 0 s20)))) else (if (1 : Int32) = 0 then (dz_b (fnX1_laysFactors K ((Int32.toInt64 v2) - 1) s2) fun s24 => if (1 : Int32) = 0 then (dz_b (fnX1_rowsOf K v1 1 v3 2 s24) fun s26 => if (1 : Int32) = 0 then (dz_l (v3 + (-1)) fun x27 => G.2 v1 v2 x27 v4 1 s26) else (dz_l (v4 + (-1)) fun x28 => G.2 v1 v2 v3 x28 1 s26)) else (dz_b (fnX1_rowsOf K v1 1 v4 2 s24) fun s30 => if (1 : Int32) = 0 then (dz_l (v3 + (-1)) fun x31 => G.2 v1 v2 x31 v4 1 s30) else (dz_l (v4 + (-1)) fun x32 => G.2 v1 v2 v3 x32 1 s30))) else (dz_b (fnX1_laysFactors K ((Int32.toInt64 v2) + 1) s2) fun s34 => if (1 : Int32) = 0 then (dz_b (fnX1_rowsOf K v1 1 v3 2 s34) fun s36 => if (1 : Int32) = 0 then (dz_l (v3 + (-1)) fun x37 => G.2 v1 v2 x37 v4 1 s36) else (dz_l (v4 + (-1)) fun x38 => G.2 v1 v2 v3 x38 1 s36)) else (dz_b (fnX1_rowsOf K v1 1 v4 2 s34) fun s40 => if (1 : Int32) = 0 then (dz_l (v3 + (-1)) fun x41 => G.2 v1 v2 x41 v4 1 s40) else (dz_l (v4 + (-1)) fun x42 => G.2 v1 v2 v3 x42 1 s40))))) else (if v4 < (0 : Int32) then (if (0 : Int32) = 0 then (dz_b (fnX1_laysFactors K ((Int32.toInt64 v2) - 1) s2) fun s44 => if (0 : Int32) = 0 then (dz_b (fnX1_rowsOf K v1 0 v3 2 s44) fun s46 => if (0 : Int32) = 0 then (dz_l (v3 + (-1)) fun x47 => G.2 v1 v2 x47 v4 0 s46) else (dz_l (v4 + (-1)) fun x48 => G.2 v1 v2 v3 x48 0 s46)) else (dz_b (fnX1_rowsOf K v1 0 v4 2 s44) fun s50 => if (0 : Int32) = 0 then (dz_l (v3 + (-1)) fun x51 => G.2 v1 v2 x51 v4 0 s50) else (dz_l (v4 + (-1)) fun x52 => G.2 v1 v2 v3 x52 0 s50))) else (dz_b (fnX1_laysFactors K ((Int32.toInt64 v2) + 1) s2) fun s54 => if (0 : Int32) = 0 then (dz_b (fnX1_rowsOf K v1 0 v3 2 s54) fun s56 => if (0 : Int32) = 0 then (dz_l (v3 + (-1)) fun x57 => G.2 v1 v2 x57 v4 0 s56) else (dz_l (v4 + (-1)) fun x58 => G.2 v1 v2 v3 x58 0 s56)) else (dz_b (fnX1_rowsOf K v1 0 v4 2 s54) fun s60 => if (0 : Int32) = 0 then (dz_l (v3 + (-1)) fun x61 => G.2 v1 v2 x61 v4 0 s60) else (dz_l (v4 + (-1)) fun x62 => G.2 v1 v2 v3 x62 0 s60)))) else (if (1 : Int32) = 0 then (dz_b (fnX1_laysFactors K ((Int32.toInt64 v2) - 1) s2) fun s64 => if (1 : Int32) = 0 then (dz_b (fnX1_rowsOf K v1 1 v3 2 s64) fun s66 => if (1 : Int32) = 0 then (dz_l (v3 + (-1)) fun x67 => G.2 v1 v2 x67 v4 1 s66) else (dz_l (v4 + (-1)) fun x68 => G.2 v1 v2 v3 x68 1 s66)) else (dz_b (fnX1_rowsOf K v1 1 v4 2 s64) fun s70 => if (1 : Int32) = 0 then (dz_l (v3 + (-1)) fun x71 => G.2 v1 v2 x71 v4 1 s70) else (dz_l (v4 + (-1)) fun x72 => G.2 v1 v2 v3 x72 1 s70))) else (dz_b (fnX1_laysFactors K ((Int32.toInt64 v2) + 1) s2) fun s74 => if (1 : Int32) = 0 then (dz_b (fnX1_rowsOf K v1 1 v3 2 s74) fun s76 => if (1 : Int32) = 0 then (dz_l (v3 + (-1)) fun x77 => G.2 v1 v2 x77 v4 1 s76) else (dz_l (v4 + (-1)) fun x78 => G.2 v1 v2 v3 x78 1 s76)) else (dz_b (fnX1_rowsOf K v1 1 v4 2 s74) fun s80 => if (1 : Int32) = 0 then (dz_l (v3 + (-1)) fun x81 => G.2 v1 v2 x81 v4 1 s80) else (dz_l (v4 + (-1)) fun x82 => G.2 v1 v2 v3 x82 1 s80)))))) else (some s2)), (fun v1 v2 v3 v4 v6 σ => if v6 = (0 : Int32) then (G.1 v1 v2 v3 v4 1 σ) else (G.1 v1 v2 v3 v4 0 σ))))
noncomputable def fnX1_turns (K : Nat) (a0 : Int32) (a1 : Int32) (σ : pM) : Option pM := dz_b (fnX1_laysFactors K ((Int32.toInt64 a1) - 1) σ) fun s2 => dz_l (s2.1 6) fun x3 => dz_l (x3 - 1) fun x4 => dz_b (fnX1_laysFactors K ((Int32.toInt64 a1) + 1) s2) fun s6 => dz_l (s6.1 6) fun x7 => dz_l (x7 - 1) fun x8 => (lfX1_turns K K).1 a0 a1 x4 x8 0 s6
set_option maxHeartbeats 4000000 in
set_option maxRecDepth 100000 in
theorem wlX1_turns {p : Program} {l : Launch} {e : Env} {s : State} {m : MethodId} {below : List Frame} {meth : Method} {c : Code} {D : va_G} {cl : List vw_C} {ci : Nat} (hci : cl[ci]? = some (RX1, TX1, 35)) {h : Nat} {ad : Nat → Nat} {cA : Nat → ClassId} {A : Nat → Prop} (hA : ∀ q : Nat, s.heap.size ≤ q → A q) (hK : va_K D cl (mtys cA) s) (K : Nat) (res : pM) (a0 : Int32) (a1 : Int32) (hx : p.tables.exec = Jvm.exec) (hb : c.code = cX1_turns) (hr : meth.sig.returnType = none) (hlocks : meth.locks = false) (hml : c.maxLocals = 7) (hown : s.vm.findClass RX1 = some m.cls) (hts : ∀ w ∈ lw_all, w.before ([.ref h, .int a0, .int a1] : List Value).toArray s = true) : ∀ k : Nat, (∀ (v1 : Int32) (v2 : Int32) (v3 : Int32) (v4 : Int32) (v5 : Int32) (σ : pM) (H : Heap) (locs : List Loc), va_P D cl (mw ci h ad cA σ) H → va_D A (mw ci h ad cA σ) → va_S A s.heap H locs → ∀ (ls : Array Slot), lv_has ls 7 [(0, .ref h), (1, .int v1), (2, .int v2), (3, .int v3), (4, .int v4), (5, .int v5)] → (lfX1_turns K k).1 v1 v2 v3 v4 v5 σ = some res → W p l e (headSpec (ws_ yX1_turns cX1_turns 7 (none)) ({ frames := 3, cells := 0, slots := 0, locals := 81 })).room s m ([.ref h, .int a0, .int a1] : List Value).toArray below meth c H locs 0 0 (MQ below (mQv D cl ci h ad cA A res) ([.ref h, .int a0, .int a1] : List Value).toArray s 0 0 A) (F0 m 34 ls [])) ∧ (∀ (v1 : Int32) (v2 : Int32) (v3 : Int32) (v4 : Int32) (v6 : Int32) (σ : pM) (H : Heap) (locs : List Loc), va_P D cl (mw ci h ad cA σ) H → va_D A (mw ci h ad cA σ) → va_S A s.heap H locs → ∀ (ls : Array Slot), lv_has ls 7 [(0, .ref h), (1, .int v1), (2, .int v2), (3, .int v3), (4, .int v4), (6, .int v6)] → (lfX1_turns K k).2 v1 v2 v3 v4 v6 σ = some res → W p l e (headSpec (ws_ yX1_turns cX1_turns 7 (none)) ({ frames := 3, cells := 0, slots := 0, locals := 81 })).room s m ([.ref h, .int a0, .int a1] : List Value).toArray below meth c H locs 0 0 (MQ below (mQv D cl ci h ad cA A res) ([.ref h, .int a0, .int a1] : List Value).toArray s 0 0 A) (F0 m 124 ls [])) := by
  intro k
  induction k with
  | zero =>
    exact ⟨fun _ _ _ _ _ _ _ _ _ _ _ _ _ hf => (by cases hf), fun _ _ _ _ _ _ _ _ _ _ _ _ _ hf => (by cases hf)⟩
  | succ k ih =>
    refine ⟨?_, ?_⟩
    · intro v1 v2 v3 v4 v5 σ H locs hP hD hS ls hl hf
      have hf : (dz_c (fnX1_isEnough K v1 σ) fun x1 s2 => if x1 = (0 : Int32) then (if v5 = (0 : Int32) then (if (0 : Int32) ≤ v3 then (if (0 : Int32) = 0 then (dz_b (fnX1_laysFactors K ((Int32.toInt64 v2) - 1) s2) fun s4 => if (0 : Int32) = 0 then (dz_b (fnX1_rowsOf K v1 0 v3 2 s4) fun s6 => if (0 : Int32) = 0 then (dz_l (v3 + (-1)) fun x7 => (lfX1_turns K k).2 v1 v2 x7 v4 0 s6) else (dz_l (v4 + (-1)) fun x8 => (lfX1_turns K k).2 v1 v2 v3 x8 0 s6)) else (dz_b (fnX1_rowsOf K v1 0 v4 2 s4) fun s10 => if (0 : Int32) = 0 then (dz_l (v3 + (-1)) fun x11 => (lfX1_turns K k).2 v1 v2 x11 v4 0 s10) else (dz_l (v4 + (-1)) fun x12 => (lfX1_turns K k).2 v1 v2 v3 x12 0 s10))) else (dz_b (fnX1_laysFactors K ((Int32.toInt64 v2) + 1) s2) fun s14 => if (0 : Int32) = 0 then (dz_b (fnX1_rowsOf K v1 0 v3 2 s14) fun s16 => if (0 : Int32) = 0 then (dz_l (v3 + (-1)) fun x17 => (lfX1_turns K k).2 v1 v2 x17 v4 0 s16) else (dz_l (v4 + (-1)) fun x18 => (lfX1_turns K k).2 v1 v2 v3 x18 0 s16)) else (dz_b (fnX1_rowsOf K v1 0 v4 2 s14) fun s20 => if (0 : Int32) = 0 then (dz_l (v3 + (-1)) fun x21 => (lfX1_turns K k).2 v1 v2 x21 v4 0 s20) else (dz_l (v4 + (-1)) fun x22 => (lfX1_turns K k).2 v1 v2 v3 x22 0 s20)))) else (if (1 : Int32) = 0 then (dz_b (fnX1_laysFactors K ((Int32.toInt64 v2) - 1) s2) fun s24 => if (1 : Int32) = 0 then (dz_b (fnX1_rowsOf K v1 1 v3 2 s24) fun s26 => if (1 : Int32) = 0 then (dz_l (v3 + (-1)) fun x27 => (lfX1_turns K k).2 v1 v2 x27 v4 1 s26) else (dz_l (v4 + (-1)) fun x28 => (lfX1_turns K k).2 v1 v2 v3 x28 1 s26)) else (dz_b (fnX1_rowsOf K v1 1 v4 2 s24) fun s30 => if (1 : Int32) = 0 then (dz_l (v3 + (-1)) fun x31 => (lfX1_turns K k).2 v1 v2 x31 v4 1 s30) else (dz_l (v4 + (-1)) fun x32 => (lfX1_turns K k).2 v1 v2 v3 x32 1 s30))) else (dz_b (fnX1_laysFactors K ((Int32.toInt64 v2) + 1) s2) fun s34 => if (1 : Int32) = 0 then (dz_b (fnX1_rowsOf K v1 1 v3 2 s34) fun s36 => if (1 : Int32) = 0 then (dz_l (v3 + (-1)) fun x37 => (lfX1_turns K k).2 v1 v2 x37 v4 1 s36) else (dz_l (v4 + (-1)) fun x38 => (lfX1_turns K k).2 v1 v2 v3 x38 1 s36)) else (dz_b (fnX1_rowsOf K v1 1 v4 2 s34) fun s40 => if (1 : Int32) = 0 then (dz_l (v3 + (-1)) fun x41 => (lfX1_turns K k).2 v1 v2 x41 v4 1 s40) else (dz_l (v4 + (-1)) fun x42 => (lfX1_turns K k).2 v1 v2 v3 x42 1 s40))))) else (if v4 < (0 : Int32) then (if (0 : Int32) = 0 then (dz_b (fnX1_laysFactors K ((Int32.toInt64 v2) - 1) s2) fun s44 => if (0 : Int32) = 0 then (dz_b (fnX1_rowsOf K v1 0 v3 2 s44) fun s46 => if (0 : Int32) = 0 then (dz_l (v3 + (-1)) fun x47 => (lfX1_turns K k).2 v1 v2 x47 v4 0 s46) else (dz_l (v4 + (-1)) fun x48 => (lfX1_turns K k).2 v1 v2 v3 x48 0 s46)) else (dz_b (fnX1_rowsOf K v1 0 v4 2 s44) fun s50 => if (0 : Int32) = 0 then (dz_l (v3 + (-1)) fun x51 => (lfX1_turns K k).2 v1 v2 x51 v4 0 s50) else (dz_l (v4 + (-1)) fun x52 => (lfX1_turns K k).2 v1 v2 v3 x52 0 s50))) else (dz_b (fnX1_laysFactors K ((Int32.toInt64 v2) + 1) s2) fun s54 => if (0 : Int32) = 0 then (dz_b (fnX1_rowsOf K v1 0 v3 2 s54) fun s56 => if (0 : Int32) = 0 then (dz_l (v3 + (-1)) fun x57 => (lfX1_turns K k).2 v1 v2 x57 v4 0 s56) else (dz_l (v4 + (-1)) fun x58 => (lfX1_turns K k).2 v1 v2 v3 x58 0 s56)) else (dz_b (fnX1_rowsOf K v1 0 v4 2 s54) fun s60 => if (0 : Int32) = 0 then (dz_l (v3 + (-1)) fun x61 => (lfX1_turns K k).2 v1 v2 x61 v4 0 s60) else (dz_l (v4 + (-1)) fun x62 => (lfX1_turns K k).2 v1 v2 v3 x62 0 s60)))) else (if (1 : Int32) = 0 then (dz_b (fnX1_laysFactors K ((Int32.toInt64 v2) - 1) s2) fun s64 => if (1 : Int32) = 0 then (dz_b (fnX1_rowsOf K v1 1 v3 2 s64) fun s66 => if (1 : Int32) = 0 then (dz_l (v3 + (-1)) fun x67 => (lfX1_turns K k).2 v1 v2 x67 v4 1 s66) else (dz_l (v4 + (-1)) fun x68 => (lfX1_turns K k).2 v1 v2 v3 x68 1 s66)) else (dz_b (fnX1_rowsOf K v1 1 v4 2 s64) fun s70 => if (1 : Int32) = 0 then (dz_l (v3 + (-1)) fun x71 => (lfX1_turns K k).2 v1 v2 x71 v4 1 s70) else (dz_l (v4 + (-1)) fun x72 => (lfX1_turns K k).2 v1 v2 v3 x72 1 s70))) else (dz_b (fnX1_laysFactors K ((Int32.toInt64 v2) + 1) s2) fun s74 => if (1 : Int32) = 0 then (dz_b (fnX1_rowsOf K v1 1 v3 2 s74) fun s76 => if (1 : Int32) = 0 then (dz_l (v3 + (-1)) fun x77 => (lfX1_turns K k).2 v1 v2 x77 v4 1 s76) else (dz_l (v4 + (-1)) fun x78 => (lfX1_turns K k).2 v1 v2 v3 x78 1 s76)) else (dz_b (fnX1_rowsOf K v1 1 v4 2 s74) fun s80 => if (1 : Int32) = 0 then (dz_l (v3 + (-1)) fun x81 => (lfX1_turns K k).2 v1 v2 x81 v4 1 s80) else (dz_l (v4 + (-1)) fun x82 => (lfX1_turns K k).2 v1 v2 v3 x82 1 s80)))))) else (some s2) : Option pM) = some res := hf
      refine lv_aload_n hx hb dX1_turns_34 rfl (lv_at hl 0 rfl) ?_
      refine lv_iload_n hx hb dX1_turns_35 rfl (lv_at hl 1 rfl) ?_
      obtain ⟨x1, s2, hx1, hf⟩ := dz_co hf
      have hFc := dz_free hD hS hA
      refine va_calli (va_runV (As := [.int v1]) (rest := []) ⟨hx, hb, hml, hown, hts⟩ (mtX1_isEnough l D cl ci hci h ad cA H.size σ v1 K (x1, s2) hx1) (cwV 1 hts (lw_V q1830 q1832 qs44 q88 q1833) rfl rfl rfl (by decide +kernel) ⟨Nat.le_of_ble_eq_true rfl, Nat.le_of_ble_eq_true rfl⟩) (m_preV hci hK hP hD) rfl rfl hl.1 rfl (lv_room (Nat.le_of_ble_eq_true rfl)) dX1_turns_36 ⟨Nat.le_refl _, Nat.le_refl _⟩) hS (fun q _ hq => hFc q hq) hFc (fun r u t H1 locs ht hvm hw hB hz hk hS => ?_)
      obtain ⟨hw1, hw2⟩ := Prod.mk.inj hw.symm; subst hw1; subst hw2
      replace hP := m_back ht hB
      replace hD := mw_D s2 hD
      clear hB hk hz hvm ht hFc; generalize H1 = H at hP hS ⊢
      refine lv_if_ne (tgt := 139) hx hb dX1_turns_39 (by decide) (fun c39 => ?_) (fun c39 => ?_)
      · have hf := dz_f c39 hf
        exact W.vret hx hb hr (fun t ht hW => ⟨⟨s2, rfl, Option.some.inj hf, by rw [ht]; exact hP, va_K.moved hW.alike hK, hD⟩, hS.F ht⟩) hS.2.2 dX1_turns_139
      · have hf := dz_t c39 hf
        refine lv_iload hx hb dX1_turns_42 (lv_at hl 5 rfl) ?_
        refine lv_if_eq (tgt := 60) hx hb dX1_turns_44 (by decide) (fun c44 => ?_) (fun c44 => ?_)
        · have hf := dz_t c44 hf
          refine lv_iload_n hx hb dX1_turns_60 rfl (lv_at hl 3 rfl) ?_
          refine lv_if_ge (tgt := 68) hx hb dX1_turns_61 (by decide) (fun c61 => ?_) (fun c61 => ?_)
          · have hf := dz_t c61 hf
            refine lv_iconst (v := 0) hx hb dX1_turns_68 (by decide) ?_
            refine lv_istore (lv' := [(6, .int 0), (0, .ref h), (1, .int v1), (2, .int v2), (3, .int v3), (4, .int v4), (5, .int v5)]) hx hb dX1_turns_69 hl (by decide) rfl (fun ls hl => ?_)
            refine lv_aload_n hx hb dX1_turns_71 rfl (lv_at hl 1 rfl) ?_
            refine lv_iload hx hb dX1_turns_72 (lv_at hl 0 rfl) ?_
            refine lv_if_eq (tgt := 84) hx hb dX1_turns_74 (by decide) (fun c74 => ?_) (fun c74 => ?_)
            · have hf := dz_t c74 hf
              refine lv_iload_n hx hb dX1_turns_84 rfl (lv_at hl 3 rfl) ?_
              refine lv_i2l hx hb dX1_turns_85 (rfl : _ = Int32.toInt64 v2) ?_
              refine lv_lconst (v := 1) hx hb dX1_turns_86 rfl ?_
              refine lv_lsub hx hb dX1_turns_87 ?_
              obtain ⟨s4, hx3, hf⟩ := dz_bo hf
              have hFc := dz_free hD hS hA
              refine va_callv (va_runV (As := [.long ((Int32.toInt64 v2) - 1)]) (rest := []) ⟨hx, hb, hml, hown, hts⟩ (mtX1_laysFactors l D cl ci hci h ad cA H.size s2 ((Int32.toInt64 v2) - 1) K s4 hx3) (cwV 1 hts (lw_V q1883 q1885 qs51 q88 q1886) rfl rfl rfl (by decide +kernel) ⟨Nat.le_of_ble_eq_true rfl, Nat.le_of_ble_eq_true rfl⟩) (m_preV hci hK hP hD) rfl rfl hl.1 rfl (lv_room (Nat.le_of_ble_eq_true rfl)) dX1_turns_88 ⟨Nat.le_refl _, Nat.le_refl _⟩) hS (fun q _ hq => hFc q hq) hFc (fun u t H1 locs ht hvm hw hB hz hk hS => ?_)
              replace hw := hw.symm; subst hw
              replace hP := m_back ht hB
              replace hD := mw_D s4 hD
              clear hB hk hz hvm ht hFc; generalize H1 = H at hP hS ⊢
              refine lv_aload_n hx hb dX1_turns_91 rfl (lv_at hl 1 rfl) ?_
              refine lv_iload_n hx hb dX1_turns_92 rfl (lv_at hl 2 rfl) ?_
              refine lv_iload hx hb dX1_turns_93 (lv_at hl 0 rfl) ?_
              refine lv_iload hx hb dX1_turns_95 (lv_at hl 0 rfl) ?_
              refine lv_if_eq (tgt := 105) hx hb dX1_turns_97 (by decide) (fun c97 => ?_) (fun c97 => ?_)
              · have hf := dz_t c97 hf
                refine lv_iload_n hx hb dX1_turns_105 rfl (lv_at hl 4 rfl) ?_
                refine lv_iconst (v := 2) hx hb dX1_turns_106 (by decide) ?_
                obtain ⟨s6, hx5, hf⟩ := dz_bo hf
                have hFc := dz_free hD hS hA
                refine va_callv (va_runV (As := [.int v1, .int 0, .int v3, .int 2]) (rest := []) ⟨hx, hb, hml, hown, hts⟩ (mtX1_rowsOf l D cl ci hci h ad cA H.size s4 v1 0 v3 2 K s6 hx5) (cwV 4 hts (lw_V q1887 q1889 qs52 q88 q1890) rfl rfl rfl (by decide +kernel) ⟨Nat.le_of_ble_eq_true rfl, Nat.le_of_ble_eq_true rfl⟩) (m_preV hci hK hP hD) rfl rfl hl.1 rfl (lv_room (Nat.le_of_ble_eq_true rfl)) dX1_turns_107 ⟨Nat.le_refl _, Nat.le_refl _⟩) hS (fun q _ hq => hFc q hq) hFc (fun u t H1 locs ht hvm hw hB hz hk hS => ?_)
                replace hw := hw.symm; subst hw
                replace hP := m_back ht hB
                replace hD := mw_D s6 hD
                clear hB hk hz hvm ht hFc; generalize H1 = H at hP hS ⊢
                refine lv_iload hx hb dX1_turns_110 (lv_at hl 0 rfl) ?_
                refine lv_if_eq (tgt := 121) hx hb dX1_turns_112 (by decide) (fun c112 => ?_) (fun c112 => ?_)
                · have hf := dz_t c112 hf
                  obtain ⟨x7, e_x7, hf⟩ := dz_lo hf
                  refine lv_iinc (v := x7) (lv' := [(3, .int x7), (6, .int 0), (0, .ref h), (1, .int v1), (2, .int v2), (4, .int v4), (5, .int v5)]) hx hb dX1_turns_121 hl (k := 4) rfl (by rw [e_x7]; rfl) (by decide) rfl (fun ls hl => ?_)
                  exact ih.2 v1 v2 x7 v4 0 s6 H locs hP hD hS ls (lv_sub hl [2, 3, 4, 0, 5, 1] rfl) hf
                · have hf := dz_f c112 hf
                  obtain ⟨x8, e_x8, hf⟩ := dz_lo hf
                  refine lv_iinc (v := x8) (lv' := [(4, .int x8), (6, .int 0), (0, .ref h), (1, .int v1), (2, .int v2), (3, .int v3), (5, .int v5)]) hx hb dX1_turns_115 hl (k := 5) rfl (by rw [e_x8]; rfl) (by decide) rfl (fun ls hl => ?_)
                  refine lv_goto (tgt := 124) hx hb dX1_turns_118 (by decide) ?_
                  exact ih.2 v1 v2 v3 x8 0 s6 H locs hP hD hS ls (lv_sub hl [2, 3, 4, 5, 0, 1] rfl) hf
              · have hf := dz_f c97 hf
                refine lv_iload hx hb dX1_turns_100 (lv_at hl 5 rfl) ?_
                refine lv_goto (tgt := 106) hx hb dX1_turns_102 (by decide) ?_
                refine lv_iconst (v := 2) hx hb dX1_turns_106 (by decide) ?_
                obtain ⟨s10, hx9, hf⟩ := dz_bo hf
                have hFc := dz_free hD hS hA
                refine va_callv (va_runV (As := [.int v1, .int 0, .int v4, .int 2]) (rest := []) ⟨hx, hb, hml, hown, hts⟩ (mtX1_rowsOf l D cl ci hci h ad cA H.size s4 v1 0 v4 2 K s10 hx9) (cwV 4 hts (lw_V q1887 q1889 qs52 q88 q1890) rfl rfl rfl (by decide +kernel) ⟨Nat.le_of_ble_eq_true rfl, Nat.le_of_ble_eq_true rfl⟩) (m_preV hci hK hP hD) rfl rfl hl.1 rfl (lv_room (Nat.le_of_ble_eq_true rfl)) dX1_turns_107 ⟨Nat.le_refl _, Nat.le_refl _⟩) hS (fun q _ hq => hFc q hq) hFc (fun u t H1 locs ht hvm hw hB hz hk hS => ?_)
                replace hw := hw.symm; subst hw
                replace hP := m_back ht hB
                replace hD := mw_D s10 hD
                clear hB hk hz hvm ht hFc; generalize H1 = H at hP hS ⊢
                refine lv_iload hx hb dX1_turns_110 (lv_at hl 0 rfl) ?_
                refine lv_if_eq (tgt := 121) hx hb dX1_turns_112 (by decide) (fun c112 => ?_) (fun c112 => ?_)
                · have hf := dz_t c112 hf
                  obtain ⟨x11, e_x11, hf⟩ := dz_lo hf
                  refine lv_iinc (v := x11) (lv' := [(3, .int x11), (6, .int 0), (0, .ref h), (1, .int v1), (2, .int v2), (4, .int v4), (5, .int v5)]) hx hb dX1_turns_121 hl (k := 4) rfl (by rw [e_x11]; rfl) (by decide) rfl (fun ls hl => ?_)
                  exact ih.2 v1 v2 x11 v4 0 s10 H locs hP hD hS ls (lv_sub hl [2, 3, 4, 0, 5, 1] rfl) hf
                · have hf := dz_f c112 hf
                  obtain ⟨x12, e_x12, hf⟩ := dz_lo hf
                  refine lv_iinc (v := x12) (lv' := [(4, .int x12), (6, .int 0), (0, .ref h), (1, .int v1), (2, .int v2), (3, .int v3), (5, .int v5)]) hx hb dX1_turns_115 hl (k := 5) rfl (by rw [e_x12]; rfl) (by decide) rfl (fun ls hl => ?_)
                  refine lv_goto (tgt := 124) hx hb dX1_turns_118 (by decide) ?_
                  exact ih.2 v1 v2 v3 x12 0 s10 H locs hP hD hS ls (lv_sub hl [2, 3, 4, 5, 0, 1] rfl) hf
            · have hf := dz_f c74 hf
              refine lv_iload_n hx hb dX1_turns_77 rfl (lv_at hl 3 rfl) ?_
              refine lv_i2l hx hb dX1_turns_78 (rfl : _ = Int32.toInt64 v2) ?_
              refine lv_lconst (v := 1) hx hb dX1_turns_79 rfl ?_
              refine lv_ladd hx hb dX1_turns_80 ?_
              refine lv_goto (tgt := 88) hx hb dX1_turns_81 (by decide) ?_
              obtain ⟨s14, hx13, hf⟩ := dz_bo hf
              have hFc := dz_free hD hS hA
              refine va_callv (va_runV (As := [.long ((Int32.toInt64 v2) + 1)]) (rest := []) ⟨hx, hb, hml, hown, hts⟩ (mtX1_laysFactors l D cl ci hci h ad cA H.size s2 ((Int32.toInt64 v2) + 1) K s14 hx13) (cwV 1 hts (lw_V q1883 q1885 qs51 q88 q1886) rfl rfl rfl (by decide +kernel) ⟨Nat.le_of_ble_eq_true rfl, Nat.le_of_ble_eq_true rfl⟩) (m_preV hci hK hP hD) rfl rfl hl.1 rfl (lv_room (Nat.le_of_ble_eq_true rfl)) dX1_turns_88 ⟨Nat.le_refl _, Nat.le_refl _⟩) hS (fun q _ hq => hFc q hq) hFc (fun u t H1 locs ht hvm hw hB hz hk hS => ?_)
              replace hw := hw.symm; subst hw
              replace hP := m_back ht hB
              replace hD := mw_D s14 hD
              clear hB hk hz hvm ht hFc; generalize H1 = H at hP hS ⊢
              refine lv_aload_n hx hb dX1_turns_91 rfl (lv_at hl 1 rfl) ?_
              refine lv_iload_n hx hb dX1_turns_92 rfl (lv_at hl 2 rfl) ?_
              refine lv_iload hx hb dX1_turns_93 (lv_at hl 0 rfl) ?_
              refine lv_iload hx hb dX1_turns_95 (lv_at hl 0 rfl) ?_
              refine lv_if_eq (tgt := 105) hx hb dX1_turns_97 (by decide) (fun c97 => ?_) (fun c97 => ?_)
              · have hf := dz_t c97 hf
                refine lv_iload_n hx hb dX1_turns_105 rfl (lv_at hl 4 rfl) ?_
                refine lv_iconst (v := 2) hx hb dX1_turns_106 (by decide) ?_
                obtain ⟨s16, hx15, hf⟩ := dz_bo hf
                have hFc := dz_free hD hS hA
                refine va_callv (va_runV (As := [.int v1, .int 0, .int v3, .int 2]) (rest := []) ⟨hx, hb, hml, hown, hts⟩ (mtX1_rowsOf l D cl ci hci h ad cA H.size s14 v1 0 v3 2 K s16 hx15) (cwV 4 hts (lw_V q1887 q1889 qs52 q88 q1890) rfl rfl rfl (by decide +kernel) ⟨Nat.le_of_ble_eq_true rfl, Nat.le_of_ble_eq_true rfl⟩) (m_preV hci hK hP hD) rfl rfl hl.1 rfl (lv_room (Nat.le_of_ble_eq_true rfl)) dX1_turns_107 ⟨Nat.le_refl _, Nat.le_refl _⟩) hS (fun q _ hq => hFc q hq) hFc (fun u t H1 locs ht hvm hw hB hz hk hS => ?_)
                replace hw := hw.symm; subst hw
                replace hP := m_back ht hB
                replace hD := mw_D s16 hD
                clear hB hk hz hvm ht hFc; generalize H1 = H at hP hS ⊢
                refine lv_iload hx hb dX1_turns_110 (lv_at hl 0 rfl) ?_
                refine lv_if_eq (tgt := 121) hx hb dX1_turns_112 (by decide) (fun c112 => ?_) (fun c112 => ?_)
                · have hf := dz_t c112 hf
                  obtain ⟨x17, e_x17, hf⟩ := dz_lo hf
                  refine lv_iinc (v := x17) (lv' := [(3, .int x17), (6, .int 0), (0, .ref h), (1, .int v1), (2, .int v2), (4, .int v4), (5, .int v5)]) hx hb dX1_turns_121 hl (k := 4) rfl (by rw [e_x17]; rfl) (by decide) rfl (fun ls hl => ?_)
                  exact ih.2 v1 v2 x17 v4 0 s16 H locs hP hD hS ls (lv_sub hl [2, 3, 4, 0, 5, 1] rfl) hf
                · have hf := dz_f c112 hf
                  obtain ⟨x18, e_x18, hf⟩ := dz_lo hf
                  refine lv_iinc (v := x18) (lv' := [(4, .int x18), (6, .int 0), (0, .ref h), (1, .int v1), (2, .int v2), (3, .int v3), (5, .int v5)]) hx hb dX1_turns_115 hl (k := 5) rfl (by rw [e_x18]; rfl) (by decide) rfl (fun ls hl => ?_)
                  refine lv_goto (tgt := 124) hx hb dX1_turns_118 (by decide) ?_
                  exact ih.2 v1 v2 v3 x18 0 s16 H locs hP hD hS ls (lv_sub hl [2, 3, 4, 5, 0, 1] rfl) hf
              · have hf := dz_f c97 hf
                refine lv_iload hx hb dX1_turns_100 (lv_at hl 5 rfl) ?_
                refine lv_goto (tgt := 106) hx hb dX1_turns_102 (by decide) ?_
                refine lv_iconst (v := 2) hx hb dX1_turns_106 (by decide) ?_
                obtain ⟨s20, hx19, hf⟩ := dz_bo hf
                have hFc := dz_free hD hS hA
                refine va_callv (va_runV (As := [.int v1, .int 0, .int v4, .int 2]) (rest := []) ⟨hx, hb, hml, hown, hts⟩ (mtX1_rowsOf l D cl ci hci h ad cA H.size s14 v1 0 v4 2 K s20 hx19) (cwV 4 hts (lw_V q1887 q1889 qs52 q88 q1890) rfl rfl rfl (by decide +kernel) ⟨Nat.le_of_ble_eq_true rfl, Nat.le_of_ble_eq_true rfl⟩) (m_preV hci hK hP hD) rfl rfl hl.1 rfl (lv_room (Nat.le_of_ble_eq_true rfl)) dX1_turns_107 ⟨Nat.le_refl _, Nat.le_refl _⟩) hS (fun q _ hq => hFc q hq) hFc (fun u t H1 locs ht hvm hw hB hz hk hS => ?_)
                replace hw := hw.symm; subst hw
                replace hP := m_back ht hB
                replace hD := mw_D s20 hD
                clear hB hk hz hvm ht hFc; generalize H1 = H at hP hS ⊢
                refine lv_iload hx hb dX1_turns_110 (lv_at hl 0 rfl) ?_
                refine lv_if_eq (tgt := 121) hx hb dX1_turns_112 (by decide) (fun c112 => ?_) (fun c112 => ?_)
                · have hf := dz_t c112 hf
                  obtain ⟨x21, e_x21, hf⟩ := dz_lo hf
                  refine lv_iinc (v := x21) (lv' := [(3, .int x21), (6, .int 0), (0, .ref h), (1, .int v1), (2, .int v2), (4, .int v4), (5, .int v5)]) hx hb dX1_turns_121 hl (k := 4) rfl (by rw [e_x21]; rfl) (by decide) rfl (fun ls hl => ?_)
                  exact ih.2 v1 v2 x21 v4 0 s20 H locs hP hD hS ls (lv_sub hl [2, 3, 4, 0, 5, 1] rfl) hf
                · have hf := dz_f c112 hf
                  obtain ⟨x22, e_x22, hf⟩ := dz_lo hf
                  refine lv_iinc (v := x22) (lv' := [(4, .int x22), (6, .int 0), (0, .ref h), (1, .int v1), (2, .int v2), (3, .int v3), (5, .int v5)]) hx hb dX1_turns_115 hl (k := 5) rfl (by rw [e_x22]; rfl) (by decide) rfl (fun ls hl => ?_)
                  refine lv_goto (tgt := 124) hx hb dX1_turns_118 (by decide) ?_
                  exact ih.2 v1 v2 v3 x22 0 s20 H locs hP hD hS ls (lv_sub hl [2, 3, 4, 5, 0, 1] rfl) hf
          · have hf := dz_f c61 hf
            refine lv_iconst (v := 1) hx hb dX1_turns_64 (by decide) ?_
            refine lv_goto (tgt := 69) hx hb dX1_turns_65 (by decide) ?_
            refine lv_istore (lv' := [(6, .int 1), (0, .ref h), (1, .int v1), (2, .int v2), (3, .int v3), (4, .int v4), (5, .int v5)]) hx hb dX1_turns_69 hl (by decide) rfl (fun ls hl => ?_)
            refine lv_aload_n hx hb dX1_turns_71 rfl (lv_at hl 1 rfl) ?_
            refine lv_iload hx hb dX1_turns_72 (lv_at hl 0 rfl) ?_
            refine lv_if_eq (tgt := 84) hx hb dX1_turns_74 (by decide) (fun c74 => ?_) (fun c74 => ?_)
            · have hf := dz_t c74 hf
              refine lv_iload_n hx hb dX1_turns_84 rfl (lv_at hl 3 rfl) ?_
              refine lv_i2l hx hb dX1_turns_85 (rfl : _ = Int32.toInt64 v2) ?_
              refine lv_lconst (v := 1) hx hb dX1_turns_86 rfl ?_
              refine lv_lsub hx hb dX1_turns_87 ?_
              obtain ⟨s24, hx23, hf⟩ := dz_bo hf
              have hFc := dz_free hD hS hA
              refine va_callv (va_runV (As := [.long ((Int32.toInt64 v2) - 1)]) (rest := []) ⟨hx, hb, hml, hown, hts⟩ (mtX1_laysFactors l D cl ci hci h ad cA H.size s2 ((Int32.toInt64 v2) - 1) K s24 hx23) (cwV 1 hts (lw_V q1883 q1885 qs51 q88 q1886) rfl rfl rfl (by decide +kernel) ⟨Nat.le_of_ble_eq_true rfl, Nat.le_of_ble_eq_true rfl⟩) (m_preV hci hK hP hD) rfl rfl hl.1 rfl (lv_room (Nat.le_of_ble_eq_true rfl)) dX1_turns_88 ⟨Nat.le_refl _, Nat.le_refl _⟩) hS (fun q _ hq => hFc q hq) hFc (fun u t H1 locs ht hvm hw hB hz hk hS => ?_)
              replace hw := hw.symm; subst hw
              replace hP := m_back ht hB
              replace hD := mw_D s24 hD
              clear hB hk hz hvm ht hFc; generalize H1 = H at hP hS ⊢
              refine lv_aload_n hx hb dX1_turns_91 rfl (lv_at hl 1 rfl) ?_
              refine lv_iload_n hx hb dX1_turns_92 rfl (lv_at hl 2 rfl) ?_
              refine lv_iload hx hb dX1_turns_93 (lv_at hl 0 rfl) ?_
              refine lv_iload hx hb dX1_turns_95 (lv_at hl 0 rfl) ?_
              refine lv_if_eq (tgt := 105) hx hb dX1_turns_97 (by decide) (fun c97 => ?_) (fun c97 => ?_)
              · have hf := dz_t c97 hf
                refine lv_iload_n hx hb dX1_turns_105 rfl (lv_at hl 4 rfl) ?_
                refine lv_iconst (v := 2) hx hb dX1_turns_106 (by decide) ?_
                obtain ⟨s26, hx25, hf⟩ := dz_bo hf
                have hFc := dz_free hD hS hA
                refine va_callv (va_runV (As := [.int v1, .int 1, .int v3, .int 2]) (rest := []) ⟨hx, hb, hml, hown, hts⟩ (mtX1_rowsOf l D cl ci hci h ad cA H.size s24 v1 1 v3 2 K s26 hx25) (cwV 4 hts (lw_V q1887 q1889 qs52 q88 q1890) rfl rfl rfl (by decide +kernel) ⟨Nat.le_of_ble_eq_true rfl, Nat.le_of_ble_eq_true rfl⟩) (m_preV hci hK hP hD) rfl rfl hl.1 rfl (lv_room (Nat.le_of_ble_eq_true rfl)) dX1_turns_107 ⟨Nat.le_refl _, Nat.le_refl _⟩) hS (fun q _ hq => hFc q hq) hFc (fun u t H1 locs ht hvm hw hB hz hk hS => ?_)
                replace hw := hw.symm; subst hw
                replace hP := m_back ht hB
                replace hD := mw_D s26 hD
                clear hB hk hz hvm ht hFc; generalize H1 = H at hP hS ⊢
                refine lv_iload hx hb dX1_turns_110 (lv_at hl 0 rfl) ?_
                refine lv_if_eq (tgt := 121) hx hb dX1_turns_112 (by decide) (fun c112 => ?_) (fun c112 => ?_)
                · have hf := dz_t c112 hf
                  obtain ⟨x27, e_x27, hf⟩ := dz_lo hf
                  refine lv_iinc (v := x27) (lv' := [(3, .int x27), (6, .int 1), (0, .ref h), (1, .int v1), (2, .int v2), (4, .int v4), (5, .int v5)]) hx hb dX1_turns_121 hl (k := 4) rfl (by rw [e_x27]; rfl) (by decide) rfl (fun ls hl => ?_)
                  exact ih.2 v1 v2 x27 v4 1 s26 H locs hP hD hS ls (lv_sub hl [2, 3, 4, 0, 5, 1] rfl) hf
                · have hf := dz_f c112 hf
                  obtain ⟨x28, e_x28, hf⟩ := dz_lo hf
                  refine lv_iinc (v := x28) (lv' := [(4, .int x28), (6, .int 1), (0, .ref h), (1, .int v1), (2, .int v2), (3, .int v3), (5, .int v5)]) hx hb dX1_turns_115 hl (k := 5) rfl (by rw [e_x28]; rfl) (by decide) rfl (fun ls hl => ?_)
                  refine lv_goto (tgt := 124) hx hb dX1_turns_118 (by decide) ?_
                  exact ih.2 v1 v2 v3 x28 1 s26 H locs hP hD hS ls (lv_sub hl [2, 3, 4, 5, 0, 1] rfl) hf
              · have hf := dz_f c97 hf
                refine lv_iload hx hb dX1_turns_100 (lv_at hl 5 rfl) ?_
                refine lv_goto (tgt := 106) hx hb dX1_turns_102 (by decide) ?_
                refine lv_iconst (v := 2) hx hb dX1_turns_106 (by decide) ?_
                obtain ⟨s30, hx29, hf⟩ := dz_bo hf
                have hFc := dz_free hD hS hA
                refine va_callv (va_runV (As := [.int v1, .int 1, .int v4, .int 2]) (rest := []) ⟨hx, hb, hml, hown, hts⟩ (mtX1_rowsOf l D cl ci hci h ad cA H.size s24 v1 1 v4 2 K s30 hx29) (cwV 4 hts (lw_V q1887 q1889 qs52 q88 q1890) rfl rfl rfl (by decide +kernel) ⟨Nat.le_of_ble_eq_true rfl, Nat.le_of_ble_eq_true rfl⟩) (m_preV hci hK hP hD) rfl rfl hl.1 rfl (lv_room (Nat.le_of_ble_eq_true rfl)) dX1_turns_107 ⟨Nat.le_refl _, Nat.le_refl _⟩) hS (fun q _ hq => hFc q hq) hFc (fun u t H1 locs ht hvm hw hB hz hk hS => ?_)
                replace hw := hw.symm; subst hw
                replace hP := m_back ht hB
                replace hD := mw_D s30 hD
                clear hB hk hz hvm ht hFc; generalize H1 = H at hP hS ⊢
                refine lv_iload hx hb dX1_turns_110 (lv_at hl 0 rfl) ?_
                refine lv_if_eq (tgt := 121) hx hb dX1_turns_112 (by decide) (fun c112 => ?_) (fun c112 => ?_)
                · have hf := dz_t c112 hf
                  obtain ⟨x31, e_x31, hf⟩ := dz_lo hf
                  refine lv_iinc (v := x31) (lv' := [(3, .int x31), (6, .int 1), (0, .ref h), (1, .int v1), (2, .int v2), (4, .int v4), (5, .int v5)]) hx hb dX1_turns_121 hl (k := 4) rfl (by rw [e_x31]; rfl) (by decide) rfl (fun ls hl => ?_)
                  exact ih.2 v1 v2 x31 v4 1 s30 H locs hP hD hS ls (lv_sub hl [2, 3, 4, 0, 5, 1] rfl) hf
                · have hf := dz_f c112 hf
                  obtain ⟨x32, e_x32, hf⟩ := dz_lo hf
                  refine lv_iinc (v := x32) (lv' := [(4, .int x32), (6, .int 1), (0, .ref h), (1, .int v1), (2, .int v2), (3, .int v3), (5, .int v5)]) hx hb dX1_turns_115 hl (k := 5) rfl (by rw [e_x32]; rfl) (by decide) rfl (fun ls hl => ?_)
                  refine lv_goto (tgt := 124) hx hb dX1_turns_118 (by decide) ?_
                  exact ih.2 v1 v2 v3 x32 1 s30 H locs hP hD hS ls (lv_sub hl [2, 3, 4, 5, 0, 1] rfl) hf
            · have hf := dz_f c74 hf
              refine lv_iload_n hx hb dX1_turns_77 rfl (lv_at hl 3 rfl) ?_
              refine lv_i2l hx hb dX1_turns_78 (rfl : _ = Int32.toInt64 v2) ?_
              refine lv_lconst (v := 1) hx hb dX1_turns_79 rfl ?_
              refine lv_ladd hx hb dX1_turns_80 ?_
              refine lv_goto (tgt := 88) hx hb dX1_turns_81 (by decide) ?_
              obtain ⟨s34, hx33, hf⟩ := dz_bo hf
              have hFc := dz_free hD hS hA
              refine va_callv (va_runV (As := [.long ((Int32.toInt64 v2) + 1)]) (rest := []) ⟨hx, hb, hml, hown, hts⟩ (mtX1_laysFactors l D cl ci hci h ad cA H.size s2 ((Int32.toInt64 v2) + 1) K s34 hx33) (cwV 1 hts (lw_V q1883 q1885 qs51 q88 q1886) rfl rfl rfl (by decide +kernel) ⟨Nat.le_of_ble_eq_true rfl, Nat.le_of_ble_eq_true rfl⟩) (m_preV hci hK hP hD) rfl rfl hl.1 rfl (lv_room (Nat.le_of_ble_eq_true rfl)) dX1_turns_88 ⟨Nat.le_refl _, Nat.le_refl _⟩) hS (fun q _ hq => hFc q hq) hFc (fun u t H1 locs ht hvm hw hB hz hk hS => ?_)
              replace hw := hw.symm; subst hw
              replace hP := m_back ht hB
              replace hD := mw_D s34 hD
              clear hB hk hz hvm ht hFc; generalize H1 = H at hP hS ⊢
              refine lv_aload_n hx hb dX1_turns_91 rfl (lv_at hl 1 rfl) ?_
              refine lv_iload_n hx hb dX1_turns_92 rfl (lv_at hl 2 rfl) ?_
              refine lv_iload hx hb dX1_turns_93 (lv_at hl 0 rfl) ?_
              refine lv_iload hx hb dX1_turns_95 (lv_at hl 0 rfl) ?_
              refine lv_if_eq (tgt := 105) hx hb dX1_turns_97 (by decide) (fun c97 => ?_) (fun c97 => ?_)
              · have hf := dz_t c97 hf
                refine lv_iload_n hx hb dX1_turns_105 rfl (lv_at hl 4 rfl) ?_
                refine lv_iconst (v := 2) hx hb dX1_turns_106 (by decide) ?_
                obtain ⟨s36, hx35, hf⟩ := dz_bo hf
                have hFc := dz_free hD hS hA
                refine va_callv (va_runV (As := [.int v1, .int 1, .int v3, .int 2]) (rest := []) ⟨hx, hb, hml, hown, hts⟩ (mtX1_rowsOf l D cl ci hci h ad cA H.size s34 v1 1 v3 2 K s36 hx35) (cwV 4 hts (lw_V q1887 q1889 qs52 q88 q1890) rfl rfl rfl (by decide +kernel) ⟨Nat.le_of_ble_eq_true rfl, Nat.le_of_ble_eq_true rfl⟩) (m_preV hci hK hP hD) rfl rfl hl.1 rfl (lv_room (Nat.le_of_ble_eq_true rfl)) dX1_turns_107 ⟨Nat.le_refl _, Nat.le_refl _⟩) hS (fun q _ hq => hFc q hq) hFc (fun u t H1 locs ht hvm hw hB hz hk hS => ?_)
                replace hw := hw.symm; subst hw
                replace hP := m_back ht hB
                replace hD := mw_D s36 hD
                clear hB hk hz hvm ht hFc; generalize H1 = H at hP hS ⊢
                refine lv_iload hx hb dX1_turns_110 (lv_at hl 0 rfl) ?_
                refine lv_if_eq (tgt := 121) hx hb dX1_turns_112 (by decide) (fun c112 => ?_) (fun c112 => ?_)
                · have hf := dz_t c112 hf
                  obtain ⟨x37, e_x37, hf⟩ := dz_lo hf
                  refine lv_iinc (v := x37) (lv' := [(3, .int x37), (6, .int 1), (0, .ref h), (1, .int v1), (2, .int v2), (4, .int v4), (5, .int v5)]) hx hb dX1_turns_121 hl (k := 4) rfl (by rw [e_x37]; rfl) (by decide) rfl (fun ls hl => ?_)
                  exact ih.2 v1 v2 x37 v4 1 s36 H locs hP hD hS ls (lv_sub hl [2, 3, 4, 0, 5, 1] rfl) hf
                · have hf := dz_f c112 hf
                  obtain ⟨x38, e_x38, hf⟩ := dz_lo hf
                  refine lv_iinc (v := x38) (lv' := [(4, .int x38), (6, .int 1), (0, .ref h), (1, .int v1), (2, .int v2), (3, .int v3), (5, .int v5)]) hx hb dX1_turns_115 hl (k := 5) rfl (by rw [e_x38]; rfl) (by decide) rfl (fun ls hl => ?_)
                  refine lv_goto (tgt := 124) hx hb dX1_turns_118 (by decide) ?_
                  exact ih.2 v1 v2 v3 x38 1 s36 H locs hP hD hS ls (lv_sub hl [2, 3, 4, 5, 0, 1] rfl) hf
              · have hf := dz_f c97 hf
                refine lv_iload hx hb dX1_turns_100 (lv_at hl 5 rfl) ?_
                refine lv_goto (tgt := 106) hx hb dX1_turns_102 (by decide) ?_
                refine lv_iconst (v := 2) hx hb dX1_turns_106 (by decide) ?_
                obtain ⟨s40, hx39, hf⟩ := dz_bo hf
                have hFc := dz_free hD hS hA
                refine va_callv (va_runV (As := [.int v1, .int 1, .int v4, .int 2]) (rest := []) ⟨hx, hb, hml, hown, hts⟩ (mtX1_rowsOf l D cl ci hci h ad cA H.size s34 v1 1 v4 2 K s40 hx39) (cwV 4 hts (lw_V q1887 q1889 qs52 q88 q1890) rfl rfl rfl (by decide +kernel) ⟨Nat.le_of_ble_eq_true rfl, Nat.le_of_ble_eq_true rfl⟩) (m_preV hci hK hP hD) rfl rfl hl.1 rfl (lv_room (Nat.le_of_ble_eq_true rfl)) dX1_turns_107 ⟨Nat.le_refl _, Nat.le_refl _⟩) hS (fun q _ hq => hFc q hq) hFc (fun u t H1 locs ht hvm hw hB hz hk hS => ?_)
                replace hw := hw.symm; subst hw
                replace hP := m_back ht hB
                replace hD := mw_D s40 hD
                clear hB hk hz hvm ht hFc; generalize H1 = H at hP hS ⊢
                refine lv_iload hx hb dX1_turns_110 (lv_at hl 0 rfl) ?_
                refine lv_if_eq (tgt := 121) hx hb dX1_turns_112 (by decide) (fun c112 => ?_) (fun c112 => ?_)
                · have hf := dz_t c112 hf
                  obtain ⟨x41, e_x41, hf⟩ := dz_lo hf
                  refine lv_iinc (v := x41) (lv' := [(3, .int x41), (6, .int 1), (0, .ref h), (1, .int v1), (2, .int v2), (4, .int v4), (5, .int v5)]) hx hb dX1_turns_121 hl (k := 4) rfl (by rw [e_x41]; rfl) (by decide) rfl (fun ls hl => ?_)
                  exact ih.2 v1 v2 x41 v4 1 s40 H locs hP hD hS ls (lv_sub hl [2, 3, 4, 0, 5, 1] rfl) hf
                · have hf := dz_f c112 hf
                  obtain ⟨x42, e_x42, hf⟩ := dz_lo hf
                  refine lv_iinc (v := x42) (lv' := [(4, .int x42), (6, .int 1), (0, .ref h), (1, .int v1), (2, .int v2), (3, .int v3), (5, .int v5)]) hx hb dX1_turns_115 hl (k := 5) rfl (by rw [e_x42]; rfl) (by decide) rfl (fun ls hl => ?_)
                  refine lv_goto (tgt := 124) hx hb dX1_turns_118 (by decide) ?_
                  exact ih.2 v1 v2 v3 x42 1 s40 H locs hP hD hS ls (lv_sub hl [2, 3, 4, 5, 0, 1] rfl) hf
        · have hf := dz_f c44 hf
          refine lv_iload hx hb dX1_turns_47 (lv_at hl 4 rfl) ?_
          refine lv_if_lt (tgt := 56) hx hb dX1_turns_49 (by decide) (fun c49 => ?_) (fun c49 => ?_)
          · have hf := dz_t c49 hf
            refine lv_iconst (v := 0) hx hb dX1_turns_56 (by decide) ?_
            refine lv_goto (tgt := 69) hx hb dX1_turns_57 (by decide) ?_
            refine lv_istore (lv' := [(6, .int 0), (0, .ref h), (1, .int v1), (2, .int v2), (3, .int v3), (4, .int v4), (5, .int v5)]) hx hb dX1_turns_69 hl (by decide) rfl (fun ls hl => ?_)
            refine lv_aload_n hx hb dX1_turns_71 rfl (lv_at hl 1 rfl) ?_
            refine lv_iload hx hb dX1_turns_72 (lv_at hl 0 rfl) ?_
            refine lv_if_eq (tgt := 84) hx hb dX1_turns_74 (by decide) (fun c74 => ?_) (fun c74 => ?_)
            · have hf := dz_t c74 hf
              refine lv_iload_n hx hb dX1_turns_84 rfl (lv_at hl 3 rfl) ?_
              refine lv_i2l hx hb dX1_turns_85 (rfl : _ = Int32.toInt64 v2) ?_
              refine lv_lconst (v := 1) hx hb dX1_turns_86 rfl ?_
              refine lv_lsub hx hb dX1_turns_87 ?_
              obtain ⟨s44, hx43, hf⟩ := dz_bo hf
              have hFc := dz_free hD hS hA
              refine va_callv (va_runV (As := [.long ((Int32.toInt64 v2) - 1)]) (rest := []) ⟨hx, hb, hml, hown, hts⟩ (mtX1_laysFactors l D cl ci hci h ad cA H.size s2 ((Int32.toInt64 v2) - 1) K s44 hx43) (cwV 1 hts (lw_V q1883 q1885 qs51 q88 q1886) rfl rfl rfl (by decide +kernel) ⟨Nat.le_of_ble_eq_true rfl, Nat.le_of_ble_eq_true rfl⟩) (m_preV hci hK hP hD) rfl rfl hl.1 rfl (lv_room (Nat.le_of_ble_eq_true rfl)) dX1_turns_88 ⟨Nat.le_refl _, Nat.le_refl _⟩) hS (fun q _ hq => hFc q hq) hFc (fun u t H1 locs ht hvm hw hB hz hk hS => ?_)
              replace hw := hw.symm; subst hw
              replace hP := m_back ht hB
              replace hD := mw_D s44 hD
              clear hB hk hz hvm ht hFc; generalize H1 = H at hP hS ⊢
              refine lv_aload_n hx hb dX1_turns_91 rfl (lv_at hl 1 rfl) ?_
              refine lv_iload_n hx hb dX1_turns_92 rfl (lv_at hl 2 rfl) ?_
              refine lv_iload hx hb dX1_turns_93 (lv_at hl 0 rfl) ?_
              refine lv_iload hx hb dX1_turns_95 (lv_at hl 0 rfl) ?_
              refine lv_if_eq (tgt := 105) hx hb dX1_turns_97 (by decide) (fun c97 => ?_) (fun c97 => ?_)
              · have hf := dz_t c97 hf
                refine lv_iload_n hx hb dX1_turns_105 rfl (lv_at hl 4 rfl) ?_
                refine lv_iconst (v := 2) hx hb dX1_turns_106 (by decide) ?_
                obtain ⟨s46, hx45, hf⟩ := dz_bo hf
                have hFc := dz_free hD hS hA
                refine va_callv (va_runV (As := [.int v1, .int 0, .int v3, .int 2]) (rest := []) ⟨hx, hb, hml, hown, hts⟩ (mtX1_rowsOf l D cl ci hci h ad cA H.size s44 v1 0 v3 2 K s46 hx45) (cwV 4 hts (lw_V q1887 q1889 qs52 q88 q1890) rfl rfl rfl (by decide +kernel) ⟨Nat.le_of_ble_eq_true rfl, Nat.le_of_ble_eq_true rfl⟩) (m_preV hci hK hP hD) rfl rfl hl.1 rfl (lv_room (Nat.le_of_ble_eq_true rfl)) dX1_turns_107 ⟨Nat.le_refl _, Nat.le_refl _⟩) hS (fun q _ hq => hFc q hq) hFc (fun u t H1 locs ht hvm hw hB hz hk hS => ?_)
                replace hw := hw.symm; subst hw
                replace hP := m_back ht hB
                replace hD := mw_D s46 hD
                clear hB hk hz hvm ht hFc; generalize H1 = H at hP hS ⊢
                refine lv_iload hx hb dX1_turns_110 (lv_at hl 0 rfl) ?_
                refine lv_if_eq (tgt := 121) hx hb dX1_turns_112 (by decide) (fun c112 => ?_) (fun c112 => ?_)
                · have hf := dz_t c112 hf
                  obtain ⟨x47, e_x47, hf⟩ := dz_lo hf
                  refine lv_iinc (v := x47) (lv' := [(3, .int x47), (6, .int 0), (0, .ref h), (1, .int v1), (2, .int v2), (4, .int v4), (5, .int v5)]) hx hb dX1_turns_121 hl (k := 4) rfl (by rw [e_x47]; rfl) (by decide) rfl (fun ls hl => ?_)
                  exact ih.2 v1 v2 x47 v4 0 s46 H locs hP hD hS ls (lv_sub hl [2, 3, 4, 0, 5, 1] rfl) hf
                · have hf := dz_f c112 hf
                  obtain ⟨x48, e_x48, hf⟩ := dz_lo hf
                  refine lv_iinc (v := x48) (lv' := [(4, .int x48), (6, .int 0), (0, .ref h), (1, .int v1), (2, .int v2), (3, .int v3), (5, .int v5)]) hx hb dX1_turns_115 hl (k := 5) rfl (by rw [e_x48]; rfl) (by decide) rfl (fun ls hl => ?_)
                  refine lv_goto (tgt := 124) hx hb dX1_turns_118 (by decide) ?_
                  exact ih.2 v1 v2 v3 x48 0 s46 H locs hP hD hS ls (lv_sub hl [2, 3, 4, 5, 0, 1] rfl) hf
              · have hf := dz_f c97 hf
                refine lv_iload hx hb dX1_turns_100 (lv_at hl 5 rfl) ?_
                refine lv_goto (tgt := 106) hx hb dX1_turns_102 (by decide) ?_
                refine lv_iconst (v := 2) hx hb dX1_turns_106 (by decide) ?_
                obtain ⟨s50, hx49, hf⟩ := dz_bo hf
                have hFc := dz_free hD hS hA
                refine va_callv (va_runV (As := [.int v1, .int 0, .int v4, .int 2]) (rest := []) ⟨hx, hb, hml, hown, hts⟩ (mtX1_rowsOf l D cl ci hci h ad cA H.size s44 v1 0 v4 2 K s50 hx49) (cwV 4 hts (lw_V q1887 q1889 qs52 q88 q1890) rfl rfl rfl (by decide +kernel) ⟨Nat.le_of_ble_eq_true rfl, Nat.le_of_ble_eq_true rfl⟩) (m_preV hci hK hP hD) rfl rfl hl.1 rfl (lv_room (Nat.le_of_ble_eq_true rfl)) dX1_turns_107 ⟨Nat.le_refl _, Nat.le_refl _⟩) hS (fun q _ hq => hFc q hq) hFc (fun u t H1 locs ht hvm hw hB hz hk hS => ?_)
                replace hw := hw.symm; subst hw
                replace hP := m_back ht hB
                replace hD := mw_D s50 hD
                clear hB hk hz hvm ht hFc; generalize H1 = H at hP hS ⊢
                refine lv_iload hx hb dX1_turns_110 (lv_at hl 0 rfl) ?_
                refine lv_if_eq (tgt := 121) hx hb dX1_turns_112 (by decide) (fun c112 => ?_) (fun c112 => ?_)
                · have hf := dz_t c112 hf
                  obtain ⟨x51, e_x51, hf⟩ := dz_lo hf
                  refine lv_iinc (v := x51) (lv' := [(3, .int x51), (6, .int 0), (0, .ref h), (1, .int v1), (2, .int v2), (4, .int v4), (5, .int v5)]) hx hb dX1_turns_121 hl (k := 4) rfl (by rw [e_x51]; rfl) (by decide) rfl (fun ls hl => ?_)
                  exact ih.2 v1 v2 x51 v4 0 s50 H locs hP hD hS ls (lv_sub hl [2, 3, 4, 0, 5, 1] rfl) hf
                · have hf := dz_f c112 hf
                  obtain ⟨x52, e_x52, hf⟩ := dz_lo hf
                  refine lv_iinc (v := x52) (lv' := [(4, .int x52), (6, .int 0), (0, .ref h), (1, .int v1), (2, .int v2), (3, .int v3), (5, .int v5)]) hx hb dX1_turns_115 hl (k := 5) rfl (by rw [e_x52]; rfl) (by decide) rfl (fun ls hl => ?_)
                  refine lv_goto (tgt := 124) hx hb dX1_turns_118 (by decide) ?_
                  exact ih.2 v1 v2 v3 x52 0 s50 H locs hP hD hS ls (lv_sub hl [2, 3, 4, 5, 0, 1] rfl) hf
            · have hf := dz_f c74 hf
              refine lv_iload_n hx hb dX1_turns_77 rfl (lv_at hl 3 rfl) ?_
              refine lv_i2l hx hb dX1_turns_78 (rfl : _ = Int32.toInt64 v2) ?_
              refine lv_lconst (v := 1) hx hb dX1_turns_79 rfl ?_
              refine lv_ladd hx hb dX1_turns_80 ?_
              refine lv_goto (tgt := 88) hx hb dX1_turns_81 (by decide) ?_
              obtain ⟨s54, hx53, hf⟩ := dz_bo hf
              have hFc := dz_free hD hS hA
              refine va_callv (va_runV (As := [.long ((Int32.toInt64 v2) + 1)]) (rest := []) ⟨hx, hb, hml, hown, hts⟩ (mtX1_laysFactors l D cl ci hci h ad cA H.size s2 ((Int32.toInt64 v2) + 1) K s54 hx53) (cwV 1 hts (lw_V q1883 q1885 qs51 q88 q1886) rfl rfl rfl (by decide +kernel) ⟨Nat.le_of_ble_eq_true rfl, Nat.le_of_ble_eq_true rfl⟩) (m_preV hci hK hP hD) rfl rfl hl.1 rfl (lv_room (Nat.le_of_ble_eq_true rfl)) dX1_turns_88 ⟨Nat.le_refl _, Nat.le_refl _⟩) hS (fun q _ hq => hFc q hq) hFc (fun u t H1 locs ht hvm hw hB hz hk hS => ?_)
              replace hw := hw.symm; subst hw
              replace hP := m_back ht hB
              replace hD := mw_D s54 hD
              clear hB hk hz hvm ht hFc; generalize H1 = H at hP hS ⊢
              refine lv_aload_n hx hb dX1_turns_91 rfl (lv_at hl 1 rfl) ?_
              refine lv_iload_n hx hb dX1_turns_92 rfl (lv_at hl 2 rfl) ?_
              refine lv_iload hx hb dX1_turns_93 (lv_at hl 0 rfl) ?_
              refine lv_iload hx hb dX1_turns_95 (lv_at hl 0 rfl) ?_
              refine lv_if_eq (tgt := 105) hx hb dX1_turns_97 (by decide) (fun c97 => ?_) (fun c97 => ?_)
              · have hf := dz_t c97 hf
                refine lv_iload_n hx hb dX1_turns_105 rfl (lv_at hl 4 rfl) ?_
                refine lv_iconst (v := 2) hx hb dX1_turns_106 (by decide) ?_
                obtain ⟨s56, hx55, hf⟩ := dz_bo hf
                have hFc := dz_free hD hS hA
                refine va_callv (va_runV (As := [.int v1, .int 0, .int v3, .int 2]) (rest := []) ⟨hx, hb, hml, hown, hts⟩ (mtX1_rowsOf l D cl ci hci h ad cA H.size s54 v1 0 v3 2 K s56 hx55) (cwV 4 hts (lw_V q1887 q1889 qs52 q88 q1890) rfl rfl rfl (by decide +kernel) ⟨Nat.le_of_ble_eq_true rfl, Nat.le_of_ble_eq_true rfl⟩) (m_preV hci hK hP hD) rfl rfl hl.1 rfl (lv_room (Nat.le_of_ble_eq_true rfl)) dX1_turns_107 ⟨Nat.le_refl _, Nat.le_refl _⟩) hS (fun q _ hq => hFc q hq) hFc (fun u t H1 locs ht hvm hw hB hz hk hS => ?_)
                replace hw := hw.symm; subst hw
                replace hP := m_back ht hB
                replace hD := mw_D s56 hD
                clear hB hk hz hvm ht hFc; generalize H1 = H at hP hS ⊢
                refine lv_iload hx hb dX1_turns_110 (lv_at hl 0 rfl) ?_
                refine lv_if_eq (tgt := 121) hx hb dX1_turns_112 (by decide) (fun c112 => ?_) (fun c112 => ?_)
                · have hf := dz_t c112 hf
                  obtain ⟨x57, e_x57, hf⟩ := dz_lo hf
                  refine lv_iinc (v := x57) (lv' := [(3, .int x57), (6, .int 0), (0, .ref h), (1, .int v1), (2, .int v2), (4, .int v4), (5, .int v5)]) hx hb dX1_turns_121 hl (k := 4) rfl (by rw [e_x57]; rfl) (by decide) rfl (fun ls hl => ?_)
                  exact ih.2 v1 v2 x57 v4 0 s56 H locs hP hD hS ls (lv_sub hl [2, 3, 4, 0, 5, 1] rfl) hf
                · have hf := dz_f c112 hf
                  obtain ⟨x58, e_x58, hf⟩ := dz_lo hf
                  refine lv_iinc (v := x58) (lv' := [(4, .int x58), (6, .int 0), (0, .ref h), (1, .int v1), (2, .int v2), (3, .int v3), (5, .int v5)]) hx hb dX1_turns_115 hl (k := 5) rfl (by rw [e_x58]; rfl) (by decide) rfl (fun ls hl => ?_)
                  refine lv_goto (tgt := 124) hx hb dX1_turns_118 (by decide) ?_
                  exact ih.2 v1 v2 v3 x58 0 s56 H locs hP hD hS ls (lv_sub hl [2, 3, 4, 5, 0, 1] rfl) hf
              · have hf := dz_f c97 hf
                refine lv_iload hx hb dX1_turns_100 (lv_at hl 5 rfl) ?_
                refine lv_goto (tgt := 106) hx hb dX1_turns_102 (by decide) ?_
                refine lv_iconst (v := 2) hx hb dX1_turns_106 (by decide) ?_
                obtain ⟨s60, hx59, hf⟩ := dz_bo hf
                have hFc := dz_free hD hS hA
                refine va_callv (va_runV (As := [.int v1, .int 0, .int v4, .int 2]) (rest := []) ⟨hx, hb, hml, hown, hts⟩ (mtX1_rowsOf l D cl ci hci h ad cA H.size s54 v1 0 v4 2 K s60 hx59) (cwV 4 hts (lw_V q1887 q1889 qs52 q88 q1890) rfl rfl rfl (by decide +kernel) ⟨Nat.le_of_ble_eq_true rfl, Nat.le_of_ble_eq_true rfl⟩) (m_preV hci hK hP hD) rfl rfl hl.1 rfl (lv_room (Nat.le_of_ble_eq_true rfl)) dX1_turns_107 ⟨Nat.le_refl _, Nat.le_refl _⟩) hS (fun q _ hq => hFc q hq) hFc (fun u t H1 locs ht hvm hw hB hz hk hS => ?_)
                replace hw := hw.symm; subst hw
                replace hP := m_back ht hB
                replace hD := mw_D s60 hD
                clear hB hk hz hvm ht hFc; generalize H1 = H at hP hS ⊢
                refine lv_iload hx hb dX1_turns_110 (lv_at hl 0 rfl) ?_
                refine lv_if_eq (tgt := 121) hx hb dX1_turns_112 (by decide) (fun c112 => ?_) (fun c112 => ?_)
                · have hf := dz_t c112 hf
                  obtain ⟨x61, e_x61, hf⟩ := dz_lo hf
                  refine lv_iinc (v := x61) (lv' := [(3, .int x61), (6, .int 0), (0, .ref h), (1, .int v1), (2, .int v2), (4, .int v4), (5, .int v5)]) hx hb dX1_turns_121 hl (k := 4) rfl (by rw [e_x61]; rfl) (by decide) rfl (fun ls hl => ?_)
                  exact ih.2 v1 v2 x61 v4 0 s60 H locs hP hD hS ls (lv_sub hl [2, 3, 4, 0, 5, 1] rfl) hf
                · have hf := dz_f c112 hf
                  obtain ⟨x62, e_x62, hf⟩ := dz_lo hf
                  refine lv_iinc (v := x62) (lv' := [(4, .int x62), (6, .int 0), (0, .ref h), (1, .int v1), (2, .int v2), (3, .int v3), (5, .int v5)]) hx hb dX1_turns_115 hl (k := 5) rfl (by rw [e_x62]; rfl) (by decide) rfl (fun ls hl => ?_)
                  refine lv_goto (tgt := 124) hx hb dX1_turns_118 (by decide) ?_
                  exact ih.2 v1 v2 v3 x62 0 s60 H locs hP hD hS ls (lv_sub hl [2, 3, 4, 5, 0, 1] rfl) hf
          · have hf := dz_f c49 hf
            refine lv_iconst (v := 1) hx hb dX1_turns_52 (by decide) ?_
            refine lv_goto (tgt := 69) hx hb dX1_turns_53 (by decide) ?_
            refine lv_istore (lv' := [(6, .int 1), (0, .ref h), (1, .int v1), (2, .int v2), (3, .int v3), (4, .int v4), (5, .int v5)]) hx hb dX1_turns_69 hl (by decide) rfl (fun ls hl => ?_)
            refine lv_aload_n hx hb dX1_turns_71 rfl (lv_at hl 1 rfl) ?_
            refine lv_iload hx hb dX1_turns_72 (lv_at hl 0 rfl) ?_
            refine lv_if_eq (tgt := 84) hx hb dX1_turns_74 (by decide) (fun c74 => ?_) (fun c74 => ?_)
            · have hf := dz_t c74 hf
              refine lv_iload_n hx hb dX1_turns_84 rfl (lv_at hl 3 rfl) ?_
              refine lv_i2l hx hb dX1_turns_85 (rfl : _ = Int32.toInt64 v2) ?_
              refine lv_lconst (v := 1) hx hb dX1_turns_86 rfl ?_
              refine lv_lsub hx hb dX1_turns_87 ?_
              obtain ⟨s64, hx63, hf⟩ := dz_bo hf
              have hFc := dz_free hD hS hA
              refine va_callv (va_runV (As := [.long ((Int32.toInt64 v2) - 1)]) (rest := []) ⟨hx, hb, hml, hown, hts⟩ (mtX1_laysFactors l D cl ci hci h ad cA H.size s2 ((Int32.toInt64 v2) - 1) K s64 hx63) (cwV 1 hts (lw_V q1883 q1885 qs51 q88 q1886) rfl rfl rfl (by decide +kernel) ⟨Nat.le_of_ble_eq_true rfl, Nat.le_of_ble_eq_true rfl⟩) (m_preV hci hK hP hD) rfl rfl hl.1 rfl (lv_room (Nat.le_of_ble_eq_true rfl)) dX1_turns_88 ⟨Nat.le_refl _, Nat.le_refl _⟩) hS (fun q _ hq => hFc q hq) hFc (fun u t H1 locs ht hvm hw hB hz hk hS => ?_)
              replace hw := hw.symm; subst hw
              replace hP := m_back ht hB
              replace hD := mw_D s64 hD
              clear hB hk hz hvm ht hFc; generalize H1 = H at hP hS ⊢
              refine lv_aload_n hx hb dX1_turns_91 rfl (lv_at hl 1 rfl) ?_
              refine lv_iload_n hx hb dX1_turns_92 rfl (lv_at hl 2 rfl) ?_
              refine lv_iload hx hb dX1_turns_93 (lv_at hl 0 rfl) ?_
              refine lv_iload hx hb dX1_turns_95 (lv_at hl 0 rfl) ?_
              refine lv_if_eq (tgt := 105) hx hb dX1_turns_97 (by decide) (fun c97 => ?_) (fun c97 => ?_)
              · have hf := dz_t c97 hf
                refine lv_iload_n hx hb dX1_turns_105 rfl (lv_at hl 4 rfl) ?_
                refine lv_iconst (v := 2) hx hb dX1_turns_106 (by decide) ?_
                obtain ⟨s66, hx65, hf⟩ := dz_bo hf
                have hFc := dz_free hD hS hA
                refine va_callv (va_runV (As := [.int v1, .int 1, .int v3, .int 2]) (rest := []) ⟨hx, hb, hml, hown, hts⟩ (mtX1_rowsOf l D cl ci hci h ad cA H.size s64 v1 1 v3 2 K s66 hx65) (cwV 4 hts (lw_V q1887 q1889 qs52 q88 q1890) rfl rfl rfl (by decide +kernel) ⟨Nat.le_of_ble_eq_true rfl, Nat.le_of_ble_eq_true rfl⟩) (m_preV hci hK hP hD) rfl rfl hl.1 rfl (lv_room (Nat.le_of_ble_eq_true rfl)) dX1_turns_107 ⟨Nat.le_refl _, Nat.le_refl _⟩) hS (fun q _ hq => hFc q hq) hFc (fun u t H1 locs ht hvm hw hB hz hk hS => ?_)
                replace hw := hw.symm; subst hw
                replace hP := m_back ht hB
                replace hD := mw_D s66 hD
                clear hB hk hz hvm ht hFc; generalize H1 = H at hP hS ⊢
                refine lv_iload hx hb dX1_turns_110 (lv_at hl 0 rfl) ?_
                refine lv_if_eq (tgt := 121) hx hb dX1_turns_112 (by decide) (fun c112 => ?_) (fun c112 => ?_)
                · have hf := dz_t c112 hf
                  obtain ⟨x67, e_x67, hf⟩ := dz_lo hf
                  refine lv_iinc (v := x67) (lv' := [(3, .int x67), (6, .int 1), (0, .ref h), (1, .int v1), (2, .int v2), (4, .int v4), (5, .int v5)]) hx hb dX1_turns_121 hl (k := 4) rfl (by rw [e_x67]; rfl) (by decide) rfl (fun ls hl => ?_)
                  exact ih.2 v1 v2 x67 v4 1 s66 H locs hP hD hS ls (lv_sub hl [2, 3, 4, 0, 5, 1] rfl) hf
                · have hf := dz_f c112 hf
                  obtain ⟨x68, e_x68, hf⟩ := dz_lo hf
                  refine lv_iinc (v := x68) (lv' := [(4, .int x68), (6, .int 1), (0, .ref h), (1, .int v1), (2, .int v2), (3, .int v3), (5, .int v5)]) hx hb dX1_turns_115 hl (k := 5) rfl (by rw [e_x68]; rfl) (by decide) rfl (fun ls hl => ?_)
                  refine lv_goto (tgt := 124) hx hb dX1_turns_118 (by decide) ?_
                  exact ih.2 v1 v2 v3 x68 1 s66 H locs hP hD hS ls (lv_sub hl [2, 3, 4, 5, 0, 1] rfl) hf
              · have hf := dz_f c97 hf
                refine lv_iload hx hb dX1_turns_100 (lv_at hl 5 rfl) ?_
                refine lv_goto (tgt := 106) hx hb dX1_turns_102 (by decide) ?_
                refine lv_iconst (v := 2) hx hb dX1_turns_106 (by decide) ?_
                obtain ⟨s70, hx69, hf⟩ := dz_bo hf
                have hFc := dz_free hD hS hA
                refine va_callv (va_runV (As := [.int v1, .int 1, .int v4, .int 2]) (rest := []) ⟨hx, hb, hml, hown, hts⟩ (mtX1_rowsOf l D cl ci hci h ad cA H.size s64 v1 1 v4 2 K s70 hx69) (cwV 4 hts (lw_V q1887 q1889 qs52 q88 q1890) rfl rfl rfl (by decide +kernel) ⟨Nat.le_of_ble_eq_true rfl, Nat.le_of_ble_eq_true rfl⟩) (m_preV hci hK hP hD) rfl rfl hl.1 rfl (lv_room (Nat.le_of_ble_eq_true rfl)) dX1_turns_107 ⟨Nat.le_refl _, Nat.le_refl _⟩) hS (fun q _ hq => hFc q hq) hFc (fun u t H1 locs ht hvm hw hB hz hk hS => ?_)
                replace hw := hw.symm; subst hw
                replace hP := m_back ht hB
                replace hD := mw_D s70 hD
                clear hB hk hz hvm ht hFc; generalize H1 = H at hP hS ⊢
                refine lv_iload hx hb dX1_turns_110 (lv_at hl 0 rfl) ?_
                refine lv_if_eq (tgt := 121) hx hb dX1_turns_112 (by decide) (fun c112 => ?_) (fun c112 => ?_)
                · have hf := dz_t c112 hf
                  obtain ⟨x71, e_x71, hf⟩ := dz_lo hf
                  refine lv_iinc (v := x71) (lv' := [(3, .int x71), (6, .int 1), (0, .ref h), (1, .int v1), (2, .int v2), (4, .int v4), (5, .int v5)]) hx hb dX1_turns_121 hl (k := 4) rfl (by rw [e_x71]; rfl) (by decide) rfl (fun ls hl => ?_)
                  exact ih.2 v1 v2 x71 v4 1 s70 H locs hP hD hS ls (lv_sub hl [2, 3, 4, 0, 5, 1] rfl) hf
                · have hf := dz_f c112 hf
                  obtain ⟨x72, e_x72, hf⟩ := dz_lo hf
                  refine lv_iinc (v := x72) (lv' := [(4, .int x72), (6, .int 1), (0, .ref h), (1, .int v1), (2, .int v2), (3, .int v3), (5, .int v5)]) hx hb dX1_turns_115 hl (k := 5) rfl (by rw [e_x72]; rfl) (by decide) rfl (fun ls hl => ?_)
                  refine lv_goto (tgt := 124) hx hb dX1_turns_118 (by decide) ?_
                  exact ih.2 v1 v2 v3 x72 1 s70 H locs hP hD hS ls (lv_sub hl [2, 3, 4, 5, 0, 1] rfl) hf
            · have hf := dz_f c74 hf
              refine lv_iload_n hx hb dX1_turns_77 rfl (lv_at hl 3 rfl) ?_
              refine lv_i2l hx hb dX1_turns_78 (rfl : _ = Int32.toInt64 v2) ?_
              refine lv_lconst (v := 1) hx hb dX1_turns_79 rfl ?_
              refine lv_ladd hx hb dX1_turns_80 ?_
              refine lv_goto (tgt := 88) hx hb dX1_turns_81 (by decide) ?_
              obtain ⟨s74, hx73, hf⟩ := dz_bo hf
              have hFc := dz_free hD hS hA
              refine va_callv (va_runV (As := [.long ((Int32.toInt64 v2) + 1)]) (rest := []) ⟨hx, hb, hml, hown, hts⟩ (mtX1_laysFactors l D cl ci hci h ad cA H.size s2 ((Int32.toInt64 v2) + 1) K s74 hx73) (cwV 1 hts (lw_V q1883 q1885 qs51 q88 q1886) rfl rfl rfl (by decide +kernel) ⟨Nat.le_of_ble_eq_true rfl, Nat.le_of_ble_eq_true rfl⟩) (m_preV hci hK hP hD) rfl rfl hl.1 rfl (lv_room (Nat.le_of_ble_eq_true rfl)) dX1_turns_88 ⟨Nat.le_refl _, Nat.le_refl _⟩) hS (fun q _ hq => hFc q hq) hFc (fun u t H1 locs ht hvm hw hB hz hk hS => ?_)
              replace hw := hw.symm; subst hw
              replace hP := m_back ht hB
              replace hD := mw_D s74 hD
              clear hB hk hz hvm ht hFc; generalize H1 = H at hP hS ⊢
              refine lv_aload_n hx hb dX1_turns_91 rfl (lv_at hl 1 rfl) ?_
              refine lv_iload_n hx hb dX1_turns_92 rfl (lv_at hl 2 rfl) ?_
              refine lv_iload hx hb dX1_turns_93 (lv_at hl 0 rfl) ?_
              refine lv_iload hx hb dX1_turns_95 (lv_at hl 0 rfl) ?_
              refine lv_if_eq (tgt := 105) hx hb dX1_turns_97 (by decide) (fun c97 => ?_) (fun c97 => ?_)
              · have hf := dz_t c97 hf
                refine lv_iload_n hx hb dX1_turns_105 rfl (lv_at hl 4 rfl) ?_
                refine lv_iconst (v := 2) hx hb dX1_turns_106 (by decide) ?_
                obtain ⟨s76, hx75, hf⟩ := dz_bo hf
                have hFc := dz_free hD hS hA
                refine va_callv (va_runV (As := [.int v1, .int 1, .int v3, .int 2]) (rest := []) ⟨hx, hb, hml, hown, hts⟩ (mtX1_rowsOf l D cl ci hci h ad cA H.size s74 v1 1 v3 2 K s76 hx75) (cwV 4 hts (lw_V q1887 q1889 qs52 q88 q1890) rfl rfl rfl (by decide +kernel) ⟨Nat.le_of_ble_eq_true rfl, Nat.le_of_ble_eq_true rfl⟩) (m_preV hci hK hP hD) rfl rfl hl.1 rfl (lv_room (Nat.le_of_ble_eq_true rfl)) dX1_turns_107 ⟨Nat.le_refl _, Nat.le_refl _⟩) hS (fun q _ hq => hFc q hq) hFc (fun u t H1 locs ht hvm hw hB hz hk hS => ?_)
                replace hw := hw.symm; subst hw
                replace hP := m_back ht hB
                replace hD := mw_D s76 hD
                clear hB hk hz hvm ht hFc; generalize H1 = H at hP hS ⊢
                refine lv_iload hx hb dX1_turns_110 (lv_at hl 0 rfl) ?_
                refine lv_if_eq (tgt := 121) hx hb dX1_turns_112 (by decide) (fun c112 => ?_) (fun c112 => ?_)
                · have hf := dz_t c112 hf
                  obtain ⟨x77, e_x77, hf⟩ := dz_lo hf
                  refine lv_iinc (v := x77) (lv' := [(3, .int x77), (6, .int 1), (0, .ref h), (1, .int v1), (2, .int v2), (4, .int v4), (5, .int v5)]) hx hb dX1_turns_121 hl (k := 4) rfl (by rw [e_x77]; rfl) (by decide) rfl (fun ls hl => ?_)
                  exact ih.2 v1 v2 x77 v4 1 s76 H locs hP hD hS ls (lv_sub hl [2, 3, 4, 0, 5, 1] rfl) hf
                · have hf := dz_f c112 hf
                  obtain ⟨x78, e_x78, hf⟩ := dz_lo hf
                  refine lv_iinc (v := x78) (lv' := [(4, .int x78), (6, .int 1), (0, .ref h), (1, .int v1), (2, .int v2), (3, .int v3), (5, .int v5)]) hx hb dX1_turns_115 hl (k := 5) rfl (by rw [e_x78]; rfl) (by decide) rfl (fun ls hl => ?_)
                  refine lv_goto (tgt := 124) hx hb dX1_turns_118 (by decide) ?_
                  exact ih.2 v1 v2 v3 x78 1 s76 H locs hP hD hS ls (lv_sub hl [2, 3, 4, 5, 0, 1] rfl) hf
              · have hf := dz_f c97 hf
                refine lv_iload hx hb dX1_turns_100 (lv_at hl 5 rfl) ?_
                refine lv_goto (tgt := 106) hx hb dX1_turns_102 (by decide) ?_
                refine lv_iconst (v := 2) hx hb dX1_turns_106 (by decide) ?_
                obtain ⟨s80, hx79, hf⟩ := dz_bo hf
                have hFc := dz_free hD hS hA
                refine va_callv (va_runV (As := [.int v1, .int 1, .int v4, .int 2]) (rest := []) ⟨hx, hb, hml, hown, hts⟩ (mtX1_rowsOf l D cl ci hci h ad cA H.size s74 v1 1 v4 2 K s80 hx79) (cwV 4 hts (lw_V q1887 q1889 qs52 q88 q1890) rfl rfl rfl (by decide +kernel) ⟨Nat.le_of_ble_eq_true rfl, Nat.le_of_ble_eq_true rfl⟩) (m_preV hci hK hP hD) rfl rfl hl.1 rfl (lv_room (Nat.le_of_ble_eq_true rfl)) dX1_turns_107 ⟨Nat.le_refl _, Nat.le_refl _⟩) hS (fun q _ hq => hFc q hq) hFc (fun u t H1 locs ht hvm hw hB hz hk hS => ?_)
                replace hw := hw.symm; subst hw
                replace hP := m_back ht hB
                replace hD := mw_D s80 hD
                clear hB hk hz hvm ht hFc; generalize H1 = H at hP hS ⊢
                refine lv_iload hx hb dX1_turns_110 (lv_at hl 0 rfl) ?_
                refine lv_if_eq (tgt := 121) hx hb dX1_turns_112 (by decide) (fun c112 => ?_) (fun c112 => ?_)
                · have hf := dz_t c112 hf
                  obtain ⟨x81, e_x81, hf⟩ := dz_lo hf
                  refine lv_iinc (v := x81) (lv' := [(3, .int x81), (6, .int 1), (0, .ref h), (1, .int v1), (2, .int v2), (4, .int v4), (5, .int v5)]) hx hb dX1_turns_121 hl (k := 4) rfl (by rw [e_x81]; rfl) (by decide) rfl (fun ls hl => ?_)
                  exact ih.2 v1 v2 x81 v4 1 s80 H locs hP hD hS ls (lv_sub hl [2, 3, 4, 0, 5, 1] rfl) hf
                · have hf := dz_f c112 hf
                  obtain ⟨x82, e_x82, hf⟩ := dz_lo hf
                  refine lv_iinc (v := x82) (lv' := [(4, .int x82), (6, .int 1), (0, .ref h), (1, .int v1), (2, .int v2), (3, .int v3), (5, .int v5)]) hx hb dX1_turns_115 hl (k := 5) rfl (by rw [e_x82]; rfl) (by decide) rfl (fun ls hl => ?_)
                  refine lv_goto (tgt := 124) hx hb dX1_turns_118 (by decide) ?_
                  exact ih.2 v1 v2 v3 x82 1 s80 H locs hP hD hS ls (lv_sub hl [2, 3, 4, 5, 0, 1] rfl) hf
    · intro v1 v2 v3 v4 v6 σ H locs hP hD hS ls hl hf
      have hf : (if v6 = (0 : Int32) then ((lfX1_turns K k).1 v1 v2 v3 v4 1 σ) else ((lfX1_turns K k).1 v1 v2 v3 v4 0 σ) : Option pM) = some res := hf
      refine lv_iload hx hb dX1_turns_124 (lv_at hl 5 rfl) ?_
      refine lv_if_ne (tgt := 133) hx hb dX1_turns_126 (by decide) (fun c126 => ?_) (fun c126 => ?_)
      · have hf := dz_f c126 hf
        refine lv_iconst (v := 0) hx hb dX1_turns_133 (by decide) ?_
        refine lv_istore (lv' := [(5, .int 0), (0, .ref h), (1, .int v1), (2, .int v2), (3, .int v3), (4, .int v4), (6, .int v6)]) hx hb dX1_turns_134 hl (by decide) rfl (fun ls hl => ?_)
        refine lv_goto (tgt := 34) hx hb dX1_turns_136 (by decide) ?_
        exact ih.1 v1 v2 v3 v4 0 σ H locs hP hD hS ls (lv_sub hl [1, 2, 3, 4, 5, 0] rfl) hf
      · have hf := dz_t c126 hf
        refine lv_iconst (v := 1) hx hb dX1_turns_129 (by decide) ?_
        refine lv_goto (tgt := 134) hx hb dX1_turns_130 (by decide) ?_
        refine lv_istore (lv' := [(5, .int 1), (0, .ref h), (1, .int v1), (2, .int v2), (3, .int v3), (4, .int v4), (6, .int v6)]) hx hb dX1_turns_134 hl (by decide) rfl (fun ls hl => ?_)
        refine lv_goto (tgt := 34) hx hb dX1_turns_136 (by decide) ?_
        exact ih.1 v1 v2 v3 v4 1 σ H locs hP hD hS ls (lv_sub hl [1, 2, 3, 4, 5, 0] rfl) hf
set_option maxHeartbeats 4000000 in
set_option maxRecDepth 100000 in
theorem mtX1_turns (l : Launch) (D : va_G) (cl : List vw_C) (ci : Nat) (hci : cl[ci]? = some (RX1, TX1, 35)) (h : Nat) (ad : Nat → Nat) (cA : Nat → ClassId) (sz : Nat) (σ : pM) (a0 : Int32) (a1 : Int32) (K : Nat) (res : pM) (hf : fnX1_turns K a0 a1 σ = some res) : Met l yX1_turns (ws_ yX1_turns cX1_turns 7 (none)) ({ frames := 3, cells := 0, slots := 0, locals := 81 }) (mPc D cl ci h ad cA sz σ [.ref h, .int a0, .int a1]) (mQv D cl ci h ad cA (va_A (mw ci h ad cA σ) sz) res) 0 0 (va_A (mw ci h ad cA σ) sz) := by
  refine Met.ofW (cc := cX1_turns) (maxL := 7) (ret := none) (by decide +kernel) rfl ?_
  intro p e s m args below meth c s₁ B hml hv
  obtain ⟨rfl, hsz, hP, hK, hD0⟩ := hv
  have hx := B.exec
  have hb := B.bytes
  have hr := B.returns
  have hts := atoms_spec (ws := ws_ yX1_turns cX1_turns 7 (none)) B.pre
  have hts : ∀ w ∈ lw_all, w.before _ s = true := fun w h => hts w (List.mem_cons_of_mem _ h)
  have hown : s.vm.findClass RX1 = some m.cls := findClass_of_methodNamed B.named
  have hlocks := B.notSynchronized
  subst hsz
  have hD := hD0.self (sz := s.heap.size)
  generalize hAe : va_A (mw ci h ad cA σ) s.heap.size = A at hD ⊢
  have hA : ∀ q : Nat, s.heap.size ≤ q → A q := fun q h => by rw [← hAe]; exact Or.inr h
  clear hAe hD0
  have hS : va_S A s.heap s.heap [] := va_S.rf
  generalize hHe : s.heap = H at hP hS ⊢
  have hS : va_S A s.heap H [] := by rw [hHe]; exact hS
  generalize ([] : List Loc) = locs at hS ⊢
  have hl := lv_entry ([.ref h, .int a0, .int a1]) (n := 7) (Nat.le_of_ble_eq_true rfl)
  rw [lg_entry_eq]
  generalize (lg_sl ([.ref h, .int a0, .int a1]) ++ List.replicate (7 - (lg_sl ([.ref h, .int a0, .int a1])).length) Slot.unset).toArray = ls at hl ⊢
  have hl : lv_has ls 7 [(0, .ref h), (1, .int a0), (2, .int a1)] := hl
  have hf : (dz_b (fnX1_laysFactors K ((Int32.toInt64 a1) - 1) σ) fun s2 => dz_l (s2.1 6) fun x3 => dz_l (x3 - 1) fun x4 => dz_b (fnX1_laysFactors K ((Int32.toInt64 a1) + 1) s2) fun s6 => dz_l (s6.1 6) fun x7 => dz_l (x7 - 1) fun x8 => (lfX1_turns K K).1 a0 a1 x4 x8 0 s6 : Option pM) = some res := hf
  have ih := wlX1_turns (l := l) (e := e) (below := below) (h := h) (ad := ad) (cA := cA) hci hA hK K res a0 a1 hx hb hr hlocks hml hown hts K
  refine lv_aload_n hx hb dX1_turns_0 rfl (lv_at hl 0 rfl) ?_
  refine lv_iload_n hx hb dX1_turns_1 rfl (lv_at hl 2 rfl) ?_
  refine lv_i2l hx hb dX1_turns_2 (rfl : _ = Int32.toInt64 a1) ?_
  refine lv_lconst (v := 1) hx hb dX1_turns_3 rfl ?_
  refine lv_lsub hx hb dX1_turns_4 ?_
  obtain ⟨s2, hx1, hf⟩ := dz_bo hf
  have hFc := dz_free hD hS hA
  refine va_callv (va_runV (As := [.long ((Int32.toInt64 a1) - 1)]) (rest := []) ⟨hx, hb, hml, hown, hts⟩ (mtX1_laysFactors l D cl ci hci h ad cA H.size σ ((Int32.toInt64 a1) - 1) K s2 hx1) (cwV 1 hts (lw_V q1883 q1885 qs51 q88 q1886) rfl rfl rfl (by decide +kernel) ⟨Nat.le_of_ble_eq_true rfl, Nat.le_of_ble_eq_true rfl⟩) (m_preV hci hK hP hD) rfl rfl hl.1 rfl (lv_room (Nat.le_of_ble_eq_true rfl)) dX1_turns_5 ⟨Nat.le_refl _, Nat.le_refl _⟩) hS (fun q _ hq => hFc q hq) hFc (fun u t H1 locs ht hvm hw hB hz hk hS => ?_)
  replace hw := hw.symm; subst hw
  replace hP := m_back ht hB
  replace hD := mw_D s2 hD
  clear hB hk hz hvm ht hFc; generalize H1 = H at hP hS ⊢
  refine lv_aload_n hx hb dX1_turns_8 rfl (lv_at hl 0 rfl) ?_
  refine va_get (C := RX1) (T := TX1) (N := 35) (fs := mwF ad s2) (v := .int (s2.1 6)) hx hb hts in_X1 hown hK hP 0 rfl hci 6 (by decide) (hts _ q1677) (fun _ hq => hq) rfl dX1_turns_9 ?_
  refine lv_topi (fun x3 e_x3 => ?_)
  have hf := dz_ls e_x3 hf
  refine lv_iconst (v := 1) hx hb dX1_turns_12 (by decide) ?_
  refine lv_isub hx hb dX1_turns_13 ?_
  refine lv_topi (fun x4 e_x4 => ?_)
  have hf := dz_ls e_x4 hf
  refine lv_istore_n (lv' := [(3, .int x4), (0, .ref h), (1, .int a0), (2, .int a1)]) hx hb dX1_turns_14 rfl hl (by decide) rfl (fun ls hl => ?_)
  refine lv_aload_n hx hb dX1_turns_15 rfl (lv_at hl 1 rfl) ?_
  refine lv_iload_n hx hb dX1_turns_16 rfl (lv_at hl 3 rfl) ?_
  refine lv_i2l hx hb dX1_turns_17 (rfl : _ = Int32.toInt64 a1) ?_
  refine lv_lconst (v := 1) hx hb dX1_turns_18 rfl ?_
  refine lv_ladd hx hb dX1_turns_19 ?_
  obtain ⟨s6, hx5, hf⟩ := dz_bo hf
  have hFc := dz_free hD hS hA
  refine va_callv (va_runV (As := [.long ((Int32.toInt64 a1) + 1)]) (rest := []) ⟨hx, hb, hml, hown, hts⟩ (mtX1_laysFactors l D cl ci hci h ad cA H.size s2 ((Int32.toInt64 a1) + 1) K s6 hx5) (cwV 1 hts (lw_V q1883 q1885 qs51 q88 q1886) rfl rfl rfl (by decide +kernel) ⟨Nat.le_of_ble_eq_true rfl, Nat.le_of_ble_eq_true rfl⟩) (m_preV hci hK hP hD) rfl rfl hl.1 rfl (lv_room (Nat.le_of_ble_eq_true rfl)) dX1_turns_20 ⟨Nat.le_refl _, Nat.le_refl _⟩) hS (fun q _ hq => hFc q hq) hFc (fun u t H1 locs ht hvm hw hB hz hk hS => ?_)
  replace hw := hw.symm; subst hw
  replace hP := m_back ht hB
  replace hD := mw_D s6 hD
  clear hB hk hz hvm ht hFc; generalize H1 = H at hP hS ⊢
  refine lv_aload_n hx hb dX1_turns_23 rfl (lv_at hl 1 rfl) ?_
  refine va_get (C := RX1) (T := TX1) (N := 35) (fs := mwF ad s6) (v := .int (s6.1 6)) hx hb hts in_X1 hown hK hP 0 rfl hci 6 (by decide) (hts _ q1677) (fun _ hq => hq) rfl dX1_turns_24 ?_
  refine lv_topi (fun x7 e_x7 => ?_)
  have hf := dz_ls e_x7 hf
  refine lv_iconst (v := 1) hx hb dX1_turns_27 (by decide) ?_
  refine lv_isub hx hb dX1_turns_28 ?_
  refine lv_topi (fun x8 e_x8 => ?_)
  have hf := dz_ls e_x8 hf
  refine lv_istore (lv' := [(4, .int x8), (3, .int x4), (0, .ref h), (1, .int a0), (2, .int a1)]) hx hb dX1_turns_29 hl (by decide) rfl (fun ls hl => ?_)
  refine lv_iconst (v := 0) hx hb dX1_turns_31 (by decide) ?_
  refine lv_istore (lv' := [(5, .int 0), (4, .int x8), (3, .int x4), (0, .ref h), (1, .int a0), (2, .int a1)]) hx hb dX1_turns_32 hl (by decide) rfl (fun ls hl => ?_)
  exact ih.1 a0 a1 x4 x8 0 s6 H locs hP hD hS ls (lv_sub hl [3, 4, 5, 2, 1, 0] rfl) hf

noncomputable def lfX1_laysRows (K : Nat) : Nat → (Int32 → Int32 → Int32 → pM → Option pM) × (Int32 → Int32 → Int32 → pM → Option pM) × (Int32 → Int32 → pM → Option pM) × (pM → Option pM) := Nat.rec (motive := fun _ => (Int32 → Int32 → Int32 → pM → Option pM) × (Int32 → Int32 → Int32 → pM → Option pM) × (Int32 → Int32 → pM → Option pM) × (pM → Option pM)) ((fun _ _ _ _ => none), (fun _ _ _ _ => none), (fun _ _ _ => none), (fun _ => none)) (fun _ G => ((fun v1 v2 v3 σ => if v2 = (1 : Int32) then (dz_b (fnX1_laysFactors K ((Int32.toInt64 v3) - 1) σ) fun s4 => G.2.1 v1 v2 0 s4) else (dz_b (fnX1_laysFactors K ((Int32.toInt64 v3) + 1) σ) fun s2 => G.2.1 v1 v2 0 s2)), (fun v1 v2 v4 σ => dz_l (σ.1 6) fun x1 => if x1 ≤ v4 then (some σ) else (if v2 = (3 : Int32) then (dz_b (fnX1_rowsOf K v1 1 v4 2 σ) fun s6 => dz_l (v4 + 1) fun x7 => G.2.1 v1 v2 x7 s6) else (dz_b (fnX1_rowsOf K v1 0 v4 2 σ) fun s3 => dz_l (v4 + 1) fun x4 => G.2.1 v1 v2 x4 s3))), (fun v1 v4 σ => if v4 < (0 : Int32) then (G.2.2.2 σ) else (dz_c (fnX1_isEnough K v1 σ) fun x1 s2 => if x1 = (0 : Int32) then (dz_b (fnX1_rowsOf K v1 0 v4 2 s2) fun s4 => dz_l (v4 + (-1)) fun x5 => G.2.2.1 v1 x5 s4) else (G.2.2.2 s2))), (fun σ => some σ)))
noncomputable def fnX1_laysRows (K : Nat) (a0 : Int32) (σ : pM) : Option pM := if ¬ (a0 < 0 ∨ 116 ≤ Int32.toNatClampNeg a0) then (dz_l (σ.2.2.1 9 (Int32.toNatClampNeg a0)) fun x2 => if ¬ (a0 < 0 ∨ 116 ≤ Int32.toNatClampNeg a0) then (dz_l (σ.2.2.1 8 (Int32.toNatClampNeg a0)) fun x4 => if ¬ (a0 < 0 ∨ 116 ≤ Int32.toNatClampNeg a0) then (dz_l (mI σ 12 (Int32.toNatClampNeg a0) 0) fun s6 => if ¬ (a0 < 0 ∨ 116 ≤ Int32.toNatClampNeg a0) then (dz_l (mI s6 13 (Int32.toNatClampNeg a0) 0) fun s8 => if x2 = (1 : Int32) then ((lfX1_laysRows K K).1 a0 x2 x4 s8) else (if x2 = (3 : Int32) then ((lfX1_laysRows K K).1 a0 x2 x4 s8) else (if x2 = (2 : Int32) then (dz_b (fnX1_laysFactors K ((Int32.toInt64 x4) - 1) s8) fun s12 => dz_l (s12.1 6) fun x13 => dz_l (x13 - 1) fun x14 => (lfX1_laysRows K K).2.2.1 a0 x14 s12) else (if x2 = (4 : Int32) then (dz_b (fnX1_turns K a0 x4 s8) fun s10 => some s10) else (some s8))))) else none) else none) else none) else none
set_option maxHeartbeats 4000000 in
set_option maxRecDepth 100000 in
theorem wlX1_laysRows {p : Program} {l : Launch} {e : Env} {s : State} {m : MethodId} {below : List Frame} {meth : Method} {c : Code} {D : va_G} {cl : List vw_C} {ci : Nat} (hci : cl[ci]? = some (RX1, TX1, 35)) {h : Nat} {ad : Nat → Nat} {cA : Nat → ClassId} {A : Nat → Prop} (hA : ∀ q : Nat, s.heap.size ≤ q → A q) (hK : va_K D cl (mtys cA) s) (K : Nat) (res : pM) (a0 : Int32) (hx : p.tables.exec = Jvm.exec) (hb : c.code = cX1_laysRows) (hr : meth.sig.returnType = none) (hlocks : meth.locks = false) (hml : c.maxLocals = 5) (hown : s.vm.findClass RX1 = some m.cls) (hts : ∀ w ∈ lw_all, w.before ([.ref h, .int a0] : List Value).toArray s = true) : ∀ k : Nat, (∀ (v1 : Int32) (v2 : Int32) (v3 : Int32) (σ : pM) (H : Heap) (locs : List Loc), va_P D cl (mw ci h ad cA σ) H → va_D A (mw ci h ad cA σ) → va_S A s.heap H locs → ∀ (ls : Array Slot), lv_has ls 5 [(0, .ref h), (1, .int v1), (2, .int v2), (3, .int v3)] → (lfX1_laysRows K k).1 v1 v2 v3 σ = some res → W p l e (headSpec (ws_ yX1_laysRows cX1_laysRows 5 (none)) ({ frames := 4, cells := 0, slots := 0, locals := 107 })).room s m ([.ref h, .int a0] : List Value).toArray below meth c H locs 0 0 (MQ below (mQv D cl ci h ad cA A res) ([.ref h, .int a0] : List Value).toArray s 0 0 A) (F0 m 38 ls [])) ∧ (∀ (v1 : Int32) (v2 : Int32) (v4 : Int32) (σ : pM) (H : Heap) (locs : List Loc), va_P D cl (mw ci h ad cA σ) H → va_D A (mw ci h ad cA σ) → va_S A s.heap H locs → ∀ (ls : Array Slot), lv_has ls 5 [(0, .ref h), (1, .int v1), (2, .int v2), (4, .int v4)] → (lfX1_laysRows K k).2.1 v1 v2 v4 σ = some res → W p l e (headSpec (ws_ yX1_laysRows cX1_laysRows 5 (none)) ({ frames := 4, cells := 0, slots := 0, locals := 107 })).room s m ([.ref h, .int a0] : List Value).toArray below meth c H locs 0 0 (MQ below (mQv D cl ci h ad cA A res) ([.ref h, .int a0] : List Value).toArray s 0 0 A) (F0 m 61 ls [])) ∧ (∀ (v1 : Int32) (v4 : Int32) (σ : pM) (H : Heap) (locs : List Loc), va_P D cl (mw ci h ad cA σ) H → va_D A (mw ci h ad cA σ) → va_S A s.heap H locs → ∀ (ls : Array Slot), lv_has ls 5 [(0, .ref h), (1, .int v1), (4, .int v4)] → (lfX1_laysRows K k).2.2.1 v1 v4 σ = some res → W p l e (headSpec (ws_ yX1_laysRows cX1_laysRows 5 (none)) ({ frames := 4, cells := 0, slots := 0, locals := 107 })).room s m ([.ref h, .int a0] : List Value).toArray below meth c H locs 0 0 (MQ below (mQv D cl ci h ad cA A res) ([.ref h, .int a0] : List Value).toArray s 0 0 A) (F0 m 118 ls [])) ∧ (∀  (σ : pM) (H : Heap) (locs : List Loc), va_P D cl (mw ci h ad cA σ) H → va_D A (mw ci h ad cA σ) → va_S A s.heap H locs → ∀ (ls : Array Slot), lv_has ls 5 [] → (lfX1_laysRows K k).2.2.2 σ = some res → W p l e (headSpec (ws_ yX1_laysRows cX1_laysRows 5 (none)) ({ frames := 4, cells := 0, slots := 0, locals := 107 })).room s m ([.ref h, .int a0] : List Value).toArray below meth c H locs 0 0 (MQ below (mQv D cl ci h ad cA A res) ([.ref h, .int a0] : List Value).toArray s 0 0 A) (F0 m 146 ls [])) := by
  intro k
  induction k with
  | zero =>
    exact ⟨fun _ _ _ _ _ _ _ _ _ _ _ hf => (by cases hf), fun _ _ _ _ _ _ _ _ _ _ _ hf => (by cases hf), fun _ _ _ _ _ _ _ _ _ _ hf => (by cases hf), fun _ _ _ _ _ _ _ _ hf => (by cases hf)⟩
  | succ k ih =>
    refine ⟨?_, ?_, ?_, ?_⟩
    · intro v1 v2 v3 σ H locs hP hD hS ls hl hf
      have hf : (if v2 = (1 : Int32) then (dz_b (fnX1_laysFactors K ((Int32.toInt64 v3) - 1) σ) fun s4 => (lfX1_laysRows K k).2.1 v1 v2 0 s4) else (dz_b (fnX1_laysFactors K ((Int32.toInt64 v3) + 1) σ) fun s2 => (lfX1_laysRows K k).2.1 v1 v2 0 s2) : Option pM) = some res := hf
      refine lv_aload_n hx hb dX1_laysRows_38 rfl (lv_at hl 0 rfl) ?_
      refine lv_iload_n hx hb dX1_laysRows_39 rfl (lv_at hl 2 rfl) ?_
      refine lv_iconst (v := 1) hx hb dX1_laysRows_40 (by decide) ?_
      refine lv_icmp_ne (tgt := 51) hx hb dX1_laysRows_41 (by decide) (fun c41 => ?_) (fun c41 => ?_)
      · have hf := dz_f c41 hf
        refine lv_iload_n hx hb dX1_laysRows_51 rfl (lv_at hl 3 rfl) ?_
        refine lv_i2l hx hb dX1_laysRows_52 (rfl : _ = Int32.toInt64 v3) ?_
        refine lv_lconst (v := 1) hx hb dX1_laysRows_53 rfl ?_
        refine lv_ladd hx hb dX1_laysRows_54 ?_
        obtain ⟨s2, hx1, hf⟩ := dz_bo hf
        have hFc := dz_free hD hS hA
        refine va_callv (va_runV (As := [.long ((Int32.toInt64 v3) + 1)]) (rest := []) ⟨hx, hb, hml, hown, hts⟩ (mtX1_laysFactors l D cl ci hci h ad cA H.size σ ((Int32.toInt64 v3) + 1) K s2 hx1) (cwV 1 hts (lw_V q1883 q1885 qs51 q88 q1886) rfl rfl rfl (by decide +kernel) ⟨Nat.le_of_ble_eq_true rfl, Nat.le_of_ble_eq_true rfl⟩) (m_preV hci hK hP hD) rfl rfl hl.1 rfl (lv_room (Nat.le_of_ble_eq_true rfl)) dX1_laysRows_55 ⟨Nat.le_refl _, Nat.le_refl _⟩) hS (fun q _ hq => hFc q hq) hFc (fun u t H1 locs ht hvm hw hB hz hk hS => ?_)
        replace hw := hw.symm; subst hw
        replace hP := m_back ht hB
        replace hD := mw_D s2 hD
        clear hB hk hz hvm ht hFc; generalize H1 = H at hP hS ⊢
        refine lv_iconst (v := 0) hx hb dX1_laysRows_58 (by decide) ?_
        refine lv_istore (lv' := [(4, .int 0), (0, .ref h), (1, .int v1), (2, .int v2), (3, .int v3)]) hx hb dX1_laysRows_59 hl (by decide) rfl (fun ls hl => ?_)
        exact ih.2.1 v1 v2 0 s2 H locs hP hD hS ls (lv_sub hl [1, 2, 3, 0] rfl) hf
      · have hf := dz_t c41 hf
        refine lv_iload_n hx hb dX1_laysRows_44 rfl (lv_at hl 3 rfl) ?_
        refine lv_i2l hx hb dX1_laysRows_45 (rfl : _ = Int32.toInt64 v3) ?_
        refine lv_lconst (v := 1) hx hb dX1_laysRows_46 rfl ?_
        refine lv_lsub hx hb dX1_laysRows_47 ?_
        refine lv_goto (tgt := 55) hx hb dX1_laysRows_48 (by decide) ?_
        obtain ⟨s4, hx3, hf⟩ := dz_bo hf
        have hFc := dz_free hD hS hA
        refine va_callv (va_runV (As := [.long ((Int32.toInt64 v3) - 1)]) (rest := []) ⟨hx, hb, hml, hown, hts⟩ (mtX1_laysFactors l D cl ci hci h ad cA H.size σ ((Int32.toInt64 v3) - 1) K s4 hx3) (cwV 1 hts (lw_V q1883 q1885 qs51 q88 q1886) rfl rfl rfl (by decide +kernel) ⟨Nat.le_of_ble_eq_true rfl, Nat.le_of_ble_eq_true rfl⟩) (m_preV hci hK hP hD) rfl rfl hl.1 rfl (lv_room (Nat.le_of_ble_eq_true rfl)) dX1_laysRows_55 ⟨Nat.le_refl _, Nat.le_refl _⟩) hS (fun q _ hq => hFc q hq) hFc (fun u t H1 locs ht hvm hw hB hz hk hS => ?_)
        replace hw := hw.symm; subst hw
        replace hP := m_back ht hB
        replace hD := mw_D s4 hD
        clear hB hk hz hvm ht hFc; generalize H1 = H at hP hS ⊢
        refine lv_iconst (v := 0) hx hb dX1_laysRows_58 (by decide) ?_
        refine lv_istore (lv' := [(4, .int 0), (0, .ref h), (1, .int v1), (2, .int v2), (3, .int v3)]) hx hb dX1_laysRows_59 hl (by decide) rfl (fun ls hl => ?_)
        exact ih.2.1 v1 v2 0 s4 H locs hP hD hS ls (lv_sub hl [1, 2, 3, 0] rfl) hf
    · intro v1 v2 v4 σ H locs hP hD hS ls hl hf
      have hf : (dz_l (σ.1 6) fun x1 => if x1 ≤ v4 then (some σ) else (if v2 = (3 : Int32) then (dz_b (fnX1_rowsOf K v1 1 v4 2 σ) fun s6 => dz_l (v4 + 1) fun x7 => (lfX1_laysRows K k).2.1 v1 v2 x7 s6) else (dz_b (fnX1_rowsOf K v1 0 v4 2 σ) fun s3 => dz_l (v4 + 1) fun x4 => (lfX1_laysRows K k).2.1 v1 v2 x4 s3)) : Option pM) = some res := hf
      refine lv_iload hx hb dX1_laysRows_61 (lv_at hl 3 rfl) ?_
      refine lv_aload_n hx hb dX1_laysRows_63 rfl (lv_at hl 0 rfl) ?_
      refine va_get (C := RX1) (T := TX1) (N := 35) (fs := mwF ad σ) (v := .int (σ.1 6)) hx hb hts in_X1 hown hK hP 0 rfl hci 6 (by decide) (hts _ q1677) (fun _ hq => hq) rfl dX1_laysRows_64 ?_
      refine lv_topi (fun x1 e_x1 => ?_)
      have hf := dz_ls e_x1 hf
      refine lv_icmp_ge (tgt := 94) hx hb dX1_laysRows_67 (by decide) (fun c67 => ?_) (fun c67 => ?_)
      · have hf := dz_t c67 hf
        refine lv_goto (tgt := 160) hx hb dX1_laysRows_94 (by decide) ?_
        exact W.vret hx hb hr (fun t ht hW => ⟨⟨σ, rfl, Option.some.inj hf, by rw [ht]; exact hP, va_K.moved hW.alike hK, hD⟩, hS.F ht⟩) hS.2.2 dX1_laysRows_160
      · have hf := dz_f c67 hf
        refine lv_aload_n hx hb dX1_laysRows_70 rfl (lv_at hl 0 rfl) ?_
        refine lv_iload_n hx hb dX1_laysRows_71 rfl (lv_at hl 1 rfl) ?_
        refine lv_iload_n hx hb dX1_laysRows_72 rfl (lv_at hl 2 rfl) ?_
        refine lv_iconst (v := 3) hx hb dX1_laysRows_73 (by decide) ?_
        refine lv_icmp_ne (tgt := 81) hx hb dX1_laysRows_74 (by decide) (fun c74 => ?_) (fun c74 => ?_)
        · have hf := dz_f c74 hf
          refine lv_iconst (v := 0) hx hb dX1_laysRows_81 (by decide) ?_
          refine lv_iload hx hb dX1_laysRows_82 (lv_at hl 3 rfl) ?_
          refine lv_iconst (v := 2) hx hb dX1_laysRows_84 (by decide) ?_
          obtain ⟨s3, hx2, hf⟩ := dz_bo hf
          have hFc := dz_free hD hS hA
          refine va_callv (va_runV (As := [.int v1, .int 0, .int v4, .int 2]) (rest := []) ⟨hx, hb, hml, hown, hts⟩ (mtX1_rowsOf l D cl ci hci h ad cA H.size σ v1 0 v4 2 K s3 hx2) (cwV 4 hts (lw_V q1887 q1889 qs52 q88 q1890) rfl rfl rfl (by decide +kernel) ⟨Nat.le_of_ble_eq_true rfl, Nat.le_of_ble_eq_true rfl⟩) (m_preV hci hK hP hD) rfl rfl hl.1 rfl (lv_room (Nat.le_of_ble_eq_true rfl)) dX1_laysRows_85 ⟨Nat.le_refl _, Nat.le_refl _⟩) hS (fun q _ hq => hFc q hq) hFc (fun u t H1 locs ht hvm hw hB hz hk hS => ?_)
          replace hw := hw.symm; subst hw
          replace hP := m_back ht hB
          replace hD := mw_D s3 hD
          clear hB hk hz hvm ht hFc; generalize H1 = H at hP hS ⊢
          obtain ⟨x4, e_x4, hf⟩ := dz_lo hf
          refine lv_iinc (v := x4) (lv' := [(4, .int x4), (0, .ref h), (1, .int v1), (2, .int v2)]) hx hb dX1_laysRows_88 hl (k := 3) rfl (by rw [e_x4]; rfl) (by decide) rfl (fun ls hl => ?_)
          refine lv_goto (tgt := 61) hx hb dX1_laysRows_91 (by decide) ?_
          exact ih.2.1 v1 v2 x4 s3 H locs hP hD hS ls (lv_sub hl [1, 2, 3, 0] rfl) hf
        · have hf := dz_t c74 hf
          refine lv_iconst (v := 1) hx hb dX1_laysRows_77 (by decide) ?_
          refine lv_goto (tgt := 82) hx hb dX1_laysRows_78 (by decide) ?_
          refine lv_iload hx hb dX1_laysRows_82 (lv_at hl 3 rfl) ?_
          refine lv_iconst (v := 2) hx hb dX1_laysRows_84 (by decide) ?_
          obtain ⟨s6, hx5, hf⟩ := dz_bo hf
          have hFc := dz_free hD hS hA
          refine va_callv (va_runV (As := [.int v1, .int 1, .int v4, .int 2]) (rest := []) ⟨hx, hb, hml, hown, hts⟩ (mtX1_rowsOf l D cl ci hci h ad cA H.size σ v1 1 v4 2 K s6 hx5) (cwV 4 hts (lw_V q1887 q1889 qs52 q88 q1890) rfl rfl rfl (by decide +kernel) ⟨Nat.le_of_ble_eq_true rfl, Nat.le_of_ble_eq_true rfl⟩) (m_preV hci hK hP hD) rfl rfl hl.1 rfl (lv_room (Nat.le_of_ble_eq_true rfl)) dX1_laysRows_85 ⟨Nat.le_refl _, Nat.le_refl _⟩) hS (fun q _ hq => hFc q hq) hFc (fun u t H1 locs ht hvm hw hB hz hk hS => ?_)
          replace hw := hw.symm; subst hw
          replace hP := m_back ht hB
          replace hD := mw_D s6 hD
          clear hB hk hz hvm ht hFc; generalize H1 = H at hP hS ⊢
          obtain ⟨x7, e_x7, hf⟩ := dz_lo hf
          refine lv_iinc (v := x7) (lv' := [(4, .int x7), (0, .ref h), (1, .int v1), (2, .int v2)]) hx hb dX1_laysRows_88 hl (k := 3) rfl (by rw [e_x7]; rfl) (by decide) rfl (fun ls hl => ?_)
          refine lv_goto (tgt := 61) hx hb dX1_laysRows_91 (by decide) ?_
          exact ih.2.1 v1 v2 x7 s6 H locs hP hD hS ls (lv_sub hl [1, 2, 3, 0] rfl) hf
    · intro v1 v4 σ H locs hP hD hS ls hl hf
      have hf : (if v4 < (0 : Int32) then ((lfX1_laysRows K k).2.2.2 σ) else (dz_c (fnX1_isEnough K v1 σ) fun x1 s2 => if x1 = (0 : Int32) then (dz_b (fnX1_rowsOf K v1 0 v4 2 s2) fun s4 => dz_l (v4 + (-1)) fun x5 => (lfX1_laysRows K k).2.2.1 v1 x5 s4) else ((lfX1_laysRows K k).2.2.2 s2)) : Option pM) = some res := hf
      refine lv_iload hx hb dX1_laysRows_118 (lv_at hl 2 rfl) ?_
      refine lv_if_lt (tgt := 146) hx hb dX1_laysRows_120 (by decide) (fun c120 => ?_) (fun c120 => ?_)
      · have hf := dz_t c120 hf
        exact ih.2.2.2 σ H locs hP hD hS ls (lv_sub hl [] rfl) hf
      · have hf := dz_f c120 hf
        refine lv_aload_n hx hb dX1_laysRows_123 rfl (lv_at hl 0 rfl) ?_
        refine lv_iload_n hx hb dX1_laysRows_124 rfl (lv_at hl 1 rfl) ?_
        obtain ⟨x1, s2, hx1, hf⟩ := dz_co hf
        have hFc := dz_free hD hS hA
        refine va_calli (va_runV (As := [.int v1]) (rest := []) ⟨hx, hb, hml, hown, hts⟩ (mtX1_isEnough l D cl ci hci h ad cA H.size σ v1 K (x1, s2) hx1) (cwV 1 hts (lw_V q1830 q1832 qs44 q88 q1833) rfl rfl rfl (by decide +kernel) ⟨Nat.le_of_ble_eq_true rfl, Nat.le_of_ble_eq_true rfl⟩) (m_preV hci hK hP hD) rfl rfl hl.1 rfl (lv_room (Nat.le_of_ble_eq_true rfl)) dX1_laysRows_125 ⟨Nat.le_refl _, Nat.le_refl _⟩) hS (fun q _ hq => hFc q hq) hFc (fun r u t H1 locs ht hvm hw hB hz hk hS => ?_)
        obtain ⟨hw1, hw2⟩ := Prod.mk.inj hw.symm; subst hw1; subst hw2
        replace hP := m_back ht hB
        replace hD := mw_D s2 hD
        clear hB hk hz hvm ht hFc; generalize H1 = H at hP hS ⊢
        refine lv_if_ne (tgt := 146) hx hb dX1_laysRows_128 (by decide) (fun c128 => ?_) (fun c128 => ?_)
        · have hf := dz_f c128 hf
          exact ih.2.2.2 s2 H locs hP hD hS ls (lv_sub hl [] rfl) hf
        · have hf := dz_t c128 hf
          refine lv_aload_n hx hb dX1_laysRows_131 rfl (lv_at hl 0 rfl) ?_
          refine lv_iload_n hx hb dX1_laysRows_132 rfl (lv_at hl 1 rfl) ?_
          refine lv_iconst (v := 0) hx hb dX1_laysRows_133 (by decide) ?_
          refine lv_iload hx hb dX1_laysRows_134 (lv_at hl 2 rfl) ?_
          refine lv_iconst (v := 2) hx hb dX1_laysRows_136 (by decide) ?_
          obtain ⟨s4, hx3, hf⟩ := dz_bo hf
          have hFc := dz_free hD hS hA
          refine va_callv (va_runV (As := [.int v1, .int 0, .int v4, .int 2]) (rest := []) ⟨hx, hb, hml, hown, hts⟩ (mtX1_rowsOf l D cl ci hci h ad cA H.size s2 v1 0 v4 2 K s4 hx3) (cwV 4 hts (lw_V q1887 q1889 qs52 q88 q1890) rfl rfl rfl (by decide +kernel) ⟨Nat.le_of_ble_eq_true rfl, Nat.le_of_ble_eq_true rfl⟩) (m_preV hci hK hP hD) rfl rfl hl.1 rfl (lv_room (Nat.le_of_ble_eq_true rfl)) dX1_laysRows_137 ⟨Nat.le_refl _, Nat.le_refl _⟩) hS (fun q _ hq => hFc q hq) hFc (fun u t H1 locs ht hvm hw hB hz hk hS => ?_)
          replace hw := hw.symm; subst hw
          replace hP := m_back ht hB
          replace hD := mw_D s4 hD
          clear hB hk hz hvm ht hFc; generalize H1 = H at hP hS ⊢
          obtain ⟨x5, e_x5, hf⟩ := dz_lo hf
          refine lv_iinc (v := x5) (lv' := [(4, .int x5), (0, .ref h), (1, .int v1)]) hx hb dX1_laysRows_140 hl (k := 2) rfl (by rw [e_x5]; rfl) (by decide) rfl (fun ls hl => ?_)
          refine lv_goto (tgt := 118) hx hb dX1_laysRows_143 (by decide) ?_
          exact ih.2.2.1 v1 x5 s4 H locs hP hD hS ls (lv_sub hl [1, 2, 0] rfl) hf
    · intro σ H locs hP hD hS ls hl hf
      have hf : (some σ : Option pM) = some res := hf
      refine lv_goto (tgt := 160) hx hb dX1_laysRows_146 (by decide) ?_
      exact W.vret hx hb hr (fun t ht hW => ⟨⟨σ, rfl, Option.some.inj hf, by rw [ht]; exact hP, va_K.moved hW.alike hK, hD⟩, hS.F ht⟩) hS.2.2 dX1_laysRows_160
set_option maxHeartbeats 4000000 in
set_option maxRecDepth 100000 in
theorem mtX1_laysRows (l : Launch) (D : va_G) (cl : List vw_C) (ci : Nat) (hci : cl[ci]? = some (RX1, TX1, 35)) (h : Nat) (ad : Nat → Nat) (cA : Nat → ClassId) (sz : Nat) (σ : pM) (a0 : Int32) (K : Nat) (res : pM) (hf : fnX1_laysRows K a0 σ = some res) : Met l yX1_laysRows (ws_ yX1_laysRows cX1_laysRows 5 (none)) ({ frames := 4, cells := 0, slots := 0, locals := 107 }) (mPc D cl ci h ad cA sz σ [.ref h, .int a0]) (mQv D cl ci h ad cA (va_A (mw ci h ad cA σ) sz) res) 0 0 (va_A (mw ci h ad cA σ) sz) := by
  refine Met.ofW (cc := cX1_laysRows) (maxL := 5) (ret := none) (by decide +kernel) rfl ?_
  intro p e s m args below meth c s₁ B hml hv
  obtain ⟨rfl, hsz, hP, hK, hD0⟩ := hv
  have hx := B.exec
  have hb := B.bytes
  have hr := B.returns
  have hts := atoms_spec (ws := ws_ yX1_laysRows cX1_laysRows 5 (none)) B.pre
  have hts : ∀ w ∈ lw_all, w.before _ s = true := fun w h => hts w (List.mem_cons_of_mem _ h)
  have hown : s.vm.findClass RX1 = some m.cls := findClass_of_methodNamed B.named
  have hlocks := B.notSynchronized
  subst hsz
  have hD := hD0.self (sz := s.heap.size)
  generalize hAe : va_A (mw ci h ad cA σ) s.heap.size = A at hD ⊢
  have hA : ∀ q : Nat, s.heap.size ≤ q → A q := fun q h => by rw [← hAe]; exact Or.inr h
  clear hAe hD0
  have hS : va_S A s.heap s.heap [] := va_S.rf
  generalize hHe : s.heap = H at hP hS ⊢
  have hS : va_S A s.heap H [] := by rw [hHe]; exact hS
  generalize ([] : List Loc) = locs at hS ⊢
  have hl := lv_entry ([.ref h, .int a0]) (n := 5) (Nat.le_of_ble_eq_true rfl)
  rw [lg_entry_eq]
  generalize (lg_sl ([.ref h, .int a0]) ++ List.replicate (5 - (lg_sl ([.ref h, .int a0])).length) Slot.unset).toArray = ls at hl ⊢
  have hl : lv_has ls 5 [(0, .ref h), (1, .int a0)] := hl
  have hf : (if ¬ (a0 < 0 ∨ 116 ≤ Int32.toNatClampNeg a0) then (dz_l (σ.2.2.1 9 (Int32.toNatClampNeg a0)) fun x2 => if ¬ (a0 < 0 ∨ 116 ≤ Int32.toNatClampNeg a0) then (dz_l (σ.2.2.1 8 (Int32.toNatClampNeg a0)) fun x4 => if ¬ (a0 < 0 ∨ 116 ≤ Int32.toNatClampNeg a0) then (dz_l (mI σ 12 (Int32.toNatClampNeg a0) 0) fun s6 => if ¬ (a0 < 0 ∨ 116 ≤ Int32.toNatClampNeg a0) then (dz_l (mI s6 13 (Int32.toNatClampNeg a0) 0) fun s8 => if x2 = (1 : Int32) then ((lfX1_laysRows K K).1 a0 x2 x4 s8) else (if x2 = (3 : Int32) then ((lfX1_laysRows K K).1 a0 x2 x4 s8) else (if x2 = (2 : Int32) then (dz_b (fnX1_laysFactors K ((Int32.toInt64 x4) - 1) s8) fun s12 => dz_l (s12.1 6) fun x13 => dz_l (x13 - 1) fun x14 => (lfX1_laysRows K K).2.2.1 a0 x14 s12) else (if x2 = (4 : Int32) then (dz_b (fnX1_turns K a0 x4 s8) fun s10 => some s10) else (some s8))))) else none) else none) else none) else none : Option pM) = some res := hf
  have ih := wlX1_laysRows (l := l) (e := e) (below := below) (h := h) (ad := ad) (cA := cA) hci hA hK K res a0 hx hb hr hlocks hml hown hts K
  refine lv_aload_n hx hb dX1_laysRows_0 rfl (lv_at hl 0 rfl) ?_
  refine va_get (C := RX1) (T := TX1) (N := 35) (fs := mwF ad σ) (v := .ref (ad 9)) hx hb hts in_X1 hown hK hP 0 rfl hci 9 (by decide) (hts _ q1680) (fun _ hq => hq) rfl dX1_laysRows_1 ?_
  refine lv_iload_n hx hb dX1_laysRows_4 rfl (lv_at hl 1 rfl) ?_
  obtain ⟨g1, hf⟩ := dz_go hf
  refine va_iald hx hb hK hP 7 0 rfl rfl g1 dX1_laysRows_5 ?_
  refine lv_topi (fun x2 e_x2 => ?_)
  have hf := dz_ls e_x2 hf
  refine lv_istore_n (lv' := [(2, .int x2), (0, .ref h), (1, .int a0)]) hx hb dX1_laysRows_6 rfl hl (by decide) rfl (fun ls hl => ?_)
  refine lv_aload_n hx hb dX1_laysRows_7 rfl (lv_at hl 1 rfl) ?_
  refine va_get (C := RX1) (T := TX1) (N := 35) (fs := mwF ad σ) (v := .ref (ad 8)) hx hb hts in_X1 hown hK hP 0 rfl hci 8 (by decide) (hts _ q1679) (fun _ hq => hq) rfl dX1_laysRows_8 ?_
  refine lv_iload_n hx hb dX1_laysRows_11 rfl (lv_at hl 2 rfl) ?_
  obtain ⟨g3, hf⟩ := dz_go hf
  refine va_iald hx hb hK hP 6 0 rfl rfl g3 dX1_laysRows_12 ?_
  refine lv_topi (fun x4 e_x4 => ?_)
  have hf := dz_ls e_x4 hf
  refine lv_istore_n (lv' := [(3, .int x4), (2, .int x2), (0, .ref h), (1, .int a0)]) hx hb dX1_laysRows_13 rfl hl (by decide) rfl (fun ls hl => ?_)
  refine lv_aload_n hx hb dX1_laysRows_14 rfl (lv_at hl 2 rfl) ?_
  refine va_get (C := RX1) (T := TX1) (N := 35) (fs := mwF ad σ) (v := .ref (ad 12)) hx hb hts in_X1 hown hK hP 0 rfl hci 12 (by decide) (hts _ q1683) (fun _ hq => hq) rfl dX1_laysRows_15 ?_
  refine lv_iload_n hx hb dX1_laysRows_18 rfl (lv_at hl 3 rfl) ?_
  refine lv_iconst (v := 0) hx hb dX1_laysRows_19 (by decide) ?_
  obtain ⟨g5, hf⟩ := dz_go hf
  refine va_iast hx hb hK hP hD hS 10 0 rfl rfl g5 dX1_laysRows_20 (fun H locs hP1 _ hS => ?_)
  obtain ⟨s6, e_s6, hf⟩ := dz_lo hf
  have hP : va_P D cl (mw ci h ad cA s6) H := by rw [e_s6]; exact hP1
  clear hP1; replace hD := mw_D s6 hD
  refine lv_aload_n hx hb dX1_laysRows_21 rfl (lv_at hl 2 rfl) ?_
  refine va_get (C := RX1) (T := TX1) (N := 35) (fs := mwF ad s6) (v := .ref (ad 13)) hx hb hts in_X1 hown hK hP 0 rfl hci 13 (by decide) (hts _ q1684) (fun _ hq => hq) rfl dX1_laysRows_22 ?_
  refine lv_iload_n hx hb dX1_laysRows_25 rfl (lv_at hl 3 rfl) ?_
  refine lv_iconst (v := 0) hx hb dX1_laysRows_26 (by decide) ?_
  obtain ⟨g7, hf⟩ := dz_go hf
  refine va_iast hx hb hK hP hD hS 11 0 rfl rfl g7 dX1_laysRows_27 (fun H locs hP1 _ hS => ?_)
  obtain ⟨s8, e_s8, hf⟩ := dz_lo hf
  have hP : va_P D cl (mw ci h ad cA s8) H := by rw [e_s8]; exact hP1
  clear hP1; replace hD := mw_D s8 hD
  refine lv_iload_n hx hb dX1_laysRows_28 rfl (lv_at hl 1 rfl) ?_
  refine lv_iconst (v := 1) hx hb dX1_laysRows_29 (by decide) ?_
  refine lv_icmp_eq (tgt := 38) hx hb dX1_laysRows_30 (by decide) (fun c30 => ?_) (fun c30 => ?_)
  · have hf := dz_t c30 hf
    exact ih.1 a0 x2 x4 s8 H locs hP hD hS ls (lv_sub hl [2, 3, 1, 0] rfl) hf
  · have hf := dz_f c30 hf
    refine lv_iload_n hx hb dX1_laysRows_33 rfl (lv_at hl 1 rfl) ?_
    refine lv_iconst (v := 3) hx hb dX1_laysRows_34 (by decide) ?_
    refine lv_icmp_ne (tgt := 97) hx hb dX1_laysRows_35 (by decide) (fun c35 => ?_) (fun c35 => ?_)
    · have hf := dz_f c35 hf
      refine lv_iload_n hx hb dX1_laysRows_97 rfl (lv_at hl 1 rfl) ?_
      refine lv_iconst (v := 2) hx hb dX1_laysRows_98 (by decide) ?_
      refine lv_icmp_ne (tgt := 149) hx hb dX1_laysRows_99 (by decide) (fun c99 => ?_) (fun c99 => ?_)
      · have hf := dz_f c99 hf
        refine lv_iload_n hx hb dX1_laysRows_149 rfl (lv_at hl 1 rfl) ?_
        refine lv_iconst (v := 4) hx hb dX1_laysRows_150 (by decide) ?_
        refine lv_icmp_ne (tgt := 160) hx hb dX1_laysRows_151 (by decide) (fun c151 => ?_) (fun c151 => ?_)
        · have hf := dz_f c151 hf
          exact W.vret hx hb hr (fun t ht hW => ⟨⟨s8, rfl, Option.some.inj hf, by rw [ht]; exact hP, va_K.moved hW.alike hK, hD⟩, hS.F ht⟩) hS.2.2 dX1_laysRows_160
        · have hf := dz_t c151 hf
          refine lv_aload_n hx hb dX1_laysRows_154 rfl (lv_at hl 2 rfl) ?_
          refine lv_iload_n hx hb dX1_laysRows_155 rfl (lv_at hl 3 rfl) ?_
          refine lv_iload_n hx hb dX1_laysRows_156 rfl (lv_at hl 0 rfl) ?_
          obtain ⟨s10, hx9, hf⟩ := dz_bo hf
          have hFc := dz_free hD hS hA
          refine va_callv (va_runV (As := [.int a0, .int x4]) (rest := []) ⟨hx, hb, hml, hown, hts⟩ (mtX1_turns l D cl ci hci h ad cA H.size s8 a0 x4 K s10 hx9) (cwV 2 hts (lw_V q1899 q1901 qs55 q88 q1902) rfl rfl rfl (by decide +kernel) ⟨Nat.le_of_ble_eq_true rfl, Nat.le_of_ble_eq_true rfl⟩) (m_preV hci hK hP hD) rfl rfl hl.1 rfl (lv_room (Nat.le_of_ble_eq_true rfl)) dX1_laysRows_157 ⟨Nat.le_refl _, Nat.le_refl _⟩) hS (fun q _ hq => hFc q hq) hFc (fun u t H1 locs ht hvm hw hB hz hk hS => ?_)
          replace hw := hw.symm; subst hw
          replace hP := m_back ht hB
          replace hD := mw_D s10 hD
          clear hB hk hz hvm ht hFc; generalize H1 = H at hP hS ⊢
          exact W.vret hx hb hr (fun t ht hW => ⟨⟨s10, rfl, Option.some.inj hf, by rw [ht]; exact hP, va_K.moved hW.alike hK, hD⟩, hS.F ht⟩) hS.2.2 dX1_laysRows_160
      · have hf := dz_t c99 hf
        refine lv_aload_n hx hb dX1_laysRows_102 rfl (lv_at hl 2 rfl) ?_
        refine lv_iload_n hx hb dX1_laysRows_103 rfl (lv_at hl 0 rfl) ?_
        refine lv_i2l hx hb dX1_laysRows_104 (rfl : _ = Int32.toInt64 x4) ?_
        refine lv_lconst (v := 1) hx hb dX1_laysRows_105 rfl ?_
        refine lv_lsub hx hb dX1_laysRows_106 ?_
        obtain ⟨s12, hx11, hf⟩ := dz_bo hf
        have hFc := dz_free hD hS hA
        refine va_callv (va_runV (As := [.long ((Int32.toInt64 x4) - 1)]) (rest := []) ⟨hx, hb, hml, hown, hts⟩ (mtX1_laysFactors l D cl ci hci h ad cA H.size s8 ((Int32.toInt64 x4) - 1) K s12 hx11) (cwV 1 hts (lw_V q1883 q1885 qs51 q88 q1886) rfl rfl rfl (by decide +kernel) ⟨Nat.le_of_ble_eq_true rfl, Nat.le_of_ble_eq_true rfl⟩) (m_preV hci hK hP hD) rfl rfl hl.1 rfl (lv_room (Nat.le_of_ble_eq_true rfl)) dX1_laysRows_107 ⟨Nat.le_refl _, Nat.le_refl _⟩) hS (fun q _ hq => hFc q hq) hFc (fun u t H1 locs ht hvm hw hB hz hk hS => ?_)
        replace hw := hw.symm; subst hw
        replace hP := m_back ht hB
        replace hD := mw_D s12 hD
        clear hB hk hz hvm ht hFc; generalize H1 = H at hP hS ⊢
        refine lv_aload_n hx hb dX1_laysRows_110 rfl (lv_at hl 2 rfl) ?_
        refine va_get (C := RX1) (T := TX1) (N := 35) (fs := mwF ad s12) (v := .int (s12.1 6)) hx hb hts in_X1 hown hK hP 0 rfl hci 6 (by decide) (hts _ q1677) (fun _ hq => hq) rfl dX1_laysRows_111 ?_
        refine lv_topi (fun x13 e_x13 => ?_)
        have hf := dz_ls e_x13 hf
        refine lv_iconst (v := 1) hx hb dX1_laysRows_114 (by decide) ?_
        refine lv_isub hx hb dX1_laysRows_115 ?_
        refine lv_topi (fun x14 e_x14 => ?_)
        have hf := dz_ls e_x14 hf
        refine lv_istore (lv' := [(4, .int x14), (3, .int x4), (2, .int x2), (0, .ref h), (1, .int a0)]) hx hb dX1_laysRows_116 hl (by decide) rfl (fun ls hl => ?_)
        exact ih.2.2.1 a0 x14 s12 H locs hP hD hS ls (lv_sub hl [3, 4, 0] rfl) hf
    · have hf := dz_t c35 hf
      exact ih.1 a0 x2 x4 s8 H locs hP hD hS ls (lv_sub hl [2, 3, 1, 0] rfl) hf

noncomputable def lfX1_powerOf (K : Nat) : Nat → (Int64 → Int64 → Int64 → Int64 → Option Int64) × (Int64 → Int64 → Int64 → Int64 → Option Int64) := Nat.rec (motive := fun _ => (Int64 → Int64 → Int64 → Int64 → Option Int64) × (Int64 → Int64 → Int64 → Int64 → Option Int64)) ((fun _ _ _ _ => none), (fun _ _ _ _ => none)) (fun _ G => ((fun v4 v6 v8 v10 => if v10 ≤ (0 : Int64) then (some v8) else (if (v10 &&& 1) = (1 : Int64) then (if ¬ v4 = 0 then (dz_l ((v8 * v6) - (v8 * v6) / v4 * v4) fun x2 => G.2 v4 v6 x2 v10) else none) else (G.2 v4 v6 v8 v10))), (fun v4 v6 v8 v10 => if ¬ v4 = 0 then (dz_l ((v6 * v6) - (v6 * v6) / v4 * v4) fun x2 => dz_l (v10 >>> (Int32.toInt64 1 &&& 63)) fun x3 => G.1 v4 x2 v8 x3) else none)))
noncomputable def fnX1_powerOf (K : Nat) (a0 : Int64) (a1 : Int64) (a2 : Int64) : Option Int64 := if ¬ a2 = 0 then (dz_l (a0 - a0 / a2 * a2) fun x2 => if ¬ a2 = 0 then (dz_l (1 - 1 / a2 * a2) fun x4 => (lfX1_powerOf K K).1 a2 x2 x4 a1) else none) else none
set_option maxHeartbeats 4000000 in
set_option maxRecDepth 100000 in
theorem wlX1_powerOf {p : Program} {l : Launch} {e : Env} {s : State} {m : MethodId} {below : List Frame} {meth : Method} {c : Code}  (K : Nat) (res : Int64) (a0 : Int64) (a1 : Int64) (a2 : Int64) (hx : p.tables.exec = Jvm.exec) (hb : c.code = cX1_powerOf) (hr : meth.sig.returnType = some .long) (hlocks : meth.locks = false) (hml : c.maxLocals = 12) (hown : s.vm.findClass RX1 = some m.cls) (hts : ∀ w ∈ lw_all, w.before ([.long a0, .long a1, .long a2] : List Value).toArray s = true) : ∀ k : Nat, (∀ (v4 : Int64) (v6 : Int64) (v8 : Int64) (v10 : Int64) (H : Heap) (locs : List Loc), va_S (fun _ => False) s.heap H locs → ∀ (ls : Array Slot), lv_has ls 12 [(4, .long v4), (6, .long v6), (8, .long v8), (10, .long v10)] → (lfX1_powerOf K k).1 v4 v6 v8 v10 = some res → W p l e (headSpec (ws_ yX1_powerOf cX1_powerOf 12 (some .long)) ({ frames := 0, cells := 0, slots := 0, locals := 0 })).room s m ([.long a0, .long a1, .long a2] : List Value).toArray below meth c H locs 0 0 (MQ below (dz_Ql res) ([.long a0, .long a1, .long a2] : List Value).toArray s 0 0 (fun _ => False)) (F0 m 15 ls [])) ∧ (∀ (v4 : Int64) (v6 : Int64) (v8 : Int64) (v10 : Int64) (H : Heap) (locs : List Loc), va_S (fun _ => False) s.heap H locs → ∀ (ls : Array Slot), lv_has ls 12 [(4, .long v4), (6, .long v6), (8, .long v8), (10, .long v10)] → (lfX1_powerOf K k).2 v4 v6 v8 v10 = some res → W p l e (headSpec (ws_ yX1_powerOf cX1_powerOf 12 (some .long)) ({ frames := 0, cells := 0, slots := 0, locals := 0 })).room s m ([.long a0, .long a1, .long a2] : List Value).toArray below meth c H locs 0 0 (MQ below (dz_Ql res) ([.long a0, .long a1, .long a2] : List Value).toArray s 0 0 (fun _ => False)) (F0 m 41 ls [])) := by
  intro k
  induction k with
  | zero =>
    exact ⟨fun _ _ _ _ _ _ _ _ _ hf => (by cases hf), fun _ _ _ _ _ _ _ _ _ hf => (by cases hf)⟩
  | succ k ih =>
    refine ⟨?_, ?_⟩
    · intro v4 v6 v8 v10 H locs hS ls hl hf
      have hf : (if v10 ≤ (0 : Int64) then (some v8) else (if (v10 &&& 1) = (1 : Int64) then (if ¬ v4 = 0 then (dz_l ((v8 * v6) - (v8 * v6) / v4 * v4) fun x2 => (lfX1_powerOf K k).2 v4 v6 x2 v10) else none) else ((lfX1_powerOf K k).2 v4 v6 v8 v10)) : Option Int64) = some res := hf
      refine lv_lload hx hb dX1_powerOf_15 (lv_at hl 3 rfl) ?_
      refine lv_lconst (v := 0) hx hb dX1_powerOf_17 rfl ?_
      refine W.lcmp hx hb dX1_powerOf_18 ?_
      refine lv_if_le (tgt := 60) hx hb dX1_powerOf_19 (by decide) (fun c19 => ?_) (fun c19 => ?_)
      · have c19 : v10 ≤ (0 : Int64) := (lg_cmp_le _ _).mp c19
        have hf := dz_t c19 hf
        refine lv_lload hx hb dX1_powerOf_60 (lv_at hl 2 rfl) ?_
        exact W.lret (v := v8) hx hb hr (fun t ht hW => ⟨⟨v8, (), rfl, Option.some.inj hf, trivial⟩, hS.F ht⟩) hS.2.2 dX1_powerOf_62
      · have c19 : ¬ v10 ≤ (0 : Int64) := fun hq => c19 ((lg_cmp_le _ _).mpr hq)
        have hf := dz_f c19 hf
        refine lv_lload hx hb dX1_powerOf_22 (lv_at hl 3 rfl) ?_
        refine lv_lconst (v := 1) hx hb dX1_powerOf_24 rfl ?_
        refine lv_land hx hb dX1_powerOf_25 ?_
        refine lv_lconst (v := 1) hx hb dX1_powerOf_26 rfl ?_
        refine W.lcmp hx hb dX1_powerOf_27 ?_
        refine lv_if_ne (tgt := 41) hx hb dX1_powerOf_28 (by decide) (fun c28 => ?_) (fun c28 => ?_)
        · have c28 : ¬ (v10 &&& 1) = (1 : Int64) := fun hq => c28 ((lg_cmp_eq _ _).mpr hq)
          have hf := dz_f c28 hf
          exact ih.2 v4 v6 v8 v10 H locs hS ls (lv_sub hl [0, 1, 2, 3] rfl) hf
        · have c28 : (v10 &&& 1) = (1 : Int64) := (lg_cmp_eq _ _).mp c28
          have hf := dz_t c28 hf
          refine lv_lload hx hb dX1_powerOf_31 (lv_at hl 2 rfl) ?_
          refine lv_lload hx hb dX1_powerOf_33 (lv_at hl 1 rfl) ?_
          refine lv_lmul hx hb dX1_powerOf_35 ?_
          refine lv_lload hx hb dX1_powerOf_36 (lv_at hl 0 rfl) ?_
          obtain ⟨g1, hf⟩ := dz_go hf
          refine lv_lrem hx hb dX1_powerOf_38 g1 ?_
          refine lv_topl (fun x2 e_x2 => ?_)
          have hf := dz_ls e_x2 hf
          refine lv_lstore (lv' := [(8, .long x2), (4, .long v4), (6, .long v6), (10, .long v10)]) hx hb dX1_powerOf_39 hl (by decide) rfl (fun ls hl => ?_)
          exact ih.2 v4 v6 x2 v10 H locs hS ls (lv_sub hl [1, 2, 0, 3] rfl) hf
    · intro v4 v6 v8 v10 H locs hS ls hl hf
      have hf : (if ¬ v4 = 0 then (dz_l ((v6 * v6) - (v6 * v6) / v4 * v4) fun x2 => dz_l (v10 >>> (Int32.toInt64 1 &&& 63)) fun x3 => (lfX1_powerOf K k).1 v4 x2 v8 x3) else none : Option Int64) = some res := hf
      refine lv_lload hx hb dX1_powerOf_41 (lv_at hl 1 rfl) ?_
      refine lv_lload hx hb dX1_powerOf_43 (lv_at hl 1 rfl) ?_
      refine lv_lmul hx hb dX1_powerOf_45 ?_
      refine lv_lload hx hb dX1_powerOf_46 (lv_at hl 0 rfl) ?_
      obtain ⟨g1, hf⟩ := dz_go hf
      refine lv_lrem hx hb dX1_powerOf_48 g1 ?_
      refine lv_topl (fun x2 e_x2 => ?_)
      have hf := dz_ls e_x2 hf
      refine lv_lstore (lv' := [(6, .long x2), (4, .long v4), (8, .long v8), (10, .long v10)]) hx hb dX1_powerOf_49 hl (by decide) rfl (fun ls hl => ?_)
      refine lv_lload hx hb dX1_powerOf_51 (lv_at hl 3 rfl) ?_
      refine lv_iconst (v := 1) hx hb dX1_powerOf_53 (by decide) ?_
      refine lv_lshr hx hb dX1_powerOf_54 (rfl : _ = v10 >>> (Int32.toInt64 1 &&& 63)) ?_
      refine lv_topl (fun x3 e_x3 => ?_)
      have hf := dz_ls e_x3 hf
      refine lv_lstore (lv' := [(10, .long x3), (6, .long x2), (4, .long v4), (8, .long v8)]) hx hb dX1_powerOf_55 hl (by decide) rfl (fun ls hl => ?_)
      refine lv_goto (tgt := 15) hx hb dX1_powerOf_57 (by decide) ?_
      exact ih.1 v4 x2 v8 x3 H locs hS ls (lv_sub hl [2, 1, 3, 0] rfl) hf
set_option maxHeartbeats 4000000 in
set_option maxRecDepth 100000 in
theorem mtX1_powerOf (l : Launch) (a0 : Int64) (a1 : Int64) (a2 : Int64) (K : Nat) (res : Int64) (hf : fnX1_powerOf K a0 a1 a2 = some res) : Met l yX1_powerOf (ws_ yX1_powerOf cX1_powerOf 12 (some .long)) ({ frames := 0, cells := 0, slots := 0, locals := 0 }) (dz_P [.long a0, .long a1, .long a2]) (dz_Ql res) 0 0 (fun _ => False) := by
  refine Met.ofW (cc := cX1_powerOf) (maxL := 12) (ret := some .long) (by decide +kernel) rfl ?_
  intro p e s m args below meth c s₁ B hml hv
  obtain ⟨rfl, -⟩ := hv
  have hx := B.exec
  have hb := B.bytes
  have hr := B.returns
  have hts := atoms_spec (ws := ws_ yX1_powerOf cX1_powerOf 12 (some .long)) B.pre
  have hts : ∀ w ∈ lw_all, w.before _ s = true := fun w h => hts w (List.mem_cons_of_mem _ h)
  have hown : s.vm.findClass RX1 = some m.cls := findClass_of_methodNamed B.named
  have hlocks := B.notSynchronized
  have hS : va_S (fun _ => False) s.heap s.heap [] := va_S.rf
  generalize hHe : s.heap = H at hS ⊢
  have hS : va_S (fun _ => False) s.heap H [] := by rw [hHe]; exact hS
  generalize ([] : List Loc) = locs at hS ⊢
  have hl := lv_entry ([.long a0, .long a1, .long a2]) (n := 12) (Nat.le_of_ble_eq_true rfl)
  rw [lg_entry_eq]
  generalize (lg_sl ([.long a0, .long a1, .long a2]) ++ List.replicate (12 - (lg_sl ([.long a0, .long a1, .long a2])).length) Slot.unset).toArray = ls at hl ⊢
  have hl : lv_has ls 12 [(0, .long a0), (2, .long a1), (4, .long a2)] := hl
  have hf : (if ¬ a2 = 0 then (dz_l (a0 - a0 / a2 * a2) fun x2 => if ¬ a2 = 0 then (dz_l (1 - 1 / a2 * a2) fun x4 => (lfX1_powerOf K K).1 a2 x2 x4 a1) else none) else none : Option Int64) = some res := hf
  have ih := wlX1_powerOf (l := l) (e := e) (below := below) K res a0 a1 a2 hx hb hr hlocks hml hown hts K
  refine lv_lload_n hx hb dX1_powerOf_0 rfl (lv_at hl 0 rfl) ?_
  refine lv_lload hx hb dX1_powerOf_1 (lv_at hl 2 rfl) ?_
  obtain ⟨g1, hf⟩ := dz_go hf
  refine lv_lrem hx hb dX1_powerOf_3 g1 ?_
  refine lv_topl (fun x2 e_x2 => ?_)
  have hf := dz_ls e_x2 hf
  refine lv_lstore (lv' := [(6, .long x2), (0, .long a0), (2, .long a1), (4, .long a2)]) hx hb dX1_powerOf_4 hl (by decide) rfl (fun ls hl => ?_)
  refine lv_lconst (v := 1) hx hb dX1_powerOf_6 rfl ?_
  refine lv_lload hx hb dX1_powerOf_7 (lv_at hl 3 rfl) ?_
  obtain ⟨g3, hf⟩ := dz_go hf
  refine lv_lrem hx hb dX1_powerOf_9 g3 ?_
  refine lv_topl (fun x4 e_x4 => ?_)
  have hf := dz_ls e_x4 hf
  refine lv_lstore (lv' := [(8, .long x4), (6, .long x2), (0, .long a0), (2, .long a1), (4, .long a2)]) hx hb dX1_powerOf_10 hl (by decide) rfl (fun ls hl => ?_)
  refine lv_lload_n hx hb dX1_powerOf_12 rfl (lv_at hl 3 rfl) ?_
  refine lv_lstore (lv' := [(10, .long a1), (8, .long x4), (6, .long x2), (0, .long a0), (2, .long a1), (4, .long a2)]) hx hb dX1_powerOf_13 hl (by decide) rfl (fun ls hl => ?_)
  exact ih.1 a2 x2 x4 a1 H locs hS ls (lv_sub hl [5, 2, 1, 0] rfl) hf

noncomputable def fnX1_isOneBy (K : Nat) (a0 : Int64) (a1 : Int64) : Option Int32 := dz_b (fnX1_powerOf K a1 (a0 - 1) a0) fun x1 => if x1 = (1 : Int64) then (some 1) else (some 0)
set_option maxHeartbeats 4000000 in
set_option maxRecDepth 100000 in
theorem mtX1_isOneBy (l : Launch) (a0 : Int64) (a1 : Int64) (K : Nat) (res : Int32) (hf : fnX1_isOneBy K a0 a1 = some res) : Met l yX1_isOneBy (ws_ yX1_isOneBy cX1_isOneBy 4 (some .boolean)) ({ frames := 1, cells := 0, slots := 0, locals := 31 }) (dz_P [.long a0, .long a1]) (dz_Qi res) 0 0 (fun _ => False) := by
  refine Met.ofW (cc := cX1_isOneBy) (maxL := 4) (ret := some .boolean) (by decide +kernel) rfl ?_
  intro p e s m args below meth c s₁ B hml hv
  obtain ⟨rfl, -⟩ := hv
  have hx := B.exec
  have hb := B.bytes
  have hr := B.returns
  have hts := atoms_spec (ws := ws_ yX1_isOneBy cX1_isOneBy 4 (some .boolean)) B.pre
  have hts : ∀ w ∈ lw_all, w.before _ s = true := fun w h => hts w (List.mem_cons_of_mem _ h)
  have hown : s.vm.findClass RX1 = some m.cls := findClass_of_methodNamed B.named
  have hlocks := B.notSynchronized
  have hS : va_S (fun _ => False) s.heap s.heap [] := va_S.rf
  generalize hHe : s.heap = H at hS ⊢
  have hS : va_S (fun _ => False) s.heap H [] := by rw [hHe]; exact hS
  generalize ([] : List Loc) = locs at hS ⊢
  have hl := lv_entry ([.long a0, .long a1]) (n := 4) (Nat.le_of_ble_eq_true rfl)
  rw [lg_entry_eq]
  generalize (lg_sl ([.long a0, .long a1]) ++ List.replicate (4 - (lg_sl ([.long a0, .long a1])).length) Slot.unset).toArray = ls at hl ⊢
  have hl : lv_has ls 4 [(0, .long a0), (2, .long a1)] := hl
  have hf : (dz_b (fnX1_powerOf K a1 (a0 - 1) a0) fun x1 => if x1 = (1 : Int64) then (some 1) else (some 0) : Option Int32) = some res := hf
  refine lv_lload_n hx hb dX1_isOneBy_0 rfl (lv_at hl 1 rfl) ?_
  refine lv_lload_n hx hb dX1_isOneBy_1 rfl (lv_at hl 0 rfl) ?_
  refine lv_lconst (v := 1) hx hb dX1_isOneBy_2 rfl ?_
  refine lv_lsub hx hb dX1_isOneBy_3 ?_
  refine lv_lload_n hx hb dX1_isOneBy_4 rfl (lv_at hl 0 rfl) ?_
  obtain ⟨x1, hx1, hf⟩ := dz_bo hf
  refine va_calll (va_runS (As := [.long a1, .long (a0 - 1), .long a0]) (rest := []) ⟨hx, hb, hml, hown, hts⟩ (mtX1_powerOf l a1 (a0 - 1) a0 K x1 hx1) (va_cwS 3 hts (lw_S q1844 q1845 q88 q1846) rfl rfl rfl (by decide +kernel) ⟨Nat.le_of_ble_eq_true rfl, Nat.le_of_ble_eq_true rfl⟩) ⟨fun a U g mk q => q, fun U hU hW => ⟨rfl, trivial⟩⟩ rfl rfl hl.1 rfl (lv_room (Nat.le_of_ble_eq_true rfl)) dX1_isOneBy_5 ⟨Nat.le_refl _, Nat.le_refl _⟩) hS (fun q _ hq => hq.elim) (fun q hq => hq.elim) (fun r u t H1 locs ht hvm hw hB hz hk hS => ?_)
  replace hw := hw.symm; subst hw
  clear hB hk hz hvm ht; generalize H1 = H at hS ⊢
  refine lv_lconst (v := 1) hx hb dX1_isOneBy_8 rfl ?_
  refine W.lcmp hx hb dX1_isOneBy_9 ?_
  refine lv_if_ne (tgt := 17) hx hb dX1_isOneBy_10 (by decide) (fun c10 => ?_) (fun c10 => ?_)
  · have c10 : ¬ x1 = (1 : Int64) := fun hq => c10 ((lg_cmp_eq _ _).mpr hq)
    have hf := dz_f c10 hf
    refine lv_iconst (v := 0) hx hb dX1_isOneBy_17 (by decide) ?_
    exact W.zret (v := 0) hx hb hr rfl (fun t ht hW => ⟨⟨0, (), rfl, Option.some.inj hf, trivial⟩, hS.F ht⟩) hS.2.2 dX1_isOneBy_18
  · have c10 : x1 = (1 : Int64) := (lg_cmp_eq _ _).mp c10
    have hf := dz_t c10 hf
    refine lv_iconst (v := 1) hx hb dX1_isOneBy_13 (by decide) ?_
    refine lv_goto (tgt := 18) hx hb dX1_isOneBy_14 (by decide) ?_
    exact W.zret (v := 1) hx hb hr rfl (fun t ht hW => ⟨⟨1, (), rfl, Option.some.inj hf, trivial⟩, hS.F ht⟩) hS.2.2 dX1_isOneBy_18

noncomputable def fnX1_isApartBy (K : Nat) (a0 : Int64) (a1 : Int64) (a2 : Int64) : Option Int32 := if ¬ a2 = 0 then (dz_l ((a0 - 1) / a2) fun x2 => dz_b (fnX1_powerOf K a1 x2 a0) fun x3 => dz_l (x3 - 1) fun x4 => if (0 : Int64) ≤ x4 then (dz_b (fnX1_common K x4 a0) fun x5 => if x5 = (1 : Int64) then (some 1) else (some 0)) else (dz_b (fnX1_common K (x4 + a0) a0) fun x6 => if x6 = (1 : Int64) then (some 1) else (some 0))) else none
set_option maxHeartbeats 4000000 in
set_option maxRecDepth 100000 in
theorem mtX1_isApartBy (l : Launch) (a0 : Int64) (a1 : Int64) (a2 : Int64) (K : Nat) (res : Int32) (hf : fnX1_isApartBy K a0 a1 a2 = some res) : Met l yX1_isApartBy (ws_ yX1_isApartBy cX1_isApartBy 8 (some .boolean)) ({ frames := 1, cells := 0, slots := 0, locals := 31 }) (dz_P [.long a0, .long a1, .long a2]) (dz_Qi res) 0 0 (fun _ => False) := by
  refine Met.ofW (cc := cX1_isApartBy) (maxL := 8) (ret := some .boolean) (by decide +kernel) rfl ?_
  intro p e s m args below meth c s₁ B hml hv
  obtain ⟨rfl, -⟩ := hv
  have hx := B.exec
  have hb := B.bytes
  have hr := B.returns
  have hts := atoms_spec (ws := ws_ yX1_isApartBy cX1_isApartBy 8 (some .boolean)) B.pre
  have hts : ∀ w ∈ lw_all, w.before _ s = true := fun w h => hts w (List.mem_cons_of_mem _ h)
  have hown : s.vm.findClass RX1 = some m.cls := findClass_of_methodNamed B.named
  have hlocks := B.notSynchronized
  have hS : va_S (fun _ => False) s.heap s.heap [] := va_S.rf
  generalize hHe : s.heap = H at hS ⊢
  have hS : va_S (fun _ => False) s.heap H [] := by rw [hHe]; exact hS
  generalize ([] : List Loc) = locs at hS ⊢
  have hl := lv_entry ([.long a0, .long a1, .long a2]) (n := 8) (Nat.le_of_ble_eq_true rfl)
  rw [lg_entry_eq]
  generalize (lg_sl ([.long a0, .long a1, .long a2]) ++ List.replicate (8 - (lg_sl ([.long a0, .long a1, .long a2])).length) Slot.unset).toArray = ls at hl ⊢
  have hl : lv_has ls 8 [(0, .long a0), (2, .long a1), (4, .long a2)] := hl
  have hf : (if ¬ a2 = 0 then (dz_l ((a0 - 1) / a2) fun x2 => dz_b (fnX1_powerOf K a1 x2 a0) fun x3 => dz_l (x3 - 1) fun x4 => if (0 : Int64) ≤ x4 then (dz_b (fnX1_common K x4 a0) fun x5 => if x5 = (1 : Int64) then (some 1) else (some 0)) else (dz_b (fnX1_common K (x4 + a0) a0) fun x6 => if x6 = (1 : Int64) then (some 1) else (some 0))) else none : Option Int32) = some res := hf
  refine lv_lload_n hx hb dX1_isApartBy_0 rfl (lv_at hl 1 rfl) ?_
  refine lv_lload_n hx hb dX1_isApartBy_1 rfl (lv_at hl 0 rfl) ?_
  refine lv_lconst (v := 1) hx hb dX1_isApartBy_2 rfl ?_
  refine lv_lsub hx hb dX1_isApartBy_3 ?_
  refine lv_lload hx hb dX1_isApartBy_4 (lv_at hl 2 rfl) ?_
  obtain ⟨g1, hf⟩ := dz_go hf
  refine lv_ldiv hx hb dX1_isApartBy_6 g1 ?_
  refine lv_topl (fun x2 e_x2 => ?_)
  have hf := dz_ls e_x2 hf
  refine lv_lload_n hx hb dX1_isApartBy_7 rfl (lv_at hl 0 rfl) ?_
  obtain ⟨x3, hx3, hf⟩ := dz_bo hf
  refine va_calll (va_runS (As := [.long a1, .long x2, .long a0]) (rest := []) ⟨hx, hb, hml, hown, hts⟩ (mtX1_powerOf l a1 x2 a0 K x3 hx3) (va_cwS 3 hts (lw_S q1844 q1845 q88 q1846) rfl rfl rfl (by decide +kernel) ⟨Nat.le_of_ble_eq_true rfl, Nat.le_of_ble_eq_true rfl⟩) ⟨fun a U g mk q => q, fun U hU hW => ⟨rfl, trivial⟩⟩ rfl rfl hl.1 rfl (lv_room (Nat.le_of_ble_eq_true rfl)) dX1_isApartBy_8 ⟨Nat.le_refl _, Nat.le_refl _⟩) hS (fun q _ hq => hq.elim) (fun q hq => hq.elim) (fun r u t H1 locs ht hvm hw hB hz hk hS => ?_)
  replace hw := hw.symm; subst hw
  clear hB hk hz hvm ht; generalize H1 = H at hS ⊢
  refine lv_lconst (v := 1) hx hb dX1_isApartBy_11 rfl ?_
  refine lv_lsub hx hb dX1_isApartBy_12 ?_
  refine lv_topl (fun x4 e_x4 => ?_)
  have hf := dz_ls e_x4 hf
  refine lv_lstore (lv' := [(6, .long x4), (0, .long a0), (2, .long a1), (4, .long a2)]) hx hb dX1_isApartBy_13 hl (by decide) rfl (fun ls hl => ?_)
  refine lv_lload hx hb dX1_isApartBy_15 (lv_at hl 0 rfl) ?_
  refine lv_lconst (v := 0) hx hb dX1_isApartBy_17 rfl ?_
  refine W.lcmp hx hb dX1_isApartBy_18 ?_
  refine lv_if_ge (tgt := 29) hx hb dX1_isApartBy_19 (by decide) (fun c19 => ?_) (fun c19 => ?_)
  · have c19 : (0 : Int64) ≤ x4 := (lg_cmp_ge _ _).mp c19
    have hf := dz_t c19 hf
    refine lv_lload hx hb dX1_isApartBy_29 (lv_at hl 0 rfl) ?_
    refine lv_lload_n hx hb dX1_isApartBy_31 rfl (lv_at hl 1 rfl) ?_
    obtain ⟨x5, hx5, hf⟩ := dz_bo hf
    refine va_calll (va_runS (As := [.long x4, .long a0]) (rest := []) ⟨hx, hb, hml, hown, hts⟩ (mtX1_common l x4 a0 K x5 hx5) (va_cwS 2 hts (lw_S q1837 q1838 q88 q1839) rfl rfl rfl (by decide +kernel) ⟨Nat.le_of_ble_eq_true rfl, Nat.le_of_ble_eq_true rfl⟩) ⟨fun a U g mk q => q, fun U hU hW => ⟨rfl, trivial⟩⟩ rfl rfl hl.1 rfl (lv_room (Nat.le_of_ble_eq_true rfl)) dX1_isApartBy_32 ⟨Nat.le_refl _, Nat.le_refl _⟩) hS (fun q _ hq => hq.elim) (fun q hq => hq.elim) (fun r u t H1 locs ht hvm hw hB hz hk hS => ?_)
    replace hw := hw.symm; subst hw
    clear hB hk hz hvm ht; generalize H1 = H at hS ⊢
    refine lv_lconst (v := 1) hx hb dX1_isApartBy_35 rfl ?_
    refine W.lcmp hx hb dX1_isApartBy_36 ?_
    refine lv_if_ne (tgt := 44) hx hb dX1_isApartBy_37 (by decide) (fun c37 => ?_) (fun c37 => ?_)
    · have c37 : ¬ x5 = (1 : Int64) := fun hq => c37 ((lg_cmp_eq _ _).mpr hq)
      have hf := dz_f c37 hf
      refine lv_iconst (v := 0) hx hb dX1_isApartBy_44 (by decide) ?_
      exact W.zret (v := 0) hx hb hr rfl (fun t ht hW => ⟨⟨0, (), rfl, Option.some.inj hf, trivial⟩, hS.F ht⟩) hS.2.2 dX1_isApartBy_45
    · have c37 : x5 = (1 : Int64) := (lg_cmp_eq _ _).mp c37
      have hf := dz_t c37 hf
      refine lv_iconst (v := 1) hx hb dX1_isApartBy_40 (by decide) ?_
      refine lv_goto (tgt := 45) hx hb dX1_isApartBy_41 (by decide) ?_
      exact W.zret (v := 1) hx hb hr rfl (fun t ht hW => ⟨⟨1, (), rfl, Option.some.inj hf, trivial⟩, hS.F ht⟩) hS.2.2 dX1_isApartBy_45
  · have c19 : ¬ (0 : Int64) ≤ x4 := fun hq => c19 ((lg_cmp_ge _ _).mpr hq)
    have hf := dz_f c19 hf
    refine lv_lload hx hb dX1_isApartBy_22 (lv_at hl 0 rfl) ?_
    refine lv_lload_n hx hb dX1_isApartBy_24 rfl (lv_at hl 1 rfl) ?_
    refine lv_ladd hx hb dX1_isApartBy_25 ?_
    refine lv_goto (tgt := 31) hx hb dX1_isApartBy_26 (by decide) ?_
    refine lv_lload_n hx hb dX1_isApartBy_31 rfl (lv_at hl 1 rfl) ?_
    obtain ⟨x6, hx6, hf⟩ := dz_bo hf
    refine va_calll (va_runS (As := [.long (x4 + a0), .long a0]) (rest := []) ⟨hx, hb, hml, hown, hts⟩ (mtX1_common l (x4 + a0) a0 K x6 hx6) (va_cwS 2 hts (lw_S q1837 q1838 q88 q1839) rfl rfl rfl (by decide +kernel) ⟨Nat.le_of_ble_eq_true rfl, Nat.le_of_ble_eq_true rfl⟩) ⟨fun a U g mk q => q, fun U hU hW => ⟨rfl, trivial⟩⟩ rfl rfl hl.1 rfl (lv_room (Nat.le_of_ble_eq_true rfl)) dX1_isApartBy_32 ⟨Nat.le_refl _, Nat.le_refl _⟩) hS (fun q _ hq => hq.elim) (fun q hq => hq.elim) (fun r u t H1 locs ht hvm hw hB hz hk hS => ?_)
    replace hw := hw.symm; subst hw
    clear hB hk hz hvm ht; generalize H1 = H at hS ⊢
    refine lv_lconst (v := 1) hx hb dX1_isApartBy_35 rfl ?_
    refine W.lcmp hx hb dX1_isApartBy_36 ?_
    refine lv_if_ne (tgt := 44) hx hb dX1_isApartBy_37 (by decide) (fun c37 => ?_) (fun c37 => ?_)
    · have c37 : ¬ x6 = (1 : Int64) := fun hq => c37 ((lg_cmp_eq _ _).mpr hq)
      have hf := dz_f c37 hf
      refine lv_iconst (v := 0) hx hb dX1_isApartBy_44 (by decide) ?_
      exact W.zret (v := 0) hx hb hr rfl (fun t ht hW => ⟨⟨0, (), rfl, Option.some.inj hf, trivial⟩, hS.F ht⟩) hS.2.2 dX1_isApartBy_45
    · have c37 : x6 = (1 : Int64) := (lg_cmp_eq _ _).mp c37
      have hf := dz_t c37 hf
      refine lv_iconst (v := 1) hx hb dX1_isApartBy_40 (by decide) ?_
      refine lv_goto (tgt := 45) hx hb dX1_isApartBy_41 (by decide) ?_
      exact W.zret (v := 1) hx hb hr rfl (fun t ht hW => ⟨⟨1, (), rfl, Option.some.inj hf, trivial⟩, hS.F ht⟩) hS.2.2 dX1_isApartBy_45

noncomputable def lfX1_laysBases (K : Nat) : Nat → (Int32 → Int32 → Int32 → Int32 → pM → Option (Int32 × pM)) × (Int32 → Int32 → Int32 → Int32 → Int32 → Int32 → pM → Option (Int32 × pM)) × (Int32 → Int32 → Int32 → Int32 → Int32 → pM → Option (Int32 × pM)) × (Int32 → Int32 → Int32 → Int32 → pM → Option (Int32 × pM)) × (Int32 → Int32 → Int32 → Int32 → pM → Option (Int32 × pM)) × (Int32 → Int32 → Int32 → Int32 → Int32 → pM → Option (Int32 × pM)) × (Int32 → Int32 → Int32 → Int32 → Int32 → pM → Option (Int32 × pM)) × (Int32 → Int32 → Int32 → Int32 → Int32 → pM → Option (Int32 × pM)) := Nat.rec (motive := fun _ => (Int32 → Int32 → Int32 → Int32 → pM → Option (Int32 × pM)) × (Int32 → Int32 → Int32 → Int32 → Int32 → Int32 → pM → Option (Int32 × pM)) × (Int32 → Int32 → Int32 → Int32 → Int32 → pM → Option (Int32 × pM)) × (Int32 → Int32 → Int32 → Int32 → pM → Option (Int32 × pM)) × (Int32 → Int32 → Int32 → Int32 → pM → Option (Int32 × pM)) × (Int32 → Int32 → Int32 → Int32 → Int32 → pM → Option (Int32 × pM)) × (Int32 → Int32 → Int32 → Int32 → Int32 → pM → Option (Int32 × pM)) × (Int32 → Int32 → Int32 → Int32 → Int32 → pM → Option (Int32 × pM))) ((fun _ _ _ _ _ => none), (fun _ _ _ _ _ _ _ => none), (fun _ _ _ _ _ _ => none), (fun _ _ _ _ _ => none), (fun _ _ _ _ _ => none), (fun _ _ _ _ _ _ => none), (fun _ _ _ _ _ _ => none), (fun _ _ _ _ _ _ => none)) (fun _ G => ((fun v1 v2 v3 v4 σ => if (999 : Int32) < v4 then (some (0, σ)) else (dz_b (fnX1_isOneBy K (Int32.toInt64 v3) (Int32.toInt64 v4)) fun x1 => G.2.1 v1 v2 v3 v4 x1 v2 σ)), (fun v1 v2 v3 v4 v5 v6 σ => if ¬ (v1 < 0 ∨ 116 ≤ Int32.toNatClampNeg v1) then (dz_l (σ.2.2.1 12 (Int32.toNatClampNeg v1)) fun x2 => if (v2 + x2) ≤ v6 then (G.2.2.1 v1 v2 v3 v4 v5 σ) else (if v5 = (0 : Int32) then (G.2.2.1 v1 v2 v3 v4 v5 σ) else (if ¬ (v6 < 0 ∨ 1044 ≤ Int32.toNatClampNeg v6) then (dz_l (σ.2.2.1 14 (Int32.toNatClampNeg v6)) fun x4 => dz_b (fnX1_isApartBy K (Int32.toInt64 v3) (Int32.toInt64 v4) (Int32.toInt64 x4)) fun x5 => dz_l (v6 + 1) fun x6 => G.2.1 v1 v2 v3 v4 x5 x6 σ) else none))) else none), (fun v1 v2 v3 v4 v5 σ => if v5 = (0 : Int32) then (dz_l (v4 + 1) fun x1 => G.1 v1 v2 v3 x1 σ) else (G.2.2.2.1 v1 v2 v4 v2 σ)), (fun v1 v2 v4 v6 σ => if ¬ (v1 < 0 ∨ 116 ≤ Int32.toNatClampNeg v1) then (dz_l (σ.2.2.1 12 (Int32.toNatClampNeg v1)) fun x2 => if (v2 + x2) ≤ v6 then (some (1, σ)) else (if ¬ (v6 < 0 ∨ 1044 ≤ Int32.toNatClampNeg v6) then (dz_l (mI σ 16 (Int32.toNatClampNeg v6) v4) fun s4 => dz_l (v6 + 1) fun x5 => G.2.2.2.1 v1 v2 v4 x5 s4) else none)) else none), (fun v1 v2 v3 v4 σ => if ¬ (v1 < 0 ∨ 116 ≤ Int32.toNatClampNeg v1) then (dz_l (σ.2.2.1 12 (Int32.toNatClampNeg v1)) fun x2 => if (v2 + x2) ≤ v4 then (some (1, σ)) else (G.2.2.2.2.2.1 v1 v2 v3 v4 2 σ)) else none), (fun v1 v2 v3 v4 v5 σ => if (999 : Int32) < v5 then (G.2.2.2.2.2.2.2 v1 v2 v3 v4 v5 σ) else (dz_b (fnX1_isOneBy K (Int32.toInt64 v3) (Int32.toInt64 v5)) fun x1 => if x1 = (0 : Int32) then (G.2.2.2.2.2.2.1 v1 v2 v3 v4 v5 σ) else (if ¬ (v4 < 0 ∨ 1044 ≤ Int32.toNatClampNeg v4) then (dz_l (σ.2.2.1 14 (Int32.toNatClampNeg v4)) fun x3 => dz_b (fnX1_isApartBy K (Int32.toInt64 v3) (Int32.toInt64 v5) (Int32.toInt64 x3)) fun x4 => if x4 = (0 : Int32) then (G.2.2.2.2.2.2.1 v1 v2 v3 v4 v5 σ) else (G.2.2.2.2.2.2.2 v1 v2 v3 v4 v5 σ)) else none))), (fun v1 v2 v3 v4 v5 σ => dz_l (v5 + 1) fun x1 => G.2.2.2.2.2.1 v1 v2 v3 v4 x1 σ), (fun v1 v2 v3 v4 v5 σ => if v5 ≤ (999 : Int32) then (if ¬ (v4 < 0 ∨ 1044 ≤ Int32.toNatClampNeg v4) then (dz_l (mI σ 16 (Int32.toNatClampNeg v4) v5) fun s2 => dz_l (v4 + 1) fun x3 => G.2.2.2.2.1 v1 v2 v3 x3 s2) else none) else (some (0, σ)))))
noncomputable def fnX1_laysBases (K : Nat) (a0 : Int32) (σ : pM) : Option (Int32 × pM) := dz_l (9 * a0) fun x1 => if ¬ (a0 < 0 ∨ 116 ≤ Int32.toNatClampNeg a0) then (dz_l (σ.2.2.1 8 (Int32.toNatClampNeg a0)) fun x3 => if ¬ (a0 < 0 ∨ 116 ≤ Int32.toNatClampNeg a0) then (dz_l (σ.2.2.1 9 (Int32.toNatClampNeg a0)) fun x5 => if x5 = (1 : Int32) then ((lfX1_laysBases K K).1 a0 x1 x3 2 σ) else ((lfX1_laysBases K K).2.2.2.2.1 a0 x1 x3 x1 σ)) else none) else none
set_option maxHeartbeats 4000000 in
set_option maxRecDepth 100000 in
theorem wlX1_laysBases {p : Program} {l : Launch} {e : Env} {s : State} {m : MethodId} {below : List Frame} {meth : Method} {c : Code} {D : va_G} {cl : List vw_C} {ci : Nat} (hci : cl[ci]? = some (RX1, TX1, 35)) {h : Nat} {ad : Nat → Nat} {cA : Nat → ClassId} {A : Nat → Prop} (hA : ∀ q : Nat, s.heap.size ≤ q → A q) (hK : va_K D cl (mtys cA) s) (K : Nat) (res : (Int32 × pM)) (a0 : Int32) (hx : p.tables.exec = Jvm.exec) (hb : c.code = cX1_laysBases) (hr : meth.sig.returnType = some .boolean) (hlocks : meth.locks = false) (hml : c.maxLocals = 7) (hown : s.vm.findClass RX1 = some m.cls) (hts : ∀ w ∈ lw_all, w.before ([.ref h, .int a0] : List Value).toArray s = true) : ∀ k : Nat, (∀ (v1 : Int32) (v2 : Int32) (v3 : Int32) (v4 : Int32) (σ : pM) (H : Heap) (locs : List Loc), va_P D cl (mw ci h ad cA σ) H → va_D A (mw ci h ad cA σ) → va_S A s.heap H locs → ∀ (ls : Array Slot), lv_has ls 7 [(0, .ref h), (1, .int v1), (2, .int v2), (3, .int v3), (4, .int v4)] → (lfX1_laysBases K k).1 v1 v2 v3 v4 σ = some res → W p l e (headSpec (ws_ yX1_laysBases cX1_laysBases 7 (some .boolean)) ({ frames := 2, cells := 0, slots := 0, locals := 58 })).room s m ([.ref h, .int a0] : List Value).toArray below meth c H locs 0 0 (MQ below (mQi D cl ci h ad cA A res) ([.ref h, .int a0] : List Value).toArray s 0 0 A) (F0 m 25 ls [])) ∧ (∀ (v1 : Int32) (v2 : Int32) (v3 : Int32) (v4 : Int32) (v5 : Int32) (v6 : Int32) (σ : pM) (H : Heap) (locs : List Loc), va_P D cl (mw ci h ad cA σ) H → va_D A (mw ci h ad cA σ) → va_S A s.heap H locs → ∀ (ls : Array Slot), lv_has ls 7 [(0, .ref h), (1, .int v1), (2, .int v2), (3, .int v3), (4, .int v4), (5, .int v5), (6, .int v6)] → (lfX1_laysBases K k).2.1 v1 v2 v3 v4 v5 v6 σ = some res → W p l e (headSpec (ws_ yX1_laysBases cX1_laysBases 7 (some .boolean)) ({ frames := 2, cells := 0, slots := 0, locals := 58 })).room s m ([.ref h, .int a0] : List Value).toArray below meth c H locs 0 0 (MQ below (mQi D cl ci h ad cA A res) ([.ref h, .int a0] : List Value).toArray s 0 0 A) (F0 m 46 ls [])) ∧ (∀ (v1 : Int32) (v2 : Int32) (v3 : Int32) (v4 : Int32) (v5 : Int32) (σ : pM) (H : Heap) (locs : List Loc), va_P D cl (mw ci h ad cA σ) H → va_D A (mw ci h ad cA σ) → va_S A s.heap H locs → ∀ (ls : Array Slot), lv_has ls 7 [(0, .ref h), (1, .int v1), (2, .int v2), (3, .int v3), (4, .int v4), (5, .int v5)] → (lfX1_laysBases K k).2.2.1 v1 v2 v3 v4 v5 σ = some res → W p l e (headSpec (ws_ yX1_laysBases cX1_laysBases 7 (some .boolean)) ({ frames := 2, cells := 0, slots := 0, locals := 58 })).room s m ([.ref h, .int a0] : List Value).toArray below meth c H locs 0 0 (MQ below (mQi D cl ci h ad cA A res) ([.ref h, .int a0] : List Value).toArray s 0 0 A) (F0 m 88 ls [])) ∧ (∀ (v1 : Int32) (v2 : Int32) (v4 : Int32) (v6 : Int32) (σ : pM) (H : Heap) (locs : List Loc), va_P D cl (mw ci h ad cA σ) H → va_D A (mw ci h ad cA σ) → va_S A s.heap H locs → ∀ (ls : Array Slot), lv_has ls 7 [(0, .ref h), (1, .int v1), (2, .int v2), (4, .int v4), (6, .int v6)] → (lfX1_laysBases K k).2.2.2.1 v1 v2 v4 v6 σ = some res → W p l e (headSpec (ws_ yX1_laysBases cX1_laysBases 7 (some .boolean)) ({ frames := 2, cells := 0, slots := 0, locals := 58 })).room s m ([.ref h, .int a0] : List Value).toArray below meth c H locs 0 0 (MQ below (mQi D cl ci h ad cA A res) ([.ref h, .int a0] : List Value).toArray s 0 0 A) (F0 m 99 ls [])) ∧ (∀ (v1 : Int32) (v2 : Int32) (v3 : Int32) (v4 : Int32) (σ : pM) (H : Heap) (locs : List Loc), va_P D cl (mw ci h ad cA σ) H → va_D A (mw ci h ad cA σ) → va_S A s.heap H locs → ∀ (ls : Array Slot), lv_has ls 7 [(0, .ref h), (1, .int v1), (2, .int v2), (3, .int v3), (4, .int v4)] → (lfX1_laysBases K k).2.2.2.2.1 v1 v2 v3 v4 σ = some res → W p l e (headSpec (ws_ yX1_laysBases cX1_laysBases 7 (some .boolean)) ({ frames := 2, cells := 0, slots := 0, locals := 58 })).room s m ([.ref h, .int a0] : List Value).toArray below meth c H locs 0 0 (MQ below (mQi D cl ci h ad cA A res) ([.ref h, .int a0] : List Value).toArray s 0 0 A) (F0 m 140 ls [])) ∧ (∀ (v1 : Int32) (v2 : Int32) (v3 : Int32) (v4 : Int32) (v5 : Int32) (σ : pM) (H : Heap) (locs : List Loc), va_P D cl (mw ci h ad cA σ) H → va_D A (mw ci h ad cA σ) → va_S A s.heap H locs → ∀ (ls : Array Slot), lv_has ls 7 [(0, .ref h), (1, .int v1), (2, .int v2), (3, .int v3), (4, .int v4), (5, .int v5)] → (lfX1_laysBases K k).2.2.2.2.2.1 v1 v2 v3 v4 v5 σ = some res → W p l e (headSpec (ws_ yX1_laysBases cX1_laysBases 7 (some .boolean)) ({ frames := 2, cells := 0, slots := 0, locals := 58 })).room s m ([.ref h, .int a0] : List Value).toArray below meth c H locs 0 0 (MQ below (mQi D cl ci h ad cA A res) ([.ref h, .int a0] : List Value).toArray s 0 0 A) (F0 m 156 ls [])) ∧ (∀ (v1 : Int32) (v2 : Int32) (v3 : Int32) (v4 : Int32) (v5 : Int32) (σ : pM) (H : Heap) (locs : List Loc), va_P D cl (mw ci h ad cA σ) H → va_D A (mw ci h ad cA σ) → va_S A s.heap H locs → ∀ (ls : Array Slot), lv_has ls 7 [(0, .ref h), (1, .int v1), (2, .int v2), (3, .int v3), (4, .int v4), (5, .int v5)] → (lfX1_laysBases K k).2.2.2.2.2.2.1 v1 v2 v3 v4 v5 σ = some res → W p l e (headSpec (ws_ yX1_laysBases cX1_laysBases 7 (some .boolean)) ({ frames := 2, cells := 0, slots := 0, locals := 58 })).room s m ([.ref h, .int a0] : List Value).toArray below meth c H locs 0 0 (MQ below (mQi D cl ci h ad cA A res) ([.ref h, .int a0] : List Value).toArray s 0 0 A) (F0 m 194 ls [])) ∧ (∀ (v1 : Int32) (v2 : Int32) (v3 : Int32) (v4 : Int32) (v5 : Int32) (σ : pM) (H : Heap) (locs : List Loc), va_P D cl (mw ci h ad cA σ) H → va_D A (mw ci h ad cA σ) → va_S A s.heap H locs → ∀ (ls : Array Slot), lv_has ls 7 [(0, .ref h), (1, .int v1), (2, .int v2), (3, .int v3), (4, .int v4), (5, .int v5)] → (lfX1_laysBases K k).2.2.2.2.2.2.2 v1 v2 v3 v4 v5 σ = some res → W p l e (headSpec (ws_ yX1_laysBases cX1_laysBases 7 (some .boolean)) ({ frames := 2, cells := 0, slots := 0, locals := 58 })).room s m ([.ref h, .int a0] : List Value).toArray below meth c H locs 0 0 (MQ below (mQi D cl ci h ad cA A res) ([.ref h, .int a0] : List Value).toArray s 0 0 A) (F0 m 200 ls [])) := by
  intro k
  induction k with
  | zero =>
    exact ⟨fun _ _ _ _ _ _ _ _ _ _ _ _ hf => (by cases hf), fun _ _ _ _ _ _ _ _ _ _ _ _ _ _ hf => (by cases hf), fun _ _ _ _ _ _ _ _ _ _ _ _ _ hf => (by cases hf), fun _ _ _ _ _ _ _ _ _ _ _ _ hf => (by cases hf), fun _ _ _ _ _ _ _ _ _ _ _ _ hf => (by cases hf), fun _ _ _ _ _ _ _ _ _ _ _ _ _ hf => (by cases hf), fun _ _ _ _ _ _ _ _ _ _ _ _ _ hf => (by cases hf), fun _ _ _ _ _ _ _ _ _ _ _ _ _ hf => (by cases hf)⟩
  | succ k ih =>
    refine ⟨?_, ?_, ?_, ?_, ?_, ?_, ?_, ?_⟩
    · intro v1 v2 v3 v4 σ H locs hP hD hS ls hl hf
      have hf : (if (999 : Int32) < v4 then (some (0, σ)) else (dz_b (fnX1_isOneBy K (Int32.toInt64 v3) (Int32.toInt64 v4)) fun x1 => (lfX1_laysBases K k).2.1 v1 v2 v3 v4 x1 v2 σ) : Option (Int32 × pM)) = some res := hf
      refine lv_iload hx hb dX1_laysBases_25 (lv_at hl 4 rfl) ?_
      refine lv_sipush (v := 999) hx hb dX1_laysBases_27 (by decide) ?_
      refine lv_icmp_gt (tgt := 135) hx hb dX1_laysBases_30 (by decide) (fun c30 => ?_) (fun c30 => ?_)
      · have hf := dz_t c30 hf
        refine lv_iconst (v := 0) hx hb dX1_laysBases_135 (by decide) ?_
        exact W.zret (v := 0) hx hb hr rfl (fun t ht hW => ⟨⟨0, σ, rfl, Option.some.inj hf, by rw [ht]; exact hP, va_K.moved hW.alike hK, hD⟩, hS.F ht⟩) hS.2.2 dX1_laysBases_136
      · have hf := dz_f c30 hf
        refine lv_iload_n hx hb dX1_laysBases_33 rfl (lv_at hl 3 rfl) ?_
        refine lv_i2l hx hb dX1_laysBases_34 (rfl : _ = Int32.toInt64 v3) ?_
        refine lv_iload hx hb dX1_laysBases_35 (lv_at hl 4 rfl) ?_
        refine lv_i2l hx hb dX1_laysBases_37 (rfl : _ = Int32.toInt64 v4) ?_
        obtain ⟨x1, hx1, hf⟩ := dz_bo hf
        refine va_calli (va_runS (As := [.long (Int32.toInt64 v3), .long (Int32.toInt64 v4)]) (rest := []) ⟨hx, hb, hml, hown, hts⟩ (mtX1_isOneBy l (Int32.toInt64 v3) (Int32.toInt64 v4) K x1 hx1) (va_cwS 2 hts (lw_S q1841 q1842 q88 q1843) rfl rfl rfl (by decide +kernel) ⟨Nat.le_of_ble_eq_true rfl, Nat.le_of_ble_eq_true rfl⟩) ⟨fun a U g mk q => q, fun U hU hW => ⟨rfl, trivial⟩⟩ rfl rfl hl.1 rfl (lv_room (Nat.le_of_ble_eq_true rfl)) dX1_laysBases_38 ⟨Nat.le_refl _, Nat.le_refl _⟩) hS (fun q _ hq => hq.elim) (fun q hq => hq.elim) (fun r u t H1 locs ht hvm hw hB hz hk hS => ?_)
        replace hw := hw.symm; subst hw
        replace hP := dz_keep hP hk
        clear hB hk hz hvm ht; generalize H1 = H at hP hS ⊢
        refine lv_istore (lv' := [(5, .int x1), (0, .ref h), (1, .int v1), (2, .int v2), (3, .int v3), (4, .int v4)]) hx hb dX1_laysBases_41 hl (by decide) rfl (fun ls hl => ?_)
        refine lv_iload_n hx hb dX1_laysBases_43 rfl (lv_at hl 3 rfl) ?_
        refine lv_istore (lv' := [(6, .int v2), (5, .int x1), (0, .ref h), (1, .int v1), (2, .int v2), (3, .int v3), (4, .int v4)]) hx hb dX1_laysBases_44 hl (by decide) rfl (fun ls hl => ?_)
        exact ih.2.1 v1 v2 v3 v4 x1 v2 σ H locs hP hD hS ls (lv_sub hl [2, 3, 4, 5, 6, 1, 0] rfl) hf
    · intro v1 v2 v3 v4 v5 v6 σ H locs hP hD hS ls hl hf
      have hf : (if ¬ (v1 < 0 ∨ 116 ≤ Int32.toNatClampNeg v1) then (dz_l (σ.2.2.1 12 (Int32.toNatClampNeg v1)) fun x2 => if (v2 + x2) ≤ v6 then ((lfX1_laysBases K k).2.2.1 v1 v2 v3 v4 v5 σ) else (if v5 = (0 : Int32) then ((lfX1_laysBases K k).2.2.1 v1 v2 v3 v4 v5 σ) else (if ¬ (v6 < 0 ∨ 1044 ≤ Int32.toNatClampNeg v6) then (dz_l (σ.2.2.1 14 (Int32.toNatClampNeg v6)) fun x4 => dz_b (fnX1_isApartBy K (Int32.toInt64 v3) (Int32.toInt64 v4) (Int32.toInt64 x4)) fun x5 => dz_l (v6 + 1) fun x6 => (lfX1_laysBases K k).2.1 v1 v2 v3 v4 x5 x6 σ) else none))) else none : Option (Int32 × pM)) = some res := hf
      refine lv_iload hx hb dX1_laysBases_46 (lv_at hl 6 rfl) ?_
      refine lv_iload_n hx hb dX1_laysBases_48 rfl (lv_at hl 2 rfl) ?_
      refine lv_aload_n hx hb dX1_laysBases_49 rfl (lv_at hl 0 rfl) ?_
      refine va_get (C := RX1) (T := TX1) (N := 35) (fs := mwF ad σ) (v := .ref (ad 12)) hx hb hts in_X1 hown hK hP 0 rfl hci 12 (by decide) (hts _ q1683) (fun _ hq => hq) rfl dX1_laysBases_50 ?_
      refine lv_iload_n hx hb dX1_laysBases_53 rfl (lv_at hl 1 rfl) ?_
      obtain ⟨g1, hf⟩ := dz_go hf
      refine va_iald hx hb hK hP 10 0 rfl rfl g1 dX1_laysBases_54 ?_
      refine lv_topi (fun x2 e_x2 => ?_)
      have hf := dz_ls e_x2 hf
      refine lv_iadd hx hb dX1_laysBases_55 ?_
      refine lv_icmp_ge (tgt := 88) hx hb dX1_laysBases_56 (by decide) (fun c56 => ?_) (fun c56 => ?_)
      · have hf := dz_t c56 hf
        exact ih.2.2.1 v1 v2 v3 v4 v5 σ H locs hP hD hS ls (lv_sub hl [0, 1, 2, 3, 4, 5] rfl) hf
      · have hf := dz_f c56 hf
        refine lv_iload hx hb dX1_laysBases_59 (lv_at hl 5 rfl) ?_
        refine lv_if_eq (tgt := 88) hx hb dX1_laysBases_61 (by decide) (fun c61 => ?_) (fun c61 => ?_)
        · have hf := dz_t c61 hf
          exact ih.2.2.1 v1 v2 v3 v4 v5 σ H locs hP hD hS ls (lv_sub hl [0, 1, 2, 3, 4, 5] rfl) hf
        · have hf := dz_f c61 hf
          refine lv_iload_n hx hb dX1_laysBases_64 rfl (lv_at hl 3 rfl) ?_
          refine lv_i2l hx hb dX1_laysBases_65 (rfl : _ = Int32.toInt64 v3) ?_
          refine lv_iload hx hb dX1_laysBases_66 (lv_at hl 4 rfl) ?_
          refine lv_i2l hx hb dX1_laysBases_68 (rfl : _ = Int32.toInt64 v4) ?_
          refine lv_aload_n hx hb dX1_laysBases_69 rfl (lv_at hl 0 rfl) ?_
          refine va_get (C := RX1) (T := TX1) (N := 35) (fs := mwF ad σ) (v := .ref (ad 14)) hx hb hts in_X1 hown hK hP 0 rfl hci 14 (by decide) (hts _ q1685) (fun _ hq => hq) rfl dX1_laysBases_70 ?_
          refine lv_iload hx hb dX1_laysBases_73 (lv_at hl 6 rfl) ?_
          obtain ⟨g3, hf⟩ := dz_go hf
          refine va_iald hx hb hK hP 12 0 rfl rfl g3 dX1_laysBases_75 ?_
          refine lv_topi (fun x4 e_x4 => ?_)
          have hf := dz_ls e_x4 hf
          refine lv_i2l hx hb dX1_laysBases_76 (rfl : _ = Int32.toInt64 x4) ?_
          obtain ⟨x5, hx5, hf⟩ := dz_bo hf
          refine va_calli (va_runS (As := [.long (Int32.toInt64 v3), .long (Int32.toInt64 v4), .long (Int32.toInt64 x4)]) (rest := []) ⟨hx, hb, hml, hown, hts⟩ (mtX1_isApartBy l (Int32.toInt64 v3) (Int32.toInt64 v4) (Int32.toInt64 x4) K x5 hx5) (va_cwS 3 hts (lw_S q1847 q1848 q88 q1849) rfl rfl rfl (by decide +kernel) ⟨Nat.le_of_ble_eq_true rfl, Nat.le_of_ble_eq_true rfl⟩) ⟨fun a U g mk q => q, fun U hU hW => ⟨rfl, trivial⟩⟩ rfl rfl hl.1 rfl (lv_room (Nat.le_of_ble_eq_true rfl)) dX1_laysBases_77 ⟨Nat.le_refl _, Nat.le_refl _⟩) hS (fun q _ hq => hq.elim) (fun q hq => hq.elim) (fun r u t H1 locs ht hvm hw hB hz hk hS => ?_)
          replace hw := hw.symm; subst hw
          replace hP := dz_keep hP hk
          clear hB hk hz hvm ht; generalize H1 = H at hP hS ⊢
          refine lv_istore (lv' := [(5, .int x5), (0, .ref h), (1, .int v1), (2, .int v2), (3, .int v3), (4, .int v4), (6, .int v6)]) hx hb dX1_laysBases_80 hl (by decide) rfl (fun ls hl => ?_)
          obtain ⟨x6, e_x6, hf⟩ := dz_lo hf
          refine lv_iinc (v := x6) (lv' := [(6, .int x6), (5, .int x5), (0, .ref h), (1, .int v1), (2, .int v2), (3, .int v3), (4, .int v4)]) hx hb dX1_laysBases_82 hl (k := 6) rfl (by rw [e_x6]; rfl) (by decide) rfl (fun ls hl => ?_)
          refine lv_goto (tgt := 46) hx hb dX1_laysBases_85 (by decide) ?_
          exact ih.2.1 v1 v2 v3 v4 x5 x6 σ H locs hP hD hS ls (lv_sub hl [2, 3, 4, 5, 6, 1, 0] rfl) hf
    · intro v1 v2 v3 v4 v5 σ H locs hP hD hS ls hl hf
      have hf : (if v5 = (0 : Int32) then (dz_l (v4 + 1) fun x1 => (lfX1_laysBases K k).1 v1 v2 v3 x1 σ) else ((lfX1_laysBases K k).2.2.2.1 v1 v2 v4 v2 σ) : Option (Int32 × pM)) = some res := hf
      refine lv_iload hx hb dX1_laysBases_88 (lv_at hl 5 rfl) ?_
      refine lv_if_ne (tgt := 96) hx hb dX1_laysBases_90 (by decide) (fun c90 => ?_) (fun c90 => ?_)
      · have hf := dz_f c90 hf
        refine lv_iload_n hx hb dX1_laysBases_96 rfl (lv_at hl 2 rfl) ?_
        refine lv_istore (lv' := [(6, .int v2), (0, .ref h), (1, .int v1), (2, .int v2), (3, .int v3), (4, .int v4), (5, .int v5)]) hx hb dX1_laysBases_97 hl (by decide) rfl (fun ls hl => ?_)
        exact ih.2.2.2.1 v1 v2 v4 v2 σ H locs hP hD hS ls (lv_sub hl [1, 2, 3, 5, 0] rfl) hf
      · have hf := dz_t c90 hf
        refine lv_goto (tgt := 129) hx hb dX1_laysBases_93 (by decide) ?_
        obtain ⟨x1, e_x1, hf⟩ := dz_lo hf
        refine lv_iinc (v := x1) (lv' := [(4, .int x1), (0, .ref h), (1, .int v1), (2, .int v2), (3, .int v3), (5, .int v5)]) hx hb dX1_laysBases_129 hl (k := 4) rfl (by rw [e_x1]; rfl) (by decide) rfl (fun ls hl => ?_)
        refine lv_goto (tgt := 25) hx hb dX1_laysBases_132 (by decide) ?_
        exact ih.1 v1 v2 v3 x1 σ H locs hP hD hS ls (lv_sub hl [1, 2, 3, 4, 0] rfl) hf
    · intro v1 v2 v4 v6 σ H locs hP hD hS ls hl hf
      have hf : (if ¬ (v1 < 0 ∨ 116 ≤ Int32.toNatClampNeg v1) then (dz_l (σ.2.2.1 12 (Int32.toNatClampNeg v1)) fun x2 => if (v2 + x2) ≤ v6 then (some (1, σ)) else (if ¬ (v6 < 0 ∨ 1044 ≤ Int32.toNatClampNeg v6) then (dz_l (mI σ 16 (Int32.toNatClampNeg v6) v4) fun s4 => dz_l (v6 + 1) fun x5 => (lfX1_laysBases K k).2.2.2.1 v1 v2 v4 x5 s4) else none)) else none : Option (Int32 × pM)) = some res := hf
      refine lv_iload hx hb dX1_laysBases_99 (lv_at hl 4 rfl) ?_
      refine lv_iload_n hx hb dX1_laysBases_101 rfl (lv_at hl 2 rfl) ?_
      refine lv_aload_n hx hb dX1_laysBases_102 rfl (lv_at hl 0 rfl) ?_
      refine va_get (C := RX1) (T := TX1) (N := 35) (fs := mwF ad σ) (v := .ref (ad 12)) hx hb hts in_X1 hown hK hP 0 rfl hci 12 (by decide) (hts _ q1683) (fun _ hq => hq) rfl dX1_laysBases_103 ?_
      refine lv_iload_n hx hb dX1_laysBases_106 rfl (lv_at hl 1 rfl) ?_
      obtain ⟨g1, hf⟩ := dz_go hf
      refine va_iald hx hb hK hP 10 0 rfl rfl g1 dX1_laysBases_107 ?_
      refine lv_topi (fun x2 e_x2 => ?_)
      have hf := dz_ls e_x2 hf
      refine lv_iadd hx hb dX1_laysBases_108 ?_
      refine lv_icmp_ge (tgt := 127) hx hb dX1_laysBases_109 (by decide) (fun c109 => ?_) (fun c109 => ?_)
      · have hf := dz_t c109 hf
        refine lv_iconst (v := 1) hx hb dX1_laysBases_127 (by decide) ?_
        exact W.zret (v := 1) hx hb hr rfl (fun t ht hW => ⟨⟨1, σ, rfl, Option.some.inj hf, by rw [ht]; exact hP, va_K.moved hW.alike hK, hD⟩, hS.F ht⟩) hS.2.2 dX1_laysBases_128
      · have hf := dz_f c109 hf
        refine lv_aload_n hx hb dX1_laysBases_112 rfl (lv_at hl 0 rfl) ?_
        refine va_get (C := RX1) (T := TX1) (N := 35) (fs := mwF ad σ) (v := .ref (ad 16)) hx hb hts in_X1 hown hK hP 0 rfl hci 16 (by decide) (hts _ q1687) (fun _ hq => hq) rfl dX1_laysBases_113 ?_
        refine lv_iload hx hb dX1_laysBases_116 (lv_at hl 4 rfl) ?_
        refine lv_iload hx hb dX1_laysBases_118 (lv_at hl 3 rfl) ?_
        obtain ⟨g3, hf⟩ := dz_go hf
        refine va_iast hx hb hK hP hD hS 14 0 rfl rfl g3 dX1_laysBases_120 (fun H locs hP1 _ hS => ?_)
        obtain ⟨s4, e_s4, hf⟩ := dz_lo hf
        have hP : va_P D cl (mw ci h ad cA s4) H := by rw [e_s4]; exact hP1
        clear hP1; replace hD := mw_D s4 hD
        obtain ⟨x5, e_x5, hf⟩ := dz_lo hf
        refine lv_iinc (v := x5) (lv' := [(6, .int x5), (0, .ref h), (1, .int v1), (2, .int v2), (4, .int v4)]) hx hb dX1_laysBases_121 hl (k := 4) rfl (by rw [e_x5]; rfl) (by decide) rfl (fun ls hl => ?_)
        refine lv_goto (tgt := 99) hx hb dX1_laysBases_124 (by decide) ?_
        exact ih.2.2.2.1 v1 v2 v4 x5 s4 H locs hP hD hS ls (lv_sub hl [1, 2, 3, 4, 0] rfl) hf
    · intro v1 v2 v3 v4 σ H locs hP hD hS ls hl hf
      have hf : (if ¬ (v1 < 0 ∨ 116 ≤ Int32.toNatClampNeg v1) then (dz_l (σ.2.2.1 12 (Int32.toNatClampNeg v1)) fun x2 => if (v2 + x2) ≤ v4 then (some (1, σ)) else ((lfX1_laysBases K k).2.2.2.2.2.1 v1 v2 v3 v4 2 σ)) else none : Option (Int32 × pM)) = some res := hf
      refine lv_iload hx hb dX1_laysBases_140 (lv_at hl 4 rfl) ?_
      refine lv_iload_n hx hb dX1_laysBases_142 rfl (lv_at hl 2 rfl) ?_
      refine lv_aload_n hx hb dX1_laysBases_143 rfl (lv_at hl 0 rfl) ?_
      refine va_get (C := RX1) (T := TX1) (N := 35) (fs := mwF ad σ) (v := .ref (ad 12)) hx hb hts in_X1 hown hK hP 0 rfl hci 12 (by decide) (hts _ q1683) (fun _ hq => hq) rfl dX1_laysBases_144 ?_
      refine lv_iload_n hx hb dX1_laysBases_147 rfl (lv_at hl 1 rfl) ?_
      obtain ⟨g1, hf⟩ := dz_go hf
      refine va_iald hx hb hK hP 10 0 rfl rfl g1 dX1_laysBases_148 ?_
      refine lv_topi (fun x2 e_x2 => ?_)
      have hf := dz_ls e_x2 hf
      refine lv_iadd hx hb dX1_laysBases_149 ?_
      refine lv_icmp_ge (tgt := 225) hx hb dX1_laysBases_150 (by decide) (fun c150 => ?_) (fun c150 => ?_)
      · have hf := dz_t c150 hf
        refine lv_iconst (v := 1) hx hb dX1_laysBases_225 (by decide) ?_
        exact W.zret (v := 1) hx hb hr rfl (fun t ht hW => ⟨⟨1, σ, rfl, Option.some.inj hf, by rw [ht]; exact hP, va_K.moved hW.alike hK, hD⟩, hS.F ht⟩) hS.2.2 dX1_laysBases_226
      · have hf := dz_f c150 hf
        refine lv_iconst (v := 2) hx hb dX1_laysBases_153 (by decide) ?_
        refine lv_istore (lv' := [(5, .int 2), (0, .ref h), (1, .int v1), (2, .int v2), (3, .int v3), (4, .int v4)]) hx hb dX1_laysBases_154 hl (by decide) rfl (fun ls hl => ?_)
        exact ih.2.2.2.2.2.1 v1 v2 v3 v4 2 σ H locs hP hD hS ls (lv_sub hl [1, 2, 3, 4, 5, 0] rfl) hf
    · intro v1 v2 v3 v4 v5 σ H locs hP hD hS ls hl hf
      have hf : (if (999 : Int32) < v5 then ((lfX1_laysBases K k).2.2.2.2.2.2.2 v1 v2 v3 v4 v5 σ) else (dz_b (fnX1_isOneBy K (Int32.toInt64 v3) (Int32.toInt64 v5)) fun x1 => if x1 = (0 : Int32) then ((lfX1_laysBases K k).2.2.2.2.2.2.1 v1 v2 v3 v4 v5 σ) else (if ¬ (v4 < 0 ∨ 1044 ≤ Int32.toNatClampNeg v4) then (dz_l (σ.2.2.1 14 (Int32.toNatClampNeg v4)) fun x3 => dz_b (fnX1_isApartBy K (Int32.toInt64 v3) (Int32.toInt64 v5) (Int32.toInt64 x3)) fun x4 => if x4 = (0 : Int32) then ((lfX1_laysBases K k).2.2.2.2.2.2.1 v1 v2 v3 v4 v5 σ) else ((lfX1_laysBases K k).2.2.2.2.2.2.2 v1 v2 v3 v4 v5 σ)) else none)) : Option (Int32 × pM)) = some res := hf
      refine lv_iload hx hb dX1_laysBases_156 (lv_at hl 5 rfl) ?_
      refine lv_sipush (v := 999) hx hb dX1_laysBases_158 (by decide) ?_
      refine lv_icmp_gt (tgt := 200) hx hb dX1_laysBases_161 (by decide) (fun c161 => ?_) (fun c161 => ?_)
      · have hf := dz_t c161 hf
        exact ih.2.2.2.2.2.2.2 v1 v2 v3 v4 v5 σ H locs hP hD hS ls (lv_sub hl [0, 1, 2, 3, 4, 5] rfl) hf
      · have hf := dz_f c161 hf
        refine lv_iload_n hx hb dX1_laysBases_164 rfl (lv_at hl 3 rfl) ?_
        refine lv_i2l hx hb dX1_laysBases_165 (rfl : _ = Int32.toInt64 v3) ?_
        refine lv_iload hx hb dX1_laysBases_166 (lv_at hl 5 rfl) ?_
        refine lv_i2l hx hb dX1_laysBases_168 (rfl : _ = Int32.toInt64 v5) ?_
        obtain ⟨x1, hx1, hf⟩ := dz_bo hf
        refine va_calli (va_runS (As := [.long (Int32.toInt64 v3), .long (Int32.toInt64 v5)]) (rest := []) ⟨hx, hb, hml, hown, hts⟩ (mtX1_isOneBy l (Int32.toInt64 v3) (Int32.toInt64 v5) K x1 hx1) (va_cwS 2 hts (lw_S q1841 q1842 q88 q1843) rfl rfl rfl (by decide +kernel) ⟨Nat.le_of_ble_eq_true rfl, Nat.le_of_ble_eq_true rfl⟩) ⟨fun a U g mk q => q, fun U hU hW => ⟨rfl, trivial⟩⟩ rfl rfl hl.1 rfl (lv_room (Nat.le_of_ble_eq_true rfl)) dX1_laysBases_169 ⟨Nat.le_refl _, Nat.le_refl _⟩) hS (fun q _ hq => hq.elim) (fun q hq => hq.elim) (fun r u t H1 locs ht hvm hw hB hz hk hS => ?_)
        replace hw := hw.symm; subst hw
        replace hP := dz_keep hP hk
        clear hB hk hz hvm ht; generalize H1 = H at hP hS ⊢
        refine lv_if_eq (tgt := 194) hx hb dX1_laysBases_172 (by decide) (fun c172 => ?_) (fun c172 => ?_)
        · have hf := dz_t c172 hf
          exact ih.2.2.2.2.2.2.1 v1 v2 v3 v4 v5 σ H locs hP hD hS ls (lv_sub hl [0, 1, 2, 3, 4, 5] rfl) hf
        · have hf := dz_f c172 hf
          refine lv_iload_n hx hb dX1_laysBases_175 rfl (lv_at hl 3 rfl) ?_
          refine lv_i2l hx hb dX1_laysBases_176 (rfl : _ = Int32.toInt64 v3) ?_
          refine lv_iload hx hb dX1_laysBases_177 (lv_at hl 5 rfl) ?_
          refine lv_i2l hx hb dX1_laysBases_179 (rfl : _ = Int32.toInt64 v5) ?_
          refine lv_aload_n hx hb dX1_laysBases_180 rfl (lv_at hl 0 rfl) ?_
          refine va_get (C := RX1) (T := TX1) (N := 35) (fs := mwF ad σ) (v := .ref (ad 14)) hx hb hts in_X1 hown hK hP 0 rfl hci 14 (by decide) (hts _ q1685) (fun _ hq => hq) rfl dX1_laysBases_181 ?_
          refine lv_iload hx hb dX1_laysBases_184 (lv_at hl 4 rfl) ?_
          obtain ⟨g2, hf⟩ := dz_go hf
          refine va_iald hx hb hK hP 12 0 rfl rfl g2 dX1_laysBases_186 ?_
          refine lv_topi (fun x3 e_x3 => ?_)
          have hf := dz_ls e_x3 hf
          refine lv_i2l hx hb dX1_laysBases_187 (rfl : _ = Int32.toInt64 x3) ?_
          obtain ⟨x4, hx4, hf⟩ := dz_bo hf
          refine va_calli (va_runS (As := [.long (Int32.toInt64 v3), .long (Int32.toInt64 v5), .long (Int32.toInt64 x3)]) (rest := []) ⟨hx, hb, hml, hown, hts⟩ (mtX1_isApartBy l (Int32.toInt64 v3) (Int32.toInt64 v5) (Int32.toInt64 x3) K x4 hx4) (va_cwS 3 hts (lw_S q1847 q1848 q88 q1849) rfl rfl rfl (by decide +kernel) ⟨Nat.le_of_ble_eq_true rfl, Nat.le_of_ble_eq_true rfl⟩) ⟨fun a U g mk q => q, fun U hU hW => ⟨rfl, trivial⟩⟩ rfl rfl hl.1 rfl (lv_room (Nat.le_of_ble_eq_true rfl)) dX1_laysBases_188 ⟨Nat.le_refl _, Nat.le_refl _⟩) hS (fun q _ hq => hq.elim) (fun q hq => hq.elim) (fun r u t H1 locs ht hvm hw hB hz hk hS => ?_)
          replace hw := hw.symm; subst hw
          replace hP := dz_keep hP hk
          clear hB hk hz hvm ht; generalize H1 = H at hP hS ⊢
          refine lv_if_ne (tgt := 200) hx hb dX1_laysBases_191 (by decide) (fun c191 => ?_) (fun c191 => ?_)
          · have hf := dz_f c191 hf
            exact ih.2.2.2.2.2.2.2 v1 v2 v3 v4 v5 σ H locs hP hD hS ls (lv_sub hl [0, 1, 2, 3, 4, 5] rfl) hf
          · have hf := dz_t c191 hf
            exact ih.2.2.2.2.2.2.1 v1 v2 v3 v4 v5 σ H locs hP hD hS ls (lv_sub hl [0, 1, 2, 3, 4, 5] rfl) hf
    · intro v1 v2 v3 v4 v5 σ H locs hP hD hS ls hl hf
      have hf : (dz_l (v5 + 1) fun x1 => (lfX1_laysBases K k).2.2.2.2.2.1 v1 v2 v3 v4 x1 σ : Option (Int32 × pM)) = some res := hf
      obtain ⟨x1, e_x1, hf⟩ := dz_lo hf
      refine lv_iinc (v := x1) (lv' := [(5, .int x1), (0, .ref h), (1, .int v1), (2, .int v2), (3, .int v3), (4, .int v4)]) hx hb dX1_laysBases_194 hl (k := 5) rfl (by rw [e_x1]; rfl) (by decide) rfl (fun ls hl => ?_)
      refine lv_goto (tgt := 156) hx hb dX1_laysBases_197 (by decide) ?_
      exact ih.2.2.2.2.2.1 v1 v2 v3 v4 x1 σ H locs hP hD hS ls (lv_sub hl [1, 2, 3, 4, 5, 0] rfl) hf
    · intro v1 v2 v3 v4 v5 σ H locs hP hD hS ls hl hf
      have hf : (if v5 ≤ (999 : Int32) then (if ¬ (v4 < 0 ∨ 1044 ≤ Int32.toNatClampNeg v4) then (dz_l (mI σ 16 (Int32.toNatClampNeg v4) v5) fun s2 => dz_l (v4 + 1) fun x3 => (lfX1_laysBases K k).2.2.2.2.1 v1 v2 v3 x3 s2) else none) else (some (0, σ)) : Option (Int32 × pM)) = some res := hf
      refine lv_iload hx hb dX1_laysBases_200 (lv_at hl 5 rfl) ?_
      refine lv_sipush (v := 999) hx hb dX1_laysBases_202 (by decide) ?_
      refine lv_icmp_le (tgt := 210) hx hb dX1_laysBases_205 (by decide) (fun c205 => ?_) (fun c205 => ?_)
      · have hf := dz_t c205 hf
        refine lv_aload_n hx hb dX1_laysBases_210 rfl (lv_at hl 0 rfl) ?_
        refine va_get (C := RX1) (T := TX1) (N := 35) (fs := mwF ad σ) (v := .ref (ad 16)) hx hb hts in_X1 hown hK hP 0 rfl hci 16 (by decide) (hts _ q1687) (fun _ hq => hq) rfl dX1_laysBases_211 ?_
        refine lv_iload hx hb dX1_laysBases_214 (lv_at hl 4 rfl) ?_
        refine lv_iload hx hb dX1_laysBases_216 (lv_at hl 5 rfl) ?_
        obtain ⟨g1, hf⟩ := dz_go hf
        refine va_iast hx hb hK hP hD hS 14 0 rfl rfl g1 dX1_laysBases_218 (fun H locs hP1 _ hS => ?_)
        obtain ⟨s2, e_s2, hf⟩ := dz_lo hf
        have hP : va_P D cl (mw ci h ad cA s2) H := by rw [e_s2]; exact hP1
        clear hP1; replace hD := mw_D s2 hD
        obtain ⟨x3, e_x3, hf⟩ := dz_lo hf
        refine lv_iinc (v := x3) (lv' := [(4, .int x3), (0, .ref h), (1, .int v1), (2, .int v2), (3, .int v3), (5, .int v5)]) hx hb dX1_laysBases_219 hl (k := 4) rfl (by rw [e_x3]; rfl) (by decide) rfl (fun ls hl => ?_)
        refine lv_goto (tgt := 140) hx hb dX1_laysBases_222 (by decide) ?_
        exact ih.2.2.2.2.1 v1 v2 v3 x3 s2 H locs hP hD hS ls (lv_sub hl [1, 2, 3, 4, 0] rfl) hf
      · have hf := dz_f c205 hf
        refine lv_iconst (v := 0) hx hb dX1_laysBases_208 (by decide) ?_
        exact W.zret (v := 0) hx hb hr rfl (fun t ht hW => ⟨⟨0, σ, rfl, Option.some.inj hf, by rw [ht]; exact hP, va_K.moved hW.alike hK, hD⟩, hS.F ht⟩) hS.2.2 dX1_laysBases_209
set_option maxHeartbeats 4000000 in
set_option maxRecDepth 100000 in
theorem mtX1_laysBases (l : Launch) (D : va_G) (cl : List vw_C) (ci : Nat) (hci : cl[ci]? = some (RX1, TX1, 35)) (h : Nat) (ad : Nat → Nat) (cA : Nat → ClassId) (sz : Nat) (σ : pM) (a0 : Int32) (K : Nat) (res : (Int32 × pM)) (hf : fnX1_laysBases K a0 σ = some res) : Met l yX1_laysBases (ws_ yX1_laysBases cX1_laysBases 7 (some .boolean)) ({ frames := 2, cells := 0, slots := 0, locals := 58 }) (mPc D cl ci h ad cA sz σ [.ref h, .int a0]) (mQi D cl ci h ad cA (va_A (mw ci h ad cA σ) sz) res) 0 0 (va_A (mw ci h ad cA σ) sz) := by
  refine Met.ofW (cc := cX1_laysBases) (maxL := 7) (ret := some .boolean) (by decide +kernel) rfl ?_
  intro p e s m args below meth c s₁ B hml hv
  obtain ⟨rfl, hsz, hP, hK, hD0⟩ := hv
  have hx := B.exec
  have hb := B.bytes
  have hr := B.returns
  have hts := atoms_spec (ws := ws_ yX1_laysBases cX1_laysBases 7 (some .boolean)) B.pre
  have hts : ∀ w ∈ lw_all, w.before _ s = true := fun w h => hts w (List.mem_cons_of_mem _ h)
  have hown : s.vm.findClass RX1 = some m.cls := findClass_of_methodNamed B.named
  have hlocks := B.notSynchronized
  subst hsz
  have hD := hD0.self (sz := s.heap.size)
  generalize hAe : va_A (mw ci h ad cA σ) s.heap.size = A at hD ⊢
  have hA : ∀ q : Nat, s.heap.size ≤ q → A q := fun q h => by rw [← hAe]; exact Or.inr h
  clear hAe hD0
  have hS : va_S A s.heap s.heap [] := va_S.rf
  generalize hHe : s.heap = H at hP hS ⊢
  have hS : va_S A s.heap H [] := by rw [hHe]; exact hS
  generalize ([] : List Loc) = locs at hS ⊢
  have hl := lv_entry ([.ref h, .int a0]) (n := 7) (Nat.le_of_ble_eq_true rfl)
  rw [lg_entry_eq]
  generalize (lg_sl ([.ref h, .int a0]) ++ List.replicate (7 - (lg_sl ([.ref h, .int a0])).length) Slot.unset).toArray = ls at hl ⊢
  have hl : lv_has ls 7 [(0, .ref h), (1, .int a0)] := hl
  have hf : (dz_l (9 * a0) fun x1 => if ¬ (a0 < 0 ∨ 116 ≤ Int32.toNatClampNeg a0) then (dz_l (σ.2.2.1 8 (Int32.toNatClampNeg a0)) fun x3 => if ¬ (a0 < 0 ∨ 116 ≤ Int32.toNatClampNeg a0) then (dz_l (σ.2.2.1 9 (Int32.toNatClampNeg a0)) fun x5 => if x5 = (1 : Int32) then ((lfX1_laysBases K K).1 a0 x1 x3 2 σ) else ((lfX1_laysBases K K).2.2.2.2.1 a0 x1 x3 x1 σ)) else none) else none : Option (Int32 × pM)) = some res := hf
  have ih := wlX1_laysBases (l := l) (e := e) (below := below) (h := h) (ad := ad) (cA := cA) hci hA hK K res a0 hx hb hr hlocks hml hown hts K
  refine lv_bipush (v := 9) hx hb dX1_laysBases_0 (by decide) ?_
  refine lv_iload_n hx hb dX1_laysBases_2 rfl (lv_at hl 1 rfl) ?_
  refine lv_imul hx hb dX1_laysBases_3 ?_
  refine lv_topi (fun x1 e_x1 => ?_)
  have hf := dz_ls e_x1 hf
  refine lv_istore_n (lv' := [(2, .int x1), (0, .ref h), (1, .int a0)]) hx hb dX1_laysBases_4 rfl hl (by decide) rfl (fun ls hl => ?_)
  refine lv_aload_n hx hb dX1_laysBases_5 rfl (lv_at hl 1 rfl) ?_
  refine va_get (C := RX1) (T := TX1) (N := 35) (fs := mwF ad σ) (v := .ref (ad 8)) hx hb hts in_X1 hown hK hP 0 rfl hci 8 (by decide) (hts _ q1679) (fun _ hq => hq) rfl dX1_laysBases_6 ?_
  refine lv_iload_n hx hb dX1_laysBases_9 rfl (lv_at hl 2 rfl) ?_
  obtain ⟨g2, hf⟩ := dz_go hf
  refine va_iald hx hb hK hP 6 0 rfl rfl g2 dX1_laysBases_10 ?_
  refine lv_topi (fun x3 e_x3 => ?_)
  have hf := dz_ls e_x3 hf
  refine lv_istore_n (lv' := [(3, .int x3), (2, .int x1), (0, .ref h), (1, .int a0)]) hx hb dX1_laysBases_11 rfl hl (by decide) rfl (fun ls hl => ?_)
  refine lv_aload_n hx hb dX1_laysBases_12 rfl (lv_at hl 2 rfl) ?_
  refine va_get (C := RX1) (T := TX1) (N := 35) (fs := mwF ad σ) (v := .ref (ad 9)) hx hb hts in_X1 hown hK hP 0 rfl hci 9 (by decide) (hts _ q1680) (fun _ hq => hq) rfl dX1_laysBases_13 ?_
  refine lv_iload_n hx hb dX1_laysBases_16 rfl (lv_at hl 3 rfl) ?_
  obtain ⟨g4, hf⟩ := dz_go hf
  refine va_iald hx hb hK hP 7 0 rfl rfl g4 dX1_laysBases_17 ?_
  refine lv_topi (fun x5 e_x5 => ?_)
  have hf := dz_ls e_x5 hf
  refine lv_iconst (v := 1) hx hb dX1_laysBases_18 (by decide) ?_
  refine lv_icmp_ne (tgt := 137) hx hb dX1_laysBases_19 (by decide) (fun c19 => ?_) (fun c19 => ?_)
  · have hf := dz_f c19 hf
    refine lv_iload_n hx hb dX1_laysBases_137 rfl (lv_at hl 1 rfl) ?_
    refine lv_istore (lv' := [(4, .int x1), (3, .int x3), (2, .int x1), (0, .ref h), (1, .int a0)]) hx hb dX1_laysBases_138 hl (by decide) rfl (fun ls hl => ?_)
    exact ih.2.2.2.2.1 a0 x1 x3 x1 σ H locs hP hD hS ls (lv_sub hl [3, 4, 2, 1, 0] rfl) hf
  · have hf := dz_t c19 hf
    refine lv_iconst (v := 2) hx hb dX1_laysBases_22 (by decide) ?_
    refine lv_istore (lv' := [(4, .int 2), (3, .int x3), (2, .int x1), (0, .ref h), (1, .int a0)]) hx hb dX1_laysBases_23 hl (by decide) rfl (fun ls hl => ?_)
    exact ih.1 a0 x1 x3 2 σ H locs hP hD hS ls (lv_sub hl [3, 4, 2, 1, 0] rfl) hf

noncomputable def lfX1_hasPair (K : Nat) : Nat → (Option Int32) := Nat.rec (motive := fun _ => (Option Int32)) (none) (fun _ G => (some 1))
noncomputable def fnX1_hasPair (K : Nat) (a0 : Int32) : Option Int32 := if a0 = (3 : Int32) then ((lfX1_hasPair K K) ) else (if a0 = (4 : Int32) then ((lfX1_hasPair K K) ) else (some 0))
set_option maxHeartbeats 4000000 in
set_option maxRecDepth 100000 in
theorem wlX1_hasPair {p : Program} {l : Launch} {e : Env} {s : State} {m : MethodId} {below : List Frame} {meth : Method} {c : Code}  (K : Nat) (res : Int32) (a0 : Int32) (hx : p.tables.exec = Jvm.exec) (hb : c.code = cX1_hasPair) (hr : meth.sig.returnType = some .boolean) (hlocks : meth.locks = false) (hml : c.maxLocals = 1) (hown : s.vm.findClass RX1 = some m.cls) (hts : ∀ w ∈ lw_all, w.before ([.int a0] : List Value).toArray s = true) : ∀ k : Nat, (∀  (H : Heap) (locs : List Loc), va_S (fun _ => False) s.heap H locs → ∀ (ls : Array Slot), lv_has ls 1 [] → (lfX1_hasPair K k)  = some res → W p l e (headSpec (ws_ yX1_hasPair cX1_hasPair 1 (some .boolean)) ({ frames := 0, cells := 0, slots := 0, locals := 0 })).room s m ([.int a0] : List Value).toArray below meth c H locs 0 0 (MQ below (dz_Qi res) ([.int a0] : List Value).toArray s 0 0 (fun _ => False)) (F0 m 10 ls [])) := by
  intro k
  induction k with
  | zero =>
    exact fun _ _ _ _ _ hf => (by cases hf)
  | succ k ih =>
    · intro  H locs hS ls hl hf
      have hf : (some 1 : Option Int32) = some res := hf
      refine lv_iconst (v := 1) hx hb dX1_hasPair_10 (by decide) ?_
      refine lv_goto (tgt := 15) hx hb dX1_hasPair_11 (by decide) ?_
      exact W.zret (v := 1) hx hb hr rfl (fun t ht hW => ⟨⟨1, (), rfl, Option.some.inj hf, trivial⟩, hS.F ht⟩) hS.2.2 dX1_hasPair_15
set_option maxHeartbeats 4000000 in
set_option maxRecDepth 100000 in
theorem mtX1_hasPair (l : Launch) (a0 : Int32) (K : Nat) (res : Int32) (hf : fnX1_hasPair K a0 = some res) : Met l yX1_hasPair (ws_ yX1_hasPair cX1_hasPair 1 (some .boolean)) ({ frames := 0, cells := 0, slots := 0, locals := 0 }) (dz_P [.int a0]) (dz_Qi res) 0 0 (fun _ => False) := by
  refine Met.ofW (cc := cX1_hasPair) (maxL := 1) (ret := some .boolean) (by decide +kernel) rfl ?_
  intro p e s m args below meth c s₁ B hml hv
  obtain ⟨rfl, -⟩ := hv
  have hx := B.exec
  have hb := B.bytes
  have hr := B.returns
  have hts := atoms_spec (ws := ws_ yX1_hasPair cX1_hasPair 1 (some .boolean)) B.pre
  have hts : ∀ w ∈ lw_all, w.before _ s = true := fun w h => hts w (List.mem_cons_of_mem _ h)
  have hown : s.vm.findClass RX1 = some m.cls := findClass_of_methodNamed B.named
  have hlocks := B.notSynchronized
  have hS : va_S (fun _ => False) s.heap s.heap [] := va_S.rf
  generalize hHe : s.heap = H at hS ⊢
  have hS : va_S (fun _ => False) s.heap H [] := by rw [hHe]; exact hS
  generalize ([] : List Loc) = locs at hS ⊢
  have hl := lv_entry ([.int a0]) (n := 1) (Nat.le_of_ble_eq_true rfl)
  rw [lg_entry_eq]
  generalize (lg_sl ([.int a0]) ++ List.replicate (1 - (lg_sl ([.int a0])).length) Slot.unset).toArray = ls at hl ⊢
  have hl : lv_has ls 1 [(0, .int a0)] := hl
  have hf : (if a0 = (3 : Int32) then ((lfX1_hasPair K K) ) else (if a0 = (4 : Int32) then ((lfX1_hasPair K K) ) else (some 0)) : Option Int32) = some res := hf
  have ih := wlX1_hasPair (l := l) (e := e) (below := below) K res a0 hx hb hr hlocks hml hown hts K
  refine lv_iload_n hx hb dX1_hasPair_0 rfl (lv_at hl 0 rfl) ?_
  refine lv_iconst (v := 3) hx hb dX1_hasPair_1 (by decide) ?_
  refine lv_icmp_eq (tgt := 10) hx hb dX1_hasPair_2 (by decide) (fun c2 => ?_) (fun c2 => ?_)
  · have hf := dz_t c2 hf
    exact ih  H locs hS ls (lv_sub hl [] rfl) hf
  · have hf := dz_f c2 hf
    refine lv_iload_n hx hb dX1_hasPair_5 rfl (lv_at hl 0 rfl) ?_
    refine lv_iconst (v := 4) hx hb dX1_hasPair_6 (by decide) ?_
    refine lv_icmp_ne (tgt := 14) hx hb dX1_hasPair_7 (by decide) (fun c7 => ?_) (fun c7 => ?_)
    · have hf := dz_f c7 hf
      refine lv_iconst (v := 0) hx hb dX1_hasPair_14 (by decide) ?_
      exact W.zret (v := 0) hx hb hr rfl (fun t ht hW => ⟨⟨0, (), rfl, Option.some.inj hf, trivial⟩, hS.F ht⟩) hS.2.2 dX1_hasPair_15
    · have hf := dz_t c7 hf
      exact ih  H locs hS ls (lv_sub hl [] rfl) hf

